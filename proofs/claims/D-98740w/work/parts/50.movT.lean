/-! moves: the twin, by months -/
theorem nhas : ∀ m, m < 256 → ∀ x, x < 8 → ((((nI m >>> (nI x &&& 31)) &&& nI 1) = nI 1) ↔ m.testBit x = true) := by decide +kernel
theorem nhasL : ∀ m, m < 256 → ∀ x, x < 8 → (lg_cmp (((nI m).toInt64 >>> ((nI x).toInt64 &&& 63)) &&& (1 : Int64)) (1 : Int64) = 0 ↔ m.testBit x = true) := by decide +kernel
theorem nor1 : ∀ m, m < 256 → ∀ x, x < 8 → (nI m ||| (nI 1 <<< (nI x &&& 31))) = nI (m ||| 2 ^ x) := by decide +kernel
theorem nor0 : ∀ m, m < 256 → (nI m ||| nI 0) = nI m := by decide +kernel
def pmk (C : zC) (X : zX) (t : Nat) : Nat → Nat
  | 0 => 0
  | k + 1 => if who C X k = 0 ∨ xO X t = k + 1 then pmk C X t k ||| 2 ^ k else pmk C X t k
theorem pmk_lt {C : zC} {X : zX} {t : Nat} : ∀ k, k ≤ 8 → pmk C X t k < 256
  | 0, _ => by rw [pmk]; decide
  | k + 1, h => by
    rw [pmk]
    split
    · exact Nat.or_lt_two_pow (n := 8) (pmk_lt k (by omega)) (Nat.pow_lt_pow_right (by decide) (by omega))
    · exact pmk_lt k (by omega)
theorem pmk_t {C : zC} {X : zX} {t u : Nat} : ∀ k, (pmk C X t k).testBit u = true ↔ u < k ∧ (who C X u = 0 ∨ xO X t = u + 1)
  | 0 => by rw [pmk, Nat.zero_testBit]; simp
  | k + 1 => by
    rw [pmk]
    split
    · rename_i c
      rw [mtb_or, Bool.or_eq_true, pmk_t k, decide_eq_true_eq]
      constructor
      · rintro (h | h)
        · exact ⟨by omega, h.2⟩
        · subst h; exact ⟨by omega, c⟩
      · rintro ⟨h1, h2⟩
        by_cases e : k = u
        · exact Or.inr e
        · exact Or.inl ⟨by omega, h2⟩
    · rename_i c
      rw [pmk_t k]
      constructor
      · rintro ⟨h1, h2⟩
        exact ⟨by omega, h2⟩
      · rintro ⟨h1, h2⟩
        refine ⟨?_, h2⟩
        by_cases e : k = u
        · subst e; exact absurd h2 c
        · omega
theorem who_t {C : zC} {X : zX} {mb k t : Nat} (hX : wfX C X mb) (ht : t < kT C) : who C X k = t + 1 ↔ xO X t = k + 1 := by
  constructor
  · intro h
    exact (who_s h).2
  · intro h
    cases e : who C X k with
    | zero => exact absurd h (who_0 e ht)
    | succ v =>
      obtain ⟨v1, v2⟩ := who_s e
      rw [hX.2.2.2.2.2 v t v1 ht (v2.trans h.symm) (by omega)]
def SV (th x _ : Nat) : Prop := x = th + 5 ∨ x = th + 6 ∨ x = th + 10
def tV (th : Nat) (ν : zM) (C : zC) (X : zX) (t N : Nat) : Prop := tM th ν C X ∧ zI ν th 25 = nI (pmk C X t (xS X)) ∧ zI ν th 26 = nI N ∧ ∀ k, k ≤ N → zI ν (th + 9) k = nI (sn C X k)
def tMo (th : Nat) (ν : zM) (C : zC) (X : zX) (t N m : Nat) : Prop := ∀ n, m ≤ n → n ≤ N → ∀ w, rg X w → zJ ν (th + 10) (9 * n + w) = lI (DV C X t N (N - n) w)
theorem lI_0 : lI 0 = (0 : Int64) := rfl
theorem nI_8 {w : Nat} (hw : w < 9) : nI w = nI 8 ↔ w = 8 := nI_eq (by omega) (by decide)
section MT
variable {th : Nat} {μ : zM} {C : zC} {X : zX} {mb t N : Nat}
theorem tV.off {μ' : zM} (h : tV th μ C X t N) (ho : zOff (SV th) μ μ') : tV th μ' C X t N :=
  ⟨h.1.off ho (fun k => by unfold SV; omega), (ho.I (by unfold SV; omega)).trans h.2.1, (ho.I (by unfold SV; omega)).trans h.2.2.1, fun k hk => (ho.I (by unfold SV; omega)).trans (h.2.2.2 k hk)⟩
theorem S56.v {μ' : zM} (ho : zOff (S56 th) μ μ') : zOff (SV th) μ μ' := ho.mono (fun x k q => by unfold S56 at q; unfold SV; omega)
theorem tMo.off {m : Nat} {μ' : zM} (h : tMo th μ C X t N m) (ho : zOff (S56 th) μ μ') : tMo th μ' C X t N m := fun n h1 h2 w hw => (ho.J (by unfold S56; omega)).trans (h n h1 h2 w hw)
theorem t_isMay (hM : tM th μ C X) (hX : wfX C X mb) (hm : mb ≤ 80000) {n : Nat} (hn : n < 1000) {Q : Int32 → zM → Prop} (hq : Q (if n % 12 = fM X then nI 1 else nI 0) μ) : pX4_isMay th (nI n) μ Q := by
  have h3 := hX.2.2.1
  refine ⟨v3 (by decide), ?_⟩
  rw [nI_clamp (by decide), hM.M, nI_add, pk_rem (by omega) (by decide) (by decide)]
  by_cases c : n % 12 = fM X
  · rw [if_pos c] at hq
    rw [if_pos (by rw [show (xM X + n) % 12 = 4 by unfold fM at c; omega])]
    exact hq
  · rw [if_neg c] at hq
    rw [if_neg (fun q => c (by have := (nI_eq (by omega) (by decide)).mp q; unfold fM; omega))]
    exact hq
theorem t_gainJ (hM : tM th μ C X) (hC : wfC C) (hX : wfX C X mb) (hm : mb ≤ 80000) (ht : t < 6) {n w : Nat} (hn : n ≤ 600) (hw : w < 9) (h9 : zI μ (th + 9) n = nI (sn C X n)) {Q : Int64 → zM → Prop} (hq : ∀ μ', zOff (S56 th) μ μ' → Q (lI (gnI C X t n w)) μ') : pX4_gainIn th (nI t) (nI n) (nI w) μ Q := by
  have h3 := hX.2.2.1
  have hs := sn_le (C := C) hX n
  unfold gnI at hq
  refine ⟨v3 (by decide), ?_⟩
  by_cases c : w = 8
  · rw [if_pos ((nI_8 hw).mpr c)]
    have := hq μ zOff.rf
    rw [if_pos c] at this
    exact this
  · rw [if_neg (fun q => c ((nI_8 hw).mp q))]
    have vn : vp_in (nI n) 602 := vp_in_nI (by omega) (by decide)
    refine ⟨vn, ?_⟩
    rw [nI_clamp (show n < 2 ^ 31 by omega), h9, nI_clamp (show 42 < 2 ^ 31 by decide), hM.M, nI_add]
    refine t_worthOf hM hC (fun t ht => hX.O ht) ht (by omega) hs (by omega) (fun μ1 o1 => ⟨vn, ?_⟩)
    have hM1 := hM.off o1 (fun k => by unfold S56; omega)
    rw [(o1.I (show ¬ S56 th (th + 9) n by unfold S56; omega)).trans h9]
    refine t_paysOf hM1.1 hC (by omega) hs (by omega) (fun μ2 o2 => ?_)
    have := hq μ2 (o1.tr o2)
    rw [if_neg c] at this
    rw [lI_of, lI_of, lI_sub]
    exact this
theorem t_isIn8 {m x : Nat} (hm : m < 256) (hx : x < 8) {Q : Int32 → zM → Prop} (hq : Q (if m.testBit x = true then nI 1 else nI 0) μ) : pX4_isIn th (nI m).toInt64 (nI x) μ Q := by
  unfold pX4_isIn
  by_cases c : m.testBit x = true
  · rw [if_pos c] at hq
    rw [if_pos ((nhasL m hm x hx).mpr c)]
    exact hq
  · rw [if_neg c] at hq
    rw [if_neg (fun q => c ((nhasL m hm x hx).mp q))]
    exact hq
theorem t_mayGo (hV : tV th μ C X t N) (hX : wfX C X mb) (hm : mb ≤ 80000) (hN : N ≤ 600) {n f w : Nat} (hn : n ≤ N) (hf : f < 9) (hw : w < 9) {Q : Int32 → zM → Prop} (h1 : goP C X t n f w → Q (nI 1) μ) (h0 : ¬ goP C X t n f w → Q (nI 0) μ) : pX4_mayGo th (nI n) (nI f) (nI w) μ Q := by
  have hS := hX.1
  have hs := sn_le (C := C) hX n
  unfold pX4_mayGo
  by_cases c1 : f = w
  · subst c1
    rw [if_pos rfl]
    exact h1 (Or.inl rfl)
  rw [if_neg (fun q => c1 ((nI_eq (by omega) (by omega)).mp q))]
  have no : ¬ (opn C X t w ∧ n % 12 = fM X ∧ sn C X n < 144 * (w + 1)) → Q (nI 0) μ := fun q => h0 (fun g => by rcases g with g | g; exact c1 g; exact q g)
  by_cases c2 : w = 8
  · rw [if_pos ((nI_8 hw).mpr c2)]
    exact no (fun g => by have := g.1.1; omega)
  rw [if_neg (fun q => c2 ((nI_8 hw).mp q))]
  refine t_isMay hV.1 hX hm (by omega) ?_
  by_cases c3 : n % 12 = fM X
  · rw [if_pos c3]
    refine if01 ?_
    rw [hV.2.1]
    refine t_isIn8 (pmk_lt _ hS) (by omega) ?_
    by_cases c4 : (pmk C X t (xS X)).testBit w = true
    · rw [if_pos c4]
      refine if01 ⟨vp_in_nI (by omega) (by decide), ?_⟩
      rw [nI_clamp (by omega), hV.2.2.2 n hn]
      refine t_isBuried (by omega) (by omega) ?_
      by_cases c5 : 144 * (w + 1) ≤ sn C X n
      · rw [if_pos c5]
        exact if01 (no (fun g => by have := g.2.2; omega))
      · rw [if_neg c5]
        exact if00 (h1 (Or.inr ⟨(pmk_t _).mp c4, c3, by omega⟩))
    · rw [if_neg c4]
      exact if00 (no (fun g => c4 ((pmk_t _).mpr g.1)))
  · rw [if_neg c3]
    exact if00 (no (fun g => c3 g.2.1))
theorem t_goesBy (hV : tV th μ C X t N) (hC : wfC C) (hX : wfX C X mb) (hm : mb ≤ 80000) (ht : t < 6) (hN : N ≤ 60) {n f w : Nat} (hn : n < N) (hf : f < 9) (hw : w < 9) (hJ : zJ μ (th + 10) (9 * (n + 1) + w) = lI (DV C X t N (N - (n + 1)) w)) {Q : Int64 → zM → Prop} (hq : ∀ μ', zOff (S56 th) μ μ' → Q (lI (vl C X t N n f w)) μ') : pX4_goesBy th (nI t) (nI n) (nI f) (nI w) μ Q := by
  unfold vl at hq
  refine t_gainJ hV.1 hC hX hm ht (by omega) hw (hV.2.2.2 n (by omega)) (fun μ1 o1 => ?_)
  have hV1 := hV.off (S56.v o1)
  have e : ∀ c : Int, (if f = w then 0 else (kV C : Int)) = c → pX4_goesBy_25 th (nI n) (nI w) Q (lI c) (lI (gnI C X t n w)) μ1 := by
    intro c hc
    unfold pX4_goesBy_25
    rw [nI_add, pk_mul, nI_add]
    refine ⟨vp_in_nI (by omega) (by decide), ?_⟩
    rw [nI_clamp (by omega), o1.J (show ¬ S56 th (th + 10) (9 * (n + 1) + w) by unfold S56; omega), hJ, lI_sub, lI_add, ← hc]
    exact hq μ1 o1
  by_cases c : f = w
  · rw [if_pos (by rw [c])]
    exact e 0 (by rw [if_pos c])
  · rw [if_neg (fun q => c ((nI_eq (by omega) (by omega)).mp q))]
    refine ⟨v3 (by decide), ?_⟩
    have hVV := hC.2.2.2.1
    rw [nI_clamp (by decide), hV1.1.V, lI_of, nI_toInt (by omega)]
    exact e _ (by rw [if_neg c])
theorem t_laysMost (hM : tM th μ C X) (hC : wfC C) (hX : wfX C X mb) (hm : mb ≤ 80000) (ht : t < kT C) {y : Nat} (hy : y ≤ 5) {Q : zM → Prop} (hq : ∀ μ', zOff (ST th) μ μ' → tV th μ' C X t (12 * y) → tMo th μ' C X t (12 * y) 0 → Q μ') : pX4_laysMost th (nI t) (nI y) μ Q := by
  have hT := hC.1
  have hS := hX.1
  have ht6 : t < 6 := by omega
  obtain ⟨N, hN⟩ : ∃ N, N = 12 * y := ⟨_, rfl⟩
  have hN60 : N ≤ 60 := by omega
  unfold pX4_laysMost zpI
  rw [pk_mul, ← hN]
  rw [← hN] at hq
  have e26 : zI (zsI μ th 26 (nI N)) th 26 = nI N := by rw [zI_sI, if_pos ⟨rfl, rfl⟩]
  dsimp only
  rw [e26]
  have oa : zOff (ST th) μ (zsI μ th 26 (nI N)) := zOff.sI (by unfold ST; omega)
  refine t_laysAll (hM.offT oa) hC hX (by omega) (by omega) (fun μ2 o2 e9 => ?_)
  have o2' : zOff (ST th) μ μ2 := oa.tr (o2.mono (fun x k q => by unfold S9 at q; unfold ST; omega))
  have e26' : zI μ2 th 26 = nI N := (o2.I (by unfold S9; omega)).trans e26
  -- the months
  have months : ∀ m ν, m ≤ N → zOff (ST th) μ ν → tV th ν C X t N → tMo th ν C X t N m → pX4_laysMost_110 th (nI t) Q (m + 1) (eO m) ν := by
    intro m
    induction m with
    | zero =>
      intro ν _ o hV hMo
      unfold pX4_laysMost_110
      rw [if_pos (by decide)]
      exact hq ν o hV hMo
    | succ n ih =>
      intro ν hn o hV hMo
      unfold pX4_laysMost_110
      rw [eO_s, if_neg (nI_pos (by omega))]
      refine zupS (W := fun g i ν' => pX4_laysMost_117 th (nI t) (fun v0 ν => pX4_laysMost_110 th (nI t) Q (n + 1) v0 ν) Q g (nI n) (nI i) ν') (fun i ν' => zOff (SV th) ν ν' ∧ tMo th ν' C X t N (n + 1) ∧ ∀ w, w < i → rg X w → zJ ν' (th + 10) (9 * n + w) = lI (DV C X t N (N - n) w)) 9 (fun g ν1 hν => ?_) (fun g w ν1 hw hν ih2 => ?_) 0 ν (Nat.zero_le _) ⟨zOff.rf, hMo, fun w hw => absurd hw (Nat.not_lt_zero _)⟩
      · obtain ⟨p1, p2, p3⟩ := hν
        unfold pX4_laysMost_117
        rw [if_pos (by decide), show nI n - nI 1 = eO n from rfl]
        refine ih ν1 (by omega) (o.tr (p1.mono (fun x k q => by unfold SV at q; unfold ST; omega))) (hV.off p1) (fun n' q1 q2 w hw => ?_)
        by_cases e : n' = n
        · subst e
          exact p3 w (hw.lt hX) hw
        · exact p2 n' (by omega) q2 w hw
      · obtain ⟨p1, p2, p3⟩ := hν
        unfold pX4_laysMost_117
        rw [if_neg (nI_nlt (by omega) (by decide))]
        -- one place
        have fin : ∀ g' acc ν2, zOff (S56 th) ν1 ν2 → (rg X w → acc = lI (DV C X t N (N - n) w)) → pX4_laysMost_132 th (nI t) (fun v0 ν => pX4_laysMost_110 th (nI t) Q (n + 1) v0 ν) (fun v0 v1 ν => pX4_laysMost_117 th (nI t) (fun v0 ν => pX4_laysMost_110 th (nI t) Q (n + 1) v0 ν) Q g v0 v1 ν) Q (g' + 1) (nI n) (nI w) acc (nI 9) ν2 := by
          intro g' acc ν2 o3 hacc
          unfold pX4_laysMost_132
          rw [if_pos (by decide), pk_mul, nI_add]
          refine ⟨vp_in_nI (by omega) (by decide), ?_⟩
          unfold zpJ
          rw [nI_clamp (by omega), nI_add]
          refine ih2 _ ⟨(p1.tr (S56.v o3)).tr (zOff.sJ (Or.inr (Or.inr rfl))), fun n' q1 q2 u hu => ?_, fun u q1 q2 => ?_⟩
          · have hu9 := hu.lt hX
            rw [zJ_sJ, if_neg (by omega), o3.J (by unfold S56; omega)]
            exact p2 n' q1 q2 u hu
          · rw [zJ_sJ]
            by_cases e : u = w
            · subst e
              rw [if_pos ⟨rfl, rfl⟩]
              exact hacc q2
            · rw [if_neg (by omega), o3.J (by unfold S56; omega)]
              exact p3 u (by omega) q2
        by_cases cr : rg X w
        · refine zupS (σ := Int64 × zM) (W := fun g' u s => pX4_laysMost_132 th (nI t) (fun v0 ν => pX4_laysMost_110 th (nI t) Q (n + 1) v0 ν) (fun v0 v1 ν => pX4_laysMost_117 th (nI t) (fun v0 ν => pX4_laysMost_110 th (nI t) Q (n + 1) v0 ν) Q g v0 v1 ν) Q g' (nI n) (nI w) s.1 (nI u) s.2) (fun u s => zOff (S56 th) ν1 s.2 ∧ s.1 = lI (mxF (goB C X t n w) (vl C X t N n w) u (-1000000000000000))) 9 (fun g' s hs => ?_) (fun g' u s hu hs ih3 => ?_) 0 ((-1000000000000000 : Int64), ν1) (Nat.zero_le _) ⟨zOff.rf, rfl⟩
          · obtain ⟨acc, ν2⟩ := s
            exact fin g' acc ν2 hs.1 (fun _ => by rw [DV_vl (by omega)]; exact hs.2)
          · obtain ⟨acc, ν2⟩ := s
            obtain ⟨o3, hacc⟩ := hs
            dsimp only at o3 hacc
            subst hacc
            have hV2 := (hV.off p1).off (S56.v o3)
            have hMo2 := p2.off o3
            have step : pX4_laysMost_158 th (nI t) (fun v0 ν => pX4_laysMost_110 th (nI t) Q (n + 1) v0 ν) (fun v0 v1 ν => pX4_laysMost_117 th (nI t) (fun v0 ν => pX4_laysMost_110 th (nI t) Q (n + 1) v0 ν) Q g v0 v1 ν) (fun v0 v1 v2 v3 ν => pX4_laysMost_132 th (nI t) (fun v0 ν => pX4_laysMost_110 th (nI t) Q (n + 1) v0 ν) (fun v0 v1 ν => pX4_laysMost_117 th (nI t) (fun v0 ν => pX4_laysMost_110 th (nI t) Q (n + 1) v0 ν) Q g v0 v1 ν) Q g' v0 v1 v2 v3 ν) Q (nI n) (nI w) (lI (mxF (goB C X t n w) (vl C X t N n w) u (-1000000000000000))) (nI u) ν2 := by
              unfold pX4_laysMost_158
              rw [nI_add]
              refine t_mayGo hV2 hX hm (by omega) (by omega) (by omega) (by omega) (fun hg => ?_) (fun hg => ?_)
              · rw [if_neg nI1_ne0]
                have hru := hg.rg cr
                refine t_goesBy hV2 hC hX hm ht6 hN60 (by omega) (by omega) (by omega) (hMo2 (n + 1) (Nat.le_refl _) (by omega) u hru) (fun ν3 o4 => ?_)
                have vb := vl_bd (N := N) (n := n) (f := w) hC hX ht6 (by omega) hru
                obtain ⟨m1, m2, m3⟩ := mxF_spec (goB C X t n w) (vl C X t N n w) (-1000000000000000) u
                have mb2 : mxF (goB C X t n w) (vl C X t N n w) u (-1000000000000000) ≤ 3000000000 := by
                  rcases m3 with m3 | ⟨i, i1, i2, i3⟩
                  · omega
                  · rw [i3]
                    exact (vl_bd (N := N) (n := n) (f := w) hC hX ht6 (by omega) ((goB_t.mp i2).rg cr)).2
                by_cases c : vl C X t N n w u ≤ mxF (goB C X t n w) (vl C X t N n w) u (-1000000000000000)
                · rw [if_pos ((lI_le (by omega) (by omega) (by omega) (by omega)).mpr c)]
                  refine ih3 (_, ν3) ⟨o3.tr o4, ?_⟩
                  rw [mxF, if_neg (fun q => by have := q.2; omega)]
                  rfl
                · rw [if_neg (fun q => c ((lI_le (by omega) (by omega) (by omega) (by omega)).mp q))]
                  refine ih3 (_, ν3) ⟨o3.tr o4, ?_⟩
                  rw [mxF, if_pos ⟨goB_t.mpr hg, by omega⟩]
                  rfl
              · rw [if_pos nI_0]
                refine ih3 (_, ν2) ⟨o3, ?_⟩
                rw [mxF, if_neg (fun q => hg (goB_t.mp q.1))]
                rfl
            unfold pX4_laysMost_132
            dsimp only
            rw [if_neg (nI_nlt (by omega) (by decide))]
            by_cases c8 : w = 8
            · rw [if_pos ((nI_8 hw).mpr c8)]
              exact step
            · rw [if_neg (fun q => c8 ((nI_8 hw).mp q))]
              refine ⟨v3 (by decide), ?_⟩
              rw [nI_clamp (by decide), hV2.1.S, if_neg (nI_ge (by unfold rg at cr; omega) (by omega))]
              exact step
        · refine zup (W := fun g' u => pX4_laysMost_132 th (nI t) (fun v0 ν => pX4_laysMost_110 th (nI t) Q (n + 1) v0 ν) (fun v0 v1 ν => pX4_laysMost_117 th (nI t) (fun v0 ν => pX4_laysMost_110 th (nI t) Q (n + 1) v0 ν) Q g v0 v1 ν) Q g' (nI n) (nI w) (-1000000000000000 : Int64) (nI u) ν1) 9 (fun g' => fin g' _ ν1 zOff.rf (fun q => absurd q cr)) (fun g' u hu hn2 => ?_) 0 (Nat.zero_le _)
          unfold pX4_laysMost_132
          rw [if_neg (nI_nlt (by omega) (by decide)), if_neg (fun q => cr (Or.inr ((nI_8 hw).mp q)))]
          refine ⟨v3 (by decide), ?_⟩
          rw [nI_clamp (by decide), (hV.off p1).1.S, if_pos (nI_le (by unfold rg at cr; omega) (by omega)), nI_add]
          exact hn2
  -- the row behind the last month
  have rows : ∀ ν, zOff (ST th) μ ν → tV th ν C X t N → ∃ k, pX4_laysMost_76 th (nI t) Q k (nI 0) ν := by
    intro ν o hV
    refine zupS (W := fun g i ν' => pX4_laysMost_76 th (nI t) Q g (nI i) ν') (fun i ν' => zOff (SV th) ν ν' ∧ ∀ w, w < i → zJ ν' (th + 10) (9 * N + w) = 0) 9 (fun g ν1 hν => ?_) (fun g w ν1 hw hν ih2 => ?_) 0 ν (Nat.zero_le _) ⟨zOff.rf, fun w hw => absurd hw (Nat.not_lt_zero _)⟩
    · obtain ⟨p1, p2⟩ := hν
      have hV1 := hV.off p1
      unfold pX4_laysMost_76
      rw [if_pos (by decide), hV1.2.2.1, show nI N - nI 1 = eO N from rfl]
      refine ⟨_, months N ν1 (Nat.le_refl _) (o.tr (p1.mono (fun x k q => by unfold SV at q; unfold ST; omega))) hV1 (fun n q1 q2 w hw => ?_)⟩
      obtain rfl : n = N := by omega
      rw [Nat.sub_self, DV, lI_0]
      exact p2 w (hw.lt hX)
    · obtain ⟨p1, p2⟩ := hν
      have hV1 := hV.off p1
      unfold pX4_laysMost_76
      rw [if_neg (nI_nlt (by omega) (by decide)), hV1.2.2.1, pk_mul, nI_add]
      refine ⟨vp_in_nI (by omega) (by decide), ?_⟩
      unfold zpJ
      rw [nI_clamp (by omega), nI_add]
      refine ih2 _ ⟨p1.tr (zOff.sJ (Or.inr (Or.inr rfl))), fun u hu => ?_⟩
      rw [zJ_sJ]
      by_cases e : u = w
      · subst e
        rw [if_pos ⟨rfl, rfl⟩]
      · rw [if_neg (by omega)]
        exact p2 u (by omega)
  -- where one may live
  have o3 : zOff (ST th) μ2 (zsI μ2 th 25 (nI 0)) := zOff.sI (by unfold ST; omega)
  refine zupS (W := fun g i ν => pX4_laysMost_23 th (nI t) Q g (nI i) ν) (fun i ν => zOff (fun x k => x = th ∧ k = 25) μ2 ν ∧ zI ν th 25 = nI (pmk C X t i)) (xS X) (fun g ν hν => ?_) (fun g i ν hi hν ih => ?_) 0 _ (Nat.zero_le _) ⟨zOff.sI ⟨rfl, rfl⟩, by rw [zI_sI, if_pos ⟨rfl, rfl⟩, pmk]⟩
  · obtain ⟨p1, p2⟩ := hν
    have o4 : zOff (ST th) μ ν := o2'.tr (p1.mono (fun x k q => by unfold ST; omega))
    have hMν := hM.offT o4
    unfold pX4_laysMost_23
    refine ⟨v3 (by decide), ?_⟩
    rw [nI_clamp (by decide), hMν.S, if_pos (nI_le (Nat.le_refl _) (by omega))]
    exact rows ν o4 ⟨hMν, p2, (p1.I (by omega)).trans e26', fun k hk => (p1.I (by omega)).trans (e9 k hk)⟩
  · obtain ⟨p1, p2⟩ := hν
    have o4 : zOff (ST th) μ ν := o2'.tr (p1.mono (fun x k q => by unfold ST; omega))
    have hMν := hM.offT o4
    have hwl := who_le (C := C) (X := X) (k := i)
    have hpl := pmk_lt (C := C) (X := X) (t := t) i (by omega)
    unfold pX4_laysMost_23
    refine ⟨v3 (by decide), ?_⟩
    rw [nI_clamp (by decide), hMν.S, if_neg (nI_ge hi (by omega)), p2]
    have yes : who C X i = 0 ∨ xO X t = i + 1 → pX4_laysMost_57 th (nI t) (fun v0 ν => pX4_laysMost_23 th (nI t) Q g v0 ν) Q (nI i) (nI (pmk C X t i)) ν := by
      intro hy2
      unfold pX4_laysMost_57 pX4_laysMost_64 zpI
      rw [nor1 _ hpl i (by omega), nI_add]
      refine ih _ ⟨p1.tr (zOff.sI ⟨rfl, rfl⟩), ?_⟩
      rw [zI_sI, if_pos ⟨rfl, rfl⟩, pmk, if_pos hy2]
    refine t_livesOn hMν hC.1 (fun t ht => hX.O ht) (by omega) ?_
    by_cases c1 : who C X i = 0
    · rw [if_pos (by rw [c1]; exact eO_0)]
      exact yes (Or.inl c1)
    · rw [if_neg (fun q => c1 ((eO_m1 (by omega)).mp q))]
      refine t_livesOn hMν hC.1 (fun t ht => hX.O ht) (by omega) ?_
      by_cases c2 : who C X i = t + 1
      · rw [if_pos ((eO_nI (by omega) (by omega)).mpr c2)]
        exact yes (Or.inr ((who_t hX ht).mp c2))
      · rw [if_neg (fun q => c2 ((eO_nI (by omega) (by omega)).mp q))]
        unfold pX4_laysMost_64 zpI
        rw [nor0 _ hpl, nI_add]
        refine ih _ ⟨p1.tr (zOff.sI ⟨rfl, rfl⟩), ?_⟩
        rw [zI_sI, if_pos ⟨rfl, rfl⟩, pmk, if_neg]
        rintro (q | q)
        · exact c1 q
        · exact c2 ((who_t hX ht).mpr q)
theorem t_goesIn2 (hV : tV th μ C X t N) (hMo : tMo th μ C X t N 0) (hC : wfC C) (hX : wfX C X mb) (hm : mb ≤ 80000) (ht : t < 6) (hN : N ≤ 60) {n f : Nat} (hn : n < N) (hf : rg X f) {Q : Int32 → zM → Prop} (hq : ∀ μ', zOff (S56 th) μ μ' → Q (nI (pick C X t N n f)) μ') : pX4_goesIn_2 th (nI t) (nI n) (nI f) μ Q := by
  have hS := hX.1
  have hf9 := hf.lt hX
  have hJf := hMo n (Nat.zero_le _) (by omega) f hf
  have db := DV_bd (N := N) hC hX ht (N - n) f (by omega) hf
  have rest : ∀ ν, zOff (S56 th) μ ν → ¬ okP C X t N n f 8 → ∃ k, pX4_goesIn_2_41 th (nI t) (nI n) (nI f) Q k (nI 0) ν := by
    intro ν o h8
    have key : ∀ d u ν, u + d = xS X → zOff (S56 th) μ ν → (∀ i, i < u + 1 → ¬ okP C X t N n f (ord i)) → pX4_goesIn_2_41 th (nI t) (nI n) (nI f) Q (d + 1) (nI u) ν := by
      intro d
      induction d with
      | zero =>
        intro u ν hu o hno
        exfalso
        obtain ⟨j, j1, j2, j3, j4⟩ := pick_ex (N := N) hC hX ht (by omega) hn hf
        have hr := j2.1.rg hf
        refine hno j ?_ j2
        unfold rg ord at hr
        split at hr <;> omega
      | succ d ih =>
        intro u ν hu o hno
        have hVν := hV.off (S56.v o)
        have hMoν := hMo.off o
        have eo : ord (u + 1) = u := by unfold ord; rw [if_neg (by omega)]; omega
        have next : ¬ okP C X t N n f u → ∀ i, i < u + 1 + 1 → ¬ okP C X t N n f (ord i) := by
          intro q i hi
          by_cases e : i = u + 1
          · subst e
            rw [eo]
            exact q
          · exact hno i (by omega)
        unfold pX4_goesIn_2_41
        refine ⟨v3 (by decide), ?_⟩
        rw [nI_clamp (by decide), hVν.1.S, if_neg (nI_ge (by omega) (by omega)), nI_add]
        refine t_mayGo hVν hX hm (by omega) (by omega) hf9 (by omega) (fun hg => ?_) (fun hg => ?_)
        · rw [if_neg nI1_ne0]
          have hru := hg.rg hf
          refine t_goesBy hVν hC hX hm ht hN hn hf9 (by omega) (hMoν (n + 1) (by omega) (by omega) u hru) (fun ν3 o4 => ?_)
          have vb := vl_bd (N := N) (n := n) (f := f) hC hX ht (by omega) hru
          rw [pk_mul, nI_add]
          refine ⟨vp_in_nI (by omega) (by decide), ?_⟩
          rw [nI_clamp (by omega), (hMoν.off o4) n (Nat.zero_le _) (by omega) f hf]
          by_cases c : vl C X t N n f u = DV C X t N (N - n) f
          · rw [if_pos ((lI_eq (by omega) (by omega) (by omega) (by omega)).mpr c)]
            have e : pick C X t N n f = ord (u + 1) := pick_eq (by rw [eo]; exact ⟨hg, c⟩) hno
            rw [eo] at e
            rw [← e]
            exact hq ν3 (o.tr o4)
          · rw [if_neg (fun q => c ((lI_eq (by omega) (by omega) (by omega) (by omega)).mp q))]
            exact ih (u + 1) ν3 (by omega) (o.tr o4) (next (fun q => c q.2))
        · rw [if_pos nI_0]
          exact ih (u + 1) ν (by omega) o (next (fun q => hg q.1))
    refine ⟨_, key (xS X) 0 ν (by omega) o (fun i hi => ?_)⟩
    obtain rfl : i = 0 := by omega
    exact h8
  refine t_mayGo hV hX hm (by omega) (by omega) hf9 (by decide) (fun hg => ?_) (fun hg => ?_)
  · rw [if_neg nI1_ne0]
    have hru := hg.rg hf
    refine t_goesBy hV hC hX hm ht hN hn hf9 (by decide) (hMo (n + 1) (by omega) (by omega) 8 hru) (fun ν3 o4 => ?_)
    have vb := vl_bd (N := N) (n := n) (f := f) hC hX ht (by omega) hru
    rw [pk_mul, nI_add]
    refine ⟨vp_in_nI (by omega) (by decide), ?_⟩
    rw [nI_clamp (by omega), (hMo.off o4) n (Nat.zero_le _) (by omega) f hf]
    by_cases c : vl C X t N n f 8 = DV C X t N (N - n) f
    · rw [if_pos ((lI_eq (by omega) (by omega) (by omega) (by omega)).mpr c)]
      have e : pick C X t N n f = ord 0 := pick_eq ⟨hg, c⟩ (fun i hi => absurd hi (Nat.not_lt_zero _))
      rw [show ord 0 = 8 from rfl] at e
      rw [← e]
      exact hq ν3 o4
    · rw [if_neg (fun q => c ((lI_eq (by omega) (by omega) (by omega) (by omega)).mp q))]
      exact rest ν3 o4 (fun q => c q.2)
  · rw [if_pos nI_0]
    exact rest μ zOff.rf (fun q => hg q.1)
theorem t_whereJ (hM : tM th μ C X) (hX : wfX C X mb) (ht : t < 6) {Q : Int32 → zM → Prop} (hq : Q (nI (here X t)) μ) : pX4_whereNow th (nI t) μ Q := by
  have ho := hX.O ht
  have v35 : vp_in (nI 35 + nI t) 3594 := zin2 (by omega) (by decide)
  unfold here at hq
  refine ⟨v35, ?_⟩
  rw [zcl2 (by omega), hM.O ht]
  by_cases c : xO X t = 0
  · rw [if_pos c] at hq
    rw [if_pos ((eO_m1 (by omega)).mpr c)]
    exact hq
  · rw [if_neg c] at hq
    rw [if_neg (fun q => c ((eO_m1 (by omega)).mp q)), eO_pos c]
    exact ⟨v35, hq⟩
end MT
section MU
variable {th : Nat} {μ : zM} {C : zC} {X1 X : zX} {dn : Nat} {dX : Nat → zX} {im : zIm} {tr : zTy} {tn : Nat} {tp : Nat → Nat} {f fp : Int32} {mb : Nat}
noncomputable def vSta (C : zC) (X : zX) (x y : Int32) : Int64 := if 0 ≤ x.toInt ∧ x.toInt < kT C then (if 1 ≤ y.toInt ∧ y.toInt ≤ 5 then lI (DV C X x.toInt.toNat (12 * y.toInt.toNat) (12 * y.toInt.toNat) (here X x.toInt.toNat)) else (-90000000003 : Int64)) else (-90000000002 : Int64)
noncomputable def vMMa (C : zC) (X : zX) (x y : Int32) : Int32 := if 0 ≤ x.toInt ∧ x.toInt < kT C then (if 1 ≤ y.toInt ∧ y.toInt ≤ 5 then nI (cnP C X x.toInt.toNat (12 * y.toInt.toNat) (12 * y.toInt.toNat)) else (-3 : Int32)) else (-2 : Int32)
noncomputable def plc (w : Nat) : Int32 := if w = 8 then (-1 : Int32) else nI w
noncomputable def vGoT (C : zC) (X : zX) (x y k : Int32) : Int32 := if 0 ≤ x.toInt ∧ x.toInt < kT C then (if 1 ≤ y.toInt ∧ y.toInt ≤ 5 then (if 0 ≤ k then (if k.toInt < y.toInt then plc (pth C X x.toInt.toNat (12 * y.toInt.toNat) (mm X k.toInt.toNat + 1)) else (-1 : Int32)) else (-3 : Int32)) else (-3 : Int32)) else (-2 : Int32)
theorem t_stays (hw : zWf mb C X1 X dn dX im tr tn tp) (hm : mb ≤ 80000) (h : tR th μ C X1 X dn dX im tr tn tp f fp) {x y : Int32} {Q : Int64 → zM → Prop} (hq : ∀ μ', zOff (ST th) μ μ' → Q (vSta C X x y) μ') : pX4_stays th x y μ Q := by
  unfold vSta at hq
  have hT := hw.c.1
  refine t0 (fun μ0 o0 => ?_)
  have hM := h.M.offT o0
  refine u_isTenant hM hw.c (fun t t1 t2 t3 => if01 ?_) (fun q => if00 ?_)
  · rw [Int32.toInt_toInt64] at t3
    replace t2 := (i64_of_lN (by omega)).mp t2
    rw [if_pos (by omega)] at hq
    refine rin32 (a := 1) (b := 5) rfl rfl (fun q1 q2 => if01 ?_) (fun q => if00 ?_)
    · rw [if_pos ⟨q1, q2⟩] at hq
      obtain ⟨n, n1, rfl, n3⟩ := i32N (show 0 ≤ y.toInt by omega)
      rw [n3, Int.toNat_natCast, i32_k t3] at hq
      subst t2
      refine t_laysMost hM hw.c hw.x hm t1 (by omega) (fun μ1 o1 hV hMo => ?_)
      have hr := (here_rch (C := C) hw.x (show t < 6 by omega)).rg
      have hr9 := hr.lt hw.x
      refine t_whereJ hV.1 hw.x (by omega) ⟨vp_in_nI (by omega) (by decide), ?_⟩
      have e := hMo 0 (Nat.le_refl _) (Nat.zero_le _) _ hr
      rw [Nat.mul_zero, Nat.zero_add, Nat.sub_zero] at e
      rw [nI_clamp (by omega), e]
      exact hq μ1 (o0.tr o1)
    · rw [if_neg q] at hq
      exact hq μ0 o0
  · rw [Int32.toInt_toInt64] at q
    rw [if_neg q] at hq
    exact hq μ0 o0
theorem t_movesMany (hw : zWf mb C X1 X dn dX im tr tn tp) (hm : mb ≤ 80000) (h : tR th μ C X1 X dn dX im tr tn tp f fp) {x y : Int32} {Q : Int32 → zM → Prop} (hq : ∀ μ', zOff (ST th) μ μ' → Q (vMMa C X x y) μ') : pX4_movesMany th x y μ Q := by
  unfold vMMa at hq
  have hT := hw.c.1
  refine t0 (fun μ0 o0 => ?_)
  have hM := h.M.offT o0
  refine u_isTenant hM hw.c (fun t t1 t2 t3 => if01 ?_) (fun q => if00 ?_)
  · rw [Int32.toInt_toInt64] at t3
    replace t2 := (i64_of_lN (by omega)).mp t2
    rw [if_pos (by omega)] at hq
    refine rin32 (a := 1) (b := 5) rfl rfl (fun q1 q2 => if01 ?_) (fun q => if00 ?_)
    · rw [if_pos ⟨q1, q2⟩] at hq
      obtain ⟨n, n1, rfl, n3⟩ := i32N (show 0 ≤ y.toInt by omega)
      rw [n3, Int.toNat_natCast, i32_k t3] at hq
      subst t2
      have ht6 : t < 6 := by omega
      refine t_laysMost hM hw.c hw.x hm t1 (by omega) (fun μ1 o1 hV hMo => ?_)
      refine t_whereJ hV.1 hw.x ht6 ?_
      refine zupS (W := fun g i ν => pX4_movesMany_50 th (nI t) Q g (nI (pth C X t (12 * n) i)) (nI (cnP C X t (12 * n) i)) (nI i) ν) (fun i ν => zOff (S56 th) μ1 ν) (12 * n) (fun g ν o => ?_) (fun g i ν hi o ih => ?_) 0 μ1 (Nat.zero_le _) zOff.rf
      · unfold pX4_movesMany_50
        rw [(hV.off (S56.v o)).2.2.1, if_pos (nI_le (Nat.le_refl _) (by omega))]
        exact hq ν ((o0.tr o1).tr (S56.T o))
      · unfold pX4_movesMany_50
        have hV2 := hV.off (S56.v o)
        have hr := (pth_rch hw.c hw.x ht6 (show 12 * n ≤ 1000 by omega) i (by omega)).rg
        have hr2 := (pth_rch hw.c hw.x ht6 (show 12 * n ≤ 1000 by omega) (i + 1) (by omega)).rg
        rw [hV2.2.2.1, if_neg (nI_ge hi (by omega))]
        refine t_goesIn2 hV2 (hMo.off o) hw.c hw.x hm ht6 (by omega) hi hr (fun ν2 o2 => ?_)
        have e : pick C X t (12 * n) i (pth C X t (12 * n) i) = pth C X t (12 * n) (i + 1) := rfl
        have h9 := hr.lt hw.x
        have h92 := hr2.lt hw.x
        rw [e, nI_add, nI_add, nI_add]
        have ih := ih ν2 (o.tr o2)
        have e2 : cnP C X t (12 * n) (i + 1) = if pth C X t (12 * n) (i + 1) = pth C X t (12 * n) i then cnP C X t (12 * n) i else cnP C X t (12 * n) i + 1 := rfl
        rw [e2] at ih
        by_cases c : pth C X t (12 * n) (i + 1) = pth C X t (12 * n) i
        · rw [if_pos c] at ih
          rw [if_pos (by rw [c])]
          exact ih
        · rw [if_neg c] at ih
          rw [if_neg (fun q => c ((nI_eq (by omega) (by omega)).mp q))]
          exact ih
    · rw [if_neg q] at hq
      exact hq μ0 o0
  · rw [Int32.toInt_toInt64] at q
    rw [if_neg q] at hq
    exact hq μ0 o0
theorem t_goesTo (hw : zWf mb C X1 X dn dX im tr tn tp) (hm : mb ≤ 80000) (h : tR th μ C X1 X dn dX im tr tn tp f fp) {x y kk : Int32} {Q : Int32 → zM → Prop} (hq : ∀ μ', zOff (ST th) μ μ' → Q (vGoT C X x y kk) μ') : pX4_goesTo th x y kk μ Q := by
  unfold vGoT at hq
  have hT := hw.c.1
  have hfl := fM_lt (X := X)
  refine t0 (fun μ0 o0 => ?_)
  have hM := h.M.offT o0
  refine u_isTenant hM hw.c (fun t t1 t2 t3 => if01 ?_) (fun q => if00 ?_)
  · rw [Int32.toInt_toInt64] at t3
    replace t2 := (i64_of_lN (by omega)).mp t2
    rw [if_pos (by omega)] at hq
    refine rin32 (a := 1) (b := 5) rfl rfl (fun q1 q2 => if01 ?_) (fun q => if00 ?_)
    · rw [if_pos ⟨q1, q2⟩] at hq
      obtain ⟨n, n1, rfl, n3⟩ := i32N (show 0 ≤ y.toInt by omega)
      by_cases ck : 0 ≤ kk
      · rw [if_pos ck] at hq ⊢
        obtain ⟨k, k1, rfl⟩ := nI_of (x := kk) (by rw [Int32.not_lt]; exact ck)
        rw [n3, Int.toNat_natCast, i32_k t3, nI_toInt k1, Int.toNat_natCast] at hq
        subst t2
        have ht6 : t < 6 := by omega
        refine t_laysMost hM hw.c hw.x hm t1 (by omega) (fun μ1 o1 hV hMo => ?_)
        refine t_whereJ hV.1 hw.x ht6 ?_
        have key : ∀ d i ν, i + d = 12 * n → (i + 11 - fM X) / 12 ≤ k → zOff (S56 th) μ1 ν → pX4_goesTo_55 th (nI t) Q (d + 1) (nI (pth C X t (12 * n) i)) (nI (k - (i + 11 - fM X) / 12)) (nI i) ν := by
          intro d
          induction d with
          | zero =>
            intro i ν hi hc o
            unfold pX4_goesTo_55
            rw [(hV.off (S56.v o)).2.2.1, if_pos (nI_le (by omega) (by omega))]
            have := hq ν ((o0.tr o1).tr (S56.T o))
            rw [if_neg (by omega)] at this
            exact this
          | succ d ih =>
            intro i ν hi hc o
            unfold pX4_goesTo_55
            have hV2 := hV.off (S56.v o)
            have hr := (pth_rch hw.c hw.x ht6 (show 12 * n ≤ 1000 by omega) i (by omega)).rg
            have hr2 := (pth_rch hw.c hw.x ht6 (show 12 * n ≤ 1000 by omega) (i + 1) (by omega)).rg
            rw [hV2.2.2.1, if_neg (nI_ge (by omega) (by omega))]
            refine t_goesIn2 hV2 (hMo.off o) hw.c hw.x hm ht6 (by omega) (by omega) hr (fun ν2 o2 => ?_)
            have e : pick C X t (12 * n) i (pth C X t (12 * n) i) = pth C X t (12 * n) (i + 1) := rfl
            have h92 := hr2.lt hw.x
            rw [e, nI_add]
            refine t_isMay (hV2.off (S56.v o2)).1 hw.x hm (by omega) ?_
            by_cases c : i % 12 = fM X
            · rw [if_pos c]
              refine if01 ?_
              by_cases c2 : k - (i + 11 - fM X) / 12 = 0
              · rw [c2, if_pos nI_0]
                have hq := hq ν2 ((o0.tr o1).tr (S56.T (o.tr o2)))
                have ei : mm X k = i := by unfold mm; omega
                rw [if_pos (by omega), ei] at hq
                unfold plc at hq
                by_cases c3 : pth C X t (12 * n) (i + 1) = 8
                · rw [if_pos c3] at hq
                  rw [if_pos ((nI_8 h92).mpr c3)]
                  exact hq
                · rw [if_neg c3] at hq
                  rw [if_neg (fun q => c3 ((nI_8 h92).mp q))]
                  exact hq
              · rw [if_neg (nI_nz (by omega) c2), pk_sub (by omega), show k - (i + 11 - fM X) / 12 - 1 = k - (i + 1 + 11 - fM X) / 12 by omega]
                exact ih (i + 1) ν2 (by omega) (by omega) (o.tr o2)
            · rw [if_neg c]
              refine if00 ?_
              rw [show k - (i + 11 - fM X) / 12 = k - (i + 1 + 11 - fM X) / 12 by omega]
              exact ih (i + 1) ν2 (by omega) (by omega) (o.tr o2)
        have := key (12 * n) 0 μ1 (by omega) (by omega) zOff.rf
        rw [show k - (0 + 11 - fM X) / 12 = k by omega] at this
        exact ⟨_, this⟩
      · rw [if_neg ck] at hq ⊢
        exact hq μ0 o0
    · rw [if_neg q] at hq
      exact hq μ0 o0
  · rw [Int32.toInt_toInt64] at q
    rw [if_neg q] at hq
    exact hq μ0 o0
end MU
