/-! moves: the component lays stays and moves -/
section MD
variable {z a : Nat} {μ : zM} {C : zC} {X1 X : zX} {dn : Nat} {dX : Nat → zX} {im : zIm} {tr : zTy} {tn : Nat} {tp : Nat → Nat} {f fp : Int32} {mb t N : Nat}
/-- mays ahead of month n -/
def cm (X : zX) (n : Nat) : Nat := (n + 11 - fM X) / 12
/-- the stays so far, ahead of month n -/
def cSn (z : Nat) (ν : zM) (C : zC) (X : zX) (t N y n : Nat) : Prop := ∀ i, i ≤ y → ∀ w, rch C X t w → (i < cm X n → zJ ν (z + 59) (9 * i + w) = lI (FS C X t N i w)) ∧ (i = cm X n → ∃ v, zJ ν (z + 59) (9 * i + w) = lI v ∧ v + STd C X t N (N - n) w = FS C X t N i w) ∧ (cm X n < i → zJ ν (z + 59) (9 * i + w) = lI 0)
theorem gnI_8 {n : Nat} : gnI C X t n 8 = 0 := if_pos rfl
theorem FS_mm {n w : Nat} (h : n % 12 = fM X) : FS C X t N (cm X n + 1) w = gnI C X t n w + STd C X t N (N - (n + 1)) w := by
  have hf := fM_lt (X := X)
  have e : mm X (cm X n) = n := by unfold mm cm; omega
  show gnI C X t (mm X (cm X n)) w + STd C X t N (N - (mm X (cm X n) + 1)) w = _
  rw [e]
/-- a month's gains are put where they belong -/
theorem cSn_s {ν ν' : zM} {y n : Nat} (hn : n < N) (hN : N = 12 * y) (h : cSn z ν C X t N y n) (hz : ∀ i, i ≤ y → ∀ w, rch C X t w → zJ ν' (z + 59) (9 * i + w) = if i = cm X (n + 1) then zJ ν (z + 59) (9 * i + w) + lI (gnI C X t n w) else zJ ν (z + 59) (9 * i + w)) : cSn z ν' C X t N y (n + 1) := by
  have hf := fM_lt (X := X)
  intro i hi w hw
  obtain ⟨h1, h2, h3⟩ := h i hi w hw
  rw [hz i hi w hw]
  by_cases c : n % 12 = fM X
  · have e : cm X (n + 1) = cm X n + 1 := by unfold cm; omega
    rw [e]
    refine ⟨fun q => ?_, fun q => ?_, fun q => ?_⟩
    · rw [if_neg (by omega)]
      by_cases c2 : i < cm X n
      · exact h1 c2
      · obtain ⟨v, v1, v2⟩ := h2 (by omega)
        rw [STd_n hn, if_pos c] at v2
        rw [v1, ← v2]
        congr 1
        omega
    · rw [if_pos q, h3 (by omega), lI_add]
      refine ⟨_, rfl, ?_⟩
      rw [q, FS_mm c]
      omega
    · rw [if_neg (by omega)]
      exact h3 (by omega)
  · have e : cm X (n + 1) = cm X n := by unfold cm; omega
    rw [e]
    refine ⟨fun q => ?_, fun q => ?_, fun q => ?_⟩
    · rw [if_neg (by omega)]
      exact h1 q
    · rw [if_pos q]
      obtain ⟨v, v1, v2⟩ := h2 q
      rw [STd_n hn, if_neg c] at v2
      rw [v1, lI_add]
      exact ⟨_, rfl, by omega⟩
    · rw [if_neg (by omega)]
      exact h3 q
theorem c_laysStays (hw : zWf mb C X1 X dn dX im tr tn tp) (hm : mb ≤ 80000) (h : cR z a μ C X1 X dn dX im tr tn tp f fp) (ht : t < kT C) {y : Nat} (hy : y ≤ 5) {Q : zM → Prop} (hq : ∀ μ', zOff (SC z a) μ μ' → cOp z μ' C X t y → cSy z μ' C X t (12 * y) y → Q μ') : pX0_laysStays z (nI t) (nI y) μ Q := by
  have hT := hw.c.1
  have hS := hw.x.1
  have h3 := hw.x.2.2.1
  have hfl := fM_lt (X := X)
  have hfar := h.far
  unfold zfar at hfar
  have ht6 : t < 6 := by omega
  obtain ⟨N, hN⟩ : ∃ N, N = 12 * y := ⟨_, rfl⟩
  have hpl := pmk_lt (C := C) (X := X) (t := t) (xS X) hS
  -- the months
  have months : ∀ d n ν, n + d = N → zOff (SC z a) μ ν → cSt ν (z + 11) (xgo C 0 n X) 0 → zI ν z 18 = nI (pmk C X t (xS X)) → (∀ i, i < cm X n → zI ν (z + 61) i = nI (omk C X t (mm X i))) → cSn z ν C X t N y n → pX0_laysStays_106 z (nI t) (nI y) Q (d + 1) (nI (cm X n)) (nI n) ν := by
    intro d
    induction d with
    | zero =>
      intro n ν hn o hs h18 hop hsn
      obtain rfl : n = N := by omega
      unfold pX0_laysStays_106
      rw [pk_mul, ← hN, if_pos (nI_le (Nat.le_refl _) (by omega))]
      have e : cm X n = y := by unfold cm; omega
      rw [e] at hop
      refine hq ν o hop (fun i hi w hww => ?_)
      rw [← hN]
      obtain ⟨g1, g2, g3⟩ := hsn i hi w hww
      rw [e] at g1 g2 g3
      by_cases c : i < y
      · exact g1 c
      · obtain ⟨v, v1, v2⟩ := g2 (by omega)
        rw [Nat.sub_self, STd] at v2
        rw [v1, ← v2]
        congr 1
        omega
    | succ d ih =>
      intro n ν hn o hs h18 hop hsn
      have hR := h.off o
      have eD : xD (xgo C 0 n X) = sn C X n := by rw [xD_go, Nat.zero_add]; rfl
      have eM : xM (xgo C 0 n X) = xM X + n := xM_go C 0 X n
      have eS : xS (xgo C 0 n X) = xS X := xS_go C 0 X n
      -- the places
      have places : ∀ ν1, zOff (SC z a) ν ν1 → (∀ i k, zJ ν1 i k = zJ ν i k) → cSt ν1 (z + 11) (xgo C 0 n X) 0 → zI ν1 z 18 = nI (pmk C X t (xS X)) → (∀ i, i < cm X (n + 1) → zI ν1 (z + 61) i = nI (omk C X t (mm X i))) → ∃ k, pX0_laysStays_159 z (nI t) (nI y) (fun v0 v1 ν => pX0_laysStays_106 z (nI t) (nI y) Q (d + 1) v0 v1 ν) Q k (nI (cm X (n + 1))) (nI n) (nI 0) ν1 := by
        intro ν1 o1 hJ1 hs1 h181 hop1
        have hR1 := hR.off o1
        refine zupS (W := fun g k ν' => pX0_laysStays_159 z (nI t) (nI y) (fun v0 v1 ν => pX0_laysStays_106 z (nI t) (nI y) Q (d + 1) v0 v1 ν) Q g (nI (cm X (n + 1))) (nI n) (nI k) ν') (fun k ν' => zOff (fun x _ => x = a + 5 ∨ x = z + 59) ν1 ν' ∧ ∀ i w, i ≤ y → rch C X t w → zJ ν' (z + 59) (9 * i + w) = if i = cm X (n + 1) ∧ w < k then zJ ν (z + 59) (9 * i + w) + lI (gnI C X t n w) else zJ ν (z + 59) (9 * i + w)) (xS X) (fun g ν2 hν => ?_) (fun g k ν2 hk hν ih2 => ?_) 0 ν1 (Nat.zero_le _) ⟨zOff.rf, fun i w _ _ => by rw [if_neg (by omega)]; exact hJ1 _ _⟩
        · obtain ⟨p1, p2⟩ := hν
          have hR2 := hR1.off (p1.mono (fun x k q => by unfold SC; omega))
          have hs2 := hs1.off p1 (fun k q => by omega) (fun i k q1 q2 q => by omega)
          unfold pX0_laysStays_159
          rw [hR2.N.S, if_pos (nI_le (Nat.le_refl _) (by omega)), nI_add]
          refine c_sinks hR2.I hs2 hw.c (hw.x.go n) (by decide) (by omega) (fun ν3 o3 hI3 hs3 => ?_)
          have oo : zOff (SC z a) ν ν3 := (o1.tr (p1.mono (fun x k q => by unfold SC; omega))).tr (o3.mono (fun x k q => by unfold Ss at q; unfold SC; omega))
          refine ih (n + 1) ν3 (by omega) (o.tr oo) hs3 ?_ (fun i hi => ?_) (cSn_s (by omega) hN hsn (fun i hi w hww => ?_))
          · rw [o3.I (by unfold Ss; omega), p1.I (by omega)]
            exact h181
          · rw [o3.I (by unfold Ss; omega), p1.I (by omega)]
            exact hop1 i hi
          · rw [o3.J (by unfold Ss; omega), p2 i w hi hww]
            by_cases c : i = cm X (n + 1)
            · rw [if_pos c]
              by_cases c2 : w < xS X
              · rw [if_pos ⟨c, c2⟩]
              · rw [if_neg (fun q => c2 q.2)]
                have e8 : w = 8 := by
                  rcases hww with q | q
                  · exact q
                  · exact absurd q.1 c2
                rw [e8, gnI_8, lI_0]
                simp
            · rw [if_neg c, if_neg (fun q => c q.1)]
        · obtain ⟨p1, p2⟩ := hν
          have hR2 := hR1.off (p1.mono (fun x k q => by unfold SC; omega))
          have hs2 := hs1.off p1 (fun k q => by omega) (fun i k q1 q2 q => by omega)
          have h182 : zI ν2 z 18 = nI (pmk C X t (xS X)) := (p1.I (by omega)).trans h181
          have hcy : cm X (n + 1) ≤ y := by unfold cm; omega
          unfold pX0_laysStays_159
          rw [hR2.N.S, if_neg (nI_ge hk (by omega)), h182, pk_mul, nI_add, nI_add]
          refine c_has8 hpl (by omega) ?_
          by_cases c : (pmk C X t (xS X)).testBit k = true
          · rw [if_pos c]
            have hrk : rch C X t k := Or.inr ((pmk_t _).mp c)
            have v54 : vp_in (nI (9 * cm X (n + 1) + k)) 54 := vp_in_nI (by omega) (by decide)
            refine if01 ⟨v54, ?_⟩
            refine c_gainJ hw hm hR2 ht6 hs2 (by omega) (by omega) (fun ν3 o3 => ⟨v54, ?_⟩)
            unfold zpJ
            rw [nI_clamp (by omega), p2 (cm X (n + 1)) k hcy hrk, if_neg (by omega)]
            refine ih2 _ ⟨(p1.tr (o3.mono (fun x k q => Or.inl q))).tr (zOff.sJ (Or.inr rfl)), fun i w hi hww => ?_⟩
            have hw9 := (hww.rg).lt hw.x
            rw [zJ_sJ]
            by_cases c2 : i = cm X (n + 1) ∧ w = k
            · obtain ⟨rfl, rfl⟩ := c2
              rw [if_pos ⟨rfl, rfl⟩, if_pos ⟨rfl, by omega⟩]
            · rw [if_neg (by omega), o3.J (by unfold Sw; omega), p2 i w hi hww]
              by_cases c3 : i = cm X (n + 1) ∧ w < k
              · rw [if_pos c3, if_pos ⟨c3.1, by omega⟩]
              · rw [if_neg c3, if_neg (by omega)]
          · rw [if_neg c]
            refine if00 (ih2 _ ⟨p1, fun i w hi hww => ?_⟩)
            rw [p2 i w hi hww]
            by_cases c3 : i = cm X (n + 1) ∧ w < k
            · rw [if_pos c3, if_pos ⟨c3.1, by omega⟩]
            · rw [if_neg c3, if_neg]
              rintro ⟨q1, q2⟩
              have ek : w = k := by omega
              subst ek
              rcases hww with q | q
              · omega
              · exact c ((pmk_t _).mpr q)
      unfold pX0_laysStays_106
      rw [pk_mul, ← hN, if_neg (nI_ge (by omega) (by omega)), hs.M, eM, pk_rem (by omega) (by decide) (by decide)]
      by_cases c : n % 12 = fM X
      · have e : cm X (n + 1) = cm X n + 1 := by unfold cm; omega
        have ecy : cm X n < y := by unfold cm; omega
        have emm : mm X (cm X n) = n := by unfold mm cm; omega
        rw [if_pos (by rw [show (xM X + n) % 12 = 4 by unfold fM at c; omega])]
        refine c_buried hs (hw.x.go n) ?_
        rw [eS, eD, h18]
        refine ⟨vp_in_nI (by omega) (by decide), ?_⟩
        unfold zpI
        rw [nI_clamp (by omega), nshr _ hpl _ (by unfold bur; omega), nI_add, ← e]
        refine places _ (zOff.sI (by unfold SC; omega)) (fun _ _ => rfl) (hs.off (S := fun x _ => x = z + 61) (zOff.sI rfl) (fun k q => by omega) (fun i k q1 q2 q => by omega)) (by rw [zI_sI, if_neg (by omega)]; exact h18) (fun i hi => ?_)
        rw [zI_sI]
        by_cases c2 : i = cm X n
        · subst c2
          rw [if_pos ⟨rfl, rfl⟩, emm]
          rfl
        · rw [if_neg (by omega)]
          exact hop i (by omega)
      · have e : cm X (n + 1) = cm X n := by unfold cm; omega
        rw [if_neg (fun q => c (by have := (nI_eq (by omega) (by decide)).mp q; unfold fM; omega))]
        have := places ν zOff.rf (fun _ _ => rfl) hs h18 (fun i hi => hop i (by omega))
        rwa [e] at this
  -- nothing stays yet
  have zero : ∀ ν, zOff (SC z a) μ ν → zI ν z 18 = nI (pmk C X t (xS X)) → ∃ k, pX0_laysStays_67 z (nI t) (nI y) Q k (nI 0) ν := by
    intro ν o h18
    refine zupS (W := fun g i ν' => pX0_laysStays_67 z (nI t) (nI y) Q g (nI i) ν') (fun i ν' => zOff (fun x _ => x = z + 59) ν ν' ∧ ∀ k, k < i → zJ ν' (z + 59) k = 0) 54 (fun g ν1 hν => ?_) (fun g i ν1 hi hν ih => ?_) 0 ν (Nat.zero_le _) ⟨zOff.rf, fun k hk => absurd hk (Nat.not_lt_zero _)⟩
    · obtain ⟨p1, p2⟩ := hν
      have o1 : zOff (SC z a) μ ν1 := o.tr (p1.mono (fun x k q => by unfold SC; omega))
      unfold pX0_laysStays_67
      rw [if_pos (nI_le (Nat.le_refl _) (by decide))]
      have hR1 := h.off o1
      refine c_be hR1.I hR1.N hR1.I.tho (by omega) (fun ν2 o2 hs2 _ => ?_)
      have e0 : cm X 0 = 0 := by unfold cm; omega
      have eJ : ∀ k, k < 54 → zJ ν2 (z + 59) k = lI 0 := fun k hk => (o2.J (by unfold So; omega)).trans (p2 k hk)
      have := months N 0 ν2 (by omega) (o1.tr (o2.mono (fun x k q => by unfold So at q; unfold SC; omega))) hs2 ((o2.I (by unfold So; omega)).trans ((p1.I (by omega)).trans h18)) (fun i hi => by omega) (fun i hi w hww => by
        have hw9 := (hww.rg).lt hw.x
        rw [e0]
        refine ⟨fun q => absurd q (Nat.not_lt_zero _), fun q => ⟨0, eJ _ (by omega), ?_⟩, fun q => eJ _ (by omega)⟩
        subst q
        have e : FS C X t N 0 w = STd C X t N N w := rfl
        rw [Nat.sub_zero, e]
        omega)
      rw [e0] at this
      exact ⟨_, this⟩
    · obtain ⟨p1, p2⟩ := hν
      unfold pX0_laysStays_67
      rw [if_neg (nI_ge hi (by decide))]
      refine ⟨vp_in_nI hi (by decide), ?_⟩
      unfold zpJ
      rw [nI_clamp (by omega), nI_add]
      refine ih _ ⟨p1.tr (zOff.sJ rfl), fun k hk => ?_⟩
      rw [zJ_sJ]
      by_cases e : k = i
      · rw [if_pos ⟨rfl, e⟩]
      · rw [if_neg (fun q => e q.2)]
        exact p2 k (by omega)
  -- where one may live
  unfold pX0_laysStays zpI
  refine zupS (W := fun g i ν => pX0_laysStays_7 z (nI t) (nI y) Q g (nI i) ν) (fun i ν => zOff (SC z a) μ ν ∧ zI ν z 18 = nI (pmk C X t i)) (xS X) (fun g ν hν => ?_) (fun g i ν hi hν ih => ?_) 0 _ (Nat.zero_le _) ⟨zOff.sI (by unfold SC; omega), by rw [zI_sI, if_pos ⟨rfl, rfl⟩, pmk]⟩
  · obtain ⟨p1, p2⟩ := hν
    unfold pX0_laysStays_7
    rw [(h.off p1).N.S, if_pos (nI_le (Nat.le_refl _) (by omega))]
    exact zero ν p1 p2
  · obtain ⟨p1, p2⟩ := hν
    have hR := h.off p1
    have hwl := who_le (C := C) (X := X) (k := i)
    have hpi := pmk_lt (C := C) (X := X) (t := t) i (by omega)
    have ho := hw.x.O ht6
    unfold pX0_laysStays_7
    rw [hR.N.S, if_neg (nI_ge hi (by omega)), p2]
    have yes : who C X i = 0 ∨ xO X t = i + 1 → pX0_laysStays_48 z (nI t) (nI y) (fun v0 ν => pX0_laysStays_7 z (nI t) (nI y) Q g v0 ν) Q (nI i) (nI (pmk C X t i)) ν := by
      intro hy2
      unfold pX0_laysStays_48 pX0_laysStays_55 zpI
      rw [nor1 _ hpi i (by omega), nI_add]
      refine ih _ ⟨p1.tr (zOff.sI (by unfold SC; omega)), ?_⟩
      rw [zI_sI, if_pos ⟨rfl, rfl⟩, pmk, if_pos hy2]
    refine c_who hR.I hR.N hw.c hw.x (by omega) ?_
    by_cases c1 : who C X i = 0
    · rw [if_pos (by rw [c1]; exact eO_0)]
      exact yes (Or.inl c1)
    · rw [if_neg (fun q => c1 ((eO_m1 (by omega)).mp q))]
      refine ⟨vp_in_nI ht6 (by decide), ?_⟩
      rw [nI_clamp (by omega), hR.N.O ht6]
      by_cases c2 : xO X t = i + 1
      · rw [if_pos ((eO_nI (by omega) (by omega)).mpr c2)]
        exact yes (Or.inr c2)
      · rw [if_neg (fun q => c2 ((eO_nI (by omega) (by omega)).mp q))]
        unfold pX0_laysStays_55 zpI
        rw [nor0 _ hpi, nI_add]
        refine ih _ ⟨p1.tr (zOff.sI (by unfold SC; omega)), ?_⟩
        rw [zI_sI, if_pos ⟨rfl, rfl⟩, pmk, if_neg]
        rintro (q | q)
        · exact c1 q
        · exact c2 q
theorem c_laysMoves (hw : zWf mb C X1 X dn dX im tr tn tp) (hm : mb ≤ 80000) (h : cR z a μ C X1 X dn dX im tr tn tp f fp) (ht : t < kT C) {y : Nat} (hy1 : 1 ≤ y) (hy : y ≤ 5) {Q : Int64 → zM → Prop} (hq : ∀ μ', zOff (SC z a) μ μ' → zI μ' z 19 = nI (cnP C X t (12 * y) (12 * y)) → (∀ j, j < y → zI μ' (z + 62) j = nI (pth C X t (12 * y) (mm X j + 1))) → Q (lI (DV C X t (12 * y) (12 * y) (here X t))) μ') : pX0_laysMoves z (nI t) (nI y) μ Q := by
  have hT := hw.c.1
  have hS := hw.x.1
  have hfl := fM_lt (X := X)
  have hfar := h.far
  unfold zfar at hfar
  have ht6 : t < 6 := by omega
  have hN : 12 * y ≤ 1000 := by omega
  have hrh := here_rch (C := C) hw.x ht6
  have hh9 := hrh.rg.lt hw.x
  refine c_laysStays hw hm h ht hy (fun μ1 o1 hop hsy => ?_)
  have keepO : ∀ ν, zOff (fun x k => x = a + 5 ∨ x = z + 60 ∨ x = z + 62 ∨ (x = z ∧ k = 19)) μ1 ν → cOp z ν C X t y ∧ cSy z ν C X t (12 * y) y := fun ν o => ⟨fun i hi => (o.I (by omega)).trans (hop i hi), fun i hi w hww => (o.J (by omega)).trans (hsy i hi w hww)⟩
  have toC : ∀ ν, zOff (fun x k => x = a + 5 ∨ x = z + 60 ∨ x = z + 62 ∨ (x = z ∧ k = 19)) μ1 ν → zOff (SC z a) μ ν := fun ν o => o1.tr (o.mono (fun x k q => by unfold SC; omega))
  -- the way forth
  have walk : ∀ d i ν, i + d = y → zOff (fun x k => x = a + 5 ∨ x = z + 60 ∨ x = z + 62 ∨ (x = z ∧ k = 19)) μ1 ν → cMs z ν C X t (12 * y) y 0 → zI ν z 19 = nI (cnP C X t (12 * y) (me X (12 * y) i)) → (∀ j, j < i → zI ν (z + 62) j = nI (pth C X t (12 * y) (mm X j + 1))) → pX0_laysMoves_132 z (nI y) Q (d + 1) (nI (pth C X t (12 * y) (me X (12 * y) i))) (lI (DV C X t (12 * y) (12 * y) (here X t))) (nI i) ν := by
    intro d
    induction d with
    | zero =>
      intro i ν hi o hMs h19 h62
      obtain rfl : i = y := by omega
      have e : me X (12 * i) i = 12 * i := by unfold me mm; rw [if_neg (by omega)]
      rw [e] at h19 ⊢
      unfold pX0_laysMoves_132
      rw [if_pos (nI_le (Nat.le_refl _) (by omega))]
      exact hq ν (toC ν o) h19 h62
    | succ d ih =>
      intro i ν hi o hMs h19 h62
      have hmi : mm X i < 12 * y := by unfold mm; omega
      have e : me X (12 * y) i = mm X i := by unfold me; rw [if_pos hmi]
      rw [e] at h19 ⊢
      have hrp := pth_rch (N := 12 * y) hw.c hw.x ht6 hN (mm X i) (by omega)
      have hp9 := hrp.rg.lt hw.x
      obtain ⟨k1, k2⟩ := keepO ν o
      have hR := h.off (toC ν o)
      unfold pX0_laysMoves_132
      rw [if_neg (nI_ge (by omega) (by omega))]
      obtain ⟨J, J1, J2, J3, J4⟩ := pick_ex (N := 12 * y) hw.c hw.x ht6 hN hmi hrp.rg
      have o9 : ∀ j, j < 9 → ord j < 9 := fun j hj => by unfold ord; split <;> omega
      have := zup (W := fun g j => pX0_laysMoves_142 z (nI y) (fun v0 v1 v2 ν => pX0_laysMoves_132 z (nI y) Q (d + 1) v0 v1 v2 ν) Q g (nI (pth C X t (12 * y) (mm X i))) (lI (DV C X t (12 * y) (12 * y) (here X t))) (nI i) (nI (ord j)) ν) J (fun g => ?_) (fun g j hj hn => ?_) 0 (Nat.zero_le _)
      · exact this
      · unfold pX0_laysMoves_142
        refine c_isFirst hw hR.I ht6 hy (by omega) hp9 (o9 J J1) hrp k1 k2 (fun j q1 q2 => hMs j (Nat.zero_le _) q2) (fun _ => ?_) (fun q => absurd J2 q)
        rw [if_neg nI1_ne0]
        have ep : pth C X t (12 * y) (mm X i + 1) = ord J := J4
        obtain ⟨s1, s2⟩ := pth_s (N := 12 * y) hw.c hw.x ht6 hN hmi
        have put : ∀ b, cnP C X t (12 * y) (mm X i) + b = cnP C X t (12 * y) (mm X i + 1) → pX0_laysMoves_190 z (nI y) (fun v0 v1 v2 ν => pX0_laysMoves_132 z (nI y) Q (d + 1) v0 v1 v2 ν) Q (lI (DV C X t (12 * y) (12 * y) (here X t))) (nI i) (nI (ord J)) (nI b) (zI ν z 19) ν := by
          intro b hb
          unfold pX0_laysMoves_190 zpI
          refine ⟨vp_in_nI (by omega) (by decide), ?_⟩
          rw [h19, nI_add, nI_add, hb, nI_clamp (by omega)]
          have og : zOff (fun x k => x = a + 5 ∨ x = z + 60 ∨ x = z + 62 ∨ (x = z ∧ k = 19)) ν (zsI (zsI ν z 19 (nI (cnP C X t (12 * y) (mm X i + 1)))) (z + 62) i (nI (ord J))) := zOff.tr (b := zsI ν z 19 (nI (cnP C X t (12 * y) (mm X i + 1)))) (zOff.sI (by omega)) (zOff.sI (by omega))
          have := ih (i + 1) _ (by omega) (o.tr og) (fun j q1 q2 w hww => hMs j q1 q2 w hww) (by rw [zI_sI, if_neg (by omega), zI_sI, if_pos ⟨rfl, rfl⟩, s2]) (fun j hj => ?_)
          · rw [s1, ep] at this
            exact this
          · rw [zI_sI]
            by_cases c : j = i
            · subst c
              rw [if_pos ⟨rfl, rfl⟩, ep]
            · rw [if_neg (by omega), zI_sI, if_neg (by omega)]
              exact h62 j (by omega)
        have ec : cnP C X t (12 * y) (mm X i + 1) = if pth C X t (12 * y) (mm X i + 1) = pth C X t (12 * y) (mm X i) then cnP C X t (12 * y) (mm X i) else cnP C X t (12 * y) (mm X i) + 1 := rfl
        rw [ep] at ec
        by_cases c : ord J = pth C X t (12 * y) (mm X i)
        · rw [if_pos c] at ec
          rw [if_pos (by rw [c])]
          exact put 0 (by omega)
        · rw [if_neg c] at ec
          rw [if_neg (fun q => c ((nI_eq (by have := o9 J J1; omega) (by omega)).mp q))]
          exact put 1 (by omega)
      · unfold pX0_laysMoves_142
        refine c_isFirst hw hR.I ht6 hy (by omega) hp9 (o9 j (by omega)) hrp k1 k2 (fun j q1 q2 => hMs j (Nat.zero_le _) q2) (fun q => absurd q (J3 j hj)) (fun _ => ?_)
        rw [if_pos nI_0]
        by_cases c : j = 0
        · subst c
          rw [if_pos (by rfl)]
          exact hn
        · rw [if_neg (fun q => by have := (nI_8 (o9 j (by omega))).mp q; unfold ord at this; rw [if_neg c] at this; omega), nI_add]
          have e1 : ord j + 1 = ord (j + 1) := by unfold ord; rw [if_neg c, if_neg (by omega)]; omega
          rw [e1]
          exact hn
  -- the end
  have last : ∀ ν, zOff (fun x k => x = a + 5 ∨ x = z + 60 ∨ x = z + 62 ∨ (x = z ∧ k = 19)) μ1 ν → cMs z ν C X t (12 * y) y 0 → pX0_laysMoves_108 z (nI y) Q (nI (here X t)) ν := by
    intro ν o hMs
    obtain ⟨k1, k2⟩ := keepO ν o
    have v54 : vp_in (nI (here X t)) 54 := vp_in_nI (by omega) (by decide)
    refine ⟨v54, v54, ?_⟩
    have e1 := k2 0 (Nat.zero_le _) _ hrh
    have e2 := hMs 0 (Nat.le_refl _) (Nat.zero_le _) _ hrh
    rw [Nat.mul_zero, Nat.zero_add] at e1 e2
    rw [nI_clamp (by omega), e1, e2, lI_add, FS_0 hw.c hw.x ht6 hN hrh.rg]
    dsimp only [znm]
    unfold zpI
    obtain ⟨s1, s2⟩ := pth_0 (N := 12 * y) hw.c hw.x ht6 hN
    have := walk y 0 (zsI ν z 19 (nI 0)) (by omega) (o.tr (zOff.sI (by omega))) (fun j q1 q2 w hww => hMs j q1 q2 w hww) (by rw [zI_sI, if_pos ⟨rfl, rfl⟩, s2]) (fun j hj => absurd hj (Nat.not_lt_zero _))
    rw [s1] at this
    exact ⟨_, this⟩
  -- the mays, backwards
  have back : ∀ m ν, m ≤ y → zOff (fun x k => x = a + 5 ∨ x = z + 60 ∨ x = z + 62 ∨ (x = z ∧ k = 19)) μ1 ν → cMs z ν C X t (12 * y) y m → pX0_laysMoves_36 z (nI t) (nI y) Q (m + 1) (eO m) ν := by
    intro m
    induction m with
    | zero =>
      intro ν _ o hMs
      have hR := h.off (toC ν o)
      have ho := hw.x.O ht6
      unfold pX0_laysMoves_36
      rw [if_pos (by decide)]
      have v6 : vp_in (nI t) 6 := vp_in_nI ht6 (by decide)
      refine ⟨v6, ?_⟩
      rw [nI_clamp (by omega), hR.N.O ht6]
      have l := last ν o hMs
      unfold here at l
      by_cases c : xO X t = 0
      · rw [if_pos c] at l
        rw [if_pos ((eO_m1 (by omega)).mpr c)]
        exact l
      · rw [if_neg c] at l
        rw [if_neg (fun q => c ((eO_m1 (by omega)).mp q)), eO_pos c]
        exact ⟨v6, l⟩
    | succ i ih =>
      intro ν hi o hMs
      unfold pX0_laysMoves_36
      rw [eO_s, if_neg (nI_pos (by omega))]
      refine zupS (W := fun g w ν' => pX0_laysMoves_43 z (nI t) (nI y) (fun v0 ν => pX0_laysMoves_36 z (nI t) (nI y) Q (i + 1) v0 ν) Q g (nI i) (nI w) ν') (fun w ν' => zOff (fun x k => x = a + 5 ∨ x = z + 60) ν ν' ∧ cMs z ν' C X t (12 * y) y (i + 1) ∧ ∀ u, u < w → rch C X t u → zJ ν' (z + 60) (9 * i + u) = lI (Mst C X t (12 * y) i u)) 9 (fun g ν1 hν => ?_) (fun g w ν1 hww hν ih2 => ?_) 0 ν (Nat.zero_le _) ⟨zOff.rf, hMs, fun u hu => absurd hu (Nat.not_lt_zero _)⟩
      · obtain ⟨p1, p2, p3⟩ := hν
        unfold pX0_laysMoves_43
        rw [if_pos (nI_le (Nat.le_refl _) (by decide)), show nI i - nI 1 = eO i from rfl]
        refine ih ν1 (by omega) (o.tr (p1.mono (fun x k q => by omega))) (fun j q1 q2 w hww => ?_)
        by_cases c : j = i
        · subst c
          exact p3 w (hww.rg.lt hw.x) hww
        · exact p2 j (by omega) q2 w hww
      · obtain ⟨p1, p2, p3⟩ := hν
        have o2 := o.tr (p1.mono (T := fun x k => x = a + 5 ∨ x = z + 60 ∨ x = z + 62 ∨ (x = z ∧ k = 19)) (fun x k q => by omega))
        obtain ⟨k1, k2⟩ := keepO ν1 o2
        have hR := h.off (toC ν1 o2)
        unfold pX0_laysMoves_43
        rw [if_neg (nI_ge hww (by decide))]
        refine c_mostFrom hw hR.I ht6 hy (by omega) hww k1 k2 p2 (fun v hv => ?_)
        rw [pk_mul, nI_add]
        refine ⟨vp_in_nI (by omega) (by decide), ?_⟩
        unfold zpJ
        rw [nI_clamp (by omega), nI_add]
        refine ih2 _ ⟨p1.tr (zOff.sJ (Or.inr rfl)), fun j q1 q2 u hu => ?_, fun u q1 q2 => ?_⟩
        · have hu9 := hu.rg.lt hw.x
          rw [zJ_sJ, if_neg (by omega)]
          exact p2 j q1 q2 u hu
        · rw [zJ_sJ]
          by_cases c : u = w
          · subst c
            rw [if_pos ⟨rfl, rfl⟩]
            exact hv q2
          · rw [if_neg (by omega)]
            exact p3 u (by omega) q2
  -- nothing behind the last may
  refine zupS (W := fun g w ν => pX0_laysMoves_8 z (nI t) (nI y) Q g (nI w) ν) (fun w ν => zOff (fun x _ => x = z + 60) μ1 ν ∧ ∀ u, u < w → zJ ν (z + 60) (9 * y + u) = 0) 9 (fun g ν hν => ?_) (fun g w ν hww hν ih => ?_) 0 μ1 (Nat.zero_le _) ⟨zOff.rf, fun u hu => absurd hu (Nat.not_lt_zero _)⟩
  · obtain ⟨p1, p2⟩ := hν
    unfold pX0_laysMoves_8
    rw [if_pos (nI_le (Nat.le_refl _) (by decide)), show nI y - nI 1 = eO y from rfl]
    refine ⟨_, back y ν (Nat.le_refl _) (p1.mono (fun x k q => by omega)) (fun i q1 q2 w hww => ?_)⟩
    obtain rfl : i = y := by omega
    unfold Mst MsD mm
    rw [if_neg (by omega), lI_0]
    exact p2 w (hww.rg.lt hw.x)
  · obtain ⟨p1, p2⟩ := hν
    unfold pX0_laysMoves_8
    rw [if_neg (nI_ge hww (by decide)), pk_mul, nI_add]
    refine ⟨vp_in_nI (by omega) (by decide), ?_⟩
    unfold zpJ
    rw [nI_clamp (by omega), nI_add]
    refine ih _ ⟨p1.tr (zOff.sJ rfl), fun u hu => ?_⟩
    rw [zJ_sJ]
    by_cases c : u = w
    · subst c
      rw [if_pos ⟨rfl, rfl⟩]
    · rw [if_neg (by omega)]
      exact p2 u (by omega)
theorem c_stays (hw : zWf mb C X1 X dn dX im tr tn tp) (hm : mb ≤ 80000) (h : cR z a μ C X1 X dn dX im tr tn tp f fp) {x y : Int32} {Q : Int64 → zM → Prop} (hq : ∀ μ', zOff (SC z a) μ μ' → Q (vSta C X x y) μ') : pX0_stays z x y μ Q := by
  unfold vSta at hq
  have hT := hw.c.1
  refine c_isTenant h.I hw.c (fun t t1 t2 t3 => if01 ?_) (fun q => if00 ?_)
  · rw [if_pos (by omega)] at hq
    refine rin32 (a := 1) (b := 5) rfl rfl (fun q1 q2 => if01 ?_) (fun q => if00 ?_)
    · rw [if_pos ⟨q1, q2⟩] at hq
      obtain ⟨n, n1, rfl, n3⟩ := i32N (show 0 ≤ y.toInt by omega)
      rw [n3, Int.toNat_natCast, i32_k t3] at hq
      subst t2
      exact c_laysMoves hw hm h t1 (by omega) (by omega) (fun μ1 o1 _ _ => hq μ1 o1)
    · rw [if_neg q] at hq
      exact hq μ zOff.rf
  · rw [if_neg q] at hq
    exact hq μ zOff.rf
theorem c_movesMany (hw : zWf mb C X1 X dn dX im tr tn tp) (hm : mb ≤ 80000) (h : cR z a μ C X1 X dn dX im tr tn tp f fp) {x y : Int32} {Q : Int32 → zM → Prop} (hq : ∀ μ', zOff (SC z a) μ μ' → Q (vMMa C X x y) μ') : pX0_movesMany z x y μ Q := by
  unfold vMMa at hq
  have hT := hw.c.1
  refine c_isTenant h.I hw.c (fun t t1 t2 t3 => if01 ?_) (fun q => if00 ?_)
  · rw [if_pos (by omega)] at hq
    refine rin32 (a := 1) (b := 5) rfl rfl (fun q1 q2 => if01 ?_) (fun q => if00 ?_)
    · rw [if_pos ⟨q1, q2⟩] at hq
      obtain ⟨n, n1, rfl, n3⟩ := i32N (show 0 ≤ y.toInt by omega)
      rw [n3, Int.toNat_natCast, i32_k t3] at hq
      subst t2
      refine c_laysMoves hw hm h t1 (by omega) (by omega) (fun μ1 o1 e19 _ => ?_)
      rw [e19]
      exact hq μ1 o1
    · rw [if_neg q] at hq
      exact hq μ zOff.rf
  · rw [if_neg q] at hq
    exact hq μ zOff.rf
theorem c_goesTo (hw : zWf mb C X1 X dn dX im tr tn tp) (hm : mb ≤ 80000) (h : cR z a μ C X1 X dn dX im tr tn tp f fp) {x y kk : Int32} {Q : Int32 → zM → Prop} (hq : ∀ μ', zOff (SC z a) μ μ' → Q (vGoT C X x y kk) μ') : pX0_goesTo z x y kk μ Q := by
  unfold vGoT at hq
  have hT := hw.c.1
  have hfl := fM_lt (X := X)
  refine c_isTenant h.I hw.c (fun t t1 t2 t3 => if01 ?_) (fun q => if00 ?_)
  · rw [if_pos (by omega)] at hq
    refine rin32 (a := 1) (b := 5) rfl rfl (fun q1 q2 => if01 ?_) (fun q => if00 ?_)
    · rw [if_pos ⟨q1, q2⟩] at hq
      obtain ⟨n, n1, rfl, n3⟩ := i32N (show 0 ≤ y.toInt by omega)
      by_cases ck : 0 ≤ kk
      · rw [if_pos ck] at hq ⊢
        obtain ⟨k, k1, rfl⟩ := nI_of (x := kk) (by rw [Int32.not_lt]; exact ck)
        rw [n3, Int.toNat_natCast, i32_k t3, nI_toInt k1, Int.toNat_natCast] at hq
        subst t2
        refine c_laysMoves hw hm h t1 (by omega) (by omega) (fun μ1 o1 _ e62 => ?_)
        replace hq := hq μ1 o1
        by_cases c : k < n
        · rw [if_pos (by omega)] at hq
          rw [if_neg (nI_ge c (by omega))]
          have v5 : vp_in (nI k) 5 := vp_in_nI (by omega) (by decide)
          have h9 := (pth_rch (N := 12 * n) hw.c hw.x (show t < 6 by omega) (by omega) (mm X k + 1) (by unfold mm; omega)).rg.lt hw.x
          refine ⟨v5, ?_⟩
          rw [nI_clamp (by omega), e62 k c]
          unfold plc at hq
          by_cases c3 : pth C X t (12 * n) (mm X k + 1) = 8
          · rw [if_pos c3] at hq
            rw [if_pos (nI_le (by omega) (by omega))]
            exact hq
          · rw [if_neg c3] at hq
            rw [if_neg (nI_ge (by omega) (by decide))]
            exact ⟨v5, hq⟩
        · rw [if_neg (by omega)] at hq
          rw [if_pos (nI_le (by omega) (by omega))]
          exact hq
      · rw [if_neg ck] at hq ⊢
        exact hq μ zOff.rf
    · rw [if_neg q] at hq
      exact hq μ zOff.rf
  · rw [if_neg q] at hq
    exact hq μ zOff.rf
end MD
