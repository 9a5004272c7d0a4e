/-! marks: where to look next -/
def alC (g : Nat → Nat) : Nat → Nat → Nat
  | 0, _ => 0
  | k + 1, s => if g k = s then alC g k s + 1 else alC g k s
def alM (g : Nat → Nat) : Nat → Nat
  | 0 => 0
  | k + 1 => max (alM g k) (alC g (k + 1) (g k))
theorem alC_le (g : Nat → Nat) (s : Nat) : ∀ k, alC g k s ≤ k
  | 0 => Nat.le_refl _
  | k + 1 => by
    have := alC_le g s k
    rw [alC]
    split <;> omega
theorem alM_le (g : Nat → Nat) : ∀ k, alM g k ≤ k
  | 0 => Nat.le_refl _
  | k + 1 => by
    have h1 := alM_le g k
    have h2 := alC_le g (g k) (k + 1)
    rw [alM]
    omega
theorem alC_0 (g : Nat → Nat) (s : Nat) : ∀ k, (∀ j, j < k → g j ≠ s) → alC g k s = 0
  | 0, _ => rfl
  | k + 1, h => by rw [alC, if_neg (h k (by omega)), alC_0 g s k (fun j hj => h j (by omega))]
def lkN (g : Nat → Nat) : Nat → Nat
  | 0 => 1
  | j + 1 => if g (lkN g j) ≤ g (j + 2) then lkN g j else j + 2
theorem lkN_le (g : Nat → Nat) : ∀ j, 1 ≤ lkN g j ∧ lkN g j ≤ j + 1
  | 0 => ⟨Nat.le_refl _, Nat.le_refl _⟩
  | j + 1 => by
    have := lkN_le g j
    rw [lkN]
    split <;> omega
noncomputable def gAl (C : zC) (X1 : zX) (p : zTp) (n k : Nat) : Nat := sh C X1 (hidV C X1 p k) n
noncomputable def mAk (C : zC) (X1 : zX) (p : zTp) (n : Nat) : Nat := alM (gAl C X1 p n) (cntF C X1 p 1000)
noncomputable def vLok (C : zC) (X1 : zX) (tr : zTy) (x : Int32) : Int32 := mAns tr x (fun p => if cntF C X1 p 1000 = 0 then (-1 : Int32) else nI (lkN (mAk C X1 p) 59))
section LK
variable {z th a s : Nat} {μ μ' : zM} {C : zC} {X1 X : zX} {dn : Nat} {dX : Nat → zX} {im : zIm} {tr : zTy} {tn : Nat} {tp : Nat → Nat} {f fp : Int32} {mb : Nat}
theorem hidV_lt {p : zTp} {k : Nat} (hk : k < cntF C X1 p 1000) : hidV C X1 p k < 1000 := by
  obtain ⟨h', a1, a2, a3, a4⟩ := hidV_ex 1000 (Nat.le_refl _) hk
  omega
theorem hidV_dj {p : zTp} {k j : Nat} (hk : k < cntF C X1 p 1000) (hj : j < cntF C X1 p 1000) (h : k ≠ j) : hidV C X1 p k ≠ hidV C X1 p j := by
  obtain ⟨h1, a1, a2, a3, a4⟩ := hidV_ex 1000 (Nat.le_refl _) hk
  obtain ⟨h2, b1, b2, b3, b4⟩ := hidV_ex 1000 (Nat.le_refl _) hj
  intro e
  rw [a4, b4] at e
  rw [e, b3] at a3
  exact h a3.symm
def cRw (z : Nat) (ν : zM) (C : zC) (X1 : zX) (p : zTp) (m : Nat) : Prop := ∀ k, k < m → ∀ n, n ≤ 60 → zI ν (z + 69) (61 * hidV C X1 p k + n) = nI (sh C X1 (hidV C X1 p k) n)
def cHd (z : Nat) (ν : zM) (C : zC) (X1 : zX) (p : zTp) : Prop := ∀ k, k < cntF C X1 p 1000 → zI ν (z + 66) k = nI (hidV C X1 p k)
theorem c_laysAlike (hw : zWf mb C X1 X dn dX im tr tn tp) {p : zTp} {M : Nat} (hM : M = cntF C X1 p 1000) (hh : cHd z μ C X1 p) (hr : cRw z μ C X1 p M) (h67 : ∀ k, k < 100000 → zI μ (z + 67) k = 0) {Q : zM → Prop} (hq : ∀ μ', zOff (fun x k => (x = z + 67 ∧ k < 100000) ∨ x = z + 68) μ μ' → (∀ k, k < 100000 → zI μ' (z + 67) k = 0) → (∀ k, zJ μ' (z + 67) k = zJ μ (z + 67) k) → (∀ n, 1 ≤ n → n ≤ 60 → zI μ' (z + 68) n = nI (mAk C X1 p n)) → Q μ') : pX0_laysAlike z (nI M) μ Q := by
  have hcl := cntF_le (C := C) (X1 := X1) (p := p) 1000
  have months : ∀ d n ν, n + d = 61 → 1 ≤ n → zOff (fun x k => (x = z + 67 ∧ k < 100000) ∨ x = z + 68) μ ν → (∀ k, k < 100000 → zI ν (z + 67) k = 0) → (∀ k, zJ ν (z + 67) k = zJ μ (z + 67) k) → (∀ i, 1 ≤ i → i < n → zI ν (z + 68) i = nI (mAk C X1 p i)) → pX0_laysAlike_2 z (nI M) Q (d + 1) (nI n) ν := by
    intro d
    induction d with
    | zero =>
      intro n ν hn h1 o h0 hJ h68
      unfold pX0_laysAlike_2
      rw [if_pos (nI_lt (by omega) (by omega))]
      exact hq ν o h0 hJ (fun i q1 q2 => h68 i q1 (by omega))
    | succ d ih =>
      intro n ν hn h1 o h0 hJ h68
      have v61 : vp_in (nI n) 61 := vp_in_nI (by omega) (by decide)
      unfold pX0_laysAlike_2
      rw [if_neg (nI_nlt (by omega) (by decide))]
      refine ⟨v61, ?_⟩
      unfold zpI
      rw [nI_clamp (by omega)]
      obtain ⟨g, hg⟩ : ∃ g, g = gAl C X1 p n := ⟨_, rfl⟩
      have gs : ∀ k, k < M → g k ≤ 99999 := fun k hk => by rw [hg]; exact sh_le hw.x1 _ _
      have sunk : ∀ (ν' : zM) (k : Nat) (Q' : Int32 → zM → Prop), k < M → zOff (fun x k => (x = z + 67 ∧ k < 100000) ∨ x = z + 68) μ ν' → Q' (nI (g k)) ν' → pX0_sunkOf z (zI ν' (z + 66) k) (nI n) ν' Q' := by
        intro ν' k Q' hk o' hQ
        have hl := hidV_lt (C := C) (X1 := X1) (p := p) (k := k) (by omega)
        have e66 : zI ν' (z + 66) k = nI (hidV C X1 p k) := (o'.I (by omega)).trans (hh k (by omega))
        have e69 := (o'.I (show ¬ ((z + 69 = z + 67 ∧ 61 * hidV C X1 p k + n < 100000) ∨ z + 69 = z + 68) by omega)).trans (hr k hk n (by omega))
        rw [e66]
        unfold pX0_sunkOf
        rw [pk_mul, nI_add]
        refine ⟨vp_in_nI (by omega) (by decide), ?_⟩
        rw [nI_clamp (by omega), e69]
        rw [hg] at hQ
        exact hQ
      -- they are taken back
      have back : ∀ ν1, zOff (fun x k => (x = z + 67 ∧ k < 100000) ∨ x = z + 68) μ ν1 → (∀ s, s < 100000 → zI ν1 (z + 67) s = nI (alC g M s)) → (∀ k, zJ ν1 (z + 67) k = zJ μ (z + 67) k) → (∀ i, 1 ≤ i → i < n + 1 → zI ν1 (z + 68) i = nI (mAk C X1 p i)) → ∃ k, pX0_laysAlike_76 z (nI M) (fun v0 ν => pX0_laysAlike_2 z (nI M) Q (d + 1) v0 ν) Q k (nI n) (nI 0) ν1 := by
        intro ν1 o1 hc hJ1 h681
        refine zupS (W := fun g' k ν' => pX0_laysAlike_76 z (nI M) (fun v0 ν => pX0_laysAlike_2 z (nI M) Q (d + 1) v0 ν) Q g' (nI n) (nI k) ν') (fun k ν' => zOff (fun x k => (x = z + 67 ∧ k < 100000) ∨ x = z + 68) μ ν' ∧ (∀ s, s < 100000 → zI ν' (z + 67) s = 0 ∨ (zI ν' (z + 67) s = nI (alC g M s) ∧ ∀ j, j < k → g j ≠ s)) ∧ (∀ k, zJ ν' (z + 67) k = zJ μ (z + 67) k) ∧ ∀ i, 1 ≤ i → i < n + 1 → zI ν' (z + 68) i = nI (mAk C X1 p i)) M (fun g' ν' hν => ?_) (fun g' k ν' hk hν ih2 => ?_) 0 ν1 (Nat.zero_le _) ⟨o1, fun s hs => Or.inr ⟨hc s hs, fun j hj => absurd hj (Nat.not_lt_zero _)⟩, hJ1, h681⟩
        · obtain ⟨q1, q2, q3, q4⟩ := hν
          unfold pX0_laysAlike_76
          rw [if_pos (nI_le (Nat.le_refl _) (by omega)), nI_add]
          refine ih (n + 1) ν' (by omega) (by omega) q1 (fun s hs => ?_) q3 q4
          rcases q2 s hs with q | ⟨q, q'⟩
          · exact q
          · rw [q, alC_0 g s M q']
            rfl
        · obtain ⟨q1, q2, q3, q4⟩ := hν
          have hgk := gs k hk
          unfold pX0_laysAlike_76
          rw [if_neg (nI_ge hk (by omega))]
          refine ⟨vp_in_nI (by omega) (by decide), ?_⟩
          rw [nI_clamp (by omega)]
          refine sunk ν' k _ hk q1 ⟨vp_in_nI (by omega) (by decide), ?_⟩
          unfold zpI
          rw [nI_clamp (by omega), nI_add]
          refine ih2 _ ⟨q1.tr (zOff.sI (Or.inl ⟨rfl, by omega⟩)), fun s hs => ?_, q3, fun i r1 r2 => ?_⟩
          · rw [zI_sI]
            by_cases c : s = g k
            · rw [if_pos ⟨rfl, c⟩]
              exact Or.inl rfl
            · rw [if_neg (fun q => c q.2)]
              rcases q2 s hs with q | ⟨q, q'⟩
              · exact Or.inl q
              · refine Or.inr ⟨q, fun j hj => ?_⟩
                by_cases c2 : j = k
                · rw [c2]
                  exact fun e => c e.symm
                · exact q' j (by omega)
          · rw [zI_sI, if_neg (by omega)]
            exact q4 i r1 r2
      refine zupS (W := fun g' k ν' => pX0_laysAlike_17 z (nI M) (fun v0 ν => pX0_laysAlike_2 z (nI M) Q (d + 1) v0 ν) Q g' (nI n) (nI k) ν') (fun k ν' => zOff (fun x k => (x = z + 67 ∧ k < 100000) ∨ x = z + 68) μ ν' ∧ (∀ s, s < 100000 → zI ν' (z + 67) s = nI (alC g k s)) ∧ (∀ k, zJ ν' (z + 67) k = zJ μ (z + 67) k) ∧ zI ν' (z + 68) n = nI (alM g k) ∧ ∀ i, 1 ≤ i → i < n → zI ν' (z + 68) i = nI (mAk C X1 p i)) M (fun g' ν' hν => ?_) (fun g' k ν' hk hν ih2 => ?_) 0 _ (Nat.zero_le _) ⟨o.tr (zOff.sI (Or.inr rfl)), fun s hs => by rw [zI_sI, if_neg (by omega)]; exact h0 s hs, hJ, by rw [zI_sI, if_pos ⟨rfl, rfl⟩]; rfl, fun i r1 r2 => by rw [zI_sI, if_neg (by omega)]; exact h68 i r1 r2⟩
      · obtain ⟨q1, q2, q3, q4, q5⟩ := hν
        unfold pX0_laysAlike_17
        rw [if_pos (nI_le (Nat.le_refl _) (by omega))]
        refine back ν' q1 q2 q3 (fun i r1 r2 => ?_)
        by_cases c : i = n
        · subst c
          rw [q4, hg, hM]
          rfl
        · exact q5 i r1 (by omega)
      · obtain ⟨q1, q2, q3, q4, q5⟩ := hν
        have hgk := gs k hk
        have v5 : vp_in (nI (g k)) 100000 := vp_in_nI (by omega) (by decide)
        have ml := alM_le g k
        have cl := alC_le g (g k) (k + 1)
        unfold pX0_laysAlike_17
        rw [if_neg (nI_ge hk (by omega))]
        refine ⟨vp_in_nI (by omega) (by decide), ?_⟩
        rw [nI_clamp (by omega)]
        refine sunk ν' k _ hk q1 ⟨v5, v5, ?_⟩
        unfold zpI
        rw [nI_clamp (show g k < 2 ^ 31 by omega), nI_clamp (show n < 2 ^ 31 by omega), q2 _ (by omega), nI_add (alC g k (g k)) 1]
        have ec : alC g k (g k) + 1 = alC g (k + 1) (g k) := by rw [alC, if_pos rfl]
        rw [ec]
        have e67 : zI (zsI ν' (z + 67) (g k) (nI (alC g (k + 1) (g k)))) (z + 67) (g k) = nI (alC g (k + 1) (g k)) := by rw [zI_sI, if_pos ⟨rfl, rfl⟩]
        have e68 : zI (zsI ν' (z + 67) (g k) (nI (alC g (k + 1) (g k)))) (z + 68) n = nI (alM g k) := by rw [zI_sI, if_neg (by omega)]; exact q4
        refine ⟨v61, v5, v61, ?_⟩
        rw [e67, e68, nI_add]
        have em : (if nI (alM g k) < nI (alC g (k + 1) (g k)) then nI (alC g (k + 1) (g k)) else nI (alM g k)) = nI (alM g (k + 1)) := by
          rw [alM]
          by_cases c : alM g k < alC g (k + 1) (g k)
          · rw [if_pos (nI_lt c (by omega)), Nat.max_eq_right (by omega)]
          · rw [if_neg (nI_nlt (by omega) (by omega)), Nat.max_eq_left (by omega)]
        rw [em]
        refine ih2 _ ⟨(q1.tr (zOff.sI (Or.inl ⟨rfl, by omega⟩))).tr (zOff.sI (Or.inr rfl)), fun s hs => ?_, q3, by rw [zI_sI, if_pos ⟨rfl, rfl⟩], fun i r1 r2 => ?_⟩
        · rw [zI_sI, if_neg (by omega), zI_sI]
          by_cases c : s = g k
          · rw [if_pos ⟨rfl, c⟩, c]
          · rw [if_neg (fun q => c q.2), q2 s hs, alC, if_neg (fun q => c q.symm)]
        · rw [zI_sI, if_neg (by omega), zI_sI, if_neg (by omega)]
          exact q5 i r1 r2
  exact ⟨_, months 60 1 μ (by omega) (Nat.le_refl _) zOff.rf h67 (fun _ => rfl) (fun i r1 r2 => by omega)⟩
theorem c_look (hw : zWf mb C X1 X dn dX im tr tn tp) (h : cR z a μ C X1 X dn dX im tr tn tp f fp) {x : Int32} {Q : Int32 → zM → Prop} (hq : ∀ μ', zOff (SC z a) μ μ' → Q (vLok C X1 tr x) μ') : pX0_look z x μ Q := by
  have hfar := h.far
  unfold zfar at hfar
  unfold vLok at hq
  refine c_marksFault hw h (fun t p ht t2 t3 e hs hl => if00 ?_) (fun r hr hg => ?_)
  · rw [mAns_g ht t3 e hs hl] at hq
    subst t2
    refine ⟨vp_in_nI ht (by decide), z + 71 + t, by rw [nI_clamp (by omega)]; exact (h.Fx.2.1 t ht).1, ?_⟩
    obtain ⟨M, hM⟩ : ∃ M, M = cntF C X1 p 1000 := ⟨_, rfl⟩
    have hcl := cntF_le (C := C) (X1 := X1) (p := p) 1000
    refine c_laysHidden h hw ht e hs hl (fun μ1 o1 e66 => ?_)
    have hh1 : cHd z μ1 C X1 p := fun k hk => by
      obtain ⟨h', a1, a2, a3, a4⟩ := hidV_ex 1000 (Nat.le_refl _) hk
      have := e66 h' a1 a2
      rw [a3] at this
      rw [this, a4]
    rw [← hM] at hq ⊢
    refine zupS (W := fun g k ν => pX0_look_26 z Q g (nI M) (nI k) ν) (fun k ν => zOff (SC z a) μ ν ∧ cHd z ν C X1 p ∧ cRw z ν C X1 p k) M (fun g ν hν => ?_) (fun g k ν hk hν ih => ?_) 0 μ1 (Nat.zero_le _) ⟨Sk.c o1, hh1, fun k hk => absurd hk (Nat.not_lt_zero _)⟩
    · obtain ⟨p1, p2, p3⟩ := hν
      have hR := h.off p1
      have h67 := hR.2.2.2.2.2.2.2.2.2.2.1
      unfold pX0_look_26
      rw [if_pos (nI_le (Nat.le_refl _) (by omega))]
      refine c_laysAlike hw hM p2 p3 h67 (fun ν2 o2 z67 j67 e68 => ?_)
      have oF : zOff (SC z a) μ ν2 := by
        refine ⟨fun b => (o2.1 b).trans (p1.1 b), fun b k => (o2.2.1 b k).trans (p1.2.1 b k), o2.2.2.1.trans p1.2.2.1, fun b k q => ?_⟩
        have g1 := p1.2.2.2 b k q
        by_cases c : b = z + 67 ∧ k < 100000
        · obtain ⟨rfl, ck⟩ := c
          exact ⟨(z67 k ck).trans ((h67 k ck).symm.trans g1.1), (j67 k).trans g1.2⟩
        · have g2 := o2.2.2.2 b k (fun r => by
            rcases r with r | r
            · exact c r
            · exact q (by unfold SC; omega))
          exact ⟨g2.1.trans g1.1, g2.2.trans g1.2⟩
      replace hq := hq ν2 oF
      by_cases c0 : M = 0
      · rw [if_pos c0] at hq
        refine ⟨1, ?_⟩
        unfold pX0_look_84
        rw [if_neg (by decide), c0, if_pos (by decide)]
        exact hq
      · rw [if_neg c0] at hq
        have hM0 : ¬ nI M ≤ 0 := by rw [← nI_0]; exact nI_ge (by omega) (by omega)
        have key : ∀ d j, j + d = 59 → pX0_look_84 z Q (d + 1) (nI M) (nI (lkN (mAk C X1 p) j)) (nI (j + 2)) ν2 := by
          intro d
          induction d with
          | zero =>
            intro j hj
            obtain rfl : j = 59 := by omega
            unfold pX0_look_84
            rw [if_pos (by decide)]
            exact hq
          | succ d ih =>
            intro j hj
            have hb := lkN_le (mAk C X1 p) j
            unfold pX0_look_84
            rw [if_neg (nI_nlt (by omega) (by decide)), if_neg hM0, if_neg (nI_m1 (by omega)), nI_add]
            refine ⟨vp_in_nI (by omega) (by decide), vp_in_nI (by omega) (by decide), ?_⟩
            rw [nI_clamp (by omega), nI_clamp (by omega), e68 _ (by omega) (by omega), e68 _ (by omega) (by omega)]
            have m1 : mAk C X1 p (lkN (mAk C X1 p) j) ≤ 1000 := Nat.le_trans (alM_le _ _) hcl
            have m2 : mAk C X1 p (j + 2) ≤ 1000 := Nat.le_trans (alM_le _ _) hcl
            have ih := ih (j + 1) (by omega)
            rw [lkN] at ih
            by_cases c : mAk C X1 p (lkN (mAk C X1 p) j) ≤ mAk C X1 p (j + 2)
            · rw [if_pos c] at ih
              rw [if_pos (nI_le c (by omega))]
              exact ih
            · rw [if_neg c] at ih
              rw [if_neg (nI_ge (by omega) (by omega))]
              exact ih
        refine ⟨59 + 1 + 1, ?_⟩
        unfold pX0_look_84
        rw [if_neg (by decide), if_neg hM0, if_pos rfl, nI_add]
        exact key 59 0 (by omega)
    · obtain ⟨p1, p2, p3⟩ := hν
      have hR := h.off p1
      have hl2 := hidV_lt (C := C) (X1 := X1) (p := p) (k := k) (by omega)
      have v3k : vp_in (nI k) 1000 := vp_in_nI (by omega) (by decide)
      unfold pX0_look_26
      rw [if_neg (nI_ge hk (by omega))]
      refine ⟨v3k, ?_⟩
      rw [nI_clamp (by omega), p2 k (by omega)]
      refine c_laysSunkH hw hR (by omega) (fun ν2 o2 e65 => ⟨v3k, ?_⟩)
      have e66k : zI ν2 (z + 66) k = nI (hidV C X1 p k) := (o2.I (by unfold Sj; omega)).trans (p2 k (by omega))
      rw [e66k, pk_mul]
      have c61 : (nI 61).toNatClampNeg = 61 := by decide
      have c00 : (nI 0).toNatClampNeg = 0 := by decide
      refine ⟨⟨by decide, nI_pos (by omega), by decide, by decide, ?_⟩, ?_⟩
      · rw [nI_clamp (by omega), c61]
        omega
      unfold zpC
      rw [nI_clamp (show 61 * hidV C X1 p k < 2 ^ 31 by omega), c61, c00, nI_add]
      have oz : zOff (fun x _ => x = z + 69) ν2 (zcp ν2 (z + 65) (z + 69) 0 (61 * hidV C X1 p k) 61) := zOff.cp (fun k _ _ => rfl)
      refine ih _ ⟨(p1.tr (Sj.c o2)).tr (oz.mono (fun x k q => by unfold SC; omega)), fun j hj => ?_, fun j hj n hn => ?_⟩
      · rw [oz.I (by omega), o2.I (by unfold Sj; omega)]
        exact p2 j hj
      · rw [zI_cp]
        by_cases c : j = k
        · subst c
          rw [if_pos ⟨rfl, by omega, by omega⟩, show 0 + (61 * hidV C X1 p j + n - 61 * hidV C X1 p j) = n by omega]
          exact e65 n hn
        · have hd := hidV_dj (C := C) (X1 := X1) (p := p) (show j < _ by omega) (show k < _ by omega) c
          rw [if_neg (by omega), o2.I (by unfold Sj; omega)]
          exact p3 j (by omega) n hn
  · rw [hg] at hq
    rw [if_neg hr]
    exact hq μ zOff.rf
end LK
