/-! rings: the twin lays them -/
def lvm (X : zX) : Nat → Nat
  | 0 => 0
  | i + 1 => if xO X i = 0 then lvm X i else lvm X i ||| 2 ^ i
theorem lvm_lt {X : zX} : ∀ i, i ≤ 6 → lvm X i < 64
  | 0, _ => by rw [lvm]; decide
  | i + 1, h => by
    rw [lvm]
    split
    · exact lvm_lt i (by omega)
    · exact mlt_or (lvm_lt i (by omega)) (mlt_p (by omega))
theorem lvm_t {X : zX} {u : Nat} : ∀ i, (lvm X i).testBit u = decide (u < i ∧ xO X u ≠ 0)
  | 0 => by rw [lvm, Nat.zero_testBit]; simp
  | i + 1 => by
    rw [lvm]
    split
    · rename_i c
      rw [lvm_t i]
      by_cases e : u = i
      · subst e; simp [c]
      · have : (u < i + 1 ∧ xO X u ≠ 0) ↔ (u < i ∧ xO X u ≠ 0) := by omega
        rw [decide_eq_decide.mpr this]
    · rename_i c
      rw [mtb_or, lvm_t i]
      by_cases e : u = i
      · subst e; simp [c]
      · have h1 : (u < i + 1 ∧ xO X u ≠ 0) ↔ (u < i ∧ xO X u ≠ 0) := by omega
        have h2 : ¬ i = u := fun q => e q.symm
        rw [show decide (u < i + 1 ∧ xO X u ≠ 0) = decide (u < i ∧ xO X u ≠ 0) from decide_eq_decide.mpr h1]
        simp [h2]
theorem lvm_liv {C : zC} {X : zX} : (lvm X (kT C)).testBit = liv C X := funext fun u => lvm_t (kT C)
def rgm (p : Nat → Nat) (t : Nat) : Nat → Nat
  | 0 => 0
  | i + 1 => rgm p t i ||| 2 ^ (iter p i t)
theorem rgm_lt {p : Nat → Nat} {t : Nat} (h6 : ∀ k, iter p k t < 6) : ∀ i, rgm p t i < 64
  | 0 => by rw [rgm]; decide
  | i + 1 => mlt_or (rgm_lt h6 i) (mlt_p (h6 i))
theorem rgm_t {p : Nat → Nat} {t : Nat} : ∀ i, (rgm p t i).testBit = ringB p t i
  | 0 => funext fun u => Nat.zero_testBit u
  | i + 1 => funext fun u => by rw [rgm, mtb_or, rgm_t i]; rfl
def SR (th x k : Nat) : Prop := x = th + 5 ∨ x = th + 6 ∨ x = th + 8 ∨ (x = th ∧ k = 20)
section RU
variable {th : Nat} {μ : zM} {C : zC} {X : zX} {mb : Nat}
theorem tM.offR {μ' : zM} (h : tM th μ C X) (ho : zOff (SR th) μ μ') : tM th μ' C X := h.off ho (fun k => by unfold SR; omega)
theorem t_laysRings (hM : tM th μ C X) (hC : wfC C) (hX : wfX C X mb) (hm : mb ≤ 90000) {g : Nat → Nat} {n : Nat} (hg : RG C X g n) {Q : zM → Prop} (hq : ∀ μ', zOff (SR th) μ μ' → (∀ t, t < kT C → zI μ' (th + 8) t = eO (xO X (g t))) → zI μ' th 20 = nI n → Q μ') : pX4_laysRings th μ Q := by
  have hT := hC.1
  have hp := ptX_hp hX
  -- the outer loop
  have outer : ∀ d m ν k r, cnt m.testBit ≤ d → m < 64 → gdL C X m.testBit → zOff (SR th) μ ν → TT (ptX C X) 6 m.testBit g k → n = k + r → zI ν th 20 = nI r → (∀ t, t < kT C → m.testBit t = false → zI ν (th + 8) t = eO (xO X (g t))) → pX4_laysRings_63 th Q (d + 1) (nI m) ν := by
    intro d
    induction d with
    | zero =>
      intro m ν k r hc hm6 hL o hTT hn h20 hmem
      have hz : ∀ t, m.testBit t = false := fun t => by
        by_cases c : t < 6
        · exact cnt_0 (by omega) c
        · exact mbig hm6 (by omega)
      unfold pX4_laysRings_63
      rw [if_pos ((m0 hm6).mpr hz)]
      have hk : k = 0 := by
        rcases hTT with h | ⟨R, s, m', h1, _⟩
        · exact h.2
        · obtain ⟨t, ht⟩ := h1.1
          exact absurd (h1.2.1 t ht) (by rw [hz t]; decide)
      exact hq ν o (fun t ht => hmem t ht (hz t)) (by rw [h20, hn, hk, Nat.zero_add])
    | succ d ih =>
      intro m ν k r hc hm6 hL o hTT hn h20 hmem
      unfold pX4_laysRings_63
      by_cases cz : ∀ t, m.testBit t = false
      · rw [if_pos ((m0 hm6).mpr cz)]
        have hk : k = 0 := by
          rcases hTT with h | ⟨R, s, m', h1, _⟩
          · exact h.2
          · obtain ⟨t, ht⟩ := h1.1
            exact absurd (h1.2.1 t ht) (by rw [cz t]; decide)
        exact hq ν o (fun t ht => hmem t ht (cz t)) (by rw [h20, hn, hk, Nat.zero_add])
      rw [if_neg (fun q => cz ((m0 hm6).mp q))]
      obtain ⟨t0, ht0, hmin⟩ := pk_least (fun t => m.testBit t = true) (by
        by_cases e : ∃ t, m.testBit t = true
        · exact e
        · exact absurd (fun t => by cases q : m.testBit t; rfl; exact absurd ⟨t, q⟩ e) cz)
      have ht06 : t0 < 6 := by have := (hL t0 ht0).1; omega
      have hMν := hM.offR o
      have a6 : ∀ j, iter (ptX C X m.testBit) j t0 < 6 := fun j => by
        have := (hL _ (hL.it ht0 j)).1
        omega
      refine zup (W := fun f i => pX4_laysRings_69 th (fun v0 ν => pX4_laysRings_63 th Q (d + 1) v0 ν) Q f (nI m) (nI i) ν) t0 (fun f => ?_) (fun f i hi hn => ?_) 0 (Nat.zero_le _)
      · unfold pX4_laysRings_69
        refine t_isIn hm6 ht06 ?_
        rw [if_pos ht0]
        refine if01 ?_
        refine zupS (W := fun f i ν' => pX4_laysRings_86 th (fun v0 ν => pX4_laysRings_63 th Q (d + 1) v0 ν) Q f (nI m) (nI (iter (ptX C X m.testBit) i t0)) (nI i) ν') (fun i ν' => zOff (S56 th) ν ν') 6 (fun f ν1 o1 => ?_) (fun f i ν1 hi o1 ih2 => ?_) 0 ν (Nat.zero_le _) zOff.rf
        · unfold pX4_laysRings_86
          rw [if_pos (nI_le (Nat.le_refl _) (by decide))]
          obtain ⟨t1, e1⟩ : ∃ t1, t1 = iter (ptX C X m.testBit) 6 t0 := ⟨_, rfl⟩
          obtain ⟨M, M1, M2, M3⟩ := per_least (six a6)
          rw [← e1] at M2 M3 ⊢
          have hL1 : m.testBit t1 = true := by rw [e1]; exact hL.it ht0 6
          have b6 : ∀ j, iter (ptX C X m.testBit) j t1 < 6 := fun j => by
            have := (hL _ (hL.it hL1 j)).1
            omega
          have hcyc : cyc (ptX C X m.testBit) m.testBit (ringB (ptX C X m.testBit) t1 M) := per_cyc (fun j => hL.it hL1 j) M1 M2
          obtain ⟨g1, s, k', hs, hTT', hkk⟩ := TT.dia hp 6 _ g k _ hTT hcyc
          have o56 : ∀ {a b : zM}, zOff (S56 th) a b → zOff (SR th) a b := fun h => h.mono (fun x k q => by unfold S56 at q; unfold SR; omega)
          refine zupS (W := fun f i ν' => pX4_laysRings_107 th (fun v0 ν => pX4_laysRings_63 th Q (d + 1) v0 ν) Q f (nI m) (nI (iter (ptX C X m.testBit) i t1)) (nI (rgm (ptX C X m.testBit) t1 i)) ν') (fun i ν' => zOff (SR th) μ ν' ∧ zI ν' th 20 = nI r ∧ (∀ j, j < i → zI ν' (th + 8) (iter (ptX C X m.testBit) j t1) = eO (xO X (g (iter (ptX C X m.testBit) j t1)))) ∧ ∀ t, t < kT C → m.testBit t = false → zI ν' (th + 8) t = eO (xO X (g t))) M (fun f ν2 hν => ?_) (fun f i ν2 hi hν ih3 => ?_) 0 ν1 (Nat.zero_le _) ⟨o.tr (o56 o1), (o1.I (by unfold S56; omega)).trans h20, fun j hj => absurd hj (Nat.not_lt_zero _), fun t q1 q2 => (o1.I (by unfold S56; omega)).trans (hmem t q1 q2)⟩
          · obtain ⟨p1, p2, p3, p4⟩ := hν
            unfold pX4_laysRings_107
            rw [M2]
            have hin : (rgm (ptX C X m.testBit) t1 M).testBit t1 = true := by rw [rgm_t]; exact ringB_t.mpr ⟨0, by omega, rfl⟩
            have hr6 := rgm_lt b6 M
            have t16 : t1 < 6 := b6 0
            refine t_isIn hr6 t16 ?_
            rw [if_pos hin]
            refine (if_neg nI1_ne0).mpr ?_
            rw [mone t1 t16]
            have hsub : (m &&& (63 ^^^ rgm (ptX C X m.testBit) t1 M)).testBit = sMin m.testBit (ringB (ptX C X m.testBit) t1 M) := by rw [mtb_min hm6, rgm_t]
            have last : pX4_laysRings_169 th (fun v0 ν => pX4_laysRings_63 th Q (d + 1) v0 ν) Q (nI m) (nI (rgm (ptX C X m.testBit) t1 M)) (nI s) (zI ν2 th 20) ν2 := by
              unfold pX4_laysRings_169
              rw [p2, mmin m hm6 _ hr6, nI_add]
              have oz : zOff (SR th) ν2 (zsI ν2 th 20 (nI (r + s))) := zOff.sI (Or.inr (Or.inr (Or.inr ⟨rfl, rfl⟩)))
              refine ih _ _ k' (r + s) ?_ (mlt_and hm6) ?_ (p1.tr oz) ?_ (by omega) (by rw [zI_sI, if_pos ⟨rfl, rfl⟩]) (fun t q1 q2 => ?_)
              · rw [hsub]
                have := cnt_lt t16 hL1 (ringB_t.mpr ⟨0, by omega, rfl⟩ : ringB (ptX C X m.testBit) t1 M t1 = true)
                omega
              · rw [hsub]
                exact hL.sub
              · rw [hsub]
                exact hTT'
              · rw [zI_sI, if_neg (by omega)]
                rw [hsub] at q2
                cases e : m.testBit t
                · exact p4 t q1 e
                · cases e2 : ringB (ptX C X m.testBit) t1 M t
                  · rw [sMin_t.mpr ⟨e, e2⟩] at q2
                    cases q2
                  · obtain ⟨j, j1, rfl⟩ := ringB_t.mp e2
                    exact p3 j j1
            by_cases c1 : rgm (ptX C X m.testBit) t1 M = 2 ^ t1
            · rw [if_pos (by rw [c1])]
              have hs0 : oneOr (ringB (ptX C X m.testBit) t1 M) 0 := by
                refine Or.inr ⟨rfl, fun u v h1 h2 => ?_⟩
                rw [← rgm_t, c1, Nat.testBit_two_pow, decide_eq_true_eq] at h1 h2
                omega
              rw [hs.un hs0] at last
              exact last
            · rw [if_neg (fun q => c1 ((nI_eq (by omega) (by have := mlt_p t16; omega)).mp q))]
              have hs1 : oneOr (ringB (ptX C X m.testBit) t1 M) 1 := by
                by_cases c2 : ∃ u, ringB (ptX C X m.testBit) t1 M u = true ∧ u ≠ t1
                · obtain ⟨u, u1, u2⟩ := c2
                  exact Or.inl ⟨rfl, u, t1, u1, ringB_t.mpr ⟨0, by omega, rfl⟩, u2⟩
                · refine absurd (mext hr6 (mlt_p t16) (fun u _ => ?_)) c1
                  rw [Nat.testBit_two_pow]
                  by_cases e : t1 = u
                  · subst e
                    rw [hin, decide_eq_true rfl]
                  · rw [decide_eq_false e]
                    cases e2 : (rgm (ptX C X m.testBit) t1 M).testBit u
                    · rfl
                    · rw [rgm_t] at e2
                      exact absurd ⟨u, e2, fun q => e q.symm⟩ c2
              rw [hs.un hs1] at last
              exact last
          · obtain ⟨p1, p2, p3, p4⟩ := hν
            have hr6 := rgm_lt b6 i
            have hMν2 := hM.offR p1
            have x6 := b6 i
            have x6' := b6 (i + 1)
            unfold pX4_laysRings_107
            refine t_isIn hr6 x6 ?_
            have hno : (rgm (ptX C X m.testBit) t1 i).testBit (iter (ptX C X m.testBit) i t1) = false := by
              cases e : (rgm (ptX C X m.testBit) t1 i).testBit (iter (ptX C X m.testBit) i t1)
              · rfl
              · rw [rgm_t] at e
                obtain ⟨j, j1, j2⟩ := ringB_t.mp e
                exact absurd j2 (per_diff M1 M2 M3 j1 hi)
            rw [if_neg (show ¬ (rgm (ptX C X m.testBit) t1 i).testBit (iter (ptX C X m.testBit) i t1) = true by rw [hno]; decide)]
            refine if00 ?_
            refine t_pointsAt hMν2 hC hX hm hm6 hL (hL.it hL1 i) (fun ν3 o3 => ?_)
            have hM3 := hMν2.offR (o56 o3)
            have x6'' : ptX C X m.testBit (iter (ptX C X m.testBit) i t1) < 6 := x6'
            refine ⟨zin2 (by omega) (by decide), vp_in_nI x6 (by decide), ?_⟩
            unfold zpI
            rw [zcl2 (by omega), nI_clamp (by omega), hM3.O x6'', mor1 _ hr6 _ x6]
            refine ih3 _ ⟨(p1.tr (o56 o3)).tr (zOff.sI (Or.inr (Or.inr (Or.inl rfl)))), ?_, fun j hj => ?_, fun t q1 q2 => ?_⟩
            · rw [zI_sI, if_neg (by omega), o3.I (by unfold S56; omega)]
              exact p2
            · rw [zI_sI]
              by_cases e : iter (ptX C X m.testBit) j t1 = iter (ptX C X m.testBit) i t1
              · rw [if_pos ⟨rfl, e⟩, e, g1 _ (ringB_t.mpr ⟨i, hi, rfl⟩)]
              · rw [if_neg (fun q => e q.2), o3.I (by unfold S56; omega)]
                have : j ≠ i := fun q => e (by rw [q])
                exact p3 j (by omega)
            · rw [zI_sI, if_neg (fun q => by
                rw [q.2] at q2
                rw [hL.it hL1 i] at q2
                cases q2), o3.I (by unfold S56; omega)]
              exact p4 t q1 q2
        · unfold pX4_laysRings_86
          rw [if_neg (nI_ge hi (by decide))]
          refine t_pointsAt (hMν.off o1 (fun k q => by unfold S56 at q; omega)) hC hX hm hm6 hL (hL.it ht0 i) (fun ν2 o2 => ?_)
          rw [nI_add]
          exact ih2 ν2 (o1.tr o2)
      · unfold pX4_laysRings_69
        refine t_isIn hm6 (by omega) ?_
        rw [if_neg (hmin i hi), nI_add]
        exact if00 hn
  unfold pX4_laysRings zpI
  refine zupS (W := fun f i ν => pX4_laysRings_9 th Q f (nI (lvm X i)) (nI i) ν) (fun i ν => zOff (SR th) μ ν ∧ zI ν th 20 = nI 0 ∧ ∀ t, t < i → zI ν (th + 8) t = eO (xO X t)) (kT C) (fun f ν hν => ?_) (fun f i ν hi hν ih => ?_) 0 _ (Nat.zero_le _) ⟨zOff.sI (Or.inr (Or.inr (Or.inr ⟨rfl, rfl⟩))), by rw [zI_sI, if_pos ⟨rfl, rfl⟩], fun t ht => absurd ht (Nat.not_lt_zero _)⟩
  · obtain ⟨p1, p2, p3⟩ := hν
    have hMν := hM.offR p1
    refine ⟨v3 (by decide), ?_⟩
    rw [nI_clamp (by decide), hMν.T, if_pos (nI_le (Nat.le_refl _) (by omega))]
    refine ⟨_, outer 6 (lvm X (kT C)) ν n 0 (cnt_6 _) (lvm_lt _ hT) ?_ p1 ?_ rfl p2 (fun t q1 q2 => ?_)⟩
    · rw [lvm_liv]
      exact fun t ht => liv_t.mp ht
    · rw [lvm_liv]
      exact hg.1
    · rw [lvm_liv] at q2
      rw [hg.2 t q2]
      exact p3 t q1
  · obtain ⟨p1, p2, p3⟩ := hν
    have hMν := hM.offR p1
    have hi6 : i < 6 := by omega
    have hoi := hX.O hi6
    refine ⟨v3 (by decide), ?_⟩
    rw [nI_clamp (by decide), hMν.T, if_neg (nI_ge hi (by omega))]
    have v35 : vp_in (nI 35 + nI i) 3594 := zin2 (by omega) (by decide)
    refine ⟨v35, vp_in_nI hi6 (by decide), ?_⟩
    unfold zpI
    rw [zcl2 (by omega), nI_clamp (by omega), hMν.O hi6]
    have oz : zOff (SR th) ν (zsI ν (th + 8) i (eO (xO X i))) := zOff.sI (Or.inr (Or.inr (Or.inl rfl)))
    have hMz := hMν.offR oz
    refine ⟨v35, ?_⟩
    have inv : zOff (SR th) μ (zsI ν (th + 8) i (eO (xO X i))) ∧ zI (zsI ν (th + 8) i (eO (xO X i))) th 20 = nI 0 ∧ ∀ t, t < i + 1 → zI (zsI ν (th + 8) i (eO (xO X i))) (th + 8) t = eO (xO X t) := by
      refine ⟨p1.tr oz, by rw [zI_sI, if_neg (by omega)]; exact p2, fun t ht => ?_⟩
      rw [zI_sI]
      by_cases e : t = i
      · subst e
        rw [if_pos ⟨rfl, rfl⟩]
      · rw [if_neg (fun q => e q.2)]
        exact p3 t (by omega)
    rw [hMz.O hi6, nI_add]
    have hl := lvm_lt (X := X) i (by omega)
    by_cases c : xO X i = 0
    · rw [if_pos ((eO_m1 (by omega)).mpr c), mor _ hl 0 (by decide), Nat.or_zero]
      have e : lvm X (i + 1) = lvm X i := by rw [lvm, if_pos c]
      rw [← e]
      exact ih _ inv
    · rw [if_neg (fun q => c ((eO_m1 (by omega)).mp q)), mor1 _ hl _ hi6]
      have e : lvm X (i + 1) = lvm X i ||| 2 ^ i := by rw [lvm, if_neg c]
      rw [← e]
      exact ih _ inv
end RU
