/-! rings: the component points -/
theorem worX_bd {C : zC} {X : zX} {mb t k : Nat} (hC : wfC C) (hX : wfX C X mb) (ht : t < 6) (hk : k < 1000) : bd (worX C X t k) := by
  unfold worX
  rw [worV_eq]
  refine worG_bd hk hX.2.1 ?_ (hX.2.2.2.2.1 t ht).1 ?_
  · have := hC.2.2.2.2.2.1 t ht
    omega
  · split <;> omega
theorem bd_sub {a b : Int32} (ha : bd a) (hb : bd b) : (a - b).toInt = a.toInt - b.toInt := by
  unfold bd at ha hb
  rw [Int32.toInt_sub]
  exact Int.bmod_eq_of_le (by omega) (by omega)
section RC
variable {z a s : Nat} {μ : zM} {C : zC} {X1 X : zX} {mb b0 : Nat}
theorem c_has {m x : Nat} (hm : m < 64) (hx : x < 6) {Q : Int32 → zM → Prop} (hq : Q (if m.testBit x = true then nI 1 else nI 0) μ) : pX0_has z (nI m) (nI x) μ Q := by
  unfold pX0_has
  by_cases c : m.testBit x = true
  · rw [if_pos c] at hq
    rw [if_pos ((mhas m hm x hx).mpr c)]
    exact hq
  · rw [if_neg c] at hq
    rw [if_neg (fun q => c ((mhas m hm x hx).mp q))]
    exact hq
theorem cSt.offW {μ' : zM} (hs : cSt μ s X b0) (hI : cIts z μ a C X1) (ho : zOff (Sw a) μ μ') : cSt μ' s X b0 := by
  have hd := hI.dj hs.ty
  exact hs.off ho (fun k q => by unfold Sw at q; omega) (fun i k h1 h2 q => by unfold Sw at q; omega)
theorem c_pointsAt (hI : cIts z μ a C X1) (hs : cSt μ s X b0) (hC : wfC C) (hX : wfX C X mb) (hm : mb ≤ 100000) {m t : Nat} (hm6 : m < 64) (hL : gdL C X m.testBit) (ht : m.testBit t = true) {Q : Int32 → zM → Prop} (hq : ∀ μ', zOff (Sw a) μ μ' → Q (nI (ptX C X m.testBit t)) μ') : pX0_pointsAt z s (nI t) (nI m) μ Q := by
  have hT := hC.1
  have t1 := hL t ht
  have ht6 : t < 6 := by omega
  refine ⟨hs.ty, ?_⟩
  have hqq : ∀ μ', zOff (Sw a) μ μ' → Q (nI (ptN C X m.testBit t (kT C) 0 t)) μ' := by
    intro μ' o
    have := hq μ' o
    unfold ptX at this
    rw [if_pos t1] at this
    exact this
  have key : ∀ d u b ν, u + d = kT C → zOff (Sw a) μ ν → m.testBit b = true → (∀ μ', zOff (Sw a) μ μ' → Q (nI (ptN C X m.testBit t d u b)) μ') → pX0_pointsAt_6 z s (nI t) (nI m) Q (d + 1) (nI b) (nI u) ν := by
    intro d
    induction d with
    | zero =>
      intro u b ν hu o hb h4
      have hIν := hI.off o hI.avw
      refine ⟨a, hIν.2.1, hIν.2.2.1, ?_⟩
      rw [hIν.2.2.T, if_pos (nI_le (by omega) (by omega))]
      exact h4 ν o
    | succ d ih =>
      intro u b ν hu o hb h4
      have hIν := hI.off o hI.avw
      have hsν := hs.offW hI o
      have hu6 : u < 6 := by omega
      have b1 := hL b hb
      have hb6 : b < 6 := by omega
      have ub := hX.O hu6
      have bb := hX.O hb6
      have vu : vp_in (nI u) 6 := vp_in_nI hu6 (by decide)
      have vb : vp_in (nI b) 6 := vp_in_nI hb6 (by decide)
      refine ⟨a, hIν.2.1, hIν.2.2.1, ?_⟩
      rw [hIν.2.2.T, if_neg (nI_ge (by omega) (by omega)), nI_add]
      refine c_has hm6 hu6 ?_
      rw [ptN] at h4
      by_cases c : m.testBit u = true
      · have u1 := hL u c
        rw [if_pos c]
        refine if01 ⟨vu, ?_⟩
        rw [nI_clamp (show u < 2 ^ 31 by omega), hsν.O hu6, eO_pos u1.2]
        refine c_worth hIν hsν hC hX hm ht6 (by omega) (fun ν2 o2 => ⟨vb, ?_⟩)
        have hI2 := hIν.off o2 hIν.avw
        have hs2 := hsν.offW hIν o2
        rw [nI_clamp (show b < 2 ^ 31 by omega), hs2.O hb6, eO_pos b1.2]
        refine c_worth hI2 hs2 hC hX hm ht6 (by omega) (fun ν3 o3 => ?_)
        have hs3 := hs2.offW hI2 o3
        have oo := (o.tr o2).tr o3
        have e : (worX C X t (xO X u - 1) - worX C X t (xO X b - 1)).toInt = wT C X t u - wT C X t b := bd_sub (worX_bd hC hX ht6 (by omega)) (worX_bd hC hX ht6 (by omega))
        have e0 : (0 : Int32).toInt = 0 := by decide
        by_cases c1 : wT C X t b < wT C X t u
        · rw [if_pos ⟨c, u1.2, Or.inl c1⟩] at h4
          refine (if_pos (show 0 < worX C X t (xO X u - 1) - worX C X t (xO X b - 1) by rw [Int32.lt_iff_toInt_lt, e, e0]; omega)).mpr ?_
          exact ih (u + 1) u ν3 (by omega) oo c h4
        · refine (if_neg (show ¬ 0 < worX C X t (xO X u - 1) - worX C X t (xO X b - 1) by rw [Int32.lt_iff_toInt_lt, e, e0]; omega)).mpr ?_
          by_cases c2 : wT C X t u = wT C X t b
          · refine (if_pos (show worX C X t (xO X u - 1) - worX C X t (xO X b - 1) = 0 by apply Int32.toInt_inj.mp; rw [e, e0]; omega)).mpr ⟨vu, vb, ?_⟩
            rw [hs3.O hu6, hs3.O hb6, eO_pos u1.2, eO_pos b1.2]
            by_cases c3 : xO X b < xO X u
            · rw [if_pos ⟨c, u1.2, Or.inr ⟨c2, c3⟩⟩] at h4
              rw [if_neg (nI_ge (by omega) (by omega))]
              exact ih (u + 1) u ν3 (by omega) oo c h4
            · rw [if_neg (fun q => by have := q.2.2; omega)] at h4
              rw [if_pos (nI_le (by omega) (by omega))]
              exact ih (u + 1) b ν3 (by omega) oo hb h4
          · refine (if_neg (show ¬ worX C X t (xO X u - 1) - worX C X t (xO X b - 1) = 0 by intro q; rw [q] at e; omega)).mpr ?_
            rw [if_neg (fun q => by have := q.2.2; omega)] at h4
            exact ih (u + 1) b ν3 (by omega) oo hb h4
      · rw [if_neg c]
        refine if00 ?_
        rw [if_neg (fun q => c q.1)] at h4
        exact ih (u + 1) b ν (by omega) o hb h4
  exact ⟨_, key (kT C) 0 t μ (by omega) zOff.rf ht hqq⟩
end RC
