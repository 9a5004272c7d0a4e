/-! rings: the twin -/
theorem whoN_s {C : zC} {X : zX} {k : Nat} : ∀ (d v : Nat), d ≤ kT C → whoN C X k d = v + 1 → v < kT C ∧ xO X v = k + 1
  | 0, v, _, h => by rw [whoN] at h; omega
  | d + 1, v, hd, h => by
    rw [whoN] at h
    split at h
    · rename_i c
      have e : kT C - (d + 1) = v := by omega
      rw [e] at c
      exact ⟨by omega, c⟩
    · exact whoN_s d v (by omega) h
theorem whoN_0 {C : zC} {X : zX} {k : Nat} : ∀ (d v : Nat), d ≤ kT C → whoN C X k d = 0 → kT C - d ≤ v → v < kT C → xO X v ≠ k + 1
  | 0, v, _, _, h1, h2 => by omega
  | d + 1, v, hd, h, h1, h2 => by
    rw [whoN] at h
    split at h
    · omega
    · rename_i c
      by_cases e : v = kT C - (d + 1)
      · rw [e]; exact c
      · exact whoN_0 d v (by omega) h (by omega) h2
theorem who_s {C : zC} {X : zX} {k v : Nat} (h : who C X k = v + 1) : v < kT C ∧ xO X v = k + 1 := whoN_s _ _ (Nat.le_refl _) h
theorem who_0 {C : zC} {X : zX} {k v : Nat} (h : who C X k = 0) (hv : v < kT C) : xO X v ≠ k + 1 := whoN_0 _ _ (Nat.le_refl _) h (by omega) hv
section RT
variable {th : Nat} {μ : zM} {C : zC} {X : zX} {mb : Nat}
theorem t_isIn {m x : Nat} (hm : m < 64) (hx : x < 6) {Q : Int32 → zM → Prop} (hq : Q (if m.testBit x = true then nI 1 else nI 0) μ) : pX4_isIn th (nI m).toInt64 (nI x) μ Q := by
  unfold pX4_isIn
  by_cases c : m.testBit x = true
  · rw [if_pos c] at hq
    rw [if_pos ((mhasL m hm x hx).mpr c)]
    exact hq
  · rw [if_neg c] at hq
    rw [if_neg (fun q => c ((mhasL m hm x hx).mp q))]
    exact hq
theorem wT_le {t u v : Nat} : worX C X t (xO X u - 1) ≤ worX C X t (xO X v - 1) ↔ wT C X t u ≤ wT C X t v := by
  rw [Int32.le_iff_toInt_le]
  rfl
theorem t_pointsAt (hM : tM th μ C X) (hC : wfC C) (hX : wfX C X mb) (hm : mb ≤ 90000) {m t : Nat} (hm6 : m < 64) (hL : gdL C X m.testBit) (ht : m.testBit t = true) {Q : Int32 → zM → Prop} (hq : ∀ μ', zOff (S56 th) μ μ' → Q (nI (ptX C X m.testBit t)) μ') : pX4_pointsAt th (nI t) (nI m) μ Q := by
  have hS := hX.1
  have hT := hC.1
  have t1 := hL t ht
  have ht6 : t < 6 := by omega
  refine ⟨v3 (by decide), ?_⟩
  rw [nI_clamp (by decide), hM.S]
  have key : ∀ K B ν, K ≤ xS X → zOff (S56 th) μ ν → (B = 0 → ∀ v, v < kT C → m.testBit v = true → xO X v ≤ K) → (∀ b, B = b + 1 → m.testBit b = true ∧ b < kT C ∧ K < xO X b ∧ ∀ v, v < kT C → m.testBit v = true → K < xO X v → wT C X t v < wT C X t b ∨ (wT C X t v = wT C X t b ∧ xO X v ≤ xO X b)) → pX4_pointsAt_13 th (nI t) (nI m) Q (K + 1) (eO B) (eO K) ν := by
    intro K
    induction K with
    | zero =>
      intro B ν hK o h0 h1
      unfold pX4_pointsAt_13
      rw [if_pos (by decide)]
      cases B with
      | zero => exact absurd (h0 rfl t t1.1 ht) (by omega)
      | succ b =>
        obtain ⟨b1, b2, b3, b4⟩ := h1 b rfl
        have e : ptX C X m.testBit t = b := ptX_eq hX ht t1.1 t1.2 ⟨b1, b2, by omega, fun v q1 q2 q3 => b4 v q1 q2 (by omega)⟩
        rw [eO_s, ← e]
        exact hq ν o
    | succ k ih =>
      intro B ν hK o h0 h1
      have hMν := hM.offT (S56.T o)
      unfold pX4_pointsAt_13
      rw [eO_s, if_neg (nI_pos (by omega)), show nI k - nI 1 = eO k from rfl]
      refine t_livesOn hMν hC.1 (fun t ht => hX.O ht) (by omega) ?_
      have hwl := who_le (C := C) (X := X) (k := k)
      cases hw : who C X k with
      | zero =>
        have hn : ∀ v, v < kT C → xO X v ≠ k + 1 := fun v hv => who_0 hw hv
        rw [if_pos eO_0]
        refine ih B ν (by omega) o (fun e v q1 q2 => ?_) (fun b e => ?_)
        · have := h0 e v q1 q2
          have := hn v q1
          omega
        · obtain ⟨b1, b2, b3, b4⟩ := h1 b e
          refine ⟨b1, b2, by omega, fun v q1 q2 q3 => b4 v q1 q2 ?_⟩
          have := hn v q1
          omega
      | succ v =>
        obtain ⟨w1, w2⟩ := who_s hw
        have hu : ∀ v', v' < kT C → xO X v' = k + 1 → v' = v := fun v' q1 q2 => hX.2.2.2.2.2 v' v q1 w1 (by omega) (by omega)
        rw [eO_s, if_neg (nI_m1 (by omega))]
        refine t_isIn hm6 (by omega) ?_
        by_cases c : m.testBit v = true
        · rw [if_pos c]
          refine if01 ?_
          cases B with
          | zero =>
            rw [if_pos eO_0, ← eO_s v]
            refine ih (v + 1) ν (by omega) o (fun e => by omega) (fun b e => ?_)
            obtain rfl : v = b := by omega
            refine ⟨c, w1, by omega, fun v' q1 q2 q3 => ?_⟩
            have := h0 rfl v' q1 q2
            have := hu v' q1 (by omega)
            subst this
            exact Or.inr ⟨rfl, Nat.le_refl _⟩
          | succ b =>
            obtain ⟨b1, b2, b3, b4⟩ := h1 b rfl
            have hb8 := hX.O (show b < 6 by omega)
            rw [eO_s, if_neg (nI_m1 (by omega))]
            refine t_worthNow hMν hC hX hm ht6 (by omega) (fun ν2 o2 => ⟨zin2 (by omega) (by decide), ?_⟩)
            have hM2 := hMν.offT (S56.T o2)
            rw [zcl2 (by omega), hM2.O (by omega), eO_pos (show xO X b ≠ 0 by omega)]
            refine t_worthNow hM2 hC hX hm ht6 (by omega) (fun ν3 o3 => ?_)
            have o4 := (o.tr o2).tr o3
            have hk : k = xO X v - 1 := by omega
            by_cases c2 : wT C X t v ≤ wT C X t b
            · rw [if_pos (show worX C X t k ≤ worX C X t (xO X b - 1) by rw [hk]; exact wT_le.mpr c2), ← eO_s b]
              refine ih (b + 1) ν3 (by omega) o4 (fun e => by omega) (fun b' e => ?_)
              obtain rfl : b = b' := by omega
              refine ⟨b1, b2, by omega, fun v' q1 q2 q3 => ?_⟩
              by_cases e2 : xO X v' = k + 1
              · have := hu v' q1 e2
                subst this
                omega
              · exact b4 v' q1 q2 (by omega)
            · rw [if_neg (show ¬ worX C X t k ≤ worX C X t (xO X b - 1) by rw [hk]; exact fun q => c2 (wT_le.mp q)), ← eO_s v]
              refine ih (v + 1) ν3 (by omega) o4 (fun e => by omega) (fun b' e => ?_)
              obtain rfl : v = b' := by omega
              refine ⟨c, w1, by omega, fun v' q1 q2 q3 => ?_⟩
              by_cases e2 : xO X v' = k + 1
              · have := hu v' q1 e2
                subst this
                exact Or.inr ⟨rfl, Nat.le_refl _⟩
              · have := b4 v' q1 q2 (by omega)
                omega
        · rw [if_neg c]
          refine if00 ?_
          refine ih B ν (by omega) o (fun e v' q1 q2 => ?_) (fun b e => ?_)
          · have := h0 e v' q1 q2
            by_cases e2 : xO X v' = k + 1
            · have := hu v' q1 e2
              subst this
              exact absurd q2 c
            · omega
          · obtain ⟨b1, b2, b3, b4⟩ := h1 b e
            refine ⟨b1, b2, by omega, fun v' q1 q2 q3 => ?_⟩
            by_cases e2 : xO X v' = k + 1
            · have := hu v' q1 e2
              subst this
              exact absurd q2 c
            · exact b4 v' q1 q2 (by omega)
  refine ⟨_, key (xS X) 0 μ (Nat.le_refl _) zOff.rf (fun _ v q1 _ => (hX.2.2.2.2.1 v (by omega)).2) (fun b e => by omega)⟩
end RT
