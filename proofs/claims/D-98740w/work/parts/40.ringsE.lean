/-! rings: the component lays them; what both answer -/
def SP (z a x k : Nat) : Prop := x = a + 5 ∨ x = z + 57 ∨ x = z + 58 ∨ (x = z ∧ k = 13)
section RE
variable {z a s : Nat} {μ : zM} {C : zC} {X1 X : zX} {mb b0 : Nat}
theorem SP.c {μ' : zM} (ho : zOff (SP z a) μ μ') : zOff (SC z a) μ μ' := ho.mono (fun x k q => by unfold SP at q; unfold SC; omega)
theorem cSt.offP {μ' : zM} (hs : cSt μ s X b0) (hI : cIts z μ a C X1) (hf : zfar z a) (hsz : s = z + 7 ∨ s = z + 11) (ho : zOff (SP z a) μ μ') : cSt μ' s X b0 := by
  have hd := hI.dj hs.ty
  unfold zfar at hf
  exact hs.off ho (fun k q => by unfold SP at q; omega) (fun i k h1 h2 q => by unfold SP at q; omega)
theorem c_laysRings (hI : cIts z μ a C X1) (hf : zfar z a) (hs : cSt μ s X b0) (hsz : s = z + 7 ∨ s = z + 11) (hC : wfC C) (hX : wfX C X mb) (hm : mb ≤ 100000) {g : Nat → Nat} {n : Nat} (hg : RG C X g n) {Q : zM → Prop} (hq : ∀ μ', zOff (SP z a) μ μ' → (∀ t, t < kT C → zI μ' (z + 57) t = eO (xO X (g t))) → zI μ' z 13 = nI n → Q μ') : pX0_laysRings z s μ Q := by
  have hT := hC.1
  have hf' := hf
  unfold zfar at hf'
  refine ⟨hs.ty, ?_⟩
  have outer : ∀ d m ν k r, cnt m.testBit ≤ d → m < 64 → gdL C X m.testBit → zOff (SP z a) μ ν → TT (ptX C X) 6 m.testBit g k → n = k + r → zI ν z 13 = nI r → (∀ t, t < kT C → m.testBit t = false → zI ν (z + 57) t = eO (xO X (g t))) → pX0_laysRings_58 z s Q (d + 1) (nI m) ν := by
    have done : ∀ d m ν k r, m < 64 → zOff (SP z a) μ ν → TT (ptX C X) 6 m.testBit g k → n = k + r → zI ν z 13 = nI r → (∀ t, t < kT C → m.testBit t = false → zI ν (z + 57) t = eO (xO X (g t))) → (∀ t, m.testBit t = false) → pX0_laysRings_58 z s Q (d + 1) (nI m) ν := by
      intro d m ν k r hm6 o hTT hn h13 hmem hz
      unfold pX0_laysRings_58
      rw [if_pos ((m0 hm6).mpr hz)]
      have hk : k = 0 := by
        rcases hTT with h | ⟨R, s, m', h1, _⟩
        · exact h.2
        · obtain ⟨t, ht⟩ := h1.1
          exact absurd (h1.2.1 t ht) (by rw [hz t]; decide)
      exact hq ν o (fun t ht => hmem t ht (hz t)) (by rw [h13, hn, hk, Nat.zero_add])
    intro d
    induction d with
    | zero =>
      intro m ν k r hc hm6 hL o hTT hn h13 hmem
      exact done 0 m ν k r hm6 o hTT hn h13 hmem (fun t => by
        by_cases c : t < 6
        · exact cnt_0 (by omega) c
        · exact mbig hm6 (by omega))
    | succ d ih =>
      intro m ν k r hc hm6 hL o hTT hn h13 hmem
      by_cases cz : ∀ t, m.testBit t = false
      · exact done (d + 1) m ν k r hm6 o hTT hn h13 hmem cz
      unfold pX0_laysRings_58
      rw [if_neg (fun q => cz ((m0 hm6).mp q))]
      have hne : ∃ t, m.testBit t = true := by
        by_cases e : ∃ t, m.testBit t = true
        · exact e
        · exact absurd (fun t => by cases q : m.testBit t; rfl; exact absurd ⟨t, q⟩ e) cz
      refine zupS (W := fun f u ν' => pX0_laysRings_64 z s (fun v0 ν => pX0_laysRings_58 z s Q (d + 1) v0 ν) Q f (nI m) (nI u) ν') (fun u ν' => zOff (SP z a) μ ν' ∧ zI ν' z 13 = nI r ∧ (∀ t, t < kT C → m.testBit t = false → zI ν' (z + 57) t = eO (xO X (g t))) ∧ ∀ t, t < u → m.testBit t = true → zI ν' (z + 58) t = nI (ptX C X m.testBit t)) (kT C) (fun f ν2 hν => ?_) (fun f u ν2 hu hν ih2 => ?_) 0 ν (Nat.zero_le _) ⟨o, h13, hmem, fun t q => absurd q (Nat.not_lt_zero _)⟩
      · obtain ⟨w1, w2, w3, w4⟩ := hν
        have hI2 := hI.offC hf (SP.c w1)
        have hs2 := hs.offP hI hf hsz w1
        refine ⟨a, hI2.2.1, hI2.2.2.1, ?_⟩
        rw [hI2.2.2.T, if_pos (nI_le (Nat.le_refl _) (by omega))]
        refine c_comeRound hI2 hf hs2 hsz hC hX hm6 hL hne hTT hn w2 w3 (fun t ht => w4 t (hL t ht).1 ht) (fun ou k' r' μ' q1 q2 q3 q4 q5 q6 q7 => ?_)
        rw [mmin m hm6 ou q1]
        refine ih _ μ' k' r' ?_ (mlt_and hm6) ?_ (w1.tr (q2.mono (fun x k q => by unfold SQ at q; unfold SP; omega))) ?_ q5 q6 ?_
        · rw [mtb_min hm6]; omega
        · rw [mtb_min hm6]; exact hL.sub
        · rw [mtb_min hm6]; exact q4
        · rw [mtb_min hm6]; exact q7
      · obtain ⟨w1, w2, w3, w4⟩ := hν
        have hI2 := hI.offC hf (SP.c w1)
        have hs2 := hs.offP hI hf hsz w1
        have hu6 : u < 6 := by omega
        refine ⟨a, hI2.2.1, hI2.2.2.1, ?_⟩
        rw [hI2.2.2.T, if_neg (nI_ge hu (by omega))]
        refine c_has hm6 hu6 ?_
        have put : ∀ ν3 v, zOff (Sw a) ν2 ν3 → (m.testBit u = true → v = nI (ptX C X m.testBit u)) → pX0_laysRings_99 z s (fun v0 ν => pX0_laysRings_58 z s Q (d + 1) v0 ν) (fun v0 v1 ν => pX0_laysRings_64 z s (fun v0 ν => pX0_laysRings_58 z s Q (d + 1) v0 ν) Q f v0 v1 ν) Q (nI m) (nI u) v (nI u) ν3 := by
          intro ν3 v o3 hv
          refine ⟨vp_in_nI hu6 (by decide), ?_⟩
          unfold zpI
          rw [nI_clamp (by omega), nI_add]
          have oz : zOff (SP z a) ν3 (zsI ν3 (z + 58) u v) := zOff.sI (Or.inr (Or.inr (Or.inl rfl)))
          have o4 : zOff (SP z a) ν2 ν3 := o3.mono (fun x k q => Or.inl q)
          refine ih2 _ ⟨(w1.tr o4).tr oz, ?_, fun t q1 q2 => ?_, fun t q1 q2 => ?_⟩
          · rw [zI_sI, if_neg (by omega), o3.I (by unfold Sw; omega)]
            exact w2
          · rw [zI_sI, if_neg (by omega), o3.I (by unfold Sw; omega)]
            exact w3 t q1 q2
          · rw [zI_sI]
            by_cases e : t = u
            · subst e
              rw [if_pos ⟨rfl, rfl⟩]
              exact hv q2
            · rw [if_neg (fun q => e q.2), o3.I (by unfold Sw; omega)]
              exact w4 t (by omega) q2
        by_cases c : m.testBit u = true
        · rw [if_pos c]
          refine if01 ?_
          exact c_pointsAt hI2 hs2 hC hX hm hm6 hL c (fun ν3 o3 => put ν3 _ o3 (fun _ => rfl))
        · rw [if_neg c]
          refine if00 ?_
          exact put ν2 _ zOff.rf (fun q => absurd q c)
  unfold zpI
  refine zupS (W := fun f i ν => pX0_laysRings_9 z s Q f (nI (lvm X i)) (nI i) ν) (fun i ν => zOff (SP z a) μ ν ∧ zI ν z 13 = nI 0 ∧ ∀ t, t < i → zI ν (z + 57) t = eO (xO X t)) (kT C) (fun f ν hν => ?_) (fun f i ν hi hν ih => ?_) 0 _ (Nat.zero_le _) ⟨zOff.sI (Or.inr (Or.inr (Or.inr ⟨rfl, rfl⟩))), by rw [zI_sI, if_pos ⟨rfl, rfl⟩], fun t ht => absurd ht (Nat.not_lt_zero _)⟩
  · obtain ⟨p1, p2, p3⟩ := hν
    have hI2 := hI.offC hf (SP.c p1)
    refine ⟨a, hI2.2.1, hI2.2.2.1, ?_⟩
    rw [hI2.2.2.T, if_pos (nI_le (Nat.le_refl _) (by omega))]
    refine ⟨_, outer 6 (lvm X (kT C)) ν n 0 (cnt_6 _) (lvm_lt _ hT) ?_ p1 ?_ rfl p2 (fun t q1 q2 => ?_)⟩
    · rw [lvm_liv]
      exact fun t ht => liv_t.mp ht
    · rw [lvm_liv]
      exact hg.1
    · rw [lvm_liv] at q2
      rw [hg.2 t q2]
      exact p3 t q1
  · obtain ⟨p1, p2, p3⟩ := hν
    have hI2 := hI.offC hf (SP.c p1)
    have hs2 := hs.offP hI hf hsz p1
    have hi6 : i < 6 := by omega
    have hoi := hX.O hi6
    have v6 : vp_in (nI i) 6 := vp_in_nI hi6 (by decide)
    refine ⟨a, hI2.2.1, hI2.2.2.1, ?_⟩
    rw [hI2.2.2.T, if_neg (nI_ge hi (by omega))]
    refine ⟨v6, v6, ?_⟩
    unfold zpI
    rw [nI_clamp (by omega), hs2.O hi6]
    have oz : zOff (SP z a) ν (zsI ν (z + 57) i (eO (xO X i))) := zOff.sI (Or.inr (Or.inl rfl))
    have hs3 := hs.offP hI hf hsz (p1.tr oz)
    refine ⟨v6, ?_⟩
    have inv : zOff (SP z a) μ (zsI ν (z + 57) i (eO (xO X i))) ∧ zI (zsI ν (z + 57) i (eO (xO X i))) z 13 = nI 0 ∧ ∀ t, t < i + 1 → zI (zsI ν (z + 57) i (eO (xO X i))) (z + 57) t = eO (xO X t) := by
      refine ⟨p1.tr oz, by rw [zI_sI, if_neg (by omega)]; exact p2, fun t ht => ?_⟩
      rw [zI_sI]
      by_cases e : t = i
      · subst e
        rw [if_pos ⟨rfl, rfl⟩]
      · rw [if_neg (fun q => e q.2)]
        exact p3 t (by omega)
    rw [hs3.O hi6, nI_add]
    have hl := lvm_lt (X := X) i (by omega)
    by_cases c : xO X i = 0
    · rw [if_pos ((eO_m1 (by omega)).mpr c), mor _ hl 0 (by decide), Nat.or_zero]
      have e : lvm X (i + 1) = lvm X i := by rw [lvm, if_pos c]
      rw [← e]
      exact ih _ inv
    · rw [if_neg (fun q => c ((eO_m1 (by omega)).mp q)), mor1 _ hl _ hi6]
      have e : lvm X (i + 1) = lvm X i ||| 2 ^ i := by rw [lvm, if_neg c]
      rw [← e]
      exact ih _ inv
end RE
