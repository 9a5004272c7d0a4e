/-! rings: the component, who comes round -/
def SQ (z x k : Nat) : Prop := x = z + 57 ∨ (x = z ∧ k = 13)
theorem sMin_or {m o : Nat} {R : Nat → Bool} {L : Nat → Bool} (h : m.testBit = R) : sMin L (o ||| m).testBit = sMin (sMin L o.testBit) R := by
  subst h
  funext t
  unfold sMin
  rw [Nat.testBit_or]
  cases L t <;> cases o.testBit t <;> cases m.testBit t <;> rfl
section RD
variable {z a s : Nat} {μ : zM} {C : zC} {X1 X : zX} {mb b0 : Nat}
theorem cIts.offQ {μ' : zM} (hI : cIts z μ a C X1) (hf : zfar z a) (ho : zOff (SQ z) μ μ') : cIts z μ' a C X1 := hI.offC hf (ho.mono (fun x k q => by unfold SQ at q; unfold SC; omega))
theorem c_comeRound (hI : cIts z μ a C X1) (hf : zfar z a) (hs : cSt μ s X b0) (hsz : s = z + 7 ∨ s = z + 11) (hC : wfC C) (hX : wfX C X mb) {m : Nat} (hm6 : m < 64) (hL : gdL C X m.testBit) (hne : ∃ t, m.testBit t = true) {g : Nat → Nat} {n k r : Nat} (hTT : TT (ptX C X) 6 m.testBit g k) (hn : n = k + r) (h13 : zI μ z 13 = nI r) (hmem : ∀ t, t < kT C → m.testBit t = false → zI μ (z + 57) t = eO (xO X (g t))) (hpt : ∀ t, m.testBit t = true → zI μ (z + 58) t = nI (ptX C X m.testBit t)) {Q : Int32 → zM → Prop} (hq : ∀ o k' r' μ', o < 64 → zOff (SQ z) μ μ' → cnt (sMin m.testBit o.testBit) < cnt m.testBit → TT (ptX C X) 6 (sMin m.testBit o.testBit) g k' → n = k' + r' → zI μ' z 13 = nI r' → (∀ t, t < kT C → sMin m.testBit o.testBit t = false → zI μ' (z + 57) t = eO (xO X (g t))) → Q (nI o) μ') : pX0_comeRound z s (nI m) μ Q := by
  have hT := hC.1
  have hp := ptX_hp hX
  have p6 : ∀ t, m.testBit t = true → ∀ j, iter (ptX C X m.testBit) j t < 6 := fun t ht j => by
    have := (hL _ (hL.it ht j)).1
    omega
  refine ⟨hs.ty, ?_⟩
  have key : ∀ d i o k' r' ν, i + d = kT C → o < 64 → (∀ u, o.testBit u = true → m.testBit u = true ∧ o.testBit (ptX C X m.testBit u) = true) → (∀ t, t < i → m.testBit t = true → (∃ M, 1 ≤ M ∧ iter (ptX C X m.testBit) M t = t) → o.testBit t = true) → zOff (SQ z) μ ν → TT (ptX C X) 6 (sMin m.testBit o.testBit) g k' → n = k' + r' → zI ν z 13 = nI r' → (∀ t, t < kT C → sMin m.testBit o.testBit t = false → zI ν (z + 57) t = eO (xO X (g t))) → pX0_comeRound_5 z s (nI m) Q (d + 1) (nI o) (nI i) ν := by
    intro d
    induction d with
    | zero =>
      intro i o k' r' ν hi ho hcl hall off hTT' hn' h13' hmem'
      have hIν := hI.offQ hf off
      refine ⟨a, hIν.2.1, hIν.2.2.1, ?_⟩
      rw [hIν.2.2.T, if_pos (nI_le (by omega) (by omega))]
      refine hq o k' r' ν ho off ?_ hTT' hn' h13' hmem'
      obtain ⟨t, ht⟩ := hne
      have hy := hL.it ht 6
      exact cnt_lt (p6 t ht 6) hy (hall _ (by have := (hL _ hy).1; omega) hy (six (p6 t ht)))
    | succ d ih =>
      intro i o k' r' ν hi ho hcl hall off hTT' hn' h13' hmem'
      have hIν := hI.offQ hf off
      have hi6 : i < 6 := by omega
      refine ⟨a, hIν.2.1, hIν.2.2.1, ?_⟩
      rw [hIν.2.2.T, if_neg (nI_ge (by omega) (by omega)), mmin m hm6 o ho]
      refine c_has (mlt_and hm6) hi6 ?_
      rw [mtb_min hm6]
      by_cases c : sMin m.testBit o.testBit i = true
      · rw [if_pos c]
        refine if01 ?_
        obtain ⟨c1, c2⟩ := sMin_t.mp c
        have b6 := p6 i c1
        have hcl' : ∀ u, o.testBit u = true → ∀ j, o.testBit (iter (ptX C X m.testBit) j u) = true := by
          intro u hu j
          induction j with
          | zero => exact hu
          | succ j ihj => exact (hcl _ ihj).2
        obtain ⟨J, hJ, hJl⟩ := pk_least (fun j => o.testBit (iter (ptX C X m.testBit) j i) = true ∨ ∃ j', j' < j ∧ iter (ptX C X m.testBit) j' i = iter (ptX C X m.testBit) j i) (by
          obtain ⟨i1, j1, q1, q2, q3⟩ := php 6 (fun k => iter (ptX C X m.testBit) k i) (fun i _ => b6 i)
          exact ⟨j1, Or.inr ⟨i1, q1, q3⟩⟩)
        refine zup (W := fun f j => pX0_comeRound_40 z s (nI m) (fun v0 v1 ν => pX0_comeRound_5 z s (nI m) Q (d + 1) v0 v1 ν) Q f (nI o) (nI i) (nI (rgm (ptX C X m.testBit) i j)) (nI (iter (ptX C X m.testBit) j i)) ν) J (fun f => ?_) (fun f j hj hn2 => ?_) 0 (Nat.zero_le _)
        · unfold pX0_comeRound_40
          have hr6 := rgm_lt b6 J
          rw [mor _ hr6 o ho]
          refine c_has (mlt_or hr6 ho) (b6 J) ?_
          have hin : (rgm (ptX C X m.testBit) i J ||| o).testBit (iter (ptX C X m.testBit) J i) = true := by
            rw [Nat.testBit_or, rgm_t]
            rcases hJ with q | ⟨j', q1, q2⟩
            · rw [q, Bool.or_true]
            · rw [ringB_t.mpr ⟨j', q1, q2⟩, Bool.true_or]
          rw [if_pos hin]
          refine (if_neg nI1_ne0).mpr ?_
          by_cases e : iter (ptX C X m.testBit) J i = i
          · rw [if_pos (by rw [e])]
            have hJ1 : 1 ≤ J := by
              rcases Nat.eq_zero_or_pos J with q | q
              · exfalso
                subst q
                rcases hJ with q2 | ⟨j', q1, _⟩
                · have q3 : o.testBit i = true := q2
                  rw [c2] at q3
                  cases q3
                · exact absurd q1 (Nat.not_lt_zero _)
              · exact q
            have hRi : ringB (ptX C X m.testBit) i J i = true := ringB_t.mpr ⟨0, by omega, rfl⟩
            have hcyc0 : cyc (ptX C X m.testBit) m.testBit (ringB (ptX C X m.testBit) i J) := per_cyc (fun j => hL.it c1 j) hJ1 e
            have hdis : ∀ u, ringB (ptX C X m.testBit) i J u = true → sMin m.testBit o.testBit u = true := by
              intro u hu
              refine sMin_t.mpr ⟨hcyc0.2.1 u hu, ?_⟩
              cases q : o.testBit u
              · rfl
              · obtain ⟨j, j1, rfl⟩ := ringB_t.mp hu
                have := hcl' _ q (J - j)
                rw [← iter_add, show J - j + j = J by omega, e, c2] at this
                cases this
            have sub : ∀ u, sMin m.testBit o.testBit u = true → m.testBit u = true := fun u hu => (sMin_t.mp hu).1
            obtain ⟨g1, sv, k2, hs2, hTT2, hkk⟩ := TT.dia hp 6 _ g k' _ hTT' (hcyc0.keep hp sub hdis)
            have g2 : ∀ u, ringB (ptX C X m.testBit) i J u = true → g u = ptX C X m.testBit u := fun u hu => (g1 u hu).trans (hcyc0.keepP hp sub hdis hu)
            have last : pX0_comeRound_107 z s (nI m) (fun v0 v1 ν => pX0_comeRound_5 z s (nI m) Q (d + 1) v0 v1 ν) Q (nI (o ||| rgm (ptX C X m.testBit) i J)) (nI i) (nI (rgm (ptX C X m.testBit) i J)) (nI sv) (zI ν z 13) ν := by
              have oz : zOff (SQ z) ν (zsI ν z 13 (nI (r' + sv))) := zOff.sI (Or.inr ⟨rfl, rfl⟩)
              have hsm : sMin m.testBit (o ||| rgm (ptX C X m.testBit) i J).testBit = sMin (sMin m.testBit o.testBit) (ringB (ptX C X m.testBit) i J) := sMin_or (rgm_t J)
              unfold pX0_comeRound_107 zpI
              rw [h13', nI_add]
              refine zupS (W := fun f u ν' => pX0_comeRound_114 z s (nI m) (fun v0 v1 ν => pX0_comeRound_5 z s (nI m) Q (d + 1) v0 v1 ν) Q f (nI (o ||| rgm (ptX C X m.testBit) i J)) (nI i) (nI (rgm (ptX C X m.testBit) i J)) (nI u) ν') (fun u ν' => zOff (SQ z) μ ν' ∧ zI ν' z 13 = nI (r' + sv) ∧ ∀ t, t < kT C → (sMin m.testBit o.testBit t = false ∨ (ringB (ptX C X m.testBit) i J t = true ∧ t < u)) → zI ν' (z + 57) t = eO (xO X (g t))) (kT C) (fun f ν2 hν => ?_) (fun f u ν2 hu hν ih2 => ?_) 0 _ (Nat.zero_le _) ⟨off.tr oz, by rw [zI_sI, if_pos ⟨rfl, rfl⟩], fun t q1 q2 => ?_⟩
              · obtain ⟨w1, w2, w3⟩ := hν
                have hI2 := hI.offQ hf w1
                refine ⟨a, hI2.2.1, hI2.2.2.1, ?_⟩
                rw [hI2.2.2.T, if_pos (nI_le (Nat.le_refl _) (by omega)), nI_add]
                refine ih (i + 1) _ k2 (r' + sv) ν2 (by omega) (mlt_or ho hr6) (fun v hv => ?_) (fun v q1 q2 q3 => ?_) w1 (by rw [hsm]; exact hTT2) (by omega) w2 (fun t q1 q2 => ?_)
                · rw [Nat.testBit_or, rgm_t, Bool.or_eq_true] at hv
                  rw [Nat.testBit_or, rgm_t, Bool.or_eq_true]
                  rcases hv with hv | hv
                  · exact ⟨(hcl v hv).1, Or.inl (hcl v hv).2⟩
                  · exact ⟨hcyc0.2.1 v hv, Or.inr (hcyc0.step hv)⟩
                · rw [Nat.testBit_or, rgm_t, Bool.or_eq_true]
                  by_cases e2 : v = i
                  · subst e2
                    exact Or.inr hRi
                  · exact Or.inl (hall v (by omega) q2 q3)
                · refine w3 t q1 ?_
                  rw [hsm] at q2
                  cases q : sMin m.testBit o.testBit t
                  · exact Or.inl rfl
                  · refine Or.inr ⟨?_, q1⟩
                    cases q3 : ringB (ptX C X m.testBit) i J t
                    · rw [sMin_t.mpr ⟨q, q3⟩] at q2
                      cases q2
                    · rfl
              · obtain ⟨w1, w2, w3⟩ := hν
                have hI2 := hI.offQ hf w1
                have hu6 : u < 6 := by omega
                refine ⟨a, hI2.2.1, hI2.2.2.1, ?_⟩
                rw [hI2.2.2.T, if_neg (nI_ge hu (by omega))]
                refine c_has hr6 hu6 ?_
                rw [rgm_t]
                by_cases e2 : ringB (ptX C X m.testBit) i J u = true
                · rw [if_pos e2]
                  have hmu := hcyc0.2.1 u e2
                  have hpu := (hL _ (hL.p hmu)).1
                  have vu : vp_in (nI u) 6 := vp_in_nI hu6 (by decide)
                  have e58 : zI ν2 (z + 58) u = nI (ptX C X m.testBit u) := (w1.I (by unfold SQ; omega)).trans (hpt u hmu)
                  have eon : zI ν2 (s + 1) (ptX C X m.testBit u) = eO (xO X (ptX C X m.testBit u)) := (w1.I (by unfold SQ; omega)).trans (hs.O (by omega))
                  refine if01 ⟨vu, ?_⟩
                  rw [nI_clamp (show u < 2 ^ 31 by omega), e58]
                  refine ⟨vp_in_nI (by omega) (by decide), vu, ?_⟩
                  rw [nI_clamp (by omega), eon, nI_add]
                  refine ih2 _ ⟨w1.tr (zOff.sI (Or.inl rfl)), by rw [zI_sI, if_neg (by omega)]; exact w2, fun t q1 q2 => ?_⟩
                  rw [zI_sI]
                  by_cases e3 : t = u
                  · subst e3
                    rw [if_pos ⟨rfl, rfl⟩, g2 t e2]
                  · rw [if_neg (fun q => e3 q.2)]
                    exact w3 t q1 (by rcases q2 with q2 | q2; exact Or.inl q2; exact Or.inr ⟨q2.1, by omega⟩)
                · rw [if_neg e2]
                  refine if00 ?_
                  rw [nI_add]
                  refine ih2 _ ⟨w1, w2, fun t q1 q2 => w3 t q1 ?_⟩
                  rcases q2 with q2 | q2
                  · exact Or.inl q2
                  · refine Or.inr ⟨q2.1, ?_⟩
                    have : t ≠ u := fun q => e2 (by rw [← q]; exact q2.1)
                    omega
              · rw [zI_sI, if_neg (by omega)]
                rcases q2 with q2 | q2
                · exact hmem' t q1 q2
                · exact absurd q2.2 (Nat.not_lt_zero _)
            have hr0 : rgm (ptX C X m.testBit) i J ≠ 0 := fun q => by
              have := hRi
              rw [← rgm_t, q, Nat.zero_testBit] at this
              cases this
            refine mcount _ hr6 hr0 _ _ (fun rr hrr => ?_)
            rw [mor o ho _ hr6]
            by_cases c4 : rr ≤ nI 1
            · rw [if_pos c4]
              obtain ⟨x, _, x2⟩ := hrr.mp c4
              have hs0 : oneOr (ringB (ptX C X m.testBit) i J) 0 := by
                refine Or.inr ⟨rfl, fun u v h1 h2 => ?_⟩
                rw [← rgm_t, x2, Nat.testBit_two_pow, decide_eq_true_eq] at h1 h2
                omega
              rw [hs2.un hs0] at last
              exact last
            · rw [if_neg c4]
              have hs1 : oneOr (ringB (ptX C X m.testBit) i J) 1 := by
                by_cases c5 : ∃ u, ringB (ptX C X m.testBit) i J u = true ∧ u ≠ i
                · obtain ⟨u, u1, u2⟩ := c5
                  exact Or.inl ⟨rfl, u, i, u1, hRi, u2⟩
                · refine absurd (hrr.mpr ⟨i, hi6, mext hr6 (mlt_p hi6) (fun u _ => ?_)⟩) c4
                  rw [Nat.testBit_two_pow, rgm_t]
                  by_cases e3 : i = u
                  · subst e3
                    rw [hRi, decide_eq_true rfl]
                  · rw [decide_eq_false e3]
                    cases e4 : ringB (ptX C X m.testBit) i J u
                    · rfl
                    · exact absurd ⟨u, e4, fun q => e3 q.symm⟩ c5
              rw [hs2.un hs1] at last
              exact last
          · rw [if_neg (fun q => e ((nI_eq (by have := b6 J; omega) (by omega)).mp q)), nI_add]
            refine ih (i + 1) o k' r' ν (by omega) ho hcl (fun t q1 q2 q3 => ?_) off hTT' hn' h13' hmem'
            by_cases e2 : t = i
            · subst e2
              exfalso
              obtain ⟨M, M1, M2, M3⟩ := per_least q3
              have hMJ : ¬ M < J := fun q => hJl M q (Or.inr ⟨0, by omega, M2.symm⟩)
              by_cases e3 : J = M
              · exact e (by rw [e3]; exact M2)
              · rcases hJ with q | ⟨j', r1, r2⟩
                · have := hcl' _ q (M - J)
                  rw [← iter_add, show M - J + J = M by omega, M2] at this
                  rw [c2] at this
                  cases this
                · exact per_diff M1 M2 M3 r1 (by omega) r2
            · exact hall t (by omega) q2 q3
        · unfold pX0_comeRound_40
          have hr6 := rgm_lt b6 j
          rw [mor _ hr6 o ho]
          refine c_has (mlt_or hr6 ho) (b6 j) ?_
          have hno := hJl j hj
          have hin : ¬ (rgm (ptX C X m.testBit) i j ||| o).testBit (iter (ptX C X m.testBit) j i) = true := by
            rw [Nat.testBit_or, rgm_t, Bool.or_eq_true]
            rintro (q | q)
            · obtain ⟨j', q1, q2⟩ := ringB_t.mp q
              exact hno (Or.inr ⟨j', q1, q2⟩)
            · exact hno (Or.inl q)
          rw [if_neg hin]
          refine if00 ⟨vp_in_nI (b6 j) (by decide), ?_⟩
          have e58 : zI ν (z + 58) (iter (ptX C X m.testBit) j i) = nI (iter (ptX C X m.testBit) (j + 1) i) := (off.I (by unfold SQ; omega)).trans (hpt _ (hL.it c1 j))
          rw [nI_clamp (by have := b6 j; omega), e58, mor1 _ hr6 _ (b6 j)]
          exact hn2
      · rw [if_neg c]
        refine if00 ?_
        rw [nI_add]
        refine ih (i + 1) o k' r' ν (by omega) ho hcl (fun t q1 q2 q3 => ?_) off hTT' hn' h13' hmem'
        by_cases e : t = i
        · subst e
          cases q : o.testBit t
          · exact absurd (sMin_t.mpr ⟨q2, q⟩) c
          · rfl
        · exact hall t (by omega) q2 q3
  exact ⟨_, key (kT C) 0 0 k r μ (by omega) (by decide) (fun u hu => by rw [Nat.zero_testBit] at hu; cases hu) (fun t q => absurd q (Nat.not_lt_zero _)) zOff.rf (by rw [show sMin m.testBit (Nat.testBit 0) = m.testBit by funext t; unfold sMin; rw [Nat.zero_testBit]; simp]; exact hTT) hn h13 (fun t q1 q2 => hmem t q1 (by rw [show sMin m.testBit (Nat.testBit 0) = m.testBit by funext t; unfold sMin; rw [Nat.zero_testBit]; simp] at q2; exact q2))⟩
end RD
