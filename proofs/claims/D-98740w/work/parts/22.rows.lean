/-! the twin's rows: months, storeys, what is kept beside, months to come -/
theorem tSt.at {μ μ' : zM} {a o a' o' : Nat} {X : zX} (h : tSt μ a o X) (he : ∀ k, k < 23 → zI μ' a' (o' + k) = zI μ a (o + k)) : tSt μ' a' o' X := by
  obtain ⟨h0, h1, h2, h3, h4, h5⟩ := h
  refine ⟨?_, fun k hk => ?_, fun k hk => ?_, fun k hk => ?_, ?_, ?_⟩
  · have := he 0 (by omega)
    rw [Nat.add_zero, Nat.add_zero] at this
    rw [this, h0]
  · have := he (1 + k) (by omega)
    rw [← Nat.add_assoc, ← Nat.add_assoc] at this
    rw [this, h1 k hk]
  · have := he (9 + k) (by omega)
    rw [← Nat.add_assoc, ← Nat.add_assoc] at this
    rw [this, h2 k hk]
  · have := he (15 + k) (by omega)
    rw [← Nat.add_assoc, ← Nat.add_assoc] at this
    rw [this, h3 k hk]
  · rw [he 21 (by omega), h4]
  · rw [he 22 (by omega), h5]
theorem tLaw.at {μ μ' : zM} {a o a' o' l : Nat} {w : Option (List Nat)} (hl : l < 3) (h : tLaw μ a o l w) (he : ∀ k, k < 20 ∨ (298 ≤ k ∧ k < 1198) → zI μ' a' (o' + k) = zI μ a (o + k)) : tLaw μ' a' o' l w := by
  cases w with
  | none =>
    have h : zI μ a (o + 5 + l) = 0 := h
    show zI μ' a' (o' + 5 + l) = 0
    have := he (5 + l) (by omega)
    rw [← Nat.add_assoc, ← Nat.add_assoc] at this
    rw [this, h]
  | some cs =>
    obtain ⟨h1, fr, h2, h3, h4, h5⟩ := h
    have e1 := he (5 + l) (by omega)
    have e2 := he (8 + l) (by omega)
    have e3 := he (11 + l) (by omega)
    rw [← Nat.add_assoc, ← Nat.add_assoc] at e1 e2 e3
    refine ⟨e1.trans h1, fr, e2.trans h2, e3.trans h3, h4, fun j hj => ?_⟩
    have e4 := he (298 + fr + j) (by omega)
    rw [← Nat.add_assoc, ← Nat.add_assoc, ← Nat.add_assoc, ← Nat.add_assoc] at e4
    exact e4.trans (h5 j hj)
theorem tCo.at {μ μ' : zM} {a o a' o' : Nat} {C : zC} (h : tCo μ a o C) (he : ∀ k, k < 20 ∨ (298 ≤ k ∧ k < 1198) → zI μ' a' (o' + k) = zI μ a (o + k)) : tCo μ' a' o' C := by
  obtain ⟨h0, h1, h2, h3, h4, h5, h6⟩ := h
  refine ⟨?_, ?_, ?_, ?_, ?_, fun t ht => ?_, fun l hl => (h6 l hl).at hl he⟩
  · have := he 0 (by omega)
    rw [Nat.add_zero, Nat.add_zero] at this
    rw [this, h0]
  · rw [he 1 (by omega), h1]
  · rw [he 2 (by omega), h2]
  · rw [he 3 (by omega), h3]
  · rw [he 4 (by omega), h4]
  · have := he (14 + t) (by omega)
    rw [← Nat.add_assoc, ← Nat.add_assoc] at this
    rw [this, h5 t ht]
theorem tCo.off {S : Nat → Nat → Prop} {μ μ' : zM} {a o : Nat} {C : zC} (h : tCo μ a o C) (ho : zOff S μ μ') (hs : ∀ k, k < 20 ∨ (298 ≤ k ∧ k < 1198) → ¬ S a (o + k)) : tCo μ' a o C := h.at (fun k hk => ho.I (hs k hk))
theorem tSt.off {S : Nat → Nat → Prop} {μ μ' : zM} {a o : Nat} {X : zX} (h : tSt μ a o X) (ho : zOff S μ μ') (hs : ∀ k, k < 23 → ¬ S a (o + k)) : tSt μ' a o X := h.at (fun k hk => ho.I (hs k hk))
theorem tM.off {S : Nat → Nat → Prop} {th : Nat} {μ μ' : zM} {C : zC} {X : zX} (h : tM th μ C X) (ho : zOff S μ μ') (hs : ∀ k, ¬ S (th + 1) k) : tM th μ' C X := h.keep (fun k => ho.I (hs k))
/-- the row as it is now, and the laws' own -/
def Sm (th x k : Nat) : Prop := x = th + 5 ∨ x = th + 6 ∨ (x = th + 1 ∧ 20 ≤ k ∧ k < 43)
section TF
variable {th : Nat} {μ : zM} {C : zC} {X : zX} {mb : Nat}
theorem Sm.co {μ' : zM} (h : tCo μ (th + 1) 0 C) (ho : zOff (Sm th) μ μ') : tCo μ' (th + 1) 0 C := h.off ho (fun k hk q => by unfold Sm at q; omega)
theorem t_goesMonth (hM : tM th μ C X) (hC : wfC C) (hX : wfX C X mb) (hm : mb ≤ 100000) {Q : zM → Prop} (hq : ∀ μ', zOff (Sm th) μ μ' → tM th μ' C (xsk C 0 X) → Q μ') : pX4_goesMonth th μ Q := by
  have hw := wt_le hC hX 0
  have h3 := hX.2.2.1
  have hD := hX.2.1
  have v41 : vp_in (nI 41) 3594 := vp_in_nI (by decide) (by decide)
  have v42 : vp_in (nI 42) 3594 := vp_in_nI (by decide) (by decide)
  refine ⟨v41, ?_⟩
  rw [← eO_0]
  refine t_weightOf hM hC.1 hX.1 (fun t ht => hX.O ht) (by decide) ?_
  refine ⟨vp_in_nI (by decide) (by decide), v41, v42, ?_⟩
  rw [nI_clamp (by decide), nI_clamp (by decide), nI_clamp (by decide), hM.S, hM.D, hM.M]
  refine t_sinksBy hM.1 hC (by omega) hX.1 hX.2.1 (by omega) (fun μ1 ho => ?_)
  have hi := inch_le (C := C) (wt C X 0) (xS X) (xD X) (xM X)
  refine t_deeper (by omega) (by omega) ?_
  have hM1 : tM th μ1 C X := hM.off ho (fun k q => by unfold S56 at q; omega)
  unfold zpI
  refine ⟨v41, v42, v42, ?_⟩
  have o1 : zOff (Sm th) μ1 (zsI μ1 (th + 1) 41 (nI (dee (xD X) (inch C (wt C X 0) (xS X) (xD X) (xM X))))) := zOff.sI (Or.inr (Or.inr ⟨rfl, by decide, by decide⟩))
  have o2 : zOff (Sm th) (zsI μ1 (th + 1) 41 (nI (dee (xD X) (inch C (wt C X 0) (xS X) (xD X) (xM X))))) (zsI (zsI μ1 (th + 1) 41 (nI (dee (xD X) (inch C (wt C X 0) (xS X) (xD X) (xM X))))) (th + 1) 42 (zI (zsI μ1 (th + 1) 41 (nI (dee (xD X) (inch C (wt C X 0) (xS X) (xD X) (xM X))))) (th + 1) 42 + nI 1)) := zOff.sI (Or.inr (Or.inr ⟨rfl, by decide, by decide⟩))
  have oo := ((ho.mono (T := Sm th) (fun x k q => by unfold S56 at q; unfold Sm; omega)).tr o1).tr o2
  refine hq _ oo ⟨Sm.co hM.1 oo, ?_, fun k hk => ?_, fun t ht => ?_, fun t ht => ?_, ?_, ?_⟩
  · simp only [zI_sI]
    show _ = nI (xS X)
    simpa using hM1.S
  · simp only [zI_sI]
    show _ = nI (xW X k)
    rw [if_neg (by omega), if_neg (by omega)]
    exact hM1.W hk
  · simp only [zI_sI]
    show _ = nI (xG X t)
    rw [if_neg (by omega), if_neg (by omega)]
    exact hM1.G ht
  · simp only [zI_sI]
    show _ = eO (xO X t)
    rw [if_neg (by omega), if_neg (by omega)]
    exact hM1.O ht
  · simp only [zI_sI]
    rw [if_neg (by omega), if_pos (by simp)]
    show _ = nI (dee (xD X) (inch C (0 + wt C X 0) (xS X) (xD X) (xM X)))
    rw [Nat.zero_add]
  · simp only [zI_sI]
    rw [if_pos (by simp), if_neg (by omega), hM1.M, nI_add]
    rfl
theorem c_t_months (hM : tM th μ C X) (hC : wfC C) (hX : wfX C X mb) {n : Nat} (hn : n < 1000) (hm : mb + n ≤ 100000) {Q : Int32 → zM → Prop} (hq : ∀ μ', zOff (Sm th) μ μ' → tM th μ' C (xgo C 0 n X) → pX4_notes th μ' (fun μ1 => vp_in (nI 41) 3594 ∧ vp_in (nI 21) 23 ∧ Q (zI μ1 (th + 1) (nI 41).toNatClampNeg - zI μ1 (th + 7) (nI 21).toNatClampNeg) μ1)) : ∃ f, pX4_months_26 th (nI n) Q f (nI 0) μ := by
  refine zupS (W := fun f i ν => pX4_months_26 th (nI n) Q f (nI i) ν) (fun i ν => zOff (Sm th) μ ν ∧ tM th ν C (xgo C 0 i X)) n (fun f ν hν => ?_) (fun f i ν hi hν ih => ?_) 0 μ (Nat.zero_le _) ⟨zOff.rf, hM⟩
  · unfold pX4_months_26
    rw [if_pos (nI_le (Nat.le_refl _) (by omega))]
    exact hq ν hν.1 hν.2
  · unfold pX4_months_26
    rw [if_neg (nI_ge (by omega) (by omega))]
    refine t_goesMonth hν.2 hC (hX.go i) (by omega) (fun μ' ho h1 => ?_)
    rw [nI_add]
    exact ih μ' ⟨hν.1.tr ho, h1⟩
/-- a storey more -/
def xbu (C : zC) (X : zX) : zX := (xS X + 1, fun k => if k = xS X then kB C else xW X k, X.2.2)
theorem wfX.bu (hC : wfC C) (hX : wfX C X mb) (h8 : xS X < 8) : wfX C (xbu C X) mb := by
  obtain ⟨h1, h2, h3, h4, h5, h6⟩ := hX
  refine ⟨h8, h2, h3, fun k hk => ?_, fun t ht => ⟨(h5 t ht).1, Nat.le_succ_of_le (h5 t ht).2⟩, h6⟩
  show (if k = xS X then kB C else xW X k) ≤ 999
  split
  · exact hC.2.1
  · exact h4 k hk
theorem t_goesUp (hM : tM th μ C X) (h8 : xS X < 8) {Q : zM → Prop} (hq : ∀ μ', zOff (Sm th) μ μ' → tM th μ' C (xbu C X) → Q μ') : pX4_goesUp th μ Q := by
  have v20 : vp_in (nI 20) 3594 := vp_in_nI (by decide) (by decide)
  refine ⟨v20, vp_in_nI (by decide) (by decide), ?_⟩
  rw [nI_clamp (by decide), hM.S, nI_clamp (by decide), hM.B]
  refine ⟨zin2 (by omega) (by decide), ?_⟩
  unfold zpI
  rw [zcl2 (by omega)]
  refine ⟨v20, v20, ?_⟩
  have o1 : zOff (Sm th) μ (zsI μ (th + 1) (21 + xS X) (nI (kB C))) := zOff.sI (Or.inr (Or.inr ⟨rfl, by omega, by omega⟩))
  have o2 : zOff (Sm th) (zsI μ (th + 1) (21 + xS X) (nI (kB C))) (zsI (zsI μ (th + 1) (21 + xS X) (nI (kB C))) (th + 1) 20 (zI (zsI μ (th + 1) (21 + xS X) (nI (kB C))) (th + 1) 20 + nI 1)) := zOff.sI (Or.inr (Or.inr ⟨rfl, by decide, by decide⟩))
  have oo := o1.tr o2
  refine hq _ oo ⟨Sm.co hM.1 oo, ?_, fun k hk => ?_, fun t ht => ?_, fun t ht => ?_, ?_, ?_⟩
  · simp only [zI_sI]
    rw [if_pos (by simp), if_neg (by omega), hM.S, nI_add]
    rfl
  · simp only [zI_sI]
    show _ = nI (if k = xS X then kB C else xW X k)
    rw [if_neg (by omega)]
    by_cases c : k = xS X
    · rw [if_pos c]
      rw [if_pos ⟨trivial, by omega⟩]
    · rw [if_neg c]
      rw [if_neg (by omega)]
      exact hM.W hk
  · simp only [zI_sI]
    show _ = nI (xG X t)
    rw [if_neg (by omega), if_neg (by omega)]
    exact hM.G ht
  · simp only [zI_sI]
    show _ = eO (xO X t)
    rw [if_neg (by omega), if_neg (by omega)]
    exact hM.O ht
  · simp only [zI_sI]
    show _ = nI (xD X)
    rw [if_neg (by omega), if_neg (by omega)]
    exact hM.D
  · simp only [zI_sI]
    show _ = nI (xM X)
    rw [if_neg (by omega), if_neg (by omega)]
    exact hM.M
/-- a loop that copies 23 numbers -/
theorem cp23 {P : Nat → Int32 → zM → Prop} {a o a' o' : Nat} {S : Nat → Nat → Prop} (hS : ∀ k, k < 23 → S a' (o' + k)) (hne : ¬ (a = a' ∧ o < o' + 23 ∧ o' < o + 23)) {Q : zM → Prop} (hx : ∀ n ν, Q ν → P (n + 1) (nI 23) ν) (hs : ∀ n k ν, k < 23 → (zOff S μ ν) → P n (nI (k + 1)) (zsI ν a' (o' + k) (zI ν a (o + k))) → P (n + 1) (nI k) ν) (hq : ∀ μ', zOff S μ μ' → (∀ k, k < 23 → zI μ' a' (o' + k) = zI μ a (o + k)) → (∀ x j, ¬ (x = a' ∧ o' ≤ j ∧ j < o' + 23) → zI μ' x j = zI μ x j) → Q μ') : ∃ n, P n (nI 0) μ := by
  refine zupS (W := fun f i ν => P f (nI i) ν) (fun i ν => zOff S μ ν ∧ (∀ k, k < i → zI ν a' (o' + k) = zI μ a (o + k)) ∧ ∀ x j, ¬ (x = a' ∧ o' ≤ j ∧ j < o' + 23) → zI ν x j = zI μ x j) 23 (fun f ν hν => hx f ν (hq ν hν.1 hν.2.1 hν.2.2)) (fun f i ν hi hν ih => ?_) 0 μ (Nat.zero_le _) ⟨zOff.rf, fun k hk => absurd hk (Nat.not_lt_zero _), fun _ _ _ => rfl⟩
  refine hs f i ν hi hν.1 (ih _ ⟨hν.1.tr (zOff.sI (hS i hi)), fun k hk => ?_, fun x j hj => ?_⟩)
  · rw [zI_sI]
    by_cases c : k = i
    · subst c
      rw [if_pos ⟨rfl, rfl⟩]
      exact hν.2.2 _ _ (by omega)
    · rw [if_neg (by omega)]
      exact hν.2.1 k (by omega)
  · rw [zI_sI, if_neg (by omega)]
    exact hν.2.2 x j hj
end TF
