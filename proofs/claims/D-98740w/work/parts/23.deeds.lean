/-! the twin: deeds kept, months to come -/
def S7 (th x _ : Nat) : Prop := x = th + 7
def Sr (th x k : Nat) : Prop := x = th + 1 ∧ 20 ≤ k ∧ k < 43
def Sd (th x k : Nat) : Prop := x = th + 1 ∧ 66 ≤ k ∧ k < 297
def S9 (th x _ : Nat) : Prop := x = th + 5 ∨ x = th + 6 ∨ x = th + 9
def dPu (dn : Nat) : Nat := if dn = 10 then 10 else dn + 1
def xPu (dn : Nat) (dX : Nat → zX) (X : zX) (j : Nat) : zX := if dn = 10 then (if j = 9 then X else dX (j + 1)) else (if j = dn then X else dX j)
def tDe (th : Nat) (μ : zM) (dn : Nat) (dX : Nat → zX) : Prop := zI μ (th + 1) 66 = nI dn ∧ ∀ j, j < dn → tSt μ (th + 1) (67 + 23 * j) (dX j)
section TG
variable {th : Nat} {μ : zM} {C : zC} {X X1 : zX} {mb dn : Nat} {dX : Nat → zX}
theorem t_keeps (hM : tSt μ (th + 1) 20 X) {Q : zM → Prop} (hq : ∀ μ', zOff (S7 th) μ μ' → tSt μ' (th + 7) 0 X → Q μ') : pX4_keeps th μ Q := by
  refine cp23 (S := S7 th) (μ := μ) (P := fun n i ν => pX4_keeps_2 th Q n i ν) (a := th + 1) (o := 20) (a' := th + 7) (o' := 0) (fun k hk => rfl) (by omega) (Q := Q) (fun n ν h => ?_) (fun n k ν hk ho h => ?_) (fun μ' ho h1 _ => hq μ' ho (hM.at h1))
  · show (if nI 23 ≤ nI 23 then _ else _)
    rw [if_pos (nI_le (Nat.le_refl _) (by decide))]
    exact h
  · show (if nI 23 ≤ nI k then _ else _)
    rw [if_neg (nI_ge hk (by omega))]
    refine ⟨zin2 (by omega) (by decide), vp_in_nI hk (by decide), ?_⟩
    rw [zcl2 (by omega), nI_clamp (by omega), nI_add]
    rw [Nat.zero_add] at h
    exact h
theorem t_isAgain (hM : tCo μ (th + 1) 0 C) (hw : tSt μ (th + 7) 0 X) {Q : zM → Prop} (hq : ∀ μ', zOff (Sr th) μ μ' → tM th μ' C X → Q μ') : pX4_isAgain th μ Q := by
  refine cp23 (S := Sr th) (μ := μ) (P := fun n i ν => pX4_isAgain_2 th Q n i ν) (a := th + 7) (o := 0) (a' := th + 1) (o' := 20) (fun k hk => ⟨rfl, by omega, by omega⟩) (by omega) (Q := Q) (fun n ν h => ?_) (fun n k ν hk ho h => ?_) (fun μ' ho h1 _ => hq μ' ho ⟨hM.off ho (fun k hk q => by unfold Sr at q; omega), hw.at h1⟩)
  · show (if nI 23 ≤ nI 23 then _ else _)
    rw [if_pos (nI_le (Nat.le_refl _) (by decide))]
    exact h
  · show (if nI 23 ≤ nI k then _ else _)
    rw [if_neg (nI_ge hk (by omega))]
    refine ⟨vp_in_nI hk (by decide), zin2 (by omega) (by decide), ?_⟩
    rw [zcl2 (by omega), nI_clamp (by omega), nI_add]
    rw [Nat.zero_add] at h
    exact h
theorem t_notes1 (hd : tDe th μ dn dX) (h9 : dn ≤ 9) (hw : tSt μ (th + 7) 0 X) {Q : zM → Prop} (hq : ∀ μ', zOff (Sd th) μ μ' → tDe th μ' (dn + 1) (fun j => if j = dn then X else dX j) → Q μ') : ∃ f, pX4_notes_58 th Q f (nI 0) μ := by
  have v66 : vp_in (nI 66) 3594 := vp_in_nI (by decide) (by decide)
  refine cp23 (S := fun x k => x = th + 1 ∧ 67 + 23 * dn ≤ k ∧ k < 67 + 23 * dn + 23) (μ := μ) (P := fun n i ν => pX4_notes_58 th Q n i ν) (a := th + 7) (o := 0) (a' := th + 1) (o' := 67 + 23 * dn) (fun k hk => ⟨rfl, by omega, by omega⟩) (by omega) (Q := fun ν => zI ν (th + 1) 66 = nI dn ∧ Q (zsI ν (th + 1) 66 (nI dn + nI 1))) (fun n ν h => ?_) (fun n k ν hk ho h => ?_) (fun μ' ho h1 h2 => ?_)
  · show (if nI 23 ≤ nI 23 then _ else _)
    rw [if_pos (nI_le (Nat.le_refl _) (by decide))]
    refine ⟨v66, v66, ?_⟩
    rw [nI_clamp (by decide), h.1]
    exact h.2
  · show (if nI 23 ≤ nI k then _ else _)
    rw [if_neg (nI_ge hk (by omega))]
    have e66 : zI ν (th + 1) 66 = nI dn := (ho.I (fun q => by omega)).trans hd.1
    refine ⟨v66, vp_in_nI hk (by decide), ?_⟩
    rw [nI_clamp (by decide), e66, pk_mul, nI_add]
    refine ⟨zin2 (by omega) (by decide), ?_⟩
    rw [zcl2 (by omega), nI_clamp (by omega), nI_add]
    rw [Nat.zero_add] at h
    exact h
  · have e66 : zI μ' (th + 1) 66 = nI dn := (ho.I (fun q => by omega)).trans hd.1
    refine ⟨e66, ?_⟩
    have o2 : zOff (Sd th) μ' (zsI μ' (th + 1) 66 (nI dn + nI 1)) := zOff.sI ⟨rfl, by decide, by decide⟩
    refine hq _ ((ho.mono (fun x k q => by unfold Sd; omega)).tr o2) ⟨?_, fun j hj => ?_⟩
    · rw [zI_sI, if_pos (by simp), nI_add]
    · by_cases c : j = dn
      · subst c
        show tSt _ _ _ (if j = j then X else dX j)
        rw [if_pos rfl]
        exact hw.at (fun k hk => by rw [zI_sI, if_neg (by omega)]; exact h1 k hk)
      · show tSt _ _ _ (if j = dn then X else dX j)
        rw [if_neg c]
        exact (hd.2 j (by omega)).at (fun k hk => by rw [zI_sI, if_neg (by omega)]; exact h2 _ _ (by omega))
theorem t_notes (hd : tDe th μ dn dX) (h9 : dn ≤ 10) (hw : tSt μ (th + 7) 0 X) {Q : zM → Prop} (hq : ∀ μ', zOff (Sd th) μ μ' → tDe th μ' (dPu dn) (xPu dn dX X) → Q μ') : pX4_notes th μ Q := by
  have v66 : vp_in (nI 66) 3594 := vp_in_nI (by decide) (by decide)
  refine ⟨v66, ?_⟩
  rw [nI_clamp (by decide), hd.1]
  by_cases c : dn = 10
  · subst c
    rw [if_pos rfl]
    refine zupS (W := fun f i ν => pX4_notes_14 th Q f (nI i) ν) (fun i ν => zOff (Sd th) μ ν ∧ (∀ k, k < i → zI ν (th + 1) (67 + k) = zI μ (th + 1) (90 + k)) ∧ ∀ k, ¬ (67 ≤ k ∧ k < 67 + i) → zI ν (th + 1) k = zI μ (th + 1) k) 207 (fun f ν hν => ?_) (fun f i ν hi hν ih => ?_) 0 μ (Nat.zero_le _) ⟨zOff.rf, fun k hk => absurd hk (Nat.not_lt_zero _), fun _ _ => rfl⟩
    · show (if nI 207 ≤ nI 207 then _ else _)
      rw [if_pos (nI_le (Nat.le_refl _) (by decide))]
      refine ⟨v66, v66, ?_⟩
      obtain ⟨g1, g2, g3⟩ := hν
      rw [nI_clamp (by decide), g3 66 (by omega), hd.1]
      unfold zpI
      have o2 : zOff (Sd th) ν (zsI ν (th + 1) 66 (nI 10 - nI 1)) := zOff.sI ⟨rfl, by decide, by decide⟩
      have hd9 : tDe th (zsI ν (th + 1) 66 (nI 10 - nI 1)) 9 (fun j => dX (j + 1)) := by
        refine ⟨?_, fun j hj => ?_⟩
        · rw [zI_sI, if_pos (by simp), pk_sub (by omega)]
        · refine (hd.2 (j + 1) (by omega)).at (fun k hk => ?_)
          rw [zI_sI, if_neg (by omega), show 67 + 23 * j + k = 67 + (23 * j + k) by omega, g2 _ (by omega)]
          congr 1
          omega
      refine t_notes1 hd9 (by omega) (hw.off (g1.tr o2) (fun k hk q => by unfold Sd at q; omega)) (fun μ' ho hd2 => ?_)
      refine hq μ' ((g1.tr o2).tr ho) ?_
      have e : (fun j => if j = 9 then X else dX (j + 1)) = xPu 10 dX X := by
        funext j
        unfold xPu
        rw [if_pos rfl]
      rw [← e]
      exact hd2
    · show (if nI 207 ≤ nI i then _ else _)
      rw [if_neg (nI_ge hi (by omega))]
      refine ⟨zin2 (by omega) (by decide), zin2 (by omega) (by decide), ?_⟩
      obtain ⟨g1, g2, g3⟩ := hν
      rw [zcl2 (by omega), zcl2 (by omega), nI_add]
      refine ih _ ⟨g1.tr (zOff.sI ⟨rfl, by omega, by omega⟩), fun k hk => ?_, fun k hk => ?_⟩
      · rw [zI_sI]
        by_cases c : k = i
        · subst c
          rw [if_pos ⟨rfl, rfl⟩]
          exact g3 _ (by omega)
        · rw [if_neg (by omega)]
          exact g2 k (by omega)
      · rw [zI_sI, if_neg (by omega)]
        exact g3 k (by omega)
  · rw [if_neg (fun q => c ((nI_eq (by omega) (by omega)).mp q))]
    refine t_notes1 hd (by omega) hw (fun μ' ho hd2 => hq μ' ho ?_)
    have e : (fun j => if j = dn then X else dX j) = xPu dn dX X := by
      funext j
      unfold xPu
      rw [if_neg c]
    rw [← e]
    unfold dPu
    rw [if_neg c]
    exact hd2
/-- months to come -/
theorem t_laysSunk (hM : tM th μ C X) (hC : wfC C) (hX : wfX C X mb) (hm : mb ≤ 100000) {w n : Nat} (hw : w < 1000000) (hn : n < 602) {Q : zM → Prop} (hq : ∀ μ', zOff (S9 th) μ μ' → (∀ k, k ≤ n → zI μ' (th + 9) k = nI (suN C w (xS X) (xD X) (xM X) k)) → Q μ') : pX4_laysSunk th (nI n) (nI w) μ Q := by
  have h3 := hX.2.2.1
  have hD := hX.2.1
  refine ⟨vp_in_nI (by decide) (by decide), vp_in_nI (by decide) (by decide), ?_⟩
  rw [nI_clamp (by decide), nI_clamp (by decide), hM.D]
  unfold zpI
  refine zupS (W := fun f i ν => pX4_laysSunk_15 th (nI n) (nI w) Q f (nI i) ν) (fun i ν => zOff (S9 th) μ ν ∧ ∀ k, k ≤ i → zI ν (th + 9) k = nI (suN C w (xS X) (xD X) (xM X) k)) n (fun f ν hν => ?_) (fun f i ν hi hν ih => ?_) 0 _ (Nat.zero_le _) ⟨zOff.sI (Or.inr (Or.inr rfl)), fun k hk => ?_⟩
  · unfold pX4_laysSunk_15
    rw [if_pos (nI_le (Nat.le_refl _) (by omega))]
    exact hq ν hν.1 hν.2
  · unfold pX4_laysSunk_15
    obtain ⟨g1, g2⟩ := hν
    have hMν : tM th ν C X := hM.off g1 (fun k q => by unfold S9 at q; omega)
    have vi : vp_in (nI i) 602 := vp_in_nI (by omega) (by decide)
    rw [if_neg (nI_ge (by omega) (by omega))]
    refine ⟨vi, vp_in_nI (by decide) (by decide), vi, vp_in_nI (by decide) (by decide), ?_⟩
    have hs := suN_le C w (xS X) (xD X) (xM X) hX.2.1 i
    rw [nI_clamp (by decide), nI_clamp (by omega), nI_clamp (by decide), hMν.S, hMν.M, g2 i (Nat.le_refl _), nI_add]
    refine t_sinksBy hMν.1 hC hw hX.1 hs (by omega) (fun μ1 ho => ?_)
    have hi := inch_le (C := C) w (xS X) (suN C w (xS X) (xD X) (xM X) i) (xM X + i)
    refine t_deeper (by omega) (by omega) ?_
    refine ⟨zin2 (by omega) (by decide), ?_⟩
    rw [zcl2 (by omega), nI_add]
    have o1 : zOff (S9 th) ν μ1 := ho.mono (fun x k q => by unfold S56 at q; unfold S9; omega)
    refine ih _ ⟨(g1.tr o1).tr (zOff.sI (Or.inr (Or.inr rfl))), fun k hk => ?_⟩
    rw [zI_sI]
    by_cases c : k = i + 1
    · subst c
      rw [if_pos ⟨rfl, rfl⟩]
      rfl
    · rw [if_neg (by omega), ho.I (fun q => by unfold S56 at q; omega)]
      exact g2 k (by omega)
  · rw [Nat.le_zero] at hk
    subst hk
    rw [zI_sI, if_pos ⟨rfl, rfl⟩]
    rfl
theorem t_laysAll (hM : tM th μ C X) (hC : wfC C) (hX : wfX C X mb) (hm : mb ≤ 100000) {n : Nat} (hn : n < 602) {Q : zM → Prop} (hq : ∀ μ', zOff (S9 th) μ μ' → (∀ k, k ≤ n → zI μ' (th + 9) k = nI (suN C (wt C X 0) (xS X) (xD X) (xM X) k)) → Q μ') : pX4_laysAll th (nI n) μ Q := by
  have hw := wt_le hC hX 0
  unfold pX4_laysAll
  rw [← eO_0]
  refine t_weightOf hM hC.1 hX.1 (fun t ht => hX.O ht) (by decide) ?_
  exact t_laysSunk hM hC hX hm (by omega) hn hq
end TG
