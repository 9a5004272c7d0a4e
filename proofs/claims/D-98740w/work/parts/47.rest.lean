/-! counts, texts fed, images, lists -/
section RA
variable {z th a s : Nat} {μ μ' : zM} {C C' : zC} {X1 X Y Y1 : zX} {dn dn' : Nat} {dX dX' : Nat → zX} {im : zIm} {tr : zTy} {tn tn' : Nat} {tp tp' : Nat → Nat} {f fp : Int32} {mb b0 : Nat}
theorem cR.Im (h : cR z a μ C X1 X dn dX im tr tn tp f fp) : cImg z μ im := h.2.2.2.2.2.1
theorem cR.Ta (h : cR z a μ C X1 X dn dX im tr tn tp f fp) : cTap z μ tn tp := h.2.2.2.2.2.2.2.1
theorem tR.Im (h : tR th μ C X1 X dn dX im tr tn tp f fp) : tImg th μ im := h.2.2.2.1
theorem tR.Ta (h : tR th μ C X1 X dn dX im tr tn tp f fp) : tTap th μ tn tp := h.2.2.2.2.2.1
theorem t_away (hM : tM th μ C X) (hC : wfC C) (hX : wfX C X mb) {Q : Int32 → zM → Prop} (hq : Q (nI (awayN C X)) μ) : pX4_away th μ Q := by
  have hT := hC.1
  refine zup (W := fun n i => pX4_away_4 th Q n (nI (sumN (fun t => if xO X t = 0 then 1 else 0) i)) (nI i) μ) (kT C) (fun n => ?_) (fun n i hi hn => ?_) 0 (Nat.zero_le _)
  · unfold pX4_away_4
    refine ⟨v3 (by decide), ?_⟩
    rw [nI_clamp (by decide), hM.T, if_pos (nI_le (by omega) (by omega))]
    exact hq
  · unfold pX4_away_4
    have hi6 : i < 6 := by omega
    have ho8 := hX.O hi6
    refine ⟨v3 (by decide), ?_⟩
    rw [nI_clamp (by decide), hM.T, if_neg (nI_ge (by omega) (by omega))]
    refine ⟨zin2 (by omega) (by decide), ?_⟩
    rw [zcl2 (by omega), hM.O hi6]
    rw [sumN] at hn
    by_cases c1 : xO X i = 0
    · rw [if_pos ((eO_m1 (by omega)).mpr c1), nI_add, nI_add]
      rw [if_pos c1] at hn
      exact hn
    · rw [if_neg (fun q => c1 ((eO_m1 (by omega)).mp q)), nI_add, nI_add]
      rw [if_neg c1] at hn
      exact hn
theorem t_buriedMany (hM : tM th μ C X) (hX : wfX C X mb) {Q : Int32 → zM → Prop} (hq : Q (nI (bur (xS X) (xD X))) μ) : pX4_buriedMany th μ Q := by
  have hS := hX.1
  have hD := hX.2.1
  refine zup (W := fun n i => pX4_buriedMany_4 th Q n (nI (min i (xD X / 144))) (nI i) μ) (xS X) (fun n => ?_) (fun n i hi hn => ?_) 0 (Nat.zero_le _)
  · unfold pX4_buriedMany_4
    refine ⟨v3 (by decide), ?_⟩
    rw [nI_clamp (by decide), hM.S, if_pos (nI_le (by omega) (by omega))]
    exact hq
  · unfold pX4_buriedMany_4
    refine ⟨v3 (by decide), ?_⟩
    rw [nI_clamp (by decide), hM.S, if_neg (nI_ge (by omega) (by omega))]
    refine ⟨v3 (by decide), ?_⟩
    rw [nI_clamp (by decide), hM.D]
    refine t_isBuried (by omega) (by omega) ?_
    by_cases c : 144 * (i + 1) ≤ xD X
    · rw [if_pos c, if_neg nI1_ne0, nI_add, nI_add]
      rwa [show min (i + 1) (xD X / 144) = min i (xD X / 144) + 1 by omega] at hn
    · rw [if_neg c, if_pos nI_0, nI_add, nI_add]
      rwa [show min (i + 1) (xD X / 144) = min i (xD X / 144) + 0 by omega] at hn
def vCou (C : zC) (X : zX) (dn tn : Nat) (x : Int32) : Int32 := if x = nI 0 then nI (xS X) else if x = nI 1 then nI (kT C) else if x = nI 2 then nI (awayN C X) else if x = nI 3 then nI (xD X) else if x = nI 4 then nI (xM X) else if x = nI 5 then nI (bur (xS X) (xD X)) else if x = nI 6 then (nI (xS X) - nI (kT C)) + nI (awayN C X) else if x = nI 7 then nI dn else if x = nI 8 then nI tn else if x = nI 9 then nI (kL C) else (-1 : Int32)
theorem c_count (hw : zWf mb C X1 X dn dX im tr tn tp) (h : cR z a μ C X1 X dn dX im tr tn tp f fp) {x : Int32} {Q : Int32 → zM → Prop} (hq : Q (vCou C X dn tn x) μ) : pX0_count z x μ Q := by
  have e12 : zI μ a 12 = nI (kL C) := h.I.2.2.2.2.2.2.2.2.2.2.1
  unfold vCou at hq
  unfold pX0_count
  rw [h.N.S, h.N.D, h.N.M, h.U.2.1, h.Ta.1]
  by_cases c0 : x = nI 0
  · rw [if_pos c0] at hq ⊢; exact hq
  rw [if_neg c0] at hq ⊢
  by_cases c1 : x = nI 1
  · rw [if_pos c1] at hq ⊢
    refine ⟨a, h.I.2.1, h.I.2.2.1, ?_⟩
    rw [h.I.2.2.T]; exact hq
  rw [if_neg c1] at hq ⊢
  by_cases c2 : x = nI 2
  · rw [if_pos c2] at hq ⊢; exact c_away h.I h.N hw.c hw.x hq
  rw [if_neg c2] at hq ⊢
  by_cases c3 : x = nI 3
  · rw [if_pos c3] at hq ⊢; exact hq
  rw [if_neg c3] at hq ⊢
  by_cases c4 : x = nI 4
  · rw [if_pos c4] at hq ⊢; exact hq
  rw [if_neg c4] at hq ⊢
  by_cases c5 : x = nI 5
  · rw [if_pos c5] at hq ⊢; exact c_buried h.N hw.x hq
  rw [if_neg c5] at hq ⊢
  by_cases c6 : x = nI 6
  · rw [if_pos c6] at hq ⊢
    refine ⟨a, h.I.2.1, h.I.2.2.1, c_away h.I h.N hw.c hw.x ?_⟩
    rw [h.I.2.2.T]; exact hq
  rw [if_neg c6] at hq ⊢
  by_cases c7 : x = nI 7
  · rw [if_pos c7] at hq ⊢; exact hq
  rw [if_neg c7] at hq ⊢
  by_cases c8 : x = nI 8
  · rw [if_pos c8] at hq ⊢; exact hq
  rw [if_neg c8] at hq ⊢
  by_cases c9 : x = nI 9
  · rw [if_pos c9] at hq ⊢
    refine ⟨a, h.I.2.1, h.I.2.2.1, ?_⟩
    rw [e12]; exact hq
  rw [if_neg c9] at hq ⊢
  exact hq
theorem t_count (hw : zWf mb C X1 X dn dX im tr tn tp) (h : tR th μ C X1 X dn dX im tr tn tp f fp) {x : Int32} {Q : Int32 → zM → Prop} (hq : ∀ μ', zOff (ST th) μ μ' → Q (vCou C X dn tn x) μ') : pX4_count th x μ Q := by
  refine t0 (fun μ0 o0 => ?_)
  have h := h.off hw.d10 o0
  replace hq := hq μ0 o0
  unfold vCou at hq
  have e0 : zI μ0 (th + 1) 0 = nI (kL C) := h.M.1.1
  have e66 : zI μ0 (th + 1) 66 = nI dn := h.D.1
  rw [nI_clamp (show 0 < 2 ^ 31 by decide), nI_clamp (show 1 < 2 ^ 31 by decide), nI_clamp (show 20 < 2 ^ 31 by decide), nI_clamp (show 41 < 2 ^ 31 by decide), nI_clamp (show 42 < 2 ^ 31 by decide), nI_clamp (show 66 < 2 ^ 31 by decide), h.M.S, h.M.D, h.M.M, h.M.T, h.Ta.1, e0, e66]
  by_cases c0 : x = nI 0
  · rw [if_pos c0] at hq ⊢; exact ⟨v3 (by decide), hq⟩
  rw [if_neg c0] at hq ⊢
  by_cases c1 : x = nI 1
  · rw [if_pos c1] at hq ⊢; exact ⟨v3 (by decide), hq⟩
  rw [if_neg c1] at hq ⊢
  by_cases c2 : x = nI 2
  · rw [if_pos c2] at hq ⊢; exact t_away h.M hw.c hw.x hq
  rw [if_neg c2] at hq ⊢
  by_cases c3 : x = nI 3
  · rw [if_pos c3] at hq ⊢; exact ⟨v3 (by decide), hq⟩
  rw [if_neg c3] at hq ⊢
  by_cases c4 : x = nI 4
  · rw [if_pos c4] at hq ⊢; exact ⟨v3 (by decide), hq⟩
  rw [if_neg c4] at hq ⊢
  by_cases c5 : x = nI 5
  · rw [if_pos c5] at hq ⊢; exact t_buriedMany h.M hw.x hq
  rw [if_neg c5] at hq ⊢
  by_cases c6 : x = nI 6
  · rw [if_pos c6] at hq ⊢
    refine ⟨v3 (by decide), v3 (by decide), t_away h.M hw.c hw.x ?_⟩
    rw [show nI (xS X) - (nI (kT C) - nI (awayN C X)) = (nI (xS X) - nI (kT C)) + nI (awayN C X) by grind]
    exact hq
  rw [if_neg c6] at hq ⊢
  by_cases c7 : x = nI 7
  · rw [if_pos c7] at hq ⊢; exact ⟨v3 (by decide), hq⟩
  rw [if_neg c7] at hq ⊢
  by_cases c8 : x = nI 8
  · rw [if_pos c8] at hq ⊢; exact hq
  rw [if_neg c8] at hq ⊢
  by_cases c9 : x = nI 9
  · rw [if_pos c9] at hq ⊢; exact ⟨v3 (by decide), hq⟩
  rw [if_neg c9] at hq ⊢
  exact hq
/-! texts fed -/
def bt (v : Int32) (i : Nat) : Nat := (v >>> (nI (24 - 8 * i) &&& 31)).toBitVec.toNat % 2 ^ 8
theorem b255 (w : Int32) : w.toInt8.toInt32.toBitVec.toNat % 2 ^ 8 = w.toBitVec.toNat % 2 ^ 8 := by
  have e : (w.toInt8.toInt32.toBitVec).setWidth 8 = (w.toBitVec).setWidth 8 := by
    apply BitVec.eq_of_getLsbD_eq
    intro i hi
    rw [Int8.toBitVec_toInt32, Int32.toBitVec_toInt8]
    have h32 : i < 32 := by omega
    rw [BitVec.getLsbD_setWidth, BitVec.getLsbD_setWidth, BitVec.getLsbD_signExtend, BitVec.getLsbD_signExtend, if_pos h32, decide_eq_true hi, decide_eq_true h32, if_pos hi]
    rfl
  have := congrArg BitVec.toNat e
  rwa [BitVec.toNat_setWidth, BitVec.toNat_setWidth] at this
theorem bt_lt (v : Int32) (i : Nat) : bt v i < 256 := Nat.mod_lt _ (by decide)
def fa (x1 x2 x3 x4 x5 : Int32) (j : Nat) : Int32 := match j with
  | 0 => x1
  | 1 => x2
  | 2 => x3
  | 3 => x4
  | _ => x5
def tpF (tn : Nat) (tp : Nat → Nat) (g : Nat → Int32) (k : Nat) : Nat := if tn ≤ k ∧ k < tn + 20 then bt (g ((k - tn) / 4)) ((k - tn) % 4) else tp k
def Sb (z x k : Nat) : Prop := (x = z ∧ k = 4) ∨ x = z + 15
theorem c_bytes {n : Nat} (hn : zI μ z 4 = nI n) (h9 : n + 4 ≤ 900) {v : Int32} {Q : zM → Prop} (hq : ∀ μ', zOff (Sb z) μ μ' → zI μ' z 4 = nI (n + 4) → (∀ i, i < 4 → zI μ' (z + 15) (n + i) &&& 255 = nI (bt v i)) → (∀ k, ¬ (n ≤ k ∧ k < n + 4) → zI μ' (z + 15) k = zI μ (z + 15) k) → Q μ') : pX0_bytes z v μ Q := by
  have key : ∀ d j ν, j + d = 4 → zOff (Sb z) μ ν → zI ν z 4 = nI (n + j) → (∀ i, i < j → zI ν (z + 15) (n + i) &&& 255 = nI (bt v i)) → (∀ k, ¬ (n ≤ k ∧ k < n + 4) → zI ν (z + 15) k = zI μ (z + 15) k) → pX0_bytes_3 z v Q (d + 1) (nI (32 - 8 * j) - nI 8) ν := by
    intro d
    induction d with
    | zero =>
      intro j ν hj o h4 h1 h2
      obtain rfl : j = 4 := by omega
      unfold pX0_bytes_3
      rw [if_pos (by decide)]
      exact hq ν o h4 h1 h2
    | succ d ih =>
      intro j ν hj o h4 h1 h2
      unfold pX0_bytes_3
      rw [pk_sub (by omega), show 32 - 8 * j - 8 = 24 - 8 * j by omega, if_neg (nI_pos (by omega)), h4]
      refine ⟨vp_in_nI (by omega) (by decide), ?_⟩
      unfold zpI
      rw [nI_clamp (by omega), pk_vb]
      dsimp only
      rw [show zI (zsI ν (z + 15) (n + j) ((v >>> (nI (24 - 8 * j) &&& 31)).toInt8.toInt32)) z 4 = nI (n + j) by rw [zI_sI, if_neg (by omega)]; exact h4, nI_add]
      have e := ih (j + 1) (zsI (zsI ν (z + 15) (n + j) ((v >>> (nI (24 - 8 * j) &&& 31)).toInt8.toInt32)) z 4 (nI (n + j + 1))) (by omega) ((o.tr (zOff.sI (Or.inr rfl))).tr (zOff.sI (Or.inl ⟨rfl, rfl⟩))) (by rw [zI_sI, if_pos ⟨rfl, rfl⟩, Nat.add_assoc]) (fun i hi => ?_) (fun k hk => ?_)
      · rwa [show 32 - 8 * (j + 1) = 24 - 8 * j by omega] at e
      · rw [zI_sI, if_neg (by omega), zI_sI]
        by_cases c : i = j
        · subst c
          rw [if_pos ⟨rfl, rfl⟩, pk_and _ 8 (by decide), b255]
          rfl
        · rw [if_neg (by omega)]
          exact h1 i (by omega)
      · rw [zI_sI, if_neg (by omega), zI_sI, if_neg (by omega)]
        exact h2 k hk
  exact ⟨5, key 4 0 μ rfl zOff.rf hn (fun i hi => absurd hi (Nat.not_lt_zero _)) (fun _ _ => rfl)⟩
theorem cR.tape (h : cR z a μ C X1 X dn dX im tr tn tp f fp) (ho : zOff (Sb z) μ μ') (hT : cTap z μ' tn' tp') : cR z a μ' C X1 X dn dX im tr tn' tp' f fp := by
  obtain ⟨h1, h2, h3, h4, h5, h6, h7, h8, h9, h10, h11, h12⟩ := h
  have h2' := h2
  unfold zfar at h2'
  have h15 := (h1.tab 2 rfl).2
  dsimp only at h15
  have av : ∀ a', zty μ a' = some (.inl 1) → zfar z a' → tAv (Sb z) μ a' := by
    intro a' ha' f'
    unfold zfar at f'
    refine ⟨fun k => by unfold Sb; omega, fun i k q1 q2 => by unfold Sb; omega, fun x hx k q => ?_⟩
    rcases q with ⟨q, _⟩ | q
    · subst q
      have t0 := h1.main
      rcases hx with hx | hx | hx <;> rw [t0] at hx <;> cases hx
    · subst q
      rcases hx with hx | hx | hx <;> rw [h15] at hx <;> cases hx
  refine ⟨h1.off ho (av a h1.2.2.1 h2), h2, h3.off ho (fun k => by unfold Sb; omega) (fun i k q1 q2 => by unfold Sb; omega), h4.off ho, h5.off ho ?_ ?_ ?_, h6.off ho ?_ av, h7.off ho (fun b k hb hb2 _ => ?_), hT, (ho.I ?_).trans h9, (ho.I ?_).trans h10, fun k hk => (ho.I ?_).trans (h11 k hk), zin.off h12 ho⟩
  · unfold Sb; omega
  · unfold Sb; omega
  · intro x k q1 q2; unfold Sb; omega
  · intro x k q1 q2; unfold Sb; omega
  · unfold Sb; omega
  · unfold Sb; omega
  · unfold Sb; omega
  · unfold Sb; omega
def vFee (tn : Nat) : Int32 := if tn + 20 ≤ 900 then nI (tn + 20) else (-5 : Int32)
def tnF (tn : Nat) : Nat := if tn + 20 ≤ 900 then tn + 20 else tn
def tpG (tn : Nat) (tp : Nat → Nat) (g : Nat → Int32) : Nat → Nat := if tn + 20 ≤ 900 then tpF tn tp g else tp
theorem w_Fee (hw : zWf mb C X1 X dn dX im tr tn tp) (g : Nat → Int32) : zWf mb C X1 X dn dX im tr (tnF tn) (tpG tn tp g) := by
  obtain ⟨h1, h2, h3, h4, h5, h6, h7, h8, h9⟩ := hw
  refine ⟨h1, h2, h3, h4, h5, h6, h7, ?_, fun k => ?_⟩
  · unfold tnF; split <;> omega
  · unfold tpG
    split
    · unfold tpF
      split
      · exact bt_lt _ _
      · exact h9 k
    · exact h9 k
theorem c_feed (hw : zWf mb C X1 X dn dX im tr tn tp) (h : cR z a μ C X1 X dn dX im tr tn tp f fp) {x1 x2 x3 x4 x5 : Int32} {Q : Int32 → zM → Prop} (hq : ∀ μ', cR z a μ' C X1 X dn dX im tr (tnF tn) (tpG tn tp (fa x1 x2 x3 x4 x5)) f fp → Q (vFee tn) μ') : pX0_feed z x1 x2 x3 x4 x5 μ Q := by
  have hn := hw.2.2.2.2.2.2.2.1
  unfold vFee tnF tpG at hq
  unfold pX0_feed
  rw [h.Ta.1, nI_add]
  by_cases c : tn + 20 ≤ 900
  · simp only [if_pos c] at hq
    rw [if_pos (nI_le c (by decide))]
    refine c_bytes h.Ta.1 (by omega) (fun μ1 o1 n1 p1 q1 => ?_)
    refine c_bytes n1 (by omega) (fun μ2 o2 n2 p2 q2 => ?_)
    refine c_bytes n2 (by omega) (fun μ3 o3 n3 p3 q3 => ?_)
    refine c_bytes n3 (by omega) (fun μ4 o4 n4 p4 q4 => ?_)
    refine c_bytes n4 (by omega) (fun μ5 o5 n5 p5 q5 => ?_)
    rw [n5]
    refine hq μ5 (h.tape ((((o1.tr o2).tr o3).tr o4).tr o5) ⟨n5, fun k hk => ?_⟩)
    unfold tpF
    by_cases c0 : k < tn
    · rw [if_neg (by omega), q5 _ (by omega), q4 _ (by omega), q3 _ (by omega), q2 _ (by omega), q1 _ (by omega)]
      exact h.Ta.2 k c0
    rw [if_pos (by omega)]
    rcases (show k < tn + 4 ∨ (tn + 4 ≤ k ∧ k < tn + 8) ∨ (tn + 8 ≤ k ∧ k < tn + 12) ∨ (tn + 12 ≤ k ∧ k < tn + 16) ∨ tn + 16 ≤ k by omega) with c1 | c1 | c1 | c1 | c1
    · have e := p1 (k - tn) (by omega)
      rw [show tn + (k - tn) = k by omega] at e
      rw [q5 _ (by omega), q4 _ (by omega), q3 _ (by omega), q2 _ (by omega), e, show (k - tn) / 4 = 0 by omega, show (k - tn) % 4 = k - tn by omega]
      rfl
    · have e := p2 (k - tn - 4) (by omega)
      rw [show tn + 4 + (k - tn - 4) = k by omega] at e
      rw [q5 _ (by omega), q4 _ (by omega), q3 _ (by omega), e, show (k - tn) / 4 = 1 by omega, show (k - tn) % 4 = k - tn - 4 by omega]
      rfl
    · have e := p3 (k - tn - 8) (by omega)
      rw [show tn + 4 + 4 + (k - tn - 8) = k by omega] at e
      rw [q5 _ (by omega), q4 _ (by omega), e, show (k - tn) / 4 = 2 by omega, show (k - tn) % 4 = k - tn - 8 by omega]
      rfl
    · have e := p4 (k - tn - 12) (by omega)
      rw [show tn + 4 + 4 + 4 + (k - tn - 12) = k by omega] at e
      rw [q5 _ (by omega), e, show (k - tn) / 4 = 3 by omega, show (k - tn) % 4 = k - tn - 12 by omega]
      rfl
    · have e := p5 (k - tn - 16) (by omega)
      rw [show tn + 4 + 4 + 4 + 4 + (k - tn - 16) = k by omega] at e
      rw [e, show (k - tn) / 4 = 4 by omega, show (k - tn) % 4 = k - tn - 16 by omega]
      rfl
  · simp only [if_neg c] at hq
    rw [if_neg (nI_ge (by omega) (by omega))]
    exact hq μ h
def Sbt (th x k : Nat) : Prop := (x = th ∧ k = 5) ∨ x = th + 3
theorem tR.tape (h : tR th μ C X1 X dn dX im tr tn tp f fp) (h9 : dn ≤ 10) (ho : zOff (Sbt th) μ μ') (hT : tTap th μ' tn' tp') : tR th μ' C X1 X dn dX im tr tn' tp' f fp := by
  obtain ⟨h1, h2, h3, h4, h5, h6, h7, h8⟩ := h
  refine ⟨h1.off ho ?_, h2.off ho ?_, h3.off ho h9 ?_, h4.off ho ?_ ?_, h5.off ho ?_ ?_ ?_, hT, (ho.I ?_).trans h7, (ho.I ?_).trans h8⟩
  all_goals first | (intro k; unfold Sbt; omega) | (intro k _; unfold Sbt; omega) | (intro k _ _; unfold Sbt; omega) | (unfold Sbt; omega)
theorem t_feed (hw : zWf mb C X1 X dn dX im tr tn tp) (h : tR th μ C X1 X dn dX im tr tn tp f fp) {x1 x2 x3 x4 x5 : Int32} {Q : Int32 → zM → Prop} (hq : ∀ μ', tR th μ' C X1 X dn dX im tr (tnF tn) (tpG tn tp (fa x1 x2 x3 x4 x5)) f fp → Q (vFee tn) μ') : pX4_feed th x1 x2 x3 x4 x5 μ Q := by
  have hn := hw.2.2.2.2.2.2.2.1
  unfold vFee tnF tpG at hq
  refine t0 (fun μ0 o0 => ?_)
  have h0 := h.off hw.d10 o0
  rw [h0.Ta.1, nI_add]
  by_cases c : tn + 20 ≤ 900
  · simp only [if_pos c] at hq
    rw [if_pos (nI_le c (by decide))]
    refine zupS (W := fun f i ν => pX4_feed_24 th x1 x2 x3 x4 x5 Q f (nI i) ν) (fun i ν => zOff (Sbt th) μ0 ν ∧ zI ν th 5 = nI (tn + i) ∧ ∀ k, k < tn + i → zI ν (th + 3) k = nI (tpF tn tp (fa x1 x2 x3 x4 x5) k)) 20 (fun f ν hν => ?_) (fun f i ν hi hν ih => ?_) 0 μ0 (Nat.zero_le _) ⟨zOff.rf, h0.Ta.1, fun k hk => by unfold tpF; rw [if_neg (by omega)]; exact h0.Ta.2 k (by omega)⟩
    · unfold pX4_feed_24
      rw [if_pos (nI_le (Nat.le_refl _) (by decide)), hν.2.1]
      exact hq ν (h0.tape hw.d10 hν.1 ⟨hν.2.1, hν.2.2⟩)
    · obtain ⟨g1, g2, g3⟩ := hν
      have put : ∀ v, fa x1 x2 x3 x4 x5 (i / 4) = v → pX4_feed_77 th x1 x2 x3 x4 x5 (fun v0 ν => pX4_feed_24 th x1 x2 x3 x4 x5 Q f v0 ν) Q (nI i) v ν := by
        intro v hv
        unfold pX4_feed_77
        rw [g2]
        refine ⟨vp_in_nI (by omega) (by decide), ?_⟩
        unfold zpI
        rw [nI_clamp (by omega), pk_rem (by omega) (by decide) (by decide), pk_mul, pk_sub (by omega), pk_and _ 8 (by decide)]
        dsimp only
        rw [show zI (zsI ν (th + 3) (tn + i) (nI ((v >>> (nI (24 - 8 * (i % 4)) &&& 31)).toBitVec.toNat % 2 ^ 8))) th 5 = nI (tn + i) by rw [zI_sI, if_neg (by omega)]; exact g2, nI_add, nI_add]
        refine ih _ ⟨(g1.tr (zOff.sI (Or.inr rfl))).tr (zOff.sI (Or.inl ⟨rfl, rfl⟩)), by rw [zI_sI, if_pos ⟨rfl, rfl⟩, Nat.add_assoc], fun k hk => ?_⟩
        rw [zI_sI, if_neg (by omega), zI_sI]
        by_cases e : k = tn + i
        · subst e
          rw [if_pos ⟨rfl, rfl⟩]
          unfold tpF
          rw [if_pos (by omega), show tn + i - tn = i by omega, hv]
          rfl
        · rw [if_neg (by omega)]
          exact g3 k (by omega)
      unfold pX4_feed_24
      rw [if_neg (nI_ge (by omega) (by decide))]
      by_cases d1 : i < 4
      · rw [if_neg (nI_ge d1 (by decide))]
        exact put _ (by rw [show i / 4 = 0 by omega]; rfl)
      rw [if_pos (nI_le (by omega) (by omega))]
      by_cases d2 : i < 8
      · rw [if_neg (nI_ge d2 (by decide))]
        exact put _ (by rw [show i / 4 = 1 by omega]; rfl)
      rw [if_pos (nI_le (by omega) (by omega))]
      by_cases d3 : i < 12
      · rw [if_neg (nI_ge d3 (by decide))]
        exact put _ (by rw [show i / 4 = 2 by omega]; rfl)
      rw [if_pos (nI_le (by omega) (by omega))]
      by_cases d4 : i < 16
      · rw [if_neg (nI_ge d4 (by decide))]
        exact put _ (by rw [show i / 4 = 3 by omega]; rfl)
      rw [if_pos (nI_le (by omega) (by omega))]
      exact put _ (by rw [show i / 4 = 4 by omega]; rfl)
  · simp only [if_neg c] at hq
    rw [if_neg (nI_ge (by omega) (by omega))]
    exact hq μ0 h0
end RA
