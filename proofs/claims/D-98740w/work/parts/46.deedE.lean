/-! deeds drawn: years -/
def dr1 (x : Int32) : Int32 := nI 1103515245 * x + nI 12345
def drw (y n : Int32) : Int32 := ((y.toUInt32 >>> ((nI 16).toUInt32 &&& Int32.toUInt32 31)).toInt32) - ((y.toUInt32 >>> ((nI 16).toUInt32 &&& Int32.toUInt32 31)).toInt32) / n * n
/-- a deed drawn, the next seed -/
def tolN (C : zC) (X : zX) (x : Int32) : Int32 × Int32 := if nI 2 ≤ drw (dr1 x) (nI 6) then (if drw (dr1 x) (nI 6) = nI 3 then (nI 3000, dr1 x) else if drw (dr1 x) (nI 6) = nI 4 then (nI 2000, dr1 x) else if drw (dr1 x) (nI 6) = nI 2 then (nI 100 * drw (dr1 (dr1 x)) (nI (kT C)) + drw (dr1 (dr1 (dr1 x))) (nI (xS X)), dr1 (dr1 (dr1 x))) else (nI 10000 + nI 1000 * drw (dr1 (dr1 x)) (nI (kT C)) + drw (dr1 (dr1 (dr1 x))) (nI 1000), dr1 (dr1 (dr1 x)))) else ((-1 : Int32), dr1 x)
noncomputable def yrN (C : zC) : Nat → Nat → Int32 → zX → Nat × zX
  | 0, n, _, X => (n, X)
  | d + 1, n, x, X => if whyN C X (tolN C X x).1.toInt = 0 then yrN C d (n + 1) (tolN C X x).2 (xDo C X (tolN C X x).1.toInt) else yrN C d n (tolN C X x).2 X
theorem yrN_spec {C : zC} {m : Nat} (hC : wfC C) : ∀ (d n mb : Nat) (x : Int32) (X : zX), d ≤ m → wfX C X mb → wfX C (yrN C d n x X).2 (mb + d) ∧ n ≤ (yrN C d n x X).1 ∧ (yrN C d n x X).1 ≤ n + d ∧ ((yrN C d n x X).1 = n → (yrN C d n x X).2 = X) := by
  intro d
  induction d with
  | zero =>
    intro n mb x X _ hX
    exact ⟨hX, Nat.le_refl _, Nat.le_refl _, fun _ => rfl⟩
  | succ d ih =>
    intro n mb x X hd hX
    rw [yrN]
    by_cases c : whyN C X (tolN C X x).1.toInt = 0
    · rw [if_pos c]
      obtain ⟨i1, i2, i3, i4⟩ := ih (n + 1) (mb + 1) (tolN C X x).2 (xDo C X (tolN C X x).1.toInt) (by omega) (hX.deed hC c)
      exact ⟨wfX.up i1 (by omega), by omega, by omega, fun e => by omega⟩
    · rw [if_neg c]
      obtain ⟨i1, i2, i3, i4⟩ := ih n mb (tolN C X x).2 X (by omega) hX
      exact ⟨wfX.up i1 (by omega), i2, by omega, i4⟩
section DE
variable {z th a s : Nat} {μ μ' : zM} {C : zC} {X1 X Y : zX} {dn dn' : Nat} {dX dX' : Nat → zX} {im : zIm} {tr : zTy} {tn : Nat} {tp : Nat → Nat} {f fp : Int32} {mb b0 : Nat}
theorem c_draw {n : Int32} (hn : n ≠ 0) {Q : Int32 → zM → Prop} (hq : Q (drw (dr1 (zI μ z 10)) n) (zsI μ z 10 (dr1 (zI μ z 10)))) : pX0_draw z n μ Q := by
  refine ⟨hn, ?_⟩
  have e : zI (zsI μ z 10 (dr1 (zI μ z 10))) z 10 = dr1 (zI μ z 10) := by rw [zI_sI, if_pos ⟨rfl, rfl⟩]
  show Q (drw (zI (zsI μ z 10 (dr1 (zI μ z 10))) z 10) n) (zsI μ z 10 (dr1 (zI μ z 10)))
  rw [e]
  exact hq
theorem t_draw {n : Int32} (hn : n ≠ 0) {Q : Int32 → zM → Prop} (hq : Q (drw (dr1 (zI μ th 22)) n) (zsI μ th 22 (dr1 (zI μ th 22)))) : pX4_draw th n μ Q := by
  refine ⟨hn, ?_⟩
  have e : zI (zsI μ th 22 (dr1 (zI μ th 22))) th 22 = dr1 (zI μ th 22) := by rw [zI_sI, if_pos ⟨rfl, rfl⟩]
  show Q (drw (zI (zsI μ th 22 (dr1 (zI μ th 22))) th 22) n) (zsI μ th 22 (dr1 (zI μ th 22)))
  rw [e]
  exact hq
theorem nI_nz {n : Nat} (hn : n < 2 ^ 31) (h : n ≠ 0) : nI n ≠ 0 := fun q => h ((nI_eq hn (by decide)).mp (q.trans nI_0.symm))
theorem c_told (hI : cIts z μ a C X1) (hf : zfar z a) (hs : cSt μ (z + 11) X 0) (hC : wfC C) (hX : wfX C X mb) (h1 : kT C ≠ 0) (h2 : xS X ≠ 0) {x : Int32} (hx : zI μ z 10 = x) {Q : Int32 → zM → Prop} (hq : ∀ μ', zOff (fun y k => y = z ∧ k = 10) μ μ' → zI μ' z 10 = (tolN C X x).2 → Q (tolN C X x).1 μ') : pX0_told z μ Q := by
  have hT := hC.1
  have hS := hX.1
  unfold zfar at hf
  have oz : ∀ (ν : zM) (v : Int32), zOff (fun y k => y = z ∧ k = 10) ν (zsI ν z 10 v) := fun ν v => zOff.sI ⟨rfl, rfl⟩
  have ez : ∀ (ν : zM) (v : Int32), zI (zsI ν z 10 v) z 10 = v := fun ν v => by rw [zI_sI, if_pos ⟨rfl, rfl⟩]
  subst hx
  unfold tolN at hq
  refine c_draw (by decide) ?_
  by_cases c1 : nI 2 ≤ drw (dr1 (zI μ z 10)) (nI 6)
  · simp only [if_pos c1] at hq
    rw [if_pos c1]
    by_cases c2 : drw (dr1 (zI μ z 10)) (nI 6) = nI 3
    · simp only [if_pos c2] at hq
      rw [if_pos c2]
      exact hq _ (oz _ _) (ez _ _)
    simp only [if_neg c2] at hq
    rw [if_neg c2]
    by_cases c3 : drw (dr1 (zI μ z 10)) (nI 6) = nI 4
    · simp only [if_pos c3] at hq
      rw [if_pos c3]
      exact hq _ (oz _ _) (ez _ _)
    simp only [if_neg c3] at hq
    rw [if_neg c3]
    refine ⟨a, hI.2.1, hI.2.2.1, ?_⟩
    rw [show zI (zsI μ z 10 (dr1 (zI μ z 10))) a 6 = nI (kT C) by rw [zI_sI, if_neg (by omega)]; exact hI.2.2.T]
    refine c_draw (nI_nz (by omega) h1) ?_
    rw [ez]
    by_cases c4 : drw (dr1 (zI μ z 10)) (nI 6) = nI 2
    · simp only [if_pos c4] at hq
      rw [if_pos c4]
      rw [show zI (zsI (zsI μ z 10 (dr1 (zI μ z 10))) z 10 (dr1 (dr1 (zI μ z 10)))) (z + 11) 3 = nI (xS X) by rw [zI_sI, if_neg (by omega), zI_sI, if_neg (by omega)]; exact hs.S]
      refine c_draw (nI_nz (by omega) h2) ?_
      rw [ez]
      exact hq _ (((oz _ _).tr (oz _ _)).tr (oz _ _)) (ez _ _)
    · simp only [if_neg c4] at hq
      rw [if_neg c4]
      refine c_draw (by decide) ?_
      rw [ez]
      exact hq _ (((oz _ _).tr (oz _ _)).tr (oz _ _)) (ez _ _)
  · simp only [if_neg c1] at hq
    rw [if_neg c1]
    exact hq _ (oz _ _) (ez _ _)
theorem t_drawn (hM : tM th μ C X) (hC : wfC C) (hX : wfX C X mb) (h1 : kT C ≠ 0) (h2 : xS X ≠ 0) {x : Int32} (hx : zI μ th 22 = x) {Q : Int32 → zM → Prop} (hq : ∀ μ', zOff (fun y k => y = th ∧ k = 22) μ μ' → zI μ' th 22 = (tolN C X x).2 → Q (tolN C X x).1 μ') : pX4_drawn th μ Q := by
  have hT := hC.1
  have hS := hX.1
  have oz : ∀ (ν : zM) (v : Int32), zOff (fun y k => y = th ∧ k = 22) ν (zsI ν th 22 v) := fun ν v => zOff.sI ⟨rfl, rfl⟩
  have ez : ∀ (ν : zM) (v : Int32), zI (zsI ν th 22 v) th 22 = v := fun ν v => by rw [zI_sI, if_pos ⟨rfl, rfl⟩]
  subst hx
  unfold tolN at hq
  refine t_draw (by decide) ?_
  by_cases c1 : nI 2 ≤ drw (dr1 (zI μ th 22)) (nI 6)
  · simp only [if_pos c1] at hq
    rw [if_pos c1]
    by_cases c2 : drw (dr1 (zI μ th 22)) (nI 6) = nI 3
    · simp only [if_pos c2] at hq
      rw [if_pos c2]
      exact hq _ (oz _ _) (ez _ _)
    simp only [if_neg c2] at hq
    rw [if_neg c2]
    by_cases c3 : drw (dr1 (zI μ th 22)) (nI 6) = nI 4
    · simp only [if_pos c3] at hq
      rw [if_pos c3]
      exact hq _ (oz _ _) (ez _ _)
    simp only [if_neg c3] at hq
    rw [if_neg c3]
    refine ⟨v3 (by decide), ?_⟩
    rw [nI_clamp (by decide), show zI (zsI μ th 22 (dr1 (zI μ th 22))) (th + 1) 1 = nI (kT C) by rw [zI_sI, if_neg (by omega)]; exact hM.T]
    refine t_draw (nI_nz (by omega) h1) ?_
    rw [ez]
    by_cases c4 : drw (dr1 (zI μ th 22)) (nI 6) = nI 2
    · simp only [if_pos c4] at hq
      rw [if_pos c4]
      refine ⟨v3 (by decide), ?_⟩
      rw [nI_clamp (by decide), show zI (zsI (zsI μ th 22 (dr1 (zI μ th 22))) th 22 (dr1 (dr1 (zI μ th 22)))) (th + 1) 20 = nI (xS X) by rw [zI_sI, if_neg (by omega), zI_sI, if_neg (by omega)]; exact hM.S]
      refine t_draw (nI_nz (by omega) h2) ?_
      rw [ez]
      exact hq _ (((oz _ _).tr (oz _ _)).tr (oz _ _)) (ez _ _)
    · simp only [if_neg c4] at hq
      rw [if_neg c4]
      refine t_draw (by decide) ?_
      rw [ez]
      exact hq _ (((oz _ _).tr (oz _ _)).tr (oz _ _)) (ez _ _)
  · simp only [if_neg c1] at hq
    rw [if_neg c1]
    exact hq _ (oz _ _) (ez _ _)
noncomputable def oYea (C : zC) (X : zX) (x y : Int32) : Option zX := if 1 ≤ y.toInt ∧ y.toInt ≤ 30 then (if xS X = 0 then none else if kT C = 0 then none else if (yrN C y.toInt.toNat 0 x X).1 = 0 then none else some (yrN C y.toInt.toNat 0 x X).2) else none
noncomputable def vYea (C : zC) (X : zX) (x y : Int32) : Int32 := if 1 ≤ y.toInt ∧ y.toInt ≤ 30 then (if xS X = 0 then (-5 : Int32) else if kT C = 0 then (-5 : Int32) else nI (yrN C y.toInt.toNat 0 x X).1) else (-3 : Int32)
theorem w_Yea (hC : wfC C) (hX : wfX C X mb) {x y : Int32} : ∀ Y, oYea C X x y = some Y → wfX C Y (mb + 30) := by
  intro Y h
  unfold oYea at h
  split at h
  · rename_i c
    split at h
    · cases h
    · split at h
      · cases h
      · split at h
        · cases h
        · cases h
          exact wfX.up (yrN_spec (m := y.toInt.toNat) hC y.toInt.toNat 0 mb x X (Nat.le_refl _) hX).1 (by omega)
  · cases h
theorem c_years (hw : zWf mb C X1 X dn dX im tr tn tp) (hm : mb ≤ 80000) (h : cR z a μ C X1 X dn dX im tr tn tp f fp) {x y : Int32} {Q : Int32 → zM → Prop} (hq : ∀ μ', cR z a μ' C X1 (aX X (oYea C X x y)) (aN dn (oYea C X x y)) (aU dn dX X (oYea C X x y)) im tr tn tp f fp → Q (vYea C X x y) μ') : pX0_years z x y μ Q := by
  have hT := hw.c.1
  have hS := hw.x.1
  unfold oYea vYea at hq
  refine rin32 (a := 1) (b := 30) rfl rfl (fun q1 q2 => if01 ?_) (fun q => if00 ?_)
  · simp only [if_pos (show 1 ≤ y.toInt ∧ y.toInt ≤ 30 from ⟨q1, q2⟩)] at hq
    rw [h.N.S]
    by_cases c1 : xS X = 0
    · simp only [if_pos c1] at hq
      rw [c1, if_pos nI_0]
      exact hq μ h
    simp only [if_neg c1] at hq
    rw [if_neg (nI_nz (by omega) c1)]
    refine ⟨a, h.I.2.1, h.I.2.2.1, ?_⟩
    rw [h.I.2.2.T]
    by_cases c2 : kT C = 0
    · simp only [if_pos c2] at hq
      rw [c2, if_pos nI_0]
      exact hq μ h
    simp only [if_neg c2] at hq
    rw [if_neg (nI_nz (by omega) c2)]
    obtain ⟨m, m1, rfl, m3⟩ := i32N (show 0 ≤ y.toInt by omega)
    rw [m3, Int.toNat_natCast] at hq
    refine h.think (fun r μ1 o1 h1 t1 => ?_)
    unfold zpI
    have key : ∀ d k n xk Xk mk ν, k + d = m → n ≤ k → cR z a ν C X1 X dn dX im tr tn tp f fp → cSt ν (z + 11) Xk 0 → wfX C Xk (mb + mk) → mk ≤ k → xS Xk ≠ 0 → zI ν z 10 = xk → yrN C d n xk Xk = yrN C m 0 x X → pX0_years_60 z (nI m) Q (d + 1) (nI n) (nI k) ν := by
      intro d
      induction d with
      | zero =>
        intro k n xk Xk mk ν hk hn hR hs hX hmk hSk h10 he
        rw [yrN] at he
        rw [← he] at hq
        unfold pX0_years_60
        rw [if_pos (nI_le (by omega) (by omega))]
        by_cases c : n = 0
        · simp only [if_pos c] at hq
          rw [c] at hq
          rw [c, if_pos nI_0]
          exact hq ν hR
        · simp only [if_neg c] at hq
          rw [if_neg (nI_nz (by omega) c)]
          exact hR.take hs (fun r μ3 h3 => hq μ3 h3)
      | succ d ih =>
        intro k n xk Xk mk ν hk hn hR hs hX hmk hSk h10 he
        rw [yrN] at he
        unfold pX0_years_60
        rw [if_neg (nI_ge (by omega) (by omega))]
        refine c_told hR.I hR.far hs hw.c hX c2 hSk h10 (fun μ2 o2 e2 => ?_)
        have o3 : zOff (SC z a) ν μ2 := o2.mono (fun y k q => by unfold SC; omega)
        have hR2 := hR.off o3
        have hs2 := hs.off o2 (fun k q => by omega) (fun i k h1 h2 q => by omega)
        refine c_why hR2.I hs2 hw.c hX ?_
        rw [Int32.toInt_toInt64]
        have hl := whyN_le (C := C) (X := Xk) (v := (tolN C Xk xk).1.toInt)
        by_cases c : whyN C Xk (tolN C Xk xk).1.toInt = 0
        · rw [if_pos c] at he
          rw [c]
          refine if00 (c_does hR2.I hR2.far hs2 hw.c hX (by omega) rfl c (fun μ3 o4 h3 => ?_))
          rw [nI_add, nI_add]
          exact ih (k + 1) (n + 1) _ _ (mk + 1) μ3 (by omega) (by omega) (hR2.off (SH.c o4)) h3 (hX.deed hw.c c) (by omega) (by have := xDo_S (C := C) (X := Xk) (v := (tolN C Xk xk).1.toInt); omega) ((o4.I (by have := hR2.far; unfold zfar at this; unfold SH; omega)).trans e2) he
        · rw [if_neg c] at he
          rw [if_neg (nI_nz (by omega) c), nI_add]
          exact ih (k + 1) n _ Xk mk μ2 (by omega) (by omega) hR2 hs2 hX (by omega) hSk e2 he
    refine ⟨_, key m 0 0 x X 0 _ (by omega) (Nat.le_refl _) (h1.off (zOff.sI (by unfold SC; omega))) (t1.off (S := fun y k => y = z ∧ k = 10) (zOff.sI ⟨rfl, rfl⟩) (fun k q => by omega) (fun i k h1 h2 q => by omega)) hw.x (Nat.le_refl _) c1 (by rw [zI_sI, if_pos ⟨rfl, rfl⟩]) rfl⟩
  · simp only [if_neg q] at hq
    exact hq μ h
theorem t_years (hw : zWf mb C X1 X dn dX im tr tn tp) (hm : mb ≤ 80000) (h : tR th μ C X1 X dn dX im tr tn tp f fp) {x y : Int32} {Q : Int32 → zM → Prop} (hq : ∀ μ', tR th μ' C X1 (aX X (oYea C X x y)) (aN dn (oYea C X x y)) (aU dn dX X (oYea C X x y)) im tr tn tp f fp → Q (vYea C X x y) μ') : pX4_years th x y μ Q := by
  have hT := hw.c.1
  have hS := hw.x.1
  unfold oYea vYea at hq
  refine t0 (fun μ0 o0 => ?_)
  have h0 := h.off hw.d10 o0
  refine rin32 (a := 1) (b := 30) rfl rfl (fun q1 q2 => if01 ⟨v3 (by decide), ?_⟩) (fun q => if00 ?_)
  · simp only [if_pos (show 1 ≤ y.toInt ∧ y.toInt ≤ 30 from ⟨q1, q2⟩)] at hq
    rw [nI_clamp (by decide), h0.M.S]
    by_cases c1 : xS X = 0
    · simp only [if_pos c1] at hq
      rw [c1, if_pos nI_0]
      exact hq μ0 h0
    simp only [if_neg c1] at hq
    rw [if_neg (nI_nz (by omega) c1)]
    refine ⟨v3 (by decide), ?_⟩
    rw [nI_clamp (by decide), h0.M.T]
    by_cases c2 : kT C = 0
    · simp only [if_pos c2] at hq
      rw [c2, if_pos nI_0]
      exact hq μ0 h0
    simp only [if_neg c2] at hq
    rw [if_neg (nI_nz (by omega) c2)]
    obtain ⟨m, m1, rfl, m3⟩ := i32N (show 0 ≤ y.toInt by omega)
    rw [m3, Int.toNat_natCast] at hq
    obtain ⟨y1, y2, y3, y4⟩ := yrN_spec (m := m) hw.c m 0 mb x X (Nat.le_refl _) hw.x
    refine h0.keep hw.d10 (fun μ1 o1 h1 w1 => ?_)
    unfold zpI
    have key : ∀ d k n xk Xk mk ν, k + d = m → n ≤ k → zOff (SG2 th) μ1 ν → tM th ν C Xk → wfX C Xk (mb + mk) → mk ≤ k → xS Xk ≠ 0 → zI ν th 22 = xk → yrN C d n xk Xk = yrN C m 0 x X → pX4_years_56 th (nI m) Q (d + 1) (nI n) (nI k) ν := by
      intro d
      induction d with
      | zero =>
        intro k n xk Xk mk ν hk hn o hMk hX hmk hSk h22 he
        rw [yrN] at he
        rw [← he] at hq y4
        have o4 : zOff (SE th) μ1 ν := o.mono (fun x k q => by unfold SG2 at q; unfold SE ST Sr; omega)
        unfold pX4_years_56
        rw [if_pos (nI_le (by omega) (by omega))]
        by_cases c : n = 0
        · simp only [if_pos c] at hq
          rw [c] at hq
          rw [c, if_pos (by decide)]
          have e : Xk = X := y4 c
          rw [e] at hMk
          exact hq ν (h1.upd (o4.mono (fun x k q => Or.inl q)) hMk (h1.D.off o4 hw.d10 (fun k q1 q2 => by unfold SE ST Sr; omega)))
        · simp only [if_neg c] at hq
          rw [if_neg (show ¬ nI n ≤ 0 by rw [← nI_0]; exact nI_ge (by omega) (by omega))]
          exact h1.fin hw.d10 o4 (w1.off o (fun k hk q => by unfold SG2 at q; omega)) hMk (fun μ3 h3 _ => hq μ3 h3)
      | succ d ih =>
        intro k n xk Xk mk ν hk hn o hMk hX hmk hSk h22 he
        rw [yrN] at he
        unfold pX4_years_56
        rw [if_neg (nI_ge (by omega) (by omega))]
        refine t_drawn hMk hw.c hX c2 hSk h22 (fun μ2 o2 e2 => ?_)
        have o3 : zOff (SG2 th) ν μ2 := o2.mono (fun y k q => by unfold SG2; omega)
        have hM2 := hMk.off o2 (fun k q => by omega)
        refine u_why hM2 hw.c hX ?_
        rw [Int32.toInt_toInt64]
        have hl := whyN_le (C := C) (X := Xk) (v := (tolN C Xk xk).1.toInt)
        by_cases c : whyN C Xk (tolN C Xk xk).1.toInt = 0
        · rw [if_pos c] at he
          rw [c]
          refine if00 (t_does hM2 hw.c hX (by omega) rfl c (fun μ3 o4 h3 => ?_))
          rw [nI_add, nI_add]
          exact ih (k + 1) (n + 1) _ _ (mk + 1) μ3 (by omega) (by omega) ((o.tr o3).tr (o4.mono (fun x k q => by unfold SG at q; unfold SG2; omega))) h3 (hX.deed hw.c c) (by omega) (by have := xDo_S (C := C) (X := Xk) (v := (tolN C Xk xk).1.toInt); omega) ((o4.I (by unfold SG; omega)).trans e2) he
        · rw [if_neg c] at he
          rw [if_neg (nI_nz (by omega) c), nI_add]
          exact ih (k + 1) n _ Xk mk μ2 (by omega) (by omega) (o.tr o3) hM2 hX (by omega) hSk e2 he
    refine ⟨_, key m 0 0 x X 0 _ (by omega) (Nat.le_refl _) (zOff.sI (by unfold SG2; omega)) (h1.M.offG (zOff.sI rfl)) hw.x (Nat.le_refl _) c1 (by rw [zI_sI, if_pos ⟨rfl, rfl⟩]) rfl⟩
  · simp only [if_neg q] at hq
    exact hq μ0 h0
end DE
