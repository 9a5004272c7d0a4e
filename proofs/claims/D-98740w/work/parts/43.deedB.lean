/-! deeds: months, storeys, moves, goods, undo -/
section DB
variable {z th a s : Nat} {μ μ' : zM} {C : zC} {X1 X Y : zX} {dn dn' : Nat} {dX dX' : Nat → zX} {im : zIm} {tr : zTy} {tn : Nat} {tp : Nat → Nat} {f fp : Int32} {mb b0 : Nat}
def oMon (C : zC) (X : zX) (x : Int32) : Option zX := if 1 ≤ x.toInt ∧ x.toInt ≤ 99 then some (xgo C 0 x.toInt.toNat X) else none
def vMon (C : zC) (X : zX) (x : Int32) : Int32 := if 1 ≤ x.toInt ∧ x.toInt ≤ 99 then nI (xD (xgo C 0 x.toInt.toNat X)) - nI (xD X) else (-3 : Int32)
theorem w_Mon (hX : wfX C X mb) {x : Int32} : ∀ Y, oMon C X x = some Y → wfX C Y (mb + 99) := by
  intro Y h
  unfold oMon at h
  split at h
  · rename_i c
    cases h
    exact (hX.go _).up (by omega)
  · cases h
theorem c_months (hw : zWf mb C X1 X dn dX im tr tn tp) (hm : mb ≤ 90000) (h : cR z a μ C X1 X dn dX im tr tn tp f fp) {x : Int32} {Q : Int32 → zM → Prop} (hq : ∀ μ', cR z a μ' C X1 (aX X (oMon C X x)) (aN dn (oMon C X x)) (aU dn dX X (oMon C X x)) im tr tn tp f fp → Q (vMon C X x) μ') : pX0_months z x μ Q := by
  unfold oMon vMon at hq
  refine rin32 (a := 1) (b := 99) rfl rfl (fun q1 q2 => if01 ?_) (fun q => if00 ?_)
  · simp only [if_pos (show 1 ≤ x.toInt ∧ x.toInt ≤ 99 from ⟨q1, q2⟩)] at hq
    obtain ⟨n, n1, rfl, n3⟩ := i32N (show 0 ≤ x.toInt by omega)
    rw [n3, Int.toNat_natCast] at hq
    refine h.keep (fun μ1 o1 hI1 hN1 up => ?_)
    refine c_goesOn hI1 hN1 hw.c hw.x (by decide) (by omega) (by omega) (fun μ2 o2 h2 h3 => ?_)
    exact hq μ2 (up _ μ2 (o2.mono (fun x k q => by unfold Ss at q; unfold SC So; omega)) h3)
  · simp only [if_neg q] at hq
    exact hq μ h
theorem t_months (hw : zWf mb C X1 X dn dX im tr tn tp) (hm : mb ≤ 90000) (h : tR th μ C X1 X dn dX im tr tn tp f fp) {x : Int32} {Q : Int32 → zM → Prop} (hq : ∀ μ', tR th μ' C X1 (aX X (oMon C X x)) (aN dn (oMon C X x)) (aU dn dX X (oMon C X x)) im tr tn tp f fp → Q (vMon C X x) μ') : pX4_months th x μ Q := by
  unfold oMon vMon at hq
  refine t0 (fun μ0 o0 => ?_)
  have h0 := h.off hw.d10 o0
  refine rin32 (a := 1) (b := 99) rfl rfl (fun q1 q2 => if01 ?_) (fun q => if00 ?_)
  · simp only [if_pos (show 1 ≤ x.toInt ∧ x.toInt ≤ 99 from ⟨q1, q2⟩)] at hq
    obtain ⟨n, n1, rfl, n3⟩ := i32N (show 0 ≤ x.toInt by omega)
    rw [n3, Int.toNat_natCast] at hq
    refine h0.keep hw.d10 (fun μ1 o1 h1 w1 => ?_)
    refine c_t_months h1.M hw.c hw.x (by omega) (by omega) (fun μ2 o2 hM2 => ?_)
    have w2 := w1.off o2 (fun k hk q => by unfold Sm at q; omega)
    refine h1.fin hw.d10 (o2.mono (fun x k q => by unfold Sm at q; unfold SE ST Sr; omega)) w2 hM2 (fun μ3 h3 w3 => ⟨v3 (by decide), vp_in_nI (by decide) (by decide), ?_⟩)
    have e21 : zI μ3 (th + 7) 21 = nI (xD X) := w3.2.2.2.2.1
    rw [nI_clamp (by decide), nI_clamp (by decide), h3.M.D, e21]
    exact hq μ3 h3
  · simp only [if_neg q] at hq
    exact hq μ0 h0
def oBui (C : zC) (X : zX) : Option zX := if xS X = 8 then none else some (xbu C X)
def vBui (X : zX) : Int32 := if xS X = 8 then (-12 : Int32) else nI (xS X)
theorem w_Bui (hC : wfC C) (hX : wfX C X mb) : ∀ Y, oBui C X = some Y → wfX C Y mb := by
  intro Y h
  have := hX.1
  unfold oBui at h
  split at h
  · cases h
  · cases h
    exact hX.bu hC (by omega)
theorem c_buildsQ (hw : zWf mb C X1 X dn dX im tr tn tp) (h : cR z a μ C X1 X dn dX im tr tn tp f fp) {Q : Int32 → zM → Prop} (hq : ∀ μ', cR z a μ' C X1 (aX X (oBui C X)) (aN dn (oBui C X)) (aU dn dX X (oBui C X)) im tr tn tp f fp → Q (vBui X) μ') : pX0_builds z μ Q := by
  have hS := hw.x.1
  unfold oBui vBui at hq
  unfold pX0_builds
  rw [h.N.S]
  by_cases c : xS X = 8
  · simp only [if_pos c] at hq
    rw [if_pos (by rw [c])]
    exact hq μ h
  · simp only [if_neg c] at hq
    rw [if_neg (fun q => c ((nI_eq (by omega) (by omega)).mp q))]
    refine h.keep (fun μ1 o1 hI1 hN1 up => ?_)
    refine c_builds hI1 hN1 hI1.2.2.2.2.2.2.2.1 (by omega) (fun μ2 o2 h3 => ?_)
    have h4 := up _ μ2 (o2.mono (fun x k q => Or.inr q)) h3
    have e : zI μ2 (z + 7) 3 - nI 1 = nI (xS X) := by
      rw [h3.S]
      exact nI_pred _
    rw [e]
    exact hq μ2 h4
theorem t_buildsQ (hw : zWf mb C X1 X dn dX im tr tn tp) (h : tR th μ C X1 X dn dX im tr tn tp f fp) {Q : Int32 → zM → Prop} (hq : ∀ μ', tR th μ' C X1 (aX X (oBui C X)) (aN dn (oBui C X)) (aU dn dX X (oBui C X)) im tr tn tp f fp → Q (vBui X) μ') : pX4_builds th μ Q := by
  have hS := hw.x.1
  unfold oBui vBui at hq
  refine t0 (fun μ0 o0 => ⟨v3 (by decide), ?_⟩)
  have h0 := h.off hw.d10 o0
  rw [nI_clamp (by decide), h0.M.S]
  by_cases c : xS X = 8
  · simp only [if_pos c] at hq
    rw [if_pos (by rw [c])]
    exact hq μ0 h0
  · simp only [if_neg c] at hq
    rw [if_neg (fun q => c ((nI_eq (by omega) (by omega)).mp q))]
    refine h0.keep hw.d10 (fun μ1 o1 h1 w1 => ?_)
    refine t_goesUp h1.M (by omega) (fun μ2 o2 hM2 => ?_)
    have w2 := w1.off o2 (fun k hk q => by unfold Sm at q; omega)
    refine h1.fin hw.d10 (o2.mono (fun x k q => by unfold Sm at q; unfold SE ST Sr; omega)) w2 hM2 (fun μ3 h3 w3 => ⟨v3 (by decide), ?_⟩)
    have e : zI μ3 (th + 1) 20 - nI 1 = nI (xS X) := by
      rw [h3.M.S]
      exact nI_pred _
    rw [e]
    exact hq μ3 h3
/-- one place, one tenant's goods change -/
def xSO (X : zX) (t o : Nat) : zX := (X.1, X.2.1, X.2.2.1, fun u => if u = t then o else xO X u, X.2.2.2.2)
def xSG (X : zX) (t g : Nat) : zX := (X.1, X.2.1, fun u => if u = t then g else xG X u, X.2.2.2)
theorem cSt.so (hs : cSt μ s X b0) {t o : Nat} (ht : t < 6) : cSt (zsI μ (s + 1) t (eO o)) s (xSO X t o) b0 := by
  refine ⟨hs.ty, ?_, ?_, ?_, ?_, fun j hj => ?_, fun j hj => ?_, fun j hj => ?_⟩
  all_goals simp only [zI_sI, true_and]
  · rw [if_neg (by omega)]; exact hs.S
  · rw [if_neg (by omega)]; exact hs.D
  · rw [if_neg (by omega)]; exact hs.M
  · rw [if_neg (by omega)]; exact hs.B
  · show _ = eO (if j = t then o else xO X j)
    by_cases c : j = t
    · rw [if_pos c, if_pos c]
    · rw [if_neg c, if_neg c]; exact hs.O hj
  · rw [if_neg (by omega)]; exact hs.G hj
  · rw [if_neg (by omega)]; exact hs.W hj
theorem cSt.sg (hs : cSt μ s X b0) {t g : Nat} (ht : t < 6) : cSt (zsI μ (s + 2) t (nI g)) s (xSG X t g) b0 := by
  refine ⟨hs.ty, ?_, ?_, ?_, ?_, fun j hj => ?_, fun j hj => ?_, fun j hj => ?_⟩
  all_goals simp only [zI_sI, true_and]
  · rw [if_neg (by omega)]; exact hs.S
  · rw [if_neg (by omega)]; exact hs.D
  · rw [if_neg (by omega)]; exact hs.M
  · rw [if_neg (by omega)]; exact hs.B
  · rw [if_neg (by omega)]; exact hs.O hj
  · show _ = nI (if j = t then g else xG X j)
    by_cases c : j = t
    · rw [if_pos c, if_pos c]
    · rw [if_neg c, if_neg c]; exact hs.G hj
  · rw [if_neg (by omega)]; exact hs.W hj
theorem tM.so (h : tM th μ C X) {t o : Nat} (ht : t < 6) : tM th (zsI μ (th + 1) (35 + t) (eO o)) C (xSO X t o) := by
  have oo : zOff (fun x k => x = th + 1 ∧ k = 35 + t) μ (zsI μ (th + 1) (35 + t) (eO o)) := zOff.sI ⟨rfl, rfl⟩
  refine ⟨h.1.off oo (fun k hk q => by omega), ?_, fun j hj => ?_, fun j hj => ?_, fun j hj => ?_, ?_, ?_⟩
  all_goals simp only [zI_sI, true_and]
  · rw [if_neg (by omega)]; exact h.S
  · rw [if_neg (by omega)]; exact h.W hj
  · rw [if_neg (by omega)]; exact h.G hj
  · show _ = eO (if j = t then o else xO X j)
    by_cases c : j = t
    · rw [if_pos (by omega), if_pos c]
    · rw [if_neg (by omega), if_neg c]; exact h.O hj
  · rw [if_neg (by omega)]; exact h.D
  · rw [if_neg (by omega)]; exact h.M
theorem tM.sg (h : tM th μ C X) {t g : Nat} (ht : t < 6) : tM th (zsI μ (th + 1) (29 + t) (nI g)) C (xSG X t g) := by
  have oo : zOff (fun x k => x = th + 1 ∧ k = 29 + t) μ (zsI μ (th + 1) (29 + t) (nI g)) := zOff.sI ⟨rfl, rfl⟩
  refine ⟨h.1.off oo (fun k hk q => by omega), ?_, fun j hj => ?_, fun j hj => ?_, fun j hj => ?_, ?_, ?_⟩
  all_goals simp only [zI_sI, true_and]
  · rw [if_neg (by omega)]; exact h.S
  · rw [if_neg (by omega)]; exact h.W hj
  · show _ = nI (if j = t then g else xG X j)
    by_cases c : j = t
    · rw [if_pos (by omega), if_pos c]
    · rw [if_neg (by omega), if_neg c]; exact h.G hj
  · rw [if_neg (by omega)]; exact h.O hj
  · rw [if_neg (by omega)]; exact h.D
  · rw [if_neg (by omega)]; exact h.M
theorem wfX.so (hX : wfX C X mb) {t o : Nat} (ho : o ≤ xS X) (hu : o = 0 ∨ ∀ u, u < kT C → u ≠ t → xO X u ≠ o) : wfX C (xSO X t o) mb := by
  obtain ⟨h1, h2, h3, h4, h5, h6⟩ := hX
  refine ⟨h1, h2, h3, h4, fun u hu => ⟨(h5 u hu).1, ?_⟩, fun u v q1 q2 e e0 => ?_⟩
  · show (if u = t then o else xO X u) ≤ xS X
    split
    · exact ho
    · exact (h5 u hu).2
  · replace e : (if u = t then o else xO X u) = (if v = t then o else xO X v) := e
    replace e0 : ¬ (if u = t then o else xO X u) = 0 := e0
    by_cases c1 : u = t
    · by_cases c2 : v = t
      · rw [c1, c2]
      · rw [if_pos c1] at e e0
        rw [if_neg c2] at e
        rcases hu with q | q
        · exact absurd q e0
        · exact absurd e.symm (q v q2 c2)
    · by_cases c2 : v = t
      · rw [if_neg c1] at e e0
        rw [if_pos c2] at e
        rcases hu with q | q
        · exact absurd (e.trans q) e0
        · exact absurd e (q u q1 c1)
      · rw [if_neg c1] at e e0
        rw [if_neg c2] at e
        exact h6 u v q1 q2 e e0
theorem wfX.sg (hX : wfX C X mb) {t g : Nat} (hg : g ≤ 999) : wfX C (xSG X t g) mb := by
  obtain ⟨h1, h2, h3, h4, h5, h6⟩ := hX
  refine ⟨h1, h2, h3, h4, fun u hu => ⟨?_, (h5 u hu).2⟩, h6⟩
  show (if u = t then g else xG X u) ≤ 999
  split
  · exact hg
  · exact (h5 u hu).1
theorem whyM_0 {t k : Int} (h : whyM C X t k = 0) : 0 ≤ t ∧ t < kT C ∧ 0 ≤ k ∧ k < xS X ∧ who C X k.toNat = 0 := by
  unfold whyM at h
  split at h
  · rename_i c
    refine ⟨c.1, c.2.1, c.2.2.1, c.2.2.2, ?_⟩
    split at h
    · cases h
    · rename_i c2
      exact Classical.not_not.mp c2
  · cases h
theorem whyM_le {t k : Int} : whyM C X t k ≤ 3 := by
  unfold whyM
  split
  · split
    · omega
    · split <;> omega
  · omega
theorem whyL_0 {t : Int} (h : whyL C X t = 0) : 0 ≤ t ∧ t < kT C := by
  unfold whyL at h
  split at h
  · assumption
  · cases h
theorem whyL_le {t : Int} : whyL C X t ≤ 2 := by
  unfold whyL
  split
  · split <;> omega
  · omega
theorem wfX.mv (hX : wfX C X mb) {t k : Nat} (hk : k < xS X) (hw : who C X k = 0) : wfX C (xSO X t (k + 1)) mb := hX.so hk (Or.inr (fun u q1 _ => who_0 hw q1))
def oMov (C : zC) (X : zX) (x y : Int32) : Option zX := if whyM C X x.toInt y.toInt = 0 then some (xSO X x.toInt.toNat (y.toInt.toNat + 1)) else none
def vMov (C : zC) (X : zX) (x y : Int32) : Int32 := if whyM C X x.toInt y.toInt = 0 then eO (xO X x.toInt.toNat) else (-10 : Int32) - nI (whyM C X x.toInt y.toInt)
theorem w_Mov (hX : wfX C X mb) {x y : Int32} : ∀ Y, oMov C X x y = some Y → wfX C Y mb := by
  intro Y h
  unfold oMov at h
  split at h
  · rename_i c
    cases h
    obtain ⟨c1, c2, c3, c4, c5⟩ := whyM_0 c
    exact hX.mv (by omega) c5
  · cases h
theorem c_moves (hw : zWf mb C X1 X dn dX im tr tn tp) (h : cR z a μ C X1 X dn dX im tr tn tp f fp) {x y : Int32} {Q : Int32 → zM → Prop} (hq : ∀ μ', cR z a μ' C X1 (aX X (oMov C X x y)) (aN dn (oMov C X x y)) (aU dn dX X (oMov C X x y)) im tr tn tp f fp → Q (vMov C X x y) μ') : pX0_moves z x y μ Q := by
  have hT := hw.c.1
  have hS := hw.x.1
  unfold oMov vMov at hq
  refine c_whyMove h.I h.N hw.c hw.x ?_
  rw [Int32.toInt_toInt64, Int32.toInt_toInt64]
  have hl := whyM_le (C := C) (X := X) (t := x.toInt) (k := y.toInt)
  by_cases c : whyM C X x.toInt y.toInt = 0
  · simp only [if_pos c] at hq
    rw [c]
    obtain ⟨c1, c2, c3, c4, c5⟩ := whyM_0 c
    obtain ⟨t, t1, rfl, t3⟩ := i32N c1
    obtain ⟨k, k1, rfl, k3⟩ := i32N c3
    rw [t3, Int.toNat_natCast, k3, Int.toNat_natCast] at hq
    have ht6 : t < 6 := by omega
    have v6 : vp_in (nI t) 6 := vp_in_nI ht6 (by decide)
    refine if00 (h.keep (fun μ1 o1 hI1 hN1 up => ⟨v6, v6, ?_⟩))
    unfold zpI
    rw [nI_clamp t1, hN1.O ht6, ← eO_s]
    exact hq _ (up _ _ (zOff.sI (by unfold So; omega)) (hN1.so ht6))
  · simp only [if_neg c] at hq
    rw [if_neg (fun q => c ((nI_eq (by omega) (by decide)).mp (q.trans nI_0.symm)))]
    exact hq μ h
theorem t_moves (hw : zWf mb C X1 X dn dX im tr tn tp) (h : tR th μ C X1 X dn dX im tr tn tp f fp) {x y : Int32} {Q : Int32 → zM → Prop} (hq : ∀ μ', tR th μ' C X1 (aX X (oMov C X x y)) (aN dn (oMov C X x y)) (aU dn dX X (oMov C X x y)) im tr tn tp f fp → Q (vMov C X x y) μ') : pX4_moves th x y μ Q := by
  have hT := hw.c.1
  have hS := hw.x.1
  unfold oMov vMov at hq
  refine t0 (fun μ0 o0 => ?_)
  have h0 := h.off hw.d10 o0
  refine u_whyMove h0.M hw.c hw.x ?_
  rw [Int32.toInt_toInt64, Int32.toInt_toInt64]
  have hl := whyM_le (C := C) (X := X) (t := x.toInt) (k := y.toInt)
  by_cases c : whyM C X x.toInt y.toInt = 0
  · simp only [if_pos c] at hq
    rw [c]
    obtain ⟨c1, c2, c3, c4, c5⟩ := whyM_0 c
    obtain ⟨t, t1, rfl, t3⟩ := i32N c1
    obtain ⟨k, k1, rfl, k3⟩ := i32N c3
    rw [t3, Int.toNat_natCast, k3, Int.toNat_natCast] at hq
    have ht6 : t < 6 := by omega
    refine if00 (h0.keep hw.d10 (fun μ1 o1 h1 w1 => ⟨zin2 (by omega) (by decide), ?_⟩))
    unfold zpI
    show pX4_notes th (zsI μ1 (th + 1) (nI 35 + nI t).toNatClampNeg (nI k)) (fun μ6 => vp_in (nI 15 + nI t) 23 ∧ Q (zI μ6 (th + 7) (nI 15 + nI t).toNatClampNeg) μ6)
    rw [zcl2 (show 35 + t < 2 ^ 31 by omega), ← eO_s k]
    have oz : zOff (SE th) μ1 (zsI μ1 (th + 1) (35 + t) (eO (k + 1))) := zOff.sI (by unfold SE ST Sr; omega)
    have w2 : tSt (zsI μ1 (th + 1) (35 + t) (eO (k + 1))) (th + 7) 0 X := w1.at (fun j hj => by rw [zI_sI, if_neg (by omega)])
    refine h1.fin hw.d10 oz w2 (h1.M.so ht6) (fun μ3 h3 w3 => ⟨zin2 (by omega) (by decide), ?_⟩)
    have e := w3.2.2.2.1 t ht6
    rw [Nat.zero_add] at e
    rw [zcl2 (show 15 + t < 2 ^ 31 by omega), e]
    exact hq μ3 h3
  · simp only [if_neg c] at hq
    rw [if_neg (fun q => c ((nI_eq (by omega) (by decide)).mp (q.trans nI_0.symm)))]
    exact hq μ0 h0
def oLea (C : zC) (X : zX) (x : Int32) : Option zX := if whyL C X x.toInt = 0 then some (xSO X x.toInt.toNat 0) else none
def vLea (C : zC) (X : zX) (x : Int32) : Int32 := if whyL C X x.toInt = 0 then eO (xO X x.toInt.toNat) else (-10 : Int32) - nI (whyL C X x.toInt)
theorem w_Lea (hX : wfX C X mb) {x : Int32} : ∀ Y, oLea C X x = some Y → wfX C Y mb := by
  intro Y h
  unfold oLea at h
  split at h
  · cases h
    exact hX.so (Nat.zero_le _) (Or.inl rfl)
  · cases h
theorem c_leaves (hw : zWf mb C X1 X dn dX im tr tn tp) (h : cR z a μ C X1 X dn dX im tr tn tp f fp) {x : Int32} {Q : Int32 → zM → Prop} (hq : ∀ μ', cR z a μ' C X1 (aX X (oLea C X x)) (aN dn (oLea C X x)) (aU dn dX X (oLea C X x)) im tr tn tp f fp → Q (vLea C X x) μ') : pX0_leaves z x μ Q := by
  have hT := hw.c.1
  unfold oLea vLea at hq
  refine c_whyLeave h.I h.N hw.c hw.x ?_
  rw [Int32.toInt_toInt64]
  have hl := whyL_le (C := C) (X := X) (t := x.toInt)
  by_cases c : whyL C X x.toInt = 0
  · simp only [if_pos c] at hq
    rw [c]
    obtain ⟨c1, c2⟩ := whyL_0 c
    obtain ⟨t, t1, rfl, t3⟩ := i32N c1
    rw [t3, Int.toNat_natCast] at hq
    have ht6 : t < 6 := by omega
    have v6 : vp_in (nI t) 6 := vp_in_nI ht6 (by decide)
    refine if00 (h.keep (fun μ1 o1 hI1 hN1 up => ⟨v6, v6, ?_⟩))
    unfold zpI
    rw [nI_clamp t1, hN1.O ht6, ← eO_0]
    exact hq _ (up _ _ (zOff.sI (by unfold So; omega)) (hN1.so ht6))
  · simp only [if_neg c] at hq
    rw [if_neg (fun q => c ((nI_eq (by omega) (by decide)).mp (q.trans nI_0.symm)))]
    exact hq μ h
theorem t_leaves (hw : zWf mb C X1 X dn dX im tr tn tp) (h : tR th μ C X1 X dn dX im tr tn tp f fp) {x : Int32} {Q : Int32 → zM → Prop} (hq : ∀ μ', tR th μ' C X1 (aX X (oLea C X x)) (aN dn (oLea C X x)) (aU dn dX X (oLea C X x)) im tr tn tp f fp → Q (vLea C X x) μ') : pX4_leaves th x μ Q := by
  have hT := hw.c.1
  unfold oLea vLea at hq
  refine t0 (fun μ0 o0 => ?_)
  have h0 := h.off hw.d10 o0
  refine u_whyLeave h0.M hw.c hw.x ?_
  rw [Int32.toInt_toInt64]
  have hl := whyL_le (C := C) (X := X) (t := x.toInt)
  by_cases c : whyL C X x.toInt = 0
  · simp only [if_pos c] at hq
    rw [c]
    obtain ⟨c1, c2⟩ := whyL_0 c
    obtain ⟨t, t1, rfl, t3⟩ := i32N c1
    rw [t3, Int.toNat_natCast] at hq
    have ht6 : t < 6 := by omega
    refine if00 (h0.keep hw.d10 (fun μ1 o1 h1 w1 => ⟨zin2 (by omega) (by decide), ?_⟩))
    unfold zpI
    show pX4_notes th (zsI μ1 (th + 1) (nI 35 + nI t).toNatClampNeg (-1 : Int32)) (fun μ6 => vp_in (nI 15 + nI t) 23 ∧ Q (zI μ6 (th + 7) (nI 15 + nI t).toNatClampNeg) μ6)
    rw [zcl2 (show 35 + t < 2 ^ 31 by omega), ← eO_0]
    have oz : zOff (SE th) μ1 (zsI μ1 (th + 1) (35 + t) (eO 0)) := zOff.sI (by unfold SE ST Sr; omega)
    have w2 : tSt (zsI μ1 (th + 1) (35 + t) (eO 0)) (th + 7) 0 X := w1.at (fun j hj => by rw [zI_sI, if_neg (by omega)])
    refine h1.fin hw.d10 oz w2 (h1.M.so ht6) (fun μ3 h3 w3 => ⟨zin2 (by omega) (by decide), ?_⟩)
    have e := w3.2.2.2.1 t ht6
    rw [Nat.zero_add] at e
    rw [zcl2 (show 15 + t < 2 ^ 31 by omega), e]
    exact hq μ3 h3
  · simp only [if_neg c] at hq
    rw [if_neg (fun q => c ((nI_eq (by omega) (by decide)).mp (q.trans nI_0.symm)))]
    exact hq μ0 h0
def oCar (C : zC) (X : zX) (x y : Int32) : Option zX := if (0 ≤ x.toInt ∧ x.toInt < kT C) ∧ 0 ≤ y.toInt ∧ y.toInt ≤ 999 then some (xSG X x.toInt.toNat y.toInt.toNat) else none
def vCar (C : zC) (X : zX) (x y : Int32) : Int32 := if (0 ≤ x.toInt ∧ x.toInt < kT C) ∧ 0 ≤ y.toInt ∧ y.toInt ≤ 999 then nI (xG X x.toInt.toNat) else (-11 : Int32)
theorem w_Car (hX : wfX C X mb) {x y : Int32} : ∀ Y, oCar C X x y = some Y → wfX C Y mb := by
  intro Y h
  unfold oCar at h
  split at h
  · rename_i c
    cases h
    exact hX.sg (by omega)
  · cases h
theorem c_carries (hw : zWf mb C X1 X dn dX im tr tn tp) (h : cR z a μ C X1 X dn dX im tr tn tp f fp) {x y : Int32} {Q : Int32 → zM → Prop} (hq : ∀ μ', cR z a μ' C X1 (aX X (oCar C X x y)) (aN dn (oCar C X x y)) (aU dn dX X (oCar C X x y)) im tr tn tp f fp → Q (vCar C X x y) μ') : pX0_carries z x y μ Q := by
  have hT := hw.c.1
  unfold oCar vCar at hq
  refine c_isTenant h.I hw.c (fun t t1 t2 t3 => if01 ?_) (fun q => if00 ?_)
  · refine rin32 (a := 0) (b := 999) rfl rfl (fun q1 q2 => if01 ?_) (fun q => if00 ?_)
    · simp only [if_pos (show (0 ≤ x.toInt ∧ x.toInt < kT C) ∧ 0 ≤ y.toInt ∧ y.toInt ≤ 999 by omega)] at hq
      obtain ⟨k, k1, rfl, k3⟩ := i32N q1
      subst t2
      rw [t3, Int.toNat_natCast, k3, Int.toNat_natCast] at hq
      have ht6 : t < 6 := by omega
      have v6 : vp_in (nI t) 6 := vp_in_nI ht6 (by decide)
      refine h.keep (fun μ1 o1 hI1 hN1 up => ⟨v6, v6, ?_⟩)
      unfold zpI
      rw [nI_clamp (by omega), hN1.G ht6]
      exact hq _ (up _ _ (zOff.sI (by unfold So; omega)) (hN1.sg ht6))
    · simp only [if_neg (show ¬ ((0 ≤ x.toInt ∧ x.toInt < kT C) ∧ 0 ≤ y.toInt ∧ y.toInt ≤ 999) by omega)] at hq
      exact hq μ h
  · simp only [if_neg (show ¬ ((0 ≤ x.toInt ∧ x.toInt < kT C) ∧ 0 ≤ y.toInt ∧ y.toInt ≤ 999) by omega)] at hq
    exact hq μ h
theorem t_carries (hw : zWf mb C X1 X dn dX im tr tn tp) (h : tR th μ C X1 X dn dX im tr tn tp f fp) {x y : Int32} {Q : Int32 → zM → Prop} (hq : ∀ μ', tR th μ' C X1 (aX X (oCar C X x y)) (aN dn (oCar C X x y)) (aU dn dX X (oCar C X x y)) im tr tn tp f fp → Q (vCar C X x y) μ') : pX4_carries th x y μ Q := by
  have hT := hw.c.1
  unfold oCar vCar at hq
  refine t0 (fun μ0 o0 => ?_)
  have h0 := h.off hw.d10 o0
  refine u_isTenant h0.M hw.c (fun t t1 t2 t3 => if01 ?_) (fun q => if00 ?_)
  · rw [Int32.toInt_toInt64] at t3
    replace t2 := (i64_of_lN (by omega)).mp t2
    refine rin32 (a := 0) (b := 999) rfl rfl (fun q1 q2 => if01 ?_) (fun q => if00 ?_)
    · simp only [if_pos (show (0 ≤ x.toInt ∧ x.toInt < kT C) ∧ 0 ≤ y.toInt ∧ y.toInt ≤ 999 by omega)] at hq
      obtain ⟨k, k1, rfl, k3⟩ := i32N q1
      subst t2
      rw [t3, Int.toNat_natCast, k3, Int.toNat_natCast] at hq
      have ht6 : t < 6 := by omega
      refine h0.keep hw.d10 (fun μ1 o1 h1 w1 => ⟨zin2 (by omega) (by decide), ?_⟩)
      unfold zpI
      show pX4_notes th (zsI μ1 (th + 1) (nI 29 + nI t).toNatClampNeg (nI k)) (fun μ6 => vp_in (nI 9 + nI t) 23 ∧ Q (zI μ6 (th + 7) (nI 9 + nI t).toNatClampNeg) μ6)
      rw [zcl2 (show 29 + t < 2 ^ 31 by omega)]
      have oz : zOff (SE th) μ1 (zsI μ1 (th + 1) (29 + t) (nI k)) := zOff.sI (by unfold SE ST Sr; omega)
      have w2 : tSt (zsI μ1 (th + 1) (29 + t) (nI k)) (th + 7) 0 X := w1.at (fun j hj => by rw [zI_sI, if_neg (by omega)])
      refine h1.fin hw.d10 oz w2 (h1.M.sg ht6) (fun μ3 h3 w3 => ⟨zin2 (by omega) (by decide), ?_⟩)
      have e := w3.2.2.1 t ht6
      rw [Nat.zero_add] at e
      rw [zcl2 (show 9 + t < 2 ^ 31 by omega), e]
      exact hq μ3 h3
    · simp only [if_neg (show ¬ ((0 ≤ x.toInt ∧ x.toInt < kT C) ∧ 0 ≤ y.toInt ∧ y.toInt ≤ 999) by omega)] at hq
      exact hq μ0 h0
  · rw [Int32.toInt_toInt64] at q
    simp only [if_neg (show ¬ ((0 ≤ x.toInt ∧ x.toInt < kT C) ∧ 0 ≤ y.toInt ∧ y.toInt ≤ 999) by omega)] at hq
    exact hq μ0 h0
end DB
