/-! questions: storeys, tenants, what stands now -/
theorem t0 {th : Nat} {μ : zM} {P : zM → Prop} (h : ∀ μ1, zOff (ST th) μ μ1 → P μ1) : zpI μ th 0 (nI 0) P := h _ (zOff.sI (Or.inl ⟨rfl, by decide, by decide, by decide⟩))
theorem v3 {k : Nat} (h : k < 3594) : vp_in (nI k) 3594 := vp_in_nI h (by decide)
section QA
variable {z th a : Nat} {μ : zM} {C : zC} {X1 X : zX} {dn : Nat} {dX : Nat → zX} {im : zIm} {tr : zTy} {tn : Nat} {tp : Nat → Nat} {f fp : Int32} {mb : Nat}
theorem zWf.c (h : zWf mb C X1 X dn dX im tr tn tp) : wfC C := h.1
theorem zWf.x (h : zWf mb C X1 X dn dX im tr tn tp) : wfX C X mb := h.2.2.1
theorem zWf.x1 (h : zWf mb C X1 X dn dX im tr tn tp) : wfX C X1 1000 := h.2.1
theorem cR.I (h : cR z a μ C X1 X dn dX im tr tn tp f fp) : cIts z μ a C X1 := h.1
theorem cR.far (h : cR z a μ C X1 X dn dX im tr tn tp f fp) : zfar z a := h.2.1
theorem cR.N (h : cR z a μ C X1 X dn dX im tr tn tp f fp) : cSt μ (z + 7) X 0 := h.2.2.1
theorem tR.M (h : tR th μ C X1 X dn dX im tr tn tp f fp) : tM th μ C X := h.1
theorem tM.offT {μ' : zM} (h : tM th μ C X) (ho : zOff (ST th) μ μ') : tM th μ' C X := h.off ho (fun k => by unfold ST; omega)
theorem Sw.c {μ' : zM} (ho : zOff (Sw a) μ μ') : zOff (SC z a) μ μ' := ho.mono (fun x k q => Or.inl q)
theorem S56.T {μ' : zM} (ho : zOff (S56 th) μ μ') : zOff (ST th) μ μ' := ho.mono (fun x k q => by unfold S56 at q; unfold ST; omega)
theorem i32_k {x : Int32} {k : Nat} (h : x.toInt = k) : x.toInt.toNat = k := by rw [h]; rfl
theorem i32_sep {x : Int32} {c : Nat} (hc : c < 2 ^ 31) (h : x ≠ nI c) : x.toInt ≠ c := fun e => h (Int32.toInt_inj.mp (by rw [e, nI_toInt hc]))
def vSto (C : zC) (X : zX) (x y : Int32) : Int32 := if 0 ≤ x.toInt ∧ x.toInt < xS X ∧ 0 ≤ y.toInt ∧ y.toInt ≤ 2 then (if y = 0 then nI (xW X x.toInt.toNat) else if y = nI 1 then eO (who C X x.toInt.toNat) else if 144 * (x.toInt.toNat + 1) ≤ xD X then nI 1 else nI 0) else (-2 : Int32)
theorem c_storey (hw : zWf mb C X1 X dn dX im tr tn tp) (h : cR z a μ C X1 X dn dX im tr tn tp f fp) {x y : Int32} {Q : Int32 → zM → Prop} (hq : Q (vSto C X x y) μ) : pX0_storey z x y μ Q := by
  unfold vSto at hq
  have hS := hw.x.1
  refine c_isStorey h.N hw.x (fun k k1 k2 k3 => if01 ?_) (fun q => if00 ?_)
  · refine rin32 (a := 0) (b := 2) rfl rfl (fun q1 q2 => if01 ?_) (fun q => if00 ?_)
    · rw [if_pos (by omega), i32_k k3] at hq
      subst k2
      by_cases c0 : y = 0
      · rw [if_pos c0] at hq ⊢
        refine ⟨vp_in_nI (by omega) (by decide), ?_⟩
        rw [nI_clamp (by omega), h.N.W (by omega)]
        exact hq
      rw [if_neg c0] at hq ⊢
      by_cases c1 : y = nI 1
      · rw [if_pos c1] at hq ⊢
        exact c_who h.I h.N hw.c hw.x (by omega) hq
      rw [if_neg c1] at hq ⊢
      refine c_isBuried h.N hw.x (by omega) ?_
      by_cases cc : 144 * (k + 1) ≤ xD X
      · rw [if_pos cc] at hq ⊢
        exact if01 hq
      · rw [if_neg cc] at hq ⊢
        exact if00 hq
    · rw [if_neg (by omega)] at hq
      exact hq
  · rw [if_neg (by omega)] at hq
    exact hq
theorem t_storey (hw : zWf mb C X1 X dn dX im tr tn tp) (h : tR th μ C X1 X dn dX im tr tn tp f fp) {x y : Int32} {Q : Int32 → zM → Prop} (hq : ∀ μ', zOff (ST th) μ μ' → Q (vSto C X x y) μ') : pX4_storey th x y μ Q := by
  unfold vSto at hq
  have hS := hw.x.1
  have hD := hw.x.2.1
  refine t0 (fun μ1 ho => ?_)
  replace hq := hq μ1 ho
  have hM := h.M.offT ho
  refine u_isStorey hM hw.x (fun k k1 k2 k3 => if01 ?_) (fun q => if00 ?_)
  · rw [Int32.toInt_toInt64] at k3
    have k2 := (i64_of_lN (by omega)).mp k2
    refine rin32 (a := 0) (b := 2) rfl rfl (fun q1 q2 => if01 ?_) (fun q => if00 ?_)
    · rw [if_pos (by omega), i32_k k3] at hq
      subst k2
      by_cases c0 : y = 0
      · rw [if_pos c0] at hq ⊢
        refine ⟨zin2 (by omega) (by decide), ?_⟩
        rw [zcl2 (by omega), hM.W (by omega)]
        exact hq
      rw [if_neg c0] at hq ⊢
      by_cases c1 : y = nI 1
      · rw [if_pos c1] at hq ⊢
        exact t_livesOn hM hw.c.1 (fun t ht => hw.x.O ht) (by omega) hq
      rw [if_neg c1] at hq ⊢
      refine ⟨v3 (by decide), ?_⟩
      rw [nI_clamp (by decide), hM.D]
      refine t_isBuried (by omega) (by omega) ?_
      by_cases cc : 144 * (k + 1) ≤ xD X
      · rw [if_pos cc] at hq ⊢
        exact if01 hq
      · rw [if_neg cc] at hq ⊢
        exact if00 hq
    · rw [if_neg (by omega)] at hq
      exact hq
  · rw [Int32.toInt_toInt64] at q
    rw [if_neg (by omega)] at hq
    exact hq
def vTen (C : zC) (X : zX) (x y : Int32) : Int32 := if 0 ≤ x.toInt ∧ x.toInt < kT C then (if y = 0 then nI (xG X x.toInt.toNat) else if y = nI 1 then nI (kW C x.toInt.toNat) else if y = nI 2 then eO (xO X x.toInt.toNat) else (-8 : Int32)) else (-8 : Int32)
theorem c_tenant (hw : zWf mb C X1 X dn dX im tr tn tp) (h : cR z a μ C X1 X dn dX im tr tn tp f fp) {x y : Int32} {Q : Int32 → zM → Prop} (hq : Q (vTen C X x y) μ) : pX0_tenant z x y μ Q := by
  unfold vTen at hq
  have hT := hw.c.1
  refine c_isTenant h.I hw.c (fun k k1 k2 k3 => if01 ?_) (fun q => if00 ?_)
  · rw [if_pos (by omega), i32_k k3] at hq
    subst k2
    have v6 : vp_in (nI k) 6 := vp_in_nI (by omega) (by decide)
    refine rin32 (a := 0) (b := 2) rfl rfl (fun q1 q2 => if01 ?_) (fun q => if00 ?_)
    · by_cases c0 : y = 0
      · rw [if_pos c0] at hq ⊢
        refine ⟨v6, ?_⟩
        rw [nI_clamp (by omega), h.N.G (by omega)]
        exact hq
      rw [if_neg c0] at hq ⊢
      by_cases c1 : y = nI 1
      · rw [if_pos c1] at hq ⊢
        refine ⟨a, h.I.2.1, h.I.2.2.1, v6, ?_⟩
        rw [nI_clamp (by omega), h.I.2.2.Wa (by omega)]
        exact hq
      rw [if_neg c1] at hq ⊢
      have c2 : y = nI 2 := by
        obtain ⟨j, j1, j2, j3⟩ := i32N q1
        subst j2
        have e0 : j ≠ 0 := fun e => c0 (by rw [e]; rfl)
        have e1 : j ≠ 1 := fun e => c1 (by rw [e])
        rw [show j = 2 by omega]
      rw [if_pos c2] at hq
      refine ⟨v6, ?_⟩
      rw [nI_clamp (by omega), h.N.O (by omega)]
      exact hq
    · have c0 : y ≠ 0 := fun e => q (by subst e; decide)
      have c1 : y ≠ nI 1 := fun e => q (by subst e; decide)
      have c2 : y ≠ nI 2 := fun e => q (by subst e; decide)
      rw [if_neg c0, if_neg c1, if_neg c2] at hq
      exact hq
  · rw [if_neg (by omega)] at hq
    exact hq
theorem t_tenant (hw : zWf mb C X1 X dn dX im tr tn tp) (h : tR th μ C X1 X dn dX im tr tn tp f fp) {x y : Int32} {Q : Int32 → zM → Prop} (hq : ∀ μ', zOff (ST th) μ μ' → Q (vTen C X x y) μ') : pX4_tenant th x y μ Q := by
  unfold vTen at hq
  have hT := hw.c.1
  refine t0 (fun μ1 ho => ?_)
  replace hq := hq μ1 ho
  have hM := h.M.offT ho
  refine u_isTenant hM hw.c (fun k k1 k2 k3 => if01 ?_) (fun q => if00 ?_)
  · rw [Int32.toInt_toInt64] at k3
    have k2 := (i64_of_lN (by omega)).mp k2
    rw [if_pos (by omega), i32_k k3] at hq
    subst k2
    by_cases c0 : y = 0
    · rw [if_pos c0] at hq ⊢
      refine ⟨zin2 (by omega) (by decide), ?_⟩
      rw [zcl2 (by omega), hM.G (by omega)]
      exact hq
    rw [if_neg c0] at hq ⊢
    by_cases c1 : y = nI 1
    · rw [if_pos c1] at hq ⊢
      refine ⟨zin2 (by omega) (by decide), ?_⟩
      rw [zcl2 (by omega), hM.wa (by omega)]
      exact hq
    rw [if_neg c1] at hq ⊢
    by_cases c2 : y = nI 2
    · rw [if_pos c2] at hq ⊢
      refine ⟨zin2 (by omega) (by decide), ?_⟩
      rw [zcl2 (by omega), hM.O (by omega)]
      exact hq
    rw [if_neg c2] at hq ⊢
    exact hq
  · rw [Int32.toInt_toInt64] at q
    rw [if_neg (by omega)] at hq
    exact hq
theorem c_weight (hw : zWf mb C X1 X dn dX im tr tn tp) (h : cR z a μ C X1 X dn dX im tr tn tp f fp) {Q : Int32 → zM → Prop} (hq : Q (nI (wt C X 0)) μ) : pX0_weight z μ Q := by
  refine c_whole h.I h.N hw.c hw.x ?_
  rw [Nat.zero_add]
  exact hq
theorem t_weight (hw : zWf mb C X1 X dn dX im tr tn tp) (h : tR th μ C X1 X dn dX im tr tn tp f fp) {Q : Int32 → zM → Prop} (hq : ∀ μ', zOff (ST th) μ μ' → Q (nI (wt C X 0)) μ') : pX4_weight th μ Q := by
  refine t0 (fun μ1 ho => ?_)
  rw [← eO_0]
  exact t_weightOf (h.M.offT ho) hw.c.1 hw.x.1 (fun t ht => hw.x.O ht) (by decide) (hq μ1 ho)
theorem c_sinksQ (hw : zWf mb C X1 X dn dX im tr tn tp) (hm : mb ≤ 90000) (h : cR z a μ C X1 X dn dX im tr tn tp f fp) {Q : Int32 → zM → Prop} (hq : ∀ μ', zOff (SC z a) μ μ' → Q (nI (inch C (wt C X 0) (xS X) (xD X) (xM X))) μ') : pX0_sinks z μ Q := by
  refine c_inches h.I h.N hw.c hw.x (by decide) (by omega) (fun μ' ho => ?_)
  rw [Nat.zero_add]
  exact hq μ' (Sw.c ho)
theorem t_sinksQ (hw : zWf mb C X1 X dn dX im tr tn tp) (hm : mb ≤ 90000) (h : tR th μ C X1 X dn dX im tr tn tp f fp) {Q : Int32 → zM → Prop} (hq : ∀ μ', zOff (ST th) μ μ' → Q (nI (inch C (wt C X 0) (xS X) (xD X) (xM X))) μ') : pX4_sinks th μ Q := by
  refine t0 (fun μ1 ho => ?_)
  have hM := h.M.offT ho
  have hwt := wt_le hw.c hw.x 0
  have h3 := hw.x.2.2.1
  rw [← eO_0]
  refine t_weightOf hM hw.c.1 hw.x.1 (fun t ht => hw.x.O ht) (by decide) ⟨v3 (by decide), v3 (by decide), v3 (by decide), ?_⟩
  rw [nI_clamp (by decide), nI_clamp (by decide), nI_clamp (by decide), hM.S, hM.D, hM.M]
  exact t_sinksBy hM.1 hw.c (by omega) hw.x.1 hw.x.2.1 (by omega) (fun μ' ho2 => hq μ' (ho.tr (S56.T ho2)))
def vPay (C : zC) (X : zX) (x : Int32) : Int32 := if 0 ≤ x.toInt ∧ x.toInt < xS X then payV C x.toInt.toNat (xD X) (xM X) else (-90000002 : Int32)
theorem c_paysQ (hw : zWf mb C X1 X dn dX im tr tn tp) (hm : mb ≤ 90000) (h : cR z a μ C X1 X dn dX im tr tn tp f fp) {x : Int32} {Q : Int32 → zM → Prop} (hq : ∀ μ', zOff (SC z a) μ μ' → Q (vPay C X x) μ') : pX0_pays z x μ Q := by
  unfold vPay at hq
  have hS := hw.x.1
  refine c_isStorey h.N hw.x (fun k k1 k2 k3 => if01 ?_) (fun q => if00 ?_)
  · rw [if_pos (by omega), i32_k k3] at hq
    subst k2
    exact c_pays h.I h.N hw.c hw.x (by omega) (by omega) (fun μ' ho => hq μ' (Sw.c ho))
  · rw [if_neg (by omega)] at hq
    exact hq μ zOff.rf
theorem t_paysQ (hw : zWf mb C X1 X dn dX im tr tn tp) (hm : mb ≤ 90000) (h : tR th μ C X1 X dn dX im tr tn tp f fp) {x : Int32} {Q : Int32 → zM → Prop} (hq : ∀ μ', zOff (ST th) μ μ' → Q (vPay C X x) μ') : pX4_pays th x μ Q := by
  unfold vPay at hq
  have hS := hw.x.1
  have h3 := hw.x.2.2.1
  refine t0 (fun μ1 ho => ?_)
  have hM := h.M.offT ho
  refine u_isStorey hM hw.x (fun k k1 k2 k3 => if01 ?_) (fun q => if00 ?_)
  · rw [Int32.toInt_toInt64] at k3
    have k2 := (i64_of_lN (by omega)).mp k2
    rw [if_pos (by omega), i32_k k3] at hq
    subst k2
    refine ⟨v3 (by decide), v3 (by decide), ?_⟩
    rw [nI_clamp (by decide), nI_clamp (by decide), hM.D, hM.M]
    exact t_paysOf hM.1 hw.c (by omega) hw.x.2.1 (by omega) (fun μ' ho2 => hq μ' (ho.tr (S56.T ho2)))
  · rw [Int32.toInt_toInt64] at q
    rw [if_neg (by omega)] at hq
    exact hq μ1 ho
def worX (C : zC) (X : zX) (t k : Nat) : Int32 := worV C t (xG X t) (xO X t) k (xD X) (xM X)
def vWor (C : zC) (X : zX) (x y : Int32) : Int32 := if 0 ≤ x.toInt ∧ x.toInt < kT C ∧ 0 ≤ y.toInt ∧ y.toInt < xS X then worX C X x.toInt.toNat y.toInt.toNat else (-90000002 : Int32)
theorem c_worthQ (hw : zWf mb C X1 X dn dX im tr tn tp) (hm : mb ≤ 90000) (h : cR z a μ C X1 X dn dX im tr tn tp f fp) {x y : Int32} {Q : Int32 → zM → Prop} (hq : ∀ μ', zOff (SC z a) μ μ' → Q (vWor C X x y) μ') : pX0_worth z x y μ Q := by
  unfold vWor at hq
  have hS := hw.x.1
  have hT := hw.c.1
  refine c_isTenant h.I hw.c (fun t t1 t2 t3 => if01 ?_) (fun q => if00 ?_)
  · refine c_isStorey h.N hw.x (fun k k1 k2 k3 => if01 ?_) (fun q => if00 ?_)
    · rw [if_pos (by omega), i32_k k3, i32_k t3] at hq
      subst k2 t2
      exact c_worth h.I h.N hw.c hw.x (by omega) (by omega) (by omega) (fun μ' ho => hq μ' (Sw.c ho))
    · rw [if_neg (by omega)] at hq
      exact hq μ zOff.rf
  · rw [if_neg (by omega)] at hq
    exact hq μ zOff.rf
theorem t_worthNow (hM : tM th μ C X) (hC : wfC C) (hX : wfX C X mb) (hm : mb ≤ 90000) {t k : Nat} (ht : t < 6) (hk : k < 1000) {Q : Int32 → zM → Prop} (hq : ∀ μ', zOff (S56 th) μ μ' → Q (worX C X t k) μ') : pX4_worthNow th (nI t) (nI k) μ Q := by
  have h3 := hX.2.2.1
  refine ⟨v3 (by decide), v3 (by decide), ?_⟩
  rw [nI_clamp (by decide), nI_clamp (by decide), hM.D, hM.M]
  exact t_worthOf hM hC (fun t ht => hX.O ht) ht hk hX.2.1 (by omega) hq
theorem t_worthQ (hw : zWf mb C X1 X dn dX im tr tn tp) (hm : mb ≤ 90000) (h : tR th μ C X1 X dn dX im tr tn tp f fp) {x y : Int32} {Q : Int32 → zM → Prop} (hq : ∀ μ', zOff (ST th) μ μ' → Q (vWor C X x y) μ') : pX4_worth th x y μ Q := by
  unfold vWor at hq
  have hS := hw.x.1
  have hT := hw.c.1
  refine t0 (fun μ1 ho => ?_)
  have hM := h.M.offT ho
  refine u_isTenant hM hw.c (fun t t1 t2 t3 => if01 ?_) (fun q => if00 ?_)
  · rw [Int32.toInt_toInt64] at t3
    have t2 := (i64_of_lN (by omega)).mp t2
    refine u_isStorey hM hw.x (fun k k1 k2 k3 => if01 ?_) (fun q => if00 ?_)
    · rw [Int32.toInt_toInt64] at k3
      have k2 := (i64_of_lN (by omega)).mp k2
      rw [if_pos (by omega), i32_k k3, i32_k t3] at hq
      subst k2 t2
      exact t_worthNow hM hw.c hw.x hm (by omega) (by omega) (fun μ' ho2 => hq μ' (ho.tr (S56.T ho2)))
    · rw [Int32.toInt_toInt64] at q
      rw [if_neg (by omega)] at hq
      exact hq μ1 ho
  · rw [Int32.toInt_toInt64] at q
    rw [if_neg (by omega)] at hq
    exact hq μ1 ho
def vFau (f fp x : Int32) : Int32 := if x = 0 then f else if x = nI 1 then fp else (-1 : Int32)
theorem c_fault (h : cR z a μ C X1 X dn dX im tr tn tp f fp) {x : Int32} {Q : Int32 → zM → Prop} (hq : Q (vFau f fp x) μ) : pX0_fault z x μ Q := by
  obtain ⟨_, _, _, _, _, _, _, _, h9, h10, _⟩ := h
  unfold vFau at hq
  unfold pX0_fault
  rw [h9, h10]
  split at hq
  · rw [if_pos (by assumption)]; exact hq
  · rw [if_neg (by assumption)]
    split at hq
    · rw [if_pos (by assumption)]; exact hq
    · rw [if_neg (by assumption)]; exact hq
theorem t_fault (h : tR th μ C X1 X dn dX im tr tn tp f fp) {x : Int32} {Q : Int32 → zM → Prop} (hq : ∀ μ', zOff (ST th) μ μ' → Q (vFau f fp x) μ') : pX4_fault th x μ Q := by
  obtain ⟨_, _, _, _, _, _, h9, h10⟩ := h
  unfold vFau at hq
  refine t0 (fun μ1 ho => ?_)
  replace hq := hq μ1 ho
  rw [ho.I (show ¬ ST th th 13 by unfold ST; omega), ho.I (show ¬ ST th th 14 by unfold ST; omega), h9, h10]
  split at hq
  · rw [if_pos (by assumption)]; exact hq
  · rw [if_neg (by assumption)]
    split at hq
    · rw [if_pos (by assumption)]; exact hq
    · rw [if_neg (by assumption)]; exact hq
end QA
