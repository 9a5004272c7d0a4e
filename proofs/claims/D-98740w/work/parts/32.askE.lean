/-! questions: best, envies -/
def gn (C : zC) (X : zX) (t k su mo : Nat) : Int64 := if k = 8 then 0 else (worV C t (xG X t) (xO X t) k su mo).toInt64 - (payV C k su mo).toInt64
def whr (o : Nat) : Nat := if o = 0 then 8 else o - 1
def btN (C : zC) (X : zX) (t : Nat) : Nat → Nat → Int32 → Int64 → Int32
  | 0, _, b, _ => b
  | d + 1, k, b, m => if who C X k = 0 ∧ ¬ 144 * (k + 1) ≤ xD X then (if gn C X t k (xD X) (xM X) < m then btN C X t d (k + 1) b m else if (gn C X t k (xD X) (xM X)).toInt = m.toInt ∧ b = (-1 : Int32) then btN C X t d (k + 1) b m else btN C X t d (k + 1) (nI k) (gn C X t k (xD X) (xM X))) else btN C X t d (k + 1) b m
def enN (C : zC) (X : zX) (t : Nat) : Nat → Nat → Int32 → Int32
  | 0, _, s => s
  | d + 1, u, s => if u ≠ t ∧ xO X t ≠ 0 ∧ xO X u ≠ 0 ∧ ¬ worX C X t (xO X u - 1) ≤ worX C X t (xO X t - 1) then enN C X t d (u + 1) (s ||| (nI 1 <<< (nI u &&& 31))) else enN C X t d (u + 1) s
theorem enN_aw {C : zC} {X : zX} {t : Nat} (h : xO X t = 0) : ∀ d u s, enN C X t d u s = s
  | 0, _, _ => rfl
  | d + 1, u, s => by
    rw [enN, if_neg (fun q => q.2.1 h)]
    exact enN_aw h d (u + 1) s
theorem eO_pos {o : Nat} (h : o ≠ 0) : eO o = nI (o - 1) := by
  obtain ⟨k, rfl⟩ := Nat.exists_eq_succ_of_ne_zero h
  exact eO_s k
section QE
variable {z th a s : Nat} {μ : zM} {C : zC} {X1 X Y : zX} {dn : Nat} {dX : Nat → zX} {im : zIm} {tr : zTy} {tn : Nat} {tp : Nat → Nat} {f fp : Int32} {mb b : Nat}
theorem c_gain (hI : cIts z μ a C X1) (hf : zfar z a) (hN : cSt μ (z + 7) X 0) (hT : cSt μ (z + 11) Y 0) (hC : wfC C) (hX : wfX C X mb) (hY : wfX C Y mb) (hm : mb ≤ 100000) {t k : Nat} (ht : t < 6) (hk : k ≤ 8) {Q : Int64 → zM → Prop} (hq : ∀ μ', zOff (Sw a) μ μ' → Q (gn C X t k (xD Y) (xM Y)) μ') : pX0_gain z (nI t) (nI k) μ Q := by
  have h3 := hY.2.2.1
  have ho8 := hX.O ht
  unfold gn at hq
  unfold pX0_gain
  by_cases c : k = 8
  · rw [if_pos (by rw [c])]
    rw [if_pos c] at hq
    exact hq μ zOff.rf
  rw [if_neg (fun q => c ((nI_eq (by omega) (by omega)).mp q))]
  rw [if_neg c] at hq
  have hi : vp_in (nI t) 6 := vp_in_nI ht (by decide)
  refine ⟨a, hI.2.1, a, hI.2.1, hI.2.2.1, hi, hi, hi, ?_⟩
  rw [nI_clamp (by omega), hN.O ht, hN.G ht, hI.2.2.Wa ht]
  unfold pX0_gain_50
  rw [hT.D, hT.M]
  have rest : ∀ (v : Int32), v = worV C t (xG X t) (xO X t) k (xD Y) (xM Y) → ∀ μ1, zOff (Sw a) μ μ1 → pX2_pays z (z + 11) (nI k) μ1 (fun r4 μ3 => Q (v.toInt64 - r4.toInt64) μ3) := by
    intro v hv μ1 o1
    have hI1 := hI.off o1 hI.avw
    have hd := hI.dj hT.ty
    refine c_pays hI1 (hT.off o1 (fun k q => by unfold Sw at q; omega) (fun i k h1 h2 q => by unfold Sw at q; omega)) hC hY hm (by omega) (fun μ2 o2 => ?_)
    rw [hv]
    exact hq μ2 (o1.tr o2)
  by_cases c2 : xO X t = k + 1
  · rw [if_pos ((eO_nI (by omega) (by omega)).mpr c2)]
    refine c_worthT hI hC (Or.inr rfl) (by omega) hY.2.1 (by omega) (fun μ1 o1 => rest _ ?_ μ1 o1)
    rw [worV_eq, if_pos c2]
  · rw [if_neg (fun q => c2 ((eO_nI (by omega) (by omega)).mp q))]
    refine c_worthT hI hC (Or.inl rfl) (by omega) hY.2.1 (by omega) (fun μ1 o1 => rest _ ?_ μ1 o1)
    rw [worV_eq, if_neg c2]
theorem t_gainIn (hM : tM th μ C X) (hC : wfC C) (hX : wfX C X mb) (hm : mb ≤ 90000) {t k i su : Nat} (ht : t < 6) (hk : k ≤ 8) (hi : i < 602) (h9 : zI μ (th + 9) i = nI su) (hsu : su ≤ 99999) {Q : Int64 → zM → Prop} (hq : ∀ μ', zOff (S56 th) μ μ' → Q (gn C X t k su (xM X + i)) μ') : pX4_gainIn th (nI t) (nI i) (nI k) μ Q := by
  have h3 := hX.2.2.1
  unfold gn at hq
  refine ⟨v3 (by decide), ?_⟩
  by_cases c : k = 8
  · rw [if_pos (by rw [c])]
    rw [if_pos c] at hq
    exact hq μ zOff.rf
  rw [if_neg (fun q => c ((nI_eq (by omega) (by omega)).mp q))]
  rw [if_neg c] at hq
  have v6 : vp_in (nI i) 602 := vp_in_nI hi (by decide)
  refine ⟨v6, ?_⟩
  rw [nI_clamp (by omega), h9, nI_clamp (by decide), hM.M, nI_add]
  refine t_worthOf hM hC (fun t ht => hX.O ht) ht (by omega) hsu (by omega) (fun μ1 o1 => ⟨v6, ?_⟩)
  rw [o1.I (show ¬ S56 th (th + 9) i by unfold S56; omega), h9]
  exact t_paysOf (hM.offT (S56.T o1)).1 hC (by omega) hsu (by omega) (fun μ2 o2 => hq μ2 (o1.tr o2))
theorem t_whereNow (hM : tM th μ C X) (hX : wfX C X mb) {t : Nat} (ht : t < 6) {Q : Int32 → zM → Prop} (hq : Q (nI (whr (xO X t))) μ) : pX4_whereNow th (nI t) μ Q := by
  have ho8 := hX.O ht
  refine ⟨zin2 (by omega) (by decide), ?_⟩
  rw [zcl2 (by omega), hM.O ht]
  unfold whr at hq
  by_cases c : xO X t = 0
  · rw [if_pos c] at hq
    rw [if_pos ((eO_m1 (by omega)).mpr c)]
    exact hq
  · rw [if_neg c] at hq
    rw [if_neg (fun q => c ((eO_m1 (by omega)).mp q)), eO_pos c]
    exact ⟨zin2 (by omega) (by decide), hq⟩
def vBst (C : zC) (X : zX) (x : Int32) : Int32 := if 0 ≤ x.toInt ∧ x.toInt < kT C then btN C X x.toInt.toNat (xS X) 0 (-1 : Int32) (gn C X x.toInt.toNat (whr (xO X x.toInt.toNat)) (xD X) (xM X)) else (-2 : Int32)
theorem c_best (hw : zWf mb C X1 X dn dX im tr tn tp) (hm : mb ≤ 90000) (h : cR z a μ C X1 X dn dX im tr tn tp f fp) {x : Int32} {Q : Int32 → zM → Prop} (hq : ∀ μ', zOff (SC z a) μ μ' → Q (vBst C X x) μ') : pX0_best z x μ Q := by
  unfold vBst at hq
  have hT := hw.c.1
  have hS := hw.x.1
  refine c_isTenant h.I hw.c (fun t t1 t2 t3 => if01 ?_) (fun q => if00 ?_)
  · rw [if_pos (by omega), i32_k t3] at hq
    subst t2
    have ht : t < 6 := by omega
    have ho8 := hw.x.O ht
    have v6 : vp_in (nI t) 6 := vp_in_nI ht (by decide)
    refine c_tho h.I h.far h.N (fun μ1 o1 hI hN hTh => ⟨v6, ?_⟩)
    have key : ∀ d k b m ν, k + d = xS X → zOff (SC z a) μ ν → cIts z ν a C X1 → cSt ν (z + 7) X 0 → cSt ν (z + 11) X 0 → (∀ μ', zOff (SC z a) μ μ' → Q (btN C X t d k b m) μ') → pX0_best_60 z (nI t) Q (d + 1) b m (nI k) ν := by
      intro d
      induction d with
      | zero =>
        intro k b m ν hi o _ hN _ h4
        unfold pX0_best_60
        rw [hN.S, if_pos (nI_le (by omega) (by omega))]
        exact h4 ν o
      | succ d ih =>
        intro k b m ν hi o hI hN hTh h4
        have keep : ∀ ν', zOff (Sw a) ν ν' → zOff (SC z a) μ ν' ∧ cIts z ν' a C X1 ∧ cSt ν' (z + 7) X 0 ∧ cSt ν' (z + 11) X 0 := by
          intro ν' o'
          have hd := hI.dj hTh.ty
          exact ⟨o.tr (Sw.c o'), hI.off o' hI.avw, hN.offC hI h.far (Or.inl rfl) (Sw.c o'), hTh.off o' (fun k q => by unfold Sw at q; omega) (fun i k h1 h2 q => by unfold Sw at q; omega)⟩
        unfold pX0_best_60
        rw [hN.S, if_neg (nI_ge (by omega) (by omega))]
        refine c_who hI hN hw.c hw.x (by omega) ?_
        have hwl := who_le (C := C) (X := X) (k := k)
        rw [btN] at h4
        by_cases c : who C X k = 0
        · rw [if_pos ((eO_m1 (by omega)).mpr c)]
          refine c_isBuried hN hw.x (by omega) ?_
          by_cases c2 : 144 * (k + 1) ≤ xD X
          · rw [if_pos c2]
            refine (if_neg nI1_ne0).mpr ?_
            rw [if_neg (fun q => q.2 c2)] at h4
            rw [nI_add]
            exact ih (k + 1) b m ν (by omega) o hI hN hTh h4
          · rw [if_neg c2]
            refine if00 ?_
            rw [if_pos ⟨c, c2⟩] at h4
            refine c_gain hI h.far hN hTh hw.c hw.x hw.x (by omega) ht (by omega) (fun ν2 o2 => ?_)
            obtain ⟨k1, k2, k3, k4⟩ := keep ν2 o2
            have last : (∀ μ', zOff (SC z a) μ μ' → Q (btN C X t d (k + 1) (nI k) (gn C X t k (xD X) (xM X))) μ') → ∀ ν2, zOff (Sw a) ν ν2 → pX0_best_129 z (nI t) (fun v0 v1 v2 ν => pX0_best_60 z (nI t) Q (d + 1) v0 v1 v2 ν) Q (nI k) ν2 := by
              intro h5 ν2 o2
              obtain ⟨k1, k2, k3, k4⟩ := keep ν2 o2
              refine c_gain k2 h.far k3 k4 hw.c hw.x hw.x (by omega) ht (by omega) (fun ν3 o3 => ?_)
              obtain ⟨j1, j2, j3, j4⟩ := keep ν3 (o2.tr o3)
              rw [nI_add]
              exact ih (k + 1) _ _ ν3 (by omega) j1 j2 j3 j4 h5
            by_cases c3 : gn C X t k (xD X) (xM X) < m
            · rw [if_pos c3] at h4
              rw [if_pos (lg_lt.mpr c3), nI_add]
              exact ih (k + 1) b m ν2 (by omega) k1 k2 k3 k4 h4
            · rw [if_neg c3] at h4
              rw [if_neg (fun q => c3 (lg_lt.mp q))]
              by_cases c4 : b = (-1 : Int32)
              · rw [if_pos c4]
                refine c_gain k2 h.far k3 k4 hw.c hw.x hw.x (by omega) ht (by omega) (fun ν3 o3 => ?_)
                obtain ⟨j1, j2, j3, j4⟩ := keep ν3 (o2.tr o3)
                by_cases c5 : (gn C X t k (xD X) (xM X)).toInt = m.toInt
                · rw [if_pos ⟨c5, c4⟩] at h4
                  rw [if_pos (lg_eq.mpr c5), nI_add]
                  exact ih (k + 1) b m ν3 (by omega) j1 j2 j3 j4 h4
                · rw [if_neg (fun q => c5 q.1)] at h4
                  rw [if_neg (fun q => c5 (lg_eq.mp q))]
                  exact last h4 ν3 (o2.tr o3)
              · rw [if_neg c4]
                rw [if_neg (fun q => c4 q.2)] at h4
                exact last h4 ν2 o2
        · rw [if_neg (fun q => c ((eO_m1 (by omega)).mp q)), nI_add]
          rw [if_neg (fun q => c q.1)] at h4
          exact ih (k + 1) b m ν (by omega) o hI hN hTh h4
    rw [nI_clamp (by omega), hN.O ht]
    by_cases c : xO X t = 0
    · rw [if_pos ((eO_m1 (by omega)).mpr c)]
      refine ⟨_, key (xS X) 0 _ _ μ1 (by omega) o1 hI hN hTh (fun μ' o => ?_)⟩
      have hq := hq μ' o
      unfold whr gn at hq
      rw [if_pos c, if_pos rfl] at hq
      exact hq
    · rw [if_neg (fun q => c ((eO_m1 (by omega)).mp q)), eO_pos c]
      refine ⟨v6, c_gain hI h.far hN hTh hw.c hw.x hw.x (by omega) ht (by omega) (fun ν2 o2 => ?_)⟩
      have hd := hI.dj hTh.ty
      refine ⟨_, key (xS X) 0 _ _ ν2 (by omega) (o1.tr (Sw.c o2)) (hI.off o2 hI.avw) (hN.offC hI h.far (Or.inl rfl) (Sw.c o2)) (hTh.off o2 (fun k q => by unfold Sw at q; omega) (fun i k h1 h2 q => by unfold Sw at q; omega)) (fun μ' o => ?_)⟩
      have hq := hq μ' o
      unfold whr at hq
      rw [if_neg c] at hq
      exact hq
  · rw [if_neg q] at hq
    exact hq μ zOff.rf
theorem t_best (hw : zWf mb C X1 X dn dX im tr tn tp) (hm : mb ≤ 90000) (h : tR th μ C X1 X dn dX im tr tn tp f fp) {x : Int32} {Q : Int32 → zM → Prop} (hq : ∀ μ', zOff (ST th) μ μ' → Q (vBst C X x) μ') : pX4_best th x μ Q := by
  unfold vBst at hq
  have hT := hw.c.1
  have hS := hw.x.1
  have hD := hw.x.2.1
  refine t0 (fun μ1 ho => ?_)
  have hM := h.M.offT ho
  refine u_isTenant hM hw.c (fun t t1 t2 t3 => if01 ?_) (fun q => if00 ?_)
  · rw [Int32.toInt_toInt64] at t3
    replace t2 := (i64_of_lN (by omega)).mp t2
    rw [if_pos (by omega), i32_k t3] at hq
    subst t2
    have ht : t < 6 := by omega
    have ho8 := hw.x.O ht
    refine t_ahead hw hm hM ho (by decide) (fun μ2 o2 hM2 hk2 => ?_)
    have h90 : zI μ2 (th + 9) 0 = nI (xD X) := hk2 0 (Nat.le_refl _)
    refine t_whereNow hM2 hw.x ht ?_
    have key : ∀ d k b m ν, k + d = xS X → zOff (S56 th) μ2 ν → (∀ μ', zOff (ST th) μ μ' → Q (btN C X t d k b m) μ') → pX4_best_39 th (nI t) Q (d + 1) b m (nI k) ν := by
      intro d
      induction d with
      | zero =>
        intro k b m ν hi o h4
        have hMν := hM2.offT (S56.T o)
        refine ⟨v3 (by decide), ?_⟩
        rw [nI_clamp (by decide), hMν.S, if_pos (nI_le (by omega) (by omega))]
        exact h4 ν (o2.tr (S56.T o))
      | succ d ih =>
        intro k b m ν hi o h4
        have hMν := hM2.offT (S56.T o)
        refine ⟨v3 (by decide), ?_⟩
        rw [nI_clamp (by decide), hMν.S, if_neg (nI_ge (by omega) (by omega))]
        refine t_livesOn hMν hw.c.1 (fun t ht => hw.x.O ht) (by omega) ?_
        have hwl := who_le (C := C) (X := X) (k := k)
        rw [btN] at h4
        by_cases c : who C X k = 0
        · rw [if_pos ((eO_m1 (by omega)).mpr c)]
          refine ⟨v3 (by decide), ?_⟩
          rw [nI_clamp (by decide), hMν.D]
          refine t_isBuried (by omega) (by omega) ?_
          by_cases c2 : 144 * (k + 1) ≤ xD X
          · rw [if_pos c2]
            refine (if_neg nI1_ne0).mpr ?_
            rw [if_neg (fun q => q.2 c2)] at h4
            rw [nI_add]
            exact ih (k + 1) b m ν (by omega) o h4
          · rw [if_neg c2]
            refine if00 ?_
            rw [if_pos ⟨c, c2⟩] at h4
            refine t_gainIn hMν hw.c hw.x hm ht (by omega) (by decide) ((o.I (by unfold S56; omega)).trans h90) hD (fun ν2 o3 => ?_)
            rw [Nat.add_zero]
            have o4 := o.tr o3
            by_cases c3 : gn C X t k (xD X) (xM X) < m
            · rw [if_pos c3] at h4
              rw [if_pos (lg_lt.mpr c3), nI_add]
              exact ih (k + 1) b m ν2 (by omega) o4 h4
            · rw [if_neg c3] at h4
              rw [if_neg (fun q => c3 (lg_lt.mp q))]
              by_cases c5 : (gn C X t k (xD X) (xM X)).toInt = m.toInt
              · rw [if_pos (lg_eq.mpr c5)]
                by_cases c4 : b = (-1 : Int32)
                · rw [if_pos ⟨c5, c4⟩] at h4
                  rw [if_pos c4, nI_add]
                  exact ih (k + 1) b m ν2 (by omega) o4 h4
                · rw [if_neg (fun q => c4 q.2)] at h4
                  rw [if_neg c4, nI_add]
                  exact ih (k + 1) _ _ ν2 (by omega) o4 h4
              · rw [if_neg (fun q => c5 q.1)] at h4
                rw [if_neg (fun q => c5 (lg_eq.mp q)), nI_add]
                exact ih (k + 1) _ _ ν2 (by omega) o4 h4
        · rw [if_neg (fun q => c ((eO_m1 (by omega)).mp q)), nI_add]
          rw [if_neg (fun q => c q.1)] at h4
          exact ih (k + 1) b m ν (by omega) o h4
    have hwh : whr (xO X t) ≤ 8 := by unfold whr; split <;> omega
    refine t_gainIn hM2 hw.c hw.x hm ht hwh (by decide) h90 hD (fun ν2 o3 => ?_)
    rw [Nat.add_zero]
    exact ⟨_, key (xS X) 0 _ _ ν2 (by omega) o3 hq⟩
  · rw [Int32.toInt_toInt64] at q
    rw [if_neg q] at hq
    exact hq μ1 ho
def vEnv (C : zC) (X : zX) (x : Int32) : Int32 := if 0 ≤ x.toInt ∧ x.toInt < kT C then enN C X x.toInt.toNat (kT C) 0 (nI 0) else (-2 : Int32)
theorem c_envies (hw : zWf mb C X1 X dn dX im tr tn tp) (hm : mb ≤ 90000) (h : cR z a μ C X1 X dn dX im tr tn tp f fp) {x : Int32} {Q : Int32 → zM → Prop} (hq : ∀ μ', zOff (SC z a) μ μ' → Q (vEnv C X x) μ') : pX0_envies z x μ Q := by
  unfold vEnv at hq
  have hT := hw.c.1
  refine c_isTenant h.I hw.c (fun t t1 t2 t3 => if01 ?_) (fun q => if00 ?_)
  · rw [if_pos (by omega), i32_k t3] at hq
    subst t2
    have ht : t < 6 := by omega
    have ho8 := hw.x.O ht
    have v6 : vp_in (nI t) 6 := vp_in_nI ht (by decide)
    have key : ∀ d u s ν, u + d = kT C → zOff (SC z a) μ ν → (∀ μ', zOff (SC z a) μ μ' → Q (enN C X t d u s) μ') → pX0_envies_15 z (nI t) Q (d + 1) s (nI u) ν := by
      intro d
      induction d with
      | zero =>
        intro u s ν hi o h4
        have hI := h.I.offC h.far o
        refine ⟨a, hI.2.1, hI.2.2.1, ?_⟩
        rw [hI.2.2.T, if_pos (nI_le (by omega) (by omega))]
        exact h4 ν o
      | succ d ih =>
        intro u s ν hi o h4
        have hI := h.I.offC h.far o
        have hN := h.N.offC h.I h.far (Or.inl rfl) o
        have hu : u < 6 := by omega
        have hu8 := hw.x.O hu
        have vu : vp_in (nI u) 6 := vp_in_nI hu (by decide)
        refine ⟨a, hI.2.1, hI.2.2.1, ?_⟩
        rw [hI.2.2.T, if_neg (nI_ge (by omega) (by omega)), nI_add]
        rw [enN] at h4
        by_cases c1 : u = t
        · rw [if_pos (by rw [c1])]
          rw [if_neg (fun q => q.1 c1)] at h4
          exact ih (u + 1) s ν (by omega) o h4
        rw [if_neg (fun q => c1 ((nI_eq (by omega) (by omega)).mp q))]
        refine ⟨v6, ?_⟩
        rw [nI_clamp (show t < 2 ^ 31 by omega), hN.O ht]
        by_cases c2 : xO X t = 0
        · rw [if_pos ((eO_m1 (by omega)).mpr c2)]
          rw [if_neg (fun q => q.2.1 c2)] at h4
          exact ih (u + 1) s ν (by omega) o h4
        rw [if_neg (fun q => c2 ((eO_m1 (by omega)).mp q))]
        refine ⟨vu, ?_⟩
        rw [nI_clamp (show u < 2 ^ 31 by omega), hN.O hu]
        by_cases c3 : xO X u = 0
        · rw [if_pos ((eO_m1 (by omega)).mpr c3)]
          rw [if_neg (fun q => q.2.2.1 c3)] at h4
          exact ih (u + 1) s ν (by omega) o h4
        rw [if_neg (fun q => c3 ((eO_m1 (by omega)).mp q))]
        refine ⟨vu, ?_⟩
        rw [eO_pos c3]
        refine c_worth hI hN hw.c hw.x (by omega) ht (by omega) (fun ν2 o2 => ⟨v6, ?_⟩)
        have hI2 := hI.off o2 hI.avw
        have hN2 := hN.offC hI h.far (Or.inl rfl) (Sw.c o2)
        rw [hN2.O ht, eO_pos c2]
        refine c_worth hI2 hN2 hw.c hw.x (by omega) ht (by omega) (fun ν3 o3 => ?_)
        have o4 := (o.tr (Sw.c o2)).tr (Sw.c o3)
        by_cases c4 : worX C X t (xO X u - 1) ≤ worX C X t (xO X t - 1)
        · rw [if_neg (fun q => q.2.2.2 c4)] at h4
          refine (if_pos c4).mpr ?_
          exact ih (u + 1) s ν3 (by omega) o4 h4
        · rw [if_pos ⟨c1, c2, c3, c4⟩] at h4
          refine (if_neg c4).mpr ?_
          exact ih (u + 1) _ ν3 (by omega) o4 h4
    exact ⟨_, key (kT C) 0 _ μ (by omega) zOff.rf hq⟩
  · rw [if_neg q] at hq
    exact hq μ zOff.rf
theorem t_envies (hw : zWf mb C X1 X dn dX im tr tn tp) (hm : mb ≤ 90000) (h : tR th μ C X1 X dn dX im tr tn tp f fp) {x : Int32} {Q : Int32 → zM → Prop} (hq : ∀ μ', zOff (ST th) μ μ' → Q (vEnv C X x) μ') : pX4_envies th x μ Q := by
  unfold vEnv at hq
  have hT := hw.c.1
  refine t0 (fun μ1 ho => ?_)
  refine u_isTenant (h.M.offT ho) hw.c (fun t t1 t2 t3 => if01 ?_) (fun q => if00 ?_)
  · rw [Int32.toInt_toInt64] at t3
    replace t2 := (i64_of_lN (by omega)).mp t2
    rw [if_pos (by omega), i32_k t3] at hq
    subst t2
    have ht : t < 6 := by omega
    have ho8 := hw.x.O ht
    have v35 : vp_in (nI 35 + nI t) 3594 := zin2 (by omega) (by decide)
    have key : ∀ d u s ν, u + d = kT C → zOff (ST th) μ ν → (∀ μ', zOff (ST th) μ μ' → Q (enN C X t d u s) μ') → pX4_envies_21 th (nI t) Q (d + 1) s (nI u) ν := by
      intro d
      induction d with
      | zero =>
        intro u s ν hi o h4
        have hM := h.M.offT o
        refine ⟨v3 (by decide), ?_⟩
        rw [nI_clamp (by decide), hM.T, if_pos (nI_le (by omega) (by omega))]
        exact h4 ν o
      | succ d ih =>
        intro u s ν hi o h4
        have hM := h.M.offT o
        have hu : u < 6 := by omega
        have hu8 := hw.x.O hu
        have vu : vp_in (nI 35 + nI u) 3594 := zin2 (by omega) (by decide)
        refine ⟨v3 (by decide), ?_⟩
        rw [nI_clamp (by decide), hM.T, if_neg (nI_ge (by omega) (by omega)), nI_add u 1]
        refine ⟨v35, ?_⟩
        rw [zcl2 (show 35 + t < 2 ^ 31 by omega), hM.O ht]
        by_cases c2 : xO X t = 0
        · rw [if_pos ((eO_m1 (by omega)).mpr c2)]
          rw [enN_aw c2] at h4
          exact h4 ν o
        rw [if_neg (fun q => c2 ((eO_m1 (by omega)).mp q))]
        rw [enN] at h4
        by_cases c1 : u = t
        · rw [if_pos (by rw [c1])]
          rw [if_neg (fun q => q.1 c1)] at h4
          exact ih (u + 1) s ν (by omega) o h4
        rw [if_neg (fun q => c1 ((nI_eq (by omega) (by omega)).mp q))]
        refine ⟨vu, ?_⟩
        rw [zcl2 (show 35 + u < 2 ^ 31 by omega), hM.O hu]
        by_cases c3 : xO X u = 0
        · rw [if_pos ((eO_m1 (by omega)).mpr c3)]
          rw [if_neg (fun q => q.2.2.1 c3)] at h4
          exact ih (u + 1) s ν (by omega) o h4
        rw [if_neg (fun q => c3 ((eO_m1 (by omega)).mp q))]
        refine ⟨vu, ?_⟩
        rw [eO_pos c3]
        refine t_worthNow hM hw.c hw.x hm ht (by omega) (fun ν2 o2 => ⟨v35, ?_⟩)
        have hM2 := hM.offT (S56.T o2)
        rw [hM2.O ht, eO_pos c2]
        refine t_worthNow hM2 hw.c hw.x hm ht (by omega) (fun ν3 o3 => ?_)
        have o4 := (o.tr (S56.T o2)).tr (S56.T o3)
        by_cases c4 : worX C X t (xO X u - 1) ≤ worX C X t (xO X t - 1)
        · rw [if_neg (fun q => q.2.2.2 c4)] at h4
          rw [if_pos c4]
          exact ih (u + 1) s ν3 (by omega) o4 h4
        · rw [if_pos ⟨c1, c2, c3, c4⟩] at h4
          rw [if_neg c4]
          exact ih (u + 1) _ ν3 (by omega) o4 h4
    exact ⟨_, key (kT C) 0 _ μ1 (by omega) ho hq⟩
  · rw [Int32.toInt_toInt64] at q
    rw [if_neg q] at hq
    exact hq μ1 ho
end QE
