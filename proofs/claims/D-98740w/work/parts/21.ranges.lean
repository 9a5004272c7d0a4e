/-! ranges; why a deed may not be -/
theorem rin {x y w : Int64} {a b : Int} (hy : y.toInt = a) (hw : w.toInt = b) {A B : Prop} (h1 : a ≤ x.toInt → x.toInt ≤ b → B) (h0 : ¬ (a ≤ x.toInt ∧ x.toInt ≤ b) → A) : if lg_cmp x y < 0 then A else if 0 < lg_cmp x w then A else B := by
  by_cases c1 : x < y
  · rw [if_pos (lg_lt.mpr c1)]
    rw [Int64.lt_iff_toInt_lt] at c1
    exact h0 (fun q => by omega)
  · rw [if_neg (fun q => c1 (lg_lt.mp q))]
    rw [Int64.lt_iff_toInt_lt] at c1
    by_cases c2 : w < x
    · rw [if_pos (lg_gt.mpr c2)]
      rw [Int64.lt_iff_toInt_lt] at c2
      exact h0 (fun q => by omega)
    · rw [if_neg (fun q => c2 (lg_gt.mp q))]
      rw [Int64.lt_iff_toInt_lt] at c2
      exact h1 (by omega) (by omega)
theorem rin32 {x : Int32} {y w : Int64} {a b : Int} (hy : y.toInt = a) (hw : w.toInt = b) {A B : Prop} (h1 : a ≤ x.toInt → x.toInt ≤ b → B) (h0 : ¬ (a ≤ x.toInt ∧ x.toInt ≤ b) → A) : if lg_cmp x.toInt64 y < 0 then A else if 0 < lg_cmp x.toInt64 w then A else B := by
  refine rin hy hw (fun q1 q2 => h1 ?_ ?_) (fun q => h0 ?_)
  · rwa [Int32.toInt_toInt64] at q1
  · rwa [Int32.toInt_toInt64] at q2
  · rwa [Int32.toInt_toInt64] at q
theorem nT {n : Nat} (h : n < 2 ^ 30) : ((nI n - nI 1).toInt64).toInt = (n : Int) - 1 := by
  rw [Int32.toInt_toInt64, pk_sub_toInt h (by decide)]
  rfl
theorem i32N {x : Int32} (h : 0 ≤ x.toInt) : ∃ k : Nat, k < 2 ^ 31 ∧ x = nI k ∧ x.toInt = k := by
  obtain ⟨k, h1, h2⟩ := nI_of (x := x) (by rw [Int32.lt_iff_toInt_lt]; simpa using h)
  exact ⟨k, h1, h2, by rw [h2, nI_toInt h1]⟩
theorem i64N {x : Int64} (h : 0 ≤ x.toInt) : ∃ k : Nat, k < 2 ^ 63 ∧ x = lN k ∧ x.toInt = k := by
  obtain ⟨k, h1, h2⟩ := pk_lOf (x := x) (by rw [Int64.lt_iff_toInt_lt]; simpa using h)
  exact ⟨k, h1, h2, by rw [h2]; exact lg_ofNat_toInt h1⟩
theorem if01 {A B : Prop} (h : B) : if nI 1 = 0 then A else B := by rw [if_neg nI1_ne0]; exact h
theorem if00 {A B : Prop} (h : A) : if nI 0 = 0 then A else B := by rw [if_pos nI_0]; exact h
theorem lg_eq {x y : Int64} : lg_cmp x y = 0 ↔ x.toInt = y.toInt := by
  constructor
  · intro h
    have h1 : ¬ x < y := fun q => by have := lg_lt.mpr q; rw [h] at this; exact absurd this (by decide)
    have h2 : ¬ y < x := fun q => by have := lg_gt.mpr q; rw [h] at this; exact absurd this (by decide)
    rw [Int64.lt_iff_toInt_lt] at h1 h2
    omega
  · intro h
    have e : x = y := Int64.toInt_inj.mp h
    subst e
    unfold lg_cmp
    rw [if_neg (fun q : x < x => by rw [Int64.lt_iff_toInt_lt] at q; omega), if_pos rfl]
/-- why one may not move there; leave; be told so -/
def whyM (C : zC) (X : zX) (t k : Int) : Nat := if 0 ≤ t ∧ t < kT C ∧ 0 ≤ k ∧ k < xS X then (if who C X k.toNat ≠ 0 then 2 else if 144 * (k.toNat + 1) ≤ xD X then 3 else 0) else 1
def whyL (C : zC) (X : zX) (t : Int) : Nat := if 0 ≤ t ∧ t < kT C then (if xO X t.toNat = 0 then 2 else 0) else 1
def whyN (C : zC) (X : zX) (v : Int) : Nat := if v = -1 then 0 else if v = 3000 then 0 else if v = 2000 then (if xS X = 8 then 2 else 0) else if 0 ≤ v ∧ v ≤ 599 then whyM C X (v / 100) (v % 100) else if 1000 ≤ v ∧ v ≤ 1099 then whyL C X (v - 1000) else if 10000 ≤ v ∧ v ≤ 15999 then (if (v - 10000) / 1000 < kT C then 0 else 1) else 1
theorem whoN_le {C : zC} {X : zX} {k : Nat} : ∀ d, d ≤ kT C → whoN C X k d ≤ kT C
  | 0, _ => Nat.zero_le _
  | d + 1, h => by
    unfold whoN
    split
    · omega
    · exact whoN_le d (by omega)
theorem who_le {C : zC} {X : zX} {k : Nat} : who C X k ≤ kT C := whoN_le _ (Nat.le_refl _)
section CE
variable {z : Nat} {μ : zM} {a s : Nat} {C : zC} {X X1 : zX} {b mb : Nat}
theorem c_isTenant (h : cIts z μ a C X1) (hC : wfC C) {x : Int32} {Q : Int32 → zM → Prop} (h1 : ∀ k, k < kT C → x = nI k → x.toInt = k → Q (nI 1) μ) (h0 : ¬ (0 ≤ x.toInt ∧ x.toInt < kT C) → Q (nI 0) μ) : pX0_isTenant z x μ Q := by
  have hT := hC.1
  refine ⟨a, h.2.1, h.2.2.1, ?_⟩
  rw [h.2.2.T]
  refine rin32 (a := 0) (b := kT C - 1) rfl (nT (by omega)) (fun q1 q2 => ?_) (fun q => ⟨zbo0, h0 (fun p => q (by omega))⟩)
  obtain ⟨k, k1, k2, k3⟩ := i32N q1
  exact ⟨zbo1, h1 k (by omega) k2 k3⟩
theorem c_isStorey (hs : cSt μ (z + 7) X b) (hX : wfX C X mb) {x : Int32} {Q : Int32 → zM → Prop} (h1 : ∀ k, k < xS X → x = nI k → x.toInt = k → Q (nI 1) μ) (h0 : ¬ (0 ≤ x.toInt ∧ x.toInt < xS X) → Q (nI 0) μ) : pX0_isStorey z x μ Q := by
  have hT := hX.1
  unfold pX0_isStorey
  rw [hs.S]
  refine rin32 (a := 0) (b := xS X - 1) rfl (nT (by omega)) (fun q1 q2 => ?_) (fun q => ⟨zbo0, h0 (fun p => q (by omega))⟩)
  obtain ⟨k, k1, k2, k3⟩ := i32N q1
  exact ⟨zbo1, h1 k (by omega) k2 k3⟩
theorem c_whyMove (h : cIts z μ a C X1) (hs : cSt μ s X b) (hC : wfC C) (hX : wfX C X mb) {t k : Int64} {Q : Int32 → zM → Prop} (hq : Q (nI (whyM C X t.toInt k.toInt)) μ) : pX2_whyMove z s t k μ Q := by
  have hT := hC.1
  have hS := hX.1
  refine ⟨hs.ty, a, h.2.1, h.2.2.1, ?_⟩
  rw [h.2.2.T]
  unfold whyM at hq
  refine rin (a := 0) (b := kT C - 1) rfl (nT (by omega)) (fun q1 q2 => if01 ?_) (fun q => if00 ?_)
  · rw [hs.S]
    refine rin (a := 0) (b := xS X - 1) rfl (nT (by omega)) (fun q3 q4 => if01 ?_) (fun q => if00 ?_)
    · rw [if_pos (by omega)] at hq
      obtain ⟨n, k1, rfl, k3⟩ := i64N q3
      rw [k3, Int.toNat_natCast] at hq
      rw [lN_i]
      refine c_who h hs hC hX (by omega) ?_
      have hw := who_le (C := C) (X := X) (k := n)
      by_cases c : who C X n = 0
      · rw [if_neg (fun q => q c)] at hq
        rw [c, eO_0, if_pos rfl]
        refine c_isBuried hs hX (by omega) ?_
        by_cases c2 : 144 * (n + 1) ≤ xD X
        · rw [if_pos c2] at hq ⊢
          exact if01 hq
        · rw [if_neg c2] at hq ⊢
          exact if00 hq
      · rw [if_pos c] at hq
        rw [if_neg (fun q => c ((eO_m1 (by omega)).mp q))]
        exact hq
    · rw [if_neg (by omega)] at hq
      exact hq
  · rw [if_neg (by omega)] at hq
    exact hq
theorem c_whyLeave (h : cIts z μ a C X1) (hs : cSt μ s X b) (hC : wfC C) (hX : wfX C X mb) {t : Int64} {Q : Int32 → zM → Prop} (hq : Q (nI (whyL C X t.toInt)) μ) : pX2_whyLeave z s t μ Q := by
  have hT := hC.1
  refine ⟨hs.ty, a, h.2.1, h.2.2.1, ?_⟩
  rw [h.2.2.T]
  unfold whyL at hq
  refine rin (a := 0) (b := kT C - 1) rfl (nT (by omega)) (fun q1 q2 => if01 ?_) (fun q => if00 ?_)
  · rw [if_pos (by omega)] at hq
    obtain ⟨n, k1, rfl, k3⟩ := i64N q1
    rw [k3, Int.toNat_natCast] at hq
    rw [lN_i]
    have hn : n < 6 := by omega
    refine ⟨vp_in_nI hn (by decide), ?_⟩
    rw [nI_clamp (by omega), hs.O hn]
    have ho := hX.O hn
    by_cases c : xO X n = 0
    · rw [if_pos c] at hq
      rw [if_pos ((eO_m1 (by omega)).mpr c)]
      exact hq
    · rw [if_neg c] at hq
      rw [if_neg (fun q => c ((eO_m1 (by omega)).mp q))]
      exact hq
  · rw [if_neg (by omega)] at hq
    exact hq
theorem lN_si {n : Nat} (h : n < 2 ^ 63) : (lN n).toInt = (n : Int) := lg_ofNat_toInt h
theorem c_why (h : cIts z μ a C X1) (hs : cSt μ s X b) (hC : wfC C) (hX : wfX C X mb) {v : Int64} {Q : Int32 → zM → Prop} (hq : Q (nI (whyN C X v.toInt)) μ) : pX2_why z s v μ Q := by
  have hT := hC.1
  have hS := hX.1
  refine ⟨hs.ty, ?_⟩
  unfold whyN at hq
  by_cases c1 : v.toInt = -1
  · rw [if_pos c1] at hq
    rw [if_pos (lg_eq.mpr c1)]
    exact hq
  rw [if_neg c1] at hq
  rw [if_neg (fun q => c1 (lg_eq.mp q))]
  by_cases c2 : v.toInt = 3000
  · rw [if_pos c2] at hq
    rw [if_pos (lg_eq.mpr c2)]
    exact hq
  rw [if_neg c2] at hq
  rw [if_neg (fun q => c2 (lg_eq.mp q))]
  by_cases c3 : v.toInt = 2000
  · rw [if_pos c3] at hq
    rw [if_pos (lg_eq.mpr c3), hs.S]
    by_cases c4 : xS X = 8
    · rw [if_pos c4] at hq
      rw [if_pos (by rw [c4])]
      exact hq
    · rw [if_neg c4] at hq
      rw [if_neg (fun q => c4 ((nI_eq (by omega) (by omega)).mp q))]
      exact hq
  rw [if_neg c3] at hq
  rw [if_neg (fun q => c3 (lg_eq.mp q))]
  refine rin (a := 0) (b := 599) rfl rfl (fun q1 q2 => if01 ?_) (fun q => if00 ?_)
  · rw [if_pos ⟨q1, q2⟩] at hq
    obtain ⟨n, k1, rfl, k3⟩ := i64N q1
    rw [k3] at hq q2
    refine c_whyMove h hs hC hX ?_
    rw [show (100 : Int64) = lN 100 from rfl, pk_lDiv (by omega) (by decide) (by decide), show lN n - lN (n / 100) * lN 100 = lN (n % 100) by rw [← pk_lRem (by omega) (by decide) (by decide), pk_lDiv (by omega) (by decide) (by decide)], lN_si (by omega), lN_si (by omega)]
    exact hq
  rw [if_neg q] at hq
  refine rin (a := 1000) (b := 1099) rfl rfl (fun q1 q2 => if01 ?_) (fun q => if00 ?_)
  · rw [if_pos ⟨q1, q2⟩] at hq
    obtain ⟨n, k1, rfl, k3⟩ := i64N (show 0 ≤ v.toInt by omega)
    rw [k3] at hq q1 q2
    refine c_whyLeave h hs hC hX ?_
    rw [show (1000 : Int64) = lN 1000 from rfl, lN_sub (by omega), lN_si (by omega)]
    rw [show ((n : Int) - 1000) = ((n - 1000 : Nat) : Int) by omega] at hq
    exact hq
  rw [if_neg q] at hq
  refine rin (a := 10000) (b := 15999) rfl rfl (fun q1 q2 => if01 ?_) (fun q => if00 ?_)
  · rw [if_pos ⟨q1, q2⟩] at hq
    obtain ⟨n, k1, rfl, k3⟩ := i64N (show 0 ≤ v.toInt by omega)
    rw [k3] at hq q1 q2
    refine ⟨a, h.2.1, h.2.2.1, ?_⟩
    rw [h.2.2.T, show (1000 : Int64) = lN 1000 from rfl, show (10000 : Int64) = lN 10000 from rfl, lN_sub (by omega), pk_lDiv (by omega) (by decide) (by decide), nI_l (by omega)]
    by_cases c : (n - 10000) / 1000 < kT C
    · rw [if_pos (by omega)] at hq
      rw [if_neg (fun q => lg_ge.mp q ((lN_lt (by omega) (by omega)).mpr c))]
      exact hq
    · rw [if_neg (by omega)] at hq
      rw [if_pos (lg_ge.mpr (fun q => c ((lN_lt (by omega) (by omega)).mp q)))]
      exact hq
  · rw [if_neg q] at hq
    exact hq
end CE
section TE
variable {th : Nat} {μ : zM} {C : zC} {X : zX} {mb : Nat}
theorem u_isTenant (hM : tM th μ C X) (hC : wfC C) {x : Int64} {Q : Int32 → zM → Prop} (h1 : ∀ k, k < kT C → x = lN k → x.toInt = k → Q (nI 1) μ) (h0 : ¬ (0 ≤ x.toInt ∧ x.toInt < kT C) → Q (nI 0) μ) : pX4_isTenant th x μ Q := by
  have hT := hC.1
  refine ⟨vp_in_nI (by decide) (by decide), ?_⟩
  rw [nI_clamp (by decide), hM.T]
  refine rin (a := 0) (b := kT C - 1) rfl (nT (by omega)) (fun q1 q2 => ?_) (fun q => ⟨zbo0, h0 (fun p => q (by omega))⟩)
  obtain ⟨k, k1, k2, k3⟩ := i64N q1
  exact ⟨zbo1, h1 k (by omega) k2 k3⟩
theorem u_isStorey (hM : tM th μ C X) (hX : wfX C X mb) {x : Int64} {Q : Int32 → zM → Prop} (h1 : ∀ k, k < xS X → x = lN k → x.toInt = k → Q (nI 1) μ) (h0 : ¬ (0 ≤ x.toInt ∧ x.toInt < xS X) → Q (nI 0) μ) : pX4_isStorey th x μ Q := by
  have hT := hX.1
  refine ⟨vp_in_nI (by decide) (by decide), ?_⟩
  rw [nI_clamp (by decide), hM.S]
  refine rin (a := 0) (b := xS X - 1) rfl (nT (by omega)) (fun q1 q2 => ?_) (fun q => ⟨zbo0, h0 (fun p => q (by omega))⟩)
  obtain ⟨k, k1, k2, k3⟩ := i64N q1
  exact ⟨zbo1, h1 k (by omega) k2 k3⟩
theorem u_whyMove (hM : tM th μ C X) (hC : wfC C) (hX : wfX C X mb) {t k : Int64} {Q : Int32 → zM → Prop} (hq : Q (nI (whyM C X t.toInt k.toInt)) μ) : pX4_whyMove th t k μ Q := by
  have hT := hC.1
  have hS := hX.1
  have hD := hX.2.1
  unfold whyM at hq
  refine u_isTenant hM hC (fun t1 h1 h2 h3 => if01 ?_) (fun q => if00 ?_)
  · refine u_isStorey hM hX (fun n h4 h5 h6 => if01 ?_) (fun q => if00 ?_)
    · rw [if_pos (by omega)] at hq
      rw [h6, Int.toNat_natCast] at hq
      rw [h5, lN_i]
      refine t_livesOn hM hC.1 (fun t ht => hX.O ht) (by omega) ?_
      have hw := who_le (C := C) (X := X) (k := n)
      by_cases c : who C X n = 0
      · rw [if_neg (fun q => q c)] at hq
        rw [c, eO_0, if_pos rfl]
        refine ⟨vp_in_nI (by decide) (by decide), ?_⟩
        rw [nI_clamp (by decide), hM.D]
        refine t_isBuried (by omega) (by omega) ?_
        by_cases c2 : 144 * (n + 1) ≤ xD X
        · rw [if_pos c2] at hq ⊢
          exact if01 hq
        · rw [if_neg c2] at hq ⊢
          exact if00 hq
      · rw [if_pos c] at hq
        rw [if_neg (fun q => c ((eO_m1 (by omega)).mp q))]
        exact hq
    · rw [if_neg (by omega)] at hq
      exact hq
  · rw [if_neg (by omega)] at hq
    exact hq
theorem u_whyLeave (hM : tM th μ C X) (hC : wfC C) (hX : wfX C X mb) {t : Int64} {Q : Int32 → zM → Prop} (hq : Q (nI (whyL C X t.toInt)) μ) : pX4_whyLeave th t μ Q := by
  have hT := hC.1
  unfold whyL at hq
  refine u_isTenant hM hC (fun n h1 h2 h3 => if01 ?_) (fun q => if00 ?_)
  · rw [if_pos (by omega)] at hq
    rw [h3, Int.toNat_natCast] at hq
    have hn : n < 6 := by omega
    rw [h2, lN_i]
    refine ⟨zin2 (by omega) (by decide), ?_⟩
    rw [zcl2 (by omega), hM.O hn]
    have ho := hX.O hn
    by_cases c : xO X n = 0
    · rw [if_pos c] at hq
      rw [if_pos ((eO_m1 (by omega)).mpr c)]
      exact hq
    · rw [if_neg c] at hq
      rw [if_neg (fun q => c ((eO_m1 (by omega)).mp q))]
      exact hq
  · rw [if_neg (by omega)] at hq
    exact hq
theorem u_why (hM : tM th μ C X) (hC : wfC C) (hX : wfX C X mb) {v : Int64} {Q : Int32 → zM → Prop} (hq : Q (nI (whyN C X v.toInt)) μ) : pX4_whyNot th v μ Q := by
  have hT := hC.1
  have hS := hX.1
  unfold whyN at hq
  unfold pX4_whyNot
  by_cases c1 : v.toInt = -1
  · rw [if_pos c1] at hq
    rw [if_pos (lg_eq.mpr c1)]
    exact hq
  rw [if_neg c1] at hq
  rw [if_neg (fun q => c1 (lg_eq.mp q))]
  by_cases c2 : v.toInt = 3000
  · rw [if_pos c2] at hq
    rw [if_pos (lg_eq.mpr c2)]
    exact hq
  rw [if_neg c2] at hq
  rw [if_neg (fun q => c2 (lg_eq.mp q))]
  by_cases c3 : v.toInt = 2000
  · rw [if_pos c3] at hq
    rw [if_pos (lg_eq.mpr c3)]
    refine ⟨vp_in_nI (by decide) (by decide), ?_⟩
    rw [nI_clamp (by decide), hM.S]
    by_cases c4 : xS X = 8
    · rw [if_pos c4] at hq
      rw [if_pos (by rw [c4])]
      exact hq
    · rw [if_neg c4] at hq
      rw [if_neg (fun q => c4 ((nI_eq (by omega) (by omega)).mp q))]
      exact hq
  rw [if_neg c3] at hq
  rw [if_neg (fun q => c3 (lg_eq.mp q))]
  refine rin (a := 0) (b := 599) rfl rfl (fun q1 q2 => if01 ?_) (fun q => if00 ?_)
  · rw [if_pos ⟨q1, q2⟩] at hq
    obtain ⟨n, k1, rfl, k3⟩ := i64N q1
    rw [k3] at hq q2
    refine u_whyMove hM hC hX ?_
    rw [show (100 : Int64) = lN 100 from rfl, pk_lDiv (by omega) (by decide) (by decide), show lN n - lN (n / 100) * lN 100 = lN (n % 100) by rw [← pk_lRem (by omega) (by decide) (by decide), pk_lDiv (by omega) (by decide) (by decide)], lN_si (by omega), lN_si (by omega)]
    exact hq
  rw [if_neg q] at hq
  refine rin (a := 1000) (b := 1099) rfl rfl (fun q1 q2 => if01 ?_) (fun q => if00 ?_)
  · rw [if_pos ⟨q1, q2⟩] at hq
    obtain ⟨n, k1, rfl, k3⟩ := i64N (show 0 ≤ v.toInt by omega)
    rw [k3] at hq q1 q2
    refine u_whyLeave hM hC hX ?_
    rw [show (1000 : Int64) = lN 1000 from rfl, lN_sub (by omega), lN_si (by omega)]
    rw [show ((n : Int) - 1000) = ((n - 1000 : Nat) : Int) by omega] at hq
    exact hq
  rw [if_neg q] at hq
  refine rin (a := 10000) (b := 15999) rfl rfl (fun q1 q2 => if01 ?_) (fun q => if00 ?_)
  · rw [if_pos ⟨q1, q2⟩] at hq
    obtain ⟨n, k1, rfl, k3⟩ := i64N (show 0 ≤ v.toInt by omega)
    rw [k3] at hq q1 q2
    have e : ((lN n - lN 10000) / lN 1000).toInt = (((n - 10000) / 1000 : Nat) : Int) := by
      rw [lN_sub (by omega), pk_lDiv (by omega) (by decide) (by decide), lN_si (by omega)]
    refine u_isTenant hM hC (fun m h1 h2 h3 => if01 ?_) (fun q => if00 ?_)
    · rw [show (1000 : Int64) = lN 1000 from rfl, show (10000 : Int64) = lN 10000 from rfl, e] at h3
      rw [if_pos (by omega)] at hq
      exact hq
    · rw [show (1000 : Int64) = lN 1000 from rfl, show (10000 : Int64) = lN 10000 from rfl, e] at q
      rw [if_neg (by omega)] at hq
      exact hq
  · rw [if_neg q] at hq
    exact hq
end TE
