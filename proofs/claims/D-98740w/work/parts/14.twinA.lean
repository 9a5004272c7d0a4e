/-! the twin's smaller methods -/
theorem lN_lt0 {x : Int64} : ¬ x < 0 → ∃ k : Nat, k < 2 ^ 63 ∧ x = lN k := pk_lOf
theorem i64_of_lN {x : Int32} {k : Nat} (hk : k < 2 ^ 31) : x.toInt64 = lN k ↔ x = nI k := by
  rw [← nI_l hk]
  constructor
  · intro e
    have := congrArg Int64.toInt e
    rw [Int32.toInt_toInt64, Int32.toInt_toInt64] at this
    exact Int32.toInt_inj.mp this
  · intro e; rw [e]
theorem rng64 {x : Int64} {n : Nat} {A B : Prop} (hn : n < 2 ^ 31) (h1 : ∀ k, x = lN k → k < n → B) (h0 : (∀ k, k < n → x ≠ lN k) → A) : (if lg_cmp x (0 : Int64) < 0 then A else if 0 < lg_cmp x ((nI n - nI 1).toInt64) then A else B) := by
  by_cases hx : x < 0
  · rw [if_pos (lg_lt.mpr hx)]
    refine h0 (fun k hk e => ?_)
    rw [e, Int64.lt_iff_toInt_lt, lN_toInt (by omega)] at hx
    simp at hx
    omega
  · rw [if_neg (fun q => hx (lg_lt.mp q))]
    obtain ⟨k, hk, rfl⟩ := pk_lOf hx
    cases n with
    | zero =>
      rw [if_pos]
      · exact h0 (fun k hk => absurd hk (by omega))
      · rw [lg_gt, show nI 0 - nI 1 = (-1 : Int32) from eO_0, Int64.lt_iff_toInt_lt, pk_lT hk]
        have : ((-1 : Int32).toInt64).toInt = -1 := by decide
        omega
    | succ n =>
      have e : nI (n + 1) - nI 1 = nI n := nI_pred n
      rw [e, nI_l (by omega)]
      by_cases h : k < n + 1
      · rw [if_neg (fun q => by have := (pk_lLT (by omega) hk).mp (lg_gt.mp q); omega)]
        exact h1 k rfl h
      · rw [if_pos (lg_gt.mpr ((pk_lLT (by omega) hk).mpr (by omega)))]
        refine h0 (fun j hj q => ?_)
        have := (pk_lEQ hk (by omega)).mp q
        omega
theorem rngC {x : Int64} (a b : Nat) {A B : Prop} (hb : b < 2 ^ 31) (hab : a ≤ b) (h1 : ∀ k, x = lN k → a ≤ k → k ≤ b → B) (h0 : (∀ k, a ≤ k → k ≤ b → x ≠ lN k) → A) : (if lg_cmp x (lN a) < 0 then A else if 0 < lg_cmp x (lN b) then A else B) := by
  by_cases hx : x < lN a
  · rw [if_pos (lg_lt.mpr hx)]
    refine h0 (fun k h2 h3 e => ?_)
    rw [e] at hx
    have := (pk_lLT (by omega) (by omega)).mp hx
    omega
  · rw [if_neg (fun q => hx (lg_lt.mp q))]
    have h00 : ¬ x < 0 := by
      intro q
      apply hx
      rw [Int64.lt_iff_toInt_lt] at q ⊢
      rw [lN_toInt (by omega)]
      simp at q
      omega
    obtain ⟨k, hk, rfl⟩ := pk_lOf h00
    have hak : a ≤ k := by
      rcases Nat.lt_or_ge k a with q | q
      · exact absurd ((pk_lLT hk (by omega)).mpr q) hx
      · exact q
    by_cases h : k ≤ b
    · rw [if_neg (fun q => by have := (pk_lLT (by omega) hk).mp (lg_gt.mp q); omega)]
      exact h1 k rfl hak h
    · rw [if_pos (lg_gt.mpr ((pk_lLT (by omega) hk).mpr (by omega)))]
      refine h0 (fun j _ hj q => ?_)
      have := (pk_lEQ hk (by omega)).mp q
      omega
theorem zbo0 : zbo (nI 0) := rfl
theorem zbo1 : zbo (nI 1) := rfl
section TW
variable {th : Nat} {μ : zM} {C : zC} {X : zX} {mb : Nat}
theorem tM.T (h : tM th μ C X) : zI μ (th + 1) 1 = nI (kT C) := h.1.2.1
theorem tM.B (h : tM th μ C X) : zI μ (th + 1) 2 = nI (kB C) := h.1.2.2.1
theorem tM.Co (h : tM th μ C X) : zI μ (th + 1) 3 = nI (kC C) := h.1.2.2.2.1
theorem tM.V (h : tM th μ C X) : zI μ (th + 1) 4 = nI (kV C) := h.1.2.2.2.2.1
theorem tM.wa (h : tM th μ C X) {t : Nat} (ht : t < 6) : zI μ (th + 1) (14 + t) = nI (kW C t) := by
  have := h.1.2.2.2.2.2.1 t ht
  rwa [show 0 + 14 + t = 14 + t by omega] at this
theorem tM.S (h : tM th μ C X) : zI μ (th + 1) 20 = nI (xS X) := h.2.1
theorem tM.W (h : tM th μ C X) {k : Nat} (hk : k < 8) : zI μ (th + 1) (21 + k) = nI (xW X k) := by
  have := h.2.2.1 k hk
  rwa [show 20 + 1 + k = 21 + k by omega] at this
theorem tM.G (h : tM th μ C X) {t : Nat} (ht : t < 6) : zI μ (th + 1) (29 + t) = nI (xG X t) := by
  have := h.2.2.2.1 t ht
  rwa [show 20 + 9 + t = 29 + t by omega] at this
theorem tM.O (h : tM th μ C X) {t : Nat} (ht : t < 6) : zI μ (th + 1) (35 + t) = eO (xO X t) := by
  have := h.2.2.2.2.1 t ht
  rwa [show 20 + 15 + t = 35 + t by omega] at this
theorem tM.D (h : tM th μ C X) : zI μ (th + 1) 41 = nI (xD X) := h.2.2.2.2.2.1
theorem tM.M (h : tM th μ C X) : zI μ (th + 1) 42 = nI (xM X) := h.2.2.2.2.2.2
/-- who lives on k: the first tenant; eO of 0 or t+1 -/
def whoN (C : zC) (X : zX) (k : Nat) : Nat → Nat
  | 0 => 0
  | n + 1 => if xO X (kT C - (n + 1)) = k + 1 then kT C - (n + 1) + 1 else whoN C X k n
def who (C : zC) (X : zX) (k : Nat) : Nat := whoN C X k (kT C)
theorem t_within {x0 x2 x4 : Int64} {Q : Int32 → zM → Prop} (h : (if lg_cmp x0 x2 < 0 then Q (nI 0) μ else if 0 < lg_cmp x0 x4 then Q (nI 0) μ else Q (nI 1) μ)) : pX4_within th x0 x2 x4 μ Q := h
theorem t_isStorey (hM : tM th μ C X) (hS : xS X ≤ 8) {x : Int64} {Q : Int32 → zM → Prop} (h1 : ∀ k, x = lN k → k < xS X → Q (nI 1) μ) (h0 : (∀ k, k < xS X → x ≠ lN k) → Q (nI 0) μ) : pX4_isStorey th x μ Q := by
  unfold pX4_isStorey
  refine ⟨vp_in_nI (by decide) (by decide), ?_⟩
  rw [nI_clamp (by decide), hM.S]
  exact rng64 (by omega) (fun k e hk => ⟨zbo1, h1 k e hk⟩) (fun h => ⟨zbo0, h0 h⟩)
theorem t_isTenant (hM : tM th μ C X) (hT : kT C ≤ 6) {x : Int64} {Q : Int32 → zM → Prop} (h1 : ∀ k, x = lN k → k < kT C → Q (nI 1) μ) (h0 : (∀ k, k < kT C → x ≠ lN k) → Q (nI 0) μ) : pX4_isTenant th x μ Q := by
  unfold pX4_isTenant
  refine ⟨vp_in_nI (by decide) (by decide), ?_⟩
  rw [nI_clamp (by decide), hM.T]
  exact rng64 (by omega) (fun k e hk => ⟨zbo1, h1 k e hk⟩) (fun h => ⟨zbo0, h0 h⟩)
theorem t_livesOn (hM : tM th μ C X) (hT : kT C ≤ 6) (hO : ∀ t, t < 6 → xO X t ≤ 8) {k : Nat} (hk : k < 2 ^ 31) {Q : Int32 → zM → Prop} (h : Q (eO (who C X k)) μ) : pX4_livesOn th (nI k) μ Q := by
  unfold pX4_livesOn
  have key : ∀ d i, i + d = kT C → Q (eO (whoN C X k d)) μ → ∃ n, pX4_livesOn_2 th (nI k) Q n (nI i) μ := by
    intro d
    induction d with
    | zero =>
      intro i hi hq
      refine ⟨1, ?_⟩
      unfold pX4_livesOn_2
      refine ⟨vp_in_nI (by decide) (by decide), ?_⟩
      rw [nI_clamp (by decide), hM.T, if_pos (nI_le (by omega) (by omega))]
      rw [← eO_0]
      exact hq
    | succ d ih =>
      intro i hi hq
      have hi6 : i < 6 := by omega
      unfold whoN at hq
      rw [show kT C - (d + 1) = i by omega] at hq
      have go : ∀ n, (if eO (xO X i) = nI k then Q (nI i) μ else pX4_livesOn_2 th (nI k) Q n (nI i + nI 1) μ) → pX4_livesOn_2 th (nI k) Q (n + 1) (nI i) μ := by
        intro n hn
        unfold pX4_livesOn_2
        refine ⟨vp_in_nI (by decide) (by decide), ?_⟩
        rw [nI_clamp (by decide), hM.T, if_neg (nI_ge (by omega) (by omega))]
        refine ⟨zin2 (by omega) (by decide), ?_⟩
        rw [zcl2 (by omega), hM.O hi6]
        exact hn
      by_cases e : xO X i = k + 1
      · rw [if_pos e, eO_s] at hq
        refine ⟨1, go 0 ?_⟩
        rw [if_pos ((eO_nI (by have := hO i hi6; omega) hk).mpr e)]
        exact hq
      · rw [if_neg e] at hq
        obtain ⟨n, hn⟩ := ih (i + 1) (by omega) hq
        refine ⟨n + 1, go n ?_⟩
        rw [if_neg (fun q => e ((eO_nI (by have := hO i hi6; omega) hk).mp q)), nI_add]
        exact hn
  exact key (kT C) 0 (by omega) h
theorem t_isBuried {k su : Nat} (hk : k < 1000) (hs : su < 1000000) {Q : Int32 → zM → Prop} (h : Q (if 144 * (k + 1) ≤ su then nI 1 else nI 0) μ) : pX4_isBuried th (nI k) (nI su) μ Q := by
  unfold pX4_isBuried
  have e : (nI 144 * (nI k + nI 1) - nI su).toInt = ((144 * (k + 1) : Nat) : Int) - (su : Int) := by
    rw [nI_add, pk_mul]
    exact pk_sub_toInt (by omega) (by omega)
  by_cases c : 144 * (k + 1) ≤ su
  · rw [if_pos c] at h
    rw [if_neg]
    · exact h
    · rw [Int32.lt_iff_toInt_lt, e]
      simp
      omega
  · rw [if_neg c] at h
    rw [if_pos]
    · exact h
    · rw [Int32.lt_iff_toInt_lt, e]
      simp
      omega
theorem t_deeper {a b : Nat} (ha : a < 1000000) (hb : b < 1000000) {Q : Int32 → zM → Prop} (h : Q (nI (dee a b)) μ) : pX4_deeper th (nI a) (nI b) μ Q := by
  unfold pX4_deeper
  rw [nI_add]
  unfold dee at h
  by_cases c : a + b ≤ 99999
  · rw [if_pos (nI_le c (by decide))]
    rwa [Nat.min_eq_left c] at h
  · rw [if_neg (nI_ge (by omega) (by omega))]
    rwa [Nat.min_eq_right (by omega)] at h
theorem t_heightOf {k su : Nat} (hk : k < 1000) (hs : su < 1000000) {Q : Int32 → zM → Prop} (h : Q (hgt k su) μ) : pX4_heightOf th (nI k) (nI su) μ Q := by
  unfold pX4_heightOf
  have e : (nI 144 * nI k - nI su).toInt = ((144 * k : Nat) : Int) - (su : Int) := by
    rw [pk_mul]
    exact pk_sub_toInt (by omega) (by omega)
  unfold hgt at h
  by_cases c : 144 * k < su
  · rw [if_pos c] at h
    rw [if_pos]
    · have e2 : nI 11 - (nI 144 * nI k - nI su) = nI (11 + (su - 144 * k)) := by
        rw [pk_mul, ← nI_add, ← pk_sub (show 144 * k ≤ su by omega)]
        grind
      rw [e2, pk_div (by omega) (by decide) (by decide)]
      exact h
    · rw [Int32.lt_iff_toInt_lt, e]
      simp
      omega
  · rw [if_neg c] at h
    rw [if_neg]
    · rw [pk_mul, pk_sub (by omega), pk_div (by omega) (by decide) (by decide)]
      exact h
    · rw [Int32.lt_iff_toInt_lt, e]
      simp
      omega
end TW
