/-! LEVEL 2: plain law. Encodings, the abstract world, laws as lists of codes -/
theorem zup {W : Nat → Nat → Prop} (e : Nat) (hx : ∀ n, W (n + 1) e) (hs : ∀ n i, i < e → W n (i + 1) → W (n + 1) i) : ∀ (i : Nat), i ≤ e → ∃ n, W n i := by
  intro i hi
  obtain ⟨d, hd⟩ : ∃ d, d = e - i := ⟨_, rfl⟩
  induction d generalizing i with
  | zero =>
    have : i = e := by omega
    subst this
    exact ⟨1, hx 0⟩
  | succ d ih =>
    obtain ⟨n, hn⟩ := ih (i + 1) (by omega) (by omega)
    exact ⟨n + 1, hs n i (by omega) hn⟩
/-- a loop with a state: the state's predicate goes up with the counter -/
theorem zupS {σ : Type} {W : Nat → Nat → σ → Prop} (I : Nat → σ → Prop) (e : Nat) (hx : ∀ n s, I e s → W (n + 1) e s) (hs : ∀ n i s, i < e → I i s → (∀ s', I (i + 1) s' → W n (i + 1) s') → W (n + 1) i s) : ∀ (i : Nat) (s : σ), i ≤ e → I i s → ∃ n, W n i s := by
  have key : ∀ (d i : Nat) (s : σ), i + d = e → I i s → W (d + 1) i s := by
    intro d
    induction d with
    | zero =>
      intro i s hi h
      have : i = e := by omega
      subst this
      exact hx 0 s h
    | succ d ih =>
      intro i s hi h
      exact hs (d + 1) i s (by omega) h (fun s' h' => ih (i + 1) s' (by omega) h')
  intro i s hi h
  exact ⟨e - i + 1, key (e - i) i s (by omega) h⟩
def eO (o : Nat) : Int32 := nI o - nI 1
theorem eO_0 : eO 0 = (-1 : Int32) := by decide
theorem eO_s (k : Nat) : eO (k + 1) = nI k := nI_pred k
theorem nI_m1 {k : Nat} (h : k < 2 ^ 31) : ¬ nI k = (-1 : Int32) := by
  intro e
  have := congrArg Int32.toInt e
  rw [nI_toInt h] at this
  have e2 : (-1 : Int32).toInt = -1 := by decide
  omega
theorem eO_m1 {o : Nat} (h : o < 2 ^ 31) : eO o = (-1 : Int32) ↔ o = 0 := by
  cases o with
  | zero => simp [eO_0]
  | succ k =>
    rw [eO_s]
    constructor
    · intro e; exact absurd e (nI_m1 (by omega))
    · intro e; omega
theorem eO_nI {o k : Nat} (h : o < 2 ^ 31) (hk : k < 2 ^ 31) : eO o = nI k ↔ o = k + 1 := by
  cases o with
  | zero =>
    rw [eO_0]
    constructor
    · intro e; exact absurd e.symm (nI_m1 hk)
    · intro e; omega
  | succ j =>
    rw [eO_s, nI_eq (by omega) hk]
    omega
theorem eO_inj {o k : Nat} (h : o < 2 ^ 31) (hk : k < 2 ^ 31) : eO o = eO k ↔ o = k := by
  cases k with
  | zero => rw [eO_0, eO_m1 h]
  | succ j => rw [eO_s, eO_nI h (by omega)]
theorem zcl2 {a k : Nat} (h : a + k < 2 ^ 31) : (nI a + nI k).toNatClampNeg = a + k := by rw [nI_add, nI_clamp h]
theorem zin2 {a k m : Nat} (h : a + k < m) (hm : m < 2 ^ 31) : vp_in (nI a + nI k) m := by rw [nI_add]; exact vp_in_nI h hm
theorem lg_gt {x y : Int64} : 0 < lg_cmp x y ↔ y < x := by
  unfold lg_cmp
  by_cases h : y < x
  · rw [if_pos h]
    exact ⟨fun _ => h, fun _ => by decide⟩
  · rw [if_neg h]
    by_cases h2 : x = y
    · rw [if_pos h2]
      exact ⟨fun q => absurd q (by decide), fun q => absurd q h⟩
    · rw [if_neg h2]
      exact ⟨fun q => absurd q (by decide), fun q => absurd q h⟩
theorem lg_lt {x y : Int64} : lg_cmp x y < 0 ↔ x < y := by
  unfold lg_cmp
  by_cases h : y < x
  · rw [if_pos h]
    refine ⟨fun q => absurd q (by decide), fun q => ?_⟩
    have h1 := Int64.lt_iff_toInt_lt.mp h
    have h2 := Int64.lt_iff_toInt_lt.mp q
    omega
  · rw [if_neg h]
    by_cases h2 : x = y
    · rw [if_pos h2]
      refine ⟨fun q => absurd q (by decide), fun q => ?_⟩
      rw [h2] at q
      have h2 := Int64.lt_iff_toInt_lt.mp q
      omega
    · rw [if_neg h2]
      refine ⟨fun _ => ?_, fun _ => by decide⟩
      rw [Int64.lt_iff_toInt_lt] at h ⊢
      have : x.toInt ≠ y.toInt := fun e => h2 (Int64.toInt_inj.mp e)
      omega
theorem lg_le {x y : Int64} : lg_cmp x y ≤ 0 ↔ ¬ y < x := by rw [← lg_gt, Int32.not_lt]
theorem lg_ge {x y : Int64} : 0 ≤ lg_cmp x y ↔ ¬ x < y := by rw [← lg_lt, Int32.not_lt]
theorem i32c (x : Int32) : x < 0 ∨ ∃ k, k < 2 ^ 31 ∧ x = nI k := by
  by_cases h : x < 0
  · exact Or.inl h
  · exact Or.inr (nI_of h)
theorem i64neg {x : Int32} (h : x < 0) : x.toInt64 < 0 := by
  rw [Int64.lt_iff_toInt_lt, Int32.toInt_toInt64]
  rw [Int32.lt_iff_toInt_lt] at h
  simpa using h
