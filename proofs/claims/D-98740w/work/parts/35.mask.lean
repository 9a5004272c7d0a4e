/-! sets as bits -/
theorem mhas : ∀ m, m < 64 → ∀ x, x < 6 → ((((nI m >>> (nI x &&& 31)) &&& nI 1) = nI 1) ↔ m.testBit x = true) := by decide +kernel
theorem mhasL : ∀ m, m < 64 → ∀ x, x < 6 → (lg_cmp (((nI m).toInt64 >>> ((nI x).toInt64 &&& 63)) &&& (1 : Int64)) (1 : Int64) = 0 ↔ m.testBit x = true) := by decide +kernel
theorem mor1 : ∀ m, m < 64 → ∀ x, x < 6 → (nI m ||| (nI 1 <<< (nI x &&& 31))) = nI (m ||| 2 ^ x) := by decide +kernel
theorem mone : ∀ x, x < 6 → (nI 1 <<< (nI x &&& 31)) = nI (2 ^ x) := by decide +kernel
theorem mor : ∀ m, m < 64 → ∀ k, k < 64 → (nI m ||| nI k) = nI (m ||| k) := by decide +kernel
theorem mmin : ∀ m, m < 64 → ∀ k, k < 64 → (nI m &&& (nI k ^^^ (-1 : Int32))) = nI (m &&& (63 ^^^ k)) := by decide +kernel
theorem mlt_or {m k : Nat} (h : m < 64) (h2 : k < 64) : m ||| k < 64 := Nat.or_lt_two_pow (n := 6) h h2
theorem mlt_and {m k : Nat} (h : m < 64) : m &&& k < 64 := Nat.lt_of_le_of_lt Nat.and_le_left h
theorem mlt_p {x : Nat} (h : x < 6) : 2 ^ x < 64 := Nat.pow_lt_pow_right (n := 6) (by decide) h
theorem mbig {m x : Nat} (h : m < 64) (hx : 6 ≤ x) : m.testBit x = false := Nat.testBit_lt_two_pow (Nat.lt_of_lt_of_le h (Nat.pow_le_pow_right (by decide) hx : 2 ^ 6 ≤ 2 ^ x))
theorem mtb_or {m x u : Nat} : (m ||| 2 ^ x).testBit u = (m.testBit u || decide (x = u)) := by rw [Nat.testBit_or, Nat.testBit_two_pow]
theorem mtb_min {m k : Nat} (hm : m < 64) : (m &&& (63 ^^^ k)).testBit = sMin m.testBit k.testBit := by
  funext u
  unfold sMin
  rw [Nat.testBit_and, Nat.testBit_xor]
  by_cases c : u < 6
  · rw [show Nat.testBit 63 u = true by rcases (show u = 0 ∨ u = 1 ∨ u = 2 ∨ u = 3 ∨ u = 4 ∨ u = 5 by omega) with rfl | rfl | rfl | rfl | rfl | rfl <;> rfl]
    cases m.testBit u <;> cases k.testBit u <;> rfl
  · rw [mbig hm (by omega)]
    rfl
theorem mext {m k : Nat} (hm : m < 64) (hk : k < 64) (h : ∀ u, u < 6 → m.testBit u = k.testBit u) : m = k := by
  apply Nat.eq_of_testBit_eq
  intro u
  by_cases c : u < 6
  · exact h u c
  · rw [mbig hm (by omega), mbig hk (by omega)]
theorem m0 {m : Nat} (h : m < 64) : nI m = 0 ↔ ∀ t, m.testBit t = false := by
  rw [show (0 : Int32) = nI 0 from rfl, nI_eq (by omega) (by decide)]
  constructor
  · rintro rfl t
    exact Nat.zero_testBit t
  · intro q
    apply Nat.eq_of_testBit_eq
    intro u
    rw [q u, Nat.zero_testBit]
/-- more than one -/
theorem mcount : ∀ m, m < 64 → m ≠ 0 → ∀ Q : Int32 → zM → Prop, ∀ μ, (∀ r, (r ≤ nI 1 ↔ ∃ x, x < 6 ∧ m = 2 ^ x) → Q r μ) → pJ6_bitCount (nI m) μ Q := by
  intro m hm h0 Q μ hq
  unfold pJ6_bitCount znm
  refine hq _ ?_
  clear hq
  clear Q μ
  revert hm h0
  revert m
  decide +kernel
