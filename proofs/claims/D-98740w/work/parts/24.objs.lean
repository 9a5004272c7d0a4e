/-! the component: objects apart from one another; copies of states; deeds kept -/
/-- what a question may change -/
def SC (z a x k : Nat) : Prop := x = a + 5 ∨ (z + 11 ≤ x ∧ x ≤ z + 14) ∨ (z + 57 ≤ x ∧ x ≤ z + 69 ∧ x ≠ z + 67) ∨ (x = z ∧ (k = 10 ∨ k = 13 ∨ k = 18 ∨ k = 19 ∨ k = 22 ∨ k = 23 ∨ k = 24))
def So (s x _ : Nat) : Prop := s ≤ x ∧ x ≤ s + 3
section CF
variable {z : Nat} {μ : zM} {a s : Nat} {C : zC} {X X1 : zX} {b mb : Nat}
theorem cIts.tab (h : cIts z μ a C X1) (i : Nat) {q : Nat × Nat × zT} (hq : cTab[i]? = some q) : zR μ z q.1 = some (z + q.2.1) ∧ zty μ (z + q.2.1) = some q.2.2 := h.1.2.1 i q hq
theorem cIts.now (h : cIts z μ a C X1) : zty μ (z + 7) = some (.inl 2) := (h.tab 0 rfl).2
theorem cIts.tho (h : cIts z μ a C X1) : zty μ (z + 11) = some (.inl 2) := (h.tab 1 rfl).2
theorem cIts.main (h : cIts z μ a C X1) : zty μ z = some (.inl 0) := h.1.1
/-- arrays of a class-1 object -/
theorem cIts.arr1 (h : cIts z μ a C X1) {a' : Nat} (ht : zty μ a' = some (.inl 1)) (i : Nat) {q : Nat × Nat × zT} (hq : cS1t[i]? = some q) : zty μ (a' + q.2.1) = some q.2.2 := (h.1.2.2.1 a' ht i q hq).2
/-- two states stand apart -/
theorem cIts.dj2 (h : cIts z μ a C X1) {s t : Nat} (hs : zty μ s = some (.inl 2)) (ht : zty μ t = some (.inl 2)) : s = t ∨ s + 3 < t ∨ t + 3 < s := by
  have r1 := h.sarr hs 0 rfl
  have r2 := h.sarr hs 1 rfl
  have r3 := h.sarr hs 2 rfl
  have q1 := h.sarr ht 0 rfl
  have q2 := h.sarr ht 1 rfl
  have q3 := h.sarr ht 2 rfl
  dsimp only at q1 q2 q3 r1 r2 r3
  have n1 := ne_ty q1 hs (by simp)
  have n2 := ne_ty q2 hs (by simp)
  have n3 := ne_ty q3 hs (by simp)
  have m1 := ne_ty r1 ht (by simp)
  have m2 := ne_ty r2 ht (by simp)
  have m3 := ne_ty r3 ht (by simp)
  omega
/-- a tower and a state stand apart -/
theorem cIts.dj1 (h : cIts z μ a C X1) {a' : Nat} (ha : zty μ a' = some (.inl 1)) (hs : zty μ s = some (.inl 2)) : a' + 5 < s ∨ s + 3 < a' := by
  have q1 := h.arr1 ha 0 rfl
  have q2 := h.arr1 ha 1 rfl
  have q3 := h.arr1 ha 2 rfl
  have q4 := h.arr1 ha 3 rfl
  have q5 := h.arr1 ha 4 rfl
  have r1 := h.sarr hs 0 rfl
  have r2 := h.sarr hs 1 rfl
  have r3 := h.sarr hs 2 rfl
  dsimp only at q1 q2 q3 q4 q5 r1 r2 r3
  have n0 := ne_ty ha hs (by simp)
  have n1 := ne_ty q1 hs (by simp)
  have n2 := ne_ty q2 hs (by simp)
  have n3 := ne_ty q3 hs (by simp)
  have n4 := ne_ty q4 hs (by simp)
  have n5 := ne_ty q5 hs (by simp)
  have m1 := ne_ty r1 ha (by simp)
  have m2 := ne_ty r2 ha (by simp)
  have m3 := ne_ty r3 ha (by simp)
  omega
/-- two towers stand apart -/
theorem cIts.dj0 (h : cIts z μ a C X1) {s t : Nat} (hs : zty μ s = some (.inl 1)) (ht : zty μ t = some (.inl 1)) : s = t ∨ s + 5 < t ∨ t + 5 < s := by
  have r1 := h.arr1 hs 0 rfl
  have r2 := h.arr1 hs 1 rfl
  have r3 := h.arr1 hs 2 rfl
  have r4 := h.arr1 hs 3 rfl
  have r5 := h.arr1 hs 4 rfl
  have q1 := h.arr1 ht 0 rfl
  have q2 := h.arr1 ht 1 rfl
  have q3 := h.arr1 ht 2 rfl
  have q4 := h.arr1 ht 3 rfl
  have q5 := h.arr1 ht 4 rfl
  dsimp only at q1 q2 q3 q4 q5 r1 r2 r3 r4 r5
  have n1 := ne_ty q1 hs (by simp)
  have n2 := ne_ty q2 hs (by simp)
  have n3 := ne_ty q3 hs (by simp)
  have n4 := ne_ty q4 hs (by simp)
  have n5 := ne_ty q5 hs (by simp)
  have m1 := ne_ty r1 ht (by simp)
  have m2 := ne_ty r2 ht (by simp)
  have m3 := ne_ty r3 ht (by simp)
  have m4 := ne_ty r4 ht (by simp)
  have m5 := ne_ty r5 ht (by simp)
  omega
/-- the scratch arrays are no objects -/
theorem cIts.scr (h : cIts z μ a C X1) {x : Nat} (h1 : z + 57 ≤ x) (h2 : x ≤ z + 69) : ∃ q, zty μ x = some (.inr q) := by
  rcases (show x = z + 57 ∨ x = z + 58 ∨ x = z + 59 ∨ x = z + 60 ∨ x = z + 61 ∨ x = z + 62 ∨ x = z + 63 ∨ x = z + 64 ∨ x = z + 65 ∨ x = z + 66 ∨ x = z + 67 ∨ x = z + 68 ∨ x = z + 69 by omega) with rfl | rfl | rfl | rfl | rfl | rfl | rfl | rfl | rfl | rfl | rfl | rfl | rfl
  · exact ⟨_, (h.tab 4 rfl).2⟩
  · exact ⟨_, (h.tab 5 rfl).2⟩
  · exact ⟨_, (h.tab 6 rfl).2⟩
  · exact ⟨_, (h.tab 7 rfl).2⟩
  · exact ⟨_, (h.tab 8 rfl).2⟩
  · exact ⟨_, (h.tab 9 rfl).2⟩
  · exact ⟨_, (h.tab 10 rfl).2⟩
  · exact ⟨_, (h.tab 11 rfl).2⟩
  · exact ⟨_, (h.tab 12 rfl).2⟩
  · exact ⟨_, (h.tab 13 rfl).2⟩
  · exact ⟨_, (h.tab 14 rfl).2⟩
  · exact ⟨_, (h.tab 15 rfl).2⟩
  · exact ⟨_, (h.tab 16 rfl).2⟩
end CF
