/-! rings, in plain: in whatever order the rings are taken, all get the same -/
def iter (p : Nat → Nat) : Nat → Nat → Nat
  | 0, t => t
  | k + 1, t => p (iter p k t)
theorem iter_add (p : Nat → Nat) (j k t : Nat) : iter p (j + k) t = iter p j (iter p k t) := by
  induction j with
  | zero => rw [Nat.zero_add]; rfl
  | succ j ih => rw [Nat.succ_add, iter, iter, ih]
theorem php : ∀ (n : Nat) (g : Nat → Nat), (∀ i, i ≤ n → g i < n) → ∃ i j, i < j ∧ j ≤ n ∧ g i = g j := by
  intro n
  induction n with
  | zero => intro g h; exact absurd (h 0 (Nat.le_refl _)) (Nat.not_lt_zero _)
  | succ n ih =>
    intro g h
    by_cases c : ∃ i, i ≤ n ∧ g i = g (n + 1)
    · obtain ⟨i, h1, h2⟩ := c
      exact ⟨i, n + 1, by omega, Nat.le_refl _, h2⟩
    · have hv := h (n + 1) (Nat.le_refl _)
      have hne : ∀ i, i ≤ n → g i ≠ g (n + 1) := fun i hi e => c ⟨i, hi, e⟩
      obtain ⟨i, j, h1, h2, h3⟩ := ih (fun i => if g i < g (n + 1) then g i else g i - 1) (fun i hi => by
        have := hne i hi
        have := h i (by omega)
        split <;> omega)
      refine ⟨i, j, h1, by omega, ?_⟩
      have a1 := hne i (by omega)
      have a2 := hne j (by omega)
      split at h3 <;> split at h3 <;> omega
def cyc (p : Nat → Nat) (L R : Nat → Bool) : Prop := (∃ t, R t = true) ∧ (∀ t, R t = true → L t = true) ∧ ∀ t, R t = true → ∀ u, R u = true ↔ ∃ k, iter p k t = u
def sMin (L R : Nat → Bool) : Nat → Bool := fun t => L t && !R t
def oneOr (R : Nat → Bool) (s : Nat) : Prop := (s = 1 ∧ ∃ t u, R t = true ∧ R u = true ∧ t ≠ u) ∨ (s = 0 ∧ ∀ t u, R t = true → R u = true → t = u)
theorem oneOr.un {R : Nat → Bool} {s s' : Nat} (h : oneOr R s) (h' : oneOr R s') : s = s' := by
  rcases h with ⟨e, t, u, h1, h2, h3⟩ | ⟨e, h1⟩ <;> rcases h' with ⟨e', t', u', h1', h2', h3'⟩ | ⟨e', h1'⟩
  · omega
  · exact absurd (h1' _ _ h1 h2) h3
  · exact absurd (h1 _ _ h1' h2') h3'
  · omega
def TT (p : (Nat → Bool) → Nat → Nat) : Nat → (Nat → Bool) → (Nat → Nat) → Nat → Prop
  | 0, L, _, n => (∀ t, L t = false) ∧ n = 0
  | d + 1, L, g, n => ((∀ t, L t = false) ∧ n = 0) ∨ ∃ R s m, cyc (p L) L R ∧ (∀ t, R t = true → g t = p L t) ∧ oneOr R s ∧ TT p d (sMin L R) g m ∧ n = m + s
theorem sMin_t {L R : Nat → Bool} {t : Nat} : sMin L R t = true ↔ L t = true ∧ R t = false := by
  unfold sMin
  cases L t <;> cases R t <;> simp
theorem sMin_comm (L R Q : Nat → Bool) : sMin (sMin L R) Q = sMin (sMin L Q) R := by
  funext t
  unfold sMin
  cases L t <;> cases R t <;> cases Q t <;> rfl
theorem cyc.same {p : Nat → Nat} {L R Q : Nat → Bool} (h : cyc p L R) (h' : cyc p L Q) {t : Nat} (h1 : R t = true) (h2 : Q t = true) : R = Q := by
  funext u
  have e1 := h.2.2 t h1 u
  have e2 := h'.2.2 t h2 u
  have e3 : R u = true ↔ Q u = true := e1.trans e2.symm
  cases hr : R u <;> cases hq : Q u
  · rfl
  · rw [hr, hq] at e3; exact absurd (e3.mpr rfl) (by decide)
  · rw [hr, hq] at e3; exact absurd (e3.mp rfl) (by decide)
  · rfl
theorem cyc.off {p : Nat → Nat} {L R Q : Nat → Bool} (h : cyc p L R) (h' : cyc p L Q) (hne : R ≠ Q) {t : Nat} (h1 : R t = true) : Q t = false := by
  cases hq : Q t
  · rfl
  · exact absurd (h.same h' h1 hq) hne
theorem cyc.step {p : Nat → Nat} {L R : Nat → Bool} (h : cyc p L R) {t : Nat} (h1 : R t = true) : R (p t) = true := (h.2.2 t h1 (p t)).mpr ⟨1, rfl⟩
section TTC
variable {p : (Nat → Bool) → Nat → Nat}
theorem cyc.iterK {L L' R : Nat → Bool} (h : cyc (p L) L R) (hs : ∀ u, L' u = true → L u = true) (hR : ∀ t, R t = true → L' t = true) {t : Nat} (ht : R t = true) (k : Nat) (hp : ∀ (L L' : Nat → Bool) (t : Nat), (∀ u, L' u = true → L u = true) → L' t = true → L' (p L t) = true → p L' t = p L t) : iter (p L') k t = iter (p L) k t ∧ R (iter (p L) k t) = true := by
  induction k with
  | zero => exact ⟨rfl, ht⟩
  | succ k ih =>
    have h1 := h.step ih.2
    refine ⟨?_, h1⟩
    rw [iter, iter, ih.1]
    exact hp L L' _ hs (hR _ ih.2) (hR _ h1)
theorem cyc.keep {L L' R : Nat → Bool} (hp : ∀ (L L' : Nat → Bool) (t : Nat), (∀ u, L' u = true → L u = true) → L' t = true → L' (p L t) = true → p L' t = p L t) (h : cyc (p L) L R) (hs : ∀ u, L' u = true → L u = true) (hR : ∀ t, R t = true → L' t = true) : cyc (p L') L' R := by
  refine ⟨h.1, hR, fun t ht u => ?_⟩
  rw [h.2.2 t ht u]
  constructor
  · rintro ⟨k, hk⟩
    exact ⟨k, by rw [(h.iterK hs hR ht k hp).1]; exact hk⟩
  · rintro ⟨k, hk⟩
    exact ⟨k, by rw [← (h.iterK hs hR ht k hp).1]; exact hk⟩
theorem cyc.keepP {L L' R : Nat → Bool} (hp : ∀ (L L' : Nat → Bool) (t : Nat), (∀ u, L' u = true → L u = true) → L' t = true → L' (p L t) = true → p L' t = p L t) (h : cyc (p L) L R) (hs : ∀ u, L' u = true → L u = true) (hR : ∀ t, R t = true → L' t = true) {t : Nat} (ht : R t = true) : p L' t = p L t := hp L L' t hs (hR t ht) (hR _ (h.step ht))
theorem TT.up : ∀ (d : Nat) (L : Nat → Bool) (g : Nat → Nat) (n : Nat), TT p d L g n → TT p (d + 1) L g n := by
  intro d
  induction d with
  | zero => intro L g n h; exact Or.inl h
  | succ d ih =>
    intro L g n h
    rcases h with h | ⟨R, s, m, h1, h2, h3, h4, h5⟩
    · exact Or.inl h
    · exact Or.inr ⟨R, s, m, h1, h2, h3, ih _ _ _ h4, h5⟩
theorem TT.dia (hp : ∀ (L L' : Nat → Bool) (t : Nat), (∀ u, L' u = true → L u = true) → L' t = true → L' (p L t) = true → p L' t = p L t) : ∀ (d : Nat) (L : Nat → Bool) (g : Nat → Nat) (n : Nat) (R : Nat → Bool), TT p d L g n → cyc (p L) L R → (∀ t, R t = true → g t = p L t) ∧ ∃ s m, oneOr R s ∧ TT p d (sMin L R) g m ∧ n = m + s := by
  intro d
  induction d with
  | zero =>
    intro L g n R h hc
    obtain ⟨t, ht⟩ := hc.1
    exact absurd (hc.2.1 t ht) (by rw [h.1 t]; decide)
  | succ d ih =>
    intro L g n R h hc
    rcases h with h | ⟨Q, s, m, h1, h2, h3, h4, h5⟩
    · obtain ⟨t, ht⟩ := hc.1
      exact absurd (hc.2.1 t ht) (by rw [h.1 t]; decide)
    · by_cases e : R = Q
      · subst e
        exact ⟨h2, s, m, h3, TT.up _ _ _ _ h4, h5⟩
      · have sub1 : ∀ u, sMin L Q u = true → L u = true := fun u hu => (sMin_t.mp hu).1
        have sub2 : ∀ u, sMin L R u = true → L u = true := fun u hu => (sMin_t.mp hu).1
        have in1 : ∀ t, R t = true → sMin L Q t = true := fun t ht => sMin_t.mpr ⟨hc.2.1 t ht, hc.off h1 e ht⟩
        have in2 : ∀ t, Q t = true → sMin L R t = true := fun t ht => sMin_t.mpr ⟨h1.2.1 t ht, h1.off hc (Ne.symm e) ht⟩
        obtain ⟨g1, s', m', g2, g3, g4⟩ := ih _ _ _ R h4 (hc.keep hp sub1 in1)
        refine ⟨fun t ht => (g1 t ht).trans (hc.keepP hp sub1 in1 ht), s', m' + s, g2, Or.inr ⟨Q, s, m', h1.keep hp sub2 in2, fun t ht => (h2 t ht).trans (h1.keepP hp sub2 in2 ht).symm, h3, ?_, rfl⟩, by omega⟩
        rw [sMin_comm]
        exact g3
theorem TT.un (hp : ∀ (L L' : Nat → Bool) (t : Nat), (∀ u, L' u = true → L u = true) → L' t = true → L' (p L t) = true → p L' t = p L t) : ∀ (e d : Nat) (L : Nat → Bool) (g g' : Nat → Nat) (n n' : Nat), TT p d L g n → TT p e L g' n' → (∀ t, L t = true → g t = g' t) ∧ n = n' := by
  have zero : ∀ d (L : Nat → Bool) g n, (∀ t, L t = false) → TT p d L g n → n = 0 := by
    intro d L g n hL h
    cases d with
    | zero => exact h.2
    | succ d =>
      rcases h with h | ⟨R, s, m, h1, _⟩
      · exact h.2
      · obtain ⟨t, ht⟩ := h1.1
        exact absurd (h1.2.1 t ht) (by rw [hL t]; decide)
  intro e
  induction e with
  | zero =>
    intro d L g g' n n' h h'
    exact ⟨fun t ht => absurd ht (by rw [h'.1 t]; decide), by rw [zero d L g n h'.1 h, h'.2]⟩
  | succ e ih =>
    intro d L g g' n n' h h'
    rcases h' with h' | ⟨R, s, m, h1, h2, h3, h4, h5⟩
    · exact ⟨fun t ht => absurd ht (by rw [h'.1 t]; decide), by rw [zero d L g n h'.1 h, h'.2]⟩
    · obtain ⟨g1, s', m', g2, g3, g4⟩ := TT.dia hp d L g n R h h1
      obtain ⟨i1, i2⟩ := ih d _ g g' m' m g3 h4
      refine ⟨fun t ht => ?_, ?_⟩
      · cases hr : R t
        · exact i1 t (sMin_t.mpr ⟨ht, hr⟩)
        · rw [g1 t hr, h2 t hr]
      · rw [g4, h5, i2, g2.un h3]
end TTC
