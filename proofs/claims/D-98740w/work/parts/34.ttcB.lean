/-! rings, in plain: whom one points at; cycles exist -/
def wT (C : zC) (X : zX) (t v : Nat) : Int := (worX C X t (xO X v - 1)).toInt
def ptN (C : zC) (X : zX) (L : Nat → Bool) (t : Nat) : Nat → Nat → Nat → Nat
  | 0, _, b => b
  | d + 1, u, b => if L u = true ∧ xO X u ≠ 0 ∧ (wT C X t b < wT C X t u ∨ (wT C X t u = wT C X t b ∧ xO X b < xO X u)) then ptN C X L t d (u + 1) u else ptN C X L t d (u + 1) b
def ptX (C : zC) (X : zX) (L : Nat → Bool) (t : Nat) : Nat := if t < kT C ∧ xO X t ≠ 0 then ptN C X L t (kT C) 0 t else t
def isTop (C : zC) (X : zX) (L : Nat → Bool) (t u : Nat) : Prop := L u = true ∧ u < kT C ∧ xO X u ≠ 0 ∧ ∀ v, v < kT C → L v = true → xO X v ≠ 0 → wT C X t v < wT C X t u ∨ (wT C X t v = wT C X t u ∧ xO X v ≤ xO X u)
def gdL (C : zC) (X : zX) (L : Nat → Bool) : Prop := ∀ t, L t = true → t < kT C ∧ xO X t ≠ 0
section TTB
variable {C : zC} {X : zX} {L L' R O : Nat → Bool} {t : Nat} {mb : Nat}
theorem ptN_top (d : Nat) : ∀ (u b : Nat), u + d = kT C → L b = true → b < kT C → xO X b ≠ 0 → (∀ v, v < u → L v = true → xO X v ≠ 0 → wT C X t v < wT C X t b ∨ (wT C X t v = wT C X t b ∧ xO X v ≤ xO X b)) → isTop C X L t (ptN C X L t d u b) := by
  induction d with
  | zero =>
    intro u b hu h1 h2 h3 h4
    exact ⟨h1, h2, h3, fun v hv => h4 v (by omega)⟩
  | succ d ih =>
    intro u b hu h1 h2 h3 h4
    rw [ptN]
    split
    · rename_i c
      refine ih (u + 1) u (by omega) c.1 (by omega) c.2.1 (fun v hv q1 q2 => ?_)
      by_cases e : v = u
      · subst e
        exact Or.inr ⟨rfl, Nat.le_refl _⟩
      · have := h4 v (by omega) q1 q2
        have := c.2.2
        omega
    · rename_i c
      refine ih (u + 1) b (by omega) h1 h2 h3 (fun v hv q1 q2 => ?_)
      by_cases e : v = u
      · subst e
        by_cases c2 : wT C X t b < wT C X t v ∨ (wT C X t v = wT C X t b ∧ xO X b < xO X v)
        · exact absurd ⟨q1, q2, c2⟩ c
        · omega
      · exact h4 v (by omega) q1 q2
theorem ptX_top (h1 : L t = true) (h2 : t < kT C) (h3 : xO X t ≠ 0) : isTop C X L t (ptX C X L t) := by
  unfold ptX
  rw [if_pos ⟨h2, h3⟩]
  exact ptN_top (kT C) 0 t (by omega) h1 h2 h3 (fun v hv => absurd hv (Nat.not_lt_zero _))
theorem isTop.un (hX : wfX C X mb) {u v : Nat} (h : isTop C X L t u) (h' : isTop C X L t v) : u = v := by
  have a1 := h.2.2.2 v h'.2.1 h'.1 h'.2.2.1
  have a2 := h'.2.2.2 u h.2.1 h.1 h.2.2.1
  exact hX.2.2.2.2.2 u v h.2.1 h'.2.1 (by omega) h.2.2.1
theorem ptX_eq (hX : wfX C X mb) (h1 : L t = true) (h2 : t < kT C) (h3 : xO X t ≠ 0) {u : Nat} (h : isTop C X L t u) : ptX C X L t = u := (ptX_top h1 h2 h3).un hX h
theorem ptX_hp (hX : wfX C X mb) : ∀ (L L' : Nat → Bool) (t : Nat), (∀ u, L' u = true → L u = true) → L' t = true → L' (ptX C X L t) = true → ptX C X L' t = ptX C X L t := by
  intro L L' t hs h1 h2
  by_cases c : t < kT C ∧ xO X t ≠ 0
  · have ht := ptX_top (hs t h1) c.1 c.2
    exact ptX_eq hX h1 c.1 c.2 ⟨h2, ht.2.1, ht.2.2.1, fun v q1 q2 q3 => ht.2.2.2 v q1 (hs v q2) q3⟩
  · unfold ptX
    rw [if_neg c, if_neg c]
theorem gdL.p (h : gdL C X L) (ht : L t = true) : L (ptX C X L t) = true := (ptX_top ht (h t ht).1 (h t ht).2).1
theorem gdL.it (h : gdL C X L) (ht : L t = true) : ∀ k, L (iter (ptX C X L) k t) = true
  | 0 => ht
  | k + 1 => h.p (h.it ht k)
theorem gdL.sub (h : gdL C X L) : gdL C X (sMin L R) := fun t ht => h t (sMin_t.mp ht).1
end TTB
section PER
variable {p : Nat → Nat} {L : Nat → Bool} {t : Nat}
/-- six steps on, one is in a ring -/
theorem six (h6 : ∀ k, iter p k t < 6) : ∃ M, 1 ≤ M ∧ iter p M (iter p 6 t) = iter p 6 t := by
  obtain ⟨i, j, h1, h2, h3⟩ := php 6 (fun k => iter p k t) (fun i _ => h6 i)
  refine ⟨j - i, by omega, ?_⟩
  rw [← iter_add, show j - i + 6 = (6 - i) + j by omega, iter_add, show iter p 6 t = iter p ((6 - i) + i) t by rw [show 6 - i + i = 6 by omega], iter_add]
  rw [show iter p j t = iter p i t from h3.symm]
theorem iter_mod {m : Nat} (hm : 1 ≤ m) (h : iter p m t = t) : ∀ k, iter p k t = iter p (k % m) t := by
  intro k
  induction k using Nat.strongRecOn with
  | ind k ih =>
    by_cases c : k < m
    · rw [Nat.mod_eq_of_lt c]
    · have := ih (k - m) (by omega)
      rw [show k = (k - m) + m by omega, iter_add, h, Nat.add_mod_right]
      exact this
/-- the ring of one that comes round -/
def ringB (p : Nat → Nat) (t : Nat) : Nat → Nat → Bool
  | 0, _ => false
  | k + 1, u => ringB p t k u || decide (iter p k t = u)
theorem ringB_t {m u : Nat} : ringB p t m u = true ↔ ∃ k, k < m ∧ iter p k t = u := by
  induction m with
  | zero => exact ⟨fun h => by simp [ringB] at h, fun ⟨k, h, _⟩ => absurd h (Nat.not_lt_zero _)⟩
  | succ m ih =>
    rw [ringB, Bool.or_eq_true, ih, decide_eq_true_eq]
    constructor
    · rintro (⟨k, h1, h2⟩ | h)
      · exact ⟨k, by omega, h2⟩
      · exact ⟨m, by omega, h⟩
    · rintro ⟨k, h1, h2⟩
      by_cases c : k = m
      · subst c
        exact Or.inr h2
      · exact Or.inl ⟨k, by omega, h2⟩
theorem per_cyc {m : Nat} (hL : ∀ k, L (iter p k t) = true) (hm : 1 ≤ m) (h : iter p m t = t) : cyc p L (ringB p t m) := by
  refine ⟨⟨t, ringB_t.mpr ⟨0, by omega, rfl⟩⟩, fun u hu => ?_, fun u hu v => ?_⟩
  · obtain ⟨k, _, rfl⟩ := ringB_t.mp hu
    exact hL k
  · obtain ⟨i, hi, rfl⟩ := ringB_t.mp hu
    rw [ringB_t]
    constructor
    · rintro ⟨j, hj, rfl⟩
      refine ⟨j + m - i, ?_⟩
      rw [← iter_add, show j + m - i + i = j + m by omega, iter_add, h]
    · rintro ⟨k, rfl⟩
      refine ⟨(k + i) % m, Nat.mod_lt _ (by omega), ?_⟩
      rw [← iter_mod hm h, iter_add]
/-- the first time round: all ahead of it differ -/
theorem per_least (h : ∃ M, 1 ≤ M ∧ iter p M t = t) : ∃ m, 1 ≤ m ∧ iter p m t = t ∧ ∀ j, 1 ≤ j → j < m → iter p j t ≠ t := by
  obtain ⟨m, h1, h2⟩ := pk_least (fun m => 1 ≤ m ∧ iter p m t = t) h
  exact ⟨m, h1.1, h1.2, fun j q1 q2 e => h2 j q2 ⟨q1, e⟩⟩
theorem per_diff {m : Nat} (hm : 1 ≤ m) (h : iter p m t = t) (hl : ∀ j, 1 ≤ j → j < m → iter p j t ≠ t) {i j : Nat} (hij : i < j) (hj : j < m) : iter p i t ≠ iter p j t := by
  intro e
  have e2 : iter p (m - j + i) t = t := by rw [iter_add, e, ← iter_add, show m - j + j = m by omega, h]
  exact hl (m - j + i) (by omega) (by omega) e2
theorem per_le {m : Nat} (h6 : ∀ k, iter p k t < 6) (hm : 1 ≤ m) (h : iter p m t = t) (hl : ∀ j, 1 ≤ j → j < m → iter p j t ≠ t) : m ≤ 6 := by
  rcases Nat.lt_or_ge 6 m with c | c
  · obtain ⟨i, j, h1, h2, h3⟩ := php 6 (fun k => iter p k t) (fun i _ => h6 i)
    exact absurd h3 (per_diff hm h hl h1 (by omega))
  · exact c
end PER
def cnt (L : Nat → Bool) : Nat := sumN (fun u => if L u = true then 1 else 0) 6
theorem sumN_mono {g h : Nat → Nat} : ∀ n, (∀ k, k < n → g k ≤ h k) → sumN g n ≤ sumN h n
  | 0, _ => Nat.le_refl _
  | n + 1, e => Nat.add_le_add (sumN_mono n (fun k hk => e k (by omega))) (e n (by omega))
theorem sumN_lt {g h : Nat → Nat} : ∀ n, (∀ k, k < n → g k ≤ h k) → (∃ k, k < n ∧ g k < h k) → sumN g n < sumN h n
  | 0, _, ⟨k, hk, _⟩ => absurd hk (Nat.not_lt_zero _)
  | n + 1, e, ⟨k, hk, hl⟩ => by
    rw [sumN, sumN]
    by_cases c : k = n
    · subst c
      have := sumN_mono k (fun j hj => e j (by omega))
      omega
    · have := sumN_lt n (fun j hj => e j (by omega)) ⟨k, by omega, hl⟩
      have := e n (by omega)
      omega
theorem cnt_lt {L R : Nat → Bool} {t : Nat} (ht : t < 6) (h1 : L t = true) (h2 : R t = true) : cnt (sMin L R) < cnt L := by
  refine sumN_lt 6 (fun k _ => ?_) ⟨t, ht, ?_⟩
  · by_cases c : sMin L R k = true
    · rw [if_pos c, if_pos (sMin_t.mp c).1]
      exact Nat.le_refl _
    · rw [if_neg c]
      exact Nat.zero_le _
  · rw [if_pos h1, if_neg (fun q => by rw [(sMin_t.mp q).2] at h2; cases h2)]
    decide
theorem cnt_0 {L : Nat → Bool} (h : cnt L = 0) {t : Nat} (ht : t < 6) : L t = false := by
  cases e : L t
  · rfl
  · have := sumN_lt (g := fun _ => 0) (h := fun u => if L u = true then 1 else 0) 6 (fun k _ => Nat.zero_le _) ⟨t, ht, by rw [if_pos e]; decide⟩
    unfold cnt at h
    omega
theorem cnt_6 (L : Nat → Bool) : cnt L ≤ 6 := by
  have := sumN_le (f := fun u => if L u = true then 1 else 0) (m := 1) 6 (fun k _ => by split <;> omega)
  unfold cnt
  omega
theorem oneOr_ex (R : Nat → Bool) : ∃ s, oneOr R s := by
  by_cases c : ∃ t u, R t = true ∧ R u = true ∧ t ≠ u
  · exact ⟨1, Or.inl ⟨rfl, c⟩⟩
  · refine ⟨0, Or.inr ⟨rfl, fun t u h1 h2 => ?_⟩⟩
    by_cases e : t = u
    · exact e
    · exact absurd ⟨t, u, h1, h2, e⟩ c
theorem TT.congr {p : (Nat → Bool) → Nat → Nat} : ∀ (d : Nat) (L : Nat → Bool) (g g' : Nat → Nat) (n : Nat), (∀ t, L t = true → g t = g' t) → TT p d L g n → TT p d L g' n := by
  intro d
  induction d with
  | zero => intro L g g' n _ h; exact h
  | succ d ih =>
    intro L g g' n he h
    rcases h with h | ⟨R, s, m, h1, h2, h3, h4, h5⟩
    · exact Or.inl h
    · exact Or.inr ⟨R, s, m, h1, fun t ht => (he t (h1.2.1 t ht)).symm.trans (h2 t ht), h3, ih _ g g' m (fun t ht => he t (sMin_t.mp ht).1) h4, h5⟩
theorem TT_ex {C : zC} {X : zX} (hT : kT C ≤ 6) : ∀ (d : Nat) (L : Nat → Bool), gdL C X L → cnt L ≤ d → ∃ g n, TT (ptX C X) d L g n := by
  intro d
  induction d with
  | zero =>
    intro L hL hc
    refine ⟨fun t => t, 0, fun t => ?_, rfl⟩
    cases e : L t
    · rfl
    · have := (hL t e).1
      rw [cnt_0 (L := L) (by omega) (show t < 6 by omega)] at e
      cases e
  | succ d ih =>
    intro L hL hc
    by_cases c : ∃ t, L t = true
    · obtain ⟨t, ht⟩ := c
      have h6 : ∀ k, iter (ptX C X L) k t < 6 := fun k => by
        have := (hL _ (hL.it ht k)).1
        omega
      obtain ⟨M, m1, m2⟩ := six h6
      have hc2 : cyc (ptX C X L) L (ringB (ptX C X L) (iter (ptX C X L) 6 t) M) := per_cyc (fun k => by rw [← iter_add]; exact hL.it ht _) m1 m2
      have hR : ringB (ptX C X L) (iter (ptX C X L) 6 t) M (iter (ptX C X L) 6 t) = true := ringB_t.mpr ⟨0, by omega, rfl⟩
      obtain ⟨g, n, hg⟩ := ih (sMin L (ringB (ptX C X L) (iter (ptX C X L) 6 t) M)) hL.sub (by
        have := cnt_lt (h6 6) (hL.it ht 6) hR
        omega)
      obtain ⟨s, hs⟩ := oneOr_ex (ringB (ptX C X L) (iter (ptX C X L) 6 t) M)
      refine ⟨fun u => if ringB (ptX C X L) (iter (ptX C X L) 6 t) M u = true then ptX C X L u else g u, n + s, Or.inr ⟨_, s, n, hc2, fun u hu => if_pos hu, hs, TT.congr _ _ _ _ _ (fun u hu => ?_) hg, rfl⟩⟩
      rw [if_neg (fun q => by rw [(sMin_t.mp hu).2] at q; cases q)]
    · exact ⟨fun t => t, 0, Or.inl ⟨fun t => by
        cases e : L t
        · rfl
        · exact absurd ⟨t, e⟩ c, rfl⟩⟩
/-- all who live somewhere -/
def liv (C : zC) (X : zX) : Nat → Bool := fun t => decide (t < kT C ∧ xO X t ≠ 0)
theorem liv_t {C : zC} {X : zX} {t : Nat} : liv C X t = true ↔ t < kT C ∧ xO X t ≠ 0 := decide_eq_true_iff
def RG (C : zC) (X : zX) (g : Nat → Nat) (n : Nat) : Prop := TT (ptX C X) 6 (liv C X) g n ∧ ∀ t, liv C X t = false → g t = t
theorem RG_ex {C : zC} {X : zX} (hT : kT C ≤ 6) : ∃ g n, RG C X g n := by
  obtain ⟨g, n, h⟩ := TT_ex hT 6 (liv C X) (fun t ht => liv_t.mp ht) (cnt_6 _)
  refine ⟨fun t => if liv C X t = true then g t else t, n, TT.congr _ _ _ _ _ (fun t ht => (if_pos ht).symm) h, fun t ht => if_neg (by rw [ht]; decide)⟩
theorem RG.un {C : zC} {X : zX} {mb : Nat} (hX : wfX C X mb) {g g' : Nat → Nat} {n n' : Nat} (h : RG C X g n) (h' : RG C X g' n') : g = g' ∧ n = n' := by
  obtain ⟨h1, h2⟩ := TT.un (ptX_hp hX) 6 6 _ g g' n n' h.1 h'.1
  refine ⟨funext fun t => ?_, h2⟩
  cases e : liv C X t
  · rw [h.2 t e, h'.2 t e]
  · exact h1 t e
