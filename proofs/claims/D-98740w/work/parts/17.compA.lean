/-! the component: sums as trees -/
def wmap (l w : Nat) : Nat := match l with
  | 0 => ([1, 2, 3, 0, 4, 9] : List Nat).getD w 0
  | _ => ([5, 6, 0, 7, 8, 9] : List Nat).getD w 0
def sgn (op : Nat) : Nat := if op = 3000 then 43 else if op = 3001 then 45 else 42
def sumT (wm : Nat → Nat) : Nat → zM → Nat → List Nat → Prop
  | 0 => fun _ _ _ => False
  | d + 1 => fun μ a cs => (zty μ a = some (.inl 6) ∧ ∃ w, zI μ a 0 = nI w ∧ w < 6 ∧ cs = [1000 + wm w]) ∨ (zty μ a = some (.inl 7) ∧ ∃ n, n < 1000 ∧ zI μ a 0 = nI n ∧ cs = [n]) ∨ (zty μ a = some (.inl 8) ∧ ∃ b1 b2 c1 c2 op, zR μ a 0 = some b1 ∧ zR μ a 1 = some b2 ∧ sumT wm d μ b1 c1 ∧ sumT wm d μ b2 c2 ∧ (op = 3000 ∨ op = 3001 ∨ op = 3002) ∧ zI μ a 2 = nI (sgn op) ∧ cs = c1 ++ (c2 ++ [op]))
def isSum (t : Option zT) : Prop := t = some (.inl 6) ∨ t = some (.inl 7) ∨ t = some (.inl 8)
theorem sumT.off {wm : Nat → Nat} {μ μ' : zM} (h1 : ∀ x, isSum (zty μ x) → zty μ' x = zty μ x ∧ (∀ k, zI μ' x k = zI μ x k) ∧ ∀ k, zR μ' x k = zR μ x k) : ∀ (d : Nat) (a : Nat) (cs : List Nat), sumT wm d μ a cs → sumT wm d μ' a cs := by
  intro d
  induction d with
  | zero => intro a cs h; exact h
  | succ d ih =>
    intro a cs h
    rcases h with ⟨ht, w, e1, e2, e3⟩ | ⟨ht, n, e1, e2, e3⟩ | ⟨ht, b1, b2, c1, c2, op, r1, r2, t1, t2, ho, e2, e3⟩
    · obtain ⟨g1, g2, g3⟩ := h1 a (Or.inl ht)
      exact Or.inl ⟨g1.trans ht, w, (g2 0).trans e1, e2, e3⟩
    · obtain ⟨g1, g2, g3⟩ := h1 a (Or.inr (Or.inl ht))
      exact Or.inr (Or.inl ⟨g1.trans ht, n, e1, (g2 0).trans e2, e3⟩)
    · obtain ⟨g1, g2, g3⟩ := h1 a (Or.inr (Or.inr ht))
      exact Or.inr (Or.inr ⟨g1.trans ht, b1, b2, c1, c2, op, (g3 0).trans r1, (g3 1).trans r2, ih _ _ t1, ih _ _ t2, ho, (g2 2).trans e2, e3⟩)
theorem sumT.up {wm : Nat → Nat} {μ : zM} : ∀ (d : Nat) (a : Nat) (cs : List Nat), sumT wm d μ a cs → sumT wm (d + 1) μ a cs := by
  intro d
  induction d with
  | zero => intro a cs h; exact h.elim
  | succ d ih =>
    intro a cs h
    rcases h with h | h | ⟨ht, b1, b2, c1, c2, op, r1, r2, t1, t2, ho, e2, e3⟩
    · exact Or.inl h
    · exact Or.inr (Or.inl h)
    · exact Or.inr (Or.inr ⟨ht, b1, b2, c1, c2, op, r1, r2, ih _ _ t1, ih _ _ t2, ho, e2, e3⟩)
theorem sumT.upTo {wm : Nat → Nat} {μ : zM} {a : Nat} {cs : List Nat} {d e : Nat} (hde : d ≤ e) (h : sumT wm d μ a cs) : sumT wm e μ a cs := by
  obtain ⟨k, rfl⟩ := Nat.exists_eq_add_of_le hde
  clear hde
  induction k with
  | zero => exact h
  | succ k ih => exact sumT.up _ _ _ ih
/-- what a tree's codes push -/
def pushes (W : Nat → Int32) (cs : List Nat) (v : Int32) : Prop := ∀ (rest : List Nat) (st : List Int32), stk W (cs ++ rest) st = stk W rest (v :: st)
theorem pushes_ev {W : Nat → Int32} {cs : List Nat} {v : Int32} (h : pushes W cs v) : ev W cs = v := by
  have := h [] []
  rw [List.append_nil] at this
  unfold ev
  rw [this]
  rfl
theorem wmap_lt {l w : Nat} (h : w < 6) : wmap l w < 10 := by
  unfold wmap
  rcases (show w = 0 ∨ w = 1 ∨ w = 2 ∨ w = 3 ∨ w = 4 ∨ w = 5 by omega) with rfl | rfl | rfl | rfl | rfl | rfl <;> split <;> decide
theorem clamp_eq (y : Int64) : (if (if y < (1000000 : Int64) then y else (1000000 : Int64)) < (-1000000 : Int64) then (-1000000 : Int64) else (if y < (1000000 : Int64) then y else (1000000 : Int64))).toInt32 = (if ¬ (1000000 : Int64) < y then (if ¬ y < (-1000000 : Int64) then y.toInt32 else (-1000000 : Int64).toInt32) else (1000000 : Int64).toInt32) := by
  have e1 : (1000000 : Int64).toInt = 1000000 := by decide
  have e2 : (-1000000 : Int64).toInt = -1000000 := by decide
  by_cases c1 : (1000000 : Int64) < y
  · have c0 : ¬ y < (1000000 : Int64) := by
      rw [Int64.lt_iff_toInt_lt] at c1 ⊢
      omega
    rw [if_neg c0, if_neg (by decide : ¬ (1000000 : Int64) < (-1000000 : Int64)), if_neg (fun q => q c1)]
  · rw [if_pos c1]
    by_cases c2 : y < (1000000 : Int64)
    · rw [if_pos c2]
      by_cases c3 : y < (-1000000 : Int64)
      · rw [if_pos c3, if_neg (fun q => q c3)]
      · rw [if_neg c3, if_pos c3]
    · have e : y = (1000000 : Int64) := by
        apply Int64.toInt_inj.mp
        rw [Int64.lt_iff_toInt_lt] at c1 c2
        omega
      rw [if_neg c2, e]
      decide
theorem c_value {z l : Nat} {W : Nat → Int32} {x1 : Nat} : ∀ (d a : Nat) (cs : List Nat) (μ : zM), sumT (wmap l) d μ a cs → zty μ x1 = some (.inr (0, 6)) → (∀ w, w < 6 → 1000 + wmap l w ∈ cs → zI μ x1 w = W (wmap l w)) → ∀ (Q : Int32 → zM → Prop), (∀ v, pushes W cs v → Q v μ) → pX6_value d z a x1 μ Q := by
  intro d
  induction d with
  | zero => intro a cs μ h; exact h.elim
  | succ d ih =>
    intro a cs μ h hx hw Q hq
    rcases h with ⟨ht, w, e1, e2, rfl⟩ | ⟨ht, n, e1, e2, rfl⟩ | ⟨ht, b1, b2, c1, c2, op, r1, r2, t1, t2, ho, e2, rfl⟩
    · refine Or.inl ⟨ht, ht, ⟨6, hx, ?_⟩, ?_⟩
      · rw [e1]; exact vp_in_nI e2 (by decide)
      · rw [e1, nI_clamp (by omega), hw w e2 (by simp)]
        refine hq _ (fun rest st => ?_)
        have := wmap_lt (l := l) e2
        rw [List.singleton_append, stk_c, if_pos (by omega), if_neg (by omega), Nat.add_sub_cancel_left]
    · refine Or.inr (Or.inl ⟨ht, ht, ?_⟩)
      rw [e2]
      refine hq _ (fun rest st => ?_)
      rw [List.singleton_append, stk_c, if_pos (by omega), if_pos e1]
    · refine Or.inr (Or.inr ⟨ht, ht, b1, r1, ?_⟩)
      refine ih b1 c1 μ t1 hx (fun w h1 h2 => hw w h1 (List.mem_append_left _ h2)) _ (fun v1 p1 => ⟨b2, r2, ?_⟩)
      refine ih b2 c2 μ t2 hx (fun w h1 h2 => hw w h1 (List.mem_append_right _ (List.mem_append_left _ h2))) _ (fun v2 p2 => ?_)
      have fin : Q (opI op v1 v2) μ := by
        refine hq _ (fun rest st => ?_)
        rw [List.append_assoc, p1, List.append_assoc, p2, List.singleton_append, stk_c, if_neg (by omega)]
      rw [e2]
      unfold opI at fin
      unfold pX9_value_57
      rcases ho with rfl | rfl | rfl
      · rw [if_pos (by decide), clamp_eq]
        exact fin
      · rw [if_neg (by decide), if_pos (by decide), clamp_eq]
        exact fin
      · rw [if_neg (by decide), if_neg (by decide), clamp_eq]
        exact fin
