/-! building, plain: ways in the order of trying -/
def sumI (g : Nat → Int) : Nat → Int
  | 0 => 0
  | n + 1 => sumI g n + g n
theorem sumI_bd {g : Nat → Int} {m : Int} (h : ∀ k, -m ≤ g k ∧ g k ≤ m) : ∀ n : Nat, -(m * n) ≤ sumI g n ∧ sumI g n ≤ m * n
  | 0 => by rw [sumI]; omega
  | n + 1 => by
    have h1 := sumI_bd h n
    have h2 := h n
    have e : m * ((n + 1 : Nat) : Int) = m * (n : Int) + m := by rw [Int.natCast_succ, Int.mul_add, Int.mul_one]
    rw [sumI, e]
    omega
def pyA (C : zC) (Y : zX) : Int := sumI (fun k => (payV C k (xD Y) (xM Y)).toInt) (xS Y)
/-- how it stands, how many are built, as month k begins -/
def bgX (C : zC) (X : zX) (ch : Nat → Nat) (many : Nat) : Nat → zX × Nat
  | 0 => (X, 0)
  | k + 1 => if (bgX C X ch many k).2 < many ∧ ch (bgX C X ch many k).2 = k then (xsk C 0 (xbu C (bgX C X ch many k).1), (bgX C X ch many k).2 + 1) else (xsk C 0 (bgX C X ch many k).1, (bgX C X ch many k).2)
def bgY (C : zC) (X : zX) (ch : Nat → Nat) (many k : Nat) : zX := if (bgX C X ch many k).2 < many ∧ ch (bgX C X ch many k).2 = k then xbu C (bgX C X ch many k).1 else (bgX C X ch many k).1
def bgS (C : zC) (X : zX) (ch : Nat → Nat) (many : Nat) : Nat → Int
  | 0 => 0
  | k + 1 => bgS C X ch many k + pyA C (bgY C X ch many k)
def leftV (C : zC) (X : zX) (ch : Nat → Nat) (many n : Nat) : Int := bgS C X ch many n - ((many * kC C : Nat) : Int)
abbrev zBt : Type := Option (Int × Nat × (Nat → Nat)) × Nat
def tryB (s : Int) (many : Nat) (ch : Nat → Nat) (st : zBt) : zBt := match st.1 with
  | none => (some (s, many, ch), 1)
  | some p => if s < p.1 then st else if s = p.1 then (some p, st.2 + 1) else (some (s, many, ch), 1)
def lpK {σ : Type} (F : Nat → σ → σ) : Nat → Nat → σ → σ
  | 0, _, s => s
  | m + 1, k, s => lpK F m (k + 1) (F k s)
def upd1 (ch : Nat → Nat) (a k : Nat) : Nat → Nat := fun j => if j = a then k else ch j
def gB (C : zC) (X : zX) (many n : Nat) : Nat → Nat → Nat → (Nat → Nat) → zBt → zBt
  | 0, _, _, ch, st => tryB (leftV C X ch many n) many ch st
  | d + 1, i, fr, ch, st => lpK (fun k s => gB C X many n d (i + 1) (k + 1) (upd1 ch i k) s) (n - fr) fr st
def lB (C : zC) (X : zX) (n : Nat) : Nat → zBt
  | 0 => (none, 0)
  | m + 1 => gB C X m n m 0 0 (fun _ => 0) (lB C X n m)
def okB (many : Nat) (st : zBt) : Prop := ∀ p, st.1 = some p → p.2.1 ≤ many ∧ -1000000000 ≤ p.1 ∧ p.1 ≤ 1000000000
theorem okB.up {m m' : Nat} {st : zBt} (h : okB m st) (hm : m ≤ m') : okB m' st := fun p hp => ⟨Nat.le_trans (h p hp).1 hm, (h p hp).2⟩
theorem tryB_ok {s : Int} {many : Nat} {ch : Nat → Nat} {st : zBt} (h : okB many st) (h1 : -1000000000 ≤ s) (h2 : s ≤ 1000000000) : okB many (tryB s many ch st) := by
  intro p hp
  unfold tryB at hp
  split at hp
  · cases hp
    exact ⟨Nat.le_refl _, h1, h2⟩
  · rename_i q hq
    split at hp
    · exact h p hp
    · split at hp
      · cases hp
        exact h _ hq
      · cases hp
        exact ⟨Nat.le_refl _, h1, h2⟩
theorem tryB_some {s : Int} {many : Nat} {ch : Nat → Nat} {st : zBt} : (tryB s many ch st).1 ≠ none := by
  unfold tryB
  split
  · intro q; cases q
  · rename_i q hq
    split
    · rw [hq]; intro q; cases q
    · split
      · intro q; cases q
      · intro q; cases q
theorem lpK_keep {σ : Type} {P : σ → Prop} {F : Nat → σ → σ} (h : ∀ k s, P s → P (F k s)) : ∀ m k s, P s → P (lpK F m k s)
  | 0, _, _, hs => hs
  | m + 1, k, s, hs => lpK_keep h m (k + 1) _ (h k s hs)
theorem gB_some {C : zC} {X : zX} {many n : Nat} : ∀ d i fr ch (st : zBt), st.1 ≠ none → (gB C X many n d i fr ch st).1 ≠ none
  | 0, _, _, _, _, _ => tryB_some
  | d + 1, i, fr, ch, st, h => lpK_keep (P := fun s : zBt => s.1 ≠ none) (fun k s hs => gB_some d _ _ _ s hs) _ _ _ h
theorem lB_some {C : zC} {X : zX} {n : Nat} : ∀ m, (lB C X n (m + 1)).1 ≠ none
  | 0 => tryB_some
  | m + 1 => gB_some _ _ _ _ _ (lB_some m)
/-- months told going up -/
def inc (ch : Nat → Nat) (i fr : Nat) : Prop := (∀ j, j < i → ch j < fr) ∧ ∀ j, j + 1 < i → ch j < ch (j + 1)
theorem inc.up {ch : Nat → Nat} {i fr k : Nat} (h : inc ch i fr) (hk : fr ≤ k) : inc (upd1 ch i k) (i + 1) (k + 1) := by
  unfold upd1
  refine ⟨fun j hj => ?_, fun j hj => ?_⟩
  · dsimp only
    by_cases c : j = i
    · rw [if_pos c]; omega
    · rw [if_neg c]
      have := h.1 j (by omega)
      omega
  · dsimp only
    rw [if_neg (by omega)]
    by_cases c : j + 1 = i
    · rw [if_pos c]
      have := h.1 j (by omega)
      omega
    · rw [if_neg c]
      exact h.2 j (by omega)
section BD
variable {C : zC} {X : zX} {mb : Nat} {ch : Nat → Nat} {many n : Nat}
theorem bg_wf (hC : wfC C) (hX : wfX C X mb) (h8 : xS X + many ≤ 8) : ∀ k, wfX C (bgX C X ch many k).1 (mb + k) ∧ xS (bgX C X ch many k).1 = xS X + (bgX C X ch many k).2 ∧ (bgX C X ch many k).2 ≤ many ∧ xM (bgX C X ch many k).1 = xM X + k
  | 0 => ⟨hX, rfl, Nat.zero_le _, rfl⟩
  | k + 1 => by
    obtain ⟨h1, h2, h3, h4⟩ := bg_wf hC hX h8 k
    rw [bgX]
    split
    · rename_i c
      refine ⟨wfX.sk (wfX.bu hC h1 (by omega)), ?_, c.1, ?_⟩
      · show xS (bgX C X ch many k).1 + 1 = _
        rw [h2]
        rfl
      · show xM (bgX C X ch many k).1 + 1 = _
        rw [h4]
        rfl
    · refine ⟨wfX.sk h1, h2, h3, ?_⟩
      show xM (bgX C X ch many k).1 + 1 = _
      rw [h4]
      rfl
theorem bg_all (h : inc ch many n) : (bgX C X ch many n).2 = many ∨ many < (bgX C X ch many n).2 := by
  have key : ∀ k, k ≤ n → (bgX C X ch many k).2 < many → k ≤ ch (bgX C X ch many k).2 := by
    intro k
    induction k with
    | zero => intro _ _; exact Nat.zero_le _
    | succ k ih =>
      intro hk hb
      rw [bgX] at hb ⊢
      by_cases c : (bgX C X ch many k).2 < many ∧ ch (bgX C X ch many k).2 = k
      · rw [if_pos c] at hb ⊢
        have hb : (bgX C X ch many k).2 + 1 < many := hb
        have := h.2 (bgX C X ch many k).2 hb
        show k + 1 ≤ ch ((bgX C X ch many k).2 + 1)
        omega
      · rw [if_neg c] at hb ⊢
        have hb : (bgX C X ch many k).2 < many := hb
        have := ih (by omega) hb
        show k + 1 ≤ ch (bgX C X ch many k).2
        have : ch (bgX C X ch many k).2 ≠ k := fun e => c ⟨hb, e⟩
        omega
  rcases Nat.lt_or_ge (bgX C X ch many n).2 many with q | q
  · have h1 := key n (Nat.le_refl _) q
    have h2 := h.1 _ q
    omega
  · omega
theorem bgY_wf (hC : wfC C) (hX : wfX C X mb) (h8 : xS X + many ≤ 8) (k : Nat) : wfX C (bgY C X ch many k) (mb + k) ∧ xM (bgY C X ch many k) = xM X + k := by
  obtain ⟨h1, h2, h3, h4⟩ := bg_wf (ch := ch) hC hX h8 k
  unfold bgY
  split
  · rename_i c
    exact ⟨wfX.bu hC h1 (by omega), h4⟩
  · exact ⟨h1, h4⟩
theorem pyA_bd (hX : wfX C X mb) : -8000000 ≤ pyA C X ∧ pyA C X ≤ 8000000 := by
  have hS := hX.1
  have h := sumI_bd (g := fun k => if k < 8 then (payV C k (xD X) (xM X)).toInt else 0) (m := 1000000) (fun k => by
    split
    · have := payV_bd (C := C) (mo := xM X) (show k < 1000 by omega) hX.2.1
      unfold bd at this
      omega
    · omega) (xS X)
  have e : ∀ m, m ≤ 8 → sumI (fun k => if k < 8 then (payV C k (xD X) (xM X)).toInt else 0) m = sumI (fun k => (payV C k (xD X) (xM X)).toInt) m := by
    intro m
    induction m with
    | zero => intro _; rfl
    | succ m ih =>
      intro hm
      rw [sumI, sumI, ih (by omega)]
      rw [if_pos (by omega)]
  rw [e _ hS] at h
  unfold pyA
  omega
theorem bgS_bd (hC : wfC C) (hX : wfX C X mb) (h8 : xS X + many ≤ 8) : ∀ k : Nat, -(8000000 * (k : Int)) ≤ bgS C X ch many k ∧ bgS C X ch many k ≤ 8000000 * (k : Int)
  | 0 => by rw [bgS]; omega
  | k + 1 => by
    have h1 := bgS_bd hC hX h8 k
    have h2 := pyA_bd (bgY_wf (ch := ch) hC hX h8 k).1
    rw [bgS]
    omega
theorem leftV_bd (hC : wfC C) (hX : wfX C X mb) (h8 : xS X + many ≤ 8) (hm : many ≤ 3) (hn : n ≤ 24) : -1000000000 ≤ leftV C X ch many n ∧ leftV C X ch many n ≤ 1000000000 := by
  have h1 := bgS_bd (ch := ch) hC hX h8 n
  have h2 : many * kC C ≤ 3 * 999 := Nat.mul_le_mul hm hC.2.2.1
  unfold leftV
  omega
theorem gB_ok (hC : wfC C) (hX : wfX C X mb) (h8 : xS X + many ≤ 8) (hm : many ≤ 3) (hn : n ≤ 24) : ∀ d i fr ch st, okB many st → okB many (gB C X many n d i fr ch st)
  | 0, _, _, ch, st, h => tryB_ok h (leftV_bd hC hX h8 hm hn).1 (leftV_bd hC hX h8 hm hn).2
  | d + 1, i, fr, ch, st, h => lpK_keep (P := fun s : zBt => okB many s) (fun k s hs => gB_ok hC hX h8 hm hn d _ _ _ s hs) _ _ _ h
theorem pyA_64 {Y : zX} : ∀ m, s64 (pdK C Y 0) m = lI (sumI (fun k => (payV C k (xD Y) (xM Y)).toInt) m)
  | 0 => rfl
  | m + 1 => by
    rw [s64, sumI, pyA_64 m]
    unfold pdK
    rw [if_neg (fun q => by have := q.1; omega), lI_of, lI_add]
theorem wt_bu (Y : zX) : wt C (xbu C Y) 0 = wt C Y 0 + kB C := by
  unfold wt
  have e1 : sumN (xW (xbu C Y)) (xS (xbu C Y)) = sumN (xW Y) (xS Y) + kB C := by
    show sumN (xW (xbu C Y)) (xS Y + 1) = _
    rw [sumN]
    have e2 : xW (xbu C Y) (xS Y) = kB C := if_pos rfl
    rw [e2]
    congr 1
    exact sumN_eq _ (fun k hk => if_neg (by omega))
  rw [e1]
  have e3 : sumN (fun t => if xO (xbu C Y) t = 0 ∨ 0 = t + 1 then 0 else xG (xbu C Y) t) (kT C) = sumN (fun t => if xO Y t = 0 ∨ 0 = t + 1 then 0 else xG Y t) (kT C) := rfl
  rw [e3]
  omega
end BD
