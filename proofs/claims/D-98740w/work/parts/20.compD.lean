/-! the component: what a state does by itself -/
theorem sumN_le {f : Nat → Nat} {m : Nat} : ∀ n, (∀ k, k < n → f k ≤ m) → sumN f n ≤ n * m
  | 0, _ => Nat.zero_le _
  | n + 1, h => by
    have h1 := sumN_le n (fun k hk => h k (by omega))
    have h2 := h n (by omega)
    rw [sumN, Nat.succ_mul]
    omega
theorem wt_le {C : zC} {X : zX} {mb : Nat} (hC : wfC C) (hX : wfX C X mb) (wo : Nat) : wt C X wo ≤ 13986 := by
  have h1 := sumN_le (f := xW X) (m := 999) (xS X) (fun k hk => hX.2.2.2.1 k (by have := hX.1; omega))
  have h2 := sumN_le (f := fun t => if xO X t = 0 ∨ wo = t + 1 then 0 else xG X t) (m := 999) (kT C) (fun k hk => by
    have := (hX.2.2.2.2.1 k (by have := hC.1; omega)).1
    split <;> omega)
  have h3 := hX.1
  have h4 := hC.1
  have h5 := Nat.mul_le_mul_right 999 h3
  have h6 := Nat.mul_le_mul_right 999 h4
  unfold wt
  omega
theorem wfX.O {C : zC} {X : zX} {mb : Nat} (hX : wfX C X mb) {t : Nat} (ht : t < 6) : xO X t ≤ 8 := by
  have := (hX.2.2.2.2.1 t ht).2
  have := hX.1
  omega
/-- a month goes by -/
def xsk (C : zC) (b : Nat) (X : zX) : zX := (X.1, X.2.1, X.2.2.1, X.2.2.2.1, dee (xD X) (inch C (b + wt C X 0) (xS X) (xD X) (xM X)), xM X + 1)
def xgo (C : zC) (b : Nat) : Nat → zX → zX
  | 0, X => X
  | n + 1, X => xsk C b (xgo C b n X)
theorem wfX.sk {C : zC} {X : zX} {mb b : Nat} (h : wfX C X mb) : wfX C (xsk C b X) (mb + 1) := ⟨h.1, Nat.min_le_right _ _, Nat.succ_le_succ h.2.2.1, h.2.2.2⟩
theorem wfX.up {C : zC} {X : zX} {mb mc : Nat} (h : wfX C X mb) (hm : mb ≤ mc) : wfX C X mc := ⟨h.1, h.2.1, Nat.le_trans h.2.2.1 hm, h.2.2.2⟩
theorem wfX.go {C : zC} {X : zX} {mb b : Nat} (h : wfX C X mb) : ∀ n, wfX C (xgo C b n X) (mb + n)
  | 0 => h
  | n + 1 => (wfX.go h n).sk
theorem wt_sk (C : zC) (b : Nat) (X : zX) (wo : Nat) : wt C (xsk C b X) wo = wt C X wo := rfl
theorem wt_go (C : zC) (b : Nat) (X : zX) (wo : Nat) : ∀ n, wt C (xgo C b n X) wo = wt C X wo
  | 0 => rfl
  | n + 1 => wt_go C b X wo n
theorem xS_go (C : zC) (b : Nat) (X : zX) : ∀ n, xS (xgo C b n X) = xS X
  | 0 => rfl
  | n + 1 => xS_go C b X n
theorem xO_go (C : zC) (b : Nat) (X : zX) : ∀ n, xO (xgo C b n X) = xO X
  | 0 => rfl
  | n + 1 => xO_go C b X n
theorem xG_go (C : zC) (b : Nat) (X : zX) : ∀ n, xG (xgo C b n X) = xG X
  | 0 => rfl
  | n + 1 => xG_go C b X n
theorem xW_go (C : zC) (b : Nat) (X : zX) : ∀ n, xW (xgo C b n X) = xW X
  | 0 => rfl
  | n + 1 => xW_go C b X n
theorem xM_go (C : zC) (b : Nat) (X : zX) : ∀ n, xM (xgo C b n X) = xM X + n
  | 0 => rfl
  | n + 1 => congrArg (· + 1) (xM_go C b X n)
theorem xD_go (C : zC) (b : Nat) (X : zX) : ∀ n, xD (xgo C b n X) = suN C (b + wt C X 0) (xS X) (xD X) (xM X) n
  | 0 => rfl
  | n + 1 => by
    show dee (xD (xgo C b n X)) (inch C (b + wt C (xgo C b n X) 0) (xS (xgo C b n X)) (xD (xgo C b n X)) (xM (xgo C b n X))) = _
    rw [wt_go, xS_go, xM_go, xD_go C b X n]
    rfl
theorem suN_le (C : zC) (w st s0 m0 : Nat) (h : s0 ≤ 99999) : ∀ n, suN C w st s0 m0 n ≤ 99999
  | 0 => h
  | _ + 1 => Nat.min_le_right _ _
theorem suN_up (C : zC) (w st s0 m0 : Nat) (h : s0 ≤ 99999) (n : Nat) : suN C w st s0 m0 n ≤ suN C w st s0 m0 (n + 1) := by
  have := suN_le C w st s0 m0 h n
  show _ ≤ min (_ + _) 99999
  omega
theorem suN_ge (C : zC) (w st s0 m0 : Nat) (h : s0 ≤ 99999) : ∀ n, s0 ≤ suN C w st s0 m0 n
  | 0 => Nat.le_refl _
  | n + 1 => Nat.le_trans (suN_ge C w st s0 m0 h n) (suN_up C w st s0 m0 h n)
theorem cTow.T {μ : zM} {a : Nat} {C : zC} {X1 : zX} (h : cTow μ a C X1) : zI μ a 6 = nI (kT C) := h.2.2.1
theorem cSt.ty {μ : zM} {s : Nat} {X : zX} {b : Nat} (h : cSt μ s X b) : zty μ s = some (.inl 2) := h.1
theorem cSt.S {μ : zM} {s : Nat} {X : zX} {b : Nat} (h : cSt μ s X b) : zI μ s 3 = nI (xS X) := h.2.1
theorem cSt.D {μ : zM} {s : Nat} {X : zX} {b : Nat} (h : cSt μ s X b) : zI μ s 4 = nI (xD X) := h.2.2.1
theorem cSt.M {μ : zM} {s : Nat} {X : zX} {b : Nat} (h : cSt μ s X b) : zI μ s 5 = nI (xM X) := h.2.2.2.1
theorem cSt.B {μ : zM} {s : Nat} {X : zX} {b : Nat} (h : cSt μ s X b) : zI μ s 6 = nI b := h.2.2.2.2.1
theorem cSt.O {μ : zM} {s : Nat} {X : zX} {b : Nat} (h : cSt μ s X b) {t : Nat} (ht : t < 6) : zI μ (s + 1) t = eO (xO X t) := h.2.2.2.2.2.1 t ht
theorem cSt.G {μ : zM} {s : Nat} {X : zX} {b : Nat} (h : cSt μ s X b) {t : Nat} (ht : t < 6) : zI μ (s + 2) t = nI (xG X t) := h.2.2.2.2.2.2.1 t ht
theorem cSt.W {μ : zM} {s : Nat} {X : zX} {b : Nat} (h : cSt μ s X b) {k : Nat} (hk : k < 8) : zI μ (s + 3) k = nI (xW X k) := h.2.2.2.2.2.2.2 k hk
/-- what months change -/
def Ss (a s x k : Nat) : Prop := x = a + 5 ∨ x = s ∧ (k = 4 ∨ k = 5)
section CD
variable {z : Nat} {μ : zM} {a s : Nat} {C : zC} {X X1 : zX} {b mb : Nat}
theorem cIts.dj (h : cIts z μ a C X1) (hs : zty μ s = some (.inl 2)) : a + 5 < s ∨ s + 3 < a := by
  have q0 := h.2.2.1
  have q1 := h.arr 0 rfl
  have q2 := h.arr 1 rfl
  have q3 := h.arr 2 rfl
  have q4 := h.arr 3 rfl
  have q5 := h.arr 4 rfl
  have r1 := h.sarr hs 0 rfl
  have r2 := h.sarr hs 1 rfl
  have r3 := h.sarr hs 2 rfl
  dsimp only at q1 q2 q3 q4 q5 r1 r2 r3
  have n0 := ne_ty q0 hs (by simp)
  have n1 := ne_ty q1 hs (by simp)
  have n2 := ne_ty q2 hs (by simp)
  have n3 := ne_ty q3 hs (by simp)
  have n4 := ne_ty q4 hs (by simp)
  have n5 := ne_ty q5 hs (by simp)
  have m1 := ne_ty r1 q0 (by simp)
  have m2 := ne_ty r2 q0 (by simp)
  have m3 := ne_ty r3 q0 (by simp)
  omega
theorem cIts.avs (h : cIts z μ a C X1) (hs : zty μ s = some (.inl 2)) : tAv (Ss a s) μ a := by
  have hd := h.dj hs
  refine ⟨fun k q => ?_, fun i k h1 h2 q => ?_, fun x hx k q => ?_⟩
  · rcases q with q | ⟨q, _⟩ <;> omega
  · rcases q with q | ⟨q, _⟩ <;> omega
  · rcases q with q | ⟨q, _⟩
    · exact h.avw.2.2 x hx k q
    · subst q
      rcases hx with hx | hx | hx <;> rw [hs] at hx <;> cases hx
theorem c_whole (h : cIts z μ a C X1) (hs : cSt μ s X b) (hC : wfC C) (hX : wfX C X mb) {Q : Int32 → zM → Prop} (hq : Q (nI (b + wt C X 0)) μ) : pX2_whole z s μ Q := by
  have hT := hC.1
  have hS := hX.1
  have l2 : ∃ n, pX2_whole_32 z s Q n (nI (b + sumN (xW X) (xS X) + sumN (fun t => if xO X t = 0 ∨ 0 = t + 1 then 0 else xG X t) 0)) (nI 0) μ := by
    refine zup (W := fun n i => pX2_whole_32 z s Q n (nI (b + sumN (xW X) (xS X) + sumN (fun t => if xO X t = 0 ∨ 0 = t + 1 then 0 else xG X t) i)) (nI i) μ) (kT C) (fun n => ?_) (fun n i hi hn => ?_) 0 (Nat.zero_le _)
    · refine ⟨a, h.2.1, h.2.2.1, ?_⟩
      rw [h.2.2.T, if_pos (nI_le (by omega) (by omega)), Nat.add_assoc]
      exact hq
    · refine ⟨a, h.2.1, h.2.2.1, ?_⟩
      have hi6 : i < 6 := by omega
      have ho8 := hX.O hi6
      rw [h.2.2.T, if_neg (nI_ge (by omega) (by omega))]
      refine ⟨vp_in_nI hi6 (by decide), ?_⟩
      rw [nI_clamp (by omega), hs.O hi6]
      have e0 : sumN (fun t => if xO X t = 0 ∨ 0 = t + 1 then 0 else xG X t) (i + 1) = sumN (fun t => if xO X t = 0 ∨ 0 = t + 1 then 0 else xG X t) i + (if xO X i = 0 ∨ 0 = i + 1 then 0 else xG X i) := rfl
      rw [e0] at hn
      by_cases c1 : xO X i = 0
      · rw [if_pos ((eO_m1 (by omega)).mpr c1), nI_add, nI_add]
        rw [if_pos (Or.inl c1)] at hn
        exact hn
      · rw [if_neg (fun q => c1 ((eO_m1 (by omega)).mp q))]
        refine ⟨vp_in_nI hi6 (by decide), ?_⟩
        rw [hs.G hi6, nI_add, nI_add]
        rw [if_neg (by rintro (q | q); exact c1 q; omega)] at hn
        rw [Nat.add_assoc]
        exact hn
  have l1 : ∃ n, pX2_whole_7 z s Q n (nI (b + sumN (xW X) 0)) (nI 0) μ := by
    refine zup (W := fun n i => pX2_whole_7 z s Q n (nI (b + sumN (xW X) i)) (nI i) μ) (xS X) (fun n => ?_) (fun n i hi hn => ?_) 0 (Nat.zero_le _)
    · unfold pX2_whole_7
      rw [hs.S, if_pos (nI_le (by omega) (by omega))]
      exact l2
    · unfold pX2_whole_7
      rw [hs.S, if_neg (nI_ge (by omega) (by omega))]
      refine ⟨vp_in_nI (by omega) (by decide), ?_⟩
      rw [nI_clamp (by omega), hs.W (by omega), nI_add, nI_add]
      rw [Nat.add_assoc]
      exact hn
  refine ⟨hs.ty, ?_⟩
  rw [hs.B]
  exact l1
theorem c_buried (hs : cSt μ s X b) (hX : wfX C X mb) {Q : Int32 → zM → Prop} (hq : Q (nI (bur (xS X) (xD X))) μ) : pX2_buried z s μ Q := by
  have h1 := hX.1
  have h2 := hX.2.1
  refine ⟨hs.ty, ?_⟩
  rw [hs.D, hs.S, pk_div (by omega) (by decide) (by decide)]
  unfold bur at hq
  by_cases c : xD X / 144 < xS X
  · rw [if_pos (nI_lt c (by omega))]
    rwa [Nat.min_eq_right (by omega)] at hq
  · rw [if_neg (nI_nlt (by omega) (by omega))]
    rwa [Nat.min_eq_left (by omega)] at hq
theorem c_isBuried (hs : cSt μ s X b) (hX : wfX C X mb) {k : Nat} (hk : k < 1000) {Q : Int32 → zM → Prop} (hq : Q (if 144 * (k + 1) ≤ xD X then nI 1 else nI 0) μ) : pX2_isBuried z s (nI k) μ Q := by
  have h2 := hX.2.1
  refine ⟨hs.ty, ?_⟩
  rw [hs.D, nI_add, pk_mul]
  by_cases c : 144 * (k + 1) ≤ xD X
  · rw [if_neg (nI_nlt (by omega) (by omega))]
    rwa [if_pos c] at hq
  · rw [if_pos (nI_lt (by omega) (by omega))]
    rwa [if_neg c] at hq
theorem c_inches (h : cIts z μ a C X1) (hs : cSt μ s X b) (hC : wfC C) (hX : wfX C X mb) (hb : b ≤ 999) (hm : mb ≤ 100000) {Q : Int32 → zM → Prop} (hq : ∀ μ', zOff (Sw a) μ μ' → Q (nI (inch C (b + wt C X 0) (xS X) (xD X) (xM X))) μ') : pX2_inches z s μ Q := by
  have hw := wt_le hC hX 0
  have h3 := hX.2.2.1
  refine ⟨hs.ty, a, h.2.1, c_whole h hs hC hX (c_buried hs hX ?_)⟩
  rw [hs.S, hs.D, hs.M]
  exact c_inchesT h hC (by omega) hX.1 hX.2.1 (by omega) (fun μ' ho => hq μ' ho)
theorem c_sinks (h : cIts z μ a C X1) (hs : cSt μ s X b) (hC : wfC C) (hX : wfX C X mb) (hb : b ≤ 999) (hm : mb ≤ 100000) {Q : Int32 → zM → Prop} (hq : ∀ μ', zOff (Ss a s) μ μ' → cIts z μ' a C X1 → cSt μ' s (xsk C b X) b → Q (nI (xD (xsk C b X)) - nI (xD X)) μ') : pX2_sinks z s μ Q := by
  refine ⟨hs.ty, c_inches h hs hC hX hb hm (fun μ1 ho => ?_)⟩
  have hi := inch_le (C := C) (b + wt C X 0) (xS X) (xD X) (xM X)
  have hD := hX.2.1
  have hd := h.dj hs.ty
  have hs1 : cSt μ1 s X b := hs.off ho (fun k q => by unfold Sw at q; omega) (fun i k h1 h2 q => by unfold Sw at q; omega)
  have e1 : (if nI (xD X) + nI (inch C (b + wt C X 0) (xS X) (xD X) (xM X)) < nI 99999 then nI (xD X) + nI (inch C (b + wt C X 0) (xS X) (xD X) (xM X)) else nI 99999) = nI (xD (xsk C b X)) := by
    show _ = nI (min (xD X + inch C (b + wt C X 0) (xS X) (xD X) (xM X)) 99999)
    rw [nI_add]
    by_cases c : xD X + inch C (b + wt C X 0) (xS X) (xD X) (xM X) < 99999
    · rw [if_pos (nI_lt c (by omega)), Nat.min_eq_left (by omega)]
    · rw [if_neg (nI_nlt (by omega) (by omega)), Nat.min_eq_right (by omega)]
  unfold zpI
  rw [hs.D, e1]
  have o1 : zOff (Ss a s) μ1 (zsI μ1 s 4 (nI (xD (xsk C b X)))) := zOff.sI (Or.inr ⟨rfl, Or.inl rfl⟩)
  have o2 : zOff (Ss a s) (zsI μ1 s 4 (nI (xD (xsk C b X)))) (zsI (zsI μ1 s 4 (nI (xD (xsk C b X)))) s 5 (zI (zsI μ1 s 4 (nI (xD (xsk C b X)))) s 5 + nI 1)) := zOff.sI (Or.inr ⟨rfl, Or.inr rfl⟩)
  have oo := ((ho.mono (fun x k q => Or.inl q)).tr o1).tr o2
  have fin := hq _ oo (h.off oo (h.avs hs.ty)) ⟨hs1.1, ?_, ?_, ?_, ?_, ?_, ?_, ?_⟩
  · simp only [zI_sI] at fin ⊢
    simpa using fin
  · simp only [zI_sI]
    show _ = nI (xS X)
    simpa using hs1.S
  · simp only [zI_sI]
    simp
  · simp only [zI_sI]
    simp [hs1.M, nI_add]
    rfl
  · simp only [zI_sI]
    simpa using hs1.B
  · intro t ht
    simp only [zI_sI]
    show _ = eO (xO X t)
    simpa using hs1.O ht
  · intro t ht
    simp only [zI_sI]
    show _ = nI (xG X t)
    simpa using hs1.G ht
  · intro t ht
    simp only [zI_sI]
    show _ = nI (xW X t)
    simpa using hs1.W ht
theorem c_goesOn (h : cIts z μ a C X1) (hs : cSt μ s X b) (hC : wfC C) (hX : wfX C X mb) (hb : b ≤ 999) {n : Nat} (hn : n < 1000) (hm : mb + n ≤ 100000) {Q : Int32 → zM → Prop} (hq : ∀ μ', zOff (Ss a s) μ μ' → cIts z μ' a C X1 → cSt μ' s (xgo C b n X) b → Q (nI (xD (xgo C b n X)) - nI (xD X)) μ') : pX2_goesOn z s (nI n) μ Q := by
  refine ⟨hs.ty, ?_⟩
  refine zupS (W := fun f i ν => pX2_goesOn_7 z s (nI n) Q f (zI μ s 4) (nI i) ν) (fun i ν => zOff (Ss a s) μ ν ∧ cIts z ν a C X1 ∧ cSt ν s (xgo C b i X) b) n (fun f ν hν => ?_) (fun f i ν hi hν ih => ?_) 0 μ (Nat.zero_le _) ⟨zOff.rf, h, hs⟩
  · unfold pX2_goesOn_7
    rw [if_pos (nI_le (Nat.le_refl _) (by omega)), hν.2.2.D, hs.D]
    exact hq ν hν.1 hν.2.1 hν.2.2
  · unfold pX2_goesOn_7
    rw [if_neg (nI_ge (by omega) (by omega))]
    refine c_sinks hν.2.1 hν.2.2 hC (hX.go i) hb (by omega) (fun μ' ho h1 h2 => ?_)
    rw [nI_add]
    exact ih μ' ⟨hν.1.tr ho, h1, h2⟩
theorem c_who (h : cIts z μ a C X1) (hs : cSt μ s X b) (hC : wfC C) (hX : wfX C X mb) {k : Nat} (hk : k < 2 ^ 31) {Q : Int32 → zM → Prop} (hq : Q (eO (who C X k)) μ) : pX2_who z s (nI k) μ Q := by
  have hT := hC.1
  refine ⟨hs.ty, ?_⟩
  have key : ∀ d i, i + d = kT C → Q (eO (whoN C X k d)) μ → ∃ n, pX2_who_2 z s (nI k) Q n (nI i) μ := by
    intro d
    induction d with
    | zero =>
      intro i hi hq
      refine ⟨1, a, h.2.1, h.2.2.1, ?_⟩
      rw [h.2.2.T, if_pos (nI_le (by omega) (by omega)), ← eO_0]
      exact hq
    | succ d ih =>
      intro i hi hq
      have hi6 : i < 6 := by omega
      unfold whoN at hq
      rw [show kT C - (d + 1) = i by omega] at hq
      have go : ∀ n, (if eO (xO X i) = nI k then Q (nI i) μ else pX2_who_2 z s (nI k) Q n (nI i + nI 1) μ) → pX2_who_2 z s (nI k) Q (n + 1) (nI i) μ := by
        intro n hn
        refine ⟨a, h.2.1, h.2.2.1, ?_⟩
        rw [h.2.2.T, if_neg (nI_ge (by omega) (by omega))]
        refine ⟨vp_in_nI hi6 (by decide), ?_⟩
        rw [nI_clamp (by omega), hs.O hi6]
        exact hn
      by_cases e : xO X i = k + 1
      · rw [if_pos e, eO_s] at hq
        refine ⟨1, go 0 ?_⟩
        rw [if_pos ((eO_nI (by have := hX.O hi6; omega) hk).mpr e)]
        exact hq
      · rw [if_neg e] at hq
        obtain ⟨n, hn⟩ := ih (i + 1) (by omega) hq
        refine ⟨n + 1, go n ?_⟩
        rw [if_neg (fun q => e ((eO_nI (by have := hX.O hi6; omega) hk).mp q)), nI_add]
        exact hn
  exact key (kT C) 0 (by omega) hq
def awayN (C : zC) (X : zX) : Nat := sumN (fun t => if xO X t = 0 then 1 else 0) (kT C)
theorem c_away (h : cIts z μ a C X1) (hs : cSt μ s X b) (hC : wfC C) (hX : wfX C X mb) {Q : Int32 → zM → Prop} (hq : Q (nI (awayN C X)) μ) : pX2_away z s μ Q := by
  have hT := hC.1
  refine ⟨hs.ty, ?_⟩
  refine zup (W := fun n i => pX2_away_4 z s Q n (nI (sumN (fun t => if xO X t = 0 then 1 else 0) i)) (nI i) μ) (kT C) (fun n => ?_) (fun n i hi hn => ?_) 0 (Nat.zero_le _)
  · refine ⟨a, h.2.1, h.2.2.1, ?_⟩
    rw [h.2.2.T, if_pos (nI_le (by omega) (by omega))]
    exact hq
  · refine ⟨a, h.2.1, h.2.2.1, ?_⟩
    have hi6 : i < 6 := by omega
    have ho8 := hX.O hi6
    rw [h.2.2.T, if_neg (nI_ge (by omega) (by omega))]
    refine ⟨vp_in_nI hi6 (by decide), ?_⟩
    rw [nI_clamp (by omega), hs.O hi6]
    rw [sumN] at hn
    by_cases c1 : xO X i = 0
    · rw [if_pos ((eO_m1 (by omega)).mpr c1), nI_add, nI_add]
      rw [if_pos c1] at hn
      exact hn
    · rw [if_neg (fun q => c1 ((eO_m1 (by omega)).mp q)), nI_add, nI_add]
      rw [if_neg c1] at hn
      exact hn
theorem c_door (hs : cSt μ s X b) (hX : wfX C X mb) {Q : Int32 → zM → Prop} (hq : Q (if bur (xS X) (xD X) < xS X then nI (bur (xS X) (xD X)) else (-1 : Int32)) μ) : pX2_door z s μ Q := by
  have h1 := hX.1
  have hb : bur (xS X) (xD X) ≤ xS X := Nat.min_le_left _ _
  refine ⟨hs.ty, c_buried hs hX ?_⟩
  rw [hs.S]
  by_cases c : bur (xS X) (xD X) < xS X
  · rw [if_neg (nI_ge c (by omega))]
    rw [if_pos c] at hq
    exact c_buried hs hX hq
  · rw [if_pos (nI_le (by omega) (by omega))]
    rw [if_neg c] at hq
    exact hq
theorem c_pays (h : cIts z μ a C X1) (hs : cSt μ s X b) (hC : wfC C) (hX : wfX C X mb) (hm : mb ≤ 100000) {k : Nat} (hk : k < 1000) {Q : Int32 → zM → Prop} (hq : ∀ μ', zOff (Sw a) μ μ' → Q (payV C k (xD X) (xM X)) μ') : pX2_pays z s (nI k) μ Q := by
  have h3 := hX.2.2.1
  refine ⟨hs.ty, a, h.2.1, ?_⟩
  rw [hs.D, hs.M]
  exact c_paysT h hC hk hX.2.1 (by omega) hq
theorem worV_eq (C : zC) (t go o k su mo : Nat) : worV C t go o k su mo = worG C (kW C t) go (if o = k + 1 then 1 else 0) k su mo := rfl
theorem cTow.Wa {μ : zM} {a : Nat} {C : zC} {X1 : zX} (h : cTow μ a C X1) {t : Nat} (ht : t < 6) : zI μ (a + 3) t = nI (kW C t) := h.2.2.2.2.2.2.2.2.2.2.2.1 t ht
theorem c_worth (h : cIts z μ a C X1) (hs : cSt μ s X b) (hC : wfC C) (hX : wfX C X mb) (hm : mb ≤ 100000) {t k : Nat} (ht : t < 6) (hk : k < 1000) {Q : Int32 → zM → Prop} (hq : ∀ μ', zOff (Sw a) μ μ' → Q (worV C t (xG X t) (xO X t) k (xD X) (xM X)) μ') : pX2_worth z s (nI t) (nI k) μ Q := by
  have h3 := hX.2.2.1
  have ho := hX.O ht
  have hi : vp_in (nI t) 6 := vp_in_nI ht (by decide)
  refine ⟨hs.ty, a, h.2.1, a, h.2.1, h.2.2.1, hi, hi, hi, ?_⟩
  rw [nI_clamp (by omega), hs.O ht, hs.G ht, h.2.2.Wa ht]
  unfold pX2_worth_40
  rw [hs.D, hs.M]
  rw [worV_eq] at hq
  by_cases c : xO X t = k + 1
  · rw [if_pos ((eO_nI (by omega) (by omega)).mpr c)]
    rw [if_pos c] at hq
    exact c_worthT h hC (Or.inr rfl) hk hX.2.1 (by omega) hq
  · rw [if_neg (fun q => c ((eO_nI (by omega) (by omega)).mp q))]
    rw [if_neg c] at hq
    exact c_worthT h hC (Or.inl rfl) hk hX.2.1 (by omega) hq
end CD
