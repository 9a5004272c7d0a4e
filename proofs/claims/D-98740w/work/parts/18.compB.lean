/-! the component: towers and states -/
def cLaw (μ : zM) (r : Option Nat) (l : Nat) (w : Option (List Nat)) : Prop := match w with
  | none => r = none
  | some cs => ∃ b, r = some b ∧ sumT (wmap l) 460 μ b cs
/-- a tower told: its constants C, its first state X1 -/
def cTow (μ : zM) (a : Nat) (C : zC) (X1 : zX) : Prop := zty μ a = some (.inl 1) ∧ zI μ a 5 = nI (xS X1) ∧ zI μ a 6 = nI (kT C) ∧ zI μ a 7 = nI (xD X1) ∧ zI μ a 8 = nI (xM X1) ∧ zI μ a 9 = nI (kB C) ∧ zI μ a 10 = nI (kC C) ∧ zI μ a 11 = nI (kV C) ∧ zI μ a 12 = nI (kL C) ∧ (∀ k, k < 8 → zI μ (a + 1) k = nI (xW X1 k)) ∧ (∀ t, t < 6 → zI μ (a + 2) t = nI (xG X1 t)) ∧ (∀ t, t < 6 → zI μ (a + 3) t = nI (kW C t)) ∧ (∀ t, t < 6 → zI μ (a + 4) t = eO (xO X1 t)) ∧ ∀ l, l < 3 → cLaw μ (zR μ a (13 + l)) l (kLaw C l)
/-- a state object: how things stand, some weight besides -/
def cSt (μ : zM) (s : Nat) (X : zX) (b : Nat) : Prop := zty μ s = some (.inl 2) ∧ zI μ s 3 = nI (xS X) ∧ zI μ s 4 = nI (xD X) ∧ zI μ s 5 = nI (xM X) ∧ zI μ s 6 = nI b ∧ (∀ t, t < 6 → zI μ (s + 1) t = eO (xO X t)) ∧ (∀ t, t < 6 → zI μ (s + 2) t = nI (xG X t)) ∧ ∀ k, k < 8 → zI μ (s + 3) k = nI (xW X k)
/-- the tower that is told now -/
def cIts (z : Nat) (μ : zM) (a : Nat) (C : zC) (X1 : zX) : Prop := cSh z (zR μ) (zty μ) ∧ zR μ z 0 = some a ∧ cTow μ a C X1
theorem ne_ty {μ : zM} {x y : Nat} {t u : zT} (h1 : zty μ x = some t) (h2 : zty μ y = some u) (h : t ≠ u) : x ≠ y := fun e => by
  rw [e, h2] at h1
  exact h (Option.some.inj h1).symm
/-- a set of places that no tower's own and no sum's are of -/
def tAv (S : Nat → Nat → Prop) (μ : zM) (a : Nat) : Prop := (∀ k, ¬ S a k) ∧ (∀ i k, 1 ≤ i → i ≤ 4 → ¬ S (a + i) k) ∧ ∀ x, isSum (zty μ x) → ∀ k, ¬ S x k
theorem cLaw.off {S : Nat → Nat → Prop} {μ μ' : zM} {r : Option Nat} {l : Nat} {w : Option (List Nat)} (h : cLaw μ r l w) (ho : zOff S μ μ') (hs : ∀ x, isSum (zty μ x) → ∀ k, ¬ S x k) : cLaw μ' r l w := by
  unfold cLaw at *
  cases w with
  | none => exact h
  | some cs =>
    obtain ⟨b, h1, h2⟩ := h
    exact ⟨b, h1, sumT.off (fun x hx => ⟨ho.1 x, fun k => ho.I (hs x hx k), ho.2.1 x⟩) _ _ _ h2⟩
theorem cTow.off {S : Nat → Nat → Prop} {μ μ' : zM} {a : Nat} {C : zC} {X1 : zX} (h : cTow μ a C X1) (ho : zOff S μ μ') (hs : tAv S μ a) : cTow μ' a C X1 := by
  obtain ⟨s0, s1, s2⟩ := hs
  have e0 : ∀ k, zI μ' a k = zI μ a k := fun k => ho.I (s0 k)
  have e1 : ∀ i k, 1 ≤ i → i ≤ 4 → zI μ' (a + i) k = zI μ (a + i) k := fun i k h1 h2 => ho.I (s1 i k h1 h2)
  obtain ⟨h0, h1, h2, h3, h4, h5, h6, h7, h8, h9, h10, h11, h12, h13⟩ := h
  refine ⟨(ho.1 a).trans h0, (e0 5).trans h1, (e0 6).trans h2, (e0 7).trans h3, (e0 8).trans h4, (e0 9).trans h5, (e0 10).trans h6, (e0 11).trans h7, (e0 12).trans h8, fun k hk => (e1 1 k (by omega) (by omega)).trans (h9 k hk), fun k hk => (e1 2 k (by omega) (by omega)).trans (h10 k hk), fun k hk => (e1 3 k (by omega) (by omega)).trans (h11 k hk), fun k hk => (e1 4 k (by omega) (by omega)).trans (h12 k hk), fun l hl => ?_⟩
  rw [ho.2.1]
  exact (h13 l hl).off ho s2
theorem cSt.off {S : Nat → Nat → Prop} {μ μ' : zM} {s : Nat} {X : zX} {b : Nat} (h : cSt μ s X b) (ho : zOff S μ μ') (h0 : ∀ k, ¬ S s k) (h1 : ∀ i k, 1 ≤ i → i ≤ 3 → ¬ S (s + i) k) : cSt μ' s X b := by
  have e0 : ∀ k, zI μ' s k = zI μ s k := fun k => ho.I (h0 k)
  have e1 : ∀ i k, 1 ≤ i → i ≤ 3 → zI μ' (s + i) k = zI μ (s + i) k := fun i k q1 q2 => ho.I (h1 i k q1 q2)
  obtain ⟨g0, g1, g2, g3, g4, g5, g6, g7⟩ := h
  exact ⟨(ho.1 s).trans g0, (e0 3).trans g1, (e0 4).trans g2, (e0 5).trans g3, (e0 6).trans g4, fun k hk => (e1 1 k (by omega) (by omega)).trans (g5 k hk), fun k hk => (e1 2 k (by omega) (by omega)).trans (g6 k hk), fun k hk => (e1 3 k (by omega) (by omega)).trans (g7 k hk)⟩
theorem cSh_off {S : Nat → Nat → Prop} {z : Nat} {μ μ' : zM} (h : cSh z (zR μ) (zty μ)) (ho : zOff S μ μ') : cSh z (zR μ') (zty μ') := by
  have e1 : zR μ' = zR μ := funext fun b => funext fun k => ho.2.1 b k
  have e2 : zty μ' = zty μ := funext ho.1
  rw [e1, e2]
  exact h
theorem cIts.off {S : Nat → Nat → Prop} {z : Nat} {μ μ' : zM} {a : Nat} {C : zC} {X1 : zX} (h : cIts z μ a C X1) (ho : zOff S μ μ') (hs : tAv S μ a) : cIts z μ' a C X1 := ⟨cSh_off h.1 ho, (ho.2.1 z 0).trans h.2.1, h.2.2.off ho hs⟩
section CB
variable {z : Nat} {μ : zM} {a s : Nat} {C : zC} {X X1 : zX} {b : Nat}
theorem cIts.arr (h : cIts z μ a C X1) (i : Nat) {q : Nat × Nat × zT} (hq : cS1t[i]? = some q) : zty μ (a + q.2.1) = some q.2.2 := (h.1.2.2.1 a h.2.2.1 i q hq).2
theorem cIts.sarr (h : cIts z μ a C X1) (hs : zty μ s = some (.inl 2)) (i : Nat) {q : Nat × Nat × zT} (hq : cS2t[i]? = some q) : zty μ (s + q.2.1) = some q.2.2 := ((h.1.2.2.2.1 s hs).2 i q hq).2
/-- the words of a tower's laws -/
def Sw (a x _ : Nat) : Prop := x = a + 5
theorem cIts.avw (h : cIts z μ a C X1) : tAv (Sw a) μ a := by
  refine ⟨fun k q => by unfold Sw at q; omega, fun i k h1 h2 q => by unfold Sw at q; omega, fun x hx k q => ?_⟩
  unfold Sw at q
  have h5 := h.arr 4 rfl
  dsimp only at h5
  subst q
  rcases hx with hx | hx | hx <;> rw [h5] at hx <;> cases hx
theorem zw {a : Nat} (ν : zM) (k : Nat) (v : Int32) : zOff (Sw a) ν (zsI ν (a + 5) k v) := zOff.sI rfl
theorem cTow.law (h : cTow μ a C X1) {l : Nat} (hl : l < 3) : cLaw μ (zR μ a (13 + l)) l (kLaw C l) := h.2.2.2.2.2.2.2.2.2.2.2.2.2 l hl
theorem mm_eq {x : Int32} : (if nI 0 < (if x < nI 144 then x else nI 144) then (if x < nI 144 then x else nI 144) else nI 0) = nI (clN x) := by
  unfold clN
  have e1 : (nI 144).toInt = 144 := by decide
  have e0 : (0 : Int32).toInt = 0 := by decide
  have e00 : (nI 0).toInt = 0 := by decide
  by_cases c1 : x < 0
  · have c2 : x < nI 144 := by rw [Int32.lt_iff_toInt_lt] at *; omega
    rw [if_pos c1, if_pos c2, if_neg (fun q => by rw [Int32.lt_iff_toInt_lt] at *; omega)]
  · rw [if_neg c1]
    obtain ⟨k, hk, rfl⟩ := nI_of c1
    by_cases c2 : nI 144 < nI k
    · have c3 : ¬ nI k < nI 144 := fun q => by
        rw [Int32.lt_iff_toInt_lt] at c2 q
        omega
      rw [if_pos c2, if_neg c3, if_pos (by decide)]
    · rw [if_neg c2, nI_clamp hk]
      have c3 : k ≤ 144 := by
        rcases Nat.lt_or_ge 144 k with q | q
        · exact absurd (nI_lt q hk) c2
        · exact q
      by_cases c4 : k = 144
      · subst c4
        decide
      · rw [if_pos (nI_lt (by omega) (by decide))]
        by_cases c5 : k = 0
        · subst c5
          decide
        · rw [if_pos (nI_lt (by omega) hk)]
theorem c_inchesT (h : cIts z μ a C X1) (hC : wfC C) {w st su mo : Nat} (hw : w < 1000000) (hst : st ≤ 8) (hsu : su ≤ 99999) (hmo : mo < 1000000) {Q : Int32 → zM → Prop} (hq : ∀ μ', zOff (Sw a) μ μ' → Q (nI (inch C w st su mo)) μ') : pX1_inches z a (nI w) (nI st) (nI su) (nI mo) (nI (bur st su)) μ Q := by
  have hL := h.2.2.law (l := 0) (by decide)
  have h5 := h.arr 4 rfl
  dsimp only at h5
  refine ⟨h.2.2.1, ?_⟩
  cases hk : kLaw C 0 with
  | none =>
    rw [hk] at hL
    have h13 : zR μ a 13 = none := hL
    rw [if_pos h13]
    have hq := hq μ zOff.rf
    unfold inch at hq
    rw [hk] at hq
    dsimp only at hq
    unfold pX1_inches_66
    rw [pk_div (by omega) (by decide) (by decide), mm_eq]
    have e : clN (nI (w / 100)) = min (w / 100) 144 := by
      unfold clN
      rw [if_neg (nI_pos (by omega))]
      by_cases c : 144 < w / 100
      · rw [if_pos (nI_lt c (by omega)), Nat.min_eq_right (by omega)]
      · rw [if_neg (nI_nlt (by omega) (by decide)), nI_clamp (by omega), Nat.min_eq_left (by omega)]
    rw [e]
    exact hq
  | some cs =>
    rw [hk] at hL
    obtain ⟨r, h13, hT⟩ := hL
    have hok := hC.2.2.2.2.2.2 0 cs (by decide) hk
    rw [if_neg (fun e => by rw [show (13 : Nat) = 13 + 0 from rfl, h13] at e; cases e), pk_rem (by omega) (by decide) (by decide)]
    unfold zpI
    refine ⟨vp_in_nI (by decide) (by decide), vp_in_nI (by decide) (by decide), vp_in_nI (by decide) (by decide), vp_in_nI (by decide) (by decide), vp_in_nI (by decide) (by decide), r, ?_, ?_⟩
    · exact h13
    · have ho : zOff (Sw a) μ (zsI (zsI (zsI (zsI (zsI μ (a + 5) (nI 0).toNatClampNeg (nI w)) (a + 5) (nI 1).toNatClampNeg (nI st)) (a + 5) (nI 2).toNatClampNeg (nI su)) (a + 5) (nI 3).toNatClampNeg (nI (mo % 12))) (a + 5) (nI 4).toNatClampNeg (nI (bur st su))) := ((((zw _ _ _).tr (zw _ _ _)).tr (zw _ _ _)).tr (zw _ _ _)).tr (zw _ _ _)
      refine c_value (l := 0) (W := wSink w st su mo) 460 r cs _ (sumT.off (fun x hx => ⟨ho.1 x, fun k => ho.I (h.avw.2.2 x hx k), ho.2.1 x⟩) _ _ _ hT) h5 (fun w1 h1 h2 => ?_) _ (fun v hv => ?_)
      · have hw5 := hok.w h2 (by omega) (by have := wmap_lt (l := 0) h1; omega)
        rw [Nat.add_sub_cancel_left] at hw5
        rcases (show w1 = 0 ∨ w1 = 1 ∨ w1 = 2 ∨ w1 = 3 ∨ w1 = 4 ∨ w1 = 5 by omega) with rfl | rfl | rfl | rfl | rfl | rfl
        · simp [zI_sI, nI_clamp, wmap, wSink]
        · simp [zI_sI, nI_clamp, wmap, wSink]
        · simp [zI_sI, nI_clamp, wmap, wSink]
        · simp [zI_sI, nI_clamp, wmap, wSink]
        · simp [zI_sI, nI_clamp, wmap, wSink]
        · simp [lawW, wmap] at hw5
      · unfold pX1_inches_66
        rw [mm_eq]
        have hq := hq _ ho
        unfold inch at hq
        rw [hk] at hq
        dsimp only at hq
        rw [pushes_ev hv] at hq
        exact hq
end CB
