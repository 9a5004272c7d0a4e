/-! what component and twin hold at rest -/
abbrev zTy : Type := Nat → Option (Nat × Nat × (Nat → Int64))
abbrev zIm : Type := Nat → Option ((zC × zX) × zX)
def cImg (z : Nat) (μ : zM) (im : zIm) : Prop := ∀ i, i < 2 → (im i = none → zR μ (z + 75) i = none) ∧ ∀ p, im i = some p → ∃ a', zR μ (z + 75) i = some a' ∧ zfar z a' ∧ cTow μ a' p.1.1 p.1.2 ∧ cSt μ (z + 77 + 4 * i) p.2 0
def cTra (z : Nat) (μ : zM) (tr : zTy) : Prop := ∀ t, t < 4 → (tr t = none → zR μ (z + 71 + t) 0 = none) ∧ ∀ p, tr t = some p → ∃ b, zR μ (z + 71 + t) 0 = some b ∧ zty μ b = some (.inr (kdO p.1, p.2.1)) ∧ z + 85 ≤ b ∧ (∀ a', zty μ a' = some (.inl 1) → b < a' ∨ a' + 5 < b) ∧ (∀ u, u < 4 → u ≠ t → zR μ (z + 71 + u) 0 ≠ some b) ∧ ∀ k, k < p.2.1 → tval μ b p.1 k = p.2.2 k
def cTap (z : Nat) (μ : zM) (tn : Nat) (tp : Nat → Nat) : Prop := zI μ z 4 = nI tn ∧ ∀ k, k < tn → zI μ (z + 15) k &&& 255 = nI (tp k)
def cR (z a : Nat) (μ : zM) (C : zC) (X1 X : zX) (dn : Nat) (dX : Nat → zX) (im : zIm) (tr : zTy) (tn : Nat) (tp : Nat → Nat) (f fp : Int32) : Prop := cIts z μ a C X1 ∧ zfar z a ∧ cSt μ (z + 7) X 0 ∧ cFix z μ ∧ cUnd z μ dn dX ∧ cImg z μ im ∧ cTra z μ tr ∧ cTap z μ tn tp ∧ zI μ z 5 = f ∧ zI μ z 6 = fp ∧ (∀ k, k < 100000 → zI μ (z + 67) k = 0) ∧ ∀ x t, zty μ x = some t → x < znx μ
def zWf (mb : Nat) (C : zC) (X1 X : zX) (dn : Nat) (dX : Nat → zX) (im : zIm) (tr : zTy) (tn : Nat) (tp : Nat → Nat) : Prop := wfC C ∧ wfX C X1 1000 ∧ wfX C X mb ∧ dn ≤ 10 ∧ (∀ j, j < dn → wfX C (dX j) mb) ∧ (∀ i p, im i = some p → wfC p.1.1 ∧ wfX p.1.1 p.1.2 1000 ∧ wfX p.1.1 p.2 mb) ∧ (∀ t p, tr t = some p → p.1 ≤ 3 ∧ p.2.1 ≤ 40) ∧ tn ≤ 900 ∧ ∀ k, tp k < 256
def tImg (th : Nat) (μ : zM) (im : zIm) : Prop := ∀ i, i < 2 → (im i = none → zI μ (th + 2) i = 0) ∧ ∀ p, im i = some p → zI μ (th + 2) i = nI 1 ∧ tCo μ (th + 1) (1198 * (i + 1)) p.1.1 ∧ tSt μ (th + 1) (1198 * (i + 1) + 43) p.1.2 ∧ tSt μ (th + 1) (1198 * (i + 1) + 20) p.2
def tTra (th : Nat) (μ : zM) (tr : zTy) : Prop := ∀ t, t < 4 → (tr t = none → zI μ (th + 16) t = (-1 : Int32)) ∧ ∀ p, tr t = some p → zI μ (th + 16) t = nI p.1 ∧ zI μ (th + 17) t = nI p.2.1 ∧ ∀ k, k < p.2.1 → zJ μ (th + 18) (40 * t + k) = p.2.2 k
def tTap (th : Nat) (μ : zM) (tn : Nat) (tp : Nat → Nat) : Prop := zI μ th 5 = nI tn ∧ ∀ k, k < tn → zI μ (th + 3) k = nI (tp k)
def tR (th : Nat) (μ : zM) (C : zC) (X1 X : zX) (dn : Nat) (dX : Nat → zX) (im : zIm) (tr : zTy) (tn : Nat) (tp : Nat → Nat) (f fp : Int32) : Prop := tM th μ C X ∧ tSt μ (th + 1) 43 X1 ∧ tDe th μ dn dX ∧ tImg th μ im ∧ tTra th μ tr ∧ tTap th μ tn tp ∧ zI μ th 13 = f ∧ zI μ th 14 = fp
/-- what a question to the twin may change -/
def ST (th x k : Nat) : Prop := (x = th ∧ k ≠ 5 ∧ k ≠ 13 ∧ k ≠ 14) ∨ (th + 4 ≤ x ∧ x ≤ th + 15)
section CI
variable {z th a : Nat} {μ μ' : zM} {C : zC} {X1 X : zX} {dn : Nat} {dX : Nat → zX} {im : zIm} {tr : zTy} {tn : Nat} {tp : Nat → Nat} {f fp : Int32} {mb : Nat} {S : Nat → Nat → Prop}
theorem cUnd.off (h : cUnd z μ dn dX) (ho : zOff S μ μ') (h8 : ¬ S z 8) (h9 : ¬ S z 9) (hs : ∀ x k, z + 17 ≤ x → x ≤ z + 56 → ¬ S x k) : cUnd z μ' dn dX := by
  obtain ⟨u1, u2, u, u3, u4, u5⟩ := h
  refine ⟨u1, (ho.I h8).trans u2, u, u3, (ho.I h9).trans u4, fun j hj => ?_⟩
  have hm : (u + 10 - dn + j) % 10 < 10 := Nat.mod_lt _ (by decide)
  exact (u5 j hj).off ho (fun k => hs _ k (by omega) (by omega)) (fun i k h1 h2 => hs _ k (by omega) (by omega))
theorem cImg.off (h : cImg z μ im) (ho : zOff S μ μ') (hs : ∀ x k, z + 77 ≤ x → x ≤ z + 84 → ¬ S x k) (ha : ∀ a', zty μ a' = some (.inl 1) → zfar z a' → tAv S μ a') : cImg z μ' im := by
  intro i hi
  refine ⟨fun hn => (ho.2.1 _ _).trans ((h i hi).1 hn), fun p hp => ?_⟩
  obtain ⟨a', h1, h2, h3, h4⟩ := (h i hi).2 p hp
  exact ⟨a', (ho.2.1 _ _).trans h1, h2, h3.off ho (ha a' h3.1 h2), h4.off ho (fun k => hs _ k (by omega) (by omega)) (fun j k h1 h2 => hs _ k (by omega) (by omega))⟩
theorem cTra.off (h : cTra z μ tr) (ho : zOff S μ μ') (hs : ∀ b k, z + 85 ≤ b → (∀ a', zty μ a' = some (.inl 1) → b < a' ∨ a' + 5 < b) → (∃ t, t < 4 ∧ zR μ (z + 71 + t) 0 = some b) → ¬ S b k) : cTra z μ' tr := by
  intro t ht
  refine ⟨fun hn => (ho.2.1 _ _).trans ((h t ht).1 hn), fun p hp => ?_⟩
  obtain ⟨b, h1, h2, h3, h4, h5, h6⟩ := (h t ht).2 p hp
  refine ⟨b, (ho.2.1 _ _).trans h1, (ho.1 _).trans h2, h3, fun a' ha' => h4 a' ((ho.1 a').symm.trans ha'), fun u hu hut => by rw [ho.2.1]; exact h5 u hu hut, fun k hk => ?_⟩
  rw [← h6 k hk]
  unfold tval
  rw [ho.I (hs b k h3 h4 ⟨t, ht, h1⟩), ho.J (hs b k h3 h4 ⟨t, ht, h1⟩)]
theorem cTap.off (h : cTap z μ tn tp) (ho : zOff S μ μ') (h4 : ¬ S z 4) (hs : ∀ k, ¬ S (z + 15) k) : cTap z μ' tn tp :=
  ⟨(ho.I h4).trans h.1, fun k hk => by rw [ho.I (hs k)]; exact h.2 k hk⟩
theorem zin.off (h : ∀ x t, zty μ x = some t → x < znx μ) (ho : zOff S μ μ') : ∀ x t, zty μ' x = some t → x < znx μ' := fun x t hx => by
  rw [ho.1] at hx
  rw [ho.2.2.1]
  exact h x t hx
theorem cR.off (h : cR z a μ C X1 X dn dX im tr tn tp f fp) (ho : zOff (SC z a) μ μ') : cR z a μ' C X1 X dn dX im tr tn tp f fp := by
  obtain ⟨h1, h2, h3, h4, h5, h6, h7, h8, h9, h10, h11, h12⟩ := h
  have h2' := h2
  unfold zfar at h2'
  refine ⟨h1.offC h2 ho, h2, h3.offC h1 h2 (Or.inl rfl) ho, h4.off ho, h5.off ho ?_ ?_ ?_, h6.off ho ?_ (fun a' ha' f' => SC.av h1 ha' h2 f'), h7.off ho (fun b k hb hb2 _ => ?_), h8.off ho ?_ ?_, (ho.I ?_).trans h9, (ho.I ?_).trans h10, fun k hk => (ho.I ?_).trans (h11 k hk), zin.off h12 ho⟩
  · unfold SC; omega
  · unfold SC; omega
  · intro x k q1 q2; unfold SC; omega
  · intro x k q1 q2; unfold SC; omega
  · have := hb2 a h1.2.2.1
    unfold SC; omega
  · unfold SC; omega
  · intro k; unfold SC; omega
  · unfold SC; omega
  · unfold SC; omega
  · unfold SC; omega
theorem tImg.off (h : tImg th μ im) (ho : zOff S μ μ') (h2 : ∀ k, ¬ S (th + 2) k) (h1 : ∀ k, 1198 ≤ k → ¬ S (th + 1) k) : tImg th μ' im := by
  intro i hi
  refine ⟨fun hn => (ho.I (h2 i)).trans ((h i hi).1 hn), fun p hp => ?_⟩
  obtain ⟨g1, g2, g3, g4⟩ := (h i hi).2 p hp
  exact ⟨(ho.I (h2 i)).trans g1, g2.off ho (fun k _ => h1 _ (by omega)), g3.off ho (fun k _ => h1 _ (by omega)), g4.off ho (fun k _ => h1 _ (by omega))⟩
theorem tTra.off (h : tTra th μ tr) (ho : zOff S μ μ') (h1 : ∀ k, ¬ S (th + 16) k) (h2 : ∀ k, ¬ S (th + 17) k) (h3 : ∀ k, ¬ S (th + 18) k) : tTra th μ' tr := by
  intro t ht
  refine ⟨fun hn => (ho.I (h1 t)).trans ((h t ht).1 hn), fun p hp => ?_⟩
  obtain ⟨g1, g2, g3⟩ := (h t ht).2 p hp
  exact ⟨(ho.I (h1 t)).trans g1, (ho.I (h2 t)).trans g2, fun k hk => (ho.J (h3 _)).trans (g3 k hk)⟩
theorem tTap.off (h : tTap th μ tn tp) (ho : zOff S μ μ') (h5 : ¬ S th 5) (hs : ∀ k, ¬ S (th + 3) k) : tTap th μ' tn tp :=
  ⟨(ho.I h5).trans h.1, fun k hk => (ho.I (hs k)).trans (h.2 k hk)⟩
theorem tDe.off (h : tDe th μ dn dX) (ho : zOff S μ μ') (h9 : dn ≤ 10) (hs : ∀ k, 66 ≤ k → k < 297 → ¬ S (th + 1) k) : tDe th μ' dn dX :=
  ⟨(ho.I (hs 66 (by decide) (by decide))).trans h.1, fun j hj => (h.2 j hj).off ho (fun k hk => hs _ (by omega) (by omega))⟩
theorem tR.off (h : tR th μ C X1 X dn dX im tr tn tp f fp) (h9 : dn ≤ 10) (ho : zOff (ST th) μ μ') : tR th μ' C X1 X dn dX im tr tn tp f fp := by
  obtain ⟨h1, h2, h3, h4, h5, h6, h7, h8⟩ := h
  refine ⟨h1.off ho ?_, h2.off ho ?_, h3.off ho h9 ?_, h4.off ho ?_ ?_, h5.off ho ?_ ?_ ?_, h6.off ho ?_ ?_, (ho.I ?_).trans h7, (ho.I ?_).trans h8⟩
  all_goals first | (intro k; unfold ST; omega) | (intro k _; unfold ST; omega) | (intro k _ _; unfold ST; omega) | (unfold ST; omega)
end CI
