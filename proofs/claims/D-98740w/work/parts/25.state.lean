/-! the component: a state copied, begun, built on; deeds kept -/
def zfar (z a : Nat) : Prop := a = z + 1 ∨ z + 85 ≤ a
def sfar (z s : Nat) : Prop := s = z + 7 ∨ (z + 14 < s ∧ s + 3 < z + 57) ∨ (z + 76 < s ∧ s + 3 < z + 85)
section CG
variable {z : Nat} {μ : zM} {a s t : Nat} {C : zC} {X X1 : zX} {b mb dn : Nat} {dX : Nat → zX}
theorem SC.av (h : cIts z μ a C X1) {a' : Nat} (ha' : zty μ a' = some (.inl 1)) (f : zfar z a) (f' : zfar z a') : tAv (SC z a) μ a' := by
  have hd := h.dj0 h.2.2.1 ha'
  unfold zfar at f f'
  refine ⟨fun k q => ?_, fun i k h1 h2 q => ?_, fun x hx k q => ?_⟩
  · unfold SC at q; omega
  · unfold SC at q; omega
  · rcases q with q | ⟨q1, q2⟩ | ⟨q1, q2, _⟩ | ⟨q, _⟩
    · exact h.avw.2.2 x hx k q
    · have t0 := h.tho
      have t1 := h.sarr t0 0 rfl
      have t2 := h.sarr t0 1 rfl
      have t3 := h.sarr t0 2 rfl
      dsimp only at t1 t2 t3
      rcases (show x = z + 11 ∨ x = z + 11 + 1 ∨ x = z + 11 + 2 ∨ x = z + 11 + 3 by omega) with e | e | e | e <;> subst e <;> rcases hx with hx | hx | hx
      all_goals first | (rw [t0] at hx; cases hx; done) | (rw [t1] at hx; cases hx; done) | (rw [t2] at hx; cases hx; done) | (rw [t3] at hx; cases hx; done)
    · obtain ⟨q, hq⟩ := h.scr q1 q2
      rcases hx with hx | hx | hx <;> rw [hq] at hx <;> cases hx
    · subst q
      have t0 := h.main
      rcases hx with hx | hx | hx <;> rw [t0] at hx <;> cases hx
theorem cIts.offC {μ' : zM} (h : cIts z μ a C X1) (f : zfar z a) (ho : zOff (SC z a) μ μ') : cIts z μ' a C X1 := h.off ho (SC.av h h.2.2.1 f f)
theorem cSt.offC {μ' : zM} (hs : cSt μ s X b) (h : cIts z μ a C X1) (f : zfar z a) (fs : sfar z s) (ho : zOff (SC z a) μ μ') : cSt μ' s X b := by
  have hd := h.dj hs.ty
  unfold zfar at f
  unfold sfar at fs
  exact hs.off ho (fun k q => by unfold SC at q; omega) (fun i k h1 h2 q => by unfold SC at q; omega)
theorem c_be (h : cIts z μ a C X1) (hs : cSt μ t X b) (h2 : zty μ s = some (.inl 2)) (hne : s ≠ t) {Q : Option Nat → zM → Prop} (hq : ∀ μ', zOff (So s) μ μ' → cSt μ' s X b → cSt μ' t X b → Q (some s) μ') : pX2_be z s t μ Q := by
  have hd := h.dj2 h2 hs.ty
  refine ⟨h2, hs.ty, ⟨by decide, by decide, by decide, by decide, by decide⟩, ⟨by decide, by decide, by decide, by decide, by decide⟩, ⟨by decide, by decide, by decide, by decide, by decide⟩, ?_⟩
  unfold zpC zpI
  dsimp only
  have c0 : (nI 0).toNatClampNeg = 0 := by decide
  have c6 : (nI 6).toNatClampNeg = 6 := by decide
  have c8 : (nI 8).toNatClampNeg = 8 := by decide
  rw [c0, c6, c8]
  have oo : zOff (So s) μ (zcp (zcp (zcp μ (t + 1) (s + 1) 0 0 6) (t + 2) (s + 2) 0 0 6) (t + 3) (s + 3) 0 0 8) := ((zOff.cp (fun k _ _ => by unfold So; omega)).tr (zOff.cp (fun k _ _ => by unfold So; omega))).tr (zOff.cp (fun k _ _ => by unfold So; omega))
  have o1 : ∀ (ν : zM) (k : Nat) (v : Int32), zOff (So s) ν (zsI ν s k v) := fun ν k v => zOff.sI (by unfold So; omega)
  have of := (((oo.tr (o1 _ 3 (zI μ t 3))).tr (o1 _ 4 (zI μ t 4))).tr (o1 _ 5 (zI μ t 5))).tr (o1 _ 6 (zI μ t 6))
  have e3 : ∀ (ν : zM) (k : Nat), zOff (So s) μ ν → zI ν t k = zI μ t k := fun ν k ho => ho.I (fun q => by unfold So at q; omega)
  rw [e3 _ 3 oo, e3 _ 4 (oo.tr (o1 _ _ _)), e3 _ 5 ((oo.tr (o1 _ _ _)).tr (o1 _ _ _)), e3 _ 6 (((oo.tr (o1 _ _ _)).tr (o1 _ _ _)).tr (o1 _ _ _))]
  refine hq _ of ⟨h2, ?_, ?_, ?_, ?_, fun j hj => ?_, fun j hj => ?_, fun j hj => ?_⟩ (hs.off of (fun k q => by unfold So at q; omega) (fun i k h1 h2 q => by unfold So at q; omega))
  all_goals simp only [zI_sI, zI_cp]
  · rw [if_neg (by omega), if_neg (by omega), if_neg (by omega), if_pos (by simp)]; exact hs.S
  · rw [if_neg (by omega), if_neg (by omega), if_pos (by simp)]; exact hs.D
  · rw [if_neg (by omega), if_pos (by simp)]; exact hs.M
  · rw [if_pos (by simp)]; exact hs.B
  · rw [if_neg (by omega), if_neg (by omega), if_neg (by omega), if_neg (by omega), if_neg (by omega), if_neg (by omega), if_pos ⟨trivial, by omega, by omega⟩, Nat.zero_add, Nat.sub_zero]; exact hs.O hj
  · rw [if_neg (by omega), if_neg (by omega), if_neg (by omega), if_neg (by omega), if_neg (by omega), if_pos ⟨trivial, by omega, by omega⟩, if_neg (by omega), Nat.zero_add, Nat.sub_zero]; exact hs.G hj
  · rw [if_neg (by omega), if_neg (by omega), if_neg (by omega), if_neg (by omega), if_pos ⟨trivial, by omega, by omega⟩, if_neg (by omega), if_neg (by omega), Nat.zero_add, Nat.sub_zero]; exact hs.W hj
theorem c_builds (h : cIts z μ a C X1) (hs : cSt μ s X b) (hb : zI μ a 9 = nI (kB C)) (h8 : xS X < 8) {Q : zM → Prop} (hq : ∀ μ', zOff (So s) μ μ' → cSt μ' s (xbu C X) b → Q μ') : pX2_builds z s μ Q := by
  refine ⟨hs.ty, a, h.2.1, h.2.2.1, ?_⟩
  rw [hs.S, nI_clamp (by omega), hb]
  refine ⟨vp_in_nI h8 (by decide), ?_⟩
  have o1 : zOff (So s) μ (zsI μ (s + 3) (xS X) (nI (kB C))) := zOff.sI (by unfold So; omega)
  have o2 : ∀ v, zOff (So s) (zsI μ (s + 3) (xS X) (nI (kB C))) (zsI (zsI μ (s + 3) (xS X) (nI (kB C))) s 3 v) := fun v => zOff.sI (by unfold So; omega)
  refine hq _ (o1.tr (o2 _)) ⟨hs.ty, ?_, ?_, ?_, ?_, fun j hj => ?_, fun j hj => ?_, fun j hj => ?_⟩
  all_goals simp only [zI_sI, true_and]
  · rw [if_pos trivial, if_neg (by omega), hs.S, nI_add]; rfl
  · rw [if_neg (by omega), if_neg (by omega)]; exact hs.D
  · rw [if_neg (by omega), if_neg (by omega)]; exact hs.M
  · rw [if_neg (by omega), if_neg (by omega)]; exact hs.B
  · rw [if_neg (by omega), if_neg (by omega)]; exact hs.O hj
  · rw [if_neg (by omega), if_neg (by omega)]; exact hs.G hj
  · show _ = nI (if j = xS X then kB C else xW X j)
    rw [if_neg (by omega)]
    by_cases c : j = xS X
    · rw [if_pos c, if_pos c]
    · rw [if_neg c, if_neg c]; exact hs.W hj
def cFix (z : Nat) (μ : zM) : Prop := (∀ i, i < 10 → zR μ (z + 16) i = some (z + 17 + 4 * i) ∧ zty μ (z + 17 + 4 * i) = some (.inl 2)) ∧ (∀ i, i < 4 → zR μ (z + 70) i = some (z + 71 + i) ∧ zty μ (z + 71 + i) = some (.inl 3)) ∧ ∀ i, i < 2 → zR μ (z + 76) i = some (z + 77 + 4 * i) ∧ zty μ (z + 77 + 4 * i) = some (.inl 2)
theorem cFix.off {S : Nat → Nat → Prop} {μ' : zM} (h : cFix z μ) (ho : zOff S μ μ') : cFix z μ' :=
  ⟨fun i hi => ⟨(ho.2.1 _ _).trans (h.1 i hi).1, (ho.1 _).trans (h.1 i hi).2⟩, fun i hi => ⟨(ho.2.1 _ _).trans (h.2.1 i hi).1, (ho.1 _).trans (h.2.1 i hi).2⟩, fun i hi => ⟨(ho.2.1 _ _).trans (h.2.2 i hi).1, (ho.1 _).trans (h.2.2 i hi).2⟩⟩
/-- deeds kept: the oldest first -/
def cUnd (z : Nat) (μ : zM) (dn : Nat) (dX : Nat → zX) : Prop := dn ≤ 10 ∧ zI μ z 8 = nI dn ∧ ∃ u, u < 10 ∧ zI μ z 9 = nI u ∧ ∀ j, j < dn → cSt μ (z + 17 + 4 * ((u + 10 - dn + j) % 10)) (dX j) 0
def Su (z x k : Nat) : Prop := (x = z ∧ (k = 8 ∨ k = 9)) ∨ (z + 17 ≤ x ∧ x ≤ z + 56)
theorem c_keeps (h : cIts z μ a C X1) (hs : cSt μ (z + 7) X 0) (hf : cFix z μ) (hu : cUnd z μ dn dX) {Q : zM → Prop} (hq : ∀ μ', zOff (Su z) μ μ' → cUnd z μ' (dPu dn) (xPu dn dX X) → Q μ') : pX0_keeps z μ Q := by
  obtain ⟨u1, u2, u, u3, u4, u5⟩ := hu
  refine ⟨by rw [u4]; exact vp_in_nI u3 (by decide), z + 17 + 4 * u, by rw [u4, nI_clamp (by omega)]; exact (hf.1 u u3).1, ?_⟩
  refine c_be h hs (hf.1 u u3).2 (by omega) (fun μ1 ho hs1 _ => ?_)
  have e9 : zI μ1 z 9 = nI u := (ho.I (fun q => by unfold So at q; omega)).trans u4
  have e8 : zI μ1 z 8 = nI dn := (ho.I (fun q => by unfold So at q; omega)).trans u2
  unfold zpI
  dsimp only
  rw [e9, nI_add, pk_rem (by omega) (by decide) (by decide), show zI (zsI μ1 z 9 (nI ((u + 1) % 10))) z 8 = nI dn from (by rw [zI_sI, if_neg (by omega)]; exact e8), nI_add]
  have e : (if nI (dn + 1) < nI 10 then nI (dn + 1) else nI 10) = nI (dPu dn) := by
    unfold dPu
    by_cases c : dn = 10
    · subst c; decide
    · rw [if_neg c]
      by_cases c2 : dn = 9
      · subst c2; decide
      · rw [if_pos (nI_lt (by omega) (by decide))]
  rw [e]
  have hd' : dPu dn = if dn = 10 then 10 else dn + 1 := rfl
  generalize dPu dn = d at *
  have o1 : zOff (Su z) μ1 (zsI μ1 z 9 (nI ((u + 1) % 10))) := zOff.sI (by unfold Su; omega)
  have o2 : zOff (Su z) (zsI μ1 z 9 (nI ((u + 1) % 10))) (zsI (zsI μ1 z 9 (nI ((u + 1) % 10))) z 8 (nI d)) := zOff.sI (by unfold Su; omega)
  have o0 : zOff (Su z) μ μ1 := ho.mono (fun x k q => by unfold So at q; unfold Su; omega)
  have o12 : zOff (fun x _ => x = z) μ1 (zsI (zsI μ1 z 9 (nI ((u + 1) % 10))) z 8 (nI d)) := zOff.tr (b := zsI μ1 z 9 (nI ((u + 1) % 10))) (zOff.sI rfl) (zOff.sI rfl)
  have keep : ∀ m Y, m < 10 → m ≠ u → cSt μ (z + 17 + 4 * m) Y 0 → cSt (zsI (zsI μ1 z 9 (nI ((u + 1) % 10))) z 8 (nI d)) (z + 17 + 4 * m) Y 0 := fun m Y hm hmu hY =>
    (hY.off ho (fun k q => by unfold So at q; omega) (fun i k h1 h2 q => by unfold So at q; omega)).off o12 (fun k q => by omega) (fun i k h1 h2 q => by omega)
  have new : cSt (zsI (zsI μ1 z 9 (nI ((u + 1) % 10))) z 8 (nI d)) (z + 17 + 4 * u) X 0 := hs1.off o12 (fun k q => by omega) (fun i k h1 h2 q => by omega)
  refine hq _ ((o0.tr o1).tr o2) ⟨by rw [hd']; split <;> omega, by rw [zI_sI, if_pos ⟨rfl, rfl⟩], (u + 1) % 10, Nat.mod_lt _ (by decide), by rw [zI_sI, if_neg (by omega), zI_sI, if_pos ⟨rfl, rfl⟩], fun j hj => ?_⟩
  unfold xPu
  by_cases c : dn = 10
  · subst c
    rw [if_pos rfl] at hd' ⊢
    subst hd'
    by_cases c2 : j = 9
    · rw [if_pos c2, show ((u + 1) % 10 + 10 - 10 + j) % 10 = u by omega]
      exact new
    · rw [if_neg c2, show ((u + 1) % 10 + 10 - 10 + j) % 10 = (u + 10 - 10 + (j + 1)) % 10 by omega]
      exact keep _ _ (Nat.mod_lt _ (by decide)) (by omega) (u5 (j + 1) (by omega))
  · rw [if_neg c] at hd' ⊢
    subst hd'
    by_cases c2 : j = dn
    · rw [if_pos c2, show ((u + 1) % 10 + 10 - (dn + 1) + j) % 10 = u by omega]
      exact new
    · rw [if_neg c2, show ((u + 1) % 10 + 10 - (dn + 1) + j) % 10 = (u + 10 - dn + j) % 10 by omega]
      exact keep _ _ (Nat.mod_lt _ (by decide)) (by omega) (u5 j (by omega))
end CG
