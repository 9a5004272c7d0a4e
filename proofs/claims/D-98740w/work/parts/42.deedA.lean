/-! deeds: what is kept in both worlds -/
def SN (z a x k : Nat) : Prop := SC z a x k ∨ So (z + 7) x k ∨ Su z x k
def SE (th x k : Nat) : Prop := ST th x k ∨ Sr th x k
def aX (X : zX) (o : Option zX) : zX := match o with
  | none => X
  | some Y => Y
def aN (dn : Nat) (o : Option zX) : Nat := match o with
  | none => dn
  | some _ => dPu dn
def aU (dn : Nat) (dX : Nat → zX) (X : zX) (o : Option zX) : Nat → zX := match o with
  | none => dX
  | some _ => xPu dn dX X
section DA
variable {z th a s : Nat} {μ μ' : zM} {C : zC} {X1 X Y : zX} {dn dn' : Nat} {dX dX' : Nat → zX} {im : zIm} {tr : zTy} {tn : Nat} {tp : Nat → Nat} {f fp : Int32} {mb b0 : Nat}
theorem dPu_le (h : dn ≤ 10) : dPu dn ≤ 10 := by
  unfold dPu
  split <;> omega
theorem zWf.d10 (h : zWf mb C X1 X dn dX im tr tn tp) : dn ≤ 10 := h.2.2.2.1
theorem zWf.aft (h : zWf mb C X1 X dn dX im tr tn tp) {mc : Nat} (hm : mb ≤ mc) (o : Option zX) (ho : ∀ Y, o = some Y → wfX C Y mc) : zWf mc C X1 (aX X o) (aN dn o) (aU dn dX X o) im tr tn tp := by
  obtain ⟨h1, h2, h3, h4, h5, h6, h7⟩ := h
  have h6' : ∀ i p, im i = some p → wfC p.1.1 ∧ wfX p.1.1 p.1.2 1000 ∧ wfX p.1.1 p.2 mc := fun i p hp => ⟨(h6 i p hp).1, (h6 i p hp).2.1, (h6 i p hp).2.2.up hm⟩
  cases o with
  | none => exact ⟨h1, h2, h3.up hm, h4, fun j hj => (h5 j hj).up hm, h6', h7⟩
  | some Y =>
    refine ⟨h1, h2, ho Y rfl, dPu_le h4, fun j hj => ?_, h6', h7⟩
    have hj : j < dPu dn := hj
    show wfX C (xPu dn dX X j) mc
    unfold dPu at hj
    unfold xPu
    by_cases c : dn = 10
    · rw [if_pos c] at hj ⊢
      split
      · exact h3.up hm
      · exact (h5 _ (by omega)).up hm
    · rw [if_neg c] at hj ⊢
      split
      · exact h3.up hm
      · exact (h5 _ (by omega)).up hm
theorem cR.Fx (h : cR z a μ C X1 X dn dX im tr tn tp f fp) : cFix z μ := h.2.2.2.1
theorem cR.U (h : cR z a μ C X1 X dn dX im tr tn tp f fp) : cUnd z μ dn dX := h.2.2.2.2.1
theorem tR.D (h : tR th μ C X1 X dn dX im tr tn tp f fp) : tDe th μ dn dX := h.2.2.1
theorem cIts.nsum (h : cIts z μ a C X1) (hs : zty μ s = some (.inl 2)) {x : Nat} (h1 : s ≤ x) (h2 : x ≤ s + 3) : ¬ isSum (zty μ x) := by
  have r1 := h.sarr hs 0 rfl
  have r2 := h.sarr hs 1 rfl
  have r3 := h.sarr hs 2 rfl
  dsimp only at r1 r2 r3
  rcases (show x = s ∨ x = s + 1 ∨ x = s + 2 ∨ x = s + 3 by omega) with e | e | e | e <;> subst e <;> rintro (hx | hx | hx)
  all_goals first | (rw [hs] at hx; cases hx; done) | (rw [r1] at hx; cases hx; done) | (rw [r2] at hx; cases hx; done) | (rw [r3] at hx; cases hx; done)
theorem SN.av (h : cIts z μ a C X1) (hf : cFix z μ) (f : zfar z a) {a' : Nat} (ha' : zty μ a' = some (.inl 1)) (f' : zfar z a') : tAv (SN z a) μ a' := by
  have av := SC.av h ha' f f'
  unfold zfar at f'
  refine ⟨fun k q => ?_, fun i k h1 h2 q => ?_, fun x hx k q => ?_⟩
  · rcases q with q | q | q
    · exact av.1 k q
    · unfold So at q; omega
    · unfold Su at q; omega
  · rcases q with q | q | q
    · exact av.2.1 i k h1 h2 q
    · unfold So at q; omega
    · unfold Su at q; omega
  · rcases q with q | q | q
    · exact av.2.2 x hx k q
    · exact h.nsum h.now q.1 q.2 hx
    · rcases q with ⟨q, _⟩ | ⟨q1, q2⟩
      · subst q
        have t0 := h.main
        rcases hx with hx | hx | hx <;> rw [t0] at hx <;> cases hx
      · exact h.nsum (hf.1 ((x - (z + 17)) / 4) (by omega)).2 (by omega) (by omega) hx
theorem cR.upd (h : cR z a μ C X1 X dn dX im tr tn tp f fp) (ho : zOff (SN z a) μ μ') (hN : cSt μ' (z + 7) Y 0) (hU : cUnd z μ' dn' dX') : cR z a μ' C X1 Y dn' dX' im tr tn tp f fp := by
  obtain ⟨h1, h2, h3, h4, h5, h6, h7, h8, h9, h10, h11, h12⟩ := h
  have h2' := h2
  unfold zfar at h2'
  refine ⟨h1.off ho (SN.av h1 h4 h2 h1.2.2.1 h2), h2, hN, h4.off ho, hU, h6.off ho ?_ (fun a' ha' f' => SN.av h1 h4 h2 ha' f'), h7.off ho (fun b k hb hb2 _ => ?_), h8.off ho ?_ ?_, (ho.I ?_).trans h9, (ho.I ?_).trans h10, fun k hk => (ho.I ?_).trans (h11 k hk), zin.off h12 ho⟩
  · intro x k q1 q2; unfold SN SC So Su; omega
  · have := hb2 a h1.2.2.1
    unfold SN SC So Su; omega
  · unfold SN SC So Su; omega
  · intro k; unfold SN SC So Su; omega
  · unfold SN SC So Su; omega
  · unfold SN SC So Su; omega
  · unfold SN SC So Su; omega
theorem tM.offD (h : tM th μ C X) (ho : zOff (Sd th) μ μ') : tM th μ' C X := ⟨h.1.off ho (fun k hk q => by unfold Sd at q; omega), h.2.off ho (fun k hk q => by unfold Sd at q; omega)⟩
theorem tR.upd (h : tR th μ C X1 X dn dX im tr tn tp f fp) (ho : zOff (fun x k => SE th x k ∨ Sd th x k) μ μ') (hM : tM th μ' C Y) (hD : tDe th μ' dn' dX') : tR th μ' C X1 Y dn' dX' im tr tn tp f fp := by
  obtain ⟨h1, h2, h3, h4, h5, h6, h7, h8⟩ := h
  refine ⟨hM, h2.off ho ?_, hD, h4.off ho ?_ ?_, h5.off ho ?_ ?_ ?_, h6.off ho ?_ ?_, (ho.I ?_).trans h7, (ho.I ?_).trans h8⟩
  all_goals first | (intro k; unfold SE ST Sr Sd; omega) | (intro k _; unfold SE ST Sr Sd; omega) | (unfold SE ST Sr Sd; omega)
theorem tR.fin (h : tR th μ C X1 X dn dX im tr tn tp f fp) (h9 : dn ≤ 10) (ho : zOff (SE th) μ μ') (hw : tSt μ' (th + 7) 0 X) (hM : tM th μ' C Y) {Q : zM → Prop} (hq : ∀ μ'', tR th μ'' C X1 Y (dPu dn) (xPu dn dX X) im tr tn tp f fp → tSt μ'' (th + 7) 0 X → Q μ'') : pX4_notes th μ' Q := by
  refine t_notes (h.D.off ho h9 (fun k h1 h2 => by unfold SE ST Sr; omega)) h9 hw (fun μ2 o2 hd2 => ?_)
  exact hq μ2 (h.upd ((ho.mono (fun x k q => Or.inl q)).tr (o2.mono (fun x k q => Or.inr q))) (hM.offD o2) hd2) (hw.off o2 (fun k hk q => by unfold Sd at q; omega))
/-- the twin keeps what is -/
theorem tR.keep (h : tR th μ C X1 X dn dX im tr tn tp f fp) (h9 : dn ≤ 10) {Q : zM → Prop} (hq : ∀ μ', zOff (ST th) μ μ' → tR th μ' C X1 X dn dX im tr tn tp f fp → tSt μ' (th + 7) 0 X → Q μ') : pX4_keeps th μ Q := by
  refine t_keeps h.M.2 (fun μ1 o1 w1 => ?_)
  have o := o1.mono (T := ST th) (fun x k q => by unfold S7 at q; unfold ST; omega)
  exact hq μ1 o (h.off h9 o) w1
/-- the component keeps what is -/
theorem cR.keep (h : cR z a μ C X1 X dn dX im tr tn tp f fp) {Q : zM → Prop} (hq : ∀ μ1, zOff (Su z) μ μ1 → cIts z μ1 a C X1 → cSt μ1 (z + 7) X 0 → (∀ Y μ2, zOff (fun x k => SC z a x k ∨ So (z + 7) x k) μ1 μ2 → cSt μ2 (z + 7) Y 0 → cR z a μ2 C X1 Y (dPu dn) (xPu dn dX X) im tr tn tp f fp) → Q μ1) : pX0_keeps z μ Q := by
  refine c_keeps h.I h.N h.Fx h.U (fun μ1 o1 hu => ?_)
  have f' := h.far
  unfold zfar at f'
  have oN : zOff (SN z a) μ μ1 := o1.mono (fun x k q => Or.inr (Or.inr q))
  have hI1 := h.I.off oN (SN.av h.I h.Fx h.far h.I.2.2.1 h.far)
  have hN1 := h.N.off o1 (fun k q => by unfold Su at q; omega) (fun i k h1 h2 q => by unfold Su at q; omega)
  refine hq μ1 o1 hI1 hN1 (fun Y μ2 o2 h2 => h.upd (oN.tr (o2.mono (fun x k q => by rcases q with q | q; exact Or.inl q; exact Or.inr (Or.inl q)))) h2 ?_)
  refine hu.off o2 ?_ ?_ ?_
  · unfold SC So; omega
  · unfold SC So; omega
  · intro x k q1 q2; unfold SC So; omega
end DA
