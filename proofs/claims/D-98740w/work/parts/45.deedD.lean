/-! deeds told in a tray: judged, performed -/
noncomputable def goN (C : zC) (v : Nat → Int) : Nat → Nat → zX → Nat × zX × Nat
  | 0, k, X => (k, X, 0)
  | d + 1, k, X => if whyN C X (v k) = 0 then goN C v d (k + 1) (xDo C X (v k)) else (k, X, whyN C X (v k))
theorem whyN_le {C : zC} {X : zX} {v : Int} : whyN C X v ≤ 3 := by
  unfold whyN
  split
  · omega
  · split
    · omega
    · split
      · split <;> omega
      · split
        · exact whyM_le
        · split
          · have := whyL_le (C := C) (X := X) (t := v - 1000)
            omega
          · split
            · split <;> omega
            · omega
theorem why_rng {C : zC} {X : zX} {v : Int} (h : whyN C X v = 0) : -1 ≤ v ∧ v ≤ 15999 := by
  rcases why_cases h with rfl | rfl | ⟨rfl, h1⟩ | ⟨t, k, rfl, h1, h2, h3, h4, h5⟩ | ⟨t, rfl, h1, h2⟩ | ⟨t, g, rfl, h1, h2, h3⟩ <;> omega
theorem l32_T {x : Int64} (h : -1 ≤ x.toInt ∧ x.toInt ≤ 15999) : x.toInt32.toInt = x.toInt := by
  rw [Int64.toInt_toInt32]
  apply Int.bmod_eq_of_le <;> omega
theorem goN_spec {C : zC} {v : Nat → Int} {m mb : Nat} (hC : wfC C) : ∀ (d k : Nat) (X : zX), k + d = m → wfX C X (mb + k) → (wfX C (goN C v d k X).2.1 (mb + m) ∧ (((goN C v d k X).1 = m ∧ (goN C v d k X).2.2 = 0) ∨ ((goN C v d k X).1 < m ∧ (goN C v d k X).2.2 ≠ 0 ∧ (goN C v d k X).2.2 = whyN C (goN C v d k X).2.1 (v (goN C v d k X).1))) ∧ k ≤ (goN C v d k X).1 ∧ ((goN C v d k X).1 = k → (goN C v d k X).2.1 = X)) := by
  intro d
  induction d with
  | zero =>
    intro k X hk hX
    obtain rfl : k = m := by omega
    exact ⟨hX, Or.inl ⟨rfl, rfl⟩, Nat.le_refl _, fun _ => rfl⟩
  | succ d ih =>
    intro k X hk hX
    rw [goN]
    by_cases c : whyN C X (v k) = 0
    · rw [if_pos c]
      obtain ⟨i1, i2, i3, i4⟩ := ih (k + 1) (xDo C X (v k)) (by omega) (hX.deed hC c)
      exact ⟨i1, i2, by omega, fun e => by omega⟩
    · rw [if_neg c]
      exact ⟨hX.up (by omega), Or.inr ⟨by show k < m; omega, c, rfl⟩, Nat.le_refl _, fun _ => rfl⟩
section DD
variable {z th a s : Nat} {μ μ' : zM} {C : zC} {X1 X Y : zX} {dn dn' : Nat} {dX dX' : Nat → zX} {im : zIm} {tr : zTy} {tn : Nat} {tp : Nat → Nat} {f fp : Int32} {mb b0 : Nat}
theorem cR.Tr (h : cR z a μ C X1 X dn dX im tr tn tp f fp) : cTra z μ tr := h.2.2.2.2.2.2.1
theorem tR.Tr (h : tR th μ C X1 X dn dX im tr tn tp f fp) : tTra th μ tr := h.2.2.2.2.1
theorem zWf.trs (h : zWf mb C X1 X dn dX im tr tn tp) : ∀ t p, tr t = some p → p.1 ≤ 3 ∧ p.2.1 ≤ 40 := h.2.2.2.2.2.2.1
abbrev zTp : Type := Nat × Nat × (Nat → Int64)
noncomputable def goT (C : zC) (X : zX) (p : zTp) : Nat × zX × Nat := goN C (fun k => (p.2.2 k).toInt) p.2.1 0 X
theorem c_goes (hw : zWf mb C X1 X dn dX im tr tn tp) (hm : mb ≤ 90000) (h : cR z a μ C X1 X dn dX im tr tn tp f fp) {t : Nat} {p : zTp} (ht : t < 4) (hp : tr t = some p) {Q : Int32 → zM → Prop} (hq : ∀ μ', zOff (SC z a) μ μ' → cR z a μ' C X1 X dn dX im tr tn tp f fp → cSt μ' (z + 11) (goT C X p).2.1 0 → Q (nI (goT C X p).1) μ') : pX0_goes z (z + 71 + t) μ Q := by
  have hso := (hw.trs t p hp).1
  have hm40 := (hw.trs t p hp).2
  have key : ∀ d k Xk ν, k + d = p.2.1 → zOff (SC z a) μ ν → cR z a ν C X1 X dn dX im tr tn tp f fp → cSt ν (z + 11) Xk 0 → wfX C Xk (mb + k) → (∀ μ', zOff (SC z a) μ μ' → cR z a μ' C X1 X dn dX im tr tn tp f fp → cSt μ' (z + 11) (goN C (fun k => (p.2.2 k).toInt) d k Xk).2.1 0 → Q (nI (goN C (fun k => (p.2.2 k).toInt) d k Xk).1) μ') → pX0_goes_14 z (z + 71 + t) Q (d + 1) (nI k) ν := by
    intro d
    induction d with
    | zero =>
      intro k Xk ν hk o hR hs hX hq
      obtain ⟨b, b1, b2, _, _, _, b6⟩ := (hR.Tr t ht).2 p hp
      have b0 := (hR.Fx.2.1 t ht).2
      refine c_many b0 b1 b2 hso ?_
      rw [if_pos (nI_le (by omega) (by omega))]
      exact hq ν o hR hs
    | succ d ih =>
      intro k Xk ν hk o hR hs hX hq
      obtain ⟨b, b1, b2, _, _, _, b6⟩ := (hR.Tr t ht).2 p hp
      have b0 := (hR.Fx.2.1 t ht).2
      have vk : vp_in (nI k) p.2.1 := vp_in_nI (by omega) (by omega)
      refine c_many b0 b1 b2 hso ?_
      rw [if_neg (nI_ge (by omega) (by omega))]
      refine c_number b0 b1 b2 hso vk ?_
      rw [nI_clamp (by omega), b6 k (by omega)]
      refine c_why hR.I hs hw.c hX ?_
      rw [goN] at hq
      have hl := whyN_le (C := C) (X := Xk) (v := (p.2.2 k).toInt)
      by_cases c : whyN C Xk (p.2.2 k).toInt = 0
      · rw [if_pos c] at hq
        rw [c]
        refine if00 (c_number b0 b1 b2 hso vk ?_)
        rw [nI_clamp (by omega), b6 k (by omega)]
        refine c_does hR.I hR.far hs hw.c hX (by omega) (l32_T (why_rng c)) c (fun μ' o2 h2 => ?_)
        rw [nI_add]
        exact ih (k + 1) _ μ' (by omega) (o.tr (SH.c o2)) (hR.off (SH.c o2)) h2 (hX.deed hw.c c) hq
      · rw [if_neg c] at hq
        rw [if_neg (fun q => c ((nI_eq (by omega) (by decide)).mp (q.trans nI_0.symm)))]
        exact hq ν o hR hs
  refine ⟨(h.Fx.2.1 t ht).2, h.think (fun r μ1 o1 h1 t1 => ⟨_, key p.2.1 0 X μ1 (by omega) o1 h1 t1 hw.x hq⟩)⟩
theorem tM.offG {μ' : zM} (h : tM th μ C X) (ho : zOff (fun x _ => x = th) μ μ') : tM th μ' C X := h.off ho (fun k q => by omega)
/-- what deeds told change in the twin -/
def SG2 (th x k : Nat) : Prop := x = th + 5 ∨ x = th + 6 ∨ x = th + 8 ∨ (x = th ∧ (k = 20 ∨ k = 21 ∨ k = 22)) ∨ (x = th + 1 ∧ 20 ≤ k ∧ k < 43)
theorem t_tells (hw : zWf mb C X1 X dn dX im tr tn tp) (hm : mb ≤ 80000) (h : tR th μ C X1 X dn dX im tr tn tp f fp) {t : Nat} {p : zTp} (ht : t < 4) (hp : tr t = some p) {Q : Int32 → zM → Prop} (hq : ∀ μ', zOff (SG2 th) μ μ' → tM th μ' C (goT C X p).2.1 → zI μ' th 21 = nI (goT C X p).2.2 → Q (nI (goT C X p).1) μ') : pX4_tells th (nI t) μ Q := by
  have hm40 := (hw.trs t p hp).2
  obtain ⟨r1, r2, r3⟩ := (h.Tr t ht).2 p hp
  have v4 : vp_in (nI t) 4 := vp_in_nI ht (by decide)
  have key : ∀ d k Xk ν, k + d = p.2.1 → zOff (SG2 th) μ ν → tM th ν C Xk → wfX C Xk (mb + k) → zI ν th 21 = nI 0 → (∀ μ', zOff (SG2 th) μ μ' → tM th μ' C (goN C (fun k => (p.2.2 k).toInt) d k Xk).2.1 → zI μ' th 21 = nI (goN C (fun k => (p.2.2 k).toInt) d k Xk).2.2 → Q (nI (goN C (fun k => (p.2.2 k).toInt) d k Xk).1) μ') → pX4_tells_7 th (nI t) Q (d + 1) (nI k) ν := by
    intro d
    induction d with
    | zero =>
      intro k Xk ν hk o hMk hX h21 hq
      have e17 : zI ν (th + 17) t = nI p.2.1 := (o.I (by unfold SG2; omega)).trans r2
      refine ⟨v4, ?_⟩
      rw [nI_clamp (by omega), e17, if_pos (nI_le (by omega) (by omega))]
      refine ⟨v4, ?_⟩
      rw [show p.2.1 = k by omega]
      exact hq ν o hMk h21
    | succ d ih =>
      intro k Xk ν hk o hMk hX h21 hq
      have e17 : zI ν (th + 17) t = nI p.2.1 := (o.I (by unfold SG2; omega)).trans r2
      have e18 : zJ ν (th + 18) (40 * t + k) = p.2.2 k := (o.J (by unfold SG2; omega)).trans (r3 k (by omega))
      refine ⟨v4, ?_⟩
      rw [nI_clamp (by omega), e17, if_neg (nI_ge (by omega) (by omega))]
      rw [pk_mul, nI_add]
      have v160 : vp_in (nI (40 * t + k)) 160 := vp_in_nI (by omega) (by decide)
      refine ⟨v160, ?_⟩
      rw [nI_clamp (by omega), e18]
      refine u_why hMk hw.c hX ?_
      unfold zpI
      have oz : zOff (fun x _ => x = th) ν (zsI ν th 21 (nI (whyN C Xk (p.2.2 k).toInt))) := zOff.sI rfl
      have oS : zOff (SG2 th) ν (zsI ν th 21 (nI (whyN C Xk (p.2.2 k).toInt))) := zOff.sI (by unfold SG2; omega)
      have e21 : zI (zsI ν th 21 (nI (whyN C Xk (p.2.2 k).toInt))) th 21 = nI (whyN C Xk (p.2.2 k).toInt) := by rw [zI_sI, if_pos ⟨rfl, rfl⟩]
      have hM3 := hMk.offG oz
      rw [goN] at hq
      dsimp only
      rw [e21]
      have hl := whyN_le (C := C) (X := Xk) (v := (p.2.2 k).toInt)
      by_cases c : whyN C Xk (p.2.2 k).toInt = 0
      · rw [if_pos c] at hq
        rw [if_pos (by rw [c]; rfl)]
        refine ⟨v160, ?_⟩
        rw [show zJ (zsI ν th 21 (nI (whyN C Xk (p.2.2 k).toInt))) (th + 18) (40 * t + k) = p.2.2 k from e18]
        refine t_does hM3 hw.c hX (by omega) (l32_T (why_rng c)) c (fun μ' o2 h2 => ?_)
        rw [nI_add]
        exact ih (k + 1) _ μ' (by omega) ((o.tr oS).tr (o2.mono (fun x k q => by unfold SG at q; unfold SG2; omega))) h2 (hX.deed hw.c c) ((o2.I (by unfold SG; omega)).trans (e21.trans (by rw [c]))) hq
      · rw [if_neg c] at hq
        rw [if_neg (fun q => c ((nI_eq (by omega) (by decide)).mp (q.trans nI_0.symm)))]
        exact hq _ (o.tr oS) hM3 e21
  refine ⟨_, key p.2.1 0 X _ (by omega) (zOff.sI (by unfold SG2; omega)) (h.M.offG (zOff.sI rfl)) hw.x (by rw [zI_sI, if_pos ⟨rfl, rfl⟩]) hq⟩
def vTr (tr : zTy) (x : Int32) (A : Int32) (B : zTp → Int32) : Int32 := if 0 ≤ x.toInt ∧ x.toInt ≤ 3 then (match tr x.toInt.toNat with
  | none => (-6 : Int32)
  | some p => B p) else A
/-- a tray of the component, or none -/
theorem c_tray (h : cR z a μ C X1 X dn dX im tr tn tp f fp) {x : Int32} {A B : Prop} (h0 : ¬ (0 ≤ x.toInt ∧ x.toInt ≤ 3) → A) (h1 : ∀ t, t < 4 → x = nI t → x.toInt = t → B) : pX0_isTray z x μ (fun r2 _ => if r2 = 0 then A else B) := by
  refine rin32 (a := 0) (b := 3) rfl rfl (fun q1 q2 => ⟨zbo1, if01 ?_⟩) (fun q => ⟨zbo0, if00 (h0 q)⟩)
  obtain ⟨t, t1, t2, t3⟩ := i32N q1
  exact h1 t (by omega) t2 t3
theorem t_noTray (h : tR th μ C X1 X dn dX im tr tn tp f fp) (hw : zWf mb C X1 X dn dX im tr tn tp) {x : Int32} {Q : Int32 → zM → Prop} (h0 : ¬ (0 ≤ x.toInt ∧ x.toInt ≤ 3) → Q (-2 : Int32) μ) (hn : ∀ t, t < 4 → x = nI t → x.toInt = t → tr t = none → Q (-6 : Int32) μ) (hs : ∀ t p, t < 4 → x = nI t → x.toInt = t → tr t = some p → Q (nI 0) μ) : pX4_noTray th x μ Q := by
  refine rin32 (a := 0) (b := 3) rfl rfl (fun q1 q2 => if01 ?_) (fun q => if00 (h0 q))
  obtain ⟨t, t1, t2, t3⟩ := i32N q1
  have ht : t < 4 := by omega
  replace hn := hn t ht t2 t3
  replace hs := fun p => hs t p ht t2 t3
  subst t2
  refine ⟨vp_in_nI ht (by decide), ?_⟩
  rw [nI_clamp (by omega)]
  have ht2 := h.Tr t ht
  cases e : tr t with
  | none =>
    rw [ht2.1 e, if_pos rfl]
    exact hn e
  | some p =>
    rw [(ht2.2 p e).1, if_neg (nI_m1 (by have := (hw.trs t p e).1; omega))]
    exact hs p e
noncomputable def jud (C : zC) (X : zX) (y : Int32) (p : zTp) : Int32 := if y = nI 0 then (if (goT C X p).2.2 = 0 then (-1 : Int32) else nI (goT C X p).1) else if y = nI 1 then nI (goT C X p).2.2 else if y = nI 2 then nI (xD (goT C X p).2.1) else nI (xM (goT C X p).2.1)
noncomputable def vJud (C : zC) (X : zX) (tr : zTy) (x y : Int32) : Int32 := if 0 ≤ y.toInt ∧ y.toInt ≤ 3 then vTr tr x (-2 : Int32) (jud C X y) else (-2 : Int32)
theorem c_judge (hw : zWf mb C X1 X dn dX im tr tn tp) (hm : mb ≤ 80000) (h : cR z a μ C X1 X dn dX im tr tn tp f fp) {x y : Int32} {Q : Int32 → zM → Prop} (hq : ∀ μ', zOff (SC z a) μ μ' → Q (vJud C X tr x y) μ') : pX0_judge z x y μ Q := by
  unfold vJud vTr at hq
  refine c_tray h (fun q => ?_) (fun t ht t2 t3 => ?_)
  · rw [if_neg q, ite_self] at hq
    exact hq μ zOff.rf
  refine rin32 (a := 0) (b := 3) rfl rfl (fun q1 q2 => if01 ?_) (fun q => if00 ?_)
  · rw [if_pos ⟨q1, q2⟩, if_pos (by omega), t3, Int.toNat_natCast] at hq
    subst t2
    obtain ⟨f1, f2⟩ := h.Fx.2.1 t ht
    refine ⟨vp_in_nI ht (by decide), z + 71 + t, ?_, f2, ?_⟩
    · rw [nI_clamp (by omega)]; exact f1
    have ht2 := h.Tr t ht
    cases e : tr t with
    | none =>
      rw [if_pos (ht2.1 e)]
      rw [e] at hq
      exact hq μ zOff.rf
    | some p =>
      have hso := (hw.trs t p e).1
      have hm40 := (hw.trs t p e).2
      obtain ⟨b, b1, _⟩ := ht2.2 p e
      rw [if_neg (by rw [b1]; intro q; cases q)]
      rw [e] at hq
      dsimp only at hq
      unfold jud at hq
      obtain ⟨g1, g2, g3, g4⟩ := goN_spec (v := fun k => (p.2.2 k).toInt) (m := p.2.1) hw.c p.2.1 0 X (by omega) hw.x
      refine c_goes hw (by omega) h ht e (fun μ2 o2 h2 s2 => ?_)
      replace hq := hq μ2 o2
      obtain ⟨b', b1', b2', _, _, _, b6'⟩ := (h2.Tr t ht).2 p e
      have f2' := (h2.Fx.2.1 t ht).2
      change wfX C (goT C X p).2.1 _ at g1
      change ((goT C X p).1 = p.2.1 ∧ (goT C X p).2.2 = 0) ∨ ((goT C X p).1 < p.2.1 ∧ (goT C X p).2.2 ≠ 0 ∧ (goT C X p).2.2 = whyN C (goT C X p).2.1 (p.2.2 (goT C X p).1).toInt) at g2
      by_cases y0 : y = nI 0
      · rw [if_pos y0] at hq ⊢
        refine c_many f2' b1' b2' hso ?_
        rcases g2 with ⟨r1, r2⟩ | ⟨r1, r2, r3⟩
        · rw [if_pos (by rw [r1])]
          rwa [if_pos r2] at hq
        · rw [if_neg (fun q => by have := (nI_eq (by omega) (by omega)).mp q; omega)]
          rwa [if_neg r2] at hq
      rw [if_neg y0] at hq ⊢
      by_cases y1 : y = nI 1
      · rw [if_pos y1] at hq ⊢
        refine c_many f2' b1' b2' hso ?_
        rcases g2 with ⟨r1, r2⟩ | ⟨r1, r2, r3⟩
        · rw [if_pos (by rw [r1])]
          rwa [r2] at hq
        · rw [if_neg (fun q => by have := (nI_eq (by omega) (by omega)).mp q; omega)]
          refine c_number f2' b1' b2' hso (vp_in_nI r1 (by omega)) ?_
          rw [nI_clamp (by omega), b6' _ r1]
          refine c_why h2.I s2 hw.c g1 ?_
          rw [← r3]
          exact hq
      rw [if_neg y1] at hq ⊢
      rw [s2.D, s2.M]
      by_cases y2 : y = nI 2
      · rw [if_pos y2] at hq ⊢
        exact hq
      · rw [if_neg y2] at hq ⊢
        exact hq
  · rw [if_neg q] at hq
    exact hq μ zOff.rf
theorem t_judge (hw : zWf mb C X1 X dn dX im tr tn tp) (hm : mb ≤ 80000) (h : tR th μ C X1 X dn dX im tr tn tp f fp) {x y : Int32} {Q : Int32 → zM → Prop} (hq : ∀ μ', tR th μ' C X1 X dn dX im tr tn tp f fp → Q (vJud C X tr x y) μ') : pX4_judge th x y μ Q := by
  unfold vJud vTr at hq
  refine t0 (fun μ0 o0 => ?_)
  have h0 := h.off hw.d10 o0
  refine rin32 (a := 0) (b := 3) rfl rfl (fun q1 q2 => if01 ?_) (fun q => if00 ?_)
  · rw [if_pos ⟨q1, q2⟩] at hq
    refine t_noTray h0 hw (fun q => ?_) (fun t ht t2 t3 e => ?_) (fun t p ht t2 t3 e => ?_)
    · rw [if_neg q] at hq
      exact (if_neg (by decide)).mpr (hq μ0 h0)
    · rw [if_pos (by omega), t3, Int.toNat_natCast, e] at hq
      exact (if_neg (by decide)).mpr (hq μ0 h0)
    · rw [if_pos (by omega), t3, Int.toNat_natCast, e] at hq
      subst t2
      have hso := (hw.trs t p e).1
      have hm40 := (hw.trs t p e).2
      dsimp only at hq
      unfold jud at hq
      obtain ⟨g1, g2, g3, g4⟩ := goN_spec (v := fun k => (p.2.2 k).toInt) (m := p.2.1) hw.c p.2.1 0 X (by omega) hw.x
      change ((goT C X p).1 = p.2.1 ∧ (goT C X p).2.2 = 0) ∨ ((goT C X p).1 < p.2.1 ∧ (goT C X p).2.2 ≠ 0 ∧ (goT C X p).2.2 = whyN C (goT C X p).2.1 (p.2.2 (goT C X p).1).toInt) at g2
      refine if00 (h0.keep hw.d10 (fun μ1 o1 h1 w1 => ?_))
      refine t_tells hw hm h1 ht e (fun μ2 o2 hM2 h21 => ⟨v3 (by decide), v3 (by decide), ?_⟩)
      have w2 := w1.off o2 (fun k hk q => by unfold SG2 at q; omega)
      refine t_isAgain hM2.1 w2 (fun μ3 o3 hM3 => ?_)
      have o4 : zOff (SE th) μ1 μ3 := (o2.mono (fun x k q => by unfold SG2 at q; unfold SE ST Sr; omega)).tr (o3.mono (fun x k q => Or.inr q))
      have h3 : tR th μ3 C X1 X dn dX im tr tn tp f fp := h1.upd (o4.mono (fun x k q => Or.inl q)) hM3 (h1.D.off o4 hw.d10 (fun k q1 q2 => by unfold SE ST Sr; omega))
      replace hq := hq μ3 h3
      have e21 : zI μ3 th 21 = nI (goT C X p).2.2 := (o3.I (by unfold Sr; omega)).trans h21
      have hl : (goT C X p).2.2 ≤ 3 := by
        rcases g2 with ⟨r1, r2⟩ | ⟨r1, r2, r3⟩
        · omega
        · rw [r3]; exact whyN_le
      rw [nI_clamp (by decide), nI_clamp (by decide), hM2.D, hM2.M, e21]
      by_cases y0 : y = nI 0
      · rw [if_pos y0] at hq
        rw [if_pos (show y = 0 from y0)]
        by_cases c : (goT C X p).2.2 = 0
        · rw [if_pos c] at hq
          rw [if_pos (by rw [c]; rfl)]
          exact hq
        · rw [if_neg c] at hq
          rw [if_neg (fun q => c ((nI_eq (by omega) (by decide)).mp (q.trans nI_0.symm)))]
          exact hq
      rw [if_neg y0] at hq
      rw [if_neg (show ¬ y = 0 from y0)]
      by_cases y1 : y = nI 1
      · rw [if_pos y1] at hq ⊢
        exact hq
      rw [if_neg y1] at hq ⊢
      by_cases y2 : y = nI 2
      · rw [if_pos y2] at hq ⊢
        exact hq
      · rw [if_neg y2] at hq ⊢
        exact hq
  · rw [if_neg q] at hq
    exact hq μ0 h0
/-- perform -/
noncomputable def oPer (C : zC) (X : zX) (tr : zTy) (x : Int32) : Option zX := if 0 ≤ x.toInt ∧ x.toInt ≤ 3 then (match tr x.toInt.toNat with
  | none => none
  | some p => if (goT C X p).1 = 0 then none else some (goT C X p).2.1) else none
noncomputable def vPer (C : zC) (X : zX) (tr : zTy) (x : Int32) : Int32 := vTr tr x (-2 : Int32) (fun p => nI (goT C X p).1)
theorem goT_wf (hw : zWf mb C X1 X dn dX im tr tn tp) {t : Nat} {p : zTp} (e : tr t = some p) : wfX C (goT C X p).2.1 (mb + 40) ∧ (goT C X p).1 ≤ 40 ∧ ((goT C X p).1 = 0 → (goT C X p).2.1 = X) := by
  have hm40 := (hw.trs t p e).2
  obtain ⟨g1, g2, g3, g4⟩ := goN_spec (v := fun k => (p.2.2 k).toInt) (m := p.2.1) hw.c p.2.1 0 X (by omega) hw.x
  refine ⟨wfX.up g1 (by omega), ?_, g4⟩
  change ((goT C X p).1 = p.2.1 ∧ (goT C X p).2.2 = 0) ∨ ((goT C X p).1 < p.2.1 ∧ (goT C X p).2.2 ≠ 0 ∧ (goT C X p).2.2 = whyN C (goT C X p).2.1 (p.2.2 (goT C X p).1).toInt) at g2
  omega
theorem w_Per (hw : zWf mb C X1 X dn dX im tr tn tp) {x : Int32} : ∀ Y, oPer C X tr x = some Y → wfX C Y (mb + 40) := by
  intro Y h
  unfold oPer at h
  split at h
  · cases e : tr x.toInt.toNat with
    | none => rw [e] at h; cases h
    | some p =>
      rw [e] at h
      dsimp only at h
      split at h
      · cases h
      · cases h
        exact (goT_wf hw e).1
  · cases h
theorem c_perform (hw : zWf mb C X1 X dn dX im tr tn tp) (hm : mb ≤ 80000) (h : cR z a μ C X1 X dn dX im tr tn tp f fp) {x : Int32} {Q : Int32 → zM → Prop} (hq : ∀ μ', cR z a μ' C X1 (aX X (oPer C X tr x)) (aN dn (oPer C X tr x)) (aU dn dX X (oPer C X tr x)) im tr tn tp f fp → Q (vPer C X tr x) μ') : pX0_perform z x μ Q := by
  unfold oPer vPer vTr at hq
  refine c_tray h (fun q => ?_) (fun t ht t2 t3 => ?_)
  · simp only [if_neg q] at hq
    exact hq μ h
  simp only [if_pos (show 0 ≤ x.toInt ∧ x.toInt ≤ 3 by omega)] at hq
  rw [t3, Int.toNat_natCast] at hq
  subst t2
  obtain ⟨f1, f2⟩ := h.Fx.2.1 t ht
  have f1' : zR μ (z + 70) (nI t).toNatClampNeg = some (z + 71 + t) := by rw [nI_clamp (by omega)]; exact f1
  refine ⟨vp_in_nI ht (by decide), z + 71 + t, f1', f2, ?_⟩
  have ht2 := h.Tr t ht
  cases e : tr t with
  | none =>
    rw [if_pos (ht2.1 e)]
    rw [e] at hq
    exact hq μ h
  | some p =>
    obtain ⟨b, b1, _⟩ := ht2.2 p e
    rw [if_neg (by rw [b1]; intro q; cases q)]
    rw [e] at hq
    dsimp only at hq
    obtain ⟨g1, g2, g3⟩ := goT_wf hw e
    refine ⟨vp_in_nI ht (by decide), z + 71 + t, f1', ?_⟩
    refine c_goes hw (by omega) h ht e (fun μ2 o2 h2 s2 => ?_)
    by_cases c : (goT C X p).1 = 0
    · simp only [if_pos c] at hq
      rw [c] at hq
      rw [c, if_pos nI_0]
      exact hq μ2 h2
    · simp only [if_neg c] at hq
      rw [if_neg (fun q => c ((nI_eq (by omega) (by decide)).mp (q.trans nI_0.symm)))]
      exact h2.take s2 (fun r μ3 h3 => hq μ3 h3)
theorem t_perform (hw : zWf mb C X1 X dn dX im tr tn tp) (hm : mb ≤ 80000) (h : tR th μ C X1 X dn dX im tr tn tp f fp) {x : Int32} {Q : Int32 → zM → Prop} (hq : ∀ μ', tR th μ' C X1 (aX X (oPer C X tr x)) (aN dn (oPer C X tr x)) (aU dn dX X (oPer C X tr x)) im tr tn tp f fp → Q (vPer C X tr x) μ') : pX4_perform th x μ Q := by
  unfold oPer vPer vTr at hq
  refine t0 (fun μ0 o0 => ?_)
  have h0 := h.off hw.d10 o0
  refine t_noTray h0 hw (fun q => ?_) (fun t ht t2 t3 e => ?_) (fun t p ht t2 t3 e => ?_)
  · simp only [if_neg q] at hq
    exact (if_neg (by decide)).mpr (hq μ0 h0)
  · simp only [if_pos (show 0 ≤ x.toInt ∧ x.toInt ≤ 3 by omega)] at hq
    rw [t3, Int.toNat_natCast, e] at hq
    exact (if_neg (by decide)).mpr (hq μ0 h0)
  · simp only [if_pos (show 0 ≤ x.toInt ∧ x.toInt ≤ 3 by omega)] at hq
    rw [t3, Int.toNat_natCast, e] at hq
    subst t2
    dsimp only at hq
    obtain ⟨g1, g2, g3⟩ := goT_wf hw e
    refine if00 (h0.keep hw.d10 (fun μ1 o1 h1 w1 => ?_))
    refine t_tells hw hm h1 ht e (fun μ2 o2 hM2 h21 => ?_)
    have o4 : zOff (SE th) μ1 μ2 := o2.mono (fun x k q => by unfold SG2 at q; unfold SE ST Sr; omega)
    by_cases c : (goT C X p).1 = 0
    · simp only [if_pos c] at hq
      rw [c] at hq
      rw [c, if_pos (by decide)]
      rw [g3 c] at hM2
      exact hq μ2 (h1.upd (o4.mono (fun x k q => Or.inl q)) hM2 (h1.D.off o4 hw.d10 (fun k q1 q2 => by unfold SE ST Sr; omega)))
    · simp only [if_neg c] at hq
      rw [if_neg (show ¬ nI (goT C X p).1 ≤ 0 by rw [← nI_0]; exact nI_ge (by omega) (by omega))]
      exact h1.fin hw.d10 o4 (w1.off o2 (fun k hk q => by unfold SG2 at q; omega)) hM2 (fun μ3 h3 _ => hq μ3 h3)
end DD
