/-! images; lists; trays of the twin -/
section IA
variable {z th a s : Nat} {μ μ' : zM} {C C' : zC} {X1 X Y Y1 : zX} {dn dn' : Nat} {dX dX' : Nat → zX} {im : zIm} {tr : zTy} {tn tn' : Nat} {tp tp' : Nat → Nat} {f fp : Int32} {mb b0 : Nat}
theorem cTow.sR {x k : Nat} {v : Option Nat} {t : zT} (h : cTow μ a C X1) (hx : zty μ x = some t) (h1 : t ≠ .inl 1) (h2 : ¬ isSum (some t)) : cTow (zsR μ x k v) a C X1 := by
  have hax : ¬ a = x := fun e => by
    have h0 := h.1
    rw [e, hx] at h0
    exact h1 (Option.some.inj h0)
  obtain ⟨g0, g1, g2, g3, g4, g5, g6, g7, g8, g9, g10, g11, g12, g13⟩ := h
  refine ⟨g0, g1, g2, g3, g4, g5, g6, g7, g8, g9, g10, g11, g12, fun l hl => ?_⟩
  have e : zR (zsR μ x k v) a (13 + l) = zR μ a (13 + l) := by rw [zR_sR, if_neg (fun q => hax q.1)]
  rw [e]
  have g := g13 l hl
  unfold cLaw at g ⊢
  cases hk : kLaw C l with
  | none => rw [hk] at g; exact g
  | some cs =>
    rw [hk] at g
    obtain ⟨b, b1, b2⟩ := g
    refine ⟨b, b1, sumT.off (μ := μ) (μ' := zsR μ x k v) (fun y hy => ⟨rfl, fun _ => rfl, fun j => ?_⟩) _ _ _ b2⟩
    rw [zR_sR, if_neg]
    rintro ⟨rfl, _⟩
    rw [hx] at hy
    exact h2 hy
def imP (im : zIm) (i : Nat) (p : (zC × zX) × zX) : zIm := fun j => if j = i then some p else im j
theorem cR.put (h : cR z a μ C X1 X dn dX im tr tn tp f fp) {i : Nat} (hi : i < 2) {Q : Option Nat → zM → Prop} (hq : ∀ r μ', cR z a μ' C X1 X dn dX (imP im i ((C, X1), X)) tr tn tp f fp → Q r μ') : pX2_be z (z + 77 + 4 * i) (z + 7) (zsR μ (z + 75) i (some a)) Q := by
  obtain ⟨h1, h2, h3, h4, h5, h6, h7, h8, h9, h10, h11, h12⟩ := h
  have h2' := h2
  unfold zfar at h2'
  have h75 := (h1.tab 18 rfl).2
  dsimp only at h75
  have n1 : (Sum.inr (7, 2) : zT) ≠ .inl 1 := by intro q; cases q
  have n2 : ¬ isSum (some (Sum.inr (7, 2) : zT)) := by rintro (q | q | q) <;> cases q
  have hI : cIts z (zsR μ (z + 75) i (some a)) a C X1 := ⟨cSh_set (t := .inr (7, 2)) h1.1 h75 (fun c' e => by cases e), by rw [zR_sR, if_neg (by omega)]; exact h1.2.1, h1.2.2.sR h75 n1 n2⟩
  have hF : cFix z (zsR μ (z + 75) i (some a)) := ⟨fun j hj => ⟨by rw [zR_sR, if_neg (by omega)]; exact (h4.1 j hj).1, (h4.1 j hj).2⟩, fun j hj => ⟨by rw [zR_sR, if_neg (by omega)]; exact (h4.2.1 j hj).1, (h4.2.1 j hj).2⟩, fun j hj => ⟨by rw [zR_sR, if_neg (by omega)]; exact (h4.2.2 j hj).1, (h4.2.2 j hj).2⟩⟩
  have hty := (hF.2.2 i hi).2
  refine c_be hI h3 hty (by omega) (fun μ2 o2 g1 g2 => ?_)
  have av : ∀ a', zty μ a' = some (.inl 1) → zfar z a' → tAv (So (z + 77 + 4 * i)) (zsR μ (z + 75) i (some a)) a' := by
    intro a' ha' f'
    have hd := hI.dj1 ha' hty
    refine ⟨fun k => by unfold So; omega, fun j k q1 q2 => by unfold So; omega, fun x hx k q => hI.nsum hty q.1 q.2 hx⟩
  have hI2 := hI.off o2 (av a h1.2.2.1 h2)
  refine hq _ μ2 ⟨hI2, h2, g2, hF.off o2, ?_, ?_, ?_, ?_, (o2.I (by unfold So; omega)).trans h9, (o2.I (by unfold So; omega)).trans h10, fun k hk => (o2.I (by unfold So; omega)).trans (h11 k hk), zin.off (μ := zsR μ (z + 75) i (some a)) h12 o2⟩
  · exact cUnd.off (μ := zsR μ (z + 75) i (some a)) h5 o2 (by unfold So; omega) (by unfold So; omega) (fun x k q1 q2 => by unfold So; omega)
  · intro j hj
    unfold imP
    by_cases c : j = i
    · rw [if_pos c]
      refine ⟨fun e => (by cases e), fun p hp => ?_⟩
      cases hp
      subst c
      exact ⟨a, by rw [o2.2.1, zR_sR, if_pos ⟨rfl, rfl⟩], h2, hI2.2.2, g1⟩
    · rw [if_neg c]
      refine ⟨fun e => ?_, fun p hp => ?_⟩
      · rw [o2.2.1, zR_sR, if_neg (by omega)]
        exact (h6 j hj).1 e
      · obtain ⟨a', e1, e2, e3, e4⟩ := (h6 j hj).2 p hp
        refine ⟨a', by rw [o2.2.1, zR_sR, if_neg (by omega)]; exact e1, e2, (e3.sR h75 n1 n2).off o2 (av a' e3.1 e2), ?_⟩
        exact cSt.off (μ := zsR μ (z + 75) i (some a)) e4 o2 (fun k => by unfold So; omega) (fun j k q1 q2 => by unfold So; omega)
  · refine cTra.off (μ := zsR μ (z + 75) i (some a)) ?_ o2 (fun b k hb _ _ => by unfold So; omega)
    intro t ht
    refine ⟨fun e => by rw [zR_sR, if_neg (by omega)]; exact (h7 t ht).1 e, fun p hp => ?_⟩
    obtain ⟨b, b1, b2, b3, b4, b5, b6⟩ := (h7 t ht).2 p hp
    exact ⟨b, by rw [zR_sR, if_neg (by omega)]; exact b1, b2, b3, b4, fun u hu hut => by rw [zR_sR, if_neg (by omega)]; exact b5 u hu hut, b6⟩
  · exact cTap.off (μ := zsR μ (z + 75) i (some a)) h8 o2 (by unfold So; omega) (fun k => by unfold So; omega)
theorem cR.its (h : cR z a μ C X1 X dn dX im tr tn tp f fp) {a' : Nat} (hf : zfar z a') (ht : cTow μ a' C' Y1) : cR z a' (zsR μ z 0 (some a')) C' Y1 X dn dX im tr tn tp f fp := by
  obtain ⟨h1, h2, h3, h4, h5, h6, h7, h8, h9, h10, h11, h12⟩ := h
  have t0 := h1.main
  have n1 : (Sum.inl 0 : zT) ≠ .inl 1 := by intro q; cases q
  have n2 : ¬ isSum (some (Sum.inl 0 : zT)) := by rintro (q | q | q) <;> cases q
  refine ⟨⟨cSh_set (t := .inl 0) h1.1 t0 (fun c' e => by cases e; decide), by rw [zR_sR, if_pos ⟨rfl, rfl⟩], ht.sR t0 n1 n2⟩, hf, h3, ⟨fun j hj => ⟨by rw [zR_sR, if_neg (by omega)]; exact (h4.1 j hj).1, (h4.1 j hj).2⟩, fun j hj => ⟨by rw [zR_sR, if_neg (by omega)]; exact (h4.2.1 j hj).1, (h4.2.1 j hj).2⟩, fun j hj => ⟨by rw [zR_sR, if_neg (by omega)]; exact (h4.2.2 j hj).1, (h4.2.2 j hj).2⟩⟩, h5, fun j hj => ⟨fun e => by rw [zR_sR, if_neg (by omega)]; exact (h6 j hj).1 e, fun p hp => ?_⟩, fun t ht' => ⟨fun e => by rw [zR_sR, if_neg (by omega)]; exact (h7 t ht').1 e, fun p hp => ?_⟩, h8, h9, h10, h11, h12⟩
  · obtain ⟨b, e1, e2, e3, e4⟩ := (h6 j hj).2 p hp
    exact ⟨b, by rw [zR_sR, if_neg (by omega)]; exact e1, e2, e3.sR t0 n1 n2, e4⟩
  · obtain ⟨b, b1, b2, b3, b4, b5, b6⟩ := (h7 t ht').2 p hp
    exact ⟨b, by rw [zR_sR, if_neg (by omega)]; exact b1, b2, b3, b4, fun u hu hut => by rw [zR_sR, if_neg (by omega)]; exact b5 u hu hut, b6⟩
theorem w_Ima (hw : zWf mb C X1 X dn dX im tr tn tp) (i : Nat) : zWf mb C X1 X dn dX (imP im i ((C, X1), X)) tr tn tp := by
  obtain ⟨h1, h2, h3, h4, h5, h6, h7⟩ := hw
  refine ⟨h1, h2, h3, h4, h5, fun j p hp => ?_, h7⟩
  unfold imP at hp
  by_cases c : j = i
  · rw [if_pos c] at hp
    cases hp
    exact ⟨h1, h2, h3⟩
  · rw [if_neg c] at hp
    exact h6 j p hp
theorem c_image (h : cR z a μ C X1 X dn dX im tr tn tp f fp) {x : Int32} {Q : Int32 → zM → Prop} (h1 : ∀ i, i < 2 → x = nI i → x.toInt = i → ∀ μ', cR z a μ' C X1 X dn dX (imP im i ((C, X1), X)) tr tn tp f fp → Q (nI 0) μ') (h0 : ¬ (0 ≤ x.toInt ∧ x.toInt ≤ 1) → Q (-2 : Int32) μ) : pX0_image z x μ Q := by
  refine rin32 (a := 0) (b := 1) rfl rfl (fun q1 q2 => if01 ?_) (fun q => if00 (h0 q))
  obtain ⟨i, i1, i2, i3⟩ := i32N q1
  have hi : i < 2 := by omega
  replace h1 := h1 i hi i2 i3
  subst i2
  have v2 : vp_in (nI i) 2 := vp_in_nI hi (by decide)
  refine ⟨a, h.I.2.1, h.I.2.2.1, v2, ?_⟩
  unfold zpR
  rw [nI_clamp i1]
  refine ⟨v2, z + 77 + 4 * i, by rw [zR_sR, if_neg (by omega)]; exact (h.Fx.2.2 i hi).1, ?_⟩
  exact h.put hi (fun r μ' h' => h1 μ' h')
theorem c_restore (h : cR z a μ C X1 X dn dX im tr tn tp f fp) {x : Int32} {Q : Int32 → zM → Prop} (h1 : ∀ i p, i < 2 → x = nI i → x.toInt = i → im i = some p → ∀ a' μ', cR z a' μ' p.1.1 p.1.2 p.2 0 dX im tr tn tp f fp → Q (nI 0) μ') (hn : ∀ i, i < 2 → x = nI i → x.toInt = i → im i = none → Q (-5 : Int32) μ) (h0 : ¬ (0 ≤ x.toInt ∧ x.toInt ≤ 1) → Q (-2 : Int32) μ) : pX0_restore z x μ Q := by
  refine rin32 (a := 0) (b := 1) rfl rfl (fun q1 q2 => if01 ?_) (fun q => if00 (h0 q))
  obtain ⟨i, i1, i2, i3⟩ := i32N q1
  have hi : i < 2 := by omega
  replace h1 := fun p => h1 i p hi i2 i3
  replace hn := hn i hi i2 i3
  subst i2
  have v2 : vp_in (nI i) 2 := vp_in_nI hi (by decide)
  refine ⟨v2, ?_⟩
  rw [nI_clamp i1]
  have hz := h.Im i hi
  cases e : im i with
  | none =>
    rw [if_pos (hz.1 e)]
    exact hn e
  | some p =>
    obtain ⟨a', e1, e2, e3, e4⟩ := hz.2 p e
    rw [e1, if_neg (by intro q; cases q)]
    refine ⟨v2, ?_⟩
    unfold zpR
    refine ⟨v2, z + 77 + 4 * i, by rw [zR_sR, if_neg (by omega)]; exact (h.Fx.2.2 i hi).1, ?_⟩
    have hR := h.its e2 e3
    refine c_be hR.I (t := z + 77 + 4 * i) e4 hR.I.now (by omega) (fun μ2 o2 g1 g2 => ?_)
    unfold zpI
    obtain ⟨u1, u2, u, u3, u4, u5⟩ := hR.U
    have oz : zOff (fun x k => x = z ∧ k = 8) μ2 (zsI μ2 z 8 (nI 0)) := zOff.sI ⟨rfl, rfl⟩
    refine h1 p e a' _ (hR.upd ((o2.mono (fun x k q => Or.inr (Or.inl q))).tr (oz.mono (fun x k q => Or.inr (Or.inr (Or.inl ⟨q.1, Or.inl q.2⟩))))) (g1.off oz (fun k q => by omega) (fun i k q1 q2 q => by omega)) ⟨by decide, by rw [zI_sI, if_pos ⟨rfl, rfl⟩], u, u3, ?_, fun j hj => absurd hj (Nat.not_lt_zero _)⟩)
    rw [zI_sI, if_neg (by omega), o2.I (by unfold So; omega)]
    exact u4
theorem w_Res (hw : zWf mb C X1 X dn dX im tr tn tp) {i : Nat} {p : (zC × zX) × zX} (e : im i = some p) : zWf mb p.1.1 p.1.2 p.2 0 dX im tr tn tp := by
  obtain ⟨h1, h2, h3, h4, h5, h6, h7⟩ := hw
  exact ⟨(h6 i p e).1, (h6 i p e).2.1, (h6 i p e).2.2, by decide, fun j hj => absurd hj (Nat.not_lt_zero _), h6, h7⟩
/-! the twin's images -/
theorem t_image (hw : zWf mb C X1 X dn dX im tr tn tp) (h : tR th μ C X1 X dn dX im tr tn tp f fp) {x : Int32} {Q : Int32 → zM → Prop} (h1 : ∀ i, i < 2 → x = nI i → x.toInt = i → ∀ μ', tR th μ' C X1 X dn dX (imP im i ((C, X1), X)) tr tn tp f fp → Q (nI 0) μ') (h0 : ¬ (0 ≤ x.toInt ∧ x.toInt ≤ 1) → ∀ μ', tR th μ' C X1 X dn dX im tr tn tp f fp → Q (-2 : Int32) μ') : pX4_image th x μ Q := by
  refine t0 (fun μ0 o0 => ?_)
  have hh := h.off hw.d10 o0
  refine rin32 (a := 0) (b := 1) rfl rfl (fun q1 q2 => if01 ?_) (fun q => if00 (h0 q μ0 hh))
  obtain ⟨i, i1, i2, i3⟩ := i32N q1
  have hi : i < 2 := by omega
  replace h1 := h1 i hi i2 i3
  subst i2
  refine zupS (W := fun n j ν => pX4_image_20 th (nI i) Q n (nI j) ν) (fun j ν => zOff (fun x k => x = th + 1 ∧ 1198 * (i + 1) ≤ k ∧ k < 1198 * (i + 1) + 1198) μ0 ν ∧ ∀ k, k < j → zI ν (th + 1) (1198 * (i + 1) + k) = zI μ0 (th + 1) k) 1198 (fun n ν hν => ?_) (fun n j ν hj hν ih => ?_) 0 μ0 (Nat.zero_le _) ⟨zOff.rf, fun k hk => absurd hk (Nat.not_lt_zero _)⟩
  · obtain ⟨o, g⟩ := hν
    unfold pX4_image_20
    rw [if_pos (nI_le (Nat.le_refl _) (by decide))]
    refine ⟨vp_in_nI hi (by decide), ?_⟩
    unfold zpI
    rw [nI_clamp i1]
    have e1 : vp_nar .boolean (nI 1) = nI 1 := rfl
    rw [e1]
    have oz : zOff (fun x k => x = th + 2 ∧ k = i) ν (zsI ν (th + 2) i (nI 1)) := zOff.sI ⟨rfl, rfl⟩
    have oo : zOff (fun x k => (x = th + 1 ∧ 1198 * (i + 1) ≤ k ∧ k < 1198 * (i + 1) + 1198) ∨ (x = th + 2 ∧ k = i)) μ0 (zsI ν (th + 2) i (nI 1)) := (o.mono (fun x k q => Or.inl q)).tr (oz.mono (fun x k q => Or.inr q))
    have gg : ∀ k, k < 1198 → zI (zsI ν (th + 2) i (nI 1)) (th + 1) (1198 * (i + 1) + k) = zI μ0 (th + 1) (0 + k) := fun k hk => by rw [zI_sI, if_neg (by omega), Nat.zero_add]; exact g k hk
    obtain ⟨k1, k2, k3, k4, k5, k6, k7, k8⟩ := hh
    refine h1 _ ⟨⟨k1.1.off oo (fun k hk q => by omega), k1.2.off oo (fun k hk q => by omega)⟩, k2.off oo (fun k hk q => by omega), k3.off oo hw.d10 (fun k q1 q2 q => by omega), fun j hj => ?_, k5.off oo (fun k q => by omega) (fun k q => by omega) (fun k q => by omega), k6.off oo (by omega) (fun k q => by omega), (oo.I (by omega)).trans k7, (oo.I (by omega)).trans k8⟩
    unfold imP
    by_cases c : j = i
    · rw [if_pos c]
      refine ⟨fun e => (by cases e), fun p hp => ?_⟩
      cases hp
      subst c
      refine ⟨by rw [zI_sI, if_pos ⟨rfl, rfl⟩], k1.1.at (fun k hk => gg k (by omega)), ?_, ?_⟩
      · refine tSt.at k2 (fun k hk => ?_)
        have := gg (43 + k) (by omega)
        rw [Nat.zero_add] at this
        rw [← this, Nat.add_assoc]
      · refine tSt.at k1.2 (fun k hk => ?_)
        have := gg (20 + k) (by omega)
        rw [Nat.zero_add] at this
        rw [← this, Nat.add_assoc]
    · rw [if_neg c]
      refine ⟨fun e => (oo.I (by omega)).trans ((k4 j hj).1 e), fun p hp => ?_⟩
      obtain ⟨e1, e2, e3, e4⟩ := (k4 j hj).2 p hp
      have hji : (j = 0 ∧ i = 1) ∨ (j = 1 ∧ i = 0) := by omega
      exact ⟨(oo.I (by omega)).trans e1, e2.off oo (fun k hk q => by omega), e3.off oo (fun k hk q => by omega), e4.off oo (fun k hk q => by omega)⟩
  · obtain ⟨o, g⟩ := hν
    unfold pX4_image_20
    rw [if_neg (nI_ge hj (by decide))]
    refine ⟨v3 (by omega), ?_⟩
    rw [nI_add, pk_mul, nI_add]
    refine ⟨v3 (by omega), ?_⟩
    unfold zpI
    rw [nI_clamp (by omega), nI_clamp (by omega), nI_add]
    refine ih _ ⟨o.tr (zOff.sI ⟨rfl, by omega, by omega⟩), fun k hk => ?_⟩
    rw [zI_sI]
    by_cases c : k = j
    · subst c
      rw [if_pos ⟨rfl, rfl⟩]
      exact o.I (by omega)
    · rw [if_neg (by omega)]
      exact g k (by omega)
theorem t_restore (hw : zWf mb C X1 X dn dX im tr tn tp) (h : tR th μ C X1 X dn dX im tr tn tp f fp) {x : Int32} {Q : Int32 → zM → Prop} (h1 : ∀ i p, i < 2 → x = nI i → x.toInt = i → im i = some p → ∀ μ', tR th μ' p.1.1 p.1.2 p.2 0 dX im tr tn tp f fp → Q (nI 0) μ') (hn : ∀ i, i < 2 → x = nI i → x.toInt = i → im i = none → ∀ μ', tR th μ' C X1 X dn dX im tr tn tp f fp → Q (-5 : Int32) μ') (h0 : ¬ (0 ≤ x.toInt ∧ x.toInt ≤ 1) → ∀ μ', tR th μ' C X1 X dn dX im tr tn tp f fp → Q (-2 : Int32) μ') : pX4_restore th x μ Q := by
  refine t0 (fun μ0 o0 => ?_)
  have hh := h.off hw.d10 o0
  refine rin32 (a := 0) (b := 1) rfl rfl (fun q1 q2 => if01 ?_) (fun q => if00 (h0 q μ0 hh))
  obtain ⟨i, i1, i2, i3⟩ := i32N q1
  have hi : i < 2 := by omega
  replace h1 := fun p => h1 i p hi i2 i3
  replace hn := hn i hi i2 i3
  subst i2
  refine ⟨vp_in_nI hi (by decide), ?_⟩
  rw [nI_clamp i1]
  have hz := hh.Im i hi
  cases e : im i with
  | none =>
    rw [if_pos (hz.1 e)]
    exact hn e μ0 hh
  | some p =>
    obtain ⟨e1, e2, e3, e4⟩ := hz.2 p e
    rw [e1, if_neg nI1_ne0]
    refine zupS (W := fun n j ν => pX4_restore_32 th (nI i) Q n (nI j) ν) (fun j ν => zOff (fun x k => x = th + 1 ∧ k < 1198) μ0 ν ∧ ∀ k, k < j → zI ν (th + 1) k = zI μ0 (th + 1) (1198 * (i + 1) + k)) 1198 (fun n ν hν => ?_) (fun n j ν hj hν ih => ?_) 0 μ0 (Nat.zero_le _) ⟨zOff.rf, fun k hk => absurd hk (Nat.not_lt_zero _)⟩
    · obtain ⟨o, g⟩ := hν
      unfold pX4_restore_32
      rw [if_pos (nI_le (Nat.le_refl _) (by decide))]
      refine ⟨v3 (by decide), ?_⟩
      unfold zpI
      rw [nI_clamp (by decide)]
      have oz : zOff (fun x k => x = th + 1 ∧ k < 1198) ν (zsI ν (th + 1) 66 (nI 0)) := zOff.sI ⟨rfl, by decide⟩
      have oo := o.tr oz
      have gg : ∀ k, k < 1198 → k ≠ 66 → zI (zsI ν (th + 1) 66 (nI 0)) (th + 1) k = zI μ0 (th + 1) (1198 * (i + 1) + k) := fun k hk h66 => by rw [zI_sI, if_neg (by omega)]; exact g k hk
      obtain ⟨k1, k2, k3, k4, k5, k6, k7, k8⟩ := hh
      refine h1 p e _ ⟨⟨e2.at (fun k hk => ?_), e4.at (fun k hk => ?_)⟩, e3.at (fun k hk => ?_), ⟨by rw [zI_sI, if_pos ⟨rfl, rfl⟩], fun j hj => absurd hj (Nat.not_lt_zero _)⟩, k4.off oo (fun k q => by omega) (fun k hk q => by omega), k5.off oo (fun k q => by omega) (fun k q => by omega) (fun k q => by omega), k6.off oo (by omega) (fun k q => by omega), (oo.I (by omega)).trans k7, (oo.I (by omega)).trans k8⟩
      · rw [Nat.zero_add]
        exact gg k (by omega) (by omega)
      · rw [gg (20 + k) (by omega) (by omega), Nat.add_assoc]
      · rw [gg (43 + k) (by omega) (by omega), Nat.add_assoc]
    · obtain ⟨o, g⟩ := hν
      unfold pX4_restore_32
      rw [if_neg (nI_ge hj (by decide))]
      rw [nI_add, pk_mul, nI_add]
      refine ⟨v3 (by omega), v3 (by omega), ?_⟩
      unfold zpI
      rw [nI_clamp (by omega), nI_clamp (by omega), nI_add]
      refine ih _ ⟨o.tr (zOff.sI ⟨rfl, by omega⟩), fun k hk => ?_⟩
      rw [zI_sI]
      by_cases c : k = j
      · subst c
        rw [if_pos ⟨rfl, rfl⟩]
        exact o.I (by omega)
      · rw [if_neg (by omega)]
        exact g k (by omega)
/-! trays change -/
def trP (tr : zTy) (t : Nat) (p : zTp) : zTy := fun u => if u = t then some p else tr u
theorem w_Tra (hw : zWf mb C X1 X dn dX im tr tn tp) {t : Nat} {p : zTp} (h1 : p.1 ≤ 3) (h2 : p.2.1 ≤ 40) : zWf mb C X1 X dn dX im (trP tr t p) tn tp := by
  obtain ⟨g1, g2, g3, g4, g5, g6, g7, g8⟩ := hw
  refine ⟨g1, g2, g3, g4, g5, g6, fun u q hq => ?_, g8⟩
  unfold trP at hq
  by_cases c : u = t
  · rw [if_pos c] at hq
    cases hq
    exact ⟨h1, h2⟩
  · rw [if_neg c] at hq
    exact g7 u q hq
theorem cR.tray (h : cR z a μ C X1 X dn dX im tr tn tp f fp) {t : Nat} {p p' : zTp} {b : Nat} (ht : t < 4) (hp : tr t = some p) (hb : zR μ (z + 71 + t) 0 = some b) (h1 : p'.1 = p.1) (h2 : p'.2.1 = p.2.1) (ho : zOff (fun x _ => x = b) μ μ') (hv : ∀ k, k < p.2.1 → tval μ' b p.1 k = p'.2.2 k) : cR z a μ' C X1 X dn dX im (trP tr t p') tn tp f fp := by
  obtain ⟨k1, k2, k3, k4, k5, k6, k7, k8, k9, k10, k11, k12⟩ := h
  obtain ⟨b', b1, b2, b3, b4, b5, b6⟩ := (k7 t ht).2 p hp
  obtain rfl : b = b' := Option.some.inj (hb.symm.trans b1)
  have av : ∀ a', zty μ a' = some (.inl 1) → zfar z a' → tAv (fun x _ => x = b) μ a' := by
    intro a' ha' _
    have hd := b4 a' ha'
    refine ⟨fun k => by omega, fun i k q1 q2 => by omega, fun x hx k q => ?_⟩
    subst q
    rcases hx with hx | hx | hx <;> rw [b2] at hx <;> cases hx
  refine ⟨k1.off ho (av a k1.2.2.1 k2), k2, k3.off ho (fun k => by omega) (fun i k q1 q2 => by omega), k4.off ho, k5.off ho (by omega) (by omega) (fun x k q1 q2 => by omega), k6.off ho (fun x k q1 q2 => by omega) av, fun u hu => ?_, k8.off ho (by omega) (fun k => by omega), (ho.I (by omega)).trans k9, (ho.I (by omega)).trans k10, fun k hk => (ho.I (by omega)).trans (k11 k hk), zin.off k12 ho⟩
  unfold trP
  by_cases c : u = t
  · rw [if_pos c]
    refine ⟨fun e => (by cases e), fun q hq => ?_⟩
    cases hq
    subst c
    exact ⟨b, (ho.2.1 _ _).trans b1, by rw [ho.1, h1, h2]; exact b2, b3, fun a' ha' => b4 a' ((ho.1 a').symm.trans ha'), fun u hu hut => by rw [ho.2.1]; exact b5 u hu hut, fun k hk => by rw [h1]; exact hv k (by omega)⟩
  · rw [if_neg c]
    refine ⟨fun e => (ho.2.1 _ _).trans ((k7 u hu).1 e), fun q hq => ?_⟩
    obtain ⟨d, d1, d2, d3, d4, d5, d6⟩ := (k7 u hu).2 q hq
    have hdb : d ≠ b := fun e => d5 t ht (fun q => c q.symm) (by rw [e]; exact b1)
    refine ⟨d, (ho.2.1 _ _).trans d1, (ho.1 _).trans d2, d3, fun a' ha' => d4 a' ((ho.1 a').symm.trans ha'), fun v hv hvu => by rw [ho.2.1]; exact d5 v hv hvu, fun k hk => ?_⟩
    rw [← d6 k hk]
    unfold tval
    rw [ho.I hdb, ho.J hdb]
def Stt (th t x k : Nat) : Prop := ((x = th + 16 ∨ x = th + 17) ∧ k = t) ∨ (x = th + 18 ∧ 40 * t ≤ k ∧ k < 40 * t + 40)
theorem tR.tray (hw : zWf mb C X1 X dn dX im tr tn tp) (h : tR th μ C X1 X dn dX im tr tn tp f fp) {t : Nat} {p' : zTp} (ht : t < 4) (ho : zOff (Stt th t) μ μ') (h1 : zI μ' (th + 16) t = nI p'.1) (h2 : zI μ' (th + 17) t = nI p'.2.1) (hv : ∀ k, k < p'.2.1 → zJ μ' (th + 18) (40 * t + k) = p'.2.2 k) : tR th μ' C X1 X dn dX im (trP tr t p') tn tp f fp := by
  obtain ⟨k1, k2, k3, k4, k5, k6, k7, k8⟩ := h
  refine ⟨k1.off ho (fun k => by unfold Stt; omega), k2.off ho (fun k hk => by unfold Stt; omega), k3.off ho hw.d10 (fun k q1 q2 => by unfold Stt; omega), k4.off ho (fun k => by unfold Stt; omega) (fun k hk => by unfold Stt; omega), fun u hu => ?_, k6.off ho (by unfold Stt; omega) (fun k => by unfold Stt; omega), (ho.I (by unfold Stt; omega)).trans k7, (ho.I (by unfold Stt; omega)).trans k8⟩
  unfold trP
  by_cases c : u = t
  · rw [if_pos c]
    refine ⟨fun e => (by cases e), fun q hq => ?_⟩
    cases hq
    subst c
    exact ⟨h1, h2, hv⟩
  · rw [if_neg c]
    refine ⟨fun e => (ho.I (by unfold Stt; omega)).trans ((k5 u hu).1 e), fun q hq => ?_⟩
    obtain ⟨g1, g2, g3⟩ := (k5 u hu).2 q hq
    have h40 := (hw.trs u q hq).2
    exact ⟨(ho.I (by unfold Stt; omega)).trans g1, (ho.I (by unfold Stt; omega)).trans g2, fun k hk => (ho.J (by unfold Stt; omega)).trans (g3 k hk)⟩
theorem t_cut {so : Nat} (hso : so ≤ 3) {v : Int64} {Q : Int64 → zM → Prop} (hq : Q (cutN so v) μ) : pX4_cut th v (nI so) μ Q := by
  unfold pX4_cut
  rcases (show so = 0 ∨ so = 1 ∨ so = 2 ∨ so = 3 by omega) with rfl | rfl | rfl | rfl
  · rw [if_pos nI_0]
    exact hq
  · rw [if_neg nI1_ne0, if_pos rfl]
    exact hq
  · rw [if_neg (by decide), if_neg (by decide), if_pos rfl]
    exact hq
  · rw [if_neg (by decide), if_neg (by decide), if_neg (by decide)]
    exact hq
/-! lists -/
def lisV (C : zC) (X : zX) (so j : Nat) : Int64 := cutN so (nI (suN C (wt C X 0) (xS X) (xD X) (xM X) j)).toInt64
def lisP (C : zC) (X : zX) (p : zTp) (k : Nat) : zTp := (p.1, p.2.1, fun j => if j < k then lisV C X p.1 j else p.2.2 j)
theorem lisP_0 (p : zTp) : lisP C X p 0 = p := by
  unfold lisP
  simp
theorem trP_same {t : Nat} {p : zTp} (h : tr t = some p) : trP tr t p = tr := by
  funext u
  unfold trP
  by_cases c : u = t
  · rw [if_pos c, c, h]
  · rw [if_neg c]
theorem trP_trP {t : Nat} {p q : zTp} : trP (trP tr t p) t q = trP tr t q := by
  funext u
  unfold trP
  by_cases c : u = t
  · rw [if_pos c, if_pos c]
  · rw [if_neg c, if_neg c, if_neg c]
theorem trP_at {t : Nat} {p : zTp} : trP tr t p t = some p := if_pos rfl
theorem c_lists (hw : zWf mb C X1 X dn dX im tr tn tp) (hm : mb ≤ 80000) (h : cR z a μ C X1 X dn dX im tr tn tp f fp) {x : Int32} {Q : Int32 → zM → Prop} (hs : ∀ t p, t < 4 → x = nI t → x.toInt = t → tr t = some p → ∀ μ', cR z a μ' C X1 X dn dX im (trP tr t (lisP C X p p.2.1)) tn tp f fp → Q (nI p.2.1) μ') (hn : ∀ t, t < 4 → x = nI t → x.toInt = t → tr t = none → Q (-6 : Int32) μ) (h0 : ¬ (0 ≤ x.toInt ∧ x.toInt ≤ 3) → Q (-2 : Int32) μ) : pX0_lists z x μ Q := by
  refine c_tray h h0 (fun t ht t2 t3 => ?_)
  replace hs := fun p => hs t p ht t2 t3
  replace hn := hn t ht t2 t3
  subst t2
  have v4 : vp_in (nI t) 4 := vp_in_nI ht (by decide)
  obtain ⟨f1, f2⟩ := h.Fx.2.1 t ht
  refine ⟨v4, z + 71 + t, by rw [nI_clamp (by omega)]; exact f1, f2, ?_⟩
  have ht2 := h.Tr t ht
  cases e : tr t with
  | none =>
    rw [if_pos (ht2.1 e)]
    exact hn e
  | some p =>
    replace hs := hs p e
    have hso := (hw.trs t p e).1
    have hm40 := (hw.trs t p e).2
    obtain ⟨b, b1, _⟩ := ht2.2 p e
    rw [if_neg (by rw [b1]; intro q; cases q)]
    refine h.think (fun r μ1 o1 h1 s1 => ?_)
    refine zupS (W := fun n i ν => pX0_lists_39 z (nI t) Q n (nI i) ν) (fun i ν => cR z a ν C X1 X dn dX im (trP tr t (lisP C X p i)) tn tp f fp ∧ cSt ν (z + 11) (xgo C 0 i X) 0) p.2.1 (fun n ν hν => ?_) (fun n i ν hi hν ih => ?_) 0 μ1 (Nat.zero_le _) ⟨by rw [lisP_0, trP_same e]; exact h1, s1⟩
    · obtain ⟨hR, hS⟩ := hν
      obtain ⟨b', d1, d2, d3, d4, d5, d6⟩ := (hR.Tr t ht).2 _ trP_at
      obtain ⟨g1, g2⟩ := hR.Fx.2.1 t ht
      have g1' : zR ν (z + 70) (nI t).toNatClampNeg = some (z + 71 + t) := by rw [nI_clamp (by omega)]; exact g1
      refine ⟨v4, z + 71 + t, g1', c_many g2 d1 d2 hso ?_⟩
      show (if nI p.2.1 ≤ nI p.2.1 then _ else _)
      rw [if_pos (nI_le (Nat.le_refl _) (by omega))]
      exact ⟨v4, z + 71 + t, g1', c_many g2 d1 d2 hso (hs ν hR)⟩
    · obtain ⟨hR, hS⟩ := hν
      obtain ⟨b', d1, d2, d3, d4, d5, d6⟩ := (hR.Tr t ht).2 _ trP_at
      obtain ⟨g1, g2⟩ := hR.Fx.2.1 t ht
      have g1' : zR ν (z + 70) (nI t).toNatClampNeg = some (z + 71 + t) := by rw [nI_clamp (by omega)]; exact g1
      refine ⟨v4, z + 71 + t, g1', c_many g2 d1 d2 hso ?_⟩
      show (if nI p.2.1 ≤ nI i then _ else _)
      rw [if_neg (nI_ge hi (by omega))]
      refine ⟨v4, z + 71 + t, g1', c_puts g2 d1 d2 hso (vp_in_nI hi (by show p.2.1 < _; omega)) (fun μ2 o2 e2 => ?_)⟩
      rw [nI_clamp (by omega)] at o2 e2
      rw [hS.D] at e2
      have ob : zOff (fun x _ => x = b') ν μ2 := o2.mono (fun x k q => q.1)
      have hR2 : cR z a μ2 C X1 X dn dX im (trP tr t (lisP C X p (i + 1))) tn tp f fp := by
        have := hR.tray (p' := lisP C X p (i + 1)) ht trP_at d1 rfl rfl ob (fun k hk => ?_)
        · rwa [trP_trP] at this
        · show tval μ2 b' p.1 k = if k < i + 1 then lisV C X p.1 k else p.2.2 k
          by_cases c : k = i
          · subst c
            rw [if_pos (Nat.lt_succ_self _)]
            refine e2.trans ?_
            unfold lisV
            rw [xD_go, Nat.zero_add]
            rfl
          · have e3 : tval μ2 b' p.1 k = tval ν b' p.1 k := by
              unfold tval
              rw [o2.I (fun q => c q.2), o2.J (fun q => c q.2)]
            rw [e3]
            refine (d6 k hk).trans ?_
            show (if k < i then lisV C X p.1 k else p.2.2 k) = _
            by_cases c2 : k < i
            · rw [if_pos c2, if_pos (by omega)]
            · rw [if_neg c2, if_neg (by omega)]
      have hS2 := hS.off ob (fun k => by omega) (fun i k q1 q2 => by omega)
      have hm2 : i ≤ 40 := by omega
      refine c_sinks hR2.I hS2 hw.c (hw.x.go i) (by decide) (by omega) (fun μ3 o3 q1 q2 => ?_)
      rw [nI_add]
      exact ih μ3 ⟨hR2.off (o3.mono (fun x k q => by unfold Ss at q; unfold SC; omega)), q2⟩
theorem t_lists (hw : zWf mb C X1 X dn dX im tr tn tp) (hm : mb ≤ 80000) (h : tR th μ C X1 X dn dX im tr tn tp f fp) {x : Int32} {Q : Int32 → zM → Prop} (hs : ∀ t p, t < 4 → x = nI t → x.toInt = t → tr t = some p → ∀ μ', tR th μ' C X1 X dn dX im (trP tr t (lisP C X p p.2.1)) tn tp f fp → Q (nI p.2.1) μ') (hn : ∀ t, t < 4 → x = nI t → x.toInt = t → tr t = none → ∀ μ', tR th μ' C X1 X dn dX im tr tn tp f fp → Q (-6 : Int32) μ') (h0 : ¬ (0 ≤ x.toInt ∧ x.toInt ≤ 3) → ∀ μ', tR th μ' C X1 X dn dX im tr tn tp f fp → Q (-2 : Int32) μ') : pX4_lists th x μ Q := by
  refine t0 (fun μ0 o0 => ?_)
  have hh := h.off hw.d10 o0
  refine t_noTray hh hw (fun q => (if_neg (by decide)).mpr (h0 q μ0 hh)) (fun t ht t2 t3 e => (if_neg (by decide)).mpr (hn t ht t2 t3 e μ0 hh)) (fun t p ht t2 t3 e => if00 ?_)
  replace hs := hs t p ht t2 t3 e
  subst t2
  have v4 : vp_in (nI t) 4 := vp_in_nI ht (by decide)
  have hso := (hw.trs t p e).1
  have hm40 := (hw.trs t p e).2
  refine t_laysAll hh.M hw.c hw.x (by omega) (by decide) (fun μ1 o1 e1 => ?_)
  have h1 := hh.off hw.d10 (o1.mono (T := ST th) (fun x k q => by unfold S9 at q; unfold ST; omega))
  obtain ⟨r1, r2, r3⟩ := (h1.Tr t ht).2 p e
  refine zupS (W := fun n i ν => pX4_lists_25 th (nI t) Q n (nI i) ν) (fun i ν => zOff (Stt th t) μ1 ν ∧ zI ν (th + 16) t = nI p.1 ∧ zI ν (th + 17) t = nI p.2.1 ∧ ∀ k, k < p.2.1 → zJ ν (th + 18) (40 * t + k) = (lisP C X p i).2.2 k) p.2.1 (fun n ν hν => ?_) (fun n i ν hi hν ih => ?_) 0 μ1 (Nat.zero_le _) ⟨zOff.rf, r1, r2, fun k hk => by rw [lisP_0]; exact r3 k hk⟩
  · obtain ⟨g1, g2, g3, g4⟩ := hν
    unfold pX4_lists_25
    refine ⟨v4, ?_⟩
    rw [nI_clamp (by omega), g3, if_pos (nI_le (Nat.le_refl _) (by omega))]
    exact ⟨v4, hs ν (h1.tray hw ht g1 g2 g3 g4)⟩
  · obtain ⟨g1, g2, g3, g4⟩ := hν
    unfold pX4_lists_25
    refine ⟨v4, ?_⟩
    rw [nI_clamp (by omega), g3, if_neg (nI_ge hi (by omega))]
    refine ⟨vp_in_nI (by omega) (by decide), v4, ?_⟩
    rw [nI_clamp (by omega), g2, g1.I (show ¬ Stt th t (th + 9) i by unfold Stt; omega), e1 i (by omega)]
    refine t_cut hso ?_
    rw [pk_mul, nI_add]
    refine ⟨vp_in_nI (by omega) (by decide), ?_⟩
    unfold zpJ
    rw [nI_clamp (by omega), nI_add]
    refine ih _ ⟨g1.tr (zOff.sJ (Or.inr ⟨rfl, by omega, by omega⟩)), g2, g3, fun k hk => ?_⟩
    rw [zJ_sJ]
    show _ = if k < i + 1 then lisV C X p.1 k else p.2.2 k
    by_cases c : k = i
    · subst c
      rw [if_pos ⟨rfl, rfl⟩, if_pos (Nat.lt_succ_self _)]
      rfl
    · rw [if_neg (by omega), g4 k hk]
      show (if k < i then lisV C X p.1 k else p.2.2 k) = _
      by_cases c2 : k < i
      · rw [if_pos c2, if_pos (by omega)]
      · rw [if_neg c2, if_neg (by omega)]
end IA
