/-! marks: the component -/
section MK
variable {z th a s : Nat} {μ μ' : zM} {C : zC} {X1 X : zX} {dn : Nat} {dX : Nat → zX} {im : zIm} {tr : zTy} {tn : Nat} {tp : Nat → Nat} {f fp : Int32} {mb : Nat}
def Sk (z a x _ : Nat) : Prop := x = a + 5 ∨ (z + 11 ≤ x ∧ x ≤ z + 14) ∨ x = z + 65 ∨ x = z + 66
theorem Sk.c (ho : zOff (Sk z a) μ μ') : zOff (SC z a) μ μ' := ho.mono (fun x k q => by unfold Sk at q; unfold SC; omega)
theorem Sj.k (ho : zOff (Sj z a) μ μ') : zOff (Sk z a) μ μ' := ho.mono (fun x k q => by unfold Sj at q; unfold Sk; omega)
theorem c_laysHidden (h : cR z a μ C X1 X dn dX im tr tn tp f fp) (hw : zWf mb C X1 X dn dX im tr tn tp) {t : Nat} {p : zTp} (ht : t < 4) (hp : tr t = some p) (hs : mSh p) (hl : mAl p) {Q : Int32 → zM → Prop} (hq : ∀ μ', zOff (Sk z a) μ μ' → (∀ h, h < 1000 → fitB C X1 p h = true → zI μ' (z + 66) (cntF C X1 p h) = nI h) → Q (nI (cntF C X1 p 1000)) μ') : pX0_laysHidden z (z + 71 + t) μ Q := by
  have hfar := h.far
  unfold zfar at hfar
  have hso := (hw.trs t p hp).1
  have hm40 := (hw.trs t p hp).2
  refine ⟨(h.Fx.2.1 t ht).2, ?_⟩
  refine zupS (W := fun g hd ν => pX0_laysHidden_4 z (z + 71 + t) Q g (nI (cntF C X1 p hd)) (nI hd) ν) (fun hd ν => zOff (Sk z a) μ ν ∧ ∀ h, h < hd → fitB C X1 p h = true → zI ν (z + 66) (cntF C X1 p h) = nI h) 1000 (fun g ν hν => ?_) (fun g hd ν hhd hν ih => ?_) 0 μ (Nat.zero_le _) ⟨zOff.rf, fun h hh => absurd hh (Nat.not_lt_zero _)⟩
  · unfold pX0_laysHidden_4
    rw [if_pos (by decide)]
    exact hq ν hν.1 hν.2
  · obtain ⟨p1, p2⟩ := hν
    have hR := h.off (Sk.c p1)
    have hcl := cntF_le (C := C) (X1 := X1) (p := p) hd
    unfold pX0_laysHidden_4
    rw [if_neg (nI_nlt (by omega) (by decide))]
    refine c_laysSunkH hw hR (by omega) (fun ν1 o1 e65 => ?_)
    have hR1 := hR.off (Sj.c o1)
    have p1' := p1.tr (Sj.k o1)
    obtain ⟨b, b1, b2, _, _, _, b6⟩ := (hR1.Tr t ht).2 p hp
    have b0 := (hR1.Fx.2.1 t ht).2
    have st : ∀ k, (if fitsN C X1 p hd k = true then (1 : Nat) else 0) = 0 ∨ (if fitsN C X1 p hd k = true then (1 : Nat) else 0) = 1 := fun k => by split <;> omega
    refine zup (W := fun g' k => pX0_laysHidden_22 z (z + 71 + t) (fun v0 v1 ν => pX0_laysHidden_4 z (z + 71 + t) Q g v0 v1 ν) Q g' (nI (cntF C X1 p hd)) (nI hd) (nI (if fitsN C X1 p hd k = true then 1 else 0)) (nI k) ν1) (p.2.1 / 2) (fun g' => ?_) (fun g' k hk hn => ?_) 0 (Nat.zero_le _)
    · unfold pX0_laysHidden_22
      refine c_many b0 b1 b2 hso ?_
      rw [pk_div (by omega) (by decide) (by decide), if_pos (nI_le (Nat.le_refl _) (by omega)), nI_add, nI_add]
      by_cases c : fitsN C X1 p hd (p.2.1 / 2) = true
      · rw [if_pos c, if_neg nI1_ne0]
        refine ⟨vp_in_nI (by omega) (by decide), ?_⟩
        unfold zpI
        rw [nI_clamp (by omega)]
        have oz : zOff (Sk z a) ν1 (zsI ν1 (z + 66) (cntF C X1 p hd) (nI hd)) := zOff.sI (by unfold Sk; omega)
        have ih := ih _ ⟨p1'.tr oz, fun h hh hf => ?_⟩
        · rw [cntF, if_pos (show fitB C X1 p hd = true from c)] at ih
          exact ih
        · rw [zI_sI]
          by_cases e : h = hd
          · subst e
            rw [if_pos ⟨rfl, rfl⟩]
          · have := cntF_lt hf (show h < hd by omega)
            rw [if_neg (by omega), o1.I (by unfold Sj; omega)]
            exact p2 h (by omega) hf
      · rw [if_neg c, if_pos nI_0]
        have ih := ih ν1 ⟨p1', fun h hh hf => ?_⟩
        · rw [cntF, if_neg (show ¬ fitB C X1 p hd = true from c)] at ih
          exact ih
        · have e : h ≠ hd := fun e => c (by rw [e] at hf; exact hf)
          rw [o1.I (by unfold Sj; omega)]
          exact p2 h (by omega) hf
    · unfold pX0_laysHidden_22
      refine c_many b0 b1 b2 hso ?_
      rw [pk_div (by omega) (by decide) (by decide), if_neg (nI_ge hk (by omega)), nI_add]
      rw [fitsN] at hn
      by_cases c : fitsN C X1 p hd k = true
      · rw [if_pos c, if_neg nI1_ne0]
        refine c_fitsMark hR1 hw ht hp hs hl hk e65 ?_
        rw [c, Bool.true_and] at hn
        by_cases c2 : ftN C X1 p hd k = true
        · rw [if_pos c2] at hn
          rw [if_pos c2, if_neg nI1_ne0]
          exact hn
        · rw [if_neg c2] at hn
          rw [if_neg c2, if_pos nI_0]
          exact hn
      · rw [if_neg c, if_pos nI_0]
        rw [if_neg (by rw [Bool.and_eq_true]; exact fun q => c q.1)] at hn
        exact hn
noncomputable def vMrk (C : zC) (X1 : zX) (tr : zTy) (x : Int32) : Int32 := mAns tr x (fun p => nI (cntF C X1 p 1000))
noncomputable def hidA (C : zC) (X1 : zX) (y : Int32) (p : zTp) : Int32 := if 0 ≤ y.toInt then (if y.toInt < cntF C X1 p 1000 then nI (hidV C X1 p y.toInt.toNat) else (-1 : Int32)) else (-3 : Int32)
noncomputable def vHid (C : zC) (X1 : zX) (tr : zTy) (x y : Int32) : Int32 := mAns tr x (hidA C X1 y)
noncomputable def fmR (C : zC) (X1 : zX) (p : zTp) : Nat → Nat → Int32
  | 0, _ => (-1 : Int32)
  | d + 1, k => @ite Int32 (∃ h, h < 1000 ∧ ftN C X1 p h k = true) (Classical.propDecidable _) (fmR C X1 p d (k + 1)) (nI k)
noncomputable def vFal (C : zC) (X1 : zX) (tr : zTy) (x : Int32) : Int32 := mAns tr x (fun p => fmR C X1 p (p.2.1 / 2) 0)
theorem c_marks (hw : zWf mb C X1 X dn dX im tr tn tp) (h : cR z a μ C X1 X dn dX im tr tn tp f fp) {x : Int32} {Q : Int32 → zM → Prop} (hq : ∀ μ', zOff (SC z a) μ μ' → Q (vMrk C X1 tr x) μ') : pX0_marks z x μ Q := by
  unfold vMrk at hq
  refine c_marksFault hw h (fun t p ht t2 t3 e hs hl => if00 ?_) (fun r hr hg => ?_)
  · rw [mAns_g ht t3 e hs hl] at hq
    subst t2
    refine ⟨vp_in_nI ht (by decide), z + 71 + t, by rw [nI_clamp (by omega)]; exact (h.Fx.2.1 t ht).1, ?_⟩
    exact c_laysHidden h hw ht e hs hl (fun μ1 o1 _ => hq μ1 (Sk.c o1))
  · rw [hg] at hq
    rw [if_neg hr]
    exact hq μ zOff.rf
theorem c_hidden (hw : zWf mb C X1 X dn dX im tr tn tp) (h : cR z a μ C X1 X dn dX im tr tn tp f fp) {x y : Int32} {Q : Int32 → zM → Prop} (hq : ∀ μ', zOff (SC z a) μ μ' → Q (vHid C X1 tr x y) μ') : pX0_hidden z x y μ Q := by
  unfold vHid at hq
  refine c_marksFault hw h (fun t p ht t2 t3 e hs hl => if00 ?_) (fun r hr hg => ?_)
  · rw [mAns_g ht t3 e hs hl] at hq
    unfold hidA at hq
    subst t2
    by_cases c : 0 ≤ y.toInt
    · rw [if_pos c] at hq
      rw [if_pos (by rw [Int32.le_iff_toInt_le]; simpa using c)]
      obtain ⟨k, k1, rfl, k3⟩ := i32N c
      rw [k3, Int.toNat_natCast] at hq
      unfold pX0_hidden_17
      rw [if_pos nI_0]
      refine ⟨vp_in_nI ht (by decide), z + 71 + t, by rw [nI_clamp (by omega)]; exact (h.Fx.2.1 t ht).1, ?_⟩
      have hcl := cntF_le (C := C) (X1 := X1) (p := p) 1000
      refine c_laysHidden h hw ht e hs hl (fun μ1 o1 e66 => ?_)
      replace hq := hq μ1 (Sk.c o1)
      by_cases c2 : k < cntF C X1 p 1000
      · rw [if_pos (by omega)] at hq
        rw [if_neg (nI_ge c2 (by omega))]
        obtain ⟨h', a1, a2, a3, a4⟩ := hidV_ex 1000 (Nat.le_refl _) c2
        refine ⟨vp_in_nI (by omega) (by decide), ?_⟩
        have e2 := e66 h' a1 a2
        rw [a3] at e2
        rw [nI_clamp (by omega), e2, ← a4]
        exact hq
      · rw [if_neg (by omega)] at hq
        rw [if_pos (nI_le (by omega) (by omega))]
        exact hq
    · rw [if_neg c] at hq
      rw [if_neg (by rw [Int32.le_iff_toInt_le]; simpa using c)]
      unfold pX0_hidden_17
      rw [if_neg (by decide)]
      exact hq μ zOff.rf
  · rw [hg] at hq
    rw [if_neg hr]
    unfold pX0_hidden_17
    rw [if_neg hr]
    exact hq μ zOff.rf
theorem c_falseMark (hw : zWf mb C X1 X dn dX im tr tn tp) (h : cR z a μ C X1 X dn dX im tr tn tp f fp) {x : Int32} {Q : Int32 → zM → Prop} (hq : ∀ μ', zOff (SC z a) μ μ' → Q (vFal C X1 tr x) μ') : pX0_falseMark z x μ Q := by
  unfold vFal at hq
  refine c_marksFault hw h (fun t p ht t2 t3 e hs hl => if00 ?_) (fun r hr hg => ?_)
  · rw [mAns_g ht t3 e hs hl] at hq
    subst t2
    have hso := (hw.trs t p e).1
    have hm40 := (hw.trs t p e).2
    refine ⟨vp_in_nI ht (by decide), z + 71 + t, by rw [nI_clamp (by omega)]; exact (h.Fx.2.1 t ht).1, ?_⟩
    have key : ∀ d k ν, k + d = p.2.1 / 2 → zOff (SC z a) μ ν → (∀ μ', zOff (SC z a) μ μ' → Q (fmR C X1 p d k) μ') → pX0_falseMark_22 z Q (d + 1) (z + 71 + t) (nI k) ν := by
      intro d
      induction d with
      | zero =>
        intro k ν hk o hq
        have hR := h.off o
        obtain ⟨b, b1, b2, _, _, _, b6⟩ := (hR.Tr t ht).2 p e
        unfold pX0_falseMark_22
        refine c_many (hR.Fx.2.1 t ht).2 b1 b2 hso ?_
        rw [pk_div (by omega) (by decide) (by decide), if_pos (nI_le (by omega) (by omega))]
        exact hq ν o
      | succ d ih =>
        intro k ν hk o hq
        have hR := h.off o
        obtain ⟨b, b1, b2, _, _, _, b6⟩ := (hR.Tr t ht).2 p e
        unfold pX0_falseMark_22
        refine c_many (hR.Fx.2.1 t ht).2 b1 b2 hso ?_
        rw [pk_div (by omega) (by decide) (by decide), if_neg (nI_ge (by omega) (by omega)), nI_add]
        rw [fmR] at hq
        refine ⟨(hR.Fx.2.1 t ht).2, ?_⟩
        have any : ∀ d2 hd ν2, hd + d2 = 1000 → zOff (SC z a) μ ν2 → (∀ h, h < hd → ftN C X1 p h k = false) → pX0_fitsAny_2 z (z + 71 + t) (nI k) (fun r4 μ3 => if r4 = 0 then Q (nI k) μ3 else pX0_falseMark_22 z Q (d + 1) (z + 71 + t) (nI (k + 1)) μ3) (d2 + 1) (nI hd) ν2 := by
          intro d2
          induction d2 with
          | zero =>
            intro hd ν2 hhd o2 hno
            unfold pX0_fitsAny_2
            rw [if_pos (nI_lt (by omega) (by omega))]
            refine if00 ?_
            rw [if_neg (by
              rintro ⟨h', a1, a2⟩
              rw [hno h' (by omega)] at a2
              cases a2)] at hq
            exact hq ν2 o2
          | succ d2 ih2 =>
            intro hd ν2 hhd o2 hno
            unfold pX0_fitsAny_2
            rw [if_neg (nI_nlt (by omega) (by decide))]
            have hR2 := h.off o2
            refine c_laysSunkH hw hR2 (by omega) (fun ν3 o3 e65 => ?_)
            have hR3 := hR2.off (Sj.c o3)
            refine c_fitsMark hR3 hw ht e hs hl (by omega) e65 ?_
            by_cases c2 : ftN C X1 p hd k = true
            · rw [if_pos c2, if_neg nI1_ne0]
              rw [if_pos ⟨hd, by omega, c2⟩] at hq
              refine (if_neg nI1_ne0).mpr ?_
              exact ih (k + 1) ν3 (by omega) (o2.tr (Sj.c o3)) hq
            · rw [if_neg c2, if_pos nI_0, nI_add]
              refine ih2 (hd + 1) ν3 (by omega) (o2.tr (Sj.c o3)) (fun h' hh' => ?_)
              by_cases c3 : h' = hd
              · rw [c3]
                exact Bool.eq_false_iff.mpr c2
              · exact hno h' (by omega)
        exact ⟨_, any 1000 0 ν (by omega) o (fun h hh => absurd hh (Nat.not_lt_zero _))⟩
    exact ⟨_, key (p.2.1 / 2) 0 μ (by omega) zOff.rf hq⟩
  · rw [hg] at hq
    rw [if_neg hr]
    exact hq μ zOff.rf
end MK
