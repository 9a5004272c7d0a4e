/-! building: the component -/
def cB (z : Nat) (ν : zM) (st : zBt) : Prop := match st.1 with
  | none => zJ ν z 24 = lI (-4000000000000) ∧ zI ν z 22 = nI 0 ∧ zI ν z 23 = nI 0
  | some p => zJ ν z 24 = lI p.1 ∧ zI ν z 22 = nI p.2.1 ∧ zI ν z 23 = nI st.2 ∧ ∀ j, j < p.2.1 → zI ν (z + 64) j = nI (p.2.2 j)
section BC
variable {z a : Nat} {μ μ' : zM} {C : zC} {X1 X : zX} {dn : Nat} {dX : Nat → zX} {im : zIm} {tr : zTy} {tn : Nat} {tp : Nat → Nat} {f fp : Int32} {mb : Nat} {ch : Nat → Nat} {many n : Nat}
theorem cB.off {st : zBt} {S : Nat → Nat → Prop} (h : cB z μ st) (ho : zOff S μ μ') (h1 : ∀ k, k = 22 ∨ k = 23 ∨ k = 24 → ¬ S z k) (h2 : ∀ k, ¬ S (z + 64) k) : cB z μ' st := by
  unfold cB at h ⊢
  cases hs : st.1 with
  | none =>
    rw [hs] at h
    exact ⟨(ho.J (h1 24 (by omega))).trans h.1, (ho.I (h1 22 (by omega))).trans h.2.1, (ho.I (h1 23 (by omega))).trans h.2.2⟩
  | some p =>
    rw [hs] at h
    exact ⟨(ho.J (h1 24 (by omega))).trans h.1, (ho.I (h1 22 (by omega))).trans h.2.1, (ho.I (h1 23 (by omega))).trans h.2.2.1, fun j hj => (ho.I (h2 j)).trans (h.2.2.2 j hj)⟩
def Sl (z a x _ : Nat) : Prop := x = a + 5 ∨ (z + 11 ≤ x ∧ x ≤ z + 14)
theorem c_leftOf (hw : zWf mb C X1 X dn dX im tr tn tp) (hm : mb ≤ 80000) (h : cR z a μ C X1 X dn dX im tr tn tp f fp) (h8 : xS X + many ≤ 8) (hm3 : many ≤ 3) (hn : n ≤ 24) (hi : inc ch many n) (hch : ∀ j, j < many → zI μ (z + 63) j = nI (ch j)) {Q : Int64 → zM → Prop} (hq : ∀ μ', zOff (Sl z a) μ μ' → Q (lI (leftV C X ch many n)) μ') : pX0_leftOf z (nI many) (nI n) μ Q := by
  have hfar := h.far
  unfold zfar at hfar
  have toC : ∀ {ν}, zOff (Sl z a) μ ν → zOff (SC z a) μ ν := fun o => o.mono (fun x k q => by unfold Sl at q; unfold SC; omega)
  refine c_be h.I h.N h.I.tho (by omega) (fun μ1 o1 s1 _ => ?_)
  have e0 : lI (bgS C X ch many 0 - (((bgX C X ch many 0).2 * kC C : Nat) : Int)) = (0 : Int64) := by
    show lI (0 - ((0 * kC C : Nat) : Int)) = 0
    rw [Nat.zero_mul]
    rfl
  rw [← e0]
  refine zupS (σ := zM) (W := fun g k ν => pX0_leftOf_20 z (nI many) (nI n) Q g (lI (bgS C X ch many k - (((bgX C X ch many k).2 * kC C : Nat) : Int))) (nI (bgX C X ch many k).2) (nI k) ν) (fun k ν => zOff (Sl z a) μ ν ∧ cSt ν (z + 11) (bgX C X ch many k).1 0) n (fun g ν hν => ?_) (fun g k ν hk hν ih => ?_) 0 μ1 (Nat.zero_le _) ⟨o1.mono (fun x k q => by unfold So at q; unfold Sl; omega), s1⟩
  · unfold pX0_leftOf_20
    rw [if_pos (nI_le (Nat.le_refl _) (by omega))]
    have hb := (bg_wf (ch := ch) hw.c hw.x h8 n).2.2.1
    have e : (bgX C X ch many n).2 = many := by
      rcases bg_all (C := C) (X := X) hi with q | q
      · exact q
      · omega
    rw [e]
    exact hq ν hν.1
  · obtain ⟨o, hs⟩ := hν
    obtain ⟨w1, w2, w3, w4⟩ := bg_wf (ch := ch) hw.c hw.x h8 k
    have hR := h.off (toC o)
    have fin : ∀ s b Y ν2, zOff (Sl z a) μ ν2 → cSt ν2 (z + 11) Y 0 → wfX C Y (mb + k) → bgY C X ch many k = Y → bgX C X ch many (k + 1) = (xsk C 0 Y, b) → bgS C X ch many k - ((b * kC C : Nat) : Int) = s → pX0_leftOf_65 z (nI many) (nI n) (fun v0 v1 v2 ν => pX0_leftOf_20 z (nI many) (nI n) Q g v0 v1 v2 ν) Q (lI s) (nI b) (nI k) ν2 := by
      intro s b Y ν2 o2 hs2 hY e1 e2 e3
      unfold pX0_leftOf_65
      have hR2 := h.off (toC o2)
      refine c_paysAll (lt := 0) hR2.I hs2 hw.c hY (by omega) (Or.inl rfl) (fun r ν3 o3 hI3 hs3 er => ?_)
      refine c_sinks hI3 hs3 hw.c hY (by decide) (by omega) (fun ν4 o4 hI4 hs4 => ?_)
      rw [er, pyA_64, lI_add, nI_add]
      have := ih ν4 ⟨(o2.tr (o3.mono (fun x k q => by unfold Sw at q; unfold Sl; omega))).tr (o4.mono (fun x k q => by unfold Ss at q; unfold Sl; omega)), by rw [e2]; exact hs4⟩
      rw [e2, bgS, e1] at this
      have e4 : s + sumI (fun k => (payV C k (xD Y) (xM Y)).toInt) (xS Y) = bgS C X ch many k + pyA C Y - ((b * kC C : Nat) : Int) := by
        unfold pyA
        omega
      rw [e4]
      exact this
    unfold pX0_leftOf_20
    rw [if_neg (nI_ge hk (by omega))]
    by_cases c1 : (bgX C X ch many k).2 < many
    · rw [if_neg (nI_ge c1 (by omega))]
      have hcb := hi.1 _ c1
      refine ⟨vp_in_nI (by omega) (by decide), ?_⟩
      rw [nI_clamp (by omega), (o.I (show ¬ Sl z a (z + 63) (bgX C X ch many k).2 by unfold Sl; omega)).trans (hch _ c1)]
      by_cases c2 : ch (bgX C X ch many k).2 = k
      · rw [if_pos (by rw [c2])]
        have c : (bgX C X ch many k).2 < many ∧ ch (bgX C X ch many k).2 = k := ⟨c1, c2⟩
        have e10 : zI ν a 9 = nI (kB C) := hR.I.2.2.2.2.2.2.2.1
        refine c_builds hR.I hs e10 (by omega) (fun ν2 o2 hs2 => ?_)
        have o3 := o.tr (o2.mono (T := Sl z a) (fun x k q => by unfold So at q; unfold Sl; omega))
        have hR2 := h.off (toC o3)
        have e11 : zI ν2 a 10 = nI (kC C) := hR2.I.2.2.2.2.2.2.2.2.1
        have hCC := hw.c.2.2.1
        refine ⟨a, hR2.I.2.1, hR2.I.2.2.1, ?_⟩
        rw [e11, nI_add, lI_of, nI_toInt (by omega), lI_sub]
        refine fin _ _ (xbu C (bgX C X ch many k).1) ν2 o3 hs2 (w1.bu hw.c (by omega)) ?_ ?_ ?_
        · unfold bgY; rw [if_pos c]
        · rw [bgX, if_pos c]
        · rw [Nat.add_mul, Nat.one_mul]
          omega
      · rw [if_neg (fun q => c2 ((nI_eq (by omega) (by omega)).mp q))]
        have c : ¬ ((bgX C X ch many k).2 < many ∧ ch (bgX C X ch many k).2 = k) := fun q => c2 q.2
        refine fin _ _ (bgX C X ch many k).1 ν o hs w1 ?_ ?_ rfl
        · unfold bgY; rw [if_neg c]
        · rw [bgX, if_neg c]
    · rw [if_pos (nI_le (by omega) (by omega))]
      have c : ¬ ((bgX C X ch many k).2 < many ∧ ch (bgX C X ch many k).2 = k) := fun q => c1 q.1
      refine fin _ _ (bgX C X ch many k).1 ν o hs w1 ?_ ?_ rfl
      · unfold bgY; rw [if_neg c]
      · rw [bgX, if_neg c]
def Sg (z a x k : Nat) : Prop := x = a + 5 ∨ (z + 11 ≤ x ∧ x ≤ z + 14) ∨ x = z + 63 ∨ x = z + 64 ∨ (x = z ∧ (k = 22 ∨ k = 23 ∨ k = 24))
theorem c_tries (hw : zWf mb C X1 X dn dX im tr tn tp) (hm : mb ≤ 80000) (h : cR z a μ C X1 X dn dX im tr tn tp f fp) (h8 : xS X + many ≤ 8) (hm3 : many ≤ 3) (hn : n ≤ 24) (hi : inc ch many n) (hch : ∀ j, j < many → zI μ (z + 63) j = nI (ch j)) {st : zBt} (hst : cB z μ st) (hok : okB many st) {Q : zM → Prop} (hq : ∀ μ', zOff (Sg z a) μ μ' → cB z μ' (tryB (leftV C X ch many n) many ch st) → (∀ k, zI μ' (z + 63) k = zI μ (z + 63) k) → Q μ') : pX0_tries z (nI many) (nI n) μ Q := by
  have hfar := h.far
  unfold zfar at hfar
  obtain ⟨l1, l2⟩ := leftV_bd (ch := ch) hw.c hw.x h8 hm3 hn
  refine c_leftOf hw hm h h8 hm3 hn hi hch (fun μ1 o1 => ?_)
  have hst1 : cB z μ1 st := hst.off o1 (fun k _ => by unfold Sl; omega) (fun k => by unfold Sl; omega)
  have og : zOff (Sg z a) μ μ1 := o1.mono (fun x k q => by unfold Sl at q; unfold Sg; omega)
  have e63 : ∀ k, zI μ1 (z + 63) k = zI μ (z + 63) k := fun k => o1.I (by unfold Sl; omega)
  generalize leftV C X ch many n = s at l1 l2 hq ⊢
  -- this one is kept
  have take : ∀ ν, zOff (fun x k => x = z ∧ k = 23) μ1 ν → zI ν z 23 = nI 1 → tryB s many ch st = (some (s, many, ch), 1) → pX0_tries_58 z (nI many) Q (lI s) ν := by
    intro ν o h23 e
    unfold pX0_tries_58 zpJ zpI zpC
    have c3 : (nI 3).toNatClampNeg = 3 := by decide
    have c0 : (nI 0).toNatClampNeg = 0 := by decide
    refine ⟨⟨by decide, by decide, by decide, by decide, by decide⟩, ?_⟩
    rw [c3, c0]
    have oz : zOff (fun x k => x = z + 64 ∨ (x = z ∧ (k = 22 ∨ k = 23 ∨ k = 24))) μ1 (zcp (zsI (zsJ ν z 24 (lI s)) z 22 (nI many)) (z + 63) (z + 64) 0 0 3) := zOff.tr (b := zsI (zsJ ν z 24 (lI s)) z 22 (nI many)) (zOff.tr (b := zsJ ν z 24 (lI s)) (zOff.tr (b := ν) (o.mono (fun x k q => by omega)) (zOff.sJ (by omega))) (zOff.sI (by omega))) (zOff.cp (fun k _ _ => Or.inl rfl))
    refine hq _ (og.tr (oz.mono (fun x k q => by unfold Sg; omega))) ?_ (fun k => (oz.I (by omega)).trans (e63 k))
    rw [e]
    refine ⟨?_, ?_, ?_, fun j hj => ?_⟩
    · rw [zJ_cp, zJ_sI, zJ_sJ, if_pos ⟨rfl, rfl⟩]
    · rw [zI_cp, if_neg (by omega), zI_sI, if_pos ⟨rfl, rfl⟩]
    · rw [zI_cp, if_neg (by omega), zI_sI, if_neg (by omega), zI_sJ]
      exact h23
    · have hj : j < many := hj
      rw [zI_cp, if_pos ⟨rfl, by omega, by omega⟩, zI_sI, if_neg (by omega), zI_sJ, Nat.zero_add, Nat.sub_zero, o.I (by omega), e63 j]
      exact hch j hj
  unfold cB at hst1
  have hst0 : tryB s many ch st = match st.1 with
    | none => (some (s, many, ch), 1)
    | some p => if s < p.1 then st else if s = p.1 then (some p, st.2 + 1) else (some (s, many, ch), 1) := rfl
  cases hs : st.1 with
  | none =>
    rw [hs] at hst1 hst0
    dsimp only at hst0
    rw [hst1.1, if_pos (lg_ge.mpr (fun q => by have := (lI_lt (by omega) (by omega) (by omega) (by omega)).mp q; omega)), if_neg (fun q => by have := (lI_eq (by omega) (by omega) (by omega) (by omega)).mp q; omega)]
    unfold pX0_tries_37 zpI
    dsimp only
    rw [show zJ (zsI μ1 z 23 (nI 1)) z 24 = lI (-4000000000000) from hst1.1, if_neg (fun q => by have := (lI_eq (by omega) (by omega) (by omega) (by omega)).mp q; omega)]
    exact take _ (zOff.sI ⟨rfl, rfl⟩) (by rw [zI_sI, if_pos ⟨rfl, rfl⟩]) hst0
  | some p =>
    rw [hs] at hst1 hst0
    dsimp only at hst0
    obtain ⟨p1, p2, p3⟩ := hok p hs
    obtain ⟨g1, g2, g3, g4⟩ := hst1
    rw [g1]
    by_cases c1 : s < p.1
    · rw [if_neg (fun q => lg_ge.mp q ((lI_lt (by omega) (by omega) (by omega) (by omega)).mpr c1))]
      rw [if_pos c1] at hst0
      refine hq μ1 og ?_ e63
      rw [hst0]
      unfold cB
      rw [hs]
      exact ⟨g1, g2, g3, g4⟩
    rw [if_neg c1] at hst0
    rw [if_pos (lg_ge.mpr (fun q => c1 ((lI_lt (by omega) (by omega) (by omega) (by omega)).mp q)))]
    by_cases c2 : s = p.1
    · rw [if_pos c2] at hst0
      rw [if_pos ((lI_eq (by omega) (by omega) (by omega) (by omega)).mpr c2)]
      unfold pX0_tries_37 zpI
      dsimp only
      rw [show zJ (zsI μ1 z 23 (zI μ1 z 23 + nI 1)) z 24 = lI p.1 from g1, if_pos ((lI_eq (by omega) (by omega) (by omega) (by omega)).mpr c2)]
      rw [show zI (zsI μ1 z 23 (zI μ1 z 23 + nI 1)) z 22 = nI p.2.1 by rw [zI_sI, if_neg (by omega)]; exact g2, if_neg (nI_nlt (by omega) (by omega))]
      have oz : zOff (fun x k => x = z ∧ k = 23) μ1 (zsI μ1 z 23 (zI μ1 z 23 + nI 1)) := zOff.sI ⟨rfl, rfl⟩
      refine hq _ (og.tr (oz.mono (fun x k q => by unfold Sg; omega))) ?_ (fun k => (oz.I (by omega)).trans (e63 k))
      rw [hst0]
      refine ⟨g1, (oz.I (by omega)).trans g2, ?_, fun j hj => (oz.I (by omega)).trans (g4 j hj)⟩
      rw [zI_sI, if_pos ⟨rfl, rfl⟩, g3, nI_add]
    · rw [if_neg c2] at hst0
      rw [if_neg (fun q => c2 ((lI_eq (by omega) (by omega) (by omega) (by omega)).mp q))]
      unfold pX0_tries_37 zpI
      dsimp only
      rw [show zJ (zsI μ1 z 23 (nI 1)) z 24 = lI p.1 from g1, if_neg (fun q => c2 ((lI_eq (by omega) (by omega) (by omega) (by omega)).mp q))]
      exact take _ (zOff.sI ⟨rfl, rfl⟩) (by rw [zI_sI, if_pos ⟨rfl, rfl⟩]) hst0
theorem Sg.c (ho : zOff (Sg z a) μ μ') : zOff (SC z a) μ μ' := ho.mono (fun x k q => by unfold Sg at q; unfold SC; omega)
theorem c_gB (hw : zWf mb C X1 X dn dX im tr tn tp) (hm : mb ≤ 80000) (h8 : xS X + many ≤ 8) (hm3 : many ≤ 3) (hn : n ≤ 24) : ∀ d e i fr (ch : Nat → Nat) (st : zBt) (μ : zM), d ≤ e → i + d = many → fr ≤ n → inc ch i fr → cR z a μ C X1 X dn dX im tr tn tp f fp → (∀ j, j < i → zI μ (z + 63) j = nI (ch j)) → cB z μ st → okB many st → ∀ Q : zM → Prop, (∀ μ', zOff (Sg z a) μ μ' → cB z μ' (gB C X many n d i fr ch st) → (∀ j, j < i → zI μ' (z + 63) j = nI (ch j)) → Q μ') → pX0_goesBuilding (e + 1) z (nI i) (nI many) (nI fr) (nI n) μ Q := by
  intro d
  induction d with
  | zero =>
    intro e i fr ch st μ _ hi hfr hinc h hch hst hok Q hq
    obtain rfl : i = many := by omega
    show pX0_goesBuilding_of (pX0_goesBuilding e) z (nI i) (nI i) (nI fr) (nI n) μ Q
    unfold pX0_goesBuilding_of
    rw [if_pos rfl]
    refine c_tries hw hm h h8 hm3 hn ⟨fun j hj => Nat.lt_of_lt_of_le (hinc.1 j hj) hfr, hinc.2⟩ hch hst hok (fun μ' o1 h1 h2 => hq μ' o1 h1 (fun j hj => (h2 j).trans (hch j hj)))
  | succ d ih =>
    intro e i fr ch st μ he hi hfr hinc h hch hst hok Q hq
    obtain ⟨e, rfl⟩ : ∃ e', e = e' + 1 := ⟨e - 1, by omega⟩
    show pX0_goesBuilding_of (pX0_goesBuilding (e + 1)) z (nI i) (nI many) (nI fr) (nI n) μ Q
    unfold pX0_goesBuilding_of
    rw [if_neg (fun q => by have := (nI_eq (by omega) (by omega)).mp q; omega)]
    have hfar := h.far
    unfold zfar at hfar
    have key : ∀ m k st' ν, k + m = n → fr ≤ k → zOff (Sg z a) μ ν → cB z ν st' → okB many st' → (∀ j, j < i → zI ν (z + 63) j = nI (ch j)) → lpK (fun k s => gB C X many n d (i + 1) (k + 1) (upd1 ch i k) s) m k st' = gB C X many n (d + 1) i fr ch st → pX0_goesBuilding_16 (pX0_goesBuilding (e + 1)) z (nI i) (nI many) (nI n) Q (m + 1) (nI k) ν := by
      intro m
      induction m with
      | zero =>
        intro k st' ν hk hfk o hb _ hc he
        unfold pX0_goesBuilding_16
        rw [if_pos (nI_le (by omega) (by omega))]
        refine hq ν o ?_ hc
        rw [← he]
        exact hb
      | succ m ihm =>
        intro k st' ν hk hfk o hb hok' hc he
        unfold pX0_goesBuilding_16
        rw [if_neg (nI_ge (by omega) (by omega))]
        refine ⟨vp_in_nI (by omega) (by decide), ?_⟩
        unfold zpI
        rw [nI_clamp (by omega), nI_add, nI_add]
        have oz : zOff (fun x j => x = z + 63 ∧ j = i) ν (zsI ν (z + 63) i (nI k)) := zOff.sI ⟨rfl, rfl⟩
        have o2 : zOff (Sg z a) μ (zsI ν (z + 63) i (nI k)) := o.tr (oz.mono (fun x j q => by unfold Sg; omega))
        refine ih e (i + 1) (k + 1) (upd1 ch i k) st' _ (by omega) (by omega) (by omega) (hinc.up hfk) (h.off (Sg.c o2)) (fun j hj => ?_) (hb.off oz (fun k _ => by omega) (fun k => by omega)) hok' _ (fun μ2 o3 h1 h2 => ?_)
        · rw [zI_sI]
          unfold upd1
          by_cases c : j = i
          · rw [if_pos ⟨rfl, c⟩]
            rw [if_pos c]
          · rw [if_neg (fun q => c q.2)]
            rw [if_neg c]
            exact hc j (by omega)
        · refine ihm (k + 1) _ μ2 (by omega) (by omega) (o2.tr o3) h1 (gB_ok hw.c hw.x h8 hm3 hn _ _ _ _ _ hok') (fun j hj => ?_) he
          have := h2 j (by omega)
          unfold upd1 at this
          rw [if_neg (by omega)] at this
          exact this
    exact ⟨_, key (n - fr) fr st μ (by omega) (Nat.le_refl _) zOff.rf hst hok hch rfl⟩
theorem c_laysBuilding (hw : zWf mb C X1 X dn dX im tr tn tp) (hm : mb ≤ 80000) (h : cR z a μ C X1 X dn dX im tr tn tp f fp) (hn : n ≤ 24) {k : Nat} (hk : k ≤ 3) {Q : zM → Prop} (hq : ∀ μ', zOff (SC z a) μ μ' → cB z μ' (lB C X n (min k (8 - xS X) + 1)) → okB 3 (lB C X n (min k (8 - xS X) + 1)) → Q μ') : pX0_laysBuilding z (nI n) (nI k) μ Q := by
  have hS := hw.x.1
  unfold pX0_laysBuilding zpJ zpI
  have oz : zOff (SC z a) μ (zsI (zsI (zsJ μ z 24 (-4000000000000 : Int64)) z 22 (nI 0)) z 23 (nI 0)) := zOff.tr (b := zsI (zsJ μ z 24 (-4000000000000 : Int64)) z 22 (nI 0)) (zOff.tr (b := zsJ μ z 24 (-4000000000000 : Int64)) (zOff.sJ (by unfold SC; omega)) (zOff.sI (by unfold SC; omega))) (zOff.sI (by unfold SC; omega))
  refine zupS (W := fun g m ν => pX0_laysBuilding_19 z (nI n) (nI k) Q g (nI m) ν) (fun m ν => zOff (SC z a) μ ν ∧ cB z ν (lB C X n m) ∧ okB (m - 1) (lB C X n m)) (min k (8 - xS X) + 1) (fun g ν hν => ?_) (fun g m ν hmm hν ih => ?_) 0 _ (Nat.zero_le _) ⟨oz, ⟨by rw [zJ_sI, zJ_sI, zJ_sJ, if_pos ⟨rfl, rfl⟩, lI_m4], by rw [zI_sI, if_neg (by omega), zI_sI, if_pos ⟨rfl, rfl⟩], by rw [zI_sI, if_pos ⟨rfl, rfl⟩]⟩, fun p hp => by cases hp⟩
  · obtain ⟨o, h1, h2⟩ := hν
    have hR := h.off o
    unfold pX0_laysBuilding_19
    rw [hR.N.S, pk_sub hS]
    have e : (if nI (8 - xS X) < nI k then nI (8 - xS X) else nI k) = nI (min k (8 - xS X)) := by
      by_cases c : 8 - xS X < k
      · rw [if_pos (nI_lt c (by omega)), Nat.min_eq_right (by omega)]
      · rw [if_neg (nI_nlt (by omega) (by omega)), Nat.min_eq_left (by omega)]
    rw [e, if_pos (nI_lt (by omega) (by omega))]
    exact hq ν o h1 (h2.up (by omega))
  · obtain ⟨o, h1, h2⟩ := hν
    have hR := h.off o
    unfold pX0_laysBuilding_19
    rw [hR.N.S, pk_sub hS]
    have e : (if nI (8 - xS X) < nI k then nI (8 - xS X) else nI k) = nI (min k (8 - xS X)) := by
      by_cases c : 8 - xS X < k
      · rw [if_pos (nI_lt c (by omega)), Nat.min_eq_right (by omega)]
      · rw [if_neg (nI_nlt (by omega) (by omega)), Nat.min_eq_left (by omega)]
    rw [e, if_neg (nI_nlt (by omega) (by omega))]
    refine c_gB hw hm (by omega) (by omega) hn m 3 0 0 (fun _ => 0) (lB C X n m) ν (by omega) (by omega) (Nat.zero_le _) ⟨fun j hj => absurd hj (Nat.not_lt_zero _), fun j hj => absurd hj (Nat.not_lt_zero _)⟩ hR (fun j hj => absurd hj (Nat.not_lt_zero _)) h1 (h2.up (by omega)) _ (fun μ2 o2 g1 g2 => ?_)
    rw [nI_add]
    exact ih μ2 ⟨o.tr (Sg.c o2), g1, gB_ok hw.c hw.x (by omega) (by omega) hn _ _ _ _ _ (h2.up (by omega))⟩
def vBld (C : zC) (X : zX) (x y w : Int32) : Int64 := if (0 ≤ w.toInt ∧ w.toInt ≤ 1) ∨ (10 ≤ w.toInt ∧ w.toInt ≤ 12) then (if (1 ≤ x.toInt ∧ x.toInt ≤ 24) ∧ 0 ≤ y.toInt ∧ y.toInt ≤ 3 then (match (lB C X x.toInt.toNat (min y.toInt.toNat (8 - xS X) + 1)).1 with
  | none => 0
  | some p => if w.toInt = 0 then lI p.1 else if w.toInt = 1 then (nI p.2.1).toInt64 else if w.toInt - 10 < p.2.1 then (nI (p.2.2 (w.toInt - 10).toNat)).toInt64 else (-1 : Int64)) else (-90000000003 : Int64)) else (-90000000002 : Int64)
def vBls (C : zC) (X : zX) (x y : Int32) : Int32 := if (1 ≤ x.toInt ∧ x.toInt ≤ 24) ∧ 0 ≤ y.toInt ∧ y.toInt ≤ 3 then nI (lB C X x.toInt.toNat (min y.toInt.toNat (8 - xS X) + 1)).2 else (-3 : Int32)
theorem c_isBuilding {x y : Int32} {Q : Int32 → zM → Prop} (h1 : ∀ n k, n ≤ 24 → k ≤ 3 → x = nI n → y = nI k → x.toInt = n → y.toInt = k → 1 ≤ x.toInt → Q (nI 1) μ) (h0 : ¬ ((1 ≤ x.toInt ∧ x.toInt ≤ 24) ∧ 0 ≤ y.toInt ∧ y.toInt ≤ 3) → Q (nI 0) μ) : pX0_isBuilding z x y μ Q := by
  refine rin32 (a := 1) (b := 24) rfl rfl (fun q1 q2 => if01 ?_) (fun q => if00 (h0 (fun g => q g.1)))
  refine rin32 (a := 0) (b := 3) rfl rfl (fun q3 q4 => if01 ?_) (fun q => if00 (h0 (fun g => q g.2)))
  obtain ⟨n, n1, n2, n3⟩ := i32N (show 0 ≤ x.toInt by omega)
  obtain ⟨k, k1, k2, k3⟩ := i32N q3
  exact h1 n k (by omega) (by omega) n2 k2 n3 k3 q1
theorem c_buildings (hw : zWf mb C X1 X dn dX im tr tn tp) (hm : mb ≤ 80000) (h : cR z a μ C X1 X dn dX im tr tn tp f fp) {x y : Int32} {Q : Int32 → zM → Prop} (hq : ∀ μ', zOff (SC z a) μ μ' → Q (vBls C X x y) μ') : pX0_buildings z x y μ Q := by
  unfold vBls at hq
  refine c_isBuilding (fun n k hn hk n2 k2 n3 k3 q1 => if01 ?_) (fun q => if00 ?_)
  · rw [if_pos (by omega), n3, Int.toNat_natCast, k3, Int.toNat_natCast] at hq
    subst n2 k2
    refine c_laysBuilding hw hm h hn hk (fun μ1 o1 hb _ => ?_)
    have e : zI μ1 z 23 = nI (lB C X n (min k (8 - xS X) + 1)).2 := by
      unfold cB at hb
      cases hs : (lB C X n (min k (8 - xS X) + 1)).1 with
      | none => exact absurd hs (lB_some _)
      | some p =>
        rw [hs] at hb
        exact hb.2.2.1
    rw [e]
    exact hq μ1 o1
  · rw [if_neg q] at hq
    exact hq μ zOff.rf
theorem c_building (hw : zWf mb C X1 X dn dX im tr tn tp) (hm : mb ≤ 80000) (h : cR z a μ C X1 X dn dX im tr tn tp f fp) {x y w : Int32} {Q : Int64 → zM → Prop} (hq : ∀ μ', zOff (SC z a) μ μ' → Q (vBld C X x y w) μ') : pX0_building z x y w μ Q := by
  unfold vBld at hq
  have body : ((0 ≤ w.toInt ∧ w.toInt ≤ 1) ∨ (10 ≤ w.toInt ∧ w.toInt ≤ 12)) → pX0_building_28 z x y w Q μ := by
    intro hww
    rw [if_pos hww] at hq
    refine c_isBuilding (fun n k hn hk n2 k2 n3 k3 q1 => if01 ?_) (fun q => if00 ?_)
    · rw [if_pos (by omega), n3, Int.toNat_natCast, k3, Int.toNat_natCast] at hq
      subst n2 k2
      refine c_laysBuilding hw hm h hn hk (fun μ1 o1 hb hok => ?_)
      replace hq := hq μ1 o1
      unfold cB at hb
      cases hs : (lB C X n (min k (8 - xS X) + 1)).1 with
      | none => exact absurd hs (lB_some _)
      | some p =>
        rw [hs] at hb hq
        dsimp only at hq
        have hp := (hok p hs).1
        obtain ⟨g1, g2, g3, g4⟩ := hb
        obtain ⟨j, j1, rfl, j3⟩ := i32N (show 0 ≤ w.toInt by omega)
        rw [j3] at hq hww
        by_cases c : 2 ≤ j
        · rw [if_pos (nI_le c j1), g2, pk_sub (by omega)]
          rw [if_neg (by omega), if_neg (by omega)] at hq
          by_cases c2 : j - 10 < p.2.1
          · rw [if_neg (nI_ge c2 (by omega))]
            rw [if_pos (by omega), show ((j : Int) - 10).toNat = j - 10 by omega] at hq
            refine ⟨vp_in_nI (by omega) (by decide), ?_⟩
            rw [nI_clamp (by omega), g4 _ c2]
            exact hq
          · rw [if_pos (nI_le (by omega) (by omega))]
            rw [if_neg (by omega)] at hq
            exact hq
        · rw [if_neg (nI_ge (by omega) (by decide)), g1, g2]
          by_cases c2 : j = 0
          · rw [if_pos (by rw [c2]; rfl)]
            rw [if_pos (by omega)] at hq
            exact hq
          · rw [if_neg (nI_nz j1 c2)]
            rw [if_neg (by omega), if_pos (by omega)] at hq
            exact hq
    · rw [if_neg q] at hq
      exact hq μ zOff.rf
  refine rin32 (a := 0) (b := 1) rfl rfl (fun q1 q2 => ?_) (fun q => if00 ?_)
  · exact (if_neg nI1_ne0).mpr (body (Or.inl ⟨q1, q2⟩))
  · refine rin32 (a := 10) (b := 12) rfl rfl (fun q3 q4 => ?_) (fun q5 => if00 ?_)
    · exact (if_neg nI1_ne0).mpr (body (Or.inr ⟨q3, q4⟩))
    · rw [if_neg (by omega)] at hq
      exact hq μ zOff.rf
end BC
