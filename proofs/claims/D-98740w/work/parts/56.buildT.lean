/-! building: the twin -/
theorem lI_mul (a b : Int) : lI a * lI b = lI (a * b) := (Int64.ofInt_mul a b).symm
def tB (th : Nat) (ν : zM) (st : zBt) : Prop := match st.1 with
  | none => zI ν th 29 = (-1 : Int32) ∧ zI ν th 30 = nI 0
  | some p => zJ ν th 31 = lI p.1 ∧ zI ν th 29 = nI p.2.1 ∧ zI ν th 30 = nI st.2 ∧ ∀ j, j < p.2.1 → zI ν (th + 12) j = nI (p.2.2 j)
section BT
variable {th : Nat} {μ μ' : zM} {C : zC} {X1 X : zX} {dn : Nat} {dX : Nat → zX} {im : zIm} {tr : zTy} {tn : Nat} {tp : Nat → Nat} {f fp : Int32} {mb : Nat} {ch : Nat → Nat} {many n : Nat}
theorem tB.off {st : zBt} {S : Nat → Nat → Prop} (h : tB th μ st) (ho : zOff S μ μ') (h1 : ∀ k, k = 29 ∨ k = 30 ∨ k = 31 → ¬ S th k) (h2 : ∀ k, ¬ S (th + 12) k) : tB th μ' st := by
  unfold tB at h ⊢
  cases hs : st.1 with
  | none =>
    rw [hs] at h
    exact ⟨(ho.I (h1 29 (by omega))).trans h.1, (ho.I (h1 30 (by omega))).trans h.2⟩
  | some p =>
    rw [hs] at h
    exact ⟨(ho.J (h1 31 (by omega))).trans h.1, (ho.I (h1 29 (by omega))).trans h.2.1, (ho.I (h1 30 (by omega))).trans h.2.2.1, fun j hj => (ho.I (h2 j)).trans (h.2.2.2 j hj)⟩
theorem t_sumOf (hM : tM th μ C X) (hC : wfC C) (hX : wfX C X mb) (hm : mb ≤ 80000) (h8 : xS X + many ≤ 8) (hm3 : many ≤ 3) (hn : n ≤ 24) (hi : inc ch many n) (hch : ∀ j, j < many → zI μ (th + 11) j = nI (ch j)) {Q : Int64 → zM → Prop} (hq : ∀ μ', zOff (S56 th) μ μ' → Q (lI (leftV C X ch many n)) μ') : pX4_sumOf th (nI n) (nI many) μ Q := by
  have h3 := hX.2.2.1
  have hS := hX.1
  have hCC := hC.2.2.1
  unfold pX4_sumOf
  refine ⟨v3 (by decide), ?_⟩
  dsimp only [znm]
  rw [nI_clamp (by decide), hM.Co, ← eO_0]
  refine t_weightOf hM hC.1 hX.1 (fun t ht => hX.O ht) (by decide) ⟨v3 (by decide), v3 (by decide), ?_⟩
  rw [nI_clamp (by decide), nI_clamp (by decide), hM.D, hM.S]
  have e0 : (-1 : Int64) * (nI many).toInt64 * (nI (kC C)).toInt64 = lI (bgS C X ch many 0 - ((many * kC C : Nat) : Int)) := by
    rw [lI_of, lI_of, nI_toInt (by omega), nI_toInt (by omega), show (-1 : Int64) = lI (-1) from rfl, lI_mul, lI_mul]
    congr 1
    rw [bgS, Int.natCast_mul, Int.neg_mul, Int.one_mul, Int.neg_mul]
    omega
  rw [e0]
  refine zupS (σ := zM) (W := fun g k ν => pX4_sumOf_46 th (nI n) (nI many) Q g (lI (bgS C X ch many k - ((many * kC C : Nat) : Int))) (nI (wt C (bgX C X ch many k).1 0)) (nI (xD (bgX C X ch many k).1)) (nI (xS (bgX C X ch many k).1)) (nI (bgX C X ch many k).2) (nI k) ν) (fun k ν => zOff (S56 th) μ ν) n (fun g ν o => ?_) (fun g k ν hk o ih => ?_) 0 μ (Nat.zero_le _) zOff.rf
  · unfold pX4_sumOf_46
    rw [if_pos (nI_le (Nat.le_refl _) (by omega))]
    exact hq ν o
  · obtain ⟨w1, w2, w3, w4⟩ := bg_wf (ch := ch) hC hX h8 k
    have fin : ∀ b Y, wfX C Y (mb + k) → xM Y = xM X + k → bgY C X ch many k = Y → bgX C X ch many (k + 1) = (xsk C 0 Y, b) → ∃ k1, pX4_sumOf_90 th (nI n) (nI many) (fun v0 v1 v2 v3 v4 v5 ν => pX4_sumOf_46 th (nI n) (nI many) Q g v0 v1 v2 v3 v4 v5 ν) Q k1 (lI (bgS C X ch many k - ((many * kC C : Nat) : Int))) (nI (wt C Y 0)) (nI (xD (bgX C X ch many k).1)) (nI (xS Y)) (nI b) (nI k) (nI 0) ν := by
      intro b Y hY hYM e1 e2
      have eD : xD (bgX C X ch many k).1 = xD Y := by
        rw [← e1]
        unfold bgY
        split
        · rfl
        · rfl
      have hYS := hY.1
      have hYD := hY.2.1
      have hwt := wt_le hC hY 0
      rw [eD]
      refine zupS (σ := Int64 × zM) (W := fun g' u s => pX4_sumOf_90 th (nI n) (nI many) (fun v0 v1 v2 v3 v4 v5 ν => pX4_sumOf_46 th (nI n) (nI many) Q g v0 v1 v2 v3 v4 v5 ν) Q g' s.1 (nI (wt C Y 0)) (nI (xD Y)) (nI (xS Y)) (nI b) (nI k) (nI u) s.2) (fun u s => s.1 = lI (bgS C X ch many k - ((many * kC C : Nat) : Int) + sumI (fun k => (payV C k (xD Y) (xM Y)).toInt) u) ∧ zOff (S56 th) μ s.2) (xS Y) (fun g' s hs => ?_) (fun g' u s hu hs ih2 => ?_) 0 (_, ν) (Nat.zero_le _) ⟨by rw [sumI, Int.add_zero]; rfl, o⟩
      · obtain ⟨s1, ν2⟩ := s
        obtain ⟨hs1, o2⟩ := hs
        dsimp only at hs1 o2
        subst hs1
        have hM2 := hM.offT (S56.T o2)
        unfold pX4_sumOf_90
        dsimp only
        rw [if_pos (nI_le (Nat.le_refl _) (by omega))]
        refine ⟨v3 (by decide), ?_⟩
        rw [nI_clamp (by decide), hM2.M, nI_add, ← hYM]
        refine t_sinksBy hM2.1 hC (by omega) hYS hYD (by omega) (fun ν3 o3 => ?_)
        have hil := inch_le (C := C) (wt C Y 0) (xS Y) (xD Y) (xM Y)
        refine t_deeper (by omega) (by omega) ?_
        rw [nI_add]
        have := ih ν3 (o2.tr o3)
        rw [e2, bgS, e1] at this
        have e5 : xD (xsk C 0 Y) = dee (xD Y) (inch C (wt C Y 0) (xS Y) (xD Y) (xM Y)) := by
          show dee (xD Y) (inch C (0 + wt C Y 0) (xS Y) (xD Y) (xM Y)) = _
          rw [Nat.zero_add]
        have e6 : bgS C X ch many k + pyA C Y - ((many * kC C : Nat) : Int) = bgS C X ch many k - ((many * kC C : Nat) : Int) + sumI (fun k => (payV C k (xD Y) (xM Y)).toInt) (xS Y) := by
          unfold pyA
          omega
        dsimp only at this
        rw [e5, e6] at this
        exact this
      · obtain ⟨s1, ν2⟩ := s
        obtain ⟨hs1, o2⟩ := hs
        dsimp only at hs1 o2
        subst hs1
        have hM2 := hM.offT (S56.T o2)
        unfold pX4_sumOf_90
        dsimp only
        rw [if_neg (nI_ge hu (by omega))]
        refine ⟨v3 (by decide), ?_⟩
        rw [nI_clamp (by decide), hM2.M, nI_add, ← hYM]
        refine t_paysOf hM2.1 hC (by omega) hYD (by omega) (fun ν3 o3 => ?_)
        rw [lI_of, lI_add, nI_add]
        refine ih2 (_, ν3) ⟨?_, o2.tr o3⟩
        dsimp only
        rw [sumI, Int.add_assoc]
        rfl
    unfold pX4_sumOf_46
    rw [if_neg (nI_ge hk (by omega))]
    by_cases c1 : (bgX C X ch many k).2 < many
    · rw [if_neg (nI_ge c1 (by omega))]
      have hcb := hi.1 _ c1
      refine ⟨vp_in_nI (by omega) (by decide), ?_⟩
      rw [nI_clamp (by omega), (o.I (show ¬ S56 th (th + 11) (bgX C X ch many k).2 by unfold S56; omega)).trans (hch _ c1)]
      by_cases c2 : ch (bgX C X ch many k).2 = k
      · rw [if_pos (by rw [c2])]
        have c : (bgX C X ch many k).2 < many ∧ ch (bgX C X ch many k).2 = k := ⟨c1, c2⟩
        refine ⟨v3 (by decide), ?_⟩
        rw [nI_clamp (by decide), (hM.offT (S56.T o)).B, nI_add, nI_add, nI_add, ← wt_bu]
        refine fin _ (xbu C (bgX C X ch many k).1) (w1.bu hC (by omega)) w4 ?_ ?_
        · unfold bgY; rw [if_pos c]
        · rw [bgX, if_pos c]
      · rw [if_neg (fun q => c2 ((nI_eq (by omega) (by omega)).mp q))]
        have c : ¬ ((bgX C X ch many k).2 < many ∧ ch (bgX C X ch many k).2 = k) := fun q => c2 q.2
        refine fin _ (bgX C X ch many k).1 w1 w4 ?_ ?_
        · unfold bgY; rw [if_neg c]
        · rw [bgX, if_neg c]
    · rw [if_pos (nI_le (by omega) (by omega))]
      have c : ¬ ((bgX C X ch many k).2 < many ∧ ch (bgX C X ch many k).2 = k) := fun q => c1 q.1
      refine fin _ (bgX C X ch many k).1 w1 w4 ?_ ?_
      · unfold bgY; rw [if_neg c]
      · rw [bgX, if_neg c]
def Sgt (th x k : Nat) : Prop := x = th + 5 ∨ x = th + 6 ∨ x = th + 11 ∨ x = th + 12 ∨ (x = th ∧ (k = 29 ∨ k = 30 ∨ k = 31))
theorem Sgt.t (ho : zOff (Sgt th) μ μ') : zOff (ST th) μ μ' := ho.mono (fun x k q => by unfold Sgt at q; unfold ST; omega)
theorem t_try (A : Nat → Int32 → Int32 → Int32 → Int32 → zM → (zM → Prop) → Prop) {s : Int} (hm3 : many ≤ 3) (l1 : -1000000000 ≤ s) (l2 : s ≤ 1000000000) (hch : ∀ j, j < many → zI μ (th + 11) j = nI (ch j)) {st : zBt} (hst : tB th μ st) (hok : okB many st) {Q : zM → Prop} (hq : ∀ μ', zOff (fun x k => x = th + 12 ∨ (x = th ∧ (k = 29 ∨ k = 30 ∨ k = 31))) μ μ' → tB th μ' (tryB s many ch st) → Q μ') : (if lg_cmp (lI s) (zJ μ th 31) = 0 then (if zI μ th 29 = (-1 : Int32) then pX4_goesBuild_41 A th (nI many) Q (lI s) μ else pX4_goesBuild_67 A th (nI many) Q (lI s) (zI μ th 30 + nI 1) μ) else pX4_goesBuild_41 A th (nI many) Q (lI s) μ) := by
  -- this one is kept
  have take : ∀ ν, zOff (fun x k => x = th ∧ k = 30) μ ν → zI ν th 30 = nI 1 → tryB s many ch st = (some (s, many, ch), 1) → pX4_goesBuild_89 A th (nI many) Q (lI s) ν := by
    intro ν o h30 e
    unfold pX4_goesBuild_89 zpJ zpI
    refine zupS (W := fun g j ν' => pX4_goesBuild_103 A th (nI many) Q g (nI j) ν') (fun j ν' => zOff (fun x k => x = th + 12) (zsI (zsJ ν th 31 (lI s)) th 29 (nI many)) ν' ∧ ∀ i, i < j → zI ν' (th + 12) i = nI (ch i)) many (fun g ν' hν => ?_) (fun g j ν' hj hν ih => ?_) 0 _ (Nat.zero_le _) ⟨zOff.rf, fun i hi => absurd hi (Nat.not_lt_zero _)⟩
    · obtain ⟨p1, p2⟩ := hν
      unfold pX4_goesBuild_103
      rw [if_pos (nI_le (Nat.le_refl _) (by omega))]
      have oz : zOff (fun x k => x = th + 12 ∨ (x = th ∧ (k = 29 ∨ k = 30 ∨ k = 31))) μ ν' := zOff.tr (b := zsI (zsJ ν th 31 (lI s)) th 29 (nI many)) (zOff.tr (b := zsJ ν th 31 (lI s)) (zOff.tr (b := ν) (o.mono (fun x k q => by omega)) (zOff.sJ (by omega))) (zOff.sI (by omega))) (p1.mono (fun x k q => Or.inl q))
      refine hq ν' oz ?_
      rw [e]
      refine ⟨?_, ?_, ?_, p2⟩
      · rw [p1.J (by omega), zJ_sI, zJ_sJ, if_pos ⟨rfl, rfl⟩]
      · rw [p1.I (by omega), zI_sI, if_pos ⟨rfl, rfl⟩]
      · rw [p1.I (by omega), zI_sI, if_neg (by omega), zI_sJ]
        exact h30
    · obtain ⟨p1, p2⟩ := hν
      have v : vp_in (nI j) 3 := vp_in_nI (by omega) (by decide)
      unfold pX4_goesBuild_103
      rw [if_neg (nI_ge hj (by omega))]
      refine ⟨v, v, ?_⟩
      unfold zpI
      rw [nI_clamp (by omega), nI_add, p1.I (show ¬ (th + 11 = th + 12) by omega), zI_sI, if_neg (by omega), zI_sJ, o.I (by omega), hch j hj]
      refine ih _ ⟨p1.tr (zOff.sI rfl), fun i hi => ?_⟩
      rw [zI_sI]
      by_cases c : i = j
      · subst c
        rw [if_pos ⟨rfl, rfl⟩]
      · rw [if_neg (fun q => c q.2)]
        exact p2 i (by omega)
  have o1 : zOff (fun x k => x = th ∧ k = 30) μ (zsI μ th 30 (nI 1)) := zOff.sI ⟨rfl, rfl⟩
  have e1 : zI (zsI μ th 30 (nI 1)) th 30 = nI 1 := by rw [zI_sI, if_pos ⟨rfl, rfl⟩]
  unfold tB at hst
  have hst0 : tryB s many ch st = match st.1 with
    | none => (some (s, many, ch), 1)
    | some p => if s < p.1 then st else if s = p.1 then (some p, st.2 + 1) else (some (s, many, ch), 1) := rfl
  cases hs : st.1 with
  | none =>
    rw [hs] at hst hst0
    dsimp only at hst0
    have go : pX4_goesBuild_41 A th (nI many) Q (lI s) μ := by
      have g59 : pX4_goesBuild_59 A th (nI many) Q (lI s) μ := by
        unfold pX4_goesBuild_59 pX4_goesBuild_67 zpI
        dsimp only
        rw [show zI (zsI μ th 30 (nI 1)) th 29 = (-1 : Int32) by rw [zI_sI, if_neg (by omega)]; exact hst.1, if_pos rfl]
        exact take _ o1 e1 hst0
      unfold pX4_goesBuild_41
      by_cases c : 0 < lg_cmp (lI s) (zJ μ th 31)
      · rw [if_pos c]
        exact g59
      · rw [if_neg c, hst.1, if_pos rfl]
        exact g59
    rw [hst.1, if_pos rfl]
    by_cases c : lg_cmp (lI s) (zJ μ th 31) = 0
    · rw [if_pos c]
      exact go
    · rw [if_neg c]
      exact go
  | some p =>
    rw [hs] at hst hst0
    dsimp only at hst0
    obtain ⟨p1, p2, p3⟩ := hok p hs
    obtain ⟨g1, g2, g3, g4⟩ := hst
    have gm : ¬ nI p.2.1 = (-1 : Int32) := nI_m1 (by omega)
    rw [g1, g2, if_neg gm]
    have o2 : ∀ v, zOff (fun x k => x = th ∧ k = 30) μ (zsI μ th 30 v) := fun v => zOff.sI ⟨rfl, rfl⟩
    by_cases c2 : s = p.1
    · rw [if_pos ((lI_eq (by omega) (by omega) (by omega) (by omega)).mpr c2)]
      rw [if_neg (by omega), if_pos c2] at hst0
      unfold pX4_goesBuild_67 zpI
      dsimp only
      rw [show zI (zsI μ th 30 (zI μ th 30 + nI 1)) th 29 = nI p.2.1 by rw [zI_sI, if_neg (by omega)]; exact g2, if_neg gm]
      rw [show zJ (zsI μ th 30 (zI μ th 30 + nI 1)) th 31 = lI p.1 from g1, if_neg (fun q => by have := (lI_lt (by omega) (by omega) (by omega) (by omega)).mp (lg_gt.mp q); omega)]
      refine hq _ ((o2 _).mono (fun x k q => by omega)) ?_
      rw [hst0]
      refine ⟨g1, ((o2 _).I (by omega)).trans g2, ?_, fun j hj => ((o2 _).I (by omega)).trans (g4 j hj)⟩
      rw [zI_sI, if_pos ⟨rfl, rfl⟩, g3, nI_add]
    · rw [if_neg (fun q => c2 ((lI_eq (by omega) (by omega) (by omega) (by omega)).mp q))]
      unfold pX4_goesBuild_41
      rw [g1]
      by_cases c1 : s < p.1
      · rw [if_neg (fun q => by have := (lI_lt (by omega) (by omega) (by omega) (by omega)).mp (lg_gt.mp q); omega), g2, if_neg gm]
        rw [if_pos c1] at hst0
        unfold pX4_goesBuild_67 zpI
        dsimp only
        rw [show zI (zsI μ th 30 (zI μ th 30)) th 29 = nI p.2.1 by rw [zI_sI, if_neg (by omega)]; exact g2, if_neg gm]
        rw [show zJ (zsI μ th 30 (zI μ th 30)) th 31 = lI p.1 from g1, if_neg (fun q => by have := (lI_lt (by omega) (by omega) (by omega) (by omega)).mp (lg_gt.mp q); omega)]
        refine hq _ ((o2 _).mono (fun x k q => by omega)) ?_
        rw [hst0]
        unfold tB
        rw [hs]
        refine ⟨g1, ((o2 _).I (by omega)).trans g2, ?_, fun j hj => ((o2 _).I (by omega)).trans (g4 j hj)⟩
        rw [zI_sI, if_pos ⟨rfl, rfl⟩, g3]
      · rw [if_neg c1, if_neg c2] at hst0
        have c3 : 0 < lg_cmp (lI s) (lI p.1) := lg_gt.mpr ((lI_lt (by omega) (by omega) (by omega) (by omega)).mpr (by omega))
        rw [if_pos c3]
        unfold pX4_goesBuild_59 pX4_goesBuild_67 zpI
        dsimp only
        rw [show zI (zsI μ th 30 (nI 1)) th 29 = nI p.2.1 by rw [zI_sI, if_neg (by omega)]; exact g2, if_neg gm]
        rw [show zJ (zsI μ th 30 (nI 1)) th 31 = lI p.1 from g1, if_pos c3]
        exact take _ o1 e1 hst0
theorem t_gB (hC : wfC C) (hX : wfX C X mb) (hm : mb ≤ 80000) (h8 : xS X + many ≤ 8) (hm3 : many ≤ 3) (hn : n ≤ 24) : ∀ d e i fr (ch : Nat → Nat) (st : zBt) (μ : zM), d ≤ e → i + d = many → fr ≤ n → inc ch i fr → tM th μ C X → (∀ j, j < i → zI μ (th + 11) j = nI (ch j)) → tB th μ st → okB many st → ∀ Q : zM → Prop, (∀ μ', zOff (Sgt th) μ μ' → tB th μ' (gB C X many n d i fr ch st) → (∀ j, j < i → zI μ' (th + 11) j = nI (ch j)) → Q μ') → pX4_goesBuild (e + 1) th (nI n) (nI many) (nI i) (nI fr) μ Q := by
  intro d
  induction d with
  | zero =>
    intro e i fr ch st μ _ hi hfr hinc hM hch hst hok Q hq
    obtain rfl : i = many := by omega
    show pX4_goesBuild_of (pX4_goesBuild e) th (nI n) (nI i) (nI i) (nI fr) μ Q
    unfold pX4_goesBuild_of
    rw [if_pos rfl]
    have hinc2 : inc ch i n := ⟨fun j hj => Nat.lt_of_lt_of_le (hinc.1 j hj) hfr, hinc.2⟩
    obtain ⟨l1, l2⟩ := leftV_bd (ch := ch) hC hX h8 hm3 hn
    refine t_sumOf hM hC hX hm h8 hm3 hn hinc2 hch (fun μ1 o1 => ?_)
    have hch1 : ∀ j, j < i → zI μ1 (th + 11) j = nI (ch j) := fun j hj => (o1.I (by unfold S56; omega)).trans (hch j hj)
    refine t_try _ hm3 l1 l2 hch1 (hst.off o1 (fun k _ => by unfold S56; omega) (fun k => by unfold S56; omega)) hok (fun μ2 o2 h2 => ?_)
    exact hq μ2 ((o1.mono (fun x k q => by unfold S56 at q; unfold Sgt; omega)).tr (o2.mono (fun x k q => by unfold Sgt; omega))) h2 (fun j hj => (o2.I (by omega)).trans (hch1 j hj))
  | succ d ih =>
    intro e i fr ch st μ he hi hfr hinc hM hch hst hok Q hq
    obtain ⟨e, rfl⟩ : ∃ e', e = e' + 1 := ⟨e - 1, by omega⟩
    show pX4_goesBuild_of (pX4_goesBuild (e + 1)) th (nI n) (nI many) (nI i) (nI fr) μ Q
    unfold pX4_goesBuild_of
    rw [if_neg (fun q => by have := (nI_eq (by omega) (by omega)).mp q; omega)]
    have key : ∀ m k st' ν, k + m = n → fr ≤ k → zOff (Sgt th) μ ν → tB th ν st' → okB many st' → (∀ j, j < i → zI ν (th + 11) j = nI (ch j)) → lpK (fun k s => gB C X many n d (i + 1) (k + 1) (upd1 ch i k) s) m k st' = gB C X many n (d + 1) i fr ch st → pX4_goesBuild_134 (pX4_goesBuild (e + 1)) th (nI n) (nI many) (nI i) Q (m + 1) (nI k) ν := by
      intro m
      induction m with
      | zero =>
        intro k st' ν hk hfk o hb _ hc he
        unfold pX4_goesBuild_134
        rw [if_pos (nI_le (by omega) (by omega))]
        refine hq ν o ?_ hc
        rw [← he]
        exact hb
      | succ m ihm =>
        intro k st' ν hk hfk o hb hok' hc he
        unfold pX4_goesBuild_134
        rw [if_neg (nI_ge (by omega) (by omega))]
        refine ⟨vp_in_nI (by omega) (by decide), ?_⟩
        unfold zpI
        rw [nI_clamp (by omega), nI_add, nI_add]
        have oz : zOff (fun x j => x = th + 11 ∧ j = i) ν (zsI ν (th + 11) i (nI k)) := zOff.sI ⟨rfl, rfl⟩
        have o2 : zOff (Sgt th) μ (zsI ν (th + 11) i (nI k)) := o.tr (oz.mono (fun x j q => by unfold Sgt; omega))
        refine ih e (i + 1) (k + 1) (upd1 ch i k) st' _ (by omega) (by omega) (by omega) (hinc.up hfk) (hM.offT (Sgt.t o2)) (fun j hj => ?_) (hb.off oz (fun k _ => by omega) (fun k => by omega)) hok' _ (fun μ2 o3 h1 h2 => ?_)
        · rw [zI_sI]
          unfold upd1
          by_cases c : j = i
          · rw [if_pos ⟨rfl, c⟩]
            rw [if_pos c]
          · rw [if_neg (fun q => c q.2)]
            rw [if_neg c]
            exact hc j (by omega)
        · refine ihm (k + 1) _ μ2 (by omega) (by omega) (o2.tr o3) h1 (gB_ok hC hX h8 hm3 hn _ _ _ _ _ hok') (fun j hj => ?_) he
          have := h2 j (by omega)
          unfold upd1 at this
          rw [if_neg (by omega)] at this
          exact this
    exact ⟨_, key (n - fr) fr st μ (by omega) (Nat.le_refl _) zOff.rf hst hok hch rfl⟩
theorem t_laysBuilding (hM : tM th μ C X) (hC : wfC C) (hX : wfX C X mb) (hm : mb ≤ 80000) (hn : n ≤ 24) {k : Nat} (hk : k ≤ 3) {Q : zM → Prop} (hq : ∀ μ', zOff (ST th) μ μ' → tB th μ' (lB C X n (min k (8 - xS X) + 1)) → okB 3 (lB C X n (min k (8 - xS X) + 1)) → Q μ') : pX4_laysBuilding th (nI n) (nI k) μ Q := by
  have hS := hX.1
  unfold pX4_laysBuilding zpI
  have oz : zOff (ST th) μ (zsI (zsI μ th 29 (-1 : Int32)) th 30 (nI 0)) := zOff.tr (b := zsI μ th 29 (-1 : Int32)) (zOff.sI (by unfold ST; omega)) (zOff.sI (by unfold ST; omega))
  refine zupS (W := fun g m ν => pX4_laysBuilding_12 th (nI n) (nI k) Q g (nI m) ν) (fun m ν => zOff (ST th) μ ν ∧ tB th ν (lB C X n m) ∧ okB (m - 1) (lB C X n m)) (min k (8 - xS X) + 1) (fun g ν hν => ?_) (fun g m ν hmm hν ih => ?_) 0 _ (Nat.zero_le _) ⟨oz, ⟨by rw [zI_sI, if_neg (by omega), zI_sI, if_pos ⟨rfl, rfl⟩], by rw [zI_sI, if_pos ⟨rfl, rfl⟩]⟩, fun p hp => by cases hp⟩
  · obtain ⟨o, h1, h2⟩ := hν
    have hM2 := hM.offT o
    unfold pX4_laysBuilding_12
    by_cases c : k < min k (8 - xS X) + 1
    · rw [if_pos (nI_lt c (by omega))]
      exact hq ν o h1 (h2.up (by omega))
    · rw [if_neg (nI_nlt (by omega) (by omega))]
      refine ⟨v3 (by decide), ?_⟩
      rw [nI_clamp (by decide), hM2.S, nI_add, if_pos (nI_lt (by omega) (by omega))]
      exact hq ν o h1 (h2.up (by omega))
  · obtain ⟨o, h1, h2⟩ := hν
    have hM2 := hM.offT o
    unfold pX4_laysBuilding_12
    rw [if_neg (nI_nlt (by omega) (by omega))]
    refine ⟨v3 (by decide), ?_⟩
    rw [nI_clamp (by decide), hM2.S, nI_add, if_neg (nI_nlt (by omega) (by decide))]
    refine t_gB hC hX hm (by omega) (by omega) hn m 3 0 0 (fun _ => 0) (lB C X n m) ν (by omega) (by omega) (Nat.zero_le _) ⟨fun j hj => absurd hj (Nat.not_lt_zero _), fun j hj => absurd hj (Nat.not_lt_zero _)⟩ hM2 (fun j hj => absurd hj (Nat.not_lt_zero _)) h1 (h2.up (by omega)) _ (fun μ2 o2 g1 g2 => ?_)
    rw [nI_add]
    exact ih μ2 ⟨o.tr (Sgt.t o2), g1, gB_ok hC hX (by omega) (by omega) hn _ _ _ _ _ (h2.up (by omega))⟩
theorem t_buildings (hw : zWf mb C X1 X dn dX im tr tn tp) (hm : mb ≤ 80000) (h : tR th μ C X1 X dn dX im tr tn tp f fp) {x y : Int32} {Q : Int32 → zM → Prop} (hq : ∀ μ', zOff (ST th) μ μ' → Q (vBls C X x y) μ') : pX4_buildings th x y μ Q := by
  unfold vBls at hq
  refine t0 (fun μ0 o0 => ?_)
  refine rin32 (a := 1) (b := 24) rfl rfl (fun q1 q2 => if01 ?_) (fun q => if00 ?_)
  · refine rin32 (a := 0) (b := 3) rfl rfl (fun q3 q4 => if01 ?_) (fun q => if00 ?_)
    · obtain ⟨n, n1, rfl, n3⟩ := i32N (show 0 ≤ x.toInt by omega)
      obtain ⟨k, k1, rfl, k3⟩ := i32N q3
      rw [if_pos (by omega), n3, Int.toNat_natCast, k3, Int.toNat_natCast] at hq
      refine t_laysBuilding (h.M.offT o0) hw.c hw.x hm (by omega) (by omega) (fun μ1 o1 hb _ => ?_)
      have e : zI μ1 th 30 = nI (lB C X n (min k (8 - xS X) + 1)).2 := by
        unfold tB at hb
        cases hs : (lB C X n (min k (8 - xS X) + 1)).1 with
        | none => exact absurd hs (lB_some _)
        | some p =>
          rw [hs] at hb
          exact hb.2.2.1
      rw [e]
      exact hq μ1 (o0.tr o1)
    · rw [if_neg (by omega)] at hq
      exact hq μ0 o0
  · rw [if_neg (by omega)] at hq
    exact hq μ0 o0
theorem t_building (hw : zWf mb C X1 X dn dX im tr tn tp) (hm : mb ≤ 80000) (h : tR th μ C X1 X dn dX im tr tn tp f fp) {x y w : Int32} {Q : Int64 → zM → Prop} (hq : ∀ μ', zOff (ST th) μ μ' → Q (vBld C X x y w) μ') : pX4_building th x y w μ Q := by
  unfold vBld at hq
  refine t0 (fun μ0 o0 => ?_)
  have body : ((0 ≤ w.toInt ∧ w.toInt ≤ 1) ∨ (10 ≤ w.toInt ∧ w.toInt ≤ 12)) → pX4_building_33 th x y w Q μ0 := by
    intro hww
    rw [if_pos hww] at hq
    refine rin32 (a := 1) (b := 24) rfl rfl (fun q1 q2 => if01 ?_) (fun q => if00 ?_)
    · refine rin32 (a := 0) (b := 3) rfl rfl (fun q3 q4 => if01 ?_) (fun q => if00 ?_)
      · obtain ⟨n, n1, rfl, n3⟩ := i32N (show 0 ≤ x.toInt by omega)
        obtain ⟨k, k1, rfl, k3⟩ := i32N q3
        rw [if_pos (by omega), n3, Int.toNat_natCast, k3, Int.toNat_natCast] at hq
        refine t_laysBuilding (h.M.offT o0) hw.c hw.x hm (by omega) (by omega) (fun μ1 o1 hb hok => ?_)
        replace hq := hq μ1 (o0.tr o1)
        unfold tB at hb
        cases hs : (lB C X n (min k (8 - xS X) + 1)).1 with
        | none => exact absurd hs (lB_some _)
        | some p =>
          rw [hs] at hb hq
          dsimp only at hq
          have hp := (hok p hs).1
          obtain ⟨g1, g2, g3, g4⟩ := hb
          obtain ⟨j, j1, rfl, j3⟩ := i32N (show 0 ≤ w.toInt by omega)
          rw [j3] at hq hww
          rw [g1, g2]
          by_cases c0 : j = 0
          · rw [if_pos (by rw [c0]; rfl)]
            rw [if_pos (by omega)] at hq
            exact hq
          rw [if_neg (nI_nz j1 c0)]
          rw [if_neg (by omega)] at hq
          by_cases c1 : j = 1
          · rw [if_pos (by rw [c1])]
            rw [if_pos (by omega)] at hq
            exact hq
          rw [if_neg (fun q => c1 ((nI_eq (by omega) (by decide)).mp q)), pk_sub (by omega)]
          rw [if_neg (by omega)] at hq
          by_cases c2 : j - 10 < p.2.1
          · rw [if_neg (nI_ge c2 (by omega))]
            rw [if_pos (by omega), show ((j : Int) - 10).toNat = j - 10 by omega] at hq
            refine ⟨vp_in_nI (by omega) (by decide), ?_⟩
            rw [nI_clamp (by omega), g4 _ c2]
            exact hq
          · rw [if_pos (nI_le (by omega) (by omega))]
            rw [if_neg (by omega)] at hq
            exact hq
      · rw [if_neg (by omega)] at hq
        exact hq μ0 o0
    · rw [if_neg (by omega)] at hq
      exact hq μ0 o0
  refine rin32 (a := 0) (b := 1) rfl rfl (fun q1 q2 => ?_) (fun q => if00 ?_)
  · exact (if_neg nI1_ne0).mpr (body (Or.inl ⟨q1, q2⟩))
  · refine rin32 (a := 10) (b := 12) rfl rfl (fun q3 q4 => ?_) (fun q5 => if00 ?_)
    · exact (if_neg nI1_ne0).mpr (body (Or.inr ⟨q3, q4⟩))
    · rw [if_neg (by omega)] at hq
      exact hq μ0 o0
end BT
