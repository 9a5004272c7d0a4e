/-! rings: all move; what both answer -/
def xRo (C : zC) (X : zX) (g : Nat → Nat) : zX := (X.1, X.2.1, X.2.2.1, fun t => if t < kT C then xO X (g t) else xO X t, X.2.2.2.2)
def rgN (C : zC) (X : zX) (g : Nat → Nat) : Nat := sumN (fun t => if xO X t = xO X (g t) then 0 else 1) (kT C)
theorem cyc.inj {p : Nat → Nat} {L R : Nat → Bool} (h : cyc p L R) {t u : Nat} (ht : R t = true) (hu : R u = true) (e : p t = p u) : t = u := by
  obtain ⟨k, hk⟩ := (h.2.2 _ (h.step ht) t).mp ht
  obtain ⟨k', hk'⟩ := (h.2.2 _ (h.step ht) u).mp hu
  have e1 : iter p (k + 1) (p t) = p t := by rw [iter, hk]
  have e2 : iter p (k' + 1) (p t) = p t := by rw [iter, hk', e]
  obtain ⟨m, m1, m2, m3⟩ := per_least ⟨k + 1, by omega, e1⟩
  have z1 : (k + 1) % m = 0 := by
    rcases Nat.eq_zero_or_pos ((k + 1) % m) with q | q
    · exact q
    · exact absurd (by rw [← iter_mod m1 m2]; exact e1) (m3 _ q (Nat.mod_lt _ (by omega)))
  have z2 : (k' + 1) % m = 0 := by
    rcases Nat.eq_zero_or_pos ((k' + 1) % m) with q | q
    · exact q
    · exact absurd (by rw [← iter_mod m1 m2]; exact e2) (m3 _ q (Nat.mod_lt _ (by omega)))
  have z3 : k % m = k' % m := by
    have a1 : ((k + 1) % m + (m - 1)) % m = k % m := by
      rw [Nat.mod_add_mod, show k + 1 + (m - 1) = k + m by omega, Nat.add_mod_right]
    have a2 : ((k' + 1) % m + (m - 1)) % m = k' % m := by
      rw [Nat.mod_add_mod, show k' + 1 + (m - 1) = k' + m by omega, Nat.add_mod_right]
    rw [← a1, ← a2, z1, z2]
  rw [← hk, ← hk', iter_mod m1 m2 k, iter_mod m1 m2 k', z3]
theorem TT.perm {p : (Nat → Bool) → Nat → Nat} : ∀ (d : Nat) (L : Nat → Bool) (g : Nat → Nat) (n : Nat), TT p d L g n → (∀ t, L t = true → L (g t) = true) ∧ ∀ t u, L t = true → L u = true → g t = g u → t = u := by
  intro d
  induction d with
  | zero =>
    intro L g n h
    exact ⟨fun t ht => absurd ht (by rw [h.1 t]; decide), fun t u ht => absurd ht (by rw [h.1 t]; decide)⟩
  | succ d ih =>
    intro L g n h
    rcases h with h | ⟨R, s, m, h1, h2, h3, h4, h5⟩
    · exact ⟨fun t ht => absurd ht (by rw [h.1 t]; decide), fun t u ht => absurd ht (by rw [h.1 t]; decide)⟩
    · obtain ⟨i1, i2⟩ := ih _ _ _ h4
      have c1 : ∀ t, R t = true → R (g t) = true := fun t ht => by rw [h2 t ht]; exact h1.step ht
      refine ⟨fun t ht => ?_, fun t u ht hu e => ?_⟩
      · cases q : R t
        · exact (sMin_t.mp (i1 t (sMin_t.mpr ⟨ht, q⟩))).1
        · exact h1.2.1 _ (c1 t q)
      · cases q : R t <;> cases q2 : R u
        · exact i2 t u (sMin_t.mpr ⟨ht, q⟩) (sMin_t.mpr ⟨hu, q2⟩) e
        · have a1 := (sMin_t.mp (i1 t (sMin_t.mpr ⟨ht, q⟩))).2
          rw [e, c1 u q2] at a1
          cases a1
        · have a1 := (sMin_t.mp (i1 u (sMin_t.mpr ⟨hu, q2⟩))).2
          rw [← e, c1 t q] at a1
          cases a1
        · rw [h2 t q, h2 u q2] at e
          exact h1.inj q q2 e
theorem RG.lt {C : zC} {X : zX} {g : Nat → Nat} {n t : Nat} (h : RG C X g n) (ht : t < kT C) : g t < kT C := by
  cases e : liv C X t
  · rw [h.2 t e]; exact ht
  · exact (liv_t.mp ((TT.perm _ _ _ _ h.1).1 t e)).1
theorem wfX.ro {C : zC} {X : zX} {mb n : Nat} {g : Nat → Nat} (hC : wfC C) (hX : wfX C X mb) (h : RG C X g n) : wfX C (xRo C X g) mb := by
  have hT := hC.1
  obtain ⟨h1, h2, h3, h4, h5, h6⟩ := hX
  have hp := TT.perm _ _ _ _ h.1
  refine ⟨h1, h2, h3, h4, fun t ht => ⟨(h5 t ht).1, ?_⟩, fun t u ht hu e e0 => ?_⟩
  · show (if t < kT C then xO X (g t) else xO X t) ≤ xS X
    split
    · rename_i c
      exact (h5 (g t) (by have := h.lt c; omega)).2
    · exact (h5 t ht).2
  · have e : (if t < kT C then xO X (g t) else xO X t) = (if u < kT C then xO X (g u) else xO X u) := e
    have e0 : ¬ (if t < kT C then xO X (g t) else xO X t) = 0 := e0
    rw [if_pos ht] at e e0
    rw [if_pos hu] at e
    have e1 := h6 (g t) (g u) (h.lt ht) (h.lt hu) e e0
    cases q : liv C X t <;> cases q2 : liv C X u
    · rw [h.2 t q, h.2 u q2] at e1; exact e1
    · have a1 := h.2 t q
      rw [a1] at e0
      rw [liv_t.mpr ⟨ht, e0⟩] at q
      cases q
    · have a1 := h.2 u q2
      rw [a1] at e
      rw [e] at e0
      rw [liv_t.mpr ⟨hu, e0⟩] at q2
      cases q2
    · exact hp.2 t u q q2 e1
section RF
variable {z th a s : Nat} {μ : zM} {C : zC} {X1 X : zX} {dn : Nat} {dX : Nat → zX} {im : zIm} {tr : zTy} {tn : Nat} {tp : Nat → Nat} {f fp : Int32} {mb b0 : Nat} {g : Nat → Nat} {n : Nat}
def vByR (C : zC) (X : zX) (g : Nat → Nat) (x : Int32) : Int32 := if 0 ≤ x.toInt ∧ x.toInt < kT C then eO (xO X (g x.toInt.toNat)) else (-2 : Int32)
theorem c_byRings (hw : zWf mb C X1 X dn dX im tr tn tp) (hm : mb ≤ 90000) (h : cR z a μ C X1 X dn dX im tr tn tp f fp) (hg : RG C X g n) {x : Int32} {Q : Int32 → zM → Prop} (hq : ∀ μ', zOff (SC z a) μ μ' → Q (vByR C X g x) μ') : pX0_byRings z x μ Q := by
  unfold vByR at hq
  have hT := hw.c.1
  refine c_isTenant h.I hw.c (fun t t1 t2 t3 => if01 ?_) (fun q => if00 ?_)
  · rw [if_pos (by omega), i32_k t3] at hq
    subst t2
    refine c_laysRings h.I h.far h.N (Or.inl rfl) hw.c hw.x (by omega) hg (fun μ' o h1 h2 => ⟨vp_in_nI (by omega) (by decide), ?_⟩)
    rw [nI_clamp (by omega), h1 t t1]
    exact hq μ' (SP.c o)
  · rw [if_neg q] at hq
    exact hq μ zOff.rf
theorem c_ringsMany (hw : zWf mb C X1 X dn dX im tr tn tp) (hm : mb ≤ 90000) (h : cR z a μ C X1 X dn dX im tr tn tp f fp) (hg : RG C X g n) {Q : Int32 → zM → Prop} (hq : ∀ μ', zOff (SC z a) μ μ' → Q (nI n) μ') : pX0_ringsMany z μ Q := by
  refine c_laysRings h.I h.far h.N (Or.inl rfl) hw.c hw.x (by omega) hg (fun μ' o h1 h2 => ?_)
  rw [h2]
  exact hq μ' (SP.c o)
theorem SR.t {μ' : zM} (ho : zOff (SR th) μ μ') : zOff (ST th) μ μ' := ho.mono (fun x k q => by unfold SR at q; unfold ST; omega)
theorem t_byRings (hw : zWf mb C X1 X dn dX im tr tn tp) (hm : mb ≤ 90000) (h : tR th μ C X1 X dn dX im tr tn tp f fp) (hg : RG C X g n) {x : Int32} {Q : Int32 → zM → Prop} (hq : ∀ μ', zOff (ST th) μ μ' → Q (vByR C X g x) μ') : pX4_byRings th x μ Q := by
  unfold vByR at hq
  have hT := hw.c.1
  refine t0 (fun μ1 ho => ?_)
  have hM := h.M.offT ho
  refine u_isTenant hM hw.c (fun t t1 t2 t3 => if01 ?_) (fun q => if00 ?_)
  · rw [Int32.toInt_toInt64] at t3
    replace t2 := (i64_of_lN (by omega)).mp t2
    rw [if_pos (by omega), i32_k t3] at hq
    subst t2
    refine t_laysRings hM hw.c hw.x hm hg (fun μ' o h1 h2 => ⟨vp_in_nI (by omega) (by decide), ?_⟩)
    rw [nI_clamp (by omega), h1 t t1]
    exact hq μ' (ho.tr (SR.t o))
  · rw [Int32.toInt_toInt64] at q
    rw [if_neg q] at hq
    exact hq μ1 ho
theorem t_ringsMany (hw : zWf mb C X1 X dn dX im tr tn tp) (hm : mb ≤ 90000) (h : tR th μ C X1 X dn dX im tr tn tp f fp) (hg : RG C X g n) {Q : Int32 → zM → Prop} (hq : ∀ μ', zOff (ST th) μ μ' → Q (nI n) μ') : pX4_ringsMany th μ Q := by
  refine t0 (fun μ1 ho => ?_)
  refine t_laysRings (h.M.offT ho) hw.c hw.x hm hg (fun μ' o h1 h2 => ?_)
  rw [h2]
  exact hq μ' (ho.tr (SR.t o))
/-- all move, in a state -/
theorem c_round (hI : cIts z μ a C X1) (hf : zfar z a) (hs : cSt μ s X b0) (hsz : s = z + 7 ∨ s = z + 11) (hC : wfC C) (hX : wfX C X mb) (hm : mb ≤ 100000) (hg : RG C X g n) {Q : Int32 → zM → Prop} (hq : ∀ μ', zOff (fun x k => SP z a x k ∨ x = s + 1) μ μ' → cIts z μ' a C X1 → cSt μ' s (xRo C X g) b0 → Q (nI (rgN C X g)) μ') : pX2_round z s μ Q := by
  have hT := hC.1
  refine ⟨hs.ty, c_laysRings hI hf hs hsz hC hX hm hg (fun μ1 o1 h1 _ => ?_)⟩
  have hI1 := hI.offC hf (SP.c o1)
  have hs1 := hs.offP hI hf hsz o1
  refine zup (W := fun f i => pX2_round_12 z s Q f (nI (sumN (fun t => if xO X t = xO X (g t) then 0 else 1) i)) (nI i) μ1) (kT C) (fun f => ?_) (fun f i hi hn => ?_) 0 (Nat.zero_le _)
  · refine ⟨a, hI1.2.1, hI1.2.2.1, ?_⟩
    rw [hI1.2.2.T, if_pos (nI_le (Nat.le_refl _) (by omega))]
    refine ⟨a, hI1.2.1, hI1.2.2.1, ?_⟩
    rw [hI1.2.2.T]
    refine ⟨⟨by decide, by decide, nI_pos (by omega), ?_, ?_⟩, ?_⟩
    · rw [nI_clamp (by omega), nI_clamp (by omega)]; omega
    · rw [nI_clamp (by omega), nI_clamp (by omega)]; omega
    · unfold zpC
      rw [nI_clamp (show kT C < 2 ^ 31 by omega), nI_clamp (show 0 < 2 ^ 31 by omega)]
      have oz : zOff (fun x k => SP z a x k ∨ x = s + 1) μ1 (zcp μ1 (z + 57) (s + 1) 0 0 (kT C)) := zOff.cp (fun k _ _ => Or.inr rfl)
      have oo : zOff (fun x k => SP z a x k ∨ x = s + 1) μ (zcp μ1 (z + 57) (s + 1) 0 0 (kT C)) := (o1.mono (fun x k q => Or.inl q)).tr oz
      have hIz : cIts z (zcp μ1 (z + 57) (s + 1) 0 0 (kT C)) a C X1 := by
        have oS : zOff (fun x _ => x = s + 1) μ1 (zcp μ1 (z + 57) (s + 1) 0 0 (kT C)) := zOff.cp (fun k _ _ => rfl)
        have hd := hI1.dj hs1.ty
        refine hI1.off oS ⟨fun k q => by omega, fun i k q1 q2 q => by omega, fun x hx k q => ?_⟩
        have r1 := hI1.sarr hs1.ty 0 rfl
        dsimp only at r1 q
        subst q
        rcases hx with hx | hx | hx <;> rw [r1] at hx <;> cases hx
      refine hq _ oo hIz ⟨hs1.1, ?_, ?_, ?_, ?_, fun t ht => ?_, fun t ht => ?_, fun k hk => ?_⟩
      all_goals simp only [zI_cp]
      · rw [if_neg (by omega)]; exact hs1.S
      · rw [if_neg (by omega)]; exact hs1.D
      · rw [if_neg (by omega)]; exact hs1.M
      · rw [if_neg (by omega)]; exact hs1.B
      · show _ = eO (if t < kT C then xO X (g t) else xO X t)
        by_cases c : t < kT C
        · rw [if_pos c, if_pos ⟨trivial, by omega, by omega⟩, Nat.zero_add, Nat.sub_zero]
          exact h1 t c
        · rw [if_neg c, if_neg (by omega)]
          exact hs1.O ht
      · rw [if_neg (by omega)]; exact hs1.G ht
      · rw [if_neg (by omega)]; exact hs1.W hk
  · have hi6 : i < 6 := by omega
    have v6 : vp_in (nI i) 6 := vp_in_nI hi6 (by decide)
    have hgi := hg.lt hi
    have o8 := hX.O hi6
    have g8 := hX.O (show g i < 6 by omega)
    refine ⟨a, hI1.2.1, hI1.2.2.1, ?_⟩
    rw [hI1.2.2.T, if_neg (nI_ge hi (by omega))]
    refine ⟨v6, v6, ?_⟩
    rw [nI_clamp (by omega), hs1.O hi6, h1 i hi]
    rw [sumN] at hn
    by_cases c : xO X i = xO X (g i)
    · rw [if_pos (by rw [c]), nI_add, nI_add]
      rw [if_pos c] at hn
      exact hn
    · rw [if_neg (fun q => c ((eO_inj (by omega) (by omega)).mp q)), nI_add, nI_add]
      rw [if_neg c] at hn
      exact hn
/-- what deeds that are tried change in the twin -/
def SG (th x k : Nat) : Prop := x = th + 5 ∨ x = th + 6 ∨ x = th + 8 ∨ (x = th ∧ k = 20) ∨ (x = th + 1 ∧ 20 ≤ k ∧ k < 43)
theorem t_goesRings (hM : tM th μ C X) (hC : wfC C) (hX : wfX C X mb) (hm : mb ≤ 90000) (hg : RG C X g n) {Q : Int32 → zM → Prop} (hq : ∀ μ', zOff (SG th) μ μ' → tM th μ' C (xRo C X g) → Q (nI (rgN C X g)) μ') : pX4_goesRings th μ Q := by
  have hT := hC.1
  refine t_laysRings hM hC hX hm hg (fun μ1 o1 h1 _ => ?_)
  have hM1 := hM.offR o1
  have og : zOff (SG th) μ μ1 := o1.mono (fun x k q => by unfold SR at q; unfold SG; omega)
  refine zupS (W := fun f i ν => pX4_goesRings_8 th Q f (nI (sumN (fun t => if xO X t = xO X (g t) then 0 else 1) i)) (nI i) ν) (fun i ν => zOff (Sr th) μ1 ν ∧ (∀ t, t < 6 → zI ν (th + 1) (35 + t) = eO (if t < i then xO X (g t) else xO X t)) ∧ ∀ k, ¬ (35 ≤ k ∧ k < 35 + i) → zI ν (th + 1) k = zI μ1 (th + 1) k) (kT C) (fun f ν hν => ?_) (fun f i ν hi hν ih => ?_) 0 μ1 (Nat.zero_le _) ⟨zOff.rf, fun t ht => by rw [if_neg (Nat.not_lt_zero _)]; exact hM1.O ht, fun _ _ => rfl⟩
  · obtain ⟨p1, p2, p3⟩ := hν
    unfold pX4_goesRings_8
    refine ⟨v3 (by decide), ?_⟩
    rw [nI_clamp (by decide), p3 1 (by omega), hM1.T, if_pos (nI_le (Nat.le_refl _) (by omega))]
    refine hq ν (og.tr (p1.mono (fun x k q => by unfold Sr at q; unfold SG; omega))) ⟨hM1.1.off p1 (fun k hk q => by unfold Sr at q; omega), ?_, fun k hk => ?_, fun t ht => ?_, fun t ht => ?_, ?_, ?_⟩
    · exact (p3 _ (by omega)).trans hM1.2.1
    · exact (p3 _ (by omega)).trans (hM1.2.2.1 k hk)
    · exact (p3 _ (by omega)).trans (hM1.2.2.2.1 t ht)
    · rw [show 20 + 15 + t = 35 + t by omega]
      exact p2 t ht
    · exact (p3 _ (by omega)).trans hM1.2.2.2.2.2.1
    · exact (p3 _ (by omega)).trans hM1.2.2.2.2.2.2
  · obtain ⟨p1, p2, p3⟩ := hν
    have hi6 : i < 6 := by omega
    have v6 : vp_in (nI i) 6 := vp_in_nI hi6 (by decide)
    have v35 : vp_in (nI 35 + nI i) 3594 := zin2 (by omega) (by decide)
    have hgi := hg.lt hi
    have o8 := hX.O hi6
    have g8 := hX.O (show g i < 6 by omega)
    have e8 : zI ν (th + 8) i = eO (xO X (g i)) := (p1.I (by unfold Sr; omega)).trans (h1 i hi)
    unfold pX4_goesRings_8
    refine ⟨v3 (by decide), ?_⟩
    rw [nI_clamp (by decide), p3 1 (by omega), hM1.T, if_neg (nI_ge hi (by omega))]
    refine ⟨v35, v6, ?_⟩
    rw [zcl2 (by omega), nI_clamp (show i < 2 ^ 31 by omega), p2 i hi6, if_neg (Nat.lt_irrefl i), e8]
    have fin : ∀ b, (if xO X i = xO X (g i) then 0 else 1) = b → pX4_goesRings_42 th (fun v0 v1 ν => pX4_goesRings_8 th Q f v0 v1 ν) Q (nI i) (nI b) (nI (sumN (fun t => if xO X t = xO X (g t) then 0 else 1) i)) ν := by
      intro b hb
      refine ⟨v6, v35, ?_⟩
      unfold zpI
      rw [zcl2 (by omega), nI_clamp (show i < 2 ^ 31 by omega), e8, nI_add, nI_add]
      have e : sumN (fun t => if xO X t = xO X (g t) then 0 else 1) (i + 1) = sumN (fun t => if xO X t = xO X (g t) then 0 else 1) i + b := by rw [sumN, hb]
      rw [← e]
      refine ih _ ⟨p1.tr (zOff.sI ⟨rfl, by omega, by omega⟩), fun t ht => ?_, fun k hk => ?_⟩
      · rw [zI_sI]
        by_cases c : t = i
        · subst c
          rw [if_pos ⟨rfl, rfl⟩, if_pos (Nat.lt_succ_self _)]
        · rw [if_neg (by omega), p2 t ht]
          by_cases c2 : t < i
          · rw [if_pos c2, if_pos (by omega)]
          · rw [if_neg c2, if_neg (by omega)]
      · rw [zI_sI, if_neg (by omega)]
        exact p3 k (by omega)
    by_cases c : xO X i = xO X (g i)
    · rw [if_pos (by rw [c])]
      exact fin 0 (by rw [if_pos c])
    · rw [if_neg (fun q => c ((eO_inj (by omega) (by omega)).mp q))]
      exact fin 1 (by rw [if_neg c])
end RF
