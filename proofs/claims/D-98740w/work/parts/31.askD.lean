/-! questions: paid, share, heaviest, bears -/
def hvN (g : Nat → Int32) : Nat → Nat → Int32 → Int32 → Int32
  | 0, _, b, _ => b
  | d + 1, t, b, m => if m < g t then hvN g d (t + 1) (nI t) (g t) else hvN g d (t + 1) b m
def beN (g : Nat → Int32) (x : Int32) : Nat → Int32
  | 0 => -1
  | d + 1 => if x < g d then beN g x d else nI d
def shr (C : zC) (X : zX) (n t : Nat) : Int32 := nI (suX C X n) - nI (suN C (wt C X (t + 1)) (xS X) (xD X) (xM X) n)
def beG (C : zC) (X : zX) (n w : Nat) : Int32 := nI (suN C (w + wt C X 0) (xS X) (xD X) (xM X) n) - nI (xD X)
def vPad (C : zC) (X : zX) (x : Int32) : Int64 := if 1 ≤ x.toInt ∧ x.toInt ≤ 600 then s64 (fun i => s64 (pdK C (xgo C 0 i X) 1) (xS X)) x.toInt.toNat else (-90000000003 : Int64)
theorem pdK_go (C : zC) (X : zX) (i k : Nat) : pdK C (xgo C 0 i X) 1 k = if who C X k = 0 then 0 else (payV C k (suX C X i) (xM X + i)).toInt64 := by
  unfold pdK
  rw [who_go, xD_go0, xM_go]
  by_cases c : who C X k = 0
  · rw [if_pos ⟨rfl, c⟩, if_pos c]
  · rw [if_neg (fun q => c q.2), if_neg c]
section QD
variable {z th a s : Nat} {μ : zM} {C : zC} {X1 X : zX} {dn : Nat} {dX : Nat → zX} {im : zIm} {tr : zTy} {tn : Nat} {tp : Nat → Nat} {f fp : Int32} {mb b : Nat}
theorem c_paid (hw : zWf mb C X1 X dn dX im tr tn tp) (hm : mb ≤ 90000) (h : cR z a μ C X1 X dn dX im tr tn tp f fp) {x : Int32} {Q : Int64 → zM → Prop} (hq : ∀ μ', zOff (SC z a) μ μ' → Q (vPad C X x) μ') : pX0_paid z x μ Q := by
  unfold vPad at hq
  refine rin32 (a := 1) (b := 600) rfl rfl (fun q1 q2 => if01 ?_) (fun q => if00 ?_)
  · obtain ⟨n, n1, n2, n3⟩ := i32N (show 0 ≤ x.toInt by omega)
    rw [if_pos ⟨q1, q2⟩, i32_k n3] at hq
    subst n2
    refine c_tho h.I h.far h.N (fun μ1 ho hI _ hT => ?_)
    refine zupS (W := fun fu i (p : Int64 × zM) => pX0_paid_33 z (nI n) Q fu p.1 (nI i) p.2) (fun i p => p.1 = s64 (fun i => s64 (pdK C (xgo C 0 i X) 1) (xS X)) i ∧ zOff (SC z a) μ p.2 ∧ cIts z p.2 a C X1 ∧ cSt p.2 (z + 11) (xgo C 0 i X) 0) n (fun fu p hp => ?_) (fun fu i p hi hp ih => ?_) 0 (0, μ1) (Nat.zero_le _) ⟨rfl, ho, hI, hT⟩
    · unfold pX0_paid_33
      rw [if_pos (nI_le (Nat.le_refl _) (by omega)), hp.1]
      exact hq _ hp.2.1
    · obtain ⟨p1, p2, p3, p4⟩ := hp
      unfold pX0_paid_33
      rw [if_neg (nI_ge (by omega) (by omega))]
      refine c_paysAll (lt := 1) p3 p4 hw.c (hw.x.go i) (by omega) (Or.inr rfl) (fun r μ2 o2 g1 g2 er => ?_)
      refine c_sinks g1 g2 hw.c (hw.x.go i) (by decide) (by omega) (fun μ3 o3 g3 g4 => ?_)
      rw [nI_add]
      refine ih (_, μ3) ⟨?_, (p2.tr (Sw.c o2)).tr (Ss.tho o3), g3, g4⟩
      rw [p1, er, xS_go]
      rfl
  · rw [if_neg q] at hq
    exact hq μ zOff.rf
theorem t_paid (hw : zWf mb C X1 X dn dX im tr tn tp) (hm : mb ≤ 90000) (h : tR th μ C X1 X dn dX im tr tn tp f fp) {x : Int32} {Q : Int64 → zM → Prop} (hq : ∀ μ', zOff (ST th) μ μ' → Q (vPad C X x) μ') : pX4_paid th x μ Q := by
  unfold vPad at hq
  have hS := hw.x.1
  have h3 := hw.x.2.2.1
  have hT := hw.c.1
  refine t0 (fun μ1 ho => ?_)
  refine rin32 (a := 1) (b := 600) rfl rfl (fun q1 q2 => if01 ?_) (fun q => if00 ?_)
  · obtain ⟨n, n1, n2, n3⟩ := i32N (show 0 ≤ x.toInt by omega)
    rw [if_pos ⟨q1, q2⟩, i32_k n3] at hq
    subst n2
    refine t_ahead hw hm (h.M.offT ho) ho (by omega) (fun μ2 ho2 hM hk => ?_)
    refine zupS (W := fun fu i (p : Int64 × zM) => pX4_paid_31 th (nI n) Q fu p.1 (nI i) p.2) (fun i p => p.1 = s64 (fun i => s64 (pdK C (xgo C 0 i X) 1) (xS X)) i ∧ zOff (S56 th) μ2 p.2) n (fun fu p hp => ?_) (fun fu i p hi hp ih => ?_) 0 (0, μ2) (Nat.zero_le _) ⟨rfl, zOff.rf⟩
    · unfold pX4_paid_31
      rw [if_pos (nI_le (Nat.le_refl _) (by omega)), hp.1]
      exact hq _ (ho2.tr (S56.T hp.2))
    · unfold pX4_paid_31
      rw [if_neg (nI_ge (by omega) (by omega))]
      obtain ⟨v, ν⟩ := p
      obtain ⟨p1, p2⟩ := hp
      dsimp only at p1 p2
      refine zupS (W := fun fv k (p : Int64 × zM) => pX4_paid_40 th (nI n) (fun v0 v1 ν => pX4_paid_31 th (nI n) Q fu v0 v1 ν) Q fv p.1 (nI i) (nI k) p.2) (fun k p => p.1 = v + s64 (pdK C (xgo C 0 i X) 1) k ∧ zOff (S56 th) μ2 p.2) (xS X) (fun fv p hp => ?_) (fun fv k p hk2 hp ih2 => ?_) 0 (v, ν) (Nat.zero_le _) ⟨by show v = v + s64 _ 0; rw [s64]; grind, p2⟩
      · obtain ⟨v2, ν2⟩ := p
        obtain ⟨e1, e2⟩ := hp
        dsimp only at e1 e2
        have hM2 : tM th ν2 C X := hM.offT (S56.T e2)
        refine ⟨v3 (by decide), ?_⟩
        rw [nI_clamp (by decide), hM2.S, if_pos (nI_le (by omega) (by omega)), nI_add]
        refine ih (v2, ν2) ⟨?_, e2⟩
        show v2 = _
        rw [e1, p1]
        rfl
      · obtain ⟨v2, ν2⟩ := p
        obtain ⟨e1, e2⟩ := hp
        dsimp only at e1 e2
        have hM2 : tM th ν2 C X := hM.offT (S56.T e2)
        refine ⟨v3 (by decide), ?_⟩
        rw [nI_clamp (by decide), hM2.S, if_neg (nI_ge (by omega) (by omega))]
        refine t_livesOn hM2 hw.c.1 (fun t ht => hw.x.O ht) (by omega) ?_
        have hwl := who_le (C := C) (X := X) (k := k)
        have eg := pdK_go C X i k
        by_cases c : who C X k = 0
        · rw [if_pos ((eO_m1 (by omega)).mpr c), nI_add]
          rw [if_pos c] at eg
          refine ih2 (v2, ν2) ⟨?_, e2⟩
          show v2 = _
          rw [e1, s64, eg]
          grind
        · rw [if_neg (fun q => c ((eO_m1 (by omega)).mp q))]
          rw [if_neg c] at eg
          have hsu := suX_le hw.x i
          have h9 : zI ν2 (th + 9) i = nI (suX C X i) := (e2.I (by unfold S56; omega)).trans (hk i (by omega))
          refine ⟨vp_in_nI (by omega) (by decide), v3 (by decide), ?_⟩
          rw [nI_clamp (by omega), h9, nI_clamp (by decide), hM2.M, nI_add]
          refine t_paysOf hM2.1 hw.c (by omega) hsu (by omega) (fun μ' ho3 => ?_)
          rw [nI_add]
          refine ih2 (_, μ') ⟨?_, e2.tr ho3⟩
          show v2 + _ = _
          rw [e1, s64, eg]
          grind
  · rw [if_neg q] at hq
    exact hq μ1 ho
theorem zsG {ν : zM} (hs : cSt ν s X b) {t : Nat} (ht : t < 6) : cSt (zsI ν (s + 2) t (nI 0)) s (xG0 X t) b := by
  refine ⟨hs.1, ?_, ?_, ?_, ?_, fun j hj => ?_, fun j hj => ?_, fun j hj => ?_⟩
  all_goals simp only [zI_sI]
  · rw [if_neg (by omega)]; exact hs.S
  · rw [if_neg (by omega)]; exact hs.D
  · rw [if_neg (by omega)]; exact hs.M
  · rw [if_neg (by omega)]; exact hs.B
  · rw [if_neg (by omega)]; exact hs.O hj
  · show _ = nI (if j = t then 0 else xG X j)
    by_cases c : j = t
    · rw [if_pos ⟨trivial, c⟩, if_pos c]
    · rw [if_neg (fun q => c q.2), if_neg c]; exact hs.G hj
  · rw [if_neg (by omega)]; exact hs.W hj
theorem c_shareOf (hw : zWf mb C X1 X dn dX im tr tn tp) (hm : mb ≤ 90000) {ν : zM} (hI : cIts z ν a C X1) (hf : zfar z a) (hN : cSt ν (z + 7) X 0) {t n : Nat} (ht : t < 6) (hn : n ≤ 600) {Q : Int32 → zM → Prop} (hq : ∀ μ', zOff (SC z a) ν μ' → Q (shr C X n t) μ') : pX0_shareOf z (nI t) (nI n) ν Q := by
  refine c_tho hI hf hN (fun μ1 o1 h1 hN1 hT1 => ⟨_, rfl, ?_⟩)
  refine c_goesOn h1 hT1 hw.c hw.x (by decide) (by omega) (by omega) (fun μ2 o2 h2 hT2 => ?_)
  have hN2 : cSt μ2 (z + 7) X 0 := hN1.offC h1 hf (Or.inl rfl) (Ss.tho o2)
  refine c_tho h2 hf hN2 (fun μ3 o3 h3 _ hT3 => ⟨_, rfl, hT3.ty, vp_in_nI ht (by decide), ?_⟩)
  rw [nI_clamp (by omega)]
  have o4 : zOff (SC z a) μ3 (zsI μ3 (z + 11 + 2) t (nI 0)) := zOff.sI (by unfold SC; omega)
  refine c_goesOn (h3.offC hf o4) (zsG hT3 ht) hw.c (hw.x.G0 t) (by decide) (by omega) (by omega) (fun μ5 o5 h5 hT5 => ?_)
  rw [xD_go0]
  have e : xD (xgo C 0 n (xG0 X t)) = suN C (wt C X (t + 1)) (xS X) (xD X) (xM X) n := by
    rw [xD_go, Nat.zero_add, wt_G0]
    rfl
  rw [e, show xD (xG0 X t) = xD X from rfl, show nI (suX C X n) - nI (xD X) - (nI (suN C (wt C X (t + 1)) (xS X) (xD X) (xM X) n) - nI (xD X)) = shr C X n t by unfold shr; grind]
  exact hq μ5 ((((o1.tr (Ss.tho o2)).tr o3).tr o4).tr (Ss.tho o5))
theorem t_shareOf (hw : zWf mb C X1 X dn dX im tr tn tp) (hm : mb ≤ 90000) {ν : zM} (hM : tM th ν C X) {t n : Nat} (ht : t < 6) (hn : n ≤ 600) {Q : Int32 → zM → Prop} (hq : ∀ μ', zOff (ST th) ν μ' → Q (shr C X n t) μ') : pX4_shareOf th (nI t) (nI n) ν Q := by
  have ho8 := hw.x.O ht
  refine ⟨zin2 (by omega) (by decide), ?_⟩
  rw [zcl2 (by omega), hM.O ht]
  by_cases c : xO X t = 0
  · rw [if_pos ((eO_m1 (by omega)).mpr c)]
    have e : shr C X n t = nI 0 := by
      unfold shr
      rw [wt_aw C X t c]
      show nI (suX C X n) - nI (suX C X n) = nI 0
      rw [pk_sub (Nat.le_refl _), Nat.sub_self]
    rw [← e]
    exact hq ν zOff.rf
  · rw [if_neg (fun q => c ((eO_m1 (by omega)).mp q))]
    refine t_ahead hw hm hM zOff.rf (by omega) (fun μ1 o1 hM1 hk1 => ?_)
    have v6 : vp_in (nI n) 602 := vp_in_nI (by omega) (by decide)
    refine ⟨v6, ?_⟩
    have hwt := wt_le hw.c hw.x (t + 1)
    rw [← eO_s t]
    refine t_weightOf hM1 hw.c.1 hw.x.1 (fun t ht => hw.x.O ht) (by omega) ?_
    refine t_laysSunk hM1 hw.c hw.x (by omega) (by omega) (by omega) (fun μ2 o2 hk2 => ⟨v6, ?_⟩)
    rw [nI_clamp (by omega), hk1 n (Nat.le_refl _), hk2 n (Nat.le_refl _)]
    exact hq μ2 (o1.tr (o2.mono (fun x k q => by unfold S9 at q; unfold ST; omega)))
def vShr (C : zC) (X : zX) (x y : Int32) : Int32 := if 0 ≤ x.toInt ∧ x.toInt < kT C then (if 1 ≤ y.toInt ∧ y.toInt ≤ 600 then shr C X y.toInt.toNat x.toInt.toNat else (-90000003 : Int32)) else (-90000002 : Int32)
theorem c_share (hw : zWf mb C X1 X dn dX im tr tn tp) (hm : mb ≤ 90000) (h : cR z a μ C X1 X dn dX im tr tn tp f fp) {x y : Int32} {Q : Int32 → zM → Prop} (hq : ∀ μ', zOff (SC z a) μ μ' → Q (vShr C X x y) μ') : pX0_share z x y μ Q := by
  unfold vShr at hq
  have hT := hw.c.1
  refine c_isTenant h.I hw.c (fun t t1 t2 t3 => if01 ?_) (fun q => if00 ?_)
  · rw [if_pos (by omega), i32_k t3] at hq
    refine rin32 (a := 1) (b := 600) rfl rfl (fun q1 q2 => if01 ?_) (fun q => if00 ?_)
    · obtain ⟨n, n1, n2, n3⟩ := i32N (show 0 ≤ y.toInt by omega)
      rw [if_pos ⟨q1, q2⟩, i32_k n3] at hq
      subst t2 n2
      exact c_shareOf hw hm h.I h.far h.N (by omega) (by omega) hq
    · rw [if_neg q] at hq
      exact hq μ zOff.rf
  · rw [if_neg q] at hq
    exact hq μ zOff.rf
theorem t_share (hw : zWf mb C X1 X dn dX im tr tn tp) (hm : mb ≤ 90000) (h : tR th μ C X1 X dn dX im tr tn tp f fp) {x y : Int32} {Q : Int32 → zM → Prop} (hq : ∀ μ', zOff (ST th) μ μ' → Q (vShr C X x y) μ') : pX4_share th x y μ Q := by
  unfold vShr at hq
  have hT := hw.c.1
  refine t0 (fun μ1 ho => ?_)
  have hM := h.M.offT ho
  refine u_isTenant hM hw.c (fun t t1 t2 t3 => if01 ?_) (fun q => if00 ?_)
  · rw [Int32.toInt_toInt64] at t3
    replace t2 := (i64_of_lN (by omega)).mp t2
    rw [if_pos (by omega), i32_k t3] at hq
    refine rin32 (a := 1) (b := 600) rfl rfl (fun q1 q2 => if01 ?_) (fun q => if00 ?_)
    · obtain ⟨n, n1, n2, n3⟩ := i32N (show 0 ≤ y.toInt by omega)
      rw [if_pos ⟨q1, q2⟩, i32_k n3] at hq
      subst t2 n2
      exact t_shareOf hw hm hM (by omega) (by omega) (fun μ' ho2 => hq μ' (ho.tr ho2))
    · rw [if_neg q] at hq
      exact hq μ1 ho
  · rw [Int32.toInt_toInt64] at q
    rw [if_neg q] at hq
    exact hq μ1 ho
def vHvy (C : zC) (X : zX) (x : Int32) : Int32 := if 1 ≤ x.toInt ∧ x.toInt ≤ 600 then hvN (shr C X x.toInt.toNat) (kT C) 0 (-1 : Int32) (nI 0) else (-3 : Int32)
theorem c_heaviest (hw : zWf mb C X1 X dn dX im tr tn tp) (hm : mb ≤ 90000) (h : cR z a μ C X1 X dn dX im tr tn tp f fp) {x : Int32} {Q : Int32 → zM → Prop} (hq : ∀ μ', zOff (SC z a) μ μ' → Q (vHvy C X x) μ') : pX0_heaviest z x μ Q := by
  unfold vHvy at hq
  have hT := hw.c.1
  refine rin32 (a := 1) (b := 600) rfl rfl (fun q1 q2 => if01 ?_) (fun q => if00 ?_)
  · obtain ⟨n, n1, n2, n3⟩ := i32N (show 0 ≤ x.toInt by omega)
    rw [if_pos ⟨q1, q2⟩, i32_k n3] at hq
    subst n2
    have key : ∀ d t b m ν, t + d = kT C → zOff (SC z a) μ ν → (∀ μ', zOff (SC z a) μ μ' → Q (hvN (shr C X n) d t b m) μ') → pX0_heaviest_22 z (nI n) Q (d + 1) b m (nI t) ν := by
      intro d
      induction d with
      | zero =>
        intro t b m ν hi o1 h4
        have hI := h.I.offC h.far o1
        refine ⟨a, hI.2.1, hI.2.2.1, ?_⟩
        rw [hI.2.2.T, if_pos (nI_le (by omega) (by omega))]
        exact h4 ν o1
      | succ d ih =>
        intro t b m ν hi o1 h4
        have hI := h.I.offC h.far o1
        refine ⟨a, hI.2.1, hI.2.2.1, ?_⟩
        rw [hI.2.2.T, if_neg (nI_ge (by omega) (by omega))]
        refine c_shareOf hw hm hI h.far (h.N.offC h.I h.far (Or.inl rfl) o1) (by omega) (by omega) (fun μ' o2 => ?_)
        rw [nI_add]
        unfold hvN at h4
        by_cases c : m < shr C X n t
        · rw [if_pos c] at h4 ⊢
          exact ih (t + 1) _ _ μ' (by omega) (o1.tr o2) h4
        · rw [if_neg c] at h4 ⊢
          exact ih (t + 1) _ _ μ' (by omega) (o1.tr o2) h4
    exact ⟨_, key (kT C) 0 _ _ μ (by omega) zOff.rf hq⟩
  · rw [if_neg q] at hq
    exact hq μ zOff.rf
theorem t_heaviest (hw : zWf mb C X1 X dn dX im tr tn tp) (hm : mb ≤ 90000) (h : tR th μ C X1 X dn dX im tr tn tp f fp) {x : Int32} {Q : Int32 → zM → Prop} (hq : ∀ μ', zOff (ST th) μ μ' → Q (vHvy C X x) μ') : pX4_heaviest th x μ Q := by
  unfold vHvy at hq
  have hT := hw.c.1
  refine t0 (fun μ1 ho => ?_)
  refine rin32 (a := 1) (b := 600) rfl rfl (fun q1 q2 => if01 ?_) (fun q => if00 ?_)
  · obtain ⟨n, n1, n2, n3⟩ := i32N (show 0 ≤ x.toInt by omega)
    rw [if_pos ⟨q1, q2⟩, i32_k n3] at hq
    subst n2
    have key : ∀ d t b m ν, t + d = kT C → zOff (ST th) μ ν → (∀ μ', zOff (ST th) μ μ' → Q (hvN (shr C X n) d t b m) μ') → pX4_heaviest_27 th (nI n) Q (d + 1) b m (nI t) ν := by
      intro d
      induction d with
      | zero =>
        intro t b m ν hi o1 h4
        have hM := h.M.offT o1
        refine ⟨v3 (by decide), ?_⟩
        rw [nI_clamp (by decide), hM.T, if_pos (nI_le (by omega) (by omega))]
        exact h4 ν o1
      | succ d ih =>
        intro t b m ν hi o1 h4
        have hM := h.M.offT o1
        refine ⟨v3 (by decide), ?_⟩
        rw [nI_clamp (by decide), hM.T, if_neg (nI_ge (by omega) (by omega))]
        refine t_shareOf hw hm hM (by omega) (by omega) (fun μ' o2 => ?_)
        rw [nI_add]
        unfold hvN at h4
        by_cases c : m < shr C X n t
        · rw [if_pos c] at h4 ⊢
          exact ih (t + 1) _ _ μ' (by omega) (o1.tr o2) h4
        · rw [if_neg c] at h4 ⊢
          exact ih (t + 1) _ _ μ' (by omega) (o1.tr o2) h4
    exact ⟨_, key (kT C) 0 _ _ μ1 (by omega) ho hq⟩
  · rw [if_neg q] at hq
    exact hq μ1 ho
def vBea (C : zC) (X : zX) (x y : Int32) : Int32 := if x < 0 then (-3 : Int32) else if 1 ≤ y.toInt ∧ y.toInt ≤ 60 then beN (beG C X y.toInt.toNat) x 1000 else (-3 : Int32)
theorem zsB {ν : zM} (hs : cSt ν s X b) (w : Nat) : cSt (zsI ν s 6 (nI w)) s X w := by
  refine ⟨hs.1, ?_, ?_, ?_, ?_, fun j hj => ?_, fun j hj => ?_, fun j hj => ?_⟩
  all_goals simp only [zI_sI]
  · rw [if_neg (by omega)]; exact hs.S
  · rw [if_neg (by omega)]; exact hs.D
  · rw [if_neg (by omega)]; exact hs.M
  · rw [if_pos (by simp)]
  · rw [if_neg (by omega)]; exact hs.O hj
  · rw [if_neg (by omega)]; exact hs.G hj
  · rw [if_neg (by omega)]; exact hs.W hj
theorem c_bears (hw : zWf mb C X1 X dn dX im tr tn tp) (hm : mb ≤ 90000) (h : cR z a μ C X1 X dn dX im tr tn tp f fp) {x y : Int32} {Q : Int32 → zM → Prop} (hq : ∀ μ', zOff (SC z a) μ μ' → Q (vBea C X x y) μ') : pX0_bears z x y μ Q := by
  unfold vBea at hq
  unfold pX0_bears
  by_cases cx : x < 0
  · rw [if_pos cx] at hq ⊢
    exact hq μ zOff.rf
  rw [if_neg cx] at hq ⊢
  refine rin32 (a := 1) (b := 60) rfl rfl (fun q1 q2 => if01 ?_) (fun q => if00 ?_)
  · obtain ⟨n, n1, n2, n3⟩ := i32N (show 0 ≤ y.toInt by omega)
    rw [if_pos ⟨q1, q2⟩, i32_k n3] at hq
    subst n2
    have key : ∀ d ν, d ≤ 1000 → zOff (SC z a) μ ν → (∀ μ', zOff (SC z a) μ μ' → Q (beN (beG C X n) x d) μ') → pX0_bears_23 z x (nI n) Q (d + 1) (eO d) ν := by
      intro d
      induction d with
      | zero =>
        intro ν hd o1 h4
        unfold pX0_bears_23
        rw [if_pos (by decide)]
        exact h4 ν o1
      | succ d ih =>
        intro ν hd o1 h4
        have hI := h.I.offC h.far o1
        have hN := h.N.offC h.I h.far (Or.inl rfl) o1
        unfold pX0_bears_23
        rw [eO_s, if_neg (nI_pos (by omega))]
        refine c_tho hI h.far hN (fun μ1 o2 h2 _ hT => ⟨_, rfl, hT.ty, ?_⟩)
        have o4 : zOff (SC z a) μ1 (zsI μ1 (z + 11) 6 (nI d)) := zOff.sI (by unfold SC; omega)
        refine c_goesOn (h2.offC h.far o4) (zsB hT d) hw.c hw.x (by omega) (by omega) (by omega) (fun μ5 o5 h5 hT5 => ?_)
        rw [xD_go]
        have ob := ((o1.tr o2).tr o4).tr (Ss.tho o5)
        unfold beN at h4
        by_cases c : x < beG C X n d
        · rw [if_pos c] at h4
          rw [if_pos (show x < nI (suN C (d + wt C X 0) (xS X) (xD X) (xM X) n) - nI (xD X) from c)]
          exact ih μ5 (by omega) ob h4
        · rw [if_neg c] at h4
          rw [if_neg (show ¬ x < nI (suN C (d + wt C X 0) (xS X) (xD X) (xM X) n) - nI (xD X) from c)]
          exact h4 μ5 ob
    exact ⟨_, key 1000 μ (by omega) zOff.rf hq⟩
  · rw [if_neg q] at hq
    exact hq μ zOff.rf
theorem t_bears (hw : zWf mb C X1 X dn dX im tr tn tp) (hm : mb ≤ 90000) (h : tR th μ C X1 X dn dX im tr tn tp f fp) {x y : Int32} {Q : Int32 → zM → Prop} (hq : ∀ μ', zOff (ST th) μ μ' → Q (vBea C X x y) μ') : pX4_bears th x y μ Q := by
  unfold vBea at hq
  have hwt := wt_le hw.c hw.x 0
  refine t0 (fun μ1 ho => ?_)
  by_cases cx : x < 0
  · rw [if_pos cx] at hq ⊢
    exact hq μ1 ho
  rw [if_neg cx] at hq ⊢
  refine rin32 (a := 1) (b := 60) rfl rfl (fun q1 q2 => if01 ?_) (fun q => if00 ?_)
  · obtain ⟨n, n1, n2, n3⟩ := i32N (show 0 ≤ y.toInt by omega)
    rw [if_pos ⟨q1, q2⟩, i32_k n3] at hq
    subst n2
    rw [← eO_0]
    refine t_weightOf (h.M.offT ho) hw.c.1 hw.x.1 (fun t ht => hw.x.O ht) (by decide) ?_
    have key : ∀ d ν, d ≤ 1000 → zOff (ST th) μ ν → (∀ μ', zOff (ST th) μ μ' → Q (beN (beG C X n) x d) μ') → pX4_bears_35 th x (nI n) Q (d + 1) (nI (wt C X 0)) (eO d) ν := by
      intro d
      induction d with
      | zero =>
        intro ν hd o1 h4
        unfold pX4_bears_35
        rw [if_pos (by decide)]
        exact h4 ν o1
      | succ d ih =>
        intro ν hd o1 h4
        have hM := h.M.offT o1
        unfold pX4_bears_35
        rw [eO_s, if_neg (nI_pos (by omega)), nI_add]
        refine t_laysSunk hM hw.c hw.x (by omega) (by omega) (by omega) (fun μ5 o5 hk => ⟨vp_in_nI (by omega) (by decide), v3 (by decide), ?_⟩)
        have o6 : zOff (ST th) ν μ5 := o5.mono (fun x k q => by unfold S9 at q; unfold ST; omega)
        have ob := o1.tr o6
        rw [nI_clamp (by omega), hk n (Nat.le_refl _), nI_clamp (by decide), (hM.offT o6).D, Nat.add_comm (wt C X 0) d]
        unfold beN at h4
        by_cases c : x < beG C X n d
        · rw [if_pos c] at h4
          rw [if_pos (show x < nI (suN C (d + wt C X 0) (xS X) (xD X) (xM X) n) - nI (xD X) from c)]
          exact ih μ5 (by omega) ob h4
        · rw [if_neg c] at h4
          rw [if_neg (show ¬ x < nI (suN C (d + wt C X 0) (xS X) (xD X) (xM X) n) - nI (xD X) from c)]
          exact h4 μ5 ob
    exact ⟨_, key 1000 μ1 (by omega) ho hq⟩
  · rw [if_neg q] at hq
    exact hq μ1 ho
end QD
