/-! questions: months to come -/
def suX (C : zC) (X : zX) (n : Nat) : Nat := suN C (wt C X 0) (xS X) (xD X) (xM X) n
def fiN (g : Nat → Nat) (x : Int32) : Nat → Nat → Int32
  | 0, _ => -1
  | d + 1, n => if nI (g n) < x then fiN g x d (n + 1) else nI n
def faN (g : Nat → Nat) : Nat → Nat → Nat → Nat
  | 0, _, b => b
  | d + 1, n, b => if g b < g n then faN g d (n + 1) n else faN g d (n + 1) b
def incX (C : zC) (X : zX) (n : Nat) : Nat := suX C X (n + 1) - suX C X n
theorem suX_le {C : zC} {X : zX} {mb : Nat} (hX : wfX C X mb) (n : Nat) : suX C X n ≤ 99999 := suN_le _ _ _ _ _ hX.2.1 n
theorem suX_up {C : zC} {X : zX} {mb : Nat} (hX : wfX C X mb) (n : Nat) : suX C X n ≤ suX C X (n + 1) := suN_up _ _ _ _ _ hX.2.1 n
theorem xD_go0 (C : zC) (X : zX) (n : Nat) : xD (xgo C 0 n X) = suX C X n := by rw [xD_go, Nat.zero_add]; rfl
theorem Ss.tho {z a : Nat} {μ μ' : zM} (ho : zOff (Ss a (z + 11)) μ μ') : zOff (SC z a) μ μ' := ho.mono (fun x k q => by unfold Ss at q; unfold SC; omega)
section QB
variable {z th a : Nat} {μ : zM} {C : zC} {X1 X : zX} {dn : Nat} {dX : Nat → zX} {im : zIm} {tr : zTy} {tn : Nat} {tp : Nat → Nat} {f fp : Int32} {mb : Nat}
/-- thought is as now is -/
theorem c_tho (hI : cIts z μ a C X1) (hf : zfar z a) (hN : cSt μ (z + 7) X 0) {Q : Option Nat → zM → Prop} (hq : ∀ μ', zOff (SC z a) μ μ' → cIts z μ' a C X1 → cSt μ' (z + 7) X 0 → cSt μ' (z + 11) X 0 → Q (some (z + 11)) μ') : pX2_be z (z + 11) (z + 7) μ Q := by
  refine c_be hI hN hI.tho (by omega) (fun μ' ho h1 h2 => ?_)
  have oo : zOff (SC z a) μ μ' := ho.mono (fun x k q => by unfold So at q; unfold SC; omega)
  exact hq μ' oo (hI.offC hf oo) h2 h1
theorem c_isAhead {x : Int32} {Q : Int32 → zM → Prop} (h1 : ∀ k : Nat, k ≤ 600 → x = nI k → x.toInt = k → Q (nI 1) μ) (h0 : ¬ (0 ≤ x.toInt ∧ x.toInt ≤ 600) → Q (nI 0) μ) : pX0_isAhead z x μ Q := by
  refine rin32 (a := 0) (b := 600) rfl rfl (fun q1 q2 => ?_) (fun q => ⟨zbo0, h0 q⟩)
  obtain ⟨k, k1, k2, k3⟩ := i32N q1
  exact ⟨zbo1, h1 k (by omega) k2 k3⟩
theorem c_ahead (hw : zWf mb C X1 X dn dX im tr tn tp) (hm : mb ≤ 90000) (h : cR z a μ C X1 X dn dX im tr tn tp f fp) {n : Nat} (hn : n < 1000) {Q : zM → Prop} (hq : ∀ μ', zOff (SC z a) μ μ' → cSt μ' (z + 11) (xgo C 0 n X) 0 → Q μ') : pX2_be z (z + 11) (z + 7) μ (fun r4 μ3 => zde r4 fun b5 => pX2_goesOn z b5 (nI n) μ3 fun _ μ6 => Q μ6) := by
  refine c_tho h.I h.far h.N (fun μ1 ho hI _ hT => ⟨_, rfl, ?_⟩)
  exact c_goesOn hI hT hw.c hw.x (by decide) hn (by omega) (fun μ' ho2 _ h2 => hq μ' (ho.tr (Ss.tho ho2)) h2)
def vSun (C : zC) (X : zX) (x : Int32) : Int32 := if 0 ≤ x.toInt ∧ x.toInt ≤ 600 then nI (suX C X x.toInt.toNat) else (-3 : Int32)
theorem c_sunkIn (hw : zWf mb C X1 X dn dX im tr tn tp) (hm : mb ≤ 90000) (h : cR z a μ C X1 X dn dX im tr tn tp f fp) {x : Int32} {Q : Int32 → zM → Prop} (hq : ∀ μ', zOff (SC z a) μ μ' → Q (vSun C X x) μ') : pX0_sunkIn z x μ Q := by
  unfold vSun at hq
  refine c_isAhead (fun k k1 k2 k3 => if01 ?_) (fun q => if00 ?_)
  · rw [if_pos (by omega), i32_k k3] at hq
    subst k2
    refine c_ahead hw hm h (by omega) (fun μ' ho hs => ?_)
    rw [hs.D, xD_go0]
    exact hq μ' ho
  · rw [if_neg q] at hq
    exact hq μ zOff.rf
theorem t_ahead (hw : zWf mb C X1 X dn dX im tr tn tp) (hm : mb ≤ 90000) {μ1 : zM} (hM : tM th μ1 C X) (ho : zOff (ST th) μ μ1) {n : Nat} (hn : n < 602) {Q : zM → Prop} (hq : ∀ μ', zOff (ST th) μ μ' → tM th μ' C X → (∀ k, k ≤ n → zI μ' (th + 9) k = nI (suX C X k)) → Q μ') : pX4_laysAll th (nI n) μ1 Q := by
  refine t_laysAll hM hw.c hw.x (by omega) hn (fun μ' ho2 h1 => ?_)
  have o2 : zOff (ST th) μ1 μ' := ho2.mono (fun x k q => by unfold S9 at q; unfold ST; omega)
  exact hq μ' (ho.tr o2) (hM.offT o2) h1
theorem t_sunkIn (hw : zWf mb C X1 X dn dX im tr tn tp) (hm : mb ≤ 90000) (h : tR th μ C X1 X dn dX im tr tn tp f fp) {x : Int32} {Q : Int32 → zM → Prop} (hq : ∀ μ', zOff (ST th) μ μ' → Q (vSun C X x) μ') : pX4_sunkIn th x μ Q := by
  unfold vSun at hq
  refine t0 (fun μ1 ho => ?_)
  refine rin32 (a := 0) (b := 600) rfl rfl (fun q1 q2 => if01 ?_) (fun q => if00 ?_)
  · obtain ⟨k, k1, k2, k3⟩ := i32N q1
    rw [if_pos ⟨q1, q2⟩, i32_k k3] at hq
    subst k2
    refine t_ahead hw hm (h.M.offT ho) ho (by omega) (fun μ' ho2 hM hk => ⟨vp_in_nI (by omega) (by decide), ?_⟩)
    rw [nI_clamp (by omega), hk k (Nat.le_refl _)]
    exact hq μ' ho2
  · rw [if_neg q] at hq
    exact hq μ1 ho
def vHei (C : zC) (X : zX) (x y : Int32) : Int32 := if 0 ≤ x.toInt ∧ x.toInt < xS X then (if 0 ≤ y.toInt ∧ y.toInt ≤ 600 then hgt x.toInt.toNat (suX C X y.toInt.toNat) else (-90000003 : Int32)) else (-90000002 : Int32)
theorem c_heightIn (hw : zWf mb C X1 X dn dX im tr tn tp) (hm : mb ≤ 90000) (h : cR z a μ C X1 X dn dX im tr tn tp f fp) {x y : Int32} {Q : Int32 → zM → Prop} (hq : ∀ μ', zOff (SC z a) μ μ' → Q (vHei C X x y) μ') : pX0_heightIn z x y μ Q := by
  unfold vHei at hq
  have hS := hw.x.1
  refine c_isStorey h.N hw.x (fun k k1 k2 k3 => if01 ?_) (fun q => if00 ?_)
  · rw [if_pos (by omega), i32_k k3] at hq
    refine c_isAhead (fun n n1 n2 n3 => if01 ?_) (fun q => if00 ?_)
    · rw [if_pos (by omega), i32_k n3] at hq
      subst k2 n2
      refine c_ahead hw hm h (by omega) (fun μ' ho hs => ?_)
      have := suX_le hw.x n
      rw [hs.D, xD_go0]
      exact c_floor (by omega) (by omega) (hq μ' ho)
    · rw [if_neg q] at hq
      exact hq μ zOff.rf
  · rw [if_neg q] at hq
    exact hq μ zOff.rf
theorem t_heightIn (hw : zWf mb C X1 X dn dX im tr tn tp) (hm : mb ≤ 90000) (h : tR th μ C X1 X dn dX im tr tn tp f fp) {x y : Int32} {Q : Int32 → zM → Prop} (hq : ∀ μ', zOff (ST th) μ μ' → Q (vHei C X x y) μ') : pX4_heightIn th x y μ Q := by
  unfold vHei at hq
  have hS := hw.x.1
  refine t0 (fun μ1 ho => ?_)
  have hM := h.M.offT ho
  refine u_isStorey hM hw.x (fun k k1 k2 k3 => if01 ?_) (fun q => if00 ?_)
  · rw [Int32.toInt_toInt64] at k3
    replace k2 := (i64_of_lN (by omega)).mp k2
    rw [if_pos (by omega), i32_k k3] at hq
    refine rin32 (a := 0) (b := 600) rfl rfl (fun q1 q2 => if01 ?_) (fun q => if00 ?_)
    · obtain ⟨n, n1, n2, n3⟩ := i32N q1
      rw [if_pos ⟨q1, q2⟩, i32_k n3] at hq
      subst k2 n2
      refine t_ahead hw hm hM ho (by omega) (fun μ' ho2 hM hk => ⟨vp_in_nI (by omega) (by decide), ?_⟩)
      have := suX_le hw.x n
      rw [nI_clamp (by omega), hk n (Nat.le_refl _)]
      exact t_heightOf (by omega) (by omega) (hq μ' ho2)
    · rw [if_neg q] at hq
      exact hq μ1 ho
  · rw [Int32.toInt_toInt64] at q
    rw [if_neg q] at hq
    exact hq μ1 ho
def vDoo (C : zC) (X : zX) (x : Int32) : Int32 := if 0 ≤ x.toInt ∧ x.toInt ≤ 600 then (if bur (xS X) (suX C X x.toInt.toNat) < xS X then nI (bur (xS X) (suX C X x.toInt.toNat)) else (-1 : Int32)) else (-3 : Int32)
theorem c_doorIn (hw : zWf mb C X1 X dn dX im tr tn tp) (hm : mb ≤ 90000) (h : cR z a μ C X1 X dn dX im tr tn tp f fp) {x : Int32} {Q : Int32 → zM → Prop} (hq : ∀ μ', zOff (SC z a) μ μ' → Q (vDoo C X x) μ') : pX0_doorIn z x μ Q := by
  unfold vDoo at hq
  refine c_isAhead (fun k k1 k2 k3 => if01 ?_) (fun q => if00 ?_)
  · rw [if_pos (by omega), i32_k k3] at hq
    subst k2
    refine c_ahead hw hm h (by omega) (fun μ' ho hs => ?_)
    refine c_door hs (hw.x.go k) ?_
    rw [xD_go0, xS_go]
    exact hq μ' ho
  · rw [if_neg q] at hq
    exact hq μ zOff.rf
theorem t_doorIn (hw : zWf mb C X1 X dn dX im tr tn tp) (hm : mb ≤ 90000) (h : tR th μ C X1 X dn dX im tr tn tp f fp) {x : Int32} {Q : Int32 → zM → Prop} (hq : ∀ μ', zOff (ST th) μ μ' → Q (vDoo C X x) μ') : pX4_doorIn th x μ Q := by
  unfold vDoo at hq
  have hS := hw.x.1
  refine t0 (fun μ1 ho => ?_)
  refine rin32 (a := 0) (b := 600) rfl rfl (fun q1 q2 => if01 ?_) (fun q => if00 ?_)
  · obtain ⟨n, k1, k2, k3⟩ := i32N q1
    rw [if_pos ⟨q1, q2⟩, i32_k k3] at hq
    subst k2
    refine t_ahead hw hm (h.M.offT ho) ho (by omega) (fun μ' ho2 hM hk => ?_)
    replace hq := hq μ' ho2
    have hsu := suX_le hw.x n
    have hb : bur (xS X) (suX C X n) = min (xS X) (suX C X n / 144) := rfl
    refine zup (W := fun f i => pX4_doorIn_27 th (nI n) Q f (nI i) μ') (bur (xS X) (suX C X n)) (fun f => ?_) (fun f i hi hn => ?_) 0 (Nat.zero_le _)
    · refine ⟨v3 (by decide), ?_⟩
      rw [nI_clamp (by decide), hM.S]
      by_cases c : bur (xS X) (suX C X n) < xS X
      · rw [if_pos c] at hq
        rw [if_neg (nI_ge c (by omega))]
        refine ⟨vp_in_nI (by omega) (by decide), ?_⟩
        rw [nI_clamp (by omega), hk n (Nat.le_refl _)]
        refine t_isBuried (by omega) (by omega) ?_
        have cc : ¬ 144 * (bur (xS X) (suX C X n) + 1) ≤ suX C X n := by omega
        rw [if_neg cc]
        exact if00 hq
      · rw [if_neg c] at hq
        rw [if_pos (nI_le (by omega) (by omega))]
        exact hq
    · refine ⟨v3 (by decide), ?_⟩
      rw [nI_clamp (by decide), hM.S, if_neg (nI_ge (by omega) (by omega))]
      refine ⟨vp_in_nI (by omega) (by decide), ?_⟩
      rw [nI_clamp (by omega), hk n (Nat.le_refl _)]
      refine t_isBuried (by omega) (by omega) ?_
      have cc : 144 * (i + 1) ≤ suX C X n := by omega
      rw [if_pos cc, nI_add]
      exact if01 hn
  · rw [if_neg q] at hq
    exact hq μ1 ho
theorem c_firstSunk (hw : zWf mb C X1 X dn dX im tr tn tp) (hm : mb ≤ 90000) (h : cR z a μ C X1 X dn dX im tr tn tp f fp) {x : Int32} {Q : Int32 → zM → Prop} (hq : ∀ μ', zOff (SC z a) μ μ' → Q (fiN (suX C X) x 601 0) μ') : pX0_firstSunk z x μ Q := by
  refine c_tho h.I h.far h.N (fun μ1 ho hI _ hT => ?_)
  have key : ∀ d i ν, i + d = 601 → zOff (SC z a) μ ν → cIts z ν a C X1 → cSt ν (z + 11) (xgo C 0 i X) 0 → (∀ μ', zOff (SC z a) μ μ' → Q (fiN (suX C X) x d i) μ') → pX0_firstSunk_14 z x Q (d + 1) (nI i) ν := by
    intro d
    induction d with
    | zero =>
      intro i ν hi o1 _ _ h4
      unfold pX0_firstSunk_14
      rw [if_pos (nI_lt (by omega) (by omega))]
      exact h4 ν o1
    | succ d ih =>
      intro i ν hi o1 h2 h3 h4
      unfold pX0_firstSunk_14
      rw [if_neg (nI_nlt (by omega) (by omega)), h3.D, xD_go0]
      unfold fiN at h4
      by_cases c : nI (suX C X i) < x
      · rw [if_pos c] at h4 ⊢
        refine c_sinks h2 h3 hw.c (hw.x.go i) (by decide) (by omega) (fun μ' ho2 g1 g2 => ?_)
        rw [nI_add]
        exact ih (i + 1) μ' (by omega) (o1.tr (Ss.tho ho2)) g1 g2 h4
      · rw [if_neg c] at h4 ⊢
        exact h4 ν o1
  exact ⟨_, key 601 0 μ1 rfl ho hI hT hq⟩
theorem t_firstSunk (hw : zWf mb C X1 X dn dX im tr tn tp) (hm : mb ≤ 90000) {μ1 : zM} (hM : tM th μ1 C X) (ho : zOff (ST th) μ μ1) {x : Int32} {Q : Int32 → zM → Prop} (hq : ∀ μ', zOff (ST th) μ μ' → Q (fiN (suX C X) x 601 0) μ') : pX4_sunkFirst th x μ1 Q := by
  refine t_ahead hw hm hM ho (by decide) (fun μ' ho2 hM hk => ?_)
  replace hq := hq μ' ho2
  have key : ∀ d i, i + d = 601 → Q (fiN (suX C X) x d i) μ' → pX4_sunkFirst_9 th x Q (d + 1) (nI i) μ' := by
    intro d
    induction d with
    | zero =>
      intro i hi h4
      unfold pX4_sunkFirst_9
      rw [if_pos (nI_lt (by omega) (by omega))]
      exact h4
    | succ d ih =>
      intro i hi h4
      unfold pX4_sunkFirst_9
      rw [if_neg (nI_nlt (by omega) (by omega))]
      refine ⟨vp_in_nI (by omega) (by decide), ?_⟩
      rw [nI_clamp (by omega), hk i (by omega)]
      unfold fiN at h4
      by_cases c : nI (suX C X i) < x
      · rw [if_pos c] at h4 ⊢
        rw [nI_add]
        exact ih (i + 1) (by omega) h4
      · rw [if_neg c] at h4 ⊢
        exact h4
  exact ⟨_, key 601 0 rfl hq⟩
def vBin (C : zC) (X : zX) (x : Int32) : Int32 := if 0 ≤ x.toInt ∧ x.toInt < xS X then fiN (suX C X) (nI 144 * (x + nI 1)) 601 0 else (-2 : Int32)
theorem c_buriedIn (hw : zWf mb C X1 X dn dX im tr tn tp) (hm : mb ≤ 90000) (h : cR z a μ C X1 X dn dX im tr tn tp f fp) {x : Int32} {Q : Int32 → zM → Prop} (hq : ∀ μ', zOff (SC z a) μ μ' → Q (vBin C X x) μ') : pX0_buriedIn z x μ Q := by
  unfold vBin at hq
  have hS := hw.x.1
  refine c_isStorey h.N hw.x (fun k k1 k2 k3 => if01 ?_) (fun q => if00 ?_)
  · rw [if_pos (by omega)] at hq
    exact c_firstSunk hw hm h hq
  · rw [if_neg q] at hq
    exact hq μ zOff.rf
theorem t_buriedIn (hw : zWf mb C X1 X dn dX im tr tn tp) (hm : mb ≤ 90000) (h : tR th μ C X1 X dn dX im tr tn tp f fp) {x : Int32} {Q : Int32 → zM → Prop} (hq : ∀ μ', zOff (ST th) μ μ' → Q (vBin C X x) μ') : pX4_buriedIn th x μ Q := by
  unfold vBin at hq
  have hS := hw.x.1
  refine t0 (fun μ1 ho => ?_)
  have hM := h.M.offT ho
  refine u_isStorey hM hw.x (fun k k1 k2 k3 => if01 ?_) (fun q => if00 ?_)
  · rw [Int32.toInt_toInt64] at k3
    rw [if_pos (by omega)] at hq
    exact t_firstSunk hw hm hM ho hq
  · rw [Int32.toInt_toInt64] at q
    rw [if_neg q] at hq
    exact hq μ1 ho
def vSby (C : zC) (X : zX) (x : Int32) : Int32 := if 0 ≤ x then fiN (suX C X) x 601 0 else (-3 : Int32)
theorem c_sunkBy (hw : zWf mb C X1 X dn dX im tr tn tp) (hm : mb ≤ 90000) (h : cR z a μ C X1 X dn dX im tr tn tp f fp) {x : Int32} {Q : Int32 → zM → Prop} (hq : ∀ μ', zOff (SC z a) μ μ' → Q (vSby C X x) μ') : pX0_sunkBy z x μ Q := by
  unfold vSby at hq
  unfold pX0_sunkBy
  by_cases c : 0 ≤ x
  · rw [if_pos c] at hq ⊢
    exact c_firstSunk hw hm h hq
  · rw [if_neg c] at hq ⊢
    exact hq μ zOff.rf
theorem t_sunkBy (hw : zWf mb C X1 X dn dX im tr tn tp) (hm : mb ≤ 90000) (h : tR th μ C X1 X dn dX im tr tn tp f fp) {x : Int32} {Q : Int32 → zM → Prop} (hq : ∀ μ', zOff (ST th) μ μ' → Q (vSby C X x) μ') : pX4_sunkBy th x μ Q := by
  unfold vSby at hq
  refine t0 (fun μ1 ho => ?_)
  have hM := h.M.offT ho
  by_cases c : 0 ≤ x
  · rw [if_pos c] at hq ⊢
    exact t_firstSunk hw hm hM ho hq
  · rw [if_neg c] at hq ⊢
    exact hq μ1 ho
theorem c_fastest (hw : zWf mb C X1 X dn dX im tr tn tp) (hm : mb ≤ 90000) (h : cR z a μ C X1 X dn dX im tr tn tp f fp) {Q : Int32 → zM → Prop} (hq : ∀ μ', zOff (SC z a) μ μ' → Q (nI (faN (incX C X) 600 1 0)) μ') : pX0_fastest z μ Q := by
  have hin : ∀ i, incX C X i < 1000000 := fun i => by
    have := suX_le hw.x (i + 1)
    unfold incX
    omega
  have sub : ∀ i, nI (suX C X (i + 1)) - nI (suX C X i) = nI (incX C X i) := fun i => pk_sub (suX_up hw.x i)
  refine c_tho h.I h.far h.N (fun μ1 ho hI _ hT => ?_)
  have key : ∀ d i bst ν, i + d = 601 → bst < 1000 → zOff (SC z a) μ ν → cIts z ν a C X1 → cSt ν (z + 11) (xgo C 0 i X) 0 → (∀ μ', zOff (SC z a) μ μ' → Q (nI (faN (incX C X) d i bst)) μ') → pX0_fastest_18 z Q (d + 1) (nI bst) (nI (incX C X bst)) (nI i) ν := by
    intro d
    induction d with
    | zero =>
      intro i bst ν hi hb o1 _ _ h4
      unfold pX0_fastest_18
      rw [if_pos (nI_lt (by omega) (by omega))]
      exact h4 ν o1
    | succ d ih =>
      intro i bst ν hi hb o1 h2 h3 h4
      unfold pX0_fastest_18
      rw [if_neg (nI_nlt (by omega) (by omega))]
      refine c_sinks h2 h3 hw.c (hw.x.go i) (by decide) (by omega) (fun μ' ho2 g1 g2 => ?_)
      rw [show xD (xsk C 0 (xgo C 0 i X)) = suX C X (i + 1) from xD_go0 C X (i + 1), xD_go0, sub, nI_add]
      unfold faN at h4
      have b1 := hin bst
      have b2 := hin i
      by_cases c : incX C X bst < incX C X i
      · rw [if_pos c] at h4
        rw [if_pos (nI_lt c (by omega))]
        exact ih (i + 1) i μ' (by omega) (by omega) (o1.tr (Ss.tho ho2)) g1 g2 h4
      · rw [if_neg c] at h4
        rw [if_neg (nI_nlt (by omega) (by omega))]
        exact ih (i + 1) bst μ' (by omega) hb (o1.tr (Ss.tho ho2)) g1 g2 h4
  refine ⟨602, ?_⟩
  unfold pX0_fastest_18
  rw [if_neg (nI_nlt (by omega) (by omega))]
  refine c_sinks hI hT hw.c hw.x (by decide) (by omega) (fun μ' ho2 g1 g2 => ?_)
  rw [show xD (xsk C 0 X) = suX C X (0 + 1) from xD_go0 C X 1, show xD X = suX C X 0 from rfl, sub, nI_add]
  have b2 := hin 0
  rw [if_pos (by
    rw [Int32.lt_iff_toInt_lt, nI_toInt (by omega)]
    have : (-1 : Int32).toInt = -1 := by decide
    omega)]
  exact key 600 1 0 μ' rfl (by decide) (ho.tr (Ss.tho ho2)) g1 g2 hq
theorem t_fastest (hw : zWf mb C X1 X dn dX im tr tn tp) (hm : mb ≤ 90000) (h : tR th μ C X1 X dn dX im tr tn tp f fp) {Q : Int32 → zM → Prop} (hq : ∀ μ', zOff (ST th) μ μ' → Q (nI (faN (incX C X) 600 1 0)) μ') : pX4_fastest th μ Q := by
  have hin : ∀ i, incX C X i < 1000000 := fun i => by
    have := suX_le hw.x (i + 1)
    unfold incX
    omega
  have sub : ∀ i, nI (suX C X (i + 1)) - nI (suX C X i) = nI (incX C X i) := fun i => pk_sub (suX_up hw.x i)
  refine t0 (fun μ1 ho => ?_)
  refine t_ahead hw hm (h.M.offT ho) ho (by decide) (fun μ' ho2 hM hk => ?_)
  replace hq := hq μ' ho2
  have key : ∀ d i bst, i + d = 601 → bst < 601 → Q (nI (faN (incX C X) d i bst)) μ' → pX4_fastest_16 th Q (d + 1) (nI bst) (nI i) μ' := by
    intro d
    induction d with
    | zero =>
      intro i bst hi hb h4
      unfold pX4_fastest_16
      rw [if_pos (nI_lt (by omega) (by omega))]
      exact h4
    | succ d ih =>
      intro i bst hi hb h4
      unfold pX4_fastest_16
      rw [if_neg (nI_nlt (by omega) (by omega))]
      refine ⟨zin2 (by omega) (by decide), vp_in_nI (by omega) (by decide), zin2 (by omega) (by decide), vp_in_nI (by omega) (by decide), ?_⟩
      rw [zcl2 (by omega), zcl2 (by omega), nI_clamp (by omega), nI_clamp (by omega), hk _ (by omega), hk _ (by omega), hk _ (by omega), hk _ (by omega), sub, sub, nI_add]
      unfold faN at h4
      have b1 := hin bst
      have b2 := hin i
      by_cases c : incX C X bst < incX C X i
      · rw [if_pos c] at h4
        rw [if_neg (nI_ge c (by omega))]
        exact ih (i + 1) i (by omega) (by omega) h4
      · rw [if_neg c] at h4
        rw [if_pos (nI_le (by omega) (by omega))]
        exact ih (i + 1) bst (by omega) hb h4
  exact ⟨_, key 600 1 0 rfl (by decide) hq⟩
end QB
