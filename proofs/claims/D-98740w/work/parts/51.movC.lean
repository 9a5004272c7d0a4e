/-! moves: the component, by mays -/
theorem nshr : ∀ m, m < 256 → ∀ b, b < 9 → (nI m &&& (((nI 1 <<< (nI b &&& 31)) - nI 1) ^^^ (-1 : Int32))) = nI (m / 2 ^ b * 2 ^ b) := by decide +kernel
theorem nshr_t : ∀ m, m < 256 → ∀ b, b < 9 → ∀ x, x < 8 → ((m / 2 ^ b * 2 ^ b).testBit x = true ↔ b ≤ x ∧ m.testBit x = true) := by decide +kernel
theorem nshr_lt {m b : Nat} (h : m < 256) : m / 2 ^ b * 2 ^ b < 256 := Nat.lt_of_le_of_lt (Nat.div_mul_le_self _ _) h
def omk (C : zC) (X : zX) (t n : Nat) : Nat := pmk C X t (xS X) / 2 ^ bur (xS X) (sn C X n) * 2 ^ bur (xS X) (sn C X n)
theorem omk_t {C : zC} {X : zX} {mb t n w : Nat} (hX : wfX C X mb) (hw : w < 8) : (omk C X t n).testBit w = true ↔ opn C X t w ∧ sn C X n < 144 * (w + 1) := by
  have hS := hX.1
  unfold omk
  rw [nshr_t _ (pmk_lt _ hS) _ (by unfold bur; omega) w hw, pmk_t]
  unfold opn bur
  constructor
  · rintro ⟨h1, h2⟩
    exact ⟨h2, by omega⟩
  · rintro ⟨h1, h2⟩
    exact ⟨by have := h1.1; omega, h1⟩
theorem m4_le : lg_cmp (lI (-4000000000000)) (lI (-4000000000000)) ≤ 0 := (lI_le (by omega) (by omega) (by omega) (by omega)).mpr (Int.le_refl _)
theorem lI_m4 : lI (-4000000000000) = (-4000000000000 : Int64) := rfl
theorem mxF_DV {C : zC} {X : zX} {mb t N n w : Nat} {b : Int} (hC : wfC C) (hX : wfX C X mb) (ht : t < 6) (hN : N ≤ 1000) (hn : n < N) (hw : rg X w) (hb : b < -3000000000) : mxF (goB C X t n w) (vl C X t N n w) 9 b = DV C X t N (N - n) w := by
  obtain ⟨h1, h2, h3⟩ := mxF_spec (goB C X t n w) (vl C X t N n w) b 9
  obtain ⟨g1, u, u1, u2, u3⟩ := DV_max hC hX ht hN hn hw
  have a1 := h2 u u1 (goB_t.mpr u2)
  have b1 := vl_bd (N := N) (n := n) (f := w) hC hX ht hN (u2.rg hw)
  rcases h3 with h3 | ⟨i, i1, i2, i3⟩
  · omega
  · have := g1 i (goB_t.mp i2)
    omega
section MC
variable {z a : Nat} {μ : zM} {C : zC} {X1 X : zX} {dn : Nat} {dX : Nat → zX} {im : zIm} {tr : zTy} {tn : Nat} {tp : Nat → Nat} {f fp : Int32} {mb t N : Nat}
theorem c_gainJ (hw : zWf mb C X1 X dn dX im tr tn tp) (hm : mb ≤ 80000) (hR : cR z a μ C X1 X dn dX im tr tn tp f fp) (ht : t < 6) {n k : Nat} (hs : cSt μ (z + 11) (xgo C 0 n X) 0) (hn : n ≤ 60) (hk : k < 9) {Q : Int64 → zM → Prop} (hq : ∀ μ', zOff (Sw a) μ μ' → Q (lI (gnI C X t n k)) μ') : pX0_gain z (nI t) (nI k) μ Q := by
  have h3 := hw.x.2.2.1
  have hsn := sn_le (C := C) hw.x n
  have ho := hw.x.O ht
  have v6 : vp_in (nI t) 6 := vp_in_nI ht (by decide)
  unfold gnI at hq
  unfold pX0_gain
  by_cases c : k = 8
  · rw [if_pos ((nI_8 hk).mpr c)]
    have := hq μ zOff.rf
    rw [if_pos c] at this
    exact this
  · rw [if_neg (fun q => c ((nI_8 hk).mp q))]
    refine ⟨a, hR.I.2.1, a, hR.I.2.1, hR.I.2.2.1, v6, v6, v6, ?_⟩
    rw [nI_clamp (by omega), hR.N.O ht, hR.N.G ht, hR.I.2.2.Wa ht]
    have eD : xD (xgo C 0 n X) = sn C X n := by rw [xD_go, Nat.zero_add]; rfl
    have eM : xM (xgo C 0 n X) = xM X + n := xM_go C 0 X n
    have fin : ∀ b, (b = 0 ∨ b = 1) → (if xO X t = k + 1 then 1 else 0) = b → pX0_gain_50 z (nI k) Q (nI b) (nI (xG X t)) (nI (kW C t)) a μ := by
      intro b hb01 hb
      unfold pX0_gain_50
      rw [hs.D, hs.M, eD, eM]
      refine c_worthT hR.I hw.c hb01 (by omega) hsn (by omega) (fun μ1 o1 => ?_)
      have hI1 := hR.I.off o1 hR.I.avw
      have hs1 := hs.offW hR.I o1
      refine c_pays hI1 hs1 hw.c (hw.x.go n) (by omega) (by omega) (fun μ2 o2 => ?_)
      have := hq μ2 (o1.tr o2)
      rw [if_neg c, worV_eq, hb] at this
      rw [eD, eM, lI_of, lI_of, lI_sub]
      exact this
    by_cases c1 : xO X t = k + 1
    · rw [if_pos ((eO_nI (by omega) (by omega)).mpr c1)]
      exact fin 1 (Or.inr rfl) (by rw [if_pos c1])
    · rw [if_neg (fun q => c1 ((eO_nI (by omega) (by omega)).mp q))]
      exact fin 0 (Or.inl rfl) (by rw [if_neg c1])
theorem c_has8 {m x : Nat} (hm : m < 256) (hx : x < 8) {Q : Int32 → zM → Prop} (hq : Q (if m.testBit x = true then nI 1 else nI 0) μ) : pX0_has z (nI m) (nI x) μ Q := by
  unfold pX0_has
  by_cases c : m.testBit x = true
  · rw [if_pos c] at hq
    rw [if_pos ((nhas m hm x hx).mpr c)]
    exact hq
  · rw [if_neg c] at hq
    rw [if_neg (fun q => c ((nhas m hm x hx).mp q))]
    exact hq
theorem c_moving (hw : zWf mb C X1 X dn dX im tr tn tp) (hI : cIts z μ a C X1) {i g w : Nat} (hi : i < 5) (hg : g < 9) (hw9 : w < 9) (ho : zI μ (z + 61) i = nI (omk C X t (mm X i))) {Q : Int64 → zM → Prop} (h1 : goP C X t (mm X i) g w → Q (lI (-(if g = w then 0 else (kV C : Int)))) μ) (h0 : ¬ goP C X t (mm X i) g w → Q (lI (-4000000000000)) μ) : pX0_moving z (nI i) (nI g) (nI w) μ Q := by
  have hS := hw.x.1
  have hV := hw.c.2.2.2.1
  have hfl := fM_lt (X := X)
  unfold pX0_moving
  by_cases c1 : g = w
  · rw [if_pos (by rw [c1])]
    have := h1 (Or.inl c1)
    rw [if_pos c1] at this
    exact this
  rw [if_neg (fun q => c1 ((nI_eq (by omega) (by omega)).mp q))]
  by_cases c2 : w = 8
  · rw [if_pos (nI_le (by omega) (by omega))]
    refine h0 (fun q => ?_)
    rcases q with q | q
    · exact c1 q
    · have := q.1.1
      omega
  rw [if_neg (nI_ge (by omega) (by decide))]
  refine ⟨vp_in_nI hi (by decide), ?_⟩
  rw [nI_clamp (by omega), ho]
  refine c_has8 (nshr_lt (pmk_lt _ hS)) (by omega) ?_
  have hb := omk_t (t := t) (n := mm X i) hw.x (show w < 8 by omega)
  unfold omk at hb
  by_cases c3 : (pmk C X t (xS X) / 2 ^ bur (xS X) (sn C X (mm X i)) * 2 ^ bur (xS X) (sn C X (mm X i))).testBit w = true
  · rw [if_pos c3]
    refine if01 ⟨a, hI.2.1, hI.2.2.1, ?_⟩
    have e11 : zI μ a 11 = nI (kV C) := hI.2.2.2.2.2.2.2.2.2.1
    have := h1 (Or.inr ⟨(hb.mp c3).1, by unfold mm; omega, (hb.mp c3).2⟩)
    rw [if_neg c1] at this
    have eT : (-(nI (kV C))).toInt = -(kV C : Int) := by
      rw [Int32.toInt_neg, nI_toInt (by omega)]
      apply Int.bmod_eq_of_le <;> omega
    rw [e11, lI_of, eT]
    exact this
  · rw [if_neg c3]
    refine if00 (h0 (fun q => ?_))
    rcases q with q | q
    · exact c1 q
    · exact c3 (hb.mpr ⟨q.1, q.2.2⟩)
/-- what stays and most hold, where they count -/
def cSy (z : Nat) (ν : zM) (C : zC) (X : zX) (t N y : Nat) : Prop := ∀ i, i ≤ y → ∀ w, rch C X t w → zJ ν (z + 59) (9 * i + w) = lI (FS C X t N i w)
def cMs (z : Nat) (ν : zM) (C : zC) (X : zX) (t N y m : Nat) : Prop := ∀ i, m ≤ i → i ≤ y → ∀ w, rch C X t w → zJ ν (z + 60) (9 * i + w) = lI (Mst C X t N i w)
def cOp (z : Nat) (ν : zM) (C : zC) (X : zX) (t y : Nat) : Prop := ∀ i, i < y → zI ν (z + 61) i = nI (omk C X t (mm X i))
theorem c_through (hw : zWf mb C X1 X dn dX im tr tn tp) (hI : cIts z μ a C X1) (ht : t < 6) {y i g w : Nat} (hy : y ≤ 5) (hi : i < y) (hg : g < 9) (hw9 : w < 9) (ho : cOp z μ C X t y) (hs : cSy z μ C X t (12 * y) y) (hM : cMs z μ C X t (12 * y) y (i + 1)) (hgo : goP C X t (mm X i) g w) {Q : Int64 → zM → Prop} (hq : ∀ v, (rch C X t w → v = lI (vl C X t (12 * y) (mm X i) g w)) → Q v μ) : pX0_through z (nI i) (nI g) (nI w) μ Q := by
  have hfl := fM_lt (X := X)
  unfold pX0_through
  refine c_moving hw hI (by omega) hg hw9 (ho i hi) (fun _ => ?_) (fun q => absurd hgo q)
  rw [nI_add, pk_mul, nI_add]
  have v54 : vp_in (nI (9 * (i + 1) + w)) 54 := vp_in_nI (by omega) (by decide)
  refine ⟨v54, v54, hq _ (fun hr => ?_)⟩
  rw [nI_clamp (by omega), hs (i + 1) (by omega) w hr, hM (i + 1) (Nat.le_refl _) (by omega) w hr, lI_add, lI_add]
  have e := FS_s (N := 12 * y) hw.c hw.x ht (by omega) (i := i) (by unfold mm; omega) hr.rg
  unfold vl
  congr 1
  omega
theorem c_mostFrom (hw : zWf mb C X1 X dn dX im tr tn tp) (hI : cIts z μ a C X1) (ht : t < 6) {y i g : Nat} (hy : y ≤ 5) (hi : i < y) (hg : g < 9) (ho : cOp z μ C X t y) (hs : cSy z μ C X t (12 * y) y) (hM : cMs z μ C X t (12 * y) y (i + 1)) {Q : Int64 → zM → Prop} (hq : ∀ v, (rch C X t g → v = lI (Mst C X t (12 * y) i g)) → Q v μ) : pX0_mostFrom z (nI i) (nI g) μ Q := by
  have hfl := fM_lt (X := X)
  have hmi : mm X i < 12 * y := by unfold mm; omega
  refine zupS (W := fun n u acc => pX0_mostFrom_7 z (nI i) (nI g) Q n acc (nI u) μ) (fun u acc => rch C X t g → acc = lI (mxF (goB C X t (mm X i) g) (vl C X t (12 * y) (mm X i) g) u (-4000000000000))) 9 (fun n acc ha => ?_) (fun n u acc hu ha ih => ?_) 0 (-4000000000000 : Int64) (Nat.zero_le _) (fun _ => rfl)
  · unfold pX0_mostFrom_7
    rw [if_pos (nI_le (Nat.le_refl _) (by decide))]
    refine hq acc (fun hr => ?_)
    rw [ha hr, mxF_DV hw.c hw.x ht (by omega) hmi hr.rg (by decide)]
    unfold Mst MsD
    rw [if_pos hmi]
  · unfold pX0_mostFrom_7
    rw [if_neg (nI_ge hu (by decide)), nI_add]
    refine c_moving hw hI (by omega) hg hu (ho i hi) (fun hgo => ?_) (fun hgo => ?_)
    · have hV := hw.c.2.2.2.1
      have c9 : (0 : Int) ≤ (if g = u then 0 else (kV C : Int)) ∧ (if g = u then 0 else (kV C : Int)) ≤ 999 := by split <;> omega
      have hcmp : ¬ lg_cmp (lI (-(if g = u then 0 else (kV C : Int)))) (lI (-4000000000000)) ≤ 0 := fun q => by have := (lI_le (by omega) (by omega) (by omega) (by omega)).mp q; omega
      rw [← lI_m4, if_neg hcmp]
      refine c_through hw hI ht hy hi hg hu ho hs hM hgo (fun v hv => ih _ (fun hr => ?_))
      have hru := hgo.rch hr
      rw [ha hr, hv hru]
      have vb := vl_bd (N := 12 * y) (n := mm X i) (f := g) hw.c hw.x ht (by omega) hru.rg
      obtain ⟨m1, m2, m3⟩ := mxF_spec (goB C X t (mm X i) g) (vl C X t (12 * y) (mm X i) g) (-4000000000000) u
      have mb2 : mxF (goB C X t (mm X i) g) (vl C X t (12 * y) (mm X i) g) u (-4000000000000) ≤ 3000000000 := by
        rcases m3 with m3 | ⟨j, j1, j2, j3⟩
        · omega
        · rw [j3]
          exact (vl_bd (N := 12 * y) (n := mm X i) (f := g) hw.c hw.x ht (by omega) ((goB_t.mp j2).rg hr.rg)).2
      rw [mxF]
      by_cases c : mxF (goB C X t (mm X i) g) (vl C X t (12 * y) (mm X i) g) u (-4000000000000) < vl C X t (12 * y) (mm X i) g u
      · have hl : ¬ lI (vl C X t (12 * y) (mm X i) g u) < lI (mxF (goB C X t (mm X i) g) (vl C X t (12 * y) (mm X i) g) u (-4000000000000)) := fun q => by have := (lI_lt (by omega) (by omega) (by omega) (by omega)).mp q; omega
        rw [if_neg hl, if_pos ⟨goB_t.mpr hgo, c⟩]
      · by_cases c2 : vl C X t (12 * y) (mm X i) g u < mxF (goB C X t (mm X i) g) (vl C X t (12 * y) (mm X i) g) u (-4000000000000)
        · rw [if_pos ((lI_lt (by omega) (by omega) (by omega) (by omega)).mpr c2), if_neg (fun q => c q.2)]
        · have hl : ¬ lI (vl C X t (12 * y) (mm X i) g u) < lI (mxF (goB C X t (mm X i) g) (vl C X t (12 * y) (mm X i) g) u (-4000000000000)) := fun q => c2 ((lI_lt (by omega) (by omega) (by omega) (by omega)).mp q)
          rw [if_neg hl, if_neg (fun q => c q.2)]
          congr 1
          omega
    · rw [← lI_m4, if_pos m4_le]
      refine ih _ (fun hr => ?_)
      rw [ha hr, mxF, if_neg (fun q => hgo (goB_t.mp q.1))]
theorem c_isFirst (hw : zWf mb C X1 X dn dX im tr tn tp) (hI : cIts z μ a C X1) (ht : t < 6) {y i g w : Nat} (hy : y ≤ 5) (hi : i < y) (hg : g < 9) (hw9 : w < 9) (hr : rch C X t g) (ho : cOp z μ C X t y) (hs : cSy z μ C X t (12 * y) y) (hM : cMs z μ C X t (12 * y) y i) {Q : Int32 → zM → Prop} (h1 : okP C X t (12 * y) (mm X i) g w → Q (nI 1) μ) (h0 : ¬ okP C X t (12 * y) (mm X i) g w → Q (nI 0) μ) : pX0_isFirst z (nI i) (nI g) (nI w) μ Q := by
  have hfl := fM_lt (X := X)
  have hmi : mm X i < 12 * y := by unfold mm; omega
  have hV := hw.c.2.2.2.1
  unfold pX0_isFirst
  refine c_moving hw hI (by omega) hg hw9 (ho i hi) (fun hgo => ?_) (fun hgo => ?_)
  · have c9 : (0 : Int) ≤ (if g = w then 0 else (kV C : Int)) ∧ (if g = w then 0 else (kV C : Int)) ≤ 999 := by split <;> omega
    have hcmp : ¬ lg_cmp (lI (-(if g = w then 0 else (kV C : Int)))) (lI (-4000000000000)) ≤ 0 := fun q => by have := (lI_le (by omega) (by omega) (by omega) (by omega)).mp q; omega
    rw [← lI_m4, if_neg hcmp]
    refine c_through hw hI ht hy hi hg hw9 ho hs (fun j q1 q2 => hM j (by omega) q2) hgo (fun v hv => ?_)
    have hrw := hgo.rch hr
    rw [hv hrw, pk_mul, nI_add]
    refine ⟨vp_in_nI (by omega) (by decide), ?_⟩
    rw [nI_clamp (by omega), hM i (Nat.le_refl _) (by omega) g hr]
    have vb := vl_bd (N := 12 * y) (n := mm X i) (f := g) hw.c hw.x ht (by omega) hrw.rg
    have db := DV_bd (N := 12 * y) hw.c hw.x ht (12 * y - mm X i) g (by omega) hr.rg
    unfold Mst MsD
    rw [if_pos hmi]
    by_cases c : vl C X t (12 * y) (mm X i) g w = DV C X t (12 * y) (12 * y - mm X i) g
    · rw [if_pos ((lI_eq (by omega) (by omega) (by omega) (by omega)).mpr c)]
      exact h1 ⟨hgo, c⟩
    · rw [if_neg (fun q => c ((lI_eq (by omega) (by omega) (by omega) (by omega)).mp q))]
      exact h0 (fun q => c q.2)
  · rw [← lI_m4, if_pos m4_le]
    exact h0 (fun q => hgo q.1)
end MC
