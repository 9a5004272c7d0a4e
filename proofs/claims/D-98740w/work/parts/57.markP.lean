/-! marks, plain; the component begins, sinks, fits -/
def sh (C : zC) (X1 : zX) (h n : Nat) : Nat := suN C (h + wt C X1 0) (xS X1) (xD X1) (xM X1) n
def ftN (C : zC) (X1 : zX) (p : zTp) (h k : Nat) : Bool := decide (((sh C X1 h (p.2.2 (2 * k)).toInt.toNat : Nat) : Int) = (p.2.2 (2 * k + 1)).toInt)
def fitsN (C : zC) (X1 : zX) (p : zTp) (h : Nat) : Nat → Bool
  | 0 => true
  | k + 1 => fitsN C X1 p h k && ftN C X1 p h k
def fitB (C : zC) (X1 : zX) (p : zTp) (h : Nat) : Bool := fitsN C X1 p h (p.2.1 / 2)
/-- how many fit below h -/
def cntF (C : zC) (X1 : zX) (p : zTp) : Nat → Nat
  | 0 => 0
  | h + 1 => if fitB C X1 p h = true then cntF C X1 p h + 1 else cntF C X1 p h
theorem cntF_le {C : zC} {X1 : zX} {p : zTp} : ∀ h, cntF C X1 p h ≤ h
  | 0 => Nat.le_refl _
  | h + 1 => by
    have := cntF_le (C := C) (X1 := X1) (p := p) h
    rw [cntF]
    split <;> omega
theorem cntF_mono {C : zC} {X1 : zX} {p : zTp} {h : Nat} : ∀ d, cntF C X1 p h ≤ cntF C X1 p (h + d)
  | 0 => Nat.le_refl _
  | d + 1 => by
    have := cntF_mono (C := C) (X1 := X1) (p := p) (h := h) d
    rw [← Nat.add_assoc, cntF]
    split <;> omega
theorem cntF_lt {C : zC} {X1 : zX} {p : zTp} {h h' : Nat} (hf : fitB C X1 p h = true) (hl : h < h') : cntF C X1 p h < cntF C X1 p h' := by
  have h1 : cntF C X1 p (h + 1) = cntF C X1 p h + 1 := by rw [cntF, if_pos hf]
  have h2 := cntF_mono (C := C) (X1 := X1) (p := p) (h := h + 1) (h' - (h + 1))
  rw [show h + 1 + (h' - (h + 1)) = h' by omega] at h2
  omega
theorem cntF_inj {C : zC} {X1 : zX} {p : zTp} {h h' : Nat} (hf : fitB C X1 p h = true) (hf' : fitB C X1 p h' = true) (e : cntF C X1 p h = cntF C X1 p h') : h = h' := by
  rcases Nat.lt_trichotomy h h' with q | q | q
  · have := cntF_lt hf q
    omega
  · exact q
  · have := cntF_lt hf' q
    omega
/-- the k-th that fits -/
noncomputable def hidV (C : zC) (X1 : zX) (p : zTp) (k : Nat) : Nat := @dite Nat (∃ h, h < 1000 ∧ fitB C X1 p h = true ∧ cntF C X1 p h = k) (Classical.propDecidable _) (fun h => Classical.choose h) (fun _ => 0)
theorem hidV_eq {C : zC} {X1 : zX} {p : zTp} {h : Nat} (h1 : h < 1000) (hf : fitB C X1 p h = true) : hidV C X1 p (cntF C X1 p h) = h := by
  have he : ∃ h', h' < 1000 ∧ fitB C X1 p h' = true ∧ cntF C X1 p h' = cntF C X1 p h := ⟨h, h1, hf, rfl⟩
  unfold hidV
  rw [dif_pos he]
  obtain ⟨c1, c2, c3⟩ := Classical.choose_spec he
  exact cntF_inj c2 hf c3
theorem hidV_ex {C : zC} {X1 : zX} {p : zTp} {k : Nat} : ∀ h, h ≤ 1000 → k < cntF C X1 p h → ∃ h', h' < h ∧ fitB C X1 p h' = true ∧ cntF C X1 p h' = k ∧ hidV C X1 p k = h'
  | 0, _, hk => by rw [cntF] at hk; omega
  | h + 1, hh, hk => by
    rw [cntF] at hk
    by_cases c : k < cntF C X1 p h
    · obtain ⟨h', a1, a2, a3, a4⟩ := hidV_ex h (by omega) c
      exact ⟨h', by omega, a2, a3, a4⟩
    · by_cases c2 : fitB C X1 p h = true
      · rw [if_pos c2] at hk
        have e : cntF C X1 p h = k := by omega
        exact ⟨h, by omega, c2, e, by rw [← e]; exact hidV_eq (by omega) c2⟩
      · rw [if_neg c2] at hk
        omega
def mSh (p : zTp) : Prop := p.2.1 % 2 = 0 ∧ 2 ≤ p.2.1 ∧ p.2.1 ≤ 16
def mAl (p : zTp) : Prop := ∀ k, k < p.2.1 / 2 → (1 ≤ (p.2.2 (2 * k)).toInt ∧ (p.2.2 (2 * k)).toInt ≤ 60) ∧ 0 ≤ (p.2.2 (2 * k + 1)).toInt ∧ (p.2.2 (2 * k + 1)).toInt ≤ 99999
noncomputable def mAns (tr : zTy) (x : Int32) (g : zTp → Int32) : Int32 := vTr tr x (-2 : Int32) (fun p => @ite Int32 (mSh p) (Classical.propDecidable _) (@ite Int32 (mAl p) (Classical.propDecidable _) (g p) (-3 : Int32)) (-4 : Int32))
section MP2
variable {z th a s : Nat} {μ μ' : zM} {C : zC} {X1 X : zX} {dn : Nat} {dX : Nat → zX} {im : zIm} {tr : zTy} {tn : Nat} {tp : Nat → Nat} {f fp : Int32} {mb : Nat}
theorem mAns_0 {x : Int32} {g : zTp → Int32} (h : ¬ (0 ≤ x.toInt ∧ x.toInt ≤ 3)) : mAns tr x g = (-2 : Int32) := by
  unfold mAns vTr
  rw [if_neg h]
theorem mAns_n {x : Int32} {t : Nat} {g : zTp → Int32} (ht : t < 4) (hx : x.toInt = t) (e : tr t = none) : mAns tr x g = (-6 : Int32) := by
  unfold mAns vTr
  rw [if_pos (by omega), hx, Int.toNat_natCast, e]
theorem mAns_4 {x : Int32} {t : Nat} {p : zTp} {g : zTp → Int32} (ht : t < 4) (hx : x.toInt = t) (e : tr t = some p) (h : ¬ mSh p) : mAns tr x g = (-4 : Int32) := by
  unfold mAns vTr
  rw [if_pos (by omega), hx, Int.toNat_natCast, e]
  dsimp only
  rw [if_neg h]
theorem mAns_3 {x : Int32} {t : Nat} {p : zTp} {g : zTp → Int32} (ht : t < 4) (hx : x.toInt = t) (e : tr t = some p) (h : mSh p) (h2 : ¬ mAl p) : mAns tr x g = (-3 : Int32) := by
  unfold mAns vTr
  rw [if_pos (by omega), hx, Int.toNat_natCast, e]
  dsimp only
  rw [if_pos h, if_neg h2]
theorem mAns_g {x : Int32} {t : Nat} {p : zTp} {g : zTp → Int32} (ht : t < 4) (hx : x.toInt = t) (e : tr t = some p) (h : mSh p) (h2 : mAl p) : mAns tr x g = g p := by
  unfold mAns vTr
  rw [if_pos (by omega), hx, Int.toNat_natCast, e]
  dsimp only
  rw [if_pos h, if_pos h2]
theorem sh_le (hX : wfX C X1 mb) (h n : Nat) : sh C X1 h n ≤ 99999 := suN_le C _ _ _ _ hX.2.1 n
theorem c_begins (h : cIts z μ a C X1) (h2 : zty μ s = some (.inl 2)) {Q : Option Nat → zM → Prop} (hq : ∀ μ', zOff (So s) μ μ' → cSt μ' s X1 0 → Q (some s) μ') : pX2_begins z s μ Q := by
  have hd := h.dj h2
  have z6 : zcr (nI 0) (nI 0) (nI 6) 6 6 := ⟨by decide, by decide, by decide, by decide, by decide⟩
  have z8 : zcr (nI 0) (nI 0) (nI 8) 8 8 := ⟨by decide, by decide, by decide, by decide, by decide⟩
  obtain ⟨g0, g1, g2, g3, g4, g5, g6, g7, g8, g9, g10, g11, g12, g13⟩ := h.2.2
  refine ⟨h2, a, h.2.1, h.2.2.1, z6, a, h.2.1, h.2.2.1, z6, a, h.2.1, h.2.2.1, z8, a, h.2.1, h.2.2.1, a, h.2.1, h.2.2.1, a, h.2.1, h.2.2.1, ?_⟩
  have c0 : (nI 0).toNatClampNeg = 0 := by decide
  have c6 : (nI 6).toNatClampNeg = 6 := by decide
  have c8 : (nI 8).toNatClampNeg = 8 := by decide
  rw [c0, c6, c8]
  have oo : zOff (So s) μ (zcp (zcp (zcp μ (a + 4) (s + 1) 0 0 6) (a + 2) (s + 2) 0 0 6) (a + 1) (s + 3) 0 0 8) := ((zOff.cp (fun k _ _ => by unfold So; omega)).tr (zOff.cp (fun k _ _ => by unfold So; omega))).tr (zOff.cp (fun k _ _ => by unfold So; omega))
  have o1 : ∀ (ν : zM) (k : Nat) (v : Int32), zOff (So s) ν (zsI ν s k v) := fun ν k v => zOff.sI (by unfold So; omega)
  have e3 : ∀ (ν : zM) (k : Nat), zOff (So s) μ ν → zI ν a k = zI μ a k := fun ν k ho => ho.I (fun q => by unfold So at q; omega)
  unfold zpI
  dsimp only
  rw [e3 _ 5 oo, e3 _ 7 (oo.tr (o1 _ _ _)), e3 _ 8 ((oo.tr (o1 _ _ _)).tr (o1 _ _ _)), g1, g3, g4]
  refine hq _ ((((oo.tr (o1 _ _ _)).tr (o1 _ _ _)).tr (o1 _ _ _)).tr (o1 _ _ _)) ⟨h2, ?_, ?_, ?_, ?_, fun j hj => ?_, fun j hj => ?_, fun j hj => ?_⟩
  all_goals simp only [zI_sI, zI_cp]
  · rw [if_neg (by omega), if_neg (by omega), if_neg (by omega), if_pos (by simp)]
  · rw [if_neg (by omega), if_neg (by omega), if_pos (by simp)]
  · rw [if_neg (by omega), if_pos (by simp)]
  · rw [if_pos (by simp)]
  · rw [if_neg (by omega), if_neg (by omega), if_neg (by omega), if_neg (by omega), if_neg (by omega), if_neg (by omega), if_pos ⟨trivial, by omega, by omega⟩, Nat.zero_add, Nat.sub_zero]; exact g12 j hj
  · rw [if_neg (by omega), if_neg (by omega), if_neg (by omega), if_neg (by omega), if_neg (by omega), if_pos ⟨trivial, by omega, by omega⟩, if_neg (by omega), Nat.zero_add, Nat.sub_zero]; exact g10 j hj
  · rw [if_neg (by omega), if_neg (by omega), if_neg (by omega), if_neg (by omega), if_pos ⟨trivial, by omega, by omega⟩, if_neg (by omega), if_neg (by omega), Nat.zero_add, Nat.sub_zero]; exact g9 j hj
theorem cSt.be6 {b b' : Nat} (hs : cSt μ s X b) : cSt (zsI μ s 6 (nI b')) s X b' := by
  refine ⟨hs.ty, ?_, ?_, ?_, ?_, fun j hj => ?_, fun j hj => ?_, fun j hj => ?_⟩
  all_goals simp only [zI_sI, true_and]
  · rw [if_neg (by omega)]; exact hs.S
  · rw [if_neg (by omega)]; exact hs.D
  · rw [if_neg (by omega)]; exact hs.M
  · rw [if_pos trivial]
  · rw [if_neg (by omega)]; exact hs.O hj
  · rw [if_neg (by omega)]; exact hs.G hj
  · rw [if_neg (by omega)]; exact hs.W hj
def Sj (z a x _ : Nat) : Prop := x = a + 5 ∨ (z + 11 ≤ x ∧ x ≤ z + 14) ∨ x = z + 65
theorem Sj.c (ho : zOff (Sj z a) μ μ') : zOff (SC z a) μ μ' := ho.mono (fun x k q => by unfold Sj at q; unfold SC; omega)
theorem c_laysSunkH (hw : zWf mb C X1 X dn dX im tr tn tp) (h : cR z a μ C X1 X dn dX im tr tn tp f fp) {hd : Nat} (hh : hd ≤ 999) {Q : zM → Prop} (hq : ∀ μ', zOff (Sj z a) μ μ' → (∀ n, n ≤ 60 → zI μ' (z + 65) n = nI (sh C X1 hd n)) → Q μ') : pX0_laysSunk z (nI hd) μ Q := by
  have hfar := h.far
  unfold zfar at hfar
  refine c_begins h.I h.I.tho (fun μ1 o1 s1 => ⟨z + 11, rfl, s1.ty, ?_⟩)
  unfold zpI
  have o2 : zOff (Sj z a) μ (zsI μ1 (z + 11) 6 (nI hd)) := (o1.mono (T := Sj z a) (fun x k q => by unfold So at q; unfold Sj; omega)).tr (zOff.sI (by unfold Sj; omega))
  refine zupS (W := fun g k ν => pX0_laysSunk_13 z Q g (nI k) ν) (fun k ν => zOff (Sj z a) μ ν ∧ cSt ν (z + 11) (xgo C hd k X1) hd ∧ ∀ n, n < k → zI ν (z + 65) n = nI (sh C X1 hd n)) 61 (fun g ν hν => ?_) (fun g k ν hk hν ih => ?_) 0 _ (Nat.zero_le _) ⟨o2, s1.be6, fun n hn => absurd hn (Nat.not_lt_zero _)⟩
  · unfold pX0_laysSunk_13
    rw [if_pos (by decide)]
    exact hq ν hν.1 (fun n hn => hν.2.2 n (by omega))
  · obtain ⟨p1, p2, p3⟩ := hν
    have hR := h.off (Sj.c p1)
    unfold pX0_laysSunk_13
    rw [if_neg (nI_nlt (by omega) (by decide))]
    refine ⟨vp_in_nI hk (by decide), ?_⟩
    unfold zpI
    rw [nI_clamp (by omega), p2.D]
    have oz : zOff (fun x _ => x = z + 65) ν (zsI ν (z + 65) k (nI (xD (xgo C hd k X1)))) := zOff.sI rfl
    have o3 : zOff (Sj z a) μ (zsI ν (z + 65) k (nI (xD (xgo C hd k X1)))) := p1.tr (oz.mono (fun x k q => by unfold Sj; omega))
    have hR3 := h.off (Sj.c o3)
    refine c_sinks hR3.I (p2.off oz (fun k => by omega) (fun i k q1 q2 => by omega)) hw.c (hw.x1.go k) hh (by omega) (fun μ4 o4 hI4 s4 => ?_)
    rw [nI_add]
    refine ih μ4 ⟨o3.tr (o4.mono (fun x k q => by unfold Ss at q; unfold Sj; omega)), s4, fun n hn => ?_⟩
    rw [o4.I (by unfold Ss; omega), zI_sI]
    by_cases c : n = k
    · subst c
      rw [if_pos ⟨rfl, rfl⟩, xD_go]
      rfl
    · rw [if_neg (fun q => c q.2)]
      exact p3 n (by omega)
theorem c_fitsMark (h : cR z a μ C X1 X dn dX im tr tn tp f fp) (hw : zWf mb C X1 X dn dX im tr tn tp) {t : Nat} {p : zTp} (ht : t < 4) (hp : tr t = some p) (hs : mSh p) (hl : mAl p) {hd k : Nat} (hk : k < p.2.1 / 2) (h65 : ∀ n, n ≤ 60 → zI μ (z + 65) n = nI (sh C X1 hd n)) {Q : Int32 → zM → Prop} (hq : Q (if ftN C X1 p hd k = true then nI 1 else nI 0) μ) : pX0_fitsMark z (z + 71 + t) (nI k) μ Q := by
  obtain ⟨b, b1, b2, _, _, _, b6⟩ := (h.Tr t ht).2 p hp
  have b0 := (h.Fx.2.1 t ht).2
  have hso := (hw.trs t p hp).1
  have hm40 := (hw.trs t p hp).2
  obtain ⟨⟨l1, l2⟩, l3, l4⟩ := hl k hk
  have hsl := sh_le (C := C) hw.x1 hd (p.2.2 (2 * k)).toInt.toNat
  refine ⟨b0, ?_⟩
  rw [pk_mul, nI_add]
  refine c_number b0 b1 b2 hso (vp_in_nI (by omega) (by omega)) ?_
  rw [nI_clamp (by omega), b6 _ (by omega)]
  obtain ⟨j, j1, j2, j3⟩ := i64N (show 0 ≤ (p.2.2 (2 * k)).toInt by omega)
  have hj60 : j ≤ 60 := by omega
  unfold ftN at hq
  rw [j2] at hsl hq j3 ⊢
  rw [lN_i]
  refine ⟨vp_in_nI (by omega) (by decide), ?_⟩
  refine c_number b0 b1 b2 hso (vp_in_nI (by omega) (by omega)) ?_
  rw [nI_clamp (show 2 * k + 1 < 2 ^ 31 by omega), b6 _ (by omega), nI_clamp (by omega), h65 j (by omega)]
  rw [j3, Int.toNat_natCast] at hq hsl
  by_cases c : ((sh C X1 hd j : Nat) : Int) = (p.2.2 (2 * k + 1)).toInt
  · rw [if_pos (decide_eq_true c)] at hq
    rw [if_pos (lg_eq.mpr (by rw [Int32.toInt_toInt64, nI_toInt (by omega)]; exact c))]
    exact hq
  · rw [if_neg (by rw [decide_eq_true_eq]; exact c)] at hq
    rw [if_neg (fun q => c (by have := lg_eq.mp q; rw [Int32.toInt_toInt64, nI_toInt (by omega)] at this; exact this))]
    exact hq
theorem c_marksFault (hw : zWf mb C X1 X dn dX im tr tn tp) (h : cR z a μ C X1 X dn dX im tr tn tp f fp) {x : Int32} {Q : Int32 → zM → Prop} (h1 : ∀ t p, t < 4 → x = nI t → x.toInt = t → tr t = some p → mSh p → mAl p → Q (nI 0) μ) (h2 : ∀ r, r ≠ 0 → (∀ g, mAns tr x g = r) → Q r μ) : pX0_marksFault z x μ Q := by
  refine c_tray h (fun q => h2 _ (by decide) (fun g => mAns_0 q)) (fun t ht t2 t3 => ?_)
  replace h1 := fun p => h1 t p ht t2 t3
  obtain ⟨f1, f2⟩ := h.Fx.2.1 t ht
  have ht2 := h.Tr t ht
  have f1' : zR μ (z + 70) x.toNatClampNeg = some (z + 71 + t) := by rw [t2, nI_clamp (by omega)]; exact f1
  refine ⟨by rw [t2]; exact vp_in_nI ht (by decide), z + 71 + t, f1', f2, ?_⟩
  cases e : tr t with
  | none =>
    rw [if_pos (ht2.1 e)]
    exact h2 _ (by decide) (fun g => mAns_n ht t3 e)
  | some p =>
    obtain ⟨b, b1, b2, _, _, _, b6⟩ := ht2.2 p e
    have hso := (hw.trs t p e).1
    have hm40 := (hw.trs t p e).2
    rw [if_neg (by rw [b1]; intro q; cases q)]
    refine c_many f2 b1 b2 hso ?_
    rw [pk_rem (by omega) (by decide) (by decide)]
    by_cases c1 : p.2.1 % 2 = 1
    · rw [if_pos (by rw [c1])]
      exact h2 _ (by decide) (fun g => mAns_4 ht t3 e (fun q => by have := q.1; omega))
    rw [if_neg (fun q => c1 ((nI_eq (by omega) (by decide)).mp q))]
    refine c_many f2 b1 b2 hso ?_
    refine rin32 (a := 2) (b := 16) rfl rfl (fun q1 q2 => if01 ?_) (fun q => if00 ?_)
    · rw [nI_toInt (by omega)] at q1 q2
      have hs : mSh p := ⟨by omega, by omega, by omega⟩
      refine zup (W := fun g k => (∀ j, j < k → (1 ≤ (p.2.2 (2 * j)).toInt ∧ (p.2.2 (2 * j)).toInt ≤ 60) ∧ 0 ≤ (p.2.2 (2 * j + 1)).toInt ∧ (p.2.2 (2 * j + 1)).toInt ≤ 99999) → pX0_marksFault_59 z Q g (z + 71 + t) (nI (2 * k)) μ) (p.2.1 / 2) (fun g hk => ?_) (fun g k hk ih hall => ?_) 0 (Nat.zero_le _) |>.elim (fun n hn => ⟨n, hn (fun j hj => absurd hj (Nat.not_lt_zero _))⟩)
      · unfold pX0_marksFault_59
        refine c_many f2 b1 b2 hso ?_
        rw [if_pos (nI_le (by omega) (by omega))]
        exact h1 p e hs hk
      · unfold pX0_marksFault_59
        refine c_many f2 b1 b2 hso ?_
        rw [if_neg (nI_ge (by omega) (by omega))]
        refine c_number f2 b1 b2 hso (vp_in_nI (by omega) (by omega)) ?_
        rw [nI_clamp (by omega), b6 _ (by omega)]
        refine rin (a := 1) (b := 60) rfl rfl (fun r1 r2 => if01 ?_) (fun r => if00 ?_)
        · rw [nI_add]
          refine c_number f2 b1 b2 hso (vp_in_nI (by omega) (by omega)) ?_
          rw [nI_clamp (by omega), b6 _ (by omega)]
          refine rin (a := 0) (b := 99999) rfl rfl (fun r3 r4 => if01 ?_) (fun r => if00 ?_)
          · rw [nI_add]
            refine ih (fun j hj => ?_)
            by_cases c : j = k
            · subst c
              exact ⟨⟨r1, r2⟩, r3, r4⟩
            · exact hall j (by omega)
          · exact h2 _ (by decide) (fun g => mAns_3 ht t3 e hs (fun q => r (q k hk).2))
        · exact h2 _ (by decide) (fun g => mAns_3 ht t3 e hs (fun q => r (q k hk).1))
    · rw [nI_toInt (by omega)] at q
      exact h2 _ (by decide) (fun g => mAns_4 ht t3 e (fun s => q ⟨by have := s.2.1; omega, by have := s.2.2; omega⟩))
end MP2
