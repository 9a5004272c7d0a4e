/-! the component: heights, pay, worth -/
theorem i32_neg_msb {x : Int32} : x < 0 ↔ x.toBitVec.msb = true := by
  rw [Int32.lt_iff_toInt_lt, BitVec.msb_eq_toInt]
  simp
theorem xor_lt0 {x y : Int32} : (x ^^^ y) < 0 ↔ ((x < 0) ↔ ¬ (y < 0)) := by
  rw [i32_neg_msb, i32_neg_msb, i32_neg_msb, Int32.toBitVec_xor, BitVec.msb_xor]
  cases x.toBitVec.msb <;> cases y.toBitVec.msb <;> simp
theorem c_floor {k su : Nat} {μ : zM} (hk : k < 1000) (hs : su < 1000000) {Q : Int32 → zM → Prop} (h : Q (hgt k su) μ) : pJ2_floorDiv (nI 144 * nI k - nI su) (nI 12) μ Q := by
  have e : (nI 144 * nI k - nI su).toInt = ((144 * k : Nat) : Int) - (su : Int) := by
    rw [pk_mul]
    exact pk_sub_toInt (by omega) (by omega)
  have e0 : (0 : Int32).toInt = 0 := by decide
  have e12 : (nI 12).toInt = 12 := by decide
  refine ⟨by decide, ?_⟩
  unfold hgt at h
  by_cases c : 144 * k < su
  · rw [if_pos c] at h
    have hx : (nI 144 * nI k - nI su) < 0 := by rw [Int32.lt_iff_toInt_lt, e, e0]; omega
    have hn : ¬ 0 ≤ ((nI 144 * nI k - nI su) ^^^ nI 12) := by
      rw [← Int32.not_lt, Classical.not_not, xor_lt0]
      exact ⟨fun _ => by decide, fun _ => hx⟩
    rw [if_neg hn]
    obtain ⟨d, hd⟩ : ∃ d, d = su - 144 * k := ⟨_, rfl⟩
    have ex : nI 144 * nI k - nI su = -(nI d) := by
      rw [pk_mul, hd, ← pk_sub (show 144 * k ≤ su by omega)]
      grind
    have ed : (nI d).toInt = d := nI_toInt (by omega)
    have ediv : -(nI d) / nI 12 = -(nI (d / 12)) := by
      apply Int32.toInt_inj.mp
      have e1 : (-(nI d)).toInt = -(d : Int) := by
        rw [← ex, e]
        omega
      have e2 : (-(nI (d / 12))).toInt = -((d / 12 : Nat) : Int) := by
        rw [Int32.toInt_neg, nI_toInt (by omega)]
        apply Int.bmod_eq_of_le <;> omega
      rw [Int32.toInt_div, e1, e12, e2]
      have e3 : Int.tdiv (-(d : Int)) 12 = -((d / 12 : Nat) : Int) := by
        rw [Int.neg_tdiv]
        congr 1
      rw [e3]
      apply Int.bmod_eq_of_le <;> omega
    have emul : -(nI (d / 12)) * nI 12 = -(nI (d / 12 * 12)) := by
      rw [← pk_mul]
      grind
    rw [ex, ediv, emul]
    rw [← hd] at h
    by_cases c2 : d % 12 = 0
    · rw [if_pos (by rw [show d / 12 * 12 = d by omega])]
      rw [show (11 + d) / 12 = d / 12 by omega] at h
      exact h
    · rw [if_neg (fun q => c2 (by
        have q2 : nI (d / 12 * 12) = nI d := by
          have := congrArg (fun z : Int32 => -z) q
          simpa using this
        have := (nI_eq (by omega) (by omega)).mp q2
        omega))]
      rw [show (11 + d) / 12 = d / 12 + 1 by omega, ← nI_add] at h
      rw [show -(nI (d / 12)) - nI 1 = -(nI (d / 12) + nI 1) by grind]
      exact h
  · rw [if_neg c] at h
    have ex : nI 144 * nI k - nI su = nI (144 * k - su) := by rw [pk_mul, pk_sub (by omega)]
    have hn : 0 ≤ ((nI 144 * nI k - nI su) ^^^ nI 12) := by
      rw [← Int32.not_lt, xor_lt0, ex]
      intro q
      exact nI_pos (by omega) (q.mpr (by decide))
    rw [if_pos hn, ex, pk_div (by omega) (by decide) (by decide)]
    exact h
def worG (C : zC) (wa go wh k su mo : Nat) : Int32 := match kLaw C 2 with
  | none => nI 0
  | some cs => ev (wWor wa go wh k su mo) cs
section CC
variable {z : Nat} {μ : zM} {a s : Nat} {C : zC} {X X1 : zX} {b : Nat}
theorem c_lays (h : cIts z μ a C X1) {k su mo : Nat} (hk : k < 1000) (hsu : su ≤ 99999) (hmo : mo < 1000000) {Q : zM → Prop} (hq : ∀ μ', zOff (Sw a) μ μ' → zI μ' (a + 5) 0 = hgt k su → zI μ' (a + 5) 1 = nI k → zI μ' (a + 5) 2 = nI (mo % 12) → Q μ') : pX1_lays z a (nI k) (nI su) (nI mo) μ Q := by
  refine ⟨h.2.2.1, c_floor hk (by omega) ?_⟩
  rw [pk_rem (by omega) (by decide) (by decide)]
  unfold zpI
  refine ⟨vp_in_nI (by decide) (by decide), vp_in_nI (by decide) (by decide), vp_in_nI (by decide) (by decide), ?_⟩
  exact hq _ (((zw _ _ _).tr (zw _ _ _)).tr (zw _ _ _)) (by simp [zI_sI, nI_clamp]) (by simp [zI_sI, nI_clamp]) (by simp [zI_sI, nI_clamp])
theorem c_paysT (h : cIts z μ a C X1) (hC : wfC C) {k su mo : Nat} (hk : k < 1000) (hsu : su ≤ 99999) (hmo : mo < 1000000) {Q : Int32 → zM → Prop} (hq : ∀ μ', zOff (Sw a) μ μ' → Q (payV C k su mo) μ') : pX1_pays z a (nI k) (nI su) (nI mo) μ Q := by
  have hL := h.2.2.law (l := 1) (by decide)
  have h5 := h.arr 4 rfl
  dsimp only at h5
  refine ⟨h.2.2.1, ?_⟩
  cases hk1 : kLaw C 1 with
  | none =>
    rw [hk1] at hL
    have h13 : zR μ a 14 = none := hL
    rw [if_pos h13]
    have hq := hq μ zOff.rf
    unfold payV at hq
    rw [hk1] at hq
    exact hq
  | some cs =>
    rw [hk1] at hL
    obtain ⟨r, h13, hT⟩ := hL
    have hok := hC.2.2.2.2.2.2 1 cs (by decide) hk1
    rw [if_neg (fun e => by rw [show (14 : Nat) = 13 + 1 from rfl, h13] at e; cases e)]
    refine c_lays h hk hsu hmo (fun μ' ho w0 w1 w2 => ⟨r, (ho.2.1 a 14).trans h13, ?_⟩)
    refine c_value (l := 1) (W := wPay k su mo) 460 r cs _ (sumT.off (fun x hx => ⟨ho.1 x, fun k => ho.I (h.avw.2.2 x hx k), ho.2.1 x⟩) _ _ _ hT) ((ho.1 _).trans h5) (fun w h1 h2 => ?_) _ (fun v hv => ?_)
    · have hw5 := hok.w h2 (by omega) (by have := wmap_lt (l := 1) h1; omega)
      rw [Nat.add_sub_cancel_left] at hw5
      rcases (show w = 0 ∨ w = 1 ∨ w = 2 ∨ w = 3 ∨ w = 4 ∨ w = 5 by omega) with rfl | rfl | rfl | rfl | rfl | rfl
      · exact w0
      · exact w1
      · exact w2
      · simp [lawW, wmap] at hw5
      · simp [lawW, wmap] at hw5
      · simp [lawW, wmap] at hw5
    · have hq := hq _ ho
      unfold payV at hq
      rw [hk1] at hq
      dsimp only at hq
      rw [pushes_ev hv] at hq
      exact hq
theorem c_worthT (h : cIts z μ a C X1) (hC : wfC C) {wa go wh k su mo : Nat} (hwh : wh = 0 ∨ wh = 1) (hk : k < 1000) (hsu : su ≤ 99999) (hmo : mo < 1000000) {Q : Int32 → zM → Prop} (hq : ∀ μ', zOff (Sw a) μ μ' → Q (worG C wa go wh k su mo) μ') : pX1_worth z a (nI wa) (nI go) (nI wh) (nI k) (nI su) (nI mo) μ Q := by
  have hL := h.2.2.law (l := 2) (by decide)
  have h5 := h.arr 4 rfl
  dsimp only at h5
  refine ⟨h.2.2.1, ?_⟩
  cases hk1 : kLaw C 2 with
  | none =>
    rw [hk1] at hL
    have h13 : zR μ a 15 = none := hL
    rw [if_pos h13]
    have hq := hq μ zOff.rf
    unfold worG at hq
    rw [hk1] at hq
    exact hq
  | some cs =>
    rw [hk1] at hL
    obtain ⟨r, h13, hT⟩ := hL
    have hok := hC.2.2.2.2.2.2 2 cs (by decide) hk1
    rw [if_neg (fun e => by rw [show (15 : Nat) = 13 + 2 from rfl, h13] at e; cases e)]
    refine c_lays h hk hsu hmo (fun μ' ho w0 w1 w2 => ?_)
    unfold zpI
    refine ⟨vp_in_nI (by decide) (by decide), vp_in_nI (by decide) (by decide), ?_⟩
    have fin : pX1_worth_47 z a Q (nI wh) (nI 5) (zsI (zsI μ' (a + 5) (nI 3).toNatClampNeg (nI wa)) (a + 5) (nI 4).toNatClampNeg (nI go)) := by
      unfold pX1_worth_47 zpI
      have ho2 := ((ho.tr (zw μ' (nI 3).toNatClampNeg (nI wa))).tr (zw _ (nI 4).toNatClampNeg (nI go))).tr (zw _ (nI 5).toNatClampNeg (nI wh))
      refine ⟨vp_in_nI (by decide) (by decide), r, (ho2.2.1 a 15).trans h13, ?_⟩
      refine c_value (l := 2) (W := wWor wa go wh k su mo) 460 r cs _ (sumT.off (fun x hx => ⟨ho2.1 x, fun k => ho2.I (h.avw.2.2 x hx k), ho2.2.1 x⟩) _ _ _ hT) ((ho2.1 _).trans h5) (fun w h1 h2 => ?_) _ (fun v hv => ?_)
      · rcases (show w = 0 ∨ w = 1 ∨ w = 2 ∨ w = 3 ∨ w = 4 ∨ w = 5 by omega) with rfl | rfl | rfl | rfl | rfl | rfl <;> simp [zI_sI, nI_clamp, wmap, wWor, w0, w1, w2]
      · have hq := hq _ ho2
        unfold worG at hq
        rw [hk1] at hq
        dsimp only at hq
        rw [pushes_ev hv] at hq
        exact hq
    rcases hwh with rfl | rfl
    · show (if nI 0 = 0 then _ else _)
      rw [if_pos nI_0]
      exact fin
    · show (if nI 1 = 0 then _ else _)
      rw [if_neg nI1_ne0]
      exact fin
end CC
