/-! deeds told: what they do, in a state of the component, in the twin's row -/
noncomputable def rgG (C : zC) (X : zX) : Nat → Nat := @dite (Nat → Nat) (∃ g n, RG C X g n) (Classical.propDecidable _) (fun h => Classical.choose h) (fun _ => id)
theorem rgG_ok {C : zC} {X : zX} (hT : kT C ≤ 6) : ∃ n, RG C X (rgG C X) n := by
  have h : ∃ g n, RG C X g n := RG_ex hT
  unfold rgG
  rw [dif_pos h]
  exact Classical.choose_spec h
noncomputable def xDo (C : zC) (X : zX) (v : Int) : zX := if v = -1 then xsk C 0 X else if v = 3000 then xRo C X (rgG C X) else if v = 2000 then xbu C X else if v < 1000 then xSO X (v / 100).toNat ((v % 100).toNat + 1) else if v < 2000 then xSO X (v - 1000).toNat 0 else xSG X ((v - 10000) / 1000).toNat (v % 1000).toNat
theorem why_cases {C : zC} {X : zX} {v : Int} (h : whyN C X v = 0) : v = -1 ∨ v = 3000 ∨ (v = 2000 ∧ xS X ≠ 8) ∨ (∃ t k : Nat, v = ((100 * t + k : Nat) : Int) ∧ k < 100 ∧ t < 6 ∧ t < kT C ∧ k < xS X ∧ who C X k = 0) ∨ (∃ t : Nat, v = ((1000 + t : Nat) : Int) ∧ t < 100 ∧ t < kT C) ∨ ∃ t g : Nat, v = ((10000 + 1000 * t + g : Nat) : Int) ∧ g < 1000 ∧ t < 6 ∧ t < kT C := by
  unfold whyN at h
  by_cases c1 : v = -1
  · exact Or.inl c1
  rw [if_neg c1] at h
  by_cases c2 : v = 3000
  · exact Or.inr (Or.inl c2)
  rw [if_neg c2] at h
  by_cases c3 : v = 2000
  · rw [if_pos c3] at h
    refine Or.inr (Or.inr (Or.inl ⟨c3, fun e => ?_⟩))
    rw [if_pos e] at h
    cases h
  rw [if_neg c3] at h
  by_cases c4 : 0 ≤ v ∧ v ≤ 599
  · rw [if_pos c4] at h
    obtain ⟨h1, h2, h3, h4, h5⟩ := whyM_0 h
    refine Or.inr (Or.inr (Or.inr (Or.inl ⟨(v / 100).toNat, (v % 100).toNat, ?_, ?_, ?_, ?_, ?_, h5⟩)))
    all_goals omega
  rw [if_neg c4] at h
  by_cases c5 : 1000 ≤ v ∧ v ≤ 1099
  · rw [if_pos c5] at h
    obtain ⟨h1, h2⟩ := whyL_0 h
    refine Or.inr (Or.inr (Or.inr (Or.inr (Or.inl ⟨(v - 1000).toNat, ?_, ?_, ?_⟩))))
    all_goals omega
  rw [if_neg c5] at h
  by_cases c6 : 10000 ≤ v ∧ v ≤ 15999
  · rw [if_pos c6] at h
    by_cases c7 : (v - 10000) / 1000 < kT C
    · refine Or.inr (Or.inr (Or.inr (Or.inr (Or.inr ⟨((v - 10000) / 1000).toNat, (v % 1000).toNat, ?_, ?_, ?_, ?_⟩))))
      all_goals omega
    · rw [if_neg c7] at h
      cases h
  · rw [if_neg c6] at h
    cases h
theorem xDo_1 {C : zC} {X : zX} : xDo C X (-1) = xsk C 0 X := by unfold xDo; rw [if_pos rfl]
theorem xDo_2 {C : zC} {X : zX} : xDo C X 3000 = xRo C X (rgG C X) := by unfold xDo; rw [if_neg (by decide), if_pos rfl]
theorem xDo_3 {C : zC} {X : zX} : xDo C X 2000 = xbu C X := by unfold xDo; rw [if_neg (by decide), if_neg (by decide), if_pos rfl]
theorem xDo_4 {C : zC} {X : zX} {t k : Nat} (hk : k < 100) (ht : t < 6) : xDo C X ((100 * t + k : Nat) : Int) = xSO X t (k + 1) := by
  unfold xDo
  rw [if_neg (by omega), if_neg (by omega), if_neg (by omega), if_pos (by omega), show (((100 * t + k : Nat) : Int) / 100).toNat = t by omega, show (((100 * t + k : Nat) : Int) % 100).toNat = k by omega]
theorem xDo_5 {C : zC} {X : zX} {t : Nat} (ht : t < 100) : xDo C X ((1000 + t : Nat) : Int) = xSO X t 0 := by
  unfold xDo
  rw [if_neg (by omega), if_neg (by omega), if_neg (by omega), if_neg (by omega), if_pos (by omega), show (((1000 + t : Nat) : Int) - 1000).toNat = t by omega]
theorem xDo_6 {C : zC} {X : zX} {t g : Nat} (hg : g < 1000) (ht : t < 6) : xDo C X ((10000 + 1000 * t + g : Nat) : Int) = xSG X t g := by
  unfold xDo
  rw [if_neg (by omega), if_neg (by omega), if_neg (by omega), if_neg (by omega), if_neg (by omega), show ((((10000 + 1000 * t + g : Nat) : Int) - 10000) / 1000).toNat = t by omega, show (((10000 + 1000 * t + g : Nat) : Int) % 1000).toNat = g by omega]
theorem xDo_S {C : zC} {X : zX} {v : Int} : xS X ≤ xS (xDo C X v) := by
  unfold xDo
  split
  · exact Nat.le_refl _
  · split
    · exact Nat.le_refl _
    · split
      · exact Nat.le_succ _
      · split
        · exact Nat.le_refl _
        · split
          · exact Nat.le_refl _
          · exact Nat.le_refl _
theorem wfX.deed {C : zC} {X : zX} {mb : Nat} (hC : wfC C) (hX : wfX C X mb) {v : Int} (h : whyN C X v = 0) : wfX C (xDo C X v) (mb + 1) := by
  have hS := hX.1
  rcases why_cases h with rfl | rfl | ⟨rfl, h1⟩ | ⟨t, k, rfl, h1, h2, h3, h4, h5⟩ | ⟨t, rfl, h1, h2⟩ | ⟨t, g, rfl, h1, h2, h3⟩
  · rw [xDo_1]; exact hX.sk
  · rw [xDo_2]
    obtain ⟨n, hn⟩ := rgG_ok (C := C) (X := X) hC.1
    exact (hX.ro hC hn).up (Nat.le_succ _)
  · rw [xDo_3]; exact (hX.bu hC (by omega)).up (Nat.le_succ _)
  · rw [xDo_4 h1 h2]; exact (hX.mv h4 h5).up (Nat.le_succ _)
  · rw [xDo_5 h1]; exact (hX.so (Nat.zero_le _) (Or.inl rfl)).up (Nat.le_succ _)
  · rw [xDo_6 h1 h2]; exact (hX.sg (by omega)).up (Nat.le_succ _)
theorem i32_of {x : Int32} {n : Nat} (hn : n < 2 ^ 31) (h : x.toInt = (n : Int)) : x = nI n := Int32.toInt_inj.mp (by rw [h, nI_toInt hn])
/-- what deeds told change in the component -/
def SH (z a x k : Nat) : Prop := x = a + 5 ∨ (z + 11 ≤ x ∧ x ≤ z + 14) ∨ x = z + 57 ∨ x = z + 58 ∨ (x = z ∧ k = 13)
theorem SH.c {z a : Nat} {μ μ' : zM} (ho : zOff (SH z a) μ μ') : zOff (SC z a) μ μ' := ho.mono (fun x k q => by unfold SH at q; unfold SC; omega)
section DC
variable {z th a s : Nat} {μ μ' : zM} {C : zC} {X1 X Y : zX} {dn dn' : Nat} {dX dX' : Nat → zX} {im : zIm} {tr : zTy} {tn : Nat} {tp : Nat → Nat} {f fp : Int32} {mb b0 : Nat}
theorem c_does (hI : cIts z μ a C X1) (hf : zfar z a) (hs : cSt μ (z + 11) X 0) (hC : wfC C) (hX : wfX C X mb) (hm : mb ≤ 100000) {x : Int32} {v : Int} (hv : x.toInt = v) (h0 : whyN C X v = 0) {Q : zM → Prop} (hq : ∀ μ', zOff (SH z a) μ μ' → cSt μ' (z + 11) (xDo C X v) 0 → Q μ') : pX2_does z (z + 11) x μ Q := by
  have hS := hX.1
  refine ⟨hs.ty, ?_⟩
  rcases why_cases h0 with rfl | rfl | ⟨rfl, h1⟩ | ⟨t, k, rfl, h1, h2, h3, h4, h5⟩ | ⟨t, rfl, h1, h2⟩ | ⟨t, g, rfl, h1, h2, h3⟩
  · have e : x = (-1 : Int32) := Int32.toInt_inj.mp (by rw [hv]; decide)
    subst e
    rw [xDo_1] at hq
    rw [if_pos rfl]
    exact c_sinks hI hs hC hX (by decide) hm (fun μ' o h1 h2 => hq μ' (o.mono (fun x k q => by unfold Ss at q; unfold SH; omega)) h2)
  · obtain rfl := i32_of (n := 3000) (by decide) hv
    rw [xDo_2] at hq
    rw [if_neg (by decide), if_pos (by decide), if_pos rfl]
    obtain ⟨n, hn⟩ := rgG_ok (C := C) (X := X) hC.1
    exact c_round hI hf hs (Or.inr rfl) hC hX hm hn (fun μ' o h1 h2 => hq μ' (o.mono (fun x k q => by unfold SP at q; unfold SH; omega)) h2)
  · obtain rfl := i32_of (n := 2000) (by decide) hv
    rw [xDo_3] at hq
    rw [if_neg (by decide), if_pos (by decide), if_neg (by decide), if_pos rfl]
    exact c_builds hI hs hI.2.2.2.2.2.2.2.1 (by omega) (fun μ' o h2 => hq μ' (o.mono (fun x k q => by unfold So at q; unfold SH; omega)) h2)
  · obtain rfl := i32_of (n := 100 * t + k) (by omega) hv
    rw [xDo_4 h1 h2] at hq
    rw [if_neg (nI_m1 (by omega)), if_pos (nI_lt (by omega) (by decide)), if_neg (fun q => by have := (nI_eq (by omega) (by decide)).mp q; omega), if_neg (fun q => by have := (nI_eq (by omega) (by decide)).mp q; omega), if_pos (nI_lt (by omega) (by decide))]
    rw [pk_rem (by omega) (by decide) (by decide), pk_div (by omega) (by decide) (by decide), show (100 * t + k) / 100 = t by omega, show (100 * t + k) % 100 = k by omega, ← eO_s k]
    refine ⟨vp_in_nI h2 (by decide), ?_⟩
    unfold zpI
    rw [nI_clamp (by omega)]
    exact hq _ (zOff.sI (by unfold SH; omega)) (hs.so h2)
  · obtain rfl := i32_of (n := 1000 + t) (by omega) hv
    have hT := hC.1
    rw [xDo_5 h1] at hq
    rw [if_neg (nI_m1 (by omega)), if_pos (nI_lt (by omega) (by decide)), if_neg (fun q => by have := (nI_eq (by omega) (by decide)).mp q; omega), if_neg (fun q => by have := (nI_eq (by omega) (by decide)).mp q; omega), if_neg (nI_nlt (by omega) (by omega))]
    rw [pk_sub (by omega), show 1000 + t - 1000 = t by omega, ← eO_0]
    refine ⟨vp_in_nI (by omega) (by decide), ?_⟩
    unfold zpI
    rw [nI_clamp (by omega)]
    exact hq _ (zOff.sI (by unfold SH; omega)) (hs.so (by omega))
  · obtain rfl := i32_of (n := 10000 + 1000 * t + g) (by omega) hv
    rw [xDo_6 h1 h2] at hq
    rw [if_neg (nI_m1 (by omega)), if_neg (nI_nlt (by omega) (by omega))]
    rw [pk_sub (by omega), pk_rem (by omega) (by decide) (by decide), pk_div (by omega) (by decide) (by decide), show (10000 + 1000 * t + g - 10000) / 1000 = t by omega, show (10000 + 1000 * t + g) % 1000 = g by omega]
    refine ⟨vp_in_nI h2 (by decide), ?_⟩
    unfold zpI
    rw [nI_clamp (by omega)]
    exact hq _ (zOff.sI (by unfold SH; omega)) (hs.sg h2)
theorem t_does (hM : tM th μ C X) (hC : wfC C) (hX : wfX C X mb) (hm : mb ≤ 90000) {x : Int32} {v : Int} (hv : x.toInt = v) (h0 : whyN C X v = 0) {Q : zM → Prop} (hq : ∀ μ', zOff (SG th) μ μ' → tM th μ' C (xDo C X v) → Q μ') : pX4_does th x μ Q := by
  have hS := hX.1
  unfold pX4_does
  rcases why_cases h0 with rfl | rfl | ⟨rfl, h1⟩ | ⟨t, k, rfl, h1, h2, h3, h4, h5⟩ | ⟨t, rfl, h1, h2⟩ | ⟨t, g, rfl, h1, h2, h3⟩
  · have e : x = (-1 : Int32) := Int32.toInt_inj.mp (by rw [hv]; decide)
    subst e
    rw [xDo_1] at hq
    rw [if_pos rfl]
    exact t_goesMonth hM hC hX (by omega) (fun μ' o h2 => hq μ' (o.mono (fun x k q => by unfold Sm at q; unfold SG; omega)) h2)
  · obtain rfl := i32_of (n := 3000) (by decide) hv
    rw [xDo_2] at hq
    rw [if_neg (by decide), if_pos (by decide), if_pos (by decide), if_neg (by decide), if_pos rfl]
    obtain ⟨n, hn⟩ := rgG_ok (C := C) (X := X) hC.1
    exact t_goesRings hM hC hX hm hn (fun μ' o h2 => hq μ' o h2)
  · obtain rfl := i32_of (n := 2000) (by decide) hv
    rw [xDo_3] at hq
    rw [if_neg (by decide), if_pos (by decide), if_pos (by decide), if_pos rfl]
    exact t_goesUp hM (by omega) (fun μ' o h2 => hq μ' (o.mono (fun x k q => by unfold Sm at q; unfold SG; omega)) h2)
  · obtain rfl := i32_of (n := 100 * t + k) (by omega) hv
    rw [xDo_4 h1 h2] at hq
    rw [if_neg (nI_m1 (by omega)), if_neg (nI_ge (by omega) (by omega))]
    rw [pk_rem (by omega) (by decide) (by decide), pk_div (by omega) (by decide) (by decide), show (100 * t + k) / 100 = t by omega, show (100 * t + k) % 100 = k by omega, ← eO_s k]
    refine ⟨zin2 (by omega) (by decide), ?_⟩
    unfold zpI
    rw [zcl2 (by omega)]
    exact hq _ (zOff.sI (by unfold SG; omega)) (hM.so h2)
  · obtain rfl := i32_of (n := 1000 + t) (by omega) hv
    have hT := hC.1
    rw [xDo_5 h1] at hq
    rw [if_neg (nI_m1 (by omega)), if_pos (nI_le (by omega) (by omega)), if_neg (nI_ge (by omega) (by omega))]
    rw [nI_add, pk_sub (by omega), show 35 + (1000 + t) - 1000 = 35 + t by omega, ← eO_0]
    refine ⟨vp_in_nI (by omega) (by decide), ?_⟩
    unfold zpI
    rw [nI_clamp (by omega)]
    exact hq _ (zOff.sI (by unfold SG; omega)) (hM.so (by omega))
  · obtain rfl := i32_of (n := 10000 + 1000 * t + g) (by omega) hv
    rw [xDo_6 h1 h2] at hq
    rw [if_neg (nI_m1 (by omega)), if_pos (nI_le (by omega) (by omega)), if_pos (nI_le (by omega) (by omega)), if_neg (fun q => by have := (nI_eq (by omega) (by decide)).mp q; omega), if_neg (fun q => by have := (nI_eq (by omega) (by decide)).mp q; omega)]
    rw [pk_sub (by omega), pk_rem (by omega) (by decide) (by decide), pk_div (by omega) (by decide) (by decide), show (10000 + 1000 * t + g - 10000) / 1000 = t by omega, show (10000 + 1000 * t + g) % 1000 = g by omega]
    refine ⟨zin2 (by omega) (by decide), ?_⟩
    unfold zpI
    rw [zcl2 (by omega)]
    exact hq _ (zOff.sI (by unfold SG; omega)) (hM.sg h2)
/-- the deed: rings -/
theorem sumN_0 {g : Nat → Nat} : ∀ n, sumN g n = 0 → ∀ k, k < n → g k = 0
  | 0, _, _, hk => absurd hk (Nat.not_lt_zero _)
  | n + 1, h, k, hk => by
    rw [sumN] at h
    by_cases c : k = n
    · subst c; omega
    · exact sumN_0 n (by omega) k (by omega)
theorem xRo_same {g : Nat → Nat} (h : rgN C X g = 0) : xRo C X g = X := by
  have e : (fun t => if t < kT C then xO X (g t) else xO X t) = X.2.2.2.1 := by
    funext t
    by_cases c : t < kT C
    · rw [if_pos c]
      have h1 := sumN_0 _ h t c
      by_cases c2 : xO X t = xO X (g t)
      · exact c2.symm
      · have h1 : (if xO X t = xO X (g t) then 0 else 1) = 0 := h1
        rw [if_neg c2] at h1
        cases h1
    · rw [if_neg c]; rfl
  unfold xRo
  rw [e]
noncomputable def oRin (C : zC) (X : zX) : Option zX := if rgN C X (rgG C X) = 0 then none else some (xRo C X (rgG C X))
noncomputable def vRin (C : zC) (X : zX) : Int32 := nI (rgN C X (rgG C X))
theorem w_Rin (hC : wfC C) (hX : wfX C X mb) : ∀ Y, oRin C X = some Y → wfX C Y mb := by
  intro Y h
  unfold oRin at h
  split at h
  · cases h
  · cases h
    obtain ⟨n, hn⟩ := rgG_ok (C := C) (X := X) hC.1
    exact hX.ro hC hn
theorem rgN_le {g : Nat → Nat} (hC : wfC C) : rgN C X g ≤ 6 := by
  have := sumN_le (f := fun t => if xO X t = xO X (g t) then 0 else 1) (m := 1) (kT C) (fun k _ => by split <;> omega)
  have hT := hC.1
  unfold rgN
  omega
/-- what is thought becomes what is -/
theorem cR.take (h : cR z a μ C X1 X dn dX im tr tn tp f fp) (ht : cSt μ (z + 11) Y 0) {Q : Option Nat → zM → Prop} (hq : ∀ r μ', cR z a μ' C X1 Y (dPu dn) (xPu dn dX X) im tr tn tp f fp → Q r μ') : pX0_keeps z μ (fun μ1 => pX2_be z (z + 7) (z + 11) μ1 Q) := by
  refine h.keep (fun μ1 o1 hI1 hN1 up => ?_)
  have ht1 := ht.off o1 (fun k q => by unfold Su at q; omega) (fun i k h1 h2 q => by unfold Su at q; omega)
  exact c_be hI1 ht1 hN1.ty (by omega) (fun μ2 o2 h2 _ => hq _ μ2 (up Y μ2 (o2.mono (fun x k q => Or.inr q)) h2))
/-- the thought begins as what is -/
theorem cR.think (h : cR z a μ C X1 X dn dX im tr tn tp f fp) {Q : Option Nat → zM → Prop} (hq : ∀ r μ', zOff (SC z a) μ μ' → cR z a μ' C X1 X dn dX im tr tn tp f fp → cSt μ' (z + 11) X 0 → Q r μ') : pX2_be z (z + 11) (z + 7) μ Q :=
  c_be h.I h.N h.I.tho (by omega) (fun μ2 o2 h2 _ => by
    have o3 := o2.mono (T := SC z a) (fun x k q => by unfold So at q; unfold SC; omega)
    exact hq _ μ2 o3 (h.off o3) h2)
theorem c_rings (hw : zWf mb C X1 X dn dX im tr tn tp) (hm : mb ≤ 90000) (h : cR z a μ C X1 X dn dX im tr tn tp f fp) {Q : Int32 → zM → Prop} (hq : ∀ μ', cR z a μ' C X1 (aX X (oRin C X)) (aN dn (oRin C X)) (aU dn dX X (oRin C X)) im tr tn tp f fp → Q (vRin C X) μ') : pX0_rings z μ Q := by
  unfold oRin vRin at hq
  obtain ⟨n, hn⟩ := rgG_ok (C := C) (X := X) hw.c.1
  have hl := rgN_le (X := X) (g := rgG C X) hw.c
  refine h.think (fun r1 μ1 o1 h1 t1 => ?_)
  refine c_round h1.I h1.far t1 (Or.inr rfl) hw.c hw.x (by omega) hn (fun μ2 o2 hI2 t2 => ?_)
  have h2 := h1.off (o2.mono (fun x k q => by unfold SP at q; unfold SC; omega))
  by_cases c : rgN C X (rgG C X) = 0
  · simp only [if_pos c] at hq
    rw [c] at hq
    rw [c, if_pos nI_0]
    exact hq μ2 h2
  · simp only [if_neg c] at hq
    rw [if_neg (fun q => c ((nI_eq (by omega) (by decide)).mp (q.trans nI_0.symm)))]
    exact h2.take t2 (fun r μ3 h3 => hq μ3 h3)
theorem t_rings (hw : zWf mb C X1 X dn dX im tr tn tp) (hm : mb ≤ 90000) (h : tR th μ C X1 X dn dX im tr tn tp f fp) {Q : Int32 → zM → Prop} (hq : ∀ μ', tR th μ' C X1 (aX X (oRin C X)) (aN dn (oRin C X)) (aU dn dX X (oRin C X)) im tr tn tp f fp → Q (vRin C X) μ') : pX4_rings th μ Q := by
  unfold oRin vRin at hq
  obtain ⟨n, hn⟩ := rgG_ok (C := C) (X := X) hw.c.1
  have hl := rgN_le (X := X) (g := rgG C X) hw.c
  refine t0 (fun μ0 o0 => ?_)
  have h0 := h.off hw.d10 o0
  refine h0.keep hw.d10 (fun μ1 o1 h1 w1 => ?_)
  refine t_goesRings h1.M hw.c hw.x hm hn (fun μ2 o2 hM2 => ?_)
  have o3 : zOff (SE th) μ1 μ2 := o2.mono (fun x k q => by unfold SG at q; unfold SE ST Sr; omega)
  by_cases c : rgN C X (rgG C X) = 0
  · simp only [if_pos c] at hq
    rw [c] at hq
    rw [c, if_pos (by decide)]
    rw [xRo_same c] at hM2
    exact hq μ2 (h1.upd (o3.mono (fun x k q => Or.inl q)) hM2 (h1.D.off o3 hw.d10 (fun k q1 q2 => by unfold SE ST Sr; omega)))
  · simp only [if_neg c] at hq
    rw [if_neg (show ¬ nI (rgN C X (rgG C X)) ≤ 0 by rw [← nI_0]; exact nI_ge (by omega) (by omega))]
    exact h1.fin hw.d10 o3 (w1.off o2 (fun k hk q => by unfold SG at q; omega)) hM2 (fun μ3 h3 _ => hq μ3 h3)
/-- undo -/
theorem c_undo (hw : zWf mb C X1 X dn dX im tr tn tp) (h : cR z a μ C X1 X dn dX im tr tn tp f fp) {x : Int32} {Q : Int32 → zM → Prop} (h1 : 1 ≤ x.toInt → x.toInt ≤ dn → ∀ μ', cR z a μ' C X1 (dX (dn - x.toInt.toNat)) (dn - x.toInt.toNat) dX im tr tn tp f fp → Q (nI (dn - x.toInt.toNat)) μ') (h0 : ¬ (1 ≤ x.toInt ∧ x.toInt ≤ dn) → Q (-3 : Int32) μ) : pX0_undo z x μ Q := by
  obtain ⟨u1, u2, u, u3, u4, u5⟩ := h.U
  unfold pX0_undo
  rw [u2]
  refine rin32 (a := 1) (b := dn) rfl (by rw [Int32.toInt_toInt64, nI_toInt (by omega)]) (fun q1 q2 => if01 ?_) (fun q => if00 (h0 q))
  replace h1 := h1 q1 q2
  obtain ⟨n, n1, rfl, n3⟩ := i32N (show 0 ≤ x.toInt by omega)
  rw [n3, Int.toNat_natCast] at h1
  unfold zpI
  rw [u4, nI_add, pk_sub (by omega), pk_rem (by omega) (by decide) (by decide)]
  dsimp only
  have e8 : zI (zsI μ z 9 (nI ((u + 10 - n) % 10))) z 8 = nI dn := by rw [zI_sI, if_neg (by omega)]; exact u2
  rw [e8, pk_sub (by omega)]
  have e9 : zI (zsI (zsI μ z 9 (nI ((u + 10 - n) % 10))) z 8 (nI (dn - n))) z 9 = nI ((u + 10 - n) % 10) := by rw [zI_sI, if_neg (by omega), zI_sI, if_pos ⟨rfl, rfl⟩]
  rw [e9]
  have hm : (u + 10 - n) % 10 < 10 := Nat.mod_lt _ (by decide)
  refine ⟨vp_in_nI hm (by decide), z + 17 + 4 * ((u + 10 - n) % 10), ?_, ?_⟩
  · rw [nI_clamp (by omega)]
    exact (h.Fx.1 _ hm).1
  have oz : zOff (fun x k => x = z ∧ (k = 8 ∨ k = 9)) μ (zsI (zsI μ z 9 (nI ((u + 10 - n) % 10))) z 8 (nI (dn - n))) := zOff.tr (b := zsI μ z 9 (nI ((u + 10 - n) % 10))) (zOff.sI ⟨rfl, Or.inr rfl⟩) (zOff.sI ⟨rfl, Or.inl rfl⟩)
  have oN : zOff (SN z a) μ (zsI (zsI μ z 9 (nI ((u + 10 - n) % 10))) z 8 (nI (dn - n))) := oz.mono (fun x k q => by unfold SN Su; omega)
  have hI1 := h.I.off oN (SN.av h.I h.Fx h.far h.I.2.2.1 h.far)
  have hs1 := (u5 (dn - n) (by omega)).off oz (fun k q => by omega) (fun i k h1 h2 q => by omega)
  rw [show u + 10 - dn + (dn - n) = u + 10 - n by omega] at hs1
  refine c_be hI1 hs1 hI1.now (by omega) (fun μ2 o2 h2 _ => ?_)
  have e82 : zI μ2 z 8 = nI (dn - n) := by rw [o2.I (by unfold So; omega), zI_sI, if_pos ⟨rfl, rfl⟩]
  rw [e82]
  refine h1 μ2 (h.upd (oN.tr (o2.mono (fun x k q => Or.inr (Or.inl q)))) h2 ⟨by omega, e82, (u + 10 - n) % 10, hm, by rw [o2.I (by unfold So; omega)]; exact e9, fun j hj => ?_⟩)
  have hs3 := ((u5 j (by omega)).off oz (fun k q => by omega) (fun i k h1 h2 q => by omega)).off o2 (fun k q => by unfold So at q; omega) (fun i k h1 h2 q => by unfold So at q; omega)
  rwa [show (u + 10 - dn + j) % 10 = ((u + 10 - n) % 10 + 10 - (dn - n) + j) % 10 by omega] at hs3
theorem t_undo (hw : zWf mb C X1 X dn dX im tr tn tp) (h : tR th μ C X1 X dn dX im tr tn tp f fp) {x : Int32} {Q : Int32 → zM → Prop} (h1 : 1 ≤ x.toInt → x.toInt ≤ dn → ∀ μ', tR th μ' C X1 (dX (dn - x.toInt.toNat)) (dn - x.toInt.toNat) dX im tr tn tp f fp → Q (nI (dn - x.toInt.toNat)) μ') (h0 : ¬ (1 ≤ x.toInt ∧ x.toInt ≤ dn) → ∀ μ', tR th μ' C X1 X dn dX im tr tn tp f fp → Q (-3 : Int32) μ') : pX4_undo th x μ Q := by
  have h9 := hw.d10
  refine t0 (fun μ0 o0 => ?_)
  have hh := h.off hw.d10 o0
  have v66 : vp_in (nI 66) 3594 := v3 (by decide)
  refine rin32 (a := 1) (b := 10) rfl rfl (fun q1 q2 => if01 ⟨v66, ?_⟩) (fun q => if00 (h0 (by omega) μ0 hh))
  have hd := hh.D
  rw [nI_clamp (by decide), hd.1]
  by_cases c : x.toInt ≤ dn
  · replace h1 := h1 q1 c
    obtain ⟨n, n1, rfl, n3⟩ := i32N (show 0 ≤ x.toInt by omega)
    rw [n3, Int.toNat_natCast] at h1
    rw [if_pos (nI_le (by omega) (by omega))]
    refine ⟨v66, v66, ?_⟩
    unfold zpI
    rw [pk_sub (by omega)]
    have oz : zOff (Sd th) μ0 (zsI μ0 (th + 1) 66 (nI (dn - n))) := zOff.sI ⟨rfl, by decide, by decide⟩
    refine cp23 (S := Sr th) (μ := zsI μ0 (th + 1) 66 (nI (dn - n))) (P := fun n i ν => pX4_undo_44 th Q n i ν) (a := th + 1) (o := 67 + 23 * (dn - n)) (a' := th + 1) (o' := 20) (fun k hk => ⟨rfl, by omega, by omega⟩) (by omega) (Q := fun ν => zI ν (th + 1) 66 = nI (dn - n) ∧ Q (nI (dn - n)) ν) (fun m ν g => ?_) (fun m k ν hk ho g => ?_) (fun μ' ho g1 g2 => ?_)
    · show (if nI 23 ≤ nI 23 then _ else _)
      rw [if_pos (nI_le (Nat.le_refl _) (by decide))]
      refine ⟨v66, ?_⟩
      rw [nI_clamp (by decide), g.1]
      exact g.2
    · show (if nI 23 ≤ nI k then _ else _)
      rw [if_neg (nI_ge hk (by omega))]
      have e66 : zI ν (th + 1) 66 = nI (dn - n) := by rw [ho.I (by unfold Sr; omega), zI_sI, if_pos ⟨rfl, rfl⟩]
      refine ⟨v66, ?_⟩
      rw [nI_clamp (by decide), e66, pk_mul, nI_add]
      refine ⟨zin2 (by omega) (by decide), zin2 (by omega) (by decide), ?_⟩
      unfold zpI
      rw [zcl2 (by omega), zcl2 (by omega), nI_add]
      exact g
    · have e66 : zI μ' (th + 1) 66 = nI (dn - n) := by rw [ho.I (by unfold Sr; omega), zI_sI, if_pos ⟨rfl, rfl⟩]
      have hsrc : tSt (zsI μ0 (th + 1) 66 (nI (dn - n))) (th + 1) (67 + 23 * (dn - n)) (dX (dn - n)) := (hd.2 (dn - n) (by omega)).at (fun k hk => by rw [zI_sI, if_neg (by omega)])
      have oo : zOff (fun x k => SE th x k ∨ Sd th x k) μ0 μ' := (oz.mono (fun x k q => Or.inr q)).tr (ho.mono (fun x k q => Or.inl (Or.inr q)))
      have hM0 := hh.M.offD oz
      refine ⟨e66, h1 μ' (hh.upd oo ⟨hM0.1.off ho (fun k hk q => by unfold Sr at q; omega), hsrc.at g1⟩ ⟨e66, fun j hj => ?_⟩)⟩
      exact ((hd.2 j (by omega)).at (μ' := zsI μ0 (th + 1) 66 (nI (dn - n))) (a' := th + 1) (o' := 67 + 23 * j) (fun k hk => by rw [zI_sI, if_neg (by omega)])).off ho (fun k hk q => by unfold Sr at q; omega)
  · rw [if_neg (fun q => by rw [Int32.le_iff_toInt_le, nI_toInt (by omega)] at q; omega)]
    exact h0 (by omega) μ0 hh
end DC
