/-! the twin: what sinks, what is paid, what is worth -/
section TWC
variable {th : Nat} {μ : zM} {C : zC} {X : zX} {mb : Nat}
def S56 (th : Nat) (b _ : Nat) : Prop := b = th + 5 ∨ b = th + 6
theorem tLaw.keep {μ' : zM} {a o l : Nat} {w : Option (List Nat)} (h : tLaw μ a o l w) (hk : ∀ k, zI μ' a k = zI μ a k) : tLaw μ' a o l w := by
  have e : zI μ' a = zI μ a := funext hk
  unfold tLaw at *
  rw [e]
  exact h
theorem tCo.law (h : tCo μ (th + 1) 0 C) {l : Nat} (hl : l < 3) : tLaw μ (th + 1) 0 l (kLaw C l) := h.2.2.2.2.2.2 l hl
theorem nI_cl {r : Int32} (h : ¬ r < 0) : nI r.toNatClampNeg = r := by
  obtain ⟨k, hk, rfl⟩ := nI_of h
  rw [nI_clamp hk]
theorem clN_case {r : Int32} {μ' : zM} {Q : Int32 → zM → Prop} (h : Q (nI (clN r)) μ') : (if 0 ≤ r then (if r ≤ nI 144 then Q r μ' else Q (nI 144) μ') else Q (nI 0) μ') := by
  unfold clN at h
  by_cases c : r < 0
  · rw [if_pos c] at h
    rw [if_neg (fun q => by rw [Int32.le_iff_toInt_le] at q; rw [Int32.lt_iff_toInt_lt] at c; simp at c q; omega)]
    exact h
  · rw [if_neg c] at h
    rw [if_pos (by rwa [← Int32.not_lt])]
    by_cases c2 : nI 144 < r
    · rw [if_pos c2] at h
      rw [if_neg (fun q => by rw [← Int32.not_lt] at q; exact q c2)]
      exact h
    · rw [if_neg c2, nI_cl c] at h
      rw [if_pos (by rwa [← Int32.not_lt])]
      exact h
theorem clN_le (r : Int32) : clN r ≤ 144 := by
  unfold clN
  split
  · omega
  · split
    · omega
    · rename_i c c2
      obtain ⟨k, hk, rfl⟩ := nI_of c
      rw [nI_clamp hk]
      rcases Nat.lt_or_ge 144 k with q | q
      · exact absurd (nI_lt q hk) c2
      · exact q
theorem inch_le (w st su mo : Nat) : inch C w st su mo ≤ 144 := by
  unfold inch
  split
  · omega
  · exact clN_le _
theorem lawOK.r {l : Nat} {cs : List Nat} (h : lawOK l cs) : cs.length ≤ 900 ∧ dpt cs 0 = some 1 ∧ ∀ c ∈ cs, c < 1000 ∨ (1000 ≤ c ∧ c < 1010) ∨ c = 3000 ∨ c = 3001 ∨ c = 3002 :=
  ⟨h.1, h.2.1, fun c hc => by rcases h.2.2 c hc with q | q | q | q | q <;> omega⟩
theorem lawOK.w {l : Nat} {cs : List Nat} (h : lawOK l cs) {c : Nat} (hc : c ∈ cs) (h1 : 1000 ≤ c) (h2 : c < 1010) : lawW l (c - 1000) = true := by
  rcases h.2.2 c hc with q | q | q | q | q
  · omega
  · exact q.2.2
  · omega
  · omega
  · omega
theorem nI1_ne0 : ¬ nI 1 = 0 := by decide
theorem t_sinksBy (hM : tCo μ (th + 1) 0 C) (hC : wfC C) {w st su mo : Nat} (hw : w < 1000000) (hst : st ≤ 8) (hsu : su ≤ 99999) (hmo : mo < 1000000) {Q : Int32 → zM → Prop} (h : ∀ μ', zOff (S56 th) μ μ' → Q (nI (inch C w st su mo)) μ') : pX4_sinksBy th (nI w) (nI st) (nI su) (nI mo) μ Q := by
  have hL := hM.law (l := 0) (by decide)
  unfold pX4_sinksBy
  refine ⟨vp_in_nI (by decide) (by decide), ?_⟩
  rw [nI_clamp (by decide)]
  cases hk : kLaw C 0 with
  | none =>
    rw [hk] at hL
    have h5 : zI μ (th + 1) 5 = 0 := hL
    have h := h μ zOff.rf
    unfold inch at h
    rw [hk] at h
    dsimp only at h
    rw [h5, if_pos rfl, pk_div (by omega) (by decide) (by decide)]
    by_cases c : w / 100 ≤ 144
    · rw [if_pos (nI_le c (by decide))]
      rwa [Nat.min_eq_left c] at h
    · rw [if_neg (nI_ge (by omega) (by omega))]
      rwa [Nat.min_eq_right (by omega)] at h
  | some cs =>
    rw [hk] at hL
    have hok := hC.2.2.2.2.2.2 0 cs (by decide) hk
    have h5 : zI μ (th + 1) 5 = nI 1 := hL.1
    rw [h5, if_neg nI1_ne0]
    refine zup (W := fun n i => pX4_sinksBy_36 th (nI w) (nI st) (nI su) (nI mo) Q n (nI (min i (su / 144))) (nI i) μ) st (fun n => ?_) (fun n i hi hn => ?_) 0 (Nat.zero_le _)
    · unfold pX4_sinksBy_36
      rw [if_pos (nI_le (Nat.le_refl _) (by omega)), pk_rem (by omega) (by decide) (by decide)]
      unfold zpI
      refine ⟨vp_in_nI (by decide) (by decide), vp_in_nI (by decide) (by decide), vp_in_nI (by decide) (by decide), vp_in_nI (by decide) (by decide), vp_in_nI (by decide) (by decide), ?_⟩
      rw [nI_clamp (by decide), nI_clamp (by decide), nI_clamp (by decide), nI_clamp (by decide), nI_clamp (by decide)]
      refine t_reckons (cs := cs) (by decide) (hL.keep (fun k => ?_)) hok.r (wSink w st su mo) (fun c hc h1 h2 => ?_) (fun μ' ho => ?_)
      · simp [zI_sI]
      · have hw5 := hok.w hc h1 h2
        have hlt : c - 1000 < 5 := by simpa [lawW] using hw5
        generalize c - 1000 = j at hlt
        rcases (show j = 0 ∨ j = 1 ∨ j = 2 ∨ j = 3 ∨ j = 4 by omega) with rfl | rfl | rfl | rfl | rfl <;> simp [zI_sI, wSink, bur, nI_clamp]
      · refine clN_case ?_
        have h := h μ' (((((zOff.sI (Or.inr rfl)).tr (zOff.sI (Or.inr rfl))).tr (zOff.sI (Or.inr rfl))).tr (zOff.sI (Or.inr rfl))).tr (zOff.sI (Or.inr rfl)) |>.tr (ho.mono (fun b k q => Or.inl q)))
        unfold inch at h
        rw [hk] at h
        exact h
    · unfold pX4_sinksBy_36
      rw [if_neg (nI_ge hi (by omega))]
      refine t_isBuried (by omega) (by omega) ?_
      by_cases c : 144 * (i + 1) ≤ su
      · rw [if_pos c, if_neg nI1_ne0, nI_add, nI_add]
        rwa [show min (i + 1) (su / 144) = min i (su / 144) + 1 by omega] at hn
      · rw [if_neg c, if_pos nI_0, nI_add, nI_add]
        rwa [show min (i + 1) (su / 144) = min i (su / 144) + 0 by omega] at hn
theorem t_paysOf (hM : tCo μ (th + 1) 0 C) (hC : wfC C) {k su mo : Nat} (hk8 : k < 1000) (hsu : su ≤ 99999) (hmo : mo < 1000000) {Q : Int32 → zM → Prop} (h : ∀ μ', zOff (S56 th) μ μ' → Q (payV C k su mo) μ') : pX4_paysOf th (nI k) (nI su) (nI mo) μ Q := by
  have hL := hM.law (l := 1) (by decide)
  unfold pX4_paysOf
  refine ⟨vp_in_nI (by decide) (by decide), ?_⟩
  rw [nI_clamp (by decide)]
  cases hk : kLaw C 1 with
  | none =>
    rw [hk] at hL
    have h5 : zI μ (th + 1) 6 = 0 := hL
    have h := h μ zOff.rf
    unfold payV at h
    rw [hk] at h
    rw [h5, if_pos rfl]
    exact h
  | some cs =>
    rw [hk] at hL
    have hok := hC.2.2.2.2.2.2 1 cs (by decide) hk
    have h5 : zI μ (th + 1) 6 = nI 1 := hL.1
    rw [h5, if_neg nI1_ne0, pk_rem (by omega) (by decide) (by decide)]
    unfold zpI
    refine ⟨vp_in_nI (by decide) (by decide), t_heightOf hk8 (by omega) ⟨vp_in_nI (by decide) (by decide), vp_in_nI (by decide) (by decide), ?_⟩⟩
    refine t_reckons (cs := cs) (by decide) (hL.keep (fun k => ?_)) hok.r (wPay k su mo) (fun c hc h1 h2 => ?_) (fun μ' ho => ?_)
    · simp [zI_sI]
    · have hw5 := hok.w hc h1 h2
      have hlt : c - 1000 = 0 ∨ c - 1000 = 5 ∨ c - 1000 = 6 := by simpa [lawW] using hw5
      generalize c - 1000 = j at hlt
      rcases hlt with rfl | rfl | rfl <;> simp [zI_sI, wPay, nI_clamp]
    · have h := h μ' ((((zOff.sI (Or.inr rfl)).tr (zOff.sI (Or.inr rfl))).tr (zOff.sI (Or.inr rfl))) |>.tr (ho.mono (fun b k q => Or.inl q)))
      unfold payV at h
      rw [hk] at h
      exact h
theorem t_worthOf (hM : tM th μ C X) (hC : wfC C) (hO : ∀ t, t < 6 → xO X t ≤ 8) {t k su mo : Nat} (ht : t < 6) (hk8 : k < 1000) (hsu : su ≤ 99999) (hmo : mo < 1000000) {Q : Int32 → zM → Prop} (h : ∀ μ', zOff (S56 th) μ μ' → Q (worV C t (xG X t) (xO X t) k su mo) μ') : pX4_worthOf th (nI t) (nI k) (nI su) (nI mo) μ Q := by
  have hL := hM.1.law (l := 2) (by decide)
  unfold pX4_worthOf
  refine ⟨vp_in_nI (by decide) (by decide), ?_⟩
  rw [nI_clamp (by decide)]
  cases hk : kLaw C 2 with
  | none =>
    rw [hk] at hL
    have h5 : zI μ (th + 1) 7 = 0 := hL
    have h := h μ zOff.rf
    unfold worV at h
    rw [hk] at h
    rw [h5, if_pos rfl]
    exact h
  | some cs =>
    rw [hk] at hL
    have hok := hC.2.2.2.2.2.2 2 cs (by decide) hk
    have h5 : zI μ (th + 1) 7 = nI 1 := hL.1
    rw [h5, if_neg nI1_ne0, pk_rem (by omega) (by decide) (by decide)]
    unfold zpI
    refine ⟨vp_in_nI (by decide) (by decide), t_heightOf hk8 (by omega) ⟨vp_in_nI (by decide) (by decide), vp_in_nI (by decide) (by decide), zin2 (by omega) (by decide), vp_in_nI (by decide) (by decide), zin2 (by omega) (by decide), vp_in_nI (by decide) (by decide), zin2 (by omega) (by decide), ?_⟩⟩
    rw [zcl2 (by omega), zcl2 (by omega), zcl2 (by omega)]
    have n1 : ∀ (ν : zM) (j i : Nat) (v : Int32), zI (zsI ν (th + 6) j v) (th + 1) i = zI ν (th + 1) i := fun ν j i v => by rw [zI_sI, if_neg (by omega)]
    simp only [n1]
    rw [hM.wa ht, hM.G ht, hM.O ht]
    have ho8 := hO t ht
    have fin : ∀ b : Nat, (if xO X t = k + 1 then 1 else 0) = b → pX4_worthOf_98 th Q (nI b) (nI 9) (zsI (zsI (zsI (zsI (zsI μ (th + 6) 0 (nI (mo % 12))) (th + 6) 5 (hgt k su)) (th + 6) 6 (nI k)) (th + 6) 7 (nI (kW C t))) (th + 6) 8 (nI (xG X t))) := by
      intro b hb
      unfold pX4_worthOf_98 zpI
      refine ⟨vp_in_nI (by decide) (by decide), ?_⟩
      rw [nI_clamp (by decide)]
      refine t_reckons (cs := cs) (by decide) (hL.keep (fun k => ?_)) hok.r (wWor (kW C t) (xG X t) b k su mo) (fun c hc h1 h2 => ?_) (fun μ' ho => ?_)
      · simp [zI_sI]
      · have hw5 := hok.w hc h1 h2
        have hlt : c - 1000 = 0 ∨ (5 ≤ c - 1000 ∧ c - 1000 < 10) := by simpa [lawW] using hw5
        generalize c - 1000 = j at hlt
        rcases (show j = 0 ∨ j = 5 ∨ j = 6 ∨ j = 7 ∨ j = 8 ∨ j = 9 by omega) with rfl | rfl | rfl | rfl | rfl | rfl <;> simp [zI_sI, wWor, nI_clamp]
      · have h := h μ' ((((((zOff.sI (Or.inr rfl)).tr (zOff.sI (Or.inr rfl))).tr (zOff.sI (Or.inr rfl))).tr (zOff.sI (Or.inr rfl))).tr (zOff.sI (Or.inr rfl))).tr (zOff.sI (Or.inr rfl)) |>.tr (ho.mono (fun b k q => Or.inl q)))
        unfold worV at h
        rw [hk] at h
        dsimp only at h
        rw [hb] at h
        exact h
    by_cases c : xO X t = k + 1
    · rw [if_pos ((eO_nI (by omega) (by omega)).mpr c)]
      exact fin 1 (by rw [if_pos c])
    · rw [if_neg (fun q => c ((eO_nI (by omega) (by omega)).mp q))]
      exact fin 0 (by rw [if_neg c])
end TWC
