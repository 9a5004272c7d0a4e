/-! the twin reckons: weights, laws -/
section TWB
variable {th : Nat} {μ : zM} {C : zC} {X : zX} {mb : Nat}
theorem t_weightOf (hM : tM th μ C X) (hT : kT C ≤ 6) (hS : xS X ≤ 8) (hO : ∀ t, t < 6 → xO X t ≤ 8) {wo : Nat} (hw : wo < 1000) {Q : Int32 → zM → Prop} (h : Q (nI (wt C X wo)) μ) : pX4_weightOf th (eO wo) μ Q := by
  unfold pX4_weightOf
  have l2 : ∃ n, pX4_weightOf_35 th (eO wo) Q n (nI (sumN (xW X) (xS X) + sumN (fun t => if xO X t = 0 ∨ wo = t + 1 then 0 else xG X t) 0)) (nI 0) μ := by
    refine zup (W := fun n i => pX4_weightOf_35 th (eO wo) Q n (nI (sumN (xW X) (xS X) + sumN (fun t => if xO X t = 0 ∨ wo = t + 1 then 0 else xG X t) i)) (nI i) μ) (kT C) (fun n => ?_) (fun n i hi hn => ?_) 0 (Nat.zero_le _)
    · unfold pX4_weightOf_35
      refine ⟨vp_in_nI (by decide) (by decide), ?_⟩
      rw [nI_clamp (by decide), hM.T, if_pos (nI_le (by omega) (by omega))]
      exact h
    · unfold pX4_weightOf_35
      refine ⟨vp_in_nI (by decide) (by decide), ?_⟩
      rw [nI_clamp (by decide), hM.T, if_neg (nI_ge (by omega) (by omega))]
      refine ⟨zin2 (by omega) (by decide), ?_⟩
      have hi6 : i < 6 := by omega
      have ho8 := hO i hi6
      rw [zcl2 (by omega), hM.O hi6]
      have e0 : sumN (fun t => if xO X t = 0 ∨ wo = t + 1 then 0 else xG X t) (i + 1) = sumN (fun t => if xO X t = 0 ∨ wo = t + 1 then 0 else xG X t) i + (if xO X i = 0 ∨ wo = i + 1 then 0 else xG X i) := rfl
      rw [e0] at hn
      by_cases c1 : xO X i = 0
      · rw [if_pos ((eO_m1 (by omega)).mpr c1), nI_add, nI_add]
        rw [if_pos (Or.inl c1)] at hn
        exact hn
      · rw [if_neg (fun q => c1 ((eO_m1 (by omega)).mp q))]
        by_cases c2 : wo = i + 1
        · rw [if_pos (by rw [c2, eO_s]), nI_add, nI_add]
          rw [if_pos (Or.inr c2)] at hn
          exact hn
        · rw [if_neg (fun q => c2 ((eO_nI (by omega) (by omega)).mp q.symm))]
          refine ⟨zin2 (by omega) (by decide), ?_⟩
          rw [zcl2 (by omega), hM.G hi6, nI_add, nI_add]
          rw [if_neg (by rintro (q | q); exact c1 q; exact c2 q)] at hn
          rw [Nat.add_assoc]
          exact hn
  have l1 : ∃ n, pX4_weightOf_4 th (eO wo) Q n (nI (sumN (xW X) 0)) (nI 0) μ := by
    refine zup (W := fun n i => pX4_weightOf_4 th (eO wo) Q n (nI (sumN (xW X) i)) (nI i) μ) (xS X) (fun n => ?_) (fun n i hi hn => ?_) 0 (Nat.zero_le _)
    · unfold pX4_weightOf_4
      refine ⟨vp_in_nI (by decide) (by decide), ?_⟩
      rw [nI_clamp (by decide), hM.S, if_pos (nI_le (by omega) (by omega))]
      exact l2
    · unfold pX4_weightOf_4
      refine ⟨vp_in_nI (by decide) (by decide), ?_⟩
      rw [nI_clamp (by decide), hM.S, if_neg (nI_ge (by omega) (by omega))]
      refine ⟨zin2 (by omega) (by decide), ?_⟩
      rw [zcl2 (by omega), hM.W (by omega), nI_add, nI_add]
      exact hn
  exact l1
theorem t_between {c : Nat} (hc : c = 3000 ∨ c = 3001 ∨ c = 3002) {a b : Int32} {Q : Int32 → zM → Prop} (h : Q (opI c a b) μ) : pX4_between th (nI c) a b μ Q := by
  have fin : ∀ v : Int64, Q (if ¬ (1000000 : Int64) < v then (if ¬ v < (-1000000 : Int64) then v.toInt32 else (-1000000 : Int64).toInt32) else (1000000 : Int64).toInt32) μ → pX4_between_35 th Q v μ := by
    intro v hv
    unfold pX4_between_35
    by_cases c1 : (1000000 : Int64) < v
    · rw [if_neg (fun q => (lg_le.mp q) c1)]
      rwa [if_neg (fun q => q c1)] at hv
    · rw [if_pos (lg_le.mpr c1)]
      rw [if_pos c1] at hv
      by_cases c2 : v < (-1000000 : Int64)
      · rw [if_neg (fun q => (lg_ge.mp q) c2)]
        rwa [if_neg (fun q => q c2)] at hv
      · rw [if_pos (lg_ge.mpr c2)]
        rwa [if_pos c2] at hv
  unfold pX4_between
  unfold opI at h
  rcases hc with rfl | rfl | rfl
  · rw [if_pos rfl]
    exact fin _ h
  · rw [if_neg (by decide), if_pos rfl]
    exact fin _ h
  · rw [if_neg (by decide), if_neg (by decide)]
    exact fin _ h
theorem stk_c (W : Nat → Int32) (c : Nat) (cs : List Nat) (st : List Int32) : stk W (c :: cs) st = if c < 3000 then stk W cs ((if c < 1000 then nI c else W (c - 1000)) :: st) else match st with
    | b :: a :: r => stk W cs (opI c a b :: r)
    | _ => [] := rfl
theorem dpt_c (c : Nat) (cs : List Nat) (n : Nat) : dpt (c :: cs) n = if c < 3000 then dpt cs (n + 1) else if 2 ≤ n then dpt cs (n - 1) else none := rfl
/-- the stack of numbers as the twin keeps it -/
def tStk (th : Nat) (μ : zM) (st : List Int32) : Prop := ∀ (i : Nat) (v : Int32), st.reverse[i]? = some v → zI μ (th + 5) i = v
theorem tStk.push {st : List Int32} {v : Int32} (h : tStk th μ st) : tStk th (zsI μ (th + 5) st.length v) (v :: st) := by
  intro i w hw
  rw [List.reverse_cons] at hw
  rw [zI_sI]
  by_cases e : i = st.length
  · rw [if_pos ⟨rfl, e⟩]
    rw [e, List.getElem?_append_right (by simp)] at hw
    simpa using hw
  · rw [if_neg (fun q => e q.2)]
    apply h
    by_cases l : i < st.length
    · rwa [List.getElem?_append_left (by simpa using l)] at hw
    · rw [List.getElem?_append_right (by simp; omega)] at hw
      have : i - st.reverse.length = (i - st.length - 1) + 1 := by simp; omega
      rw [this] at hw
      simp at hw
theorem tStk.sub {st : List Int32} {v : Int32} (h : tStk th μ (v :: st)) : tStk th μ st ∧ zI μ (th + 5) st.length = v := by
  constructor
  · intro i w hw
    apply h
    rw [List.reverse_cons, List.getElem?_append_left]
    · exact hw
    · exact (List.getElem?_eq_some_iff.mp hw).1
  · apply h
    rw [List.reverse_cons, List.getElem?_append_right (by simp)]
    simp
def S5 (th : Nat) (b _ : Nat) : Prop := b = th + 5
/-- the codes of law l stand in `all` -/
theorem t_reckons {l : Nat} (hl : l < 3) {cs : List Nat} (hcs : tLaw μ (th + 1) 0 l (some cs)) (hok : cs.length ≤ 900 ∧ dpt cs 0 = some 1 ∧ ∀ c ∈ cs, c < 1000 ∨ (1000 ≤ c ∧ c < 1010) ∨ c = 3000 ∨ c = 3001 ∨ c = 3002) (W : Nat → Int32) (hW : ∀ c ∈ cs, 1000 ≤ c → c < 1010 → zI μ (th + 6) (c - 1000) = W (c - 1000)) {Q : Int32 → zM → Prop} (h : ∀ μ', zOff (S5 th) μ μ' → Q (ev W cs) μ') : pX4_reckons th (nI l) μ Q := by
  obtain ⟨-, fr, h1, h2, h3, h4⟩ := hcs
  obtain ⟨o1, o2, o3⟩ := hok
  unfold pX4_reckons
  refine zupS (σ := Int32 × zM) (W := fun n i s => pX4_reckons_4 th (nI l) Q n s.1 (nI i) s.2) (fun i s => ∃ st : List Int32, s.1 = nI st.length ∧ tStk th s.2 st ∧ zOff (S5 th) μ s.2 ∧ stk W (cs.drop i) st = stk W cs [] ∧ dpt (cs.drop i) st.length = some 1 ∧ st.length ≤ i) cs.length ?_ ?_ 0 (nI 0, μ) (Nat.zero_le _) ⟨[], rfl, fun i v hv => by simp at hv, zOff.rf, rfl, o2, Nat.le_refl _⟩
  · rintro n ⟨x, ν⟩ ⟨st, e1, e2, e3, e4, e5, e6⟩
    have n1 : ∀ k, zI ν (th + 1) k = zI μ (th + 1) k := fun k => e3.I (by unfold S5; omega)
    unfold pX4_reckons_4
    refine ⟨zin2 (by omega) (by decide), ?_⟩
    dsimp only
    rw [zcl2 (by omega), n1, show 11 + l = 0 + 11 + l by omega, h2, if_pos (nI_le (Nat.le_refl _) (by omega))]
    refine ⟨vp_in_nI (by decide) (by decide), ?_⟩
    rw [List.drop_length] at e4 e5
    have hlen : st.length = 1 := Option.some.inj e5
    match st, hlen with
    | [v], _ =>
      have hv : zI ν (th + 5) 0 = v := (tStk.sub e2).2
      rw [nI_clamp (by decide), hv]
      have e7 : ev W cs = v := by
        unfold ev
        rw [← e4]
        rfl
      rw [← e7]
      exact h ν e3
  · rintro n i ⟨x, ν⟩ hi ⟨st, e1, e2, e3, e4, e5, e6⟩ hn
    have n1 : ∀ k, zI ν (th + 1) k = zI μ (th + 1) k := fun k => e3.I (by unfold S5; omega)
    have n6 : ∀ k, zI ν (th + 6) k = zI μ (th + 6) k := fun k => e3.I (by unfold S5; omega)
    dsimp only at e1 e2 e3
    subst e1
    have hc := o3 cs[i] (List.getElem_mem hi)
    have hdrop : cs.drop i = cs[i] :: cs.drop (i + 1) := List.drop_eq_getElem_cons hi
    have hWc := hW cs[i] (List.getElem_mem hi)
    have h4i := h4 i hi
    unfold pX4_reckons_4
    dsimp only
    refine ⟨zin2 (by omega) (by decide), ?_⟩
    rw [zcl2 (by omega), n1, show 11 + l = 0 + 11 + l by omega, h2, if_neg (nI_ge hi (by omega))]
    refine ⟨zin2 (by omega) (by decide), ?_⟩
    rw [zcl2 (by omega), n1, show 8 + l = 0 + 8 + l by omega, h1, nI_add]
    refine ⟨zin2 (by omega) (by decide), ?_⟩
    rw [zcl2 (by omega), n1, show 298 + fr + i = 0 + 298 + fr + i by omega, h4i]
    rw [hdrop] at e4 e5
    generalize cs[i] = c at hc hdrop e4 e5 hWc
    dsimp only [znm]
    by_cases c3 : c < 3000
    · have hcc : c < 1000 ∨ (1000 ≤ c ∧ c < 1010) := by omega
      rw [stk_c] at e4
      rw [dpt_c] at e5
      rw [if_pos c3] at e4 e5
      rw [if_neg (nI_ge c3 (by decide))]
      have fin : ∀ v : Int32, stk W (cs.drop (i + 1)) (v :: st) = stk W cs [] → pX4_reckons_76 th (nI l) (fun v0 v1 ν => pX4_reckons_4 th (nI l) Q n v0 v1 ν) Q (nI st.length) (nI i) v (nI st.length) ν := by
        intro v hv
        unfold pX4_reckons_76 zpI
        refine ⟨vp_in_nI (by omega) (by decide), ?_⟩
        rw [nI_clamp (by omega), nI_add, nI_add]
        exact hn (nI (st.length + 1), zsI ν (th + 5) st.length v) ⟨v :: st, rfl, e2.push, e3.tr (zOff.sI rfl), hv, e5, by simp; omega⟩
      by_cases c1 : c < 1000
      · rw [if_neg (nI_ge c1 (by decide))]
        rw [if_pos c1] at e4
        exact fin _ e4
      · rw [if_pos (nI_le (by omega) (by omega))]
        rw [if_neg c1] at e4
        rw [pk_sub (by omega)]
        refine ⟨vp_in_nI (by omega) (by decide), ?_⟩
        rw [nI_clamp (by omega), n6, hWc (by omega) (by omega)]
        exact fin _ e4
    · rw [stk_c] at e4
      rw [dpt_c] at e5
      rw [if_neg c3] at e4 e5
      rw [if_pos (nI_le (by omega) (by omega))]
      match st, e5 with
      | [], e5 => simp at e5
      | [_], e5 => simp at e5
      | b :: a :: r, e5 =>
        obtain ⟨s1, v1⟩ := e2.sub
        obtain ⟨s2, v2⟩ := s1.sub
        have hlen : (b :: a :: r).length = r.length + 2 := by simp
        rw [hlen] at e5 e6 ⊢
        rw [if_pos (by omega)] at e5
        have l1 : (a :: r).length = r.length + 1 := by simp
        rw [l1] at v1
        rw [pk_sub (by omega), show r.length + 2 - 1 = r.length + 1 by omega, pk_sub (by omega), show r.length + 1 - 1 = r.length by omega]
        refine ⟨vp_in_nI (by omega) (by decide), vp_in_nI (by omega) (by decide), ?_⟩
        rw [nI_clamp (by omega), nI_clamp (by omega), v1, v2]
        refine t_between (by omega) ?_
        refine ⟨vp_in_nI (by omega) (by decide), ?_⟩
        unfold zpI
        rw [nI_add]
        refine hn (nI (r.length + 1), zsI ν (th + 5) r.length (opI c a b)) ⟨opI c a b :: r, rfl, s2.push, e3.tr (zOff.sI rfl), e4, ?_, by simp; omega⟩
        rw [show (opI c a b :: r).length = r.length + 2 - 1 by simp]
        exact e5
end TWB
