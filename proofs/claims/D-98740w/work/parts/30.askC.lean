/-! questions: what is paid, shares, what it bears -/
def bd (x : Int32) : Prop := -1000000 ≤ x.toInt ∧ x.toInt ≤ 1000000
theorem bd_nI {k : Nat} (h : k ≤ 1000000) : bd (nI k) := by
  unfold bd
  rw [nI_toInt (by omega)]
  omega
theorem bd_neg {k : Nat} (h : k ≤ 1000000) : bd (-(nI k)) := by
  have e : (-(nI k)).toInt = -(k : Int) := by
    rw [Int32.toInt_neg, nI_toInt (by omega)]
    apply Int.bmod_eq_of_le <;> omega
  unfold bd
  rw [e]
  omega
theorem bd_op (c : Nat) (a b : Int32) : bd (opI c a b) := by
  have e1 : (1000000 : Int64).toInt = 1000000 := by decide
  have e2 : (-1000000 : Int64).toInt = -1000000 := by decide
  have key : ∀ v : Int64, bd (if ¬ (1000000 : Int64) < v then (if ¬ v < (-1000000 : Int64) then v.toInt32 else (-1000000 : Int64).toInt32) else (1000000 : Int64).toInt32) := by
    intro v
    by_cases c1 : (1000000 : Int64) < v
    · rw [if_neg (fun q => q c1)]
      unfold bd
      decide
    · rw [if_pos c1]
      by_cases c2 : v < (-1000000 : Int64)
      · rw [if_neg (fun q => q c2)]
        unfold bd
        decide
      · rw [if_pos c2]
        rw [Int64.lt_iff_toInt_lt] at c1 c2
        unfold bd
        rw [Int64.toInt_toInt32, Int.bmod_eq_of_le (by omega) (by omega)]
        omega
  exact key _
theorem stk_bd {W : Nat → Int32} (hW : ∀ i, bd (W i)) : ∀ (cs : List Nat) (st : List Int32), (∀ x ∈ st, bd x) → ∀ x ∈ stk W cs st, bd x := by
  intro cs
  induction cs with
  | nil => intro st h; exact h
  | cons c cs ih =>
    intro st h
    by_cases c3 : c < 3000
    · have e : stk W (c :: cs) st = stk W cs ((if c < 1000 then nI c else W (c - 1000)) :: st) := by
        rcases st with _ | ⟨b, _ | ⟨a, r⟩⟩ <;> simp [stk, c3]
      rw [e]
      refine ih _ (fun x hx => ?_)
      rcases List.mem_cons.mp hx with rfl | hx
      · split
        · exact bd_nI (by omega)
        · exact hW _
      · exact h x hx
    · rcases st with _ | ⟨b, _ | ⟨a, r⟩⟩
      · have e : stk W (c :: cs) [] = [] := by simp [stk, c3]
        rw [e]
        intro x hx
        cases hx
      · have e : stk W (c :: cs) [b] = [] := by simp [stk, c3]
        rw [e]
        intro x hx
        cases hx
      · have e : stk W (c :: cs) (b :: a :: r) = stk W cs (opI c a b :: r) := by simp [stk, c3]
        rw [e]
        refine ih _ (fun x hx => ?_)
        rcases List.mem_cons.mp hx with rfl | hx
        · exact bd_op _ _ _
        · exact h x (by simp [hx])
theorem ev_bd {W : Nat → Int32} (hW : ∀ i, bd (W i)) (cs : List Nat) : bd (ev W cs) := by
  have h := stk_bd hW cs [] (fun x hx => by cases hx)
  unfold ev
  generalize stk W cs [] = l at h
  cases l with
  | nil => exact bd_nI (by decide)
  | cons x r => exact h x (by simp)
theorem hgt_bd {k su : Nat} (hk : k < 1000) (hs : su ≤ 99999) : bd (hgt k su) := by
  unfold hgt
  split
  · exact bd_neg (by omega)
  · exact bd_nI (by omega)
theorem payV_bd {C : zC} {k su mo : Nat} (hk : k < 1000) (hs : su ≤ 99999) : bd (payV C k su mo) := by
  unfold payV
  split
  · exact bd_nI (by decide)
  · refine ev_bd (fun i => ?_) _
    unfold wPay
    split
    · exact bd_nI (by omega)
    · exact hgt_bd hk hs
    · exact bd_nI (by omega)
    · exact bd_nI (by decide)
theorem worG_bd {C : zC} {wa go wh k su mo : Nat} (hk : k < 1000) (hs : su ≤ 99999) (h1 : wa ≤ 999) (h2 : go ≤ 999) (h3 : wh ≤ 1) : bd (worG C wa go wh k su mo) := by
  unfold worG
  split
  · exact bd_nI (by decide)
  · refine ev_bd (fun i => ?_) _
    unfold wWor
    split
    · exact bd_nI (by omega)
    · exact hgt_bd hk hs
    · exact bd_nI (by omega)
    · exact bd_nI (by omega)
    · exact bd_nI (by omega)
    · exact bd_nI (by omega)
    · exact bd_nI (by decide)
def s64 (g : Nat → Int64) : Nat → Int64
  | 0 => 0
  | n + 1 => s64 g n + g n
theorem s64_eq {g h : Nat → Int64} : ∀ n, (∀ k, k < n → g k = h k) → s64 g n = s64 h n
  | 0, _ => rfl
  | n + 1, e => by rw [s64, s64, s64_eq n (fun k hk => e k (by omega)), e n (by omega)]
/-- sums of few numbers are the same in ints and longs -/
theorem add64 {a b : Int32} (h1 : -100000000 ≤ a.toInt) (h2 : a.toInt ≤ 100000000) (hb : bd b) : (a + b).toInt64 = a.toInt64 + b.toInt64 ∧ (a + b).toInt = a.toInt + b.toInt := by
  unfold bd at hb
  have e : (a + b).toInt = a.toInt + b.toInt := by
    rw [Int32.toInt_add]
    exact Int.bmod_eq_of_le (by omega) (by omega)
  refine ⟨Int64.toInt_inj.mp ?_, e⟩
  rw [Int32.toInt_toInt64, e, Int64.toInt_add, Int32.toInt_toInt64, Int32.toInt_toInt64]
  exact (Int.bmod_eq_of_le (by omega) (by omega)).symm
theorem sumN_eq {g h : Nat → Nat} : ∀ n, (∀ k, k < n → g k = h k) → sumN g n = sumN h n
  | 0, _ => rfl
  | n + 1, e => by rw [sumN, sumN, sumN_eq n (fun k hk => e k (by omega)), e n (by omega)]
theorem whoN_go (C : zC) (b : Nat) (X : zX) (n k : Nat) : ∀ d, whoN C (xgo C b n X) k d = whoN C X k d
  | 0 => rfl
  | d + 1 => by rw [whoN, whoN, whoN_go C b X n k d, xO_go]
theorem who_go (C : zC) (b : Nat) (X : zX) (n k : Nat) : who C (xgo C b n X) k = who C X k := whoN_go C b X n k _
def pdK (C : zC) (X : zX) (lt : Nat) (k : Nat) : Int64 := if lt = 1 ∧ who C X k = 0 then 0 else (payV C k (xD X) (xM X)).toInt64
/-- goods left out -/
def xG0 (X : zX) (t : Nat) : zX := (X.1, X.2.1, fun u => if u = t then 0 else xG X u, X.2.2.2)
theorem wt_G0 (C : zC) (X : zX) (t : Nat) : wt C (xG0 X t) 0 = wt C X (t + 1) := by
  unfold wt
  show sumN (xW X) (xS X) + _ = _
  congr 1
  refine sumN_eq _ (fun u hu => ?_)
  show (if xO X u = 0 ∨ 0 = u + 1 then 0 else (if u = t then 0 else xG X u)) = _
  by_cases c : xO X u = 0
  · rw [if_pos (Or.inl c), if_pos (Or.inl c)]
  · rw [if_neg (by omega)]
    by_cases c2 : u = t
    · rw [if_pos c2, if_pos (Or.inr (by omega))]
    · rw [if_neg c2, if_neg (by omega)]
theorem wt_aw (C : zC) (X : zX) (t : Nat) (h : xO X t = 0) : wt C X (t + 1) = wt C X 0 := by
  unfold wt
  congr 1
  refine sumN_eq _ (fun u hu => ?_)
  by_cases c : xO X u = 0
  · rw [if_pos (Or.inl c), if_pos (Or.inl c)]
  · rw [if_neg (by intro q; rcases q with q | q; exact c q; exact c (by rw [show u = t by omega]; exact h)), if_neg (by omega)]
theorem wfX.G0 {C : zC} {X : zX} {mb : Nat} (h : wfX C X mb) (t : Nat) : wfX C (xG0 X t) mb := by
  obtain ⟨h1, h2, h3, h4, h5, h6⟩ := h
  refine ⟨h1, h2, h3, h4, fun u hu => ⟨?_, (h5 u hu).2⟩, h6⟩
  show (if u = t then 0 else xG X u) ≤ 999
  split
  · omega
  · exact (h5 u hu).1
section QC
variable {z th a s : Nat} {μ : zM} {C : zC} {X1 X : zX} {dn : Nat} {dX : Nat → zX} {im : zIm} {tr : zTy} {tn : Nat} {tp : Nat → Nat} {f fp : Int32} {mb b : Nat}
theorem c_paysAll (h : cIts z μ a C X1) (hs : cSt μ s X b) (hC : wfC C) (hX : wfX C X mb) (hm : mb ≤ 100000) {lt : Nat} (hlt : lt = 0 ∨ lt = 1) {Q : Int32 → zM → Prop} (hq : ∀ r μ', zOff (Sw a) μ μ' → cIts z μ' a C X1 → cSt μ' s X b → r.toInt64 = s64 (pdK C X lt) (xS X) → Q r μ') : pX2_paysAll z s (nI lt) μ Q := by
  have hS := hX.1
  have hD := hX.2.1
  refine ⟨hs.ty, ?_⟩
  have key : ∀ d i r ν, i + d = xS X → zOff (Sw a) μ ν → cIts z ν a C X1 → cSt ν s X b → r.toInt64 = s64 (pdK C X lt) i → -1000000 * (i : Int) ≤ r.toInt → r.toInt ≤ 1000000 * (i : Int) → pX2_paysAll_4 z s (nI lt) Q (d + 1) r (nI i) ν := by
    intro d
    induction d with
    | zero =>
      intro i r ν hi o1 h2 h3 e _ _
      unfold pX2_paysAll_4
      rw [h3.S, if_pos (nI_le (by omega) (by omega))]
      exact hq r ν o1 h2 h3 (by rw [e, show i = xS X by omega])
    | succ d ih =>
      intro i r ν hi o1 h2 h3 e b1 b2
      unfold pX2_paysAll_4
      rw [h3.S, if_neg (nI_ge (by omega) (by omega))]
      have pay : ¬ (lt = 1 ∧ who C X i = 0) → pX2_paysAll_30 z s (nI lt) (fun v0 v1 ν => pX2_paysAll_4 z s (nI lt) Q (d + 1) v0 v1 ν) Q (nI i) r ν := by
        intro hn
        refine c_pays h2 h3 hC hX hm (by omega) (fun μ' ho => ?_)
        have pb := payV_bd (C := C) (mo := xM X) (show i < 1000 by omega) hD
        have ad := add64 (a := r) (by omega) (by omega) pb
        rw [nI_add]
        have oo := h2.off ho h2.avw
        have hd := h2.dj h3.ty
        refine ih (i + 1) _ μ' (by omega) (o1.tr ho) oo (h3.off ho (fun k q => by unfold Sw at q; omega) (fun i k h1 h2 q => by unfold Sw at q; omega)) ?_ ?_ ?_
        · rw [ad.1, e, s64]
          unfold pdK
          rw [if_neg hn]
        · rw [ad.2]
          unfold bd at pb
          omega
        · rw [ad.2]
          unfold bd at pb
          omega
      rcases hlt with rfl | rfl
      · rw [if_pos nI_0]
        exact pay (by omega)
      · rw [if_neg nI1_ne0]
        refine c_who h2 h3 hC hX (by omega) ?_
        have hwl := who_le (C := C) (X := X) (k := i)
        have hT := hC.1
        by_cases c : who C X i = 0
        · rw [if_pos ((eO_m1 (by omega)).mpr c), nI_add]
          refine ih (i + 1) _ ν (by omega) o1 h2 h3 ?_ ?_ ?_
          · rw [show r + nI 0 = r by rw [nI_0]; grind, e, s64]
            unfold pdK
            rw [if_pos ⟨rfl, c⟩]
            grind
          · rw [show r + nI 0 = r by rw [nI_0]; grind]
            omega
          · rw [show r + nI 0 = r by rw [nI_0]; grind]
            omega
        · rw [if_neg (fun q => c ((eO_m1 (by omega)).mp q))]
          exact pay (fun q => c q.2)
  exact ⟨_, key (xS X) 0 (nI 0) μ (by omega) zOff.rf h hs rfl (by decide) (by decide)⟩
end QC
