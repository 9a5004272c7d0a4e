/-! moves, plain: months against mays -/
def lI (x : Int) : Int64 := Int64.ofInt x
theorem lI_add (a b : Int) : lI a + lI b = lI (a + b) := (Int64.ofInt_add a b).symm
theorem lI_sub (a b : Int) : lI a - lI b = lI (a - b) := (Int64.ofInt_sub a b).symm
theorem lI_T {x : Int} (h1 : -(2 ^ 60) ≤ x) (h2 : x ≤ 2 ^ 60) : (lI x).toInt = x := Int64.toInt_ofInt_of_le (by omega) (by omega)
theorem lI_of (x : Int32) : x.toInt64 = lI x.toInt := by
  apply Int64.toInt_inj.mp
  have h1 := Int32.le_toInt x
  have h2 := Int32.toInt_lt x
  rw [lI_T (by omega) (by omega), Int32.toInt_toInt64]
theorem lI_le {a b : Int} (a1 : -(2 ^ 60) ≤ a) (a2 : a ≤ 2 ^ 60) (b1 : -(2 ^ 60) ≤ b) (b2 : b ≤ 2 ^ 60) : lg_cmp (lI a) (lI b) ≤ 0 ↔ a ≤ b := by
  rw [lg_le, Int64.lt_iff_toInt_lt, lI_T a1 a2, lI_T b1 b2]
  omega
theorem lI_eq {a b : Int} (a1 : -(2 ^ 60) ≤ a) (a2 : a ≤ 2 ^ 60) (b1 : -(2 ^ 60) ≤ b) (b2 : b ≤ 2 ^ 60) : lg_cmp (lI a) (lI b) = 0 ↔ a = b := by
  rw [lg_eq, lI_T a1 a2, lI_T b1 b2]
theorem lI_lt {a b : Int} (a1 : -(2 ^ 60) ≤ a) (a2 : a ≤ 2 ^ 60) (b1 : -(2 ^ 60) ≤ b) (b2 : b ≤ 2 ^ 60) : lI a < lI b ↔ a < b := by
  rw [Int64.lt_iff_toInt_lt, lI_T a1 a2, lI_T b1 b2]
def sn (C : zC) (X : zX) (n : Nat) : Nat := suN C (wt C X 0) (xS X) (xD X) (xM X) n
def gnI (C : zC) (X : zX) (t n w : Nat) : Int := if w = 8 then 0 else (worV C t (xG X t) (xO X t) w (sn C X n) (xM X + n)).toInt - (payV C w (sn C X n) (xM X + n)).toInt
def fM (X : zX) : Nat := (16 - xM X % 12) % 12
def opn (C : zC) (X : zX) (t w : Nat) : Prop := w < xS X ∧ (who C X w = 0 ∨ xO X t = w + 1)
def goP (C : zC) (X : zX) (t n f w : Nat) : Prop := f = w ∨ (opn C X t w ∧ n % 12 = fM X ∧ sn C X n < 144 * (w + 1))
noncomputable def goB (C : zC) (X : zX) (t n f w : Nat) : Bool := @decide (goP C X t n f w) (Classical.propDecidable _)
theorem goB_t {C : zC} {X : zX} {t n f w : Nat} : goB C X t n f w = true ↔ goP C X t n f w := by
  unfold goB
  exact @decide_eq_true_iff _ (Classical.propDecidable _)
/-- the greatest of those, no less than a -/
def mxF (P : Nat → Bool) (v : Nat → Int) : Nat → Int → Int
  | 0, a => a
  | i + 1, a => if P i = true ∧ mxF P v i a < v i then v i else mxF P v i a
theorem mxF_spec (P : Nat → Bool) (v : Nat → Int) (a : Int) : ∀ n, a ≤ mxF P v n a ∧ (∀ i, i < n → P i = true → v i ≤ mxF P v n a) ∧ (mxF P v n a = a ∨ ∃ i, i < n ∧ P i = true ∧ mxF P v n a = v i)
  | 0 => ⟨Int.le_refl _, fun i hi => absurd hi (Nat.not_lt_zero _), Or.inl rfl⟩
  | n + 1 => by
    obtain ⟨h1, h2, h3⟩ := mxF_spec P v a n
    rw [mxF]
    by_cases c : P n = true ∧ mxF P v n a < v n
    · rw [if_pos c]
      refine ⟨by omega, fun i hi hp => ?_, Or.inr ⟨n, by omega, c.1, rfl⟩⟩
      by_cases e : i = n
      · subst e; exact Int.le_refl _
      · have := h2 i (by omega) hp
        omega
    · rw [if_neg c]
      refine ⟨h1, fun i hi hp => ?_, ?_⟩
      · by_cases e : i = n
        · subst e
          exact Int.not_lt.mp (fun q => c ⟨hp, q⟩)
        · exact h2 i (by omega) hp
      · rcases h3 with h3 | ⟨i, i1, i2, i3⟩
        · exact Or.inl h3
        · exact Or.inr ⟨i, by omega, i2, i3⟩
/-- the most from month N - d on, if one lives on w -/
noncomputable def DV (C : zC) (X : zX) (t N : Nat) : Nat → Nat → Int
  | 0, _ => 0
  | d + 1, w => mxF (goB C X t (N - (d + 1)) w) (fun u => gnI C X t (N - (d + 1)) u - (if w = u then 0 else (kV C : Int)) + DV C X t N d u) 9 (-1000000000000000)
noncomputable def vl (C : zC) (X : zX) (t N n f u : Nat) : Int := gnI C X t n u - (if f = u then 0 else (kV C : Int)) + DV C X t N (N - (n + 1)) u
def rg (X : zX) (w : Nat) : Prop := w < xS X ∨ w = 8
def rch (C : zC) (X : zX) (t w : Nat) : Prop := w = 8 ∨ opn C X t w
section MP
variable {C : zC} {X : zX} {mb t N : Nat}
theorem rch.rg {w : Nat} (h : rch C X t w) : rg X w := by
  rcases h with h | h
  · exact Or.inr h
  · exact Or.inl h.1
theorem rg.lt {w : Nat} (hX : wfX C X mb) (h : rg X w) : w < 9 := by
  have := hX.1
  unfold rg at h
  omega
theorem goP.rg {n f w : Nat} (h : goP C X t n f w) (hf : rg X f) : rg X w := by
  rcases h with h | h
  · subst h; exact hf
  · exact Or.inl h.1.1
theorem goP.rch {n f w : Nat} (h : goP C X t n f w) (hf : rch C X t f) : rch C X t w := by
  rcases h with h | h
  · subst h; exact hf
  · exact Or.inr h.1
theorem sn_le (hX : wfX C X mb) (n : Nat) : sn C X n ≤ 99999 := suN_le C _ _ _ _ hX.2.1 n
theorem gnI_bd (hC : wfC C) (hX : wfX C X mb) (ht : t < 6) (n : Nat) {w : Nat} (hw : w < 1000) : -2000000 ≤ gnI C X t n w ∧ gnI C X t n w ≤ 2000000 := by
  unfold gnI
  split
  · omega
  · have h1 : bd (worG C (kW C t) (xG X t) (if xO X t = w + 1 then 1 else 0) w (sn C X n) (xM X + n)) := worG_bd hw (sn_le hX n) (by have := hC.2.2.2.2.2.1 t ht; omega) (hX.2.2.2.2.1 t ht).1 (by split <;> omega)
    have h2 : bd (payV C w (sn C X n) (xM X + n)) := payV_bd hw (sn_le hX n)
    unfold bd at h1 h2
    rw [worV_eq]
    omega
theorem DV_bd (hC : wfC C) (hX : wfX C X mb) (ht : t < 6) : ∀ (d : Nat) (w : Nat), d ≤ 1000 → rg X w → -(2001000 * (d : Int)) ≤ DV C X t N d w ∧ DV C X t N d w ≤ 2001000 * (d : Int)
  | 0, w, _, _ => by rw [DV]; omega
  | d + 1, w, hd, hw => by
    have hV := hC.2.2.2.1
    obtain ⟨h1, h2, h3⟩ := mxF_spec (goB C X t (N - (d + 1)) w) (fun u => gnI C X t (N - (d + 1)) u - (if w = u then 0 else (kV C : Int)) + DV C X t N d u) (-1000000000000000) 9
    rw [DV]
    have hw9 := hw.lt hX
    have a1 := h2 w hw9 (goB_t.mpr (Or.inl rfl))
    have b1 := gnI_bd hC hX ht (N - (d + 1)) (show w < 1000 by omega)
    have b2 := DV_bd hC hX ht d w (by omega) hw
    rw [if_pos rfl] at a1
    refine ⟨by omega, ?_⟩
    rcases h3 with h3 | ⟨i, i1, i2, i3⟩
    · omega
    · rw [i3]
      have c1 := gnI_bd hC hX ht (N - (d + 1)) (show i < 1000 by omega)
      have c2 := DV_bd hC hX ht d i (by omega) ((goB_t.mp i2).rg hw)
      have c3 : (0 : Int) ≤ (if w = i then 0 else (kV C : Int)) := by split <;> omega
      omega
theorem vl_bd (hC : wfC C) (hX : wfX C X mb) (ht : t < 6) (hN : N ≤ 1000) {n f u : Nat} (hu : rg X u) : -3000000000 ≤ vl C X t N n f u ∧ vl C X t N n f u ≤ 3000000000 := by
  have hV := hC.2.2.2.1
  have hu9 := hu.lt hX
  have c1 := gnI_bd hC hX ht n (show u < 1000 by omega)
  have c2 := DV_bd (N := N) hC hX ht (N - (n + 1)) u (by omega) hu
  have c3 : (0 : Int) ≤ (if f = u then 0 else (kV C : Int)) ∧ (if f = u then 0 else (kV C : Int)) ≤ 999 := by split <;> omega
  unfold vl
  omega
theorem DV_vl {n w : Nat} (hn : n < N) : DV C X t N (N - n) w = mxF (goB C X t n w) (vl C X t N n w) 9 (-1000000000000000) := by
  obtain ⟨d, hd⟩ : ∃ d, N - n = d + 1 := ⟨N - n - 1, by omega⟩
  rw [hd, DV, show N - (d + 1) = n by omega]
  unfold vl
  rw [show N - (n + 1) = d by omega]
theorem DV_max (hC : wfC C) (hX : wfX C X mb) (ht : t < 6) (hN : N ≤ 1000) {n w : Nat} (hn : n < N) (hw : rg X w) : (∀ u, goP C X t n w u → vl C X t N n w u ≤ DV C X t N (N - n) w) ∧ ∃ u, u < 9 ∧ goP C X t n w u ∧ vl C X t N n w u = DV C X t N (N - n) w := by
  rw [DV_vl hn]
  obtain ⟨h1, h2, h3⟩ := mxF_spec (goB C X t n w) (vl C X t N n w) (-1000000000000000) 9
  have a1 := h2 w (hw.lt hX) (goB_t.mpr (Or.inl rfl))
  have b1 := vl_bd (N := N) (n := n) (f := w) hC hX ht hN hw
  refine ⟨fun u hu => h2 u ((hu.rg hw).lt hX) (goB_t.mpr hu), ?_⟩
  rcases h3 with h3 | ⟨i, i1, i2, i3⟩
  · omega
  · exact ⟨i, i1, goB_t.mp i2, i3.symm⟩
theorem DV_no (hC : wfC C) (hX : wfX C X mb) (ht : t < 6) (hN : N ≤ 1000) {n w : Nat} (hn : n < N) (hw : rg X w) (hm : n % 12 ≠ fM X) : DV C X t N (N - n) w = gnI C X t n w + DV C X t N (N - (n + 1)) w := by
  obtain ⟨_, u, u1, u2, u3⟩ := DV_max hC hX ht hN hn hw
  rcases u2 with u2 | u2
  · subst u2
    rw [← u3]
    unfold vl
    rw [if_pos rfl]
    omega
  · exact absurd u2.2.1 hm
/-- what staying gains until the next may -/
def STd (C : zC) (X : zX) (t N : Nat) : Nat → Nat → Int
  | 0, _ => 0
  | d + 1, w => if (N - (d + 1)) % 12 = fM X then 0 else gnI C X t (N - (d + 1)) w + STd C X t N d w
theorem STd_n {n w : Nat} (hn : n < N) : STd C X t N (N - n) w = if n % 12 = fM X then 0 else gnI C X t n w + STd C X t N (N - (n + 1)) w := by
  obtain ⟨d, hd⟩ : ∃ d, N - n = d + 1 := ⟨N - n - 1, by omega⟩
  rw [hd, STd, show N - (d + 1) = n by omega, show N - (n + 1) = d by omega]
def nxt (X : zX) (n : Nat) : Nat := n + (fM X + 12 - n % 12) % 12
noncomputable def MsD (C : zC) (X : zX) (t N m w : Nat) : Int := if m < N then DV C X t N (N - m) w else 0
theorem fM_lt : fM X < 12 := Nat.mod_lt _ (by decide)
theorem DV_ST (hC : wfC C) (hX : wfX C X mb) (ht : t < 6) (hN : N ≤ 1000) {w : Nat} (hw : rg X w) : ∀ d n, n + d = N → DV C X t N (N - n) w = STd C X t N (N - n) w + MsD C X t N (nxt X n) w := by
  have hf := fM_lt (X := X)
  intro d
  induction d with
  | zero =>
    intro n hn
    have e : N - n = 0 := by omega
    rw [e, DV, STd]
    unfold MsD nxt
    rw [if_neg (by omega)]
    omega
  | succ d ih =>
    intro n hn
    rw [STd_n (by omega)]
    by_cases c : n % 12 = fM X
    · rw [if_pos c]
      unfold MsD nxt
      rw [show n + (fM X + 12 - n % 12) % 12 = n by omega, if_pos (by omega)]
      omega
    · rw [if_neg c, DV_no hC hX ht hN (by omega) hw c, ih (n + 1) (by omega)]
      unfold nxt
      rw [show n + 1 + (fM X + 12 - (n + 1) % 12) % 12 = n + (fM X + 12 - n % 12) % 12 by omega]
      omega
/-- the i-th may -/
def mm (X : zX) (i : Nat) : Nat := fM X + 12 * i
/-- all that staying gains between mays -/
def FS (C : zC) (X : zX) (t N : Nat) : Nat → Nat → Int
  | 0, w => STd C X t N N w
  | i + 1, w => gnI C X t (mm X i) w + STd C X t N (N - (mm X i + 1)) w
noncomputable def Mst (C : zC) (X : zX) (t N i w : Nat) : Int := MsD C X t N (mm X i) w
theorem FS_0 (hC : wfC C) (hX : wfX C X mb) (ht : t < 6) (hN : N ≤ 1000) {w : Nat} (hw : rg X w) : FS C X t N 0 w + Mst C X t N 0 w = DV C X t N N w := by
  have hf := fM_lt (X := X)
  have h := DV_ST hC hX ht hN hw N 0 (by omega)
  rw [Nat.sub_zero] at h
  rw [h]
  unfold FS Mst mm nxt
  rw [show 0 + (fM X + 12 - 0 % 12) % 12 = fM X + 12 * 0 by omega]
theorem FS_s (hC : wfC C) (hX : wfX C X mb) (ht : t < 6) (hN : N ≤ 1000) {i w : Nat} (hi : mm X i < N) (hw : rg X w) : FS C X t N (i + 1) w + Mst C X t N (i + 1) w = gnI C X t (mm X i) w + DV C X t N (N - (mm X i + 1)) w := by
  have hf := fM_lt (X := X)
  rw [DV_ST hC hX ht hN hw (N - (mm X i + 1)) (mm X i + 1) (by omega)]
  have e : nxt X (mm X i + 1) = mm X (i + 1) := by unfold nxt mm; omega
  rw [e]
  show gnI C X t (mm X i) w + STd C X t N (N - (mm X i + 1)) w + MsD C X t N (mm X (i + 1)) w = _
  omega
theorem FS_bd (hC : wfC C) (hX : wfX C X mb) (ht : t < 6) (hN : N ≤ 1000) {i w : Nat} (hw : rg X w) : -6000000000 ≤ FS C X t N i w ∧ FS C X t N i w ≤ 6000000000 := by
  have hw9 := hw.lt hX
  have key : ∀ d : Nat, d ≤ 1000 → -(2000000 * (d : Int)) ≤ STd C X t N d w ∧ STd C X t N d w ≤ 2000000 * (d : Int) := by
    intro d
    induction d with
    | zero => intro _; rw [STd]; omega
    | succ d ih =>
      intro hd
      have := ih (by omega)
      have := gnI_bd hC hX ht (N - (d + 1)) (show w < 1000 by omega)
      rw [STd]
      split <;> omega
  cases i with
  | zero =>
    have := key N hN
    have e : FS C X t N 0 w = STd C X t N N w := rfl
    rw [e]
    omega
  | succ i =>
    have := key (N - (mm X i + 1)) (by omega)
    have := gnI_bd hC hX ht (mm X i) (show w < 1000 by omega)
    have e : FS C X t N (i + 1) w = gnI C X t (mm X i) w + STd C X t N (N - (mm X i + 1)) w := rfl
    rw [e]
    omega
theorem Mst_bd (hC : wfC C) (hX : wfX C X mb) (ht : t < 6) (hN : N ≤ 1000) {i w : Nat} (hw : rg X w) : -3000000000 ≤ Mst C X t N i w ∧ Mst C X t N i w ≤ 3000000000 := by
  unfold Mst MsD
  split
  · have := DV_bd (N := N) hC hX ht (N - mm X i) w (by omega) hw
    omega
  · omega
/-- the places in the order of trying: away first -/
def ord (j : Nat) : Nat := if j = 0 then 8 else j - 1
def okP (C : zC) (X : zX) (t N n f u : Nat) : Prop := goP C X t n f u ∧ vl C X t N n f u = DV C X t N (N - n) f
noncomputable def pick (C : zC) (X : zX) (t N n f : Nat) : Nat := @dite Nat (∃ j, okP C X t N n f (ord j) ∧ ∀ i, i < j → ¬ okP C X t N n f (ord i)) (Classical.propDecidable _) (fun h => ord (Classical.choose h)) (fun _ => f)
theorem pick_eq {n f j : Nat} (h1 : okP C X t N n f (ord j)) (h2 : ∀ i, i < j → ¬ okP C X t N n f (ord i)) : pick C X t N n f = ord j := by
  have h : ∃ j, okP C X t N n f (ord j) ∧ ∀ i, i < j → ¬ okP C X t N n f (ord i) := ⟨j, h1, h2⟩
  unfold pick
  rw [dif_pos h]
  obtain ⟨c1, c2⟩ := Classical.choose_spec h
  have : Classical.choose h = j := by
    rcases Nat.lt_trichotomy (Classical.choose h) j with q | q | q
    · exact absurd c1 (h2 _ q)
    · exact q
    · exact absurd h1 (c2 _ q)
  rw [this]
theorem pick_ex (hC : wfC C) (hX : wfX C X mb) (ht : t < 6) (hN : N ≤ 1000) {n f : Nat} (hn : n < N) (hf : rg X f) : ∃ j, j < 9 ∧ okP C X t N n f (ord j) ∧ (∀ i, i < j → ¬ okP C X t N n f (ord i)) ∧ pick C X t N n f = ord j := by
  obtain ⟨_, u, u1, u2, u3⟩ := DV_max hC hX ht hN hn hf
  obtain ⟨j0, j1, j2⟩ : ∃ j0, j0 < 9 ∧ ord j0 = u := by
    by_cases c : u = 8
    · exact ⟨0, by omega, by rw [c]; rfl⟩
    · exact ⟨u + 1, by omega, by unfold ord; rw [if_neg (by omega)]; omega⟩
  obtain ⟨j, h1, h2⟩ := pk_least (fun j => okP C X t N n f (ord j)) ⟨j0, by rw [j2]; exact ⟨u2, u3⟩⟩
  refine ⟨j, ?_, h1, h2, pick_eq h1 h2⟩
  rcases Nat.lt_or_ge j 9 with q | q
  · exact q
  · exact absurd (show okP C X t N n f (ord j0) by rw [j2]; exact ⟨u2, u3⟩) (h2 j0 (by omega))
theorem pick_no (hC : wfC C) (hX : wfX C X mb) (ht : t < 6) (hN : N ≤ 1000) {n f : Nat} (hn : n < N) (hf : rg X f) (hm : n % 12 ≠ fM X) : pick C X t N n f = f := by
  obtain ⟨j, j1, j2, j3, j4⟩ := pick_ex hC hX ht hN hn hf
  rw [j4]
  rcases j2.1 with h | h
  · exact h.symm
  · exact absurd h.2.1 hm
theorem pick_rch (hC : wfC C) (hX : wfX C X mb) (ht : t < 6) (hN : N ≤ 1000) {n f : Nat} (hn : n < N) (hf : rch C X t f) : rch C X t (pick C X t N n f) := by
  obtain ⟨j, j1, j2, j3, j4⟩ := pick_ex hC hX ht hN hn hf.rg
  rw [j4]
  exact j2.1.rch hf
def here (X : zX) (t : Nat) : Nat := if xO X t = 0 then 8 else xO X t - 1
noncomputable def pth (C : zC) (X : zX) (t N : Nat) : Nat → Nat
  | 0 => here X t
  | n + 1 => pick C X t N n (pth C X t N n)
noncomputable def cnP (C : zC) (X : zX) (t N : Nat) : Nat → Nat
  | 0 => 0
  | n + 1 => if pth C X t N (n + 1) = pth C X t N n then cnP C X t N n else cnP C X t N n + 1
theorem here_rch (hX : wfX C X mb) (ht : t < 6) : rch C X t (here X t) := by
  have := (hX.2.2.2.2.1 t ht).2
  unfold here
  split
  · exact Or.inl rfl
  · exact Or.inr ⟨by omega, Or.inr (by omega)⟩
theorem pth_rch (hC : wfC C) (hX : wfX C X mb) (ht : t < 6) (hN : N ≤ 1000) : ∀ n, n ≤ N → rch C X t (pth C X t N n)
  | 0, _ => here_rch hX ht
  | n + 1, h => pick_rch hC hX ht hN (by omega) (pth_rch hC hX ht hN n (by omega))
theorem pth_no (hC : wfC C) (hX : wfX C X mb) (ht : t < 6) (hN : N ≤ 1000) : ∀ d n, n + d ≤ N → (∀ k, n ≤ k → k < n + d → k % 12 ≠ fM X) → pth C X t N (n + d) = pth C X t N n ∧ cnP C X t N (n + d) = cnP C X t N n := by
  intro d
  induction d with
  | zero => intro n _ _; exact ⟨rfl, rfl⟩
  | succ d ih =>
    intro n hn hk
    obtain ⟨i1, i2⟩ := ih n (by omega) (fun k q1 q2 => hk k q1 (by omega))
    have e : pth C X t N (n + d + 1) = pth C X t N (n + d) := pick_no hC hX ht hN (by omega) (pth_rch hC hX ht hN _ (by omega)).rg (hk _ (by omega) (by omega))
    refine ⟨e.trans i1, ?_⟩
    show (if pth C X t N (n + d + 1) = pth C X t N (n + d) then cnP C X t N (n + d) else cnP C X t N (n + d) + 1) = _
    rw [if_pos e]
    exact i2
/-- where one is as the i-th may begins, or at the end -/
def me (X : zX) (N i : Nat) : Nat := if mm X i < N then mm X i else N
theorem pth_0 (hC : wfC C) (hX : wfX C X mb) (ht : t < 6) (hN : N ≤ 1000) : pth C X t N (me X N 0) = here X t ∧ cnP C X t N (me X N 0) = 0 := by
  have hf := fM_lt (X := X)
  have h := pth_no (N := N) hC hX ht hN (me X N 0) 0 (by unfold me; split <;> omega) (fun k q1 q2 => by unfold me mm at q2; split at q2 <;> omega)
  rw [Nat.zero_add] at h
  exact h
theorem pth_s (hC : wfC C) (hX : wfX C X mb) (ht : t < 6) (hN : N ≤ 1000) {i : Nat} (hi : mm X i < N) : pth C X t N (me X N (i + 1)) = pth C X t N (mm X i + 1) ∧ cnP C X t N (me X N (i + 1)) = cnP C X t N (mm X i + 1) := by
  have hf := fM_lt (X := X)
  have e : me X N (i + 1) = mm X i + 1 + (me X N (i + 1) - (mm X i + 1)) := by
    unfold me
    unfold mm at hi ⊢
    split <;> omega
  have h := pth_no (N := N) hC hX ht hN (me X N (i + 1) - (mm X i + 1)) (mm X i + 1) (by unfold me; split <;> omega) (fun k q1 q2 => by
    unfold me at q2
    unfold mm at q1 q2 hi
    split at q2 <;> omega)
  rw [← e] at h
  exact h
end MP
