/-! the abstract world -/
/-- how things stand: storeys, their weights, goods, places (0: away, k+1: storey k), sunk, month -/
abbrev zX : Type := Nat × (Nat → Nat) × (Nat → Nat) × (Nat → Nat) × Nat × Nat
def xS (X : zX) : Nat := X.1
def xW (X : zX) (k : Nat) : Nat := X.2.1 k
def xG (X : zX) (t : Nat) : Nat := X.2.2.1 t
def xO (X : zX) (t : Nat) : Nat := X.2.2.2.1 t
def xD (X : zX) : Nat := X.2.2.2.2.1
def xM (X : zX) : Nat := X.2.2.2.2.2
/-- a tower told: tenants, what a new storey weighs, costs, a move costs, lines, wants, laws -/
abbrev zC : Type := Nat × Nat × Nat × Nat × Nat × (Nat → Nat) × (Nat → Option (List Nat))
def kT (C : zC) : Nat := C.1
def kB (C : zC) : Nat := C.2.1
def kC (C : zC) : Nat := C.2.2.1
def kV (C : zC) : Nat := C.2.2.2.1
def kL (C : zC) : Nat := C.2.2.2.2.1
def kW (C : zC) (t : Nat) : Nat := C.2.2.2.2.2.1 t
def kLaw (C : zC) (l : Nat) : Option (List Nat) := C.2.2.2.2.2.2 l
/-- laws: codes in reversed Polish order -/
def opI (c : Nat) (a b : Int32) : Int32 :=
  let v : Int64 := if c = 3000 then a.toInt64 + b.toInt64 else if c = 3001 then a.toInt64 - b.toInt64 else a.toInt64 * b.toInt64
  if ¬ (1000000 : Int64) < v then (if ¬ v < (-1000000 : Int64) then v.toInt32 else (-1000000 : Int64).toInt32) else (1000000 : Int64).toInt32
def stk (W : Nat → Int32) : List Nat → List Int32 → List Int32
  | [], st => st
  | c :: cs, st => if c < 3000 then stk W cs ((if c < 1000 then nI c else W (c - 1000)) :: st) else match st with
    | b :: a :: r => stk W cs (opI c a b :: r)
    | _ => []
def dpt : List Nat → Nat → Option Nat
  | [], n => some n
  | c :: cs, n => if c < 3000 then dpt cs (n + 1) else if 2 ≤ n then dpt cs (n - 1) else none
def ev (W : Nat → Int32) (cs : List Nat) : Int32 := (stk W cs []).headD 0
def lawW (l i : Nat) : Bool := match l with
  | 0 => decide (i < 5)
  | 1 => decide (i = 0 ∨ i = 5 ∨ i = 6)
  | _ => decide (i = 0 ∨ (5 ≤ i ∧ i < 10))
/-- a law as the readers make them -/
def lawOK (l : Nat) (cs : List Nat) : Prop := cs.length ≤ 900 ∧ dpt cs 0 = some 1 ∧ ∀ c ∈ cs, c < 1000 ∨ (1000 ≤ c ∧ c < 1010 ∧ lawW l (c - 1000) = true) ∨ c = 3000 ∨ c = 3001 ∨ c = 3002
/-- sums -/
def sumN (f : Nat → Nat) : Nat → Nat
  | 0 => 0
  | n + 1 => sumN f n + f n
/-- the weight of all, but for one tenant's goods (wo: 0 none, t+1) -/
def wt (C : zC) (X : zX) (wo : Nat) : Nat := sumN (xW X) (xS X) + sumN (fun t => if xO X t = 0 ∨ wo = t + 1 then 0 else xG X t) (kT C)
def bur (st su : Nat) : Nat := min st (su / 144)
def hgt (k su : Nat) : Int32 := if 144 * k < su then -(nI ((11 + (su - 144 * k)) / 12)) else nI ((144 * k - su) / 12)
def wSink (w st su mo : Nat) (i : Nat) : Int32 := match i with
  | 0 => nI (mo % 12)
  | 1 => nI w
  | 2 => nI st
  | 3 => nI su
  | 4 => nI (bur st su)
  | _ => 0
def wPay (k su mo : Nat) (i : Nat) : Int32 := match i with
  | 0 => nI (mo % 12)
  | 5 => hgt k su
  | 6 => nI k
  | _ => 0
def wWor (wa go wh k su mo : Nat) (i : Nat) : Int32 := match i with
  | 0 => nI (mo % 12)
  | 5 => hgt k su
  | 6 => nI k
  | 7 => nI wa
  | 8 => nI go
  | 9 => nI wh
  | _ => 0
def clN (x : Int32) : Nat := if x < 0 then 0 else if nI 144 < x then 144 else x.toNatClampNeg
/-- inches sunk in a month -/
def inch (C : zC) (w st su mo : Nat) : Nat := match kLaw C 0 with
  | none => min (w / 100) 144
  | some cs => clN (ev (wSink w st su mo) cs)
def payV (C : zC) (k su mo : Nat) : Int32 := match kLaw C 1 with
  | none => nI 0
  | some cs => ev (wPay k su mo) cs
/-- what a storey is worth to t (goods go, place o as kept) -/
def worV (C : zC) (t go o k su mo : Nat) : Int32 := match kLaw C 2 with
  | none => nI 0
  | some cs => ev (wWor (kW C t) go (if o = k + 1 then 1 else 0) k su mo) cs
def dee (su by_ : Nat) : Nat := min (su + by_) 99999
/-- how deep after n months, some weight fixed -/
def suN (C : zC) (w st s0 m0 : Nat) : Nat → Nat
  | 0 => s0
  | n + 1 => dee (suN C w st s0 m0 n) (inch C w st (suN C w st s0 m0 n) (m0 + n))
/-- a state and a tower as they come up -/
def wfX (C : zC) (X : zX) (mb : Nat) : Prop := xS X ≤ 8 ∧ xD X ≤ 99999 ∧ xM X ≤ mb ∧ (∀ k, k < 8 → xW X k ≤ 999) ∧ (∀ t, t < 6 → xG X t ≤ 999 ∧ xO X t ≤ xS X) ∧ (∀ t u, t < kT C → u < kT C → xO X t = xO X u → xO X t ≠ 0 → t = u)
def wfC (C : zC) : Prop := kT C ≤ 6 ∧ kB C ≤ 999 ∧ kC C ≤ 999 ∧ kV C ≤ 999 ∧ kL C ≤ 900 ∧ (∀ t, t < 6 → kW C t ≤ 99) ∧ ∀ l cs, l < 3 → kLaw C l = some cs → lawOK l cs
/-- what a run may change -/
def zOff (S : Nat → Nat → Prop) (μ μ' : zM) : Prop := (∀ b, zty μ' b = zty μ b) ∧ (∀ b k, zR μ' b k = zR μ b k) ∧ znx μ' = znx μ ∧ ∀ b k, ¬ S b k → zI μ' b k = zI μ b k ∧ zJ μ' b k = zJ μ b k
theorem zOff.rf {S : Nat → Nat → Prop} {μ : zM} : zOff S μ μ := ⟨fun _ => rfl, fun _ _ => rfl, rfl, fun _ _ _ => ⟨rfl, rfl⟩⟩
theorem zOff.tr {S : Nat → Nat → Prop} {a b c : zM} (h1 : zOff S a b) (h2 : zOff S b c) : zOff S a c :=
  ⟨fun x => (h2.1 x).trans (h1.1 x), fun x k => (h2.2.1 x k).trans (h1.2.1 x k), h2.2.2.1.trans h1.2.2.1, fun x k h => ⟨(h2.2.2.2 x k h).1.trans (h1.2.2.2 x k h).1, (h2.2.2.2 x k h).2.trans (h1.2.2.2 x k h).2⟩⟩
theorem zOff.mono {S T : Nat → Nat → Prop} {a b : zM} (h : zOff S a b) (hST : ∀ x k, S x k → T x k) : zOff T a b := ⟨h.1, h.2.1, h.2.2.1, fun x k q => h.2.2.2 x k (fun z => q (hST x k z))⟩
theorem zOff.I {S : Nat → Nat → Prop} {a b : zM} (h : zOff S a b) {x k : Nat} (hn : ¬ S x k) : zI b x k = zI a x k := (h.2.2.2 x k hn).1
theorem zOff.J {S : Nat → Nat → Prop} {a b : zM} (h : zOff S a b) {x k : Nat} (hn : ¬ S x k) : zJ b x k = zJ a x k := (h.2.2.2 x k hn).2
theorem zOff.sI {S : Nat → Nat → Prop} {μ : zM} {a k : Nat} {v : Int32} (h : S a k) : zOff S μ (zsI μ a k v) :=
  ⟨fun _ => rfl, fun _ _ => rfl, rfl, fun x j q => ⟨by rw [zI_sI, if_neg (fun e => q (by rw [e.1, e.2]; exact h))], rfl⟩⟩
theorem zOff.sJ {S : Nat → Nat → Prop} {μ : zM} {a k : Nat} {v : Int64} (h : S a k) : zOff S μ (zsJ μ a k v) :=
  ⟨fun _ => rfl, fun _ _ => rfl, rfl, fun x j q => ⟨rfl, by rw [zJ_sJ, if_neg (fun e => q (by rw [e.1, e.2]; exact h))]⟩⟩
theorem zOff.cp {S : Nat → Nat → Prop} {μ : zM} {a b sp dp n : Nat} (h : ∀ k, dp ≤ k → k < dp + n → S b k) : zOff S μ (zcp μ a b sp dp n) :=
  ⟨fun _ => rfl, fun _ _ => rfl, rfl, fun x j q => ⟨by rw [zI_cp, if_neg (fun e => q (by rw [e.1]; exact h j e.2.1 e.2.2))], rfl⟩⟩
/-- the twin's rows: a state, a tower's constants, at some place of `all` -/
def tSt (μ : zM) (a o : Nat) (X : zX) : Prop := zI μ a o = nI (xS X) ∧ (∀ k, k < 8 → zI μ a (o + 1 + k) = nI (xW X k)) ∧ (∀ t, t < 6 → zI μ a (o + 9 + t) = nI (xG X t)) ∧ (∀ t, t < 6 → zI μ a (o + 15 + t) = eO (xO X t)) ∧ zI μ a (o + 21) = nI (xD X) ∧ zI μ a (o + 22) = nI (xM X)
def tLaw (μ : zM) (a o l : Nat) (w : Option (List Nat)) : Prop := match w with
  | none => zI μ a (o + 5 + l) = 0
  | some cs => zI μ a (o + 5 + l) = nI 1 ∧ ∃ fr, zI μ a (o + 8 + l) = nI fr ∧ zI μ a (o + 11 + l) = nI cs.length ∧ fr + cs.length ≤ 900 ∧ ∀ j (hj : j < cs.length), zI μ a (o + 298 + fr + j) = nI cs[j]
def tCo (μ : zM) (a o : Nat) (C : zC) : Prop := zI μ a o = nI (kL C) ∧ zI μ a (o + 1) = nI (kT C) ∧ zI μ a (o + 2) = nI (kB C) ∧ zI μ a (o + 3) = nI (kC C) ∧ zI μ a (o + 4) = nI (kV C) ∧ (∀ t, t < 6 → zI μ a (o + 14 + t) = nI (kW C t)) ∧ ∀ l, l < 3 → tLaw μ a o l (kLaw C l)
/-- the twin's main row: tower and state as they are now -/
def tM (th : Nat) (μ : zM) (C : zC) (X : zX) : Prop := tCo μ (th + 1) 0 C ∧ tSt μ (th + 1) 20 X
theorem tM.keep {th : Nat} {μ μ' : zM} {C : zC} {X : zX} (h : tM th μ C X) (hk : ∀ k, zI μ' (th + 1) k = zI μ (th + 1) k) : tM th μ' C X := by
  have e : zI μ' (th + 1) = zI μ (th + 1) := funext hk
  have e1 : ∀ o l w, tLaw μ' (th + 1) o l w ↔ tLaw μ (th + 1) o l w := by
    intro o l w
    unfold tLaw
    rw [e]
  unfold tM tCo tSt at *
  simp only [e, e1]
  exact h
