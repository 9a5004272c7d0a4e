/-! tables: the classes of both systems, kinds of their fields, nest words, strings -/
abbrev zcl : List vw_C := [(RX0, TX0, 33), (RX1, TX1, 16), (RX2, TX2, 8), (RX3, TX3, 1), (RX4, TX4, 38), (RX5, TX5, 11), (RX7, TX7, 1), (RX8, TX8, 1), (RX9, TX9, 3)]
/-- kind of a field: 0 int, 1 long, 2 reference -/
def zfk (c k : Nat) : Nat := match c with
  | 0 => ([2, 2, 2, 2, 0, 0, 0, 2, 0, 0, 0, 2, 2, 0, 2, 2, 2, 2, 0, 0, 2, 2, 0, 0, 1, 2, 2, 2, 2, 2, 2, 2, 2] : List Nat).getD k 0
  | 1 => ([2, 2, 2, 2, 2, 0, 0, 0, 0, 0, 0, 0, 0, 2, 2, 2] : List Nat).getD k 0
  | 2 => ([2, 2, 2, 0, 0, 0, 0, 2] : List Nat).getD k 0
  | 3 => ([2] : List Nat).getD k 0
  | 4 => ([0, 2, 2, 2, 2, 0, 0, 0, 0, 0, 0, 0, 0, 0, 0, 0, 2, 2, 2, 2, 0, 0, 0, 2, 2, 0, 0, 2, 2, 0, 0, 1, 2, 2, 2, 2, 2, 2] : List Nat).getD k 0
  | 5 => ([0, 2, 0, 0, 0, 0, 0, 0, 0, 0, 2] : List Nat).getD k 0
  | 6 => ([0] : List Nat).getD k 0
  | 7 => ([0] : List Nat).getD k 0
  | 8 => ([2, 2, 0] : List Nat).getD k 0
  | _ => 0
def zN (c : Nat) : Nat := ([33, 16, 8, 1, 38, 11, 1, 1, 3] : List Nat).getD c 0
def zNF : List (String × Nat × String × String × String × String) := [("SunkTower", 170, "SunkTower$Tower", "wants", "[I", "SunkTower"), ("SunkTower", 141, "SunkTower$Tower", "tenants", "I", "SunkTower"), ("SunkTower", 376, "SunkTower$Tower", "dear", "I", "SunkTower"), ("SunkTower", 339, "SunkTower$Tower", "move", "I", "SunkTower"), ("SunkTower", 135, "SunkTower$Tower", "lines", "I", "SunkTower"), ("SunkTower", 173, "SunkTower$State", "on", "[I", "SunkTower"), ("SunkTower", 167, "SunkTower$State", "goods", "[I", "SunkTower"), ("SunkTower", 150, "SunkTower$State", "weight", "[I", "SunkTower"), ("SunkTower", 138, "SunkTower$State", "storeys", "I", "SunkTower"), ("SunkTower", 253, "SunkTower$State", "sunk", "I", "SunkTower"), ("SunkTower", 256, "SunkTower$State", "month", "I", "SunkTower"), ("SunkTower", 323, "SunkTower$State", "besides", "I", "SunkTower"), ("SunkTower", 245, "SunkTower$Numbers", "held", "Ljava/lang/Object;", "SunkTower"), ("SunkTower", 129, "SunkTower$Reader", "made", "LSunkTower$Tower;", "SunkTower"), ("SunkTower", 120, "SunkTower$Reader", "fault", "I", "SunkTower"), ("SunkTower", 126, "SunkTower$Reader", "place", "I", "SunkTower"), ("SunkTower$State", 52, "SunkTower$Tower", "weight", "[I", "SunkTower"), ("SunkTower$State", 51, "SunkTower$Tower", "goods", "[I", "SunkTower"), ("SunkTower$State", 92, "SunkTower$Tower", "wants", "[I", "SunkTower"), ("SunkTower$State", 48, "SunkTower$Tower", "on", "[I", "SunkTower"), ("SunkTower$State", 53, "SunkTower$Tower", "storeys", "I", "SunkTower"), ("SunkTower$State", 56, "SunkTower$Tower", "tenants", "I", "SunkTower"), ("SunkTower$State", 54, "SunkTower$Tower", "sunk", "I", "SunkTower"), ("SunkTower$State", 55, "SunkTower$Tower", "month", "I", "SunkTower"), ("SunkTower$State", 99, "SunkTower$Tower", "heavy", "I", "SunkTower"), ("SunkTower$State", 44, "SunkTower", "its", "LSunkTower$Tower;", "SunkTower"), ("SunkTower$State", 146, "SunkTower", "ringTo", "[I", "SunkTower"), ("SunkTower$Reader", 173, "SunkTower$Tower", "weight", "[I", "SunkTower"), ("SunkTower$Reader", 180, "SunkTower$Tower", "goods", "[I", "SunkTower"), ("SunkTower$Reader", 188, "SunkTower$Tower", "wants", "[I", "SunkTower"), ("SunkTower$Reader", 192, "SunkTower$Tower", "on", "[I", "SunkTower"), ("SunkTower$Reader", 166, "SunkTower$Tower", "storeys", "I", "SunkTower"), ("SunkTower$Reader", 177, "SunkTower$Tower", "tenants", "I", "SunkTower"), ("SunkTower$Reader", 140, "SunkTower$Tower", "sunk", "I", "SunkTower"), ("SunkTower$Reader", 144, "SunkTower$Tower", "month", "I", "SunkTower"), ("SunkTower$Reader", 160, "SunkTower$Tower", "heavy", "I", "SunkTower"), ("SunkTower$Reader", 163, "SunkTower$Tower", "dear", "I", "SunkTower"), ("SunkTower$Reader", 148, "SunkTower$Tower", "move", "I", "SunkTower"), ("SunkTower$Reader", 106, "SunkTower$Tower", "lines", "I", "SunkTower"), ("SunkTower$Reader", 119, "SunkTower$Tower", "sinks", "LSunkTower$Sum;", "SunkTower"), ("SunkTower$Reader", 128, "SunkTower$Tower", "pays", "LSunkTower$Sum;", "SunkTower"), ("SunkTower$Reader", 132, "SunkTower$Tower", "worth", "LSunkTower$Sum;", "SunkTower"), ("SunkTower$Reader", 29, "SunkTower", "tape", "[B", "SunkTower")]
def zNM : List (String × Nat × MethodName × String) := [("SunkTower", 18, ⟨"SunkTower$State", "<init>", "(LSunkTower;)V"⟩, "SunkTower"), ("SunkTower", 85, ⟨"SunkTower$Numbers", "<init>", "()V"⟩, "SunkTower"), ("SunkTower$State", 102, ⟨"SunkTower", "in", "(JJJ)Z"⟩, "SunkTower"), ("SunkTower$State", 142, ⟨"SunkTower", "laysRings", "(LSunkTower$State;)V"⟩, "SunkTower"), ("SunkTower$Reader", 41, ⟨"SunkTower", "in", "(JJJ)Z"⟩, "SunkTower"), ("SunkTower$Known", 1, ⟨"SunkTower$Sum", "<init>", "()V"⟩, "SunkTower"), ("SunkTower$Plain", 1, ⟨"SunkTower$Sum", "<init>", "()V"⟩, "SunkTower"), ("SunkTower$Pair", 3, ⟨"SunkTower$Sum", "<init>", "()V"⟩, "SunkTower")]
def zSn : Nat := 20
def zSl : List Nat := [108, 7, 6, 6, 5, 2, 5, 6, 7, 4, 5, 6, 6, 5, 3, 4, 5, 4, 5, 5]
def zSb : List (List Int32) := [[32, 115, 116, 111, 114, 101, 121, 32, 116, 101, 110, 97, 110, 116, 32, 111, 110, 32, 119, 97, 110, 116, 115, 32, 115, 105, 110, 107, 115, 32, 112, 97, 121, 115, 32, 119, 111, 114, 116, 104, 32, 115, 117, 110, 107, 32, 109, 111, 110, 116, 104, 32, 98, 117, 105, 108, 100, 32, 99, 111, 115, 116, 115, 32, 109, 111, 118, 101, 32, 119, 101, 105, 103, 104, 116, 32, 115, 116, 111, 114, 101, 121, 115, 32, 98, 117, 114, 105, 101, 100, 32, 104, 101, 105, 103, 104, 116, 32, 103, 111, 111, 100, 115, 32, 119, 97, 115, 32], [59, 58, 43, 45, 42, 40, 41], [115, 116, 111, 114, 101, 121], [116, 101, 110, 97, 110, 116], [119, 97, 110, 116, 115], [111, 110], [115, 105, 110, 107, 115], [119, 101, 105, 103, 104, 116], [115, 116, 111, 114, 101, 121, 115], [115, 117, 110, 107], [109, 111, 110, 116, 104], [98, 117, 114, 105, 101, 100], [104, 101, 105, 103, 104, 116], [103, 111, 111, 100, 115], [119, 97, 115], [112, 97, 121, 115], [119, 111, 114, 116, 104], [109, 111, 118, 101], [98, 117, 105, 108, 100], [99, 111, 115, 116, 115]]
/-- the texts: class, entry, text, number -/
def zSr : List (String × Nat × String × Nat) := [("SunkTowerModel", 85, " storey tenant on wants sinks pays worth sunk month build costs move weight storeys buried height goods was ", 0), ("SunkTowerModel", 123, ";:+-*()", 1), ("SunkTower$Reader", 68, ";:+-*()", 1), ("SunkTower$Reader", 109, "storey", 2), ("SunkTower$Reader", 113, "tenant", 3), ("SunkTower$Reader", 186, "wants", 4), ("SunkTower$Reader", 190, "on", 5), ("SunkTower$Reader", 117, "sinks", 6), ("SunkTower$Reader", 221, "weight", 7), ("SunkTower$Reader", 222, "storeys", 8), ("SunkTower$Reader", 134, "sunk", 9), ("SunkTower$Reader", 142, "month", 10), ("SunkTower$Reader", 223, "buried", 11), ("SunkTower$Reader", 225, "height", 12), ("SunkTower$Reader", 227, "goods", 13), ("SunkTower$Reader", 228, "was", 14), ("SunkTower$Reader", 126, "pays", 15), ("SunkTower$Reader", 130, "worth", 16), ("SunkTower$Reader", 146, "move", 17), ("SunkTower$Reader", 153, "build", 18), ("SunkTower$Reader", 158, "costs", 19)]
def zND : List MethodName := [⟨"java/lang/IndexOutOfBoundsException", "<init>", "()V"⟩, ⟨"java/lang/IndexOutOfBoundsException", "<init>", "(Ljava/lang/String;)V"⟩, ⟨"java/lang/Throwable", "fillInStackTrace", "()Ljava/lang/Throwable;"⟩, ⟨"java/lang/Throwable", "<init>", "()V"⟩, ⟨"java/lang/Throwable", "<init>", "(Ljava/lang/String;)V"⟩, ⟨"java/lang/Exception", "<init>", "()V"⟩, ⟨"java/lang/Exception", "<init>", "(Ljava/lang/String;)V"⟩, ⟨"java/lang/RuntimeException", "<init>", "()V"⟩, ⟨"java/lang/RuntimeException", "<init>", "(Ljava/lang/String;)V"⟩, ⟨"SunkTower$Sum", "value", "([I)I"⟩]
def zNC : List (String × String) := [("java/lang/NegativeArraySizeException", "java/lang/NegativeArraySizeException"), ("java/lang/NullPointerException", "java/lang/NullPointerException"), ("java/lang/ArrayIndexOutOfBoundsException", "java/lang/ArrayIndexOutOfBoundsException"), ("java/lang/RuntimeException", "java/lang/Throwable")]
def zNO : List String := ["SunkTower$State", "SunkTower$Numbers", "SunkTower$Tower"]
/-! one memory for a world of cells: ints, longs, references by cell and place; what a cell is; the next new cell -/
abbrev zT : Type := Nat ⊕ (Nat × Nat)
abbrev zM : Type := (Nat → Nat → Int32) × (Nat → Nat → Int64) × (Nat → Nat → Option Nat) × (Nat → Option zT) × Nat
abbrev zG : Type := va_G × (Nat → ClassId) × (Nat → Nat) × (Nat → Nat)
def zI (μ : zM) (a k : Nat) : Int32 := μ.1 a k
def zJ (μ : zM) (a k : Nat) : Int64 := μ.2.1 a k
def zR (μ : zM) (a k : Nat) : Option Nat := μ.2.2.1 a k
def zty (μ : zM) (a : Nat) : Option zT := μ.2.2.2.1 a
def znx (μ : zM) : Nat := μ.2.2.2.2
def zsI (μ : zM) (a k : Nat) (v : Int32) : zM := (fun b j => if b = a ∧ j = k then v else μ.1 b j, μ.2)
def zsJ (μ : zM) (a k : Nat) (v : Int64) : zM := (μ.1, fun b j => if b = a ∧ j = k then v else μ.2.1 b j, μ.2.2)
def zsR (μ : zM) (a k : Nat) (v : Option Nat) : zM := (μ.1, μ.2.1, fun b j => if b = a ∧ j = k then v else μ.2.2.1 b j, μ.2.2.2)
def zcp (μ : zM) (a b sp dp n : Nat) : zM := (fun c j => if c = b ∧ dp ≤ j ∧ j < dp + n then μ.1 a (sp + (j - dp)) else μ.1 c j, μ.2)
def zal (μ : zM) (t : zT) : zM := (fun b j => if b = znx μ then 0 else μ.1 b j, fun b j => if b = znx μ then 0 else μ.2.1 b j, fun b j => if b = znx μ then none else μ.2.2.1 b j, fun b => if b = znx μ then some t else μ.2.2.2.1 b, znx μ + 1)
def zta (μ : zM) (a : Nat) (t : zT) : zM := (μ.1, μ.2.1, μ.2.2.1, fun b => if b = a then some t else μ.2.2.2.1 b, μ.2.2.2.2)
theorem zI_sI (μ : zM) (a k : Nat) (v : Int32) (b j : Nat) : zI (zsI μ a k v) b j = if b = a ∧ j = k then v else zI μ b j := rfl
theorem zI_sJ (μ : zM) (a k : Nat) (v : Int64) (b j : Nat) : zI (zsJ μ a k v) b j = zI μ b j := rfl
theorem zI_sR (μ : zM) (a k : Nat) (v : Option Nat) (b j : Nat) : zI (zsR μ a k v) b j = zI μ b j := rfl
theorem zI_cp (μ : zM) (a b sp dp n c j : Nat) : zI (zcp μ a b sp dp n) c j = if c = b ∧ dp ≤ j ∧ j < dp + n then zI μ a (sp + (j - dp)) else zI μ c j := rfl
theorem zJ_sI (μ : zM) (a k : Nat) (v : Int32) (b j : Nat) : zJ (zsI μ a k v) b j = zJ μ b j := rfl
theorem zJ_sJ (μ : zM) (a k : Nat) (v : Int64) (b j : Nat) : zJ (zsJ μ a k v) b j = if b = a ∧ j = k then v else zJ μ b j := rfl
theorem zJ_sR (μ : zM) (a k : Nat) (v : Option Nat) (b j : Nat) : zJ (zsR μ a k v) b j = zJ μ b j := rfl
theorem zJ_cp (μ : zM) (a b sp dp n c j : Nat) : zJ (zcp μ a b sp dp n) c j = zJ μ c j := rfl
theorem zR_sI (μ : zM) (a k : Nat) (v : Int32) (b j : Nat) : zR (zsI μ a k v) b j = zR μ b j := rfl
theorem zR_sJ (μ : zM) (a k : Nat) (v : Int64) (b j : Nat) : zR (zsJ μ a k v) b j = zR μ b j := rfl
theorem zR_sR (μ : zM) (a k : Nat) (v : Option Nat) (b j : Nat) : zR (zsR μ a k v) b j = if b = a ∧ j = k then v else zR μ b j := rfl
theorem zR_cp (μ : zM) (a b sp dp n c j : Nat) : zR (zcp μ a b sp dp n) c j = zR μ c j := rfl
theorem zty_sI (μ : zM) (a k : Nat) (v : Int32) (b : Nat) : zty (zsI μ a k v) b = zty μ b := rfl
theorem zty_sJ (μ : zM) (a k : Nat) (v : Int64) (b : Nat) : zty (zsJ μ a k v) b = zty μ b := rfl
theorem zty_sR (μ : zM) (a k : Nat) (v : Option Nat) (b : Nat) : zty (zsR μ a k v) b = zty μ b := rfl
theorem zty_cp (μ : zM) (a b sp dp n c : Nat) : zty (zcp μ a b sp dp n) c = zty μ c := rfl
theorem znx_sI (μ : zM) (a k : Nat) (v : Int32) : znx (zsI μ a k v) = znx μ := rfl
theorem znx_sJ (μ : zM) (a k : Nat) (v : Int64) : znx (zsJ μ a k v) = znx μ := rfl
theorem znx_sR (μ : zM) (a k : Nat) (v : Option Nat) : znx (zsR μ a k v) = znx μ := rfl
theorem znx_cp (μ : zM) (a b sp dp n : Nat) : znx (zcp μ a b sp dp n) = znx μ := rfl
/-- writes and names, in the way of a predicate's text -/
def zpI (μ : zM) (a k : Nat) (v : Int32) (K : zM → Prop) : Prop := K (zsI μ a k v)
def zpJ (μ : zM) (a k : Nat) (v : Int64) (K : zM → Prop) : Prop := K (zsJ μ a k v)
def zpR (μ : zM) (a k : Nat) (v : Option Nat) (K : zM → Prop) : Prop := K (zsR μ a k v)
def zpC (μ : zM) (a b sp dp n : Nat) (K : zM → Prop) : Prop := K (zcp μ a b sp dp n)
def znm {α : Type} (v : α) (K : α → Prop) : Prop := K v
def zde (e : Option Nat) (K : Nat → Prop) : Prop := ∃ b, e = some b ∧ K b
theorem zpI_e {μ : zM} {a k : Nat} {v : Int32} {K : zM → Prop} (h : zpI μ a k v K) : ∃ μ1, μ1 = zsI μ a k v ∧ K μ1 := ⟨_, rfl, h⟩
theorem zpJ_e {μ : zM} {a k : Nat} {v : Int64} {K : zM → Prop} (h : zpJ μ a k v K) : ∃ μ1, μ1 = zsJ μ a k v ∧ K μ1 := ⟨_, rfl, h⟩
theorem zpR_e {μ : zM} {a k : Nat} {v : Option Nat} {K : zM → Prop} (h : zpR μ a k v K) : ∃ μ1, μ1 = zsR μ a k v ∧ K μ1 := ⟨_, rfl, h⟩
theorem zpC_e {μ : zM} {a b sp dp n : Nat} {K : zM → Prop} (h : zpC μ a b sp dp n K) : ∃ μ1, μ1 = zcp μ a b sp dp n ∧ K μ1 := ⟨_, rfl, h⟩
theorem znm_e {α : Type} {v : α} {K : α → Prop} (h : znm v K) : ∃ x, x = v ∧ K x := ⟨_, rfl, h⟩
theorem zit {c : Prop} {d : Decidable c} {A B : Prop} (h : @ite Prop c d A B) (hc : c) : A := by rw [if_pos hc] at h; exact h
theorem zif {c : Prop} {d : Decidable c} {A B : Prop} (h : @ite Prop c d A B) (hc : ¬ c) : B := by rw [if_neg hc] at h; exact h
/-- the cells -/
def zfv (c k : Nat) (μ : zM) (a : Nat) : Value := match zfk c k with
  | 0 => .int (zI μ a k)
  | 1 => .long (zJ μ a k)
  | _ => va_rf (zR μ a k)
def zfs (c : Nat) (μ : zM) (a : Nat) : List Value := (List.range (zN c)).map (fun k => zfv c k μ a)
def zct (kd : Nat) (μ : zM) (a : Nat) : (Nat → Int32) ⊕ (Nat → Int64) ⊕ (Nat → UInt32) ⊕ (Nat → UInt64) ⊕ (Nat → Option Nat) := match kd with
  | 3 => .inr (.inl (zJ μ a))
  | 5 => .inr (.inr (.inr (.inr (zR μ a))))
  | 6 => .inr (.inr (.inr (.inr (zR μ a))))
  | 7 => .inr (.inr (.inr (.inr (zR μ a))))
  | _ => .inl (zI μ a)
def zE (dA : Nat → ClassId) (μ : zM) (a : Nat) (t : zT) : va_E := match t with
  | .inl c => .inr (c % 100, zfs (c % 100) μ a)
  | .inr q => .inl (dA q.1, q.2, zct q.1 μ a)
theorem zfs_get {c k : Nat} {μ : zM} {a : Nat} (h : k < zN c) : (zfs c μ a)[k]? = some (zfv c k μ a) := by
  unfold zfs
  rw [List.getElem?_map, List.getElem?_range h]
  rfl
theorem zfs_set {c k : Nat} {μ μ' : zM} {a : Nat} {v : Value} (hk : k < zN c) (h1 : zfv c k μ' a = v) (h2 : ∀ j, j ≠ k → zfv c j μ' a = zfv c j μ a) : zfs c μ' a = (zfs c μ a).set k v := by
  apply List.ext_getElem?
  intro j
  rw [List.getElem?_set]
  by_cases hj : j < zN c
  · rw [zfs_get hj]
    by_cases e : k = j
    · subst e
      rw [if_pos rfl, if_pos (by unfold zfs; simpa using hj), h1]
    · rw [if_neg e, zfs_get hj, h2 j (fun q => e q.symm)]
  · have l1 : ∀ ν : zM, (zfs c ν a)[j]? = none := fun ν => by
      rw [List.getElem?_eq_none_iff]
      unfold zfs
      simp only [List.length_map, List.length_range]
      omega
    rw [l1, l1]
    by_cases e : k = j
    · omega
    · rw [if_neg e]
/-- what a launch's tables say, all through -/
def ztys (dA : Nat → ClassId) : List (ClassId × FieldType) := [(dA 0, .int), (dA 1, .byte), (dA 2, .boolean), (dA 3, .long), (dA 4, .short), (dA 5, .object "SunkTower$State"), (dA 6, .object "SunkTower$Numbers"), (dA 7, .object "SunkTower$Tower")]
def zNx : List (String × String) := [("[I", "[B"), ("[I", "[S"), ("[B", "[I"), ("[B", "[S"), ("[J", "[I"), ("[J", "[B"), ("[J", "[S"), ("[S", "[I"), ("[S", "[B")]
def zW (Γ : zG) (U : State) : Prop := va_K Γ.1 zcl (ztys Γ.2.1) U ∧ (∀ q ∈ zNF, va_Nw (.fieldLinkNest q.1 q.2.1 q.2.2.1 q.2.2.2.1 q.2.2.2.2.1 q.2.2.2.2.2) U) ∧ (∀ q ∈ zNM, va_Nw (.methodLinkNest q.1 q.2.1 q.2.2.1 q.2.2.2) U) ∧ (∀ q ∈ zSr, vk_R q.1 q.2.1 q.2.2.1 (Γ.2.2.1 q.2.2.2) U) ∧ (∀ q ∈ zND, va_Nw (.declares q) U) ∧ (∀ q ∈ zNC, va_Nw (.castable q.1 q.2) U) ∧ (∀ q ∈ zNO, va_AO q U) ∧ (∀ q ∈ zNx, va_Nc q.1 q.2 U)
theorem zW.warm {Γ : zG} {s U : State} (hW : s.WarmedH U.vm) (h : zW Γ s) : zW Γ U :=
  ⟨va_K.moved hW.alike h.1, fun q hq => va_Nw.warmF hW (h.2.1 q hq), fun q hq => va_Nw.warmM hW (h.2.2.1 q hq), fun q hq => vk_R.warm hW (h.2.2.2.1 q hq), fun q hq => va_Nw.warmD hW (h.2.2.2.2.1 q hq), fun q hq => va_Nw.warmC hW (h.2.2.2.2.2.1 q hq), fun q hq => va_AO.moved hW.alike (h.2.2.2.2.2.2.1 q hq), fun q hq => va_Nc.moved hW.alike (h.2.2.2.2.2.2.2 q hq)⟩
theorem zW.same {Γ : zG} {u U : State} (hv : u.vm = U.vm) (h : zW Γ u) : zW Γ U :=
  ⟨va_K.moved (by rw [hv]; exact Vm.Alike.refl _) h.1, fun q hq => va_Nw.same rfl hv (h.2.1 q hq), fun q hq => va_Nw.same rfl hv (h.2.2.1 q hq), fun q hq => vk_R.same hv.symm (h.2.2.2.1 q hq), fun q hq => va_Nw.same rfl hv (h.2.2.2.2.1 q hq), fun q hq => va_Nw.same rfl hv (h.2.2.2.2.2.1 q hq), fun q hq => va_AO.moved (by rw [hv]; exact Vm.Alike.refl _) (h.2.2.2.2.2.2.1 q hq), fun q hq => va_Nc.moved (by rw [hv]; exact Vm.Alike.refl _) (h.2.2.2.2.2.2.2 q hq)⟩
/-- constant cells outside -/
def zKo (Γ : zG) (A : Nat → Prop) (U : State) (H : Heap) : Prop := vk_S zSn zSl zSb Γ.2.2.1 Γ.2.2.2 A U H ∧ va_Z "java/lang/String" "COMPACT_STRINGS" "Z" (.int (nI 1)) A U H ∧ va_Zq "jdk/internal/util/Preconditions" "SIOOBE_FORMATTER" "Ljava/util/function/BiFunction;" A U H ∧ va_Zq "java/lang/Throwable" "UNASSIGNED_STACK" "[Ljava/lang/StackTraceElement;" A U H ∧ va_Zq "java/lang/Throwable" "SUPPRESSED_SENTINEL" "Ljava/util/List;" A U H
def zHp (Γ : zG) (μ : zM) (H : Heap) : Prop := ∀ (a : Nat) (t : zT), zty μ a = some t → va_at Γ.1 zcl (a, zE Γ.2.1 μ a t) H
def zraw (t : zT) : Bool := match t with
  | .inl c => decide (100 ≤ c)
  | .inr _ => false
def zLe (μ0 μ : zM) : Prop := znx μ0 ≤ znx μ ∧ ∀ (a : Nat) (t : zT), zty μ0 a = some t → zraw t = false → zty μ a = some t
theorem zLe.rf {μ : zM} : zLe μ μ := ⟨Nat.le_refl _, fun _ _ h _ => h⟩
theorem zLe.tr {a b c : zM} (h1 : zLe a b) (h2 : zLe b c) : zLe a c := ⟨Nat.le_trans h1.1 h2.1, fun x t h r => h2.2 x t (h1.2 x t h r) r⟩
abbrev zSh : Type := (Nat → Nat → Option Nat) → (Nat → Option zT) → Prop
def zA (μ : zM) (q : Nat) : Prop := (∃ t, zty μ q = some t) ∨ znx μ ≤ q
def zB (Γ : zG) (Sh : zSh) (A : Nat → Prop) (μ0 : zM) (s : State) (μ : zM) (H : Heap) (locs : List Loc) : Prop :=
  zW Γ s ∧ zHp Γ μ H ∧ (∀ (a : Nat) (t : zT), zty μ a = some t → A a) ∧ va_S A s.heap H locs ∧ (∀ q, s.heap.size ≤ q → A q) ∧ znx μ = H.size ∧ Sh (zR μ) (zty μ) ∧ zKo Γ A s s.heap ∧ zLe μ0 μ
def zPre (Γ : zG) (Sh : zSh) (μ : zM) (U : State) : Prop := zW Γ U ∧ zHp Γ μ U.heap ∧ znx μ = U.heap.size ∧ Sh (zR μ) (zty μ) ∧ zKo Γ (zA μ) U U.heap
def zPost (Γ : zG) (Sh : zSh) (μ0 μ : zM) (t : State) : Prop := zHp Γ μ t.heap ∧ znx μ = t.heap.size ∧ Sh (zR μ) (zty μ) ∧ (∀ (a : Nat) (ty : zT), zty μ a = some ty → zA μ0 a) ∧ zLe μ0 μ
theorem zKo.move {Γ : zG} {A B : Nat → Prop} {u U : State} {H H1 : Heap} (hvm : u.vm.Alike U.vm) (h : zKo Γ A u H) (hq : ∀ a : Nat, a < H.size → ¬ A a → H1[a]? = H[a]?) (hAB : ∀ q, B q → A q) : zKo Γ B U H1 :=
  ⟨((h.1.moved hvm).kept hq).narrow hAB, ((va_Z.moved hvm h.2.1).kept hq).narrow hAB, ((va_Zq.moved hvm h.2.2.1).kept hq).narrow hAB, ((va_Zq.moved hvm h.2.2.2.1).kept hq).narrow hAB, ((va_Zq.moved hvm h.2.2.2.2).kept hq).narrow hAB⟩
theorem zB.entry {Γ : zG} {Sh : zSh} {μ : zM} {s : State} (h : zPre Γ Sh μ s) : zB Γ Sh (zA μ) μ s μ s.heap [] :=
  ⟨h.1, h.2.1, fun _ _ q => Or.inl ⟨_, q⟩, va_S.rf, fun q hq => Or.inr (by rw [h.2.2.1]; exact hq), h.2.2.1, h.2.2.2.1, h.2.2.2.2, zLe.rf⟩
theorem zB.sub {Γ : zG} {Sh : zSh} {A : Nat → Prop} {μ0 μ : zM} {s : State} {H : Heap} {locs : List Loc} (h : zB Γ Sh A μ0 s μ H locs) : ∀ q, zA μ q → A q := by
  intro q hq
  rcases hq with ⟨t, e⟩ | e
  · exact h.2.2.1 q t e
  · exact h.2.2.2.2.1 q (Nat.le_trans h.2.2.2.1.1 (by rw [← h.2.2.2.2.2.1]; exact e))
theorem zB.pre {Γ : zG} {Sh : zSh} {A : Nat → Prop} {μ0 μ : zM} {s : State} {H : Heap} {locs : List Loc} (h : zB Γ Sh A μ0 s μ H locs) (U : State) (hU : U.heap = H) (hW : s.WarmedH U.vm) : zPre Γ Sh μ U :=
  ⟨h.1.warm hW, by rw [hU]; exact h.2.1, by rw [hU]; exact h.2.2.2.2.2.1, h.2.2.2.2.2.2.1, by rw [hU]; exact h.2.2.2.2.2.2.2.1.move hW.alike (fun a h1 h2 => h.2.2.2.1.2.1 a h1 h2) h.sub⟩
theorem zB.back {Γ : zG} {Sh : zSh} {A : Nat → Prop} {μ0 μ μ1 : zM} {s t : State} {H H1 : Heap} {locs locs1 : List Loc} (h : zB Γ Sh A μ0 s μ H locs) (ht : t.heap = H1) (hp : zPost Γ Sh μ μ1 t) (hS : va_S A s.heap H1 locs1) : zB Γ Sh A μ0 s μ1 H1 locs1 := by
  subst ht
  exact ⟨h.1, hp.1, fun a ty q => h.sub a (hp.2.2.2.1 a ty q), hS, h.2.2.2.2.1, hp.2.1, hp.2.2.1, h.2.2.2.2.2.2.2.1, h.2.2.2.2.2.2.2.2.tr hp.2.2.2.2⟩
theorem zB.post {Γ : zG} {Sh : zSh} {μ0 μ : zM} {s t : State} {H : Heap} {locs : List Loc} (h : zB Γ Sh (zA μ0) μ0 s μ H locs) (ht : t.heap = H) : zPost Γ Sh μ0 μ t := by
  subst ht
  exact ⟨h.2.1, h.2.2.2.2.2.1, h.2.2.2.2.2.2.1, h.2.2.1, h.2.2.2.2.2.2.2.2⟩
theorem zB.ty {Γ : zG} {Sh : zSh} {A : Nat → Prop} {μ0 μ : zM} {s : State} {H : Heap} {locs : List Loc} (h : zB Γ Sh A μ0 s μ H locs) {a : Nat} {t : zT} (h0 : zty μ0 a = some t) (hr : zraw t = false) : zty μ a = some t := h.2.2.2.2.2.2.2.2.2 a t h0 hr
/-- one cell changes -/
theorem zB.upd {Γ : zG} {Sh : zSh} {A : Nat → Prop} {μ0 μ μ' : zM} {s : State} {H H' : Heap} {locs : List Loc} (h : zB Γ Sh A μ0 s μ H locs) {a k : Nat} {t : zT} (ht : zty μ a = some t) (e2 : H'.size = H.size) (e3 : ∀ q : Nat, q ≠ a → H'[q]? = H[q]?) (hat : va_at Γ.1 zcl (a, zE Γ.2.1 μ' a t) H') (hoth : ∀ (b : Nat) (t : zT), b ≠ a → zE Γ.2.1 μ' b t = zE Γ.2.1 μ b t) (hty : ∀ b, zty μ' b = zty μ b) (hnx : znx μ' = znx μ) (hSh : Sh (zR μ') (zty μ')) : zB Γ Sh A μ0 s μ' H' (locs ++ [⟨a, k⟩]) := by
  obtain ⟨h1, h2, h3, h4, h5, h6, h7, h8, h9⟩ := h
  refine ⟨h1, fun b tb hb => ?_, fun b tb hb => h3 b tb (by rw [← hty b]; exact hb), h4.put e2 e3 (h3 a t ht), h5, by rw [hnx, h6, e2], hSh, h8, ⟨by rw [hnx]; exact h9.1, fun x tx hx hr => by rw [hty x]; exact h9.2 x tx hx hr⟩⟩
  rw [hty b] at hb
  by_cases e : b = a
  · subst e
    cases ht.symm.trans hb
    exact hat
  · rw [hoth b tb e]
    exact (h2 b tb hb).kept (e3 b e)
theorem zE_sI {dA : Nat → ClassId} {μ : zM} {a k : Nat} {v : Int32} (b : Nat) (t : zT) (hb : b ≠ a) : zE dA (zsI μ a k v) b t = zE dA μ b t := by
  have e : zI (zsI μ a k v) b = zI μ b := by funext j; rw [zI_sI, if_neg (fun q => hb q.1)]
  cases t with
  | inl c =>
    have : zfs (c % 100) (zsI μ a k v) b = zfs (c % 100) μ b := by
      unfold zfs
      refine List.map_congr_left (fun j _ => ?_)
      unfold zfv
      rw [e]
      rfl
    exact congrArg (fun l => (Sum.inr (c % 100, l) : va_E)) this
  | inr q =>
    have : zct q.1 (zsI μ a k v) b = zct q.1 μ b := by
      unfold zct
      rw [e]
      rfl
    exact congrArg (fun l => (Sum.inl (dA q.1, q.2, l) : va_E)) this
theorem zfs_len {c : Nat} {μ : zM} {a : Nat} : (zfs c μ a).length = zN c := by
  unfold zfs
  simp
theorem zE_sJ {dA : Nat → ClassId} {μ : zM} {a k : Nat} {v : Int64} (b : Nat) (t : zT) (hb : b ≠ a) : zE dA (zsJ μ a k v) b t = zE dA μ b t := by
  have e : zJ (zsJ μ a k v) b = zJ μ b := by funext j; rw [zJ_sJ, if_neg (fun q => hb q.1)]
  cases t with
  | inl c =>
    have : zfs (c % 100) (zsJ μ a k v) b = zfs (c % 100) μ b := by
      unfold zfs
      refine List.map_congr_left (fun j _ => ?_)
      unfold zfv
      rw [e]
      rfl
    exact congrArg (fun l => (Sum.inr (c % 100, l) : va_E)) this
  | inr q =>
    have : zct q.1 (zsJ μ a k v) b = zct q.1 μ b := by
      unfold zct
      rw [e]
      rfl
    exact congrArg (fun l => (Sum.inl (dA q.1, q.2, l) : va_E)) this
theorem zE_sR {dA : Nat → ClassId} {μ : zM} {a k : Nat} {v : Option Nat} (b : Nat) (t : zT) (hb : b ≠ a) : zE dA (zsR μ a k v) b t = zE dA μ b t := by
  have e : zR (zsR μ a k v) b = zR μ b := by funext j; rw [zR_sR, if_neg (fun q => hb q.1)]
  cases t with
  | inl c =>
    have : zfs (c % 100) (zsR μ a k v) b = zfs (c % 100) μ b := by
      unfold zfs
      refine List.map_congr_left (fun j _ => ?_)
      unfold zfv
      rw [e]
      rfl
    exact congrArg (fun l => (Sum.inr (c % 100, l) : va_E)) this
  | inr q =>
    have : zct q.1 (zsR μ a k v) b = zct q.1 μ b := by
      unfold zct
      rw [e]
      rfl
    exact congrArg (fun l => (Sum.inl (dA q.1, q.2, l) : va_E)) this
theorem zE_cp {dA : Nat → ClassId} {μ : zM} {a0 a sp dp n : Nat} (b : Nat) (t : zT) (hb : b ≠ a) : zE dA (zcp μ a0 a sp dp n) b t = zE dA μ b t := by
  have e : zI (zcp μ a0 a sp dp n) b = zI μ b := by funext j; rw [zI_cp, if_neg (fun q => hb q.1)]
  cases t with
  | inl c =>
    have : zfs (c % 100) (zcp μ a0 a sp dp n) b = zfs (c % 100) μ b := by
      unfold zfs
      refine List.map_congr_left (fun j _ => ?_)
      unfold zfv
      rw [e]
      rfl
    exact congrArg (fun l => (Sum.inr (c % 100, l) : va_E)) this
  | inr q =>
    have : zct q.1 (zcp μ a0 a sp dp n) b = zct q.1 μ b := by
      unfold zct
      rw [e]
      rfl
    exact congrArg (fun l => (Sum.inl (dA q.1, q.2, l) : va_E)) this
theorem zone {D : va_G} {q : Nat × va_E} {H : Heap} (h : va_at D zcl q H) : va_P D zcl [q] H := by
  intro k x hk
  cases k with
  | zero => cases hk; exact h
  | succ k => simp at hk
abbrev zCx (p : Program) (m : MethodId) (c : Code) (cc : ByteArray) (nL : Nat) (s : State) (args : Array Value) (own : String) (meth : Method) (ret : Option FieldType) : Prop := CallFix p m c cc nL s args lw_all own ∧ meth.sig.returnType = ret ∧ meth.locks = false
abbrev zMQ (Γ : zG) (Sh : zSh) (below : List Frame) (s : State) (args : Array Value) (μ0 : zM) (mc ms : Nat) (Q : Int32 → zM → Prop) : State → Prop := MQ below (va_Qi Q (zPost Γ Sh μ0) (zA μ0)) args s mc ms (zA μ0)
section ZROWS
variable {p : Program} {l : Launch} {e : Env} {R : Room} {s : State} {m : MethodId} {args : Array Value} {below : List Frame} {meth : Method} {c : Code} {H : Heap} {locs : List Loc} {cells slots : Nat} {Q : State → Prop}
variable {cc : ByteArray} {nL : Nat} {own : String} {pc : Nat} {ls : Array Slot} {rest : List Value} {Γ : zG} {Sh : zSh} {A : Nat → Prop} {μ0 μ : zM} {a : Nat}

theorem g_get (S : CallFix p m c cc nL s args lw_all own) (hB : zB Γ Sh A μ0 s μ H locs) {ci cI N index : Nat} {C ref : String} {T : u_T} (ht : zty μ a = some (.inl ci)) (hcI : ci % 100 = cI) (hc : zcl[cI]? = some (C, T, N)) (hin : ∀ w ∈ u_ws C T N, w ∈ lw_all) (k : Nat) (hk : k < N) (hkz : k < zN cI) (hlink : (Cond.fieldLink own index ref (T k).2.1 (T k).2.2.1) ∈ lw_all) (hsame : ∀ x, s.fieldFound? (T k).1 (T k).2.1 (T k).2.2.1 = some x → s.fieldFound? ref (T k).2.1 (T k).2.2.1 = some x) {v : Value} (hv : zfv cI k μ a = v) (hdg : decode cc pc = .ok (.getfield index, 3))
    (kk : W p l e R s m args below meth c H locs cells slots Q (F0 m (pc + 3) ls (v :: rest))) : W p l e R s m args below meth c H locs cells slots Q (F0 m pc ls (.ref a :: rest)) := by
  subst hcI
  have h1 := zone (hB.2.1 a _ ht)
  exact va_get (D := Γ.1) (ci := ci % 100) (C := C) (T := T) (N := N) S.1 S.2.1 S.2.2.2.2 hin S.2.2.2.1 hB.1.1 h1 0 rfl hc k hk (S.2.2.2.2 _ hlink) hsame (by rw [zfs_get hkz, hv]) hdg kk
theorem g_putI (S : CallFix p m c cc nL s args lw_all own) (hB : zB Γ Sh A μ0 s μ H locs) {ci cI N index : Nat} {C ref : String} {T : u_T} (ht : zty μ a = some (.inl ci)) (hcI : ci % 100 = cI) (hc : zcl[cI]? = some (C, T, N)) (hin : ∀ w ∈ u_ws C T N, w ∈ lw_all) (k : Nat) (hk : k < N) (hkz : k < zN cI) {x : Int32} (ty0 : Nat → FieldType) (hty : ∀ k, k < N → parseFieldDescriptor (T k).2.2.1 = some (ty0 k)) (hnm : ∀ a, a < N → ∀ b, b < N → a ≠ b → (T a).2.1 ≠ (T b).2.1) (hlink : (Cond.fieldLink own index ref (T k).2.1 (T k).2.2.1) ∈ lw_all) (hsame : ∀ x, s.fieldFound? (T k).1 (T k).2.1 (T k).2.2.1 = some x → s.fieldFound? ref (T k).2.1 (T k).2.2.1 = some x) (hfin : (T k).2.2.2 = false) {ty : FieldType} (hd : parseFieldDescriptor (T k).2.2.1 = some ty) (hfits : fits ty (.int x) = true) (hnar : narrow ty (.int x) = .int x) (hkd : ∀ ν : zM, ∀ b : Nat, zfv cI k ν b = .int (zI ν b k))  (hdg : decode cc pc = .ok (.putfield index, 3))
    (kk : ∀ (H1 : Heap) (locs1 : List Loc), zB Γ Sh A μ0 s (zsI μ a k x) H1 locs1 → W p l e R s m args below meth c H1 locs1 cells slots Q (F0 m (pc + 3) ls rest)) : W p l e R s m args below meth c H locs cells slots Q (F0 m pc ls (.int x :: .ref a :: rest)) := by
  subst hcI
  have hK := hB.1.1
  have hap := va_apart (own := own) S.2.2.2.2 hin ty0 hty hnm hK hc
  have h0 : va_at Γ.1 zcl (a, .inr (ci % 100, zfs (ci % 100) μ a)) H := hB.2.1 a _ ht
  obtain ⟨r, h1, cell, q1, q2, q3, q4⟩ := h0
  have hr : r = (C, T, N) := Option.some.inj (h1.symm.trans hc)
  subst hr
  obtain ⟨hS, hfc, kC, hkC, hkind⟩ := hK.1 (ci % 100) _ hc
  obtain ⟨cf, kf, fi, f, hi, hsl⟩ := hS k hk
  have hlay := S.2.2.2.2 _ (hin _ (u_in_lay hk))
  unfold u_lay at hlay
  rw [if_neg (by rw [hfin]; decide)] at hlay
  have hst := (u_facts hfc hkC (u_lays S.2.2.2.2 hin hk) hi).1
  have h6 := u_store hfc hkC hkind hlay hi hd hnar hfits
  refine W.putK S.1 S.2.1 (f := f) ⟨S.2.2.2.1, (S.2.2.2.2 _ hlink), ⟨_, _, _, hsame _ hi⟩, hst⟩ (by rw [q2]; exact h6) q1 q3 (by rw [hsl]; exact k2_hasslot (q4 k hk)) rfl rfl hdg fun H' e1 e2 e3 => ?_
  rw [hsl] at e1 ⊢
  have hset : zfs (ci % 100) (zsI μ a k x) a = (zfs (ci % 100) μ a).set k (.int x) := by
    refine zfs_set hkz ?_ (fun j hj => ?_)
    · rw [hkd, zI_sI, if_pos ⟨rfl, rfl⟩]
    · unfold zfv
      rw [zI_sI, if_neg (fun q => hj q.2)]
      rfl
  refine kk H' _ (hB.upd ht e2 e3 ?_ zE_sI (fun _ => rfl) rfl hB.2.2.2.2.2.2.1)
  show va_at Γ.1 zcl (a, .inr (ci % 100, zfs (ci % 100) (zsI μ a k x) a)) H'
  rw [hset]
  exact ⟨_, hc, t_OB.to (V := updV (vp_V (zfs (ci % 100) μ a)) k (.int x)) ⟨_, e1, q2, q3, t_set q4 hap hk (.int x)⟩ (fun j _ => vp_updV_set (by rw [zfs_len]; exact hkz) (.int x) j)⟩
theorem g_putJ (S : CallFix p m c cc nL s args lw_all own) (hB : zB Γ Sh A μ0 s μ H locs) {ci cI N index : Nat} {C ref : String} {T : u_T} (ht : zty μ a = some (.inl ci)) (hcI : ci % 100 = cI) (hc : zcl[cI]? = some (C, T, N)) (hin : ∀ w ∈ u_ws C T N, w ∈ lw_all) (k : Nat) (hk : k < N) (hkz : k < zN cI) {x : Int64} (ty0 : Nat → FieldType) (hty : ∀ k, k < N → parseFieldDescriptor (T k).2.2.1 = some (ty0 k)) (hnm : ∀ a, a < N → ∀ b, b < N → a ≠ b → (T a).2.1 ≠ (T b).2.1) (hlink : (Cond.fieldLink own index ref (T k).2.1 (T k).2.2.1) ∈ lw_all) (hsame : ∀ x, s.fieldFound? (T k).1 (T k).2.1 (T k).2.2.1 = some x → s.fieldFound? ref (T k).2.1 (T k).2.2.1 = some x) (hfin : (T k).2.2.2 = false) {ty : FieldType} (hd : parseFieldDescriptor (T k).2.2.1 = some ty) (hfits : fits ty (.long x) = true) (hnar : narrow ty (.long x) = .long x) (hkd : ∀ ν : zM, ∀ b : Nat, zfv cI k ν b = .long (zJ ν b k))  (hdg : decode cc pc = .ok (.putfield index, 3))
    (kk : ∀ (H1 : Heap) (locs1 : List Loc), zB Γ Sh A μ0 s (zsJ μ a k x) H1 locs1 → W p l e R s m args below meth c H1 locs1 cells slots Q (F0 m (pc + 3) ls rest)) : W p l e R s m args below meth c H locs cells slots Q (F0 m pc ls (.long x :: .ref a :: rest)) := by
  subst hcI
  have hK := hB.1.1
  have hap := va_apart (own := own) S.2.2.2.2 hin ty0 hty hnm hK hc
  have h0 : va_at Γ.1 zcl (a, .inr (ci % 100, zfs (ci % 100) μ a)) H := hB.2.1 a _ ht
  obtain ⟨r, h1, cell, q1, q2, q3, q4⟩ := h0
  have hr : r = (C, T, N) := Option.some.inj (h1.symm.trans hc)
  subst hr
  obtain ⟨hS, hfc, kC, hkC, hkind⟩ := hK.1 (ci % 100) _ hc
  obtain ⟨cf, kf, fi, f, hi, hsl⟩ := hS k hk
  have hlay := S.2.2.2.2 _ (hin _ (u_in_lay hk))
  unfold u_lay at hlay
  rw [if_neg (by rw [hfin]; decide)] at hlay
  have hst := (u_facts hfc hkC (u_lays S.2.2.2.2 hin hk) hi).1
  have h6 := u_store hfc hkC hkind hlay hi hd hnar hfits
  refine W.putK S.1 S.2.1 (f := f) ⟨S.2.2.2.1, (S.2.2.2.2 _ hlink), ⟨_, _, _, hsame _ hi⟩, hst⟩ (by rw [q2]; exact h6) q1 q3 (by rw [hsl]; exact k2_hasslot (q4 k hk)) rfl rfl hdg fun H' e1 e2 e3 => ?_
  rw [hsl] at e1 ⊢
  have hset : zfs (ci % 100) (zsJ μ a k x) a = (zfs (ci % 100) μ a).set k (.long x) := by
    refine zfs_set hkz ?_ (fun j hj => ?_)
    · rw [hkd, zJ_sJ, if_pos ⟨rfl, rfl⟩]
    · unfold zfv
      rw [zJ_sJ, if_neg (fun q => hj q.2)]
      rfl
  refine kk H' _ (hB.upd ht e2 e3 ?_ zE_sJ (fun _ => rfl) rfl hB.2.2.2.2.2.2.1)
  show va_at Γ.1 zcl (a, .inr (ci % 100, zfs (ci % 100) (zsJ μ a k x) a)) H'
  rw [hset]
  exact ⟨_, hc, t_OB.to (V := updV (vp_V (zfs (ci % 100) μ a)) k (.long x)) ⟨_, e1, q2, q3, t_set q4 hap hk (.long x)⟩ (fun j _ => vp_updV_set (by rw [zfs_len]; exact hkz) (.long x) j)⟩
theorem g_putR (S : CallFix p m c cc nL s args lw_all own) (hB : zB Γ Sh A μ0 s μ H locs) {ci cI N index : Nat} {C ref : String} {T : u_T} (ht : zty μ a = some (.inl ci)) (hcI : ci % 100 = cI) (hc : zcl[cI]? = some (C, T, N)) (hin : ∀ w ∈ u_ws C T N, w ∈ lw_all) (k : Nat) (hk : k < N) (hkz : k < zN cI) {x : Option Nat} (ty0 : Nat → FieldType) (hty : ∀ k, k < N → parseFieldDescriptor (T k).2.2.1 = some (ty0 k)) (hnm : ∀ a, a < N → ∀ b, b < N → a ≠ b → (T a).2.1 ≠ (T b).2.1) (hlink : (Cond.fieldLink own index ref (T k).2.1 (T k).2.2.1) ∈ lw_all) (hsame : ∀ x, s.fieldFound? (T k).1 (T k).2.1 (T k).2.2.1 = some x → s.fieldFound? ref (T k).2.1 (T k).2.2.1 = some x) (hfin : (T k).2.2.2 = false) {ty : FieldType} (hd : parseFieldDescriptor (T k).2.2.1 = some ty) (hfits : fits ty (va_rf x) = true) (hnar : narrow ty (va_rf x) = va_rf x) (hkd : ∀ ν : zM, ∀ b : Nat, zfv cI k ν b = va_rf (zR ν b k)) (hSh : Sh (zR (zsR μ a k x)) (zty μ)) (hdg : decode cc pc = .ok (.putfield index, 3))
    (kk : ∀ (H1 : Heap) (locs1 : List Loc), zB Γ Sh A μ0 s (zsR μ a k x) H1 locs1 → W p l e R s m args below meth c H1 locs1 cells slots Q (F0 m (pc + 3) ls rest)) : W p l e R s m args below meth c H locs cells slots Q (F0 m pc ls (va_rf x :: .ref a :: rest)) := by
  subst hcI
  have hK := hB.1.1
  have hap := va_apart (own := own) S.2.2.2.2 hin ty0 hty hnm hK hc
  have h0 : va_at Γ.1 zcl (a, .inr (ci % 100, zfs (ci % 100) μ a)) H := hB.2.1 a _ ht
  obtain ⟨r, h1, cell, q1, q2, q3, q4⟩ := h0
  have hr : r = (C, T, N) := Option.some.inj (h1.symm.trans hc)
  subst hr
  obtain ⟨hS, hfc, kC, hkC, hkind⟩ := hK.1 (ci % 100) _ hc
  obtain ⟨cf, kf, fi, f, hi, hsl⟩ := hS k hk
  have hlay := S.2.2.2.2 _ (hin _ (u_in_lay hk))
  unfold u_lay at hlay
  rw [if_neg (by rw [hfin]; decide)] at hlay
  have hst := (u_facts hfc hkC (u_lays S.2.2.2.2 hin hk) hi).1
  have h6 := u_store hfc hkC hkind hlay hi hd hnar hfits
  refine W.putK S.1 S.2.1 (f := f) ⟨S.2.2.2.1, (S.2.2.2.2 _ hlink), ⟨_, _, _, hsame _ hi⟩, hst⟩ (by rw [q2]; exact h6) q1 q3 (by rw [hsl]; exact k2_hasslot (q4 k hk)) rfl rfl hdg fun H' e1 e2 e3 => ?_
  rw [hsl] at e1 ⊢
  have hset : zfs (ci % 100) (zsR μ a k x) a = (zfs (ci % 100) μ a).set k (va_rf x) := by
    refine zfs_set hkz ?_ (fun j hj => ?_)
    · rw [hkd, zR_sR, if_pos ⟨rfl, rfl⟩]
    · unfold zfv
      rw [zR_sR, if_neg (fun q => hj q.2)]
      rfl
  refine kk H' _ (hB.upd ht e2 e3 ?_ zE_sR (fun _ => rfl) rfl hSh)
  show va_at Γ.1 zcl (a, .inr (ci % 100, zfs (ci % 100) (zsR μ a k x) a)) H'
  rw [hset]
  exact ⟨_, hc, t_OB.to (V := updV (vp_V (zfs (ci % 100) μ a)) k (va_rf x)) ⟨_, e1, q2, q3, t_set q4 hap hk (va_rf x)⟩ (fun j _ => vp_updV_set (by rw [zfs_len]; exact hkz) (va_rf x) j)⟩
theorem g_getN (S : CallFix p m c cc nL s args lw_all own) (hB : zB Γ Sh A μ0 s μ H locs) {host : String} {ci cI N index : Nat} {C ref : String} {T : u_T} (ht : zty μ a = some (.inl ci)) (hcI : ci % 100 = cI) (hc : zcl[cI]? = some (C, T, N)) (hin : ∀ w ∈ u_ws C T N, w ∈ lw_all) (k : Nat) (hk : k < N) (hkz : k < zN cI) (hlink : va_Nw (.fieldLinkNest own index ref (T k).2.1 (T k).2.2.1 host) s) (hsame : ∀ x, s.fieldFound? (T k).1 (T k).2.1 (T k).2.2.1 = some x → s.fieldFound? ref (T k).2.1 (T k).2.2.1 = some x) {v : Value} (hv : zfv cI k μ a = v) (hdg : decode cc pc = .ok (.getfield index, 3))
    (kk : W p l e R s m args below meth c H locs cells slots Q (F0 m (pc + 3) ls (v :: rest))) : W p l e R s m args below meth c H locs cells slots Q (F0 m pc ls (.ref a :: rest)) := by
  subst hcI
  have h1 := zone (hB.2.1 a _ ht)
  exact va_getN (D := Γ.1) (ci := ci % 100) (C := C) (T := T) (N := N) S.1 S.2.1 S.2.2.2.2 hin S.2.2.2.1 hB.1.1 h1 0 rfl hc k hk (va_Nw.use rfl hlink) hsame (by rw [zfs_get hkz, hv]) hdg kk
theorem g_putIN (S : CallFix p m c cc nL s args lw_all own) (hB : zB Γ Sh A μ0 s μ H locs) {host : String} {ci cI N index : Nat} {C ref : String} {T : u_T} (ht : zty μ a = some (.inl ci)) (hcI : ci % 100 = cI) (hc : zcl[cI]? = some (C, T, N)) (hin : ∀ w ∈ u_ws C T N, w ∈ lw_all) (k : Nat) (hk : k < N) (hkz : k < zN cI) {x : Int32} (ty0 : Nat → FieldType) (hty : ∀ k, k < N → parseFieldDescriptor (T k).2.2.1 = some (ty0 k)) (hnm : ∀ a, a < N → ∀ b, b < N → a ≠ b → (T a).2.1 ≠ (T b).2.1) (hlink : va_Nw (.fieldLinkNest own index ref (T k).2.1 (T k).2.2.1 host) s) (hsame : ∀ x, s.fieldFound? (T k).1 (T k).2.1 (T k).2.2.1 = some x → s.fieldFound? ref (T k).2.1 (T k).2.2.1 = some x) (hfin : (T k).2.2.2 = false) {ty : FieldType} (hd : parseFieldDescriptor (T k).2.2.1 = some ty) (hfits : fits ty (.int x) = true) (hnar : narrow ty (.int x) = .int x) (hkd : ∀ ν : zM, ∀ b : Nat, zfv cI k ν b = .int (zI ν b k))  (hdg : decode cc pc = .ok (.putfield index, 3))
    (kk : ∀ (H1 : Heap) (locs1 : List Loc), zB Γ Sh A μ0 s (zsI μ a k x) H1 locs1 → W p l e R s m args below meth c H1 locs1 cells slots Q (F0 m (pc + 3) ls rest)) : W p l e R s m args below meth c H locs cells slots Q (F0 m pc ls (.int x :: .ref a :: rest)) := by
  subst hcI
  have hK := hB.1.1
  have hap := va_apart (own := own) S.2.2.2.2 hin ty0 hty hnm hK hc
  have h0 : va_at Γ.1 zcl (a, .inr (ci % 100, zfs (ci % 100) μ a)) H := hB.2.1 a _ ht
  obtain ⟨r, h1, cell, q1, q2, q3, q4⟩ := h0
  have hr : r = (C, T, N) := Option.some.inj (h1.symm.trans hc)
  subst hr
  obtain ⟨hS, hfc, kC, hkC, hkind⟩ := hK.1 (ci % 100) _ hc
  obtain ⟨cf, kf, fi, f, hi, hsl⟩ := hS k hk
  have hlay := S.2.2.2.2 _ (hin _ (u_in_lay hk))
  unfold u_lay at hlay
  rw [if_neg (by rw [hfin]; decide)] at hlay
  have hst := (u_facts hfc hkC (u_lays S.2.2.2.2 hin hk) hi).1
  have h6 := u_store hfc hkC hkind hlay hi hd hnar hfits
  refine va_WputK S.1 S.2.1 (f := f) S.2.2.2.1 (va_Nw.use rfl hlink) (hsame _ hi) hst (by rw [q2]; exact h6) q1 q3 (by rw [hsl]; exact k2_hasslot (q4 k hk)) rfl rfl hdg fun H' e1 e2 e3 => ?_
  rw [hsl] at e1 ⊢
  have hset : zfs (ci % 100) (zsI μ a k x) a = (zfs (ci % 100) μ a).set k (.int x) := by
    refine zfs_set hkz ?_ (fun j hj => ?_)
    · rw [hkd, zI_sI, if_pos ⟨rfl, rfl⟩]
    · unfold zfv
      rw [zI_sI, if_neg (fun q => hj q.2)]
      rfl
  refine kk H' _ (hB.upd ht e2 e3 ?_ zE_sI (fun _ => rfl) rfl hB.2.2.2.2.2.2.1)
  show va_at Γ.1 zcl (a, .inr (ci % 100, zfs (ci % 100) (zsI μ a k x) a)) H'
  rw [hset]
  exact ⟨_, hc, t_OB.to (V := updV (vp_V (zfs (ci % 100) μ a)) k (.int x)) ⟨_, e1, q2, q3, t_set q4 hap hk (.int x)⟩ (fun j _ => vp_updV_set (by rw [zfs_len]; exact hkz) (.int x) j)⟩
theorem g_putJN (S : CallFix p m c cc nL s args lw_all own) (hB : zB Γ Sh A μ0 s μ H locs) {host : String} {ci cI N index : Nat} {C ref : String} {T : u_T} (ht : zty μ a = some (.inl ci)) (hcI : ci % 100 = cI) (hc : zcl[cI]? = some (C, T, N)) (hin : ∀ w ∈ u_ws C T N, w ∈ lw_all) (k : Nat) (hk : k < N) (hkz : k < zN cI) {x : Int64} (ty0 : Nat → FieldType) (hty : ∀ k, k < N → parseFieldDescriptor (T k).2.2.1 = some (ty0 k)) (hnm : ∀ a, a < N → ∀ b, b < N → a ≠ b → (T a).2.1 ≠ (T b).2.1) (hlink : va_Nw (.fieldLinkNest own index ref (T k).2.1 (T k).2.2.1 host) s) (hsame : ∀ x, s.fieldFound? (T k).1 (T k).2.1 (T k).2.2.1 = some x → s.fieldFound? ref (T k).2.1 (T k).2.2.1 = some x) (hfin : (T k).2.2.2 = false) {ty : FieldType} (hd : parseFieldDescriptor (T k).2.2.1 = some ty) (hfits : fits ty (.long x) = true) (hnar : narrow ty (.long x) = .long x) (hkd : ∀ ν : zM, ∀ b : Nat, zfv cI k ν b = .long (zJ ν b k))  (hdg : decode cc pc = .ok (.putfield index, 3))
    (kk : ∀ (H1 : Heap) (locs1 : List Loc), zB Γ Sh A μ0 s (zsJ μ a k x) H1 locs1 → W p l e R s m args below meth c H1 locs1 cells slots Q (F0 m (pc + 3) ls rest)) : W p l e R s m args below meth c H locs cells slots Q (F0 m pc ls (.long x :: .ref a :: rest)) := by
  subst hcI
  have hK := hB.1.1
  have hap := va_apart (own := own) S.2.2.2.2 hin ty0 hty hnm hK hc
  have h0 : va_at Γ.1 zcl (a, .inr (ci % 100, zfs (ci % 100) μ a)) H := hB.2.1 a _ ht
  obtain ⟨r, h1, cell, q1, q2, q3, q4⟩ := h0
  have hr : r = (C, T, N) := Option.some.inj (h1.symm.trans hc)
  subst hr
  obtain ⟨hS, hfc, kC, hkC, hkind⟩ := hK.1 (ci % 100) _ hc
  obtain ⟨cf, kf, fi, f, hi, hsl⟩ := hS k hk
  have hlay := S.2.2.2.2 _ (hin _ (u_in_lay hk))
  unfold u_lay at hlay
  rw [if_neg (by rw [hfin]; decide)] at hlay
  have hst := (u_facts hfc hkC (u_lays S.2.2.2.2 hin hk) hi).1
  have h6 := u_store hfc hkC hkind hlay hi hd hnar hfits
  refine va_WputK S.1 S.2.1 (f := f) S.2.2.2.1 (va_Nw.use rfl hlink) (hsame _ hi) hst (by rw [q2]; exact h6) q1 q3 (by rw [hsl]; exact k2_hasslot (q4 k hk)) rfl rfl hdg fun H' e1 e2 e3 => ?_
  rw [hsl] at e1 ⊢
  have hset : zfs (ci % 100) (zsJ μ a k x) a = (zfs (ci % 100) μ a).set k (.long x) := by
    refine zfs_set hkz ?_ (fun j hj => ?_)
    · rw [hkd, zJ_sJ, if_pos ⟨rfl, rfl⟩]
    · unfold zfv
      rw [zJ_sJ, if_neg (fun q => hj q.2)]
      rfl
  refine kk H' _ (hB.upd ht e2 e3 ?_ zE_sJ (fun _ => rfl) rfl hB.2.2.2.2.2.2.1)
  show va_at Γ.1 zcl (a, .inr (ci % 100, zfs (ci % 100) (zsJ μ a k x) a)) H'
  rw [hset]
  exact ⟨_, hc, t_OB.to (V := updV (vp_V (zfs (ci % 100) μ a)) k (.long x)) ⟨_, e1, q2, q3, t_set q4 hap hk (.long x)⟩ (fun j _ => vp_updV_set (by rw [zfs_len]; exact hkz) (.long x) j)⟩
theorem g_putRN (S : CallFix p m c cc nL s args lw_all own) (hB : zB Γ Sh A μ0 s μ H locs) {host : String} {ci cI N index : Nat} {C ref : String} {T : u_T} (ht : zty μ a = some (.inl ci)) (hcI : ci % 100 = cI) (hc : zcl[cI]? = some (C, T, N)) (hin : ∀ w ∈ u_ws C T N, w ∈ lw_all) (k : Nat) (hk : k < N) (hkz : k < zN cI) {x : Option Nat} (ty0 : Nat → FieldType) (hty : ∀ k, k < N → parseFieldDescriptor (T k).2.2.1 = some (ty0 k)) (hnm : ∀ a, a < N → ∀ b, b < N → a ≠ b → (T a).2.1 ≠ (T b).2.1) (hlink : va_Nw (.fieldLinkNest own index ref (T k).2.1 (T k).2.2.1 host) s) (hsame : ∀ x, s.fieldFound? (T k).1 (T k).2.1 (T k).2.2.1 = some x → s.fieldFound? ref (T k).2.1 (T k).2.2.1 = some x) (hfin : (T k).2.2.2 = false) {ty : FieldType} (hd : parseFieldDescriptor (T k).2.2.1 = some ty) (hfits : fits ty (va_rf x) = true) (hnar : narrow ty (va_rf x) = va_rf x) (hkd : ∀ ν : zM, ∀ b : Nat, zfv cI k ν b = va_rf (zR ν b k)) (hSh : Sh (zR (zsR μ a k x)) (zty μ)) (hdg : decode cc pc = .ok (.putfield index, 3))
    (kk : ∀ (H1 : Heap) (locs1 : List Loc), zB Γ Sh A μ0 s (zsR μ a k x) H1 locs1 → W p l e R s m args below meth c H1 locs1 cells slots Q (F0 m (pc + 3) ls rest)) : W p l e R s m args below meth c H locs cells slots Q (F0 m pc ls (va_rf x :: .ref a :: rest)) := by
  subst hcI
  have hK := hB.1.1
  have hap := va_apart (own := own) S.2.2.2.2 hin ty0 hty hnm hK hc
  have h0 : va_at Γ.1 zcl (a, .inr (ci % 100, zfs (ci % 100) μ a)) H := hB.2.1 a _ ht
  obtain ⟨r, h1, cell, q1, q2, q3, q4⟩ := h0
  have hr : r = (C, T, N) := Option.some.inj (h1.symm.trans hc)
  subst hr
  obtain ⟨hS, hfc, kC, hkC, hkind⟩ := hK.1 (ci % 100) _ hc
  obtain ⟨cf, kf, fi, f, hi, hsl⟩ := hS k hk
  have hlay := S.2.2.2.2 _ (hin _ (u_in_lay hk))
  unfold u_lay at hlay
  rw [if_neg (by rw [hfin]; decide)] at hlay
  have hst := (u_facts hfc hkC (u_lays S.2.2.2.2 hin hk) hi).1
  have h6 := u_store hfc hkC hkind hlay hi hd hnar hfits
  refine va_WputK S.1 S.2.1 (f := f) S.2.2.2.1 (va_Nw.use rfl hlink) (hsame _ hi) hst (by rw [q2]; exact h6) q1 q3 (by rw [hsl]; exact k2_hasslot (q4 k hk)) rfl rfl hdg fun H' e1 e2 e3 => ?_
  rw [hsl] at e1 ⊢
  have hset : zfs (ci % 100) (zsR μ a k x) a = (zfs (ci % 100) μ a).set k (va_rf x) := by
    refine zfs_set hkz ?_ (fun j hj => ?_)
    · rw [hkd, zR_sR, if_pos ⟨rfl, rfl⟩]
    · unfold zfv
      rw [zR_sR, if_neg (fun q => hj q.2)]
      rfl
  refine kk H' _ (hB.upd ht e2 e3 ?_ zE_sR (fun _ => rfl) rfl hSh)
  show va_at Γ.1 zcl (a, .inr (ci % 100, zfs (ci % 100) (zsR μ a k x) a)) H'
  rw [hset]
  exact ⟨_, hc, t_OB.to (V := updV (vp_V (zfs (ci % 100) μ a)) k (va_rf x)) ⟨_, e1, q2, q3, t_set q4 hap hk (va_rf x)⟩ (fun j _ => vp_updV_set (by rw [zfs_len]; exact hkz) (va_rf x) j)⟩
theorem g_iald (S : CallFix p m c cc nL s args lw_all own) (hB : zB Γ Sh A μ0 s μ H locs) {n : Nat} {i : Int32} (ht : zty μ a = some (.inr (0, n))) (hi : vp_in i n) (hdg : decode cc pc = .ok (.iaload, 1))
    (kk : W p l e R s m args below meth c H locs cells slots Q (F0 m (pc + 1) ls (.int (zI μ a i.toNatClampNeg) :: rest))) : W p l e R s m args below meth c H locs cells slots Q (F0 m pc ls (.int i :: .ref a :: rest)) :=
  va_iald (D := Γ.1) S.1 S.2.1 hB.1.1 (zone (hB.2.1 a _ ht)) 0 0 rfl rfl hi hdg kk
theorem g_iast (S : CallFix p m c cc nL s args lw_all own) (hB : zB Γ Sh A μ0 s μ H locs) {n : Nat} {i : Int32} {x : Int32} (ht : zty μ a = some (.inr (0, n))) (hi : vp_in i n) (hdg : decode cc pc = .ok (.iastore, 1))
    (kk : ∀ (H1 : Heap) (locs1 : List Loc), zB Γ Sh A μ0 s (zsI μ a i.toNatClampNeg x) H1 locs1 → W p l e R s m args below meth c H1 locs1 cells slots Q (F0 m (pc + 1) ls rest)) : W p l e R s m args below meth c H locs cells slots Q (F0 m pc ls (.int x :: .int i :: .ref a :: rest)) := by
  have h0 : H[a]? = some (vp_cell (Γ.2.1 0) (n, zct 0 μ a)) := hB.2.1 a _ ht
  refine W.iast S.1 S.2.1 h0 ((hB.1.1.2 0 _ rfl).1 n (fun j => .int (zI μ a j))) (fun q => by cases q) (by show ¬ (i < 0 ∨ (arrV _ _ _).slots.size ≤ _); rw [arrV_size]; exact hi) rfl rfl hdg fun H1 e z oq => ?_
  refine kk H1 _ (hB.upd ht z oq ?_ zE_sI (fun _ => rfl) rfl hB.2.2.2.2.2.2.1)
  show H1[a]? = some (vp_cell (Γ.2.1 0) (n, zct 0 (zsI μ a i.toNatClampNeg x) a))
  rw [e]
  show some ((vp_cell (Γ.2.1 0) (n, .inl (zI μ a))).setSlot _ _) = some (vp_cell (Γ.2.1 0) (n, .inl (zI (zsI μ a i.toNatClampNeg x) a)))
  rw [vp_cell_i, vp_cell_i, arrV_store]
  congr 2
  funext q
  by_cases hq : q = i.toNatClampNeg
  · subst hq
    simp [updV, zI_sI, vp_nar, narrow]
  · simp [updV, zI_sI, hq]
theorem g_bald (S : CallFix p m c cc nL s args lw_all own) (hB : zB Γ Sh A μ0 s μ H locs) {n : Nat} {i : Int32} (ht : zty μ a = some (.inr (1, n))) (hi : vp_in i n) (hdg : decode cc pc = .ok (.baload, 1))
    (kk : W p l e R s m args below meth c H locs cells slots Q (F0 m (pc + 1) ls (.int (zI μ a i.toNatClampNeg) :: rest))) : W p l e R s m args below meth c H locs cells slots Q (F0 m pc ls (.int i :: .ref a :: rest)) :=
  va_bald (D := Γ.1) S.1 S.2.1 hB.1.1 (zone (hB.2.1 a _ ht)) 0 1 rfl rfl hi hdg kk
theorem g_bast (S : CallFix p m c cc nL s args lw_all own) (hB : zB Γ Sh A μ0 s μ H locs) {n : Nat} {i : Int32} {x : Int32} (ht : zty μ a = some (.inr (1, n))) (hi : vp_in i n) (hdg : decode cc pc = .ok (.bastore, 1))
    (kk : ∀ (H1 : Heap) (locs1 : List Loc), zB Γ Sh A μ0 s (zsI μ a i.toNatClampNeg (vp_nar .byte x)) H1 locs1 → W p l e R s m args below meth c H1 locs1 cells slots Q (F0 m (pc + 1) ls rest)) : W p l e R s m args below meth c H locs cells slots Q (F0 m pc ls (.int x :: .int i :: .ref a :: rest)) := by
  have h0 : H[a]? = some (vp_cell (Γ.2.1 1) (n, zct 1 μ a)) := hB.2.1 a _ ht
  refine W.bast S.1 S.2.1 h0 ((hB.1.1.2 1 _ rfl).1 n (fun j => .int (zI μ a j))) (fun q => by cases q) (by show ¬ (i < 0 ∨ (arrV _ _ _).slots.size ≤ _); rw [arrV_size]; exact hi) rfl rfl hdg fun H1 e z oq => ?_
  refine kk H1 _ (hB.upd ht z oq ?_ zE_sI (fun _ => rfl) rfl hB.2.2.2.2.2.2.1)
  show H1[a]? = some (vp_cell (Γ.2.1 1) (n, zct 1 (zsI μ a i.toNatClampNeg (vp_nar .byte x)) a))
  rw [e]
  show some ((vp_cell (Γ.2.1 1) (n, .inl (zI μ a))).setSlot _ _) = some (vp_cell (Γ.2.1 1) (n, .inl (zI (zsI μ a i.toNatClampNeg (vp_nar .byte x)) a)))
  rw [vp_cell_i, vp_cell_i, arrV_store]
  congr 2
  funext q
  by_cases hq : q = i.toNatClampNeg
  · subst hq
    simp [updV, zI_sI, vp_nar, narrow]
  · simp [updV, zI_sI, hq]
theorem g_zald (S : CallFix p m c cc nL s args lw_all own) (hB : zB Γ Sh A μ0 s μ H locs) {n : Nat} {i : Int32} (ht : zty μ a = some (.inr (2, n))) (hi : vp_in i n) (hdg : decode cc pc = .ok (.baload, 1))
    (kk : W p l e R s m args below meth c H locs cells slots Q (F0 m (pc + 1) ls (.int (zI μ a i.toNatClampNeg) :: rest))) : W p l e R s m args below meth c H locs cells slots Q (F0 m pc ls (.int i :: .ref a :: rest)) :=
  va_zald (D := Γ.1) S.1 S.2.1 hB.1.1 (zone (hB.2.1 a _ ht)) 0 2 rfl rfl hi hdg kk
theorem g_zast (S : CallFix p m c cc nL s args lw_all own) (hB : zB Γ Sh A μ0 s μ H locs) {n : Nat} {i : Int32} {x : Int32} (ht : zty μ a = some (.inr (2, n))) (hi : vp_in i n) (hdg : decode cc pc = .ok (.bastore, 1))
    (kk : ∀ (H1 : Heap) (locs1 : List Loc), zB Γ Sh A μ0 s (zsI μ a i.toNatClampNeg (vp_nar .boolean x)) H1 locs1 → W p l e R s m args below meth c H1 locs1 cells slots Q (F0 m (pc + 1) ls rest)) : W p l e R s m args below meth c H locs cells slots Q (F0 m pc ls (.int x :: .int i :: .ref a :: rest)) := by
  have h0 : H[a]? = some (vp_cell (Γ.2.1 2) (n, zct 2 μ a)) := hB.2.1 a _ ht
  refine W.zast S.1 S.2.1 h0 ((hB.1.1.2 2 _ rfl).1 n (fun j => .int (zI μ a j))) (fun q => by cases q) (by show ¬ (i < 0 ∨ (arrV _ _ _).slots.size ≤ _); rw [arrV_size]; exact hi) rfl rfl hdg fun H1 e z oq => ?_
  refine kk H1 _ (hB.upd ht z oq ?_ zE_sI (fun _ => rfl) rfl hB.2.2.2.2.2.2.1)
  show H1[a]? = some (vp_cell (Γ.2.1 2) (n, zct 2 (zsI μ a i.toNatClampNeg (vp_nar .boolean x)) a))
  rw [e]
  show some ((vp_cell (Γ.2.1 2) (n, .inl (zI μ a))).setSlot _ _) = some (vp_cell (Γ.2.1 2) (n, .inl (zI (zsI μ a i.toNatClampNeg (vp_nar .boolean x)) a)))
  rw [vp_cell_i, vp_cell_i, arrV_store]
  congr 2
  funext q
  by_cases hq : q = i.toNatClampNeg
  · subst hq
    simp [updV, zI_sI, vp_nar, narrow]
  · simp [updV, zI_sI, hq]
theorem g_sald (S : CallFix p m c cc nL s args lw_all own) (hB : zB Γ Sh A μ0 s μ H locs) {n : Nat} {i : Int32} (ht : zty μ a = some (.inr (4, n))) (hi : vp_in i n) (hdg : decode cc pc = .ok (.saload, 1))
    (kk : W p l e R s m args below meth c H locs cells slots Q (F0 m (pc + 1) ls (.int (zI μ a i.toNatClampNeg) :: rest))) : W p l e R s m args below meth c H locs cells slots Q (F0 m pc ls (.int i :: .ref a :: rest)) :=
  va_sald (D := Γ.1) S.1 S.2.1 hB.1.1 (zone (hB.2.1 a _ ht)) 0 4 rfl rfl hi hdg kk
theorem g_sast (S : CallFix p m c cc nL s args lw_all own) (hB : zB Γ Sh A μ0 s μ H locs) {n : Nat} {i : Int32} {x : Int32} (ht : zty μ a = some (.inr (4, n))) (hi : vp_in i n) (hdg : decode cc pc = .ok (.sastore, 1))
    (kk : ∀ (H1 : Heap) (locs1 : List Loc), zB Γ Sh A μ0 s (zsI μ a i.toNatClampNeg (vp_nar .short x)) H1 locs1 → W p l e R s m args below meth c H1 locs1 cells slots Q (F0 m (pc + 1) ls rest)) : W p l e R s m args below meth c H locs cells slots Q (F0 m pc ls (.int x :: .int i :: .ref a :: rest)) := by
  have h0 : H[a]? = some (vp_cell (Γ.2.1 4) (n, zct 4 μ a)) := hB.2.1 a _ ht
  refine W.sast S.1 S.2.1 h0 ((hB.1.1.2 4 _ rfl).1 n (fun j => .int (zI μ a j))) (fun q => by cases q) (by show ¬ (i < 0 ∨ (arrV _ _ _).slots.size ≤ _); rw [arrV_size]; exact hi) rfl rfl hdg fun H1 e z oq => ?_
  refine kk H1 _ (hB.upd ht z oq ?_ zE_sI (fun _ => rfl) rfl hB.2.2.2.2.2.2.1)
  show H1[a]? = some (vp_cell (Γ.2.1 4) (n, zct 4 (zsI μ a i.toNatClampNeg (vp_nar .short x)) a))
  rw [e]
  show some ((vp_cell (Γ.2.1 4) (n, .inl (zI μ a))).setSlot _ _) = some (vp_cell (Γ.2.1 4) (n, .inl (zI (zsI μ a i.toNatClampNeg (vp_nar .short x)) a)))
  rw [vp_cell_i, vp_cell_i, arrV_store]
  congr 2
  funext q
  by_cases hq : q = i.toNatClampNeg
  · subst hq
    simp [updV, zI_sI, vp_nar, narrow]
  · simp [updV, zI_sI, hq]
theorem g_lald (S : CallFix p m c cc nL s args lw_all own) (hB : zB Γ Sh A μ0 s μ H locs) {n : Nat} {i : Int32} (ht : zty μ a = some (.inr (3, n))) (hi : vp_in i n) (hdg : decode cc pc = .ok (.laload, 1))
    (kk : W p l e R s m args below meth c H locs cells slots Q (F0 m (pc + 1) ls (.long (zJ μ a i.toNatClampNeg) :: rest))) : W p l e R s m args below meth c H locs cells slots Q (F0 m pc ls (.int i :: .ref a :: rest)) :=
  va_lald (D := Γ.1) S.1 S.2.1 hB.1.1 (zone (hB.2.1 a _ ht)) 0 3 rfl rfl hi hdg kk
theorem g_last (S : CallFix p m c cc nL s args lw_all own) (hB : zB Γ Sh A μ0 s μ H locs) {n : Nat} {i : Int32} {x : Int64} (ht : zty μ a = some (.inr (3, n))) (hi : vp_in i n) (hdg : decode cc pc = .ok (.lastore, 1))
    (kk : ∀ (H1 : Heap) (locs1 : List Loc), zB Γ Sh A μ0 s (zsJ μ a i.toNatClampNeg x) H1 locs1 → W p l e R s m args below meth c H1 locs1 cells slots Q (F0 m (pc + 1) ls rest)) : W p l e R s m args below meth c H locs cells slots Q (F0 m pc ls (.long x :: .int i :: .ref a :: rest)) := by
  have h0 : H[a]? = some (vp_cell (Γ.2.1 3) (n, zct 3 μ a)) := hB.2.1 a _ ht
  refine W.last S.1 S.2.1 h0 ((hB.1.1.2 3 _ rfl).1 n (fun j => .long (zJ μ a j))) (fun q => by cases q) (by show ¬ (i < 0 ∨ (arrV _ _ _).slots.size ≤ _); rw [arrV_size]; exact hi) rfl rfl hdg fun H1 e z oq => ?_
  refine kk H1 _ (hB.upd ht z oq ?_ zE_sJ (fun _ => rfl) rfl hB.2.2.2.2.2.2.1)
  show H1[a]? = some (vp_cell (Γ.2.1 3) (n, zct 3 (zsJ μ a i.toNatClampNeg x) a))
  rw [e]
  show some ((vp_cell (Γ.2.1 3) (n, .inr (.inl (zJ μ a)))).setSlot _ _) = some (vp_cell (Γ.2.1 3) (n, .inr (.inl (zJ (zsJ μ a i.toNatClampNeg x) a))))
  rw [vp_cell_l, vp_cell_l, arrV_store]
  congr 2
  funext q
  by_cases hq : q = i.toNatClampNeg
  · subst hq
    simp [updV, zJ_sJ, vp_nar, narrow]
  · simp [updV, zJ_sJ, hq]
theorem g_aald (S : CallFix p m c cc nL s args lw_all own) (hB : zB Γ Sh A μ0 s μ H locs) {kd n t0 : Nat} {C : String} {i : Int32} (ht : zty μ a = some (.inr (kd, n))) (ht0 : (ztys Γ.2.1)[t0]? = some (Γ.2.1 kd, .object C)) (hq : zct kd μ a = .inr (.inr (.inr (.inr (zR μ a))))) (hi : vp_in i n) (hdg : decode cc pc = .ok (.aaload, 1))
    (kk : W p l e R s m args below meth c H locs cells slots Q (F0 m (pc + 1) ls (va_rf (zR μ a i.toNatClampNeg) :: rest))) : W p l e R s m args below meth c H locs cells slots Q (F0 m pc ls (.int i :: .ref a :: rest)) := by
  have h1 : va_P Γ.1 zcl [(a, .inl (Γ.2.1 kd, n, zct kd μ a))] H := zone (hB.2.1 a _ ht)
  rw [hq] at h1
  exact va_aldq (D := Γ.1) S.1 S.2.1 hB.1.1 h1 0 t0 rfl ht0 hi hdg kk
theorem g_alen (S : CallFix p m c cc nL s args lw_all own) (hB : zB Γ Sh A μ0 s μ H locs) {kd n : Nat} (ht : zty μ a = some (.inr (kd, n))) {ty : FieldType} (ht0 : (ztys Γ.2.1)[kd]? = some (Γ.2.1 kd, ty)) (hdg : decode cc pc = .ok (.arraylength, 1))
    (kk : W p l e R s m args below meth c H locs cells slots Q (F0 m (pc + 1) ls (.int (nI n) :: rest))) : W p l e R s m args below meth c H locs cells slots Q (F0 m pc ls (.ref a :: rest)) :=
  va_alen (D := Γ.1) (v := nI n) S.1 S.2.1 hB.1.1 (zone (hB.2.1 a _ ht)) 0 kd rfl ht0 rfl hdg kk
end ZROWS
/-! a method's start, its end, calls -/
theorem zPre.blind {Γ : zG} {Sh : zSh} {μ : zM} {av : List Value} : FrameBlind (va_Pc av (zPre Γ Sh μ)) := by
  intro a U g mk h
  obtain ⟨h0, h1, h2, h3, h4, h5⟩ := h
  exact ⟨h0, h1.same rfl, h2, h3, h4, zKo.move (u := U) (Vm.Alike.refl U.vm) h5 (fun _ _ _ => rfl) (fun _ h => h)⟩
theorem zstart {l : Launch} {Γ : zG} {Sh : zSh} {μ : zM} {y : MethodName} {cc : ByteArray} {maxL : Nat} {ret : Option FieldType} {rm : Room} {mc ms : Nat} {av : List Value} {Qc : Array Value → State → Outcome → State → Prop} (hy : plainName y.cls = true) (hl : (lg_sl av).length ≤ maxL)
    (body : ∀ (p : Program) (e : Env) (s : State) (m : MethodId) (below : List Frame) (meth : Method) (c : Code) (ls : Array Slot), zCx p m c cc maxL s av.toArray y.cls meth ret → meth.name = y.name → zB Γ Sh (zA μ) μ s μ s.heap [] → lv_has ls maxL (lv_args 0 av) → W p l e rm s m av.toArray below meth c s.heap [] 0 0 (MQ below Qc av.toArray s mc ms (zA μ)) (F0 m 0 ls [])) :
    Met l y (ws_ y cc maxL ret) rm (va_Pc av (zPre Γ Sh μ)) Qc mc ms (zA μ) := by
  refine Met.ofW (cc := cc) (maxL := maxL) (ret := ret) hy rfl ?_
  intro p e s m args below meth c s₁ B hml hv
  obtain ⟨rfl, hv⟩ := hv
  have hts := atoms_spec (ws := ws_ y cc maxL ret) B.pre
  have hts : ∀ w ∈ lw_all, w.before _ s = true := fun w h => hts w (List.mem_cons_of_mem _ h)
  have hlv := lv_entry av (n := maxL) hl
  rw [lg_entry_eq]
  exact body p e s m below meth c _ ⟨⟨B.exec, B.bytes, hml, findClass_of_methodNamed B.named, hts⟩, B.returns, B.notSynchronized⟩ (name_of_methodNamed B.named B.method).1 (zB.entry hv) hlv
section ZCALLS
variable {p : Program} {l : Launch} {e : Env} {R : Room} {s : State} {m : MethodId} {args : Array Value} {below : List Frame} {meth : Method} {c : Code} {H : Heap} {locs : List Loc} {cells slots : Nat} {Q : State → Prop}
variable {cc : ByteArray} {nL : Nat} {own : String} {pc : Nat} {ls : Array Slot} {rest st0 : List Value} {Γ : zG} {Sh : zSh} {A : Nat → Prop} {μ0 μ : zM} {a : Nat} {mc ms : Nat} {aa : Array Value}
theorem zret_i {Qp : Int32 → zM → Prop} {v : Int32} (X : zCx p m c cc nL s args own meth (some .int)) (hB : zB Γ Sh (zA μ0) μ0 s μ H locs) (hp : Qp v μ) (hdg : decode cc pc = .ok (.ireturn, 1)) : W p l e R s m args below meth c H locs cells slots (MQ below (va_Qi Qp (zPost Γ Sh μ0) (zA μ0)) args s cells slots (zA μ0)) (F0 m pc ls [.int v]) :=
  W.iret X.1.1 X.1.2.1 X.2.1 (fun _ ht _ => ⟨⟨v, μ, rfl, hp, hB.post ht⟩, hB.2.2.2.1.F ht⟩) hB.2.2.2.1.2.2 hdg X.2.2
theorem zret_z {Qp : Int32 → zM → Prop} {v : Int32} {ty : FieldType} (X : zCx p m c cc nL s args own meth (some ty)) (hB : zB Γ Sh (zA μ0) μ0 s μ H locs) (hn : narrow ty (.int v) = .int v) (hp : Qp v μ) (hdg : decode cc pc = .ok (.ireturn, 1)) : W p l e R s m args below meth c H locs cells slots (MQ below (va_Qi Qp (zPost Γ Sh μ0) (zA μ0)) args s cells slots (zA μ0)) (F0 m pc ls [.int v]) :=
  W.zret X.1.1 X.1.2.1 X.2.1 hn (fun _ ht _ => ⟨⟨v, μ, rfl, hp, hB.post ht⟩, hB.2.2.2.1.F ht⟩) hB.2.2.2.1.2.2 hdg X.2.2
theorem zret_l {Qp : Int64 → zM → Prop} {v : Int64} (X : zCx p m c cc nL s args own meth (some .long)) (hB : zB Γ Sh (zA μ0) μ0 s μ H locs) (hp : Qp v μ) (hdg : decode cc pc = .ok (.lreturn, 1)) : W p l e R s m args below meth c H locs cells slots (MQ below (va_Ql Qp (zPost Γ Sh μ0) (zA μ0)) args s cells slots (zA μ0)) (F0 m pc ls [.long v]) :=
  W.lret X.1.1 X.1.2.1 X.2.1 (fun _ ht _ => ⟨⟨v, μ, rfl, hp, hB.post ht⟩, hB.2.2.2.1.F ht⟩) hB.2.2.2.1.2.2 hdg X.2.2
theorem zret_v {Qp : zM → Prop} (X : zCx p m c cc nL s args own meth none) (hB : zB Γ Sh (zA μ0) μ0 s μ H locs) (hp : Qp μ) (hdg : decode cc pc = .ok (.return_, 1)) : W p l e R s m args below meth c H locs cells slots (MQ below (va_Qv Qp (zPost Γ Sh μ0) (zA μ0)) args s cells slots (zA μ0)) (F0 m pc ls []) :=
  W.vret X.1.1 X.1.2.1 X.2.1 (fun _ ht _ => ⟨⟨μ, rfl, hp, hB.post ht⟩, hB.2.2.2.1.F ht⟩) hB.2.2.2.1.2.2 hdg X.2.2
theorem z_calli {Qc : Int32 → zM → Prop} (hr : va_Run p l e R s m args below meth c H locs cells slots mc ms (F0 m pc ls st0) rest (va_Qi Qc (zPost Γ Sh μ) (zA μ) aa) (zA μ)) (hB : zB Γ Sh A μ0 s μ H locs)
    (kk : ∀ (r : Int32) (μ1 : zM) (H1 : Heap) (locs1 : List Loc), Qc r μ1 → zB Γ Sh A μ0 s μ1 H1 locs1 → W p l e R s m args below meth c H1 locs1 (cells + mc) (slots + ms) Q (F0 m (pc + 3) ls (.int r :: rest))) : W p l e R s m args below meth c H locs cells slots Q (F0 m pc ls st0) :=
  va_calli hr hB.2.2.2.1 (fun q _ h => hB.sub q h) hB.sub (fun r u t H1 locs1 ht _ hq hb _ _ hS => kk r u H1 locs1 hq (hB.back ht hb hS))
theorem z_calll {Qc : Int64 → zM → Prop} (hr : va_Run p l e R s m args below meth c H locs cells slots mc ms (F0 m pc ls st0) rest (va_Ql Qc (zPost Γ Sh μ) (zA μ) aa) (zA μ)) (hB : zB Γ Sh A μ0 s μ H locs)
    (kk : ∀ (r : Int64) (μ1 : zM) (H1 : Heap) (locs1 : List Loc), Qc r μ1 → zB Γ Sh A μ0 s μ1 H1 locs1 → W p l e R s m args below meth c H1 locs1 (cells + mc) (slots + ms) Q (F0 m (pc + 3) ls (.long r :: rest))) : W p l e R s m args below meth c H locs cells slots Q (F0 m pc ls st0) :=
  va_calll hr hB.2.2.2.1 (fun q _ h => hB.sub q h) hB.sub (fun r u t H1 locs1 ht _ hq hb _ _ hS => kk r u H1 locs1 hq (hB.back ht hb hS))
theorem z_callv {Qc : zM → Prop} (hr : va_Run p l e R s m args below meth c H locs cells slots mc ms (F0 m pc ls st0) rest (va_Qv Qc (zPost Γ Sh μ) (zA μ) aa) (zA μ)) (hB : zB Γ Sh A μ0 s μ H locs)
    (kk : ∀ (μ1 : zM) (H1 : Heap) (locs1 : List Loc), Qc μ1 → zB Γ Sh A μ0 s μ1 H1 locs1 → W p l e R s m args below meth c H1 locs1 (cells + mc) (slots + ms) Q (F0 m (pc + 3) ls rest)) : W p l e R s m args below meth c H locs cells slots Q (F0 m pc ls st0) :=
  va_callv hr hB.2.2.2.1 (fun q _ h => hB.sub q h) hB.sub (fun u t H1 locs1 ht _ hq hb _ _ hS => kk u H1 locs1 hq (hB.back ht hb hS))
theorem z_callq {Qc : Option Nat → zM → Prop} (hr : va_Run p l e R s m args below meth c H locs cells slots mc ms (F0 m pc ls st0) rest (va_Qq Qc (zPost Γ Sh μ) (zA μ) aa) (zA μ)) (hB : zB Γ Sh A μ0 s μ H locs)
    (kk : ∀ (r : Option Nat) (μ1 : zM) (H1 : Heap) (locs1 : List Loc), Qc r μ1 → zB Γ Sh A μ0 s μ1 H1 locs1 → W p l e R s m args below meth c H1 locs1 (cells + mc) (slots + ms) Q (F0 m (pc + 3) ls (va_rf r :: rest))) : W p l e R s m args below meth c H locs cells slots Q (F0 m pc ls st0) := by
  intro T hT X
  obtain ⟨v, st₀, t, T', L, h0, X', hL, e1, e2, ⟨⟨r, u, hv, hp, hb⟩, hz, hk⟩, st⟩ := hr T hT X
  cases hv
  have hS := hB.2.2.2.1
  rw [h0] at hz hk
  obtain ⟨t2, a1, b1⟩ := kk r u T'.heap (locs ++ L) hp (hB.back e1.symm hb ⟨Nat.le_trans hS.1 (by rw [e1]; exact hz), fun q h1 h2 => by rw [e1, hk q (Nat.lt_of_lt_of_le h1 hS.1) (fun z => h2 (hB.sub q z))]; exact hS.2.1 q h1 h2, fun q hq => by
      rcases List.mem_append.mp hq with h | h
      · exact hS.2.2 q h
      · exact hB.sub _ (hL q h)⟩) T' rfl X'
  exact ⟨t2, st t2 a1, b1⟩
theorem zB.preV {b ci cI : Nat} {r : vw_C} {As : List Value} (hB : zB Γ Sh A μ0 s μ H locs) (ht : zty μ b = some (.inl ci)) (hcI : ci % 100 = cI) (hc : zcl[cI]? = some r) : PreV s H r.1 b (va_Pc (.ref b :: As) (zPre Γ Sh μ)) As := by
  subst hcI
  exact ⟨zPre.blind, va_recv (cl := zcl) (q0 := 0) (ci := ci % 100) hB.1.1 (zone (hB.2.1 b _ ht)) hc rfl, fun U hU hW => ⟨rfl, hB.pre U hU hW⟩⟩
theorem zB.preS {As : List Value} (hB : zB Γ Sh A μ0 s μ H locs) : PreS s H (va_Pc As (zPre Γ Sh μ)) As := ⟨zPre.blind, fun U hU hW => ⟨rfl, hB.pre U hU hW⟩⟩
theorem g_getr (S : CallFix p m c cc nL s args lw_all own) (hB : zB Γ Sh A μ0 s μ H locs) {ci cI N index b : Nat} {C ref : String} {T : u_T} (ht : zty μ a = some (.inl ci)) (hcI : ci % 100 = cI) (hc : zcl[cI]? = some (C, T, N)) (hin : ∀ w ∈ u_ws C T N, w ∈ lw_all) (k : Nat) (hk : k < N) (hkz : k < zN cI) (hlink : (Cond.fieldLink own index ref (T k).2.1 (T k).2.2.1) ∈ lw_all) (hsame : ∀ x, s.fieldFound? (T k).1 (T k).2.1 (T k).2.2.1 = some x → s.fieldFound? ref (T k).2.1 (T k).2.2.1 = some x) (hv : ∀ ν : zM, zfv cI k ν a = va_rf (zR ν a k)) (hz : zR μ a k = some b) (hdg : decode cc pc = .ok (.getfield index, 3))
    (kk : W p l e R s m args below meth c H locs cells slots Q (F0 m (pc + 3) ls (.ref b :: rest))) : W p l e R s m args below meth c H locs cells slots Q (F0 m pc ls (.ref a :: rest)) :=
  g_get S hB ht hcI hc hin k hk hkz hlink hsame (by rw [hv, hz]; rfl) hdg kk
theorem g_getrN (S : CallFix p m c cc nL s args lw_all own) (hB : zB Γ Sh A μ0 s μ H locs) {host : String} {ci cI N index b : Nat} {C ref : String} {T : u_T} (ht : zty μ a = some (.inl ci)) (hcI : ci % 100 = cI) (hc : zcl[cI]? = some (C, T, N)) (hin : ∀ w ∈ u_ws C T N, w ∈ lw_all) (k : Nat) (hk : k < N) (hkz : k < zN cI) (hlink : va_Nw (.fieldLinkNest own index ref (T k).2.1 (T k).2.2.1 host) s) (hsame : ∀ x, s.fieldFound? (T k).1 (T k).2.1 (T k).2.2.1 = some x → s.fieldFound? ref (T k).2.1 (T k).2.2.1 = some x) (hv : ∀ ν : zM, zfv cI k ν a = va_rf (zR ν a k)) (hz : zR μ a k = some b) (hdg : decode cc pc = .ok (.getfield index, 3))
    (kk : W p l e R s m args below meth c H locs cells slots Q (F0 m (pc + 3) ls (.ref b :: rest))) : W p l e R s m args below meth c H locs cells slots Q (F0 m pc ls (.ref a :: rest)) :=
  g_getN S hB ht hcI hc hin k hk hkz hlink hsame (by rw [hv, hz]; rfl) hdg kk
end ZCALLS
/-- the twin's shape -/
def tTab : List (Nat × Nat × Nat × Nat) := [(1, 1, 0, 3594), (2, 2, 2, 2), (3, 3, 0, 900), (4, 4, 0, 1198), (16, 5, 0, 900), (17, 6, 0, 10), (18, 7, 0, 23), (19, 8, 0, 6), (23, 9, 0, 602), (24, 10, 3, 549), (27, 11, 0, 3), (28, 12, 0, 3), (32, 13, 0, 61000), (33, 14, 0, 100000), (34, 15, 2, 1000), (35, 16, 0, 4), (36, 17, 0, 4), (37, 18, 3, 160)]
def tSh (th : Nat) : zSh := fun R ty => ty th = some (.inl 4) ∧ ∀ (i : Nat) (q : Nat × Nat × Nat × Nat), tTab[i]? = some q → R th q.1 = some (th + q.2.1) ∧ ty (th + q.2.1) = some (.inr q.2.2)
theorem tT {Γ : zG} {th : Nat} {A : Nat → Prop} {μ0 μ : zM} {s : State} {H : Heap} {locs : List Loc} (hB : zB Γ (tSh th) A μ0 s μ H locs) : zty μ th = some (.inl 4) := hB.2.2.2.2.2.2.1.1
theorem tA {Γ : zG} {th : Nat} {A : Nat → Prop} {μ0 μ : zM} {s : State} {H : Heap} {locs : List Loc} (hB : zB Γ (tSh th) A μ0 s μ H locs) (i : Nat) {q : Nat × Nat × Nat × Nat} (h : tTab[i]? = some q) : zR μ th q.1 = some (th + q.2.1) ∧ zty μ (th + q.2.1) = some (.inr q.2.2) := hB.2.2.2.2.2.2.1.2 i q h
def zia (μ : zM) (a kd : Nat) (i : Int32) : Prop := ∃ n, zty μ a = some (.inr (kd, n)) ∧ vp_in i n
def zbo (v : Int32) : Prop := narrow .boolean (.int v) = .int v
def zcr (sp dp n : Int32) (l1 l2 : Nat) : Prop := ¬ sp < 0 ∧ ¬ dp < 0 ∧ ¬ n < 0 ∧ sp.toNatClampNeg + n.toNatClampNeg ≤ l1 ∧ dp.toNatClampNeg + n.toNatClampNeg ≤ l2
theorem zswN {x : Int32} (lo hi : Nat) (h : ∀ k : Nat, lo ≤ k → k ≤ hi → ¬ x = nI k) (hh : hi < 2 ^ 31) : x.toInt < (lo : Int) ∨ (hi : Int) < x.toInt := by
  rcases Int.lt_or_le x.toInt (lo : Int) with q | q
  · exact Or.inl q
  · rcases Int.lt_or_le (hi : Int) x.toInt with q2 | q2
    · exact Or.inr q2
    · refine absurd ?_ (h x.toInt.toNat (by omega) (by omega))
      apply Int32.toInt_inj.mp
      rw [nI_toInt (by omega)]
      omega
theorem zq_of {C n d : String} {A : Nat → Prop} {U : State} {H : Heap} (h : va_Zq C n d A U H) : ∃ r : Option Nat, va_Z C n d (va_rf r) A U H := by
  rcases h with h | ⟨t, h⟩
  · exact ⟨none, h⟩
  · exact ⟨some t, h⟩
theorem zB.preStr {Γ : zG} {Sh : zSh} {A : Nat → Prop} {μ0 μ : zM} {s : State} {H : Heap} {locs : List Loc} {w : Nat} {As : List Value} (hB : zB Γ Sh A μ0 s μ H locs) (hw : w < zSn) : PreV s H "java/lang/String" (Γ.2.2.1 w) (va_Pc (.ref (Γ.2.2.1 w) :: As) (zPre Γ Sh μ)) As :=
  ⟨zPre.blind, vk_recv hB.2.2.2.2.2.2.2.1.1 hw hB.2.2.2.1, fun U hU hW => ⟨rfl, hB.pre U hU hW⟩⟩
theorem va_rf_c (r : Option Nat) : (va_rf r).category = 1 := by cases r <;> rfl
section ZR5
variable {p : Program} {l : Launch} {e : Env} {R : Room} {s : State} {m : MethodId} {args : Array Value} {below : List Frame} {meth : Method} {c : Code} {H : Heap} {locs : List Loc} {cells slots : Nat} {Q : State → Prop}
variable {cc : ByteArray} {nL : Nat} {own : String} {pc : Nat} {ls : Array Slot} {rest : List Value} {Γ : zG} {Sh : zSh} {A : Nat → Prop} {μ0 μ : zM} {a : Nat}
theorem g_aload_nq (hexec : p.tables.exec = Jvm.exec) (hb : c.code = cc) {k : Fin 4} {i : Nat} {x : Option Nat} (hdg : decode cc pc = .ok (.aload_n k, 1)) (hi : (k : Nat) = i) (hl : ls[i]? = some (.val (va_rf x))) (kk : W p l e R s m args below meth c H locs cells slots Q (F0 m (pc + 1) ls (va_rf x :: rest))) : W p l e R s m args below meth c H locs cells slots Q (F0 m pc ls rest) := by
  cases x with
  | none => exact lv_aload_nN hexec hb hdg hi hl kk
  | some x => exact lv_aload_n hexec hb hdg hi hl kk
theorem g_aloadq (hexec : p.tables.exec = Jvm.exec) (hb : c.code = cc) {i : Nat} {x : Option Nat} (hdg : decode cc pc = .ok (.aload i, 2)) (hl : ls[i]? = some (.val (va_rf x))) (kk : W p l e R s m args below meth c H locs cells slots Q (F0 m (pc + 2) ls (va_rf x :: rest))) : W p l e R s m args below meth c H locs cells slots Q (F0 m pc ls rest) := by
  cases x with
  | none => exact lv_aloadN hexec hb hdg hl kk
  | some x => exact lv_aload hexec hb hdg hl kk
theorem g_ldcs (S : CallFix p m c cc nL s args lw_all own) (hB : zB Γ Sh A μ0 s μ H locs) {i k w : Nat} {tx : String} (hi : zSr[i]? = some (own, k, tx, w)) (hdg : decode cc pc = .ok (.ldc k, 2)) (kk : W p l e R s m args below meth c H locs cells slots Q (F0 m (pc + 2) ls (.ref (Γ.2.2.1 w) :: rest))) : W p l e R s m args below meth c H locs cells slots Q (F0 m pc ls rest) := by
  exact va_ldcS S.1 S.2.1 S.2.2.2.1 (hB.1.2.2.2.1 _ (List.mem_of_getElem? hi)) hdg kk
end ZR5
/-! the component's shape, and what its walks need besides -/
def cTab : List (Nat × Nat × zT) := [(1, 7, .inl 2), (2, 11, .inl 2), (3, 15, .inr (1, 900)), (7, 16, .inr (5, 10)), (11, 57, .inr (0, 6)), (12, 58, .inr (0, 6)), (14, 59, .inr (3, 54)), (15, 60, .inr (3, 54)), (16, 61, .inr (0, 5)), (17, 62, .inr (0, 5)), (20, 63, .inr (0, 3)), (21, 64, .inr (0, 3)), (25, 65, .inr (0, 61)), (26, 66, .inr (0, 1000)), (27, 67, .inr (0, 100000)), (28, 68, .inr (0, 61)), (29, 69, .inr (0, 61061)), (30, 70, .inr (6, 4)), (31, 75, .inr (7, 2)), (32, 76, .inr (5, 2))]
def cS1t : List (Nat × Nat × zT) := [(0, 1, .inr (0, 8)), (1, 2, .inr (0, 6)), (2, 3, .inr (0, 6)), (3, 4, .inr (0, 6)), (4, 5, .inr (0, 6))]
def cS2t : List (Nat × Nat × zT) := [(0, 1, .inr (0, 6)), (1, 2, .inr (0, 6)), (2, 3, .inr (0, 8))]
def cS5t : List (Nat × Nat × zT) := [(1, 1, .inl 1)]
/-- the fields that never change once a cell of the class is whole -/
def cKs (c : Nat) : List Nat := match c with
  | 0 => [1, 2, 3, 7, 11, 12, 14, 15, 16, 17, 20, 21, 25, 26, 27, 28, 29, 30, 31, 32]
  | 1 => [0, 1, 2, 3, 4]
  | 2 => [0, 1, 2, 7]
  | 5 => [1, 10]
  | _ => []
def cRow (R : Nat → Nat → Option Nat) (ty : Nat → Option zT) (a : Nat) (t : List (Nat × Nat × zT)) : Prop := ∀ (i : Nat) (q : Nat × Nat × zT), t[i]? = some q → R a q.1 = some (a + q.2.1) ∧ ty (a + q.2.1) = some q.2.2
def cSh (z : Nat) : zSh := fun R ty => ty z = some (.inl 0) ∧ cRow R ty z cTab ∧ (∀ a, ty a = some (.inl 1) → cRow R ty a cS1t) ∧ (∀ a, ty a = some (.inl 2) → R a 7 = some z ∧ cRow R ty a cS2t) ∧ ∀ a, ty a = some (.inl 5) → R a 10 = some z ∧ cRow R ty a cS5t
section CSH
variable {Γ : zG} {z : Nat} {A : Nat → Prop} {μ0 μ : zM} {s : State} {H : Heap} {locs : List Loc}
theorem cT (hB : zB Γ (cSh z) A μ0 s μ H locs) : zty μ z = some (.inl 0) := hB.2.2.2.2.2.2.1.1
theorem cA (hB : zB Γ (cSh z) A μ0 s μ H locs) (i : Nat) {q : Nat × Nat × zT} (h : cTab[i]? = some q) : zR μ z q.1 = some (z + q.2.1) ∧ zty μ (z + q.2.1) = some q.2.2 := hB.2.2.2.2.2.2.1.2.1 i q h
theorem cS1 (hB : zB Γ (cSh z) A μ0 s μ H locs) {a : Nat} (ht : zty μ a = some (.inl 1)) (i : Nat) {q : Nat × Nat × zT} (h : cS1t[i]? = some q) : zR μ a q.1 = some (a + q.2.1) ∧ zty μ (a + q.2.1) = some q.2.2 := hB.2.2.2.2.2.2.1.2.2.1 a ht i q h
theorem cS2 (hB : zB Γ (cSh z) A μ0 s μ H locs) {a : Nat} (ht : zty μ a = some (.inl 2)) (i : Nat) {q : Nat × Nat × zT} (h : cS2t[i]? = some q) : zR μ a q.1 = some (a + q.2.1) ∧ zty μ (a + q.2.1) = some q.2.2 := (hB.2.2.2.2.2.2.1.2.2.2.1 a ht).2 i q h
theorem cZ2 (hB : zB Γ (cSh z) A μ0 s μ H locs) {a : Nat} (ht : zty μ a = some (.inl 2)) : zR μ a 7 = some z := (hB.2.2.2.2.2.2.1.2.2.2.1 a ht).1
theorem cS5 (hB : zB Γ (cSh z) A μ0 s μ H locs) {a : Nat} (ht : zty μ a = some (.inl 5)) (i : Nat) {q : Nat × Nat × zT} (h : cS5t[i]? = some q) : zR μ a q.1 = some (a + q.2.1) ∧ zty μ (a + q.2.1) = some q.2.2 := (hB.2.2.2.2.2.2.1.2.2.2.2 a ht).2 i q h
theorem cZ5 (hB : zB Γ (cSh z) A μ0 s μ H locs) {a : Nat} (ht : zty μ a = some (.inl 5)) : zR μ a 10 = some z := (hB.2.2.2.2.2.2.1.2.2.2.2 a ht).1
theorem cSh_set {R : Nat → Nat → Option Nat} {ty : Nat → Option zT} {a k : Nat} {x : Option Nat} {t : zT} (h : cSh z R ty) (ht : ty a = some t) (hk : ∀ c, t = .inl c → k ∉ cKs c) : cSh z (fun b j => if b = a ∧ j = k then x else R b j) ty := by
  have row : ∀ (b c : Nat) (tb : List (Nat × Nat × zT)), ty b = some (.inl c) → (∀ q ∈ tb, q.1 ∈ cKs c) → cRow R ty b tb → cRow (fun b j => if b = a ∧ j = k then x else R b j) ty b tb := by
    intro b c tb hb hc hr i q hq
    refine ⟨?_, (hr i q hq).2⟩
    have hn : ¬ (b = a ∧ q.1 = k) := by
      rintro ⟨rfl, e⟩
      rw [ht] at hb
      exact hk c (Option.some.inj hb) (by rw [← e]; exact hc q (List.mem_of_getElem? hq))
    show (if b = a ∧ q.1 = k then x else R b q.1) = _
    rw [if_neg hn]
    exact (hr i q hq).1
  have one : ∀ (b c j : Nat), ty b = some (.inl c) → j ∈ cKs c → ∀ v, R b j = v → (if b = a ∧ j = k then x else R b j) = v := by
    intro b c j hb hj v hv
    rw [if_neg, hv]
    rintro ⟨rfl, rfl⟩
    rw [ht] at hb
    exact hk c (Option.some.inj hb) hj
  refine ⟨h.1, row z 0 _ h.1 (by decide) h.2.1, fun b hb => row b 1 _ hb (by decide) (h.2.2.1 b hb), fun b hb => ⟨one b 2 7 hb (by decide) _ (h.2.2.2.1 b hb).1, row b 2 _ hb (by decide) (h.2.2.2.1 b hb).2⟩, fun b hb => ⟨one b 5 10 hb (by decide) _ (h.2.2.2.2 b hb).1, row b 5 _ hb (by decide) (h.2.2.2.2 b hb).2⟩⟩
theorem cSh_put (hB : zB Γ (cSh z) A μ0 s μ H locs) {a c : Nat} {x : Option Nat} (ht : zty μ a = some (.inl c)) (k : Nat) (hk : k ∉ cKs c) : cSh z (zR (zsR μ a k x)) (zty μ) :=
  cSh_set (t := .inl c) hB.2.2.2.2.2.2.1 ht (fun c' e => by cases e; exact hk)
theorem cSh_putA (hB : zB Γ (cSh z) A μ0 s μ H locs) {a : Nat} {q : Nat × Nat} {x : Option Nat} (ht : zty μ a = some (.inr q)) (k : Nat) : cSh z (zR (zsR μ a k x)) (zty μ) :=
  cSh_set (t := .inr q) hB.2.2.2.2.2.2.1 ht (fun c' e => by cases e)
end CSH
theorem zfits_o (C : String) (r : Option Nat) : fits (.object C) (va_rf r) = true := by cases r <;> rfl
theorem znar_o (C : String) (r : Option Nat) : narrow (.object C) (va_rf r) = va_rf r := by cases r <;> rfl
theorem zB.updL {Γ : zG} {Sh : zSh} {A : Nat → Prop} {μ0 μ μ' : zM} {s : State} {H H' : Heap} {locs L : List Loc} (h : zB Γ Sh A μ0 s μ H locs) {a : Nat} {t : zT} (hL : ∀ q ∈ L, q.base = a) (ht : zty μ a = some t) (e2 : H'.size = H.size) (e3 : ∀ q : Nat, q ≠ a → H'[q]? = H[q]?) (hat : va_at Γ.1 zcl (a, zE Γ.2.1 μ' a t) H') (hoth : ∀ (b : Nat) (t : zT), b ≠ a → zE Γ.2.1 μ' b t = zE Γ.2.1 μ b t) (hty : ∀ b, zty μ' b = zty μ b) (hnx : znx μ' = znx μ) (hSh : Sh (zR μ') (zty μ')) : zB Γ Sh A μ0 s μ' H' (locs ++ L) := by
  obtain ⟨h1, h2, h3, h4, h5, h6, h7, h8, h9⟩ := h.upd (k := 0) ht e2 e3 hat hoth hty hnx hSh
  refine ⟨h1, h2, h3, ⟨h4.1, h4.2.1, fun q hq => ?_⟩, h5, h6, h7, h8, h9⟩
  rcases List.mem_append.mp hq with hq | hq
  · exact h.2.2.2.1.2.2 q hq
  · rw [hL q hq]
    exact h.2.2.1 a t ht
section ZR6
variable {p : Program} {l : Launch} {e : Env} {R : Room} {s : State} {m : MethodId} {args : Array Value} {below : List Frame} {meth : Method} {c : Code} {H : Heap} {locs : List Loc} {cells slots : Nat} {Q : State → Prop}
variable {cc : ByteArray} {nL : Nat} {own : String} {pc : Nat} {ls : Array Slot} {rest : List Value} {Γ : zG} {Sh : zSh} {A : Nat → Prop} {μ0 μ : zM} {a : Nat}
theorem g_astore_nq (hexec : p.tables.exec = Jvm.exec) (hb : c.code = cc) {k : Fin 4} {i nL : Nat} {x : Option Nat} {lv lv' : List (Nat × Value)} (hdg : decode cc pc = .ok (.astore_n k, 1)) (hi : (k : Nat) = i) (h : lv_has ls nL lv) (hn : i < nL) (hl : (i, va_rf x) :: lv.filter (fun q => !(q.1 == i) && !(q.1 + 1 == i && q.2.category == 2)) = lv') (kk : ∀ ls' : Array Slot, lv_has ls' nL lv' → W p l e R s m args below meth c H locs cells slots Q (F0 m (pc + 1) ls' rest)) : W p l e R s m args below meth c H locs cells slots Q (F0 m pc ls (va_rf x :: rest)) := by
  cases x with
  | none => exact lv_astore_nN hexec hb hdg hi h hn hl kk
  | some x => exact lv_astore_n hexec hb hdg hi h hn hl kk
theorem g_astoreq (hexec : p.tables.exec = Jvm.exec) (hb : c.code = cc) {i nL : Nat} {x : Option Nat} {lv lv' : List (Nat × Value)} (hdg : decode cc pc = .ok (.astore i, 2)) (h : lv_has ls nL lv) (hn : i < nL) (hl : (i, va_rf x) :: lv.filter (fun q => !(q.1 == i) && !(q.1 + 1 == i && q.2.category == 2)) = lv') (kk : ∀ ls' : Array Slot, lv_has ls' nL lv' → W p l e R s m args below meth c H locs cells slots Q (F0 m (pc + 2) ls' rest)) : W p l e R s m args below meth c H locs cells slots Q (F0 m pc ls (va_rf x :: rest)) := by
  cases x with
  | none => exact lv_astoreN hexec hb hdg h hn hl kk
  | some x => exact lv_astore hexec hb hdg h hn hl kk
theorem g_ifnull (hexec : p.tables.exec = Jvm.exec) (hb : c.code = cc) {x : Option Nat} {off : Int} {tgt : Nat} (hdg : decode cc pc = .ok (.ifnull off, 3)) (ht : (pc : Int) + off = (tgt : Int)) (kt : x = none → W p l e R s m args below meth c H locs cells slots Q (F0 m tgt ls rest)) (kf : ¬ x = none → W p l e R s m args below meth c H locs cells slots Q (F0 m (pc + 3) ls rest)) : W p l e R s m args below meth c H locs cells slots Q (F0 m pc ls (va_rf x :: rest)) := by
  cases x with
  | none => exact lv_ifnullN hexec hb hdg ht (kt rfl)
  | some x => exact lv_ifnull hexec hb hdg (kf (fun h => by cases h))
theorem g_ifnonnull (hexec : p.tables.exec = Jvm.exec) (hb : c.code = cc) {x : Option Nat} {off : Int} {tgt : Nat} (hdg : decode cc pc = .ok (.ifnonnull off, 3)) (ht : (pc : Int) + off = (tgt : Int)) (kt : x = none → W p l e R s m args below meth c H locs cells slots Q (F0 m (pc + 3) ls rest)) (kf : ¬ x = none → W p l e R s m args below meth c H locs cells slots Q (F0 m tgt ls rest)) : W p l e R s m args below meth c H locs cells slots Q (F0 m pc ls (va_rf x :: rest)) := by
  cases x with
  | none => exact lv_ifnonnullN hexec hb hdg (kt rfl)
  | some x => exact lv_ifnonnull hexec hb hdg ht (kf (fun h => by cases h))
theorem zret_q {Qp : Option Nat → zM → Prop} {v : Option Nat} {C : String} (X : zCx p m c cc nL s args own meth (some (.object C))) (hB : zB Γ Sh (zA μ0) μ0 s μ H locs) (hp : Qp v μ) (hdg : decode cc pc = .ok (.areturn, 1)) : W p l e R s m args below meth c H locs cells slots (MQ below (va_Qq Qp (zPost Γ Sh μ0) (zA μ0)) args s cells slots (zA μ0)) (F0 m pc ls [va_rf v]) :=
  W.aret X.1.1 X.1.2.1 X.2.1 (Or.inl ⟨C, rfl⟩) (by cases v with | none => exact Or.inl rfl | some a => exact Or.inr ⟨a, rfl⟩) (fun _ ht _ => ⟨⟨v, μ, rfl, hp, hB.post ht⟩, hB.2.2.2.1.F ht⟩) hB.2.2.2.1.2.2 hdg X.2.2
theorem zret_qs {Qp : Option Nat → zM → Prop} {v : Nat} {C : String} (X : zCx p m c cc nL s args own meth (some (.object C))) (hB : zB Γ Sh (zA μ0) μ0 s μ H locs) (hp : Qp (some v) μ) (hdg : decode cc pc = .ok (.areturn, 1)) : W p l e R s m args below meth c H locs cells slots (MQ below (va_Qq Qp (zPost Γ Sh μ0) (zA μ0)) args s cells slots (zA μ0)) (F0 m pc ls [.ref v]) := zret_q (v := some v) X hB hp hdg
theorem zret_qn {Qp : Option Nat → zM → Prop} {C : String} (X : zCx p m c cc nL s args own meth (some (.object C))) (hB : zB Γ Sh (zA μ0) μ0 s μ H locs) (hp : Qp none μ) (hdg : decode cc pc = .ok (.areturn, 1)) : W p l e R s m args below meth c H locs cells slots (MQ below (va_Qq Qp (zPost Γ Sh μ0) (zA μ0)) args s cells slots (zA μ0)) (F0 m pc ls [.null]) := zret_q (v := none) X hB hp hdg
theorem g_copyi (S : CallFix p m c cc nL s args lw_all own) (hB : zB Γ Sh A μ0 s μ H locs) (hml : c.maxLocals = ls.size) {index a0 n0 n1 : Nat} (ht0 : zty μ a0 = some (.inr (0, n0))) (ht1 : zty μ a = some (.inr (0, n1))) {sp dp n : Int32} (hi : zcr sp dp n n0 n1) (hlink : (Cond.methodLink own index arraycopyName).before args s = true) (hnat : (Cond.native arraycopyName).before args s = true) (hstat : (Cond.static arraycopyName).before args s = true) (hini : (Cond.initialized "java/lang/System").before args s = true) (hframes : 1 ≤ R.frames) (hlocals : (rest.map fun v => v.category).sum + (nativeFrameWords "java/lang/System" "arraycopy" 5 + 11) ≤ R.locals) (hdg : decode cc pc = .ok (.invokestatic index, 3))
    (kk : ∀ (H1 : Heap) (locs1 : List Loc), zB Γ Sh A μ0 s (zcp μ a0 a sp.toNatClampNeg dp.toNatClampNeg n.toNatClampNeg) H1 locs1 → W p l e R s m args below meth c H1 locs1 cells slots Q (F0 m (pc + 3) ls rest)) : W p l e R s m args below meth c H locs cells slots Q (F0 m pc ls (.int n :: .int dp :: .ref a :: .int sp :: .ref a0 :: rest)) := by
  obtain ⟨h1, h2, h3, h4, h5⟩ := hi
  obtain ⟨hexec, hb, _, hown, hts⟩ := S
  have nn : ∀ z : Int32, ¬ z < 0 → z.toInt = (z.toNatClampNeg : Int) := by
    intro z hz
    have hz0 : (0 : Int) ≤ z.toInt := by
      have := Int32.not_lt.mp hz
      simpa using Int32.le_iff_toInt_le.mp this
    show z.toInt = ((z.toInt.toNat : Nat) : Int)
    omega
  intro T hT X
  have hc0 : H[a0]? = some (vp_cell (Γ.2.1 0) (n0, .inl (zI μ a0))) := hB.2.1 a0 _ ht0
  have hc1 : H[a]? = some (vp_cell (Γ.2.1 0) (n1, .inl (zI μ a))) := hB.2.1 a _ ht1
  obtain ⟨-, k0, hk0, cm0, hkk0⟩ := (hB.1.1.2 0 _ rfl).1 n0 (fun j => .int (zI μ a0 j))
  obtain ⟨-, k1, hk1, cm1, hkk1⟩ := (hB.1.1.2 0 _ rfl).1 n1 (fun j => .int (zI μ a j))
  obtain ⟨vm', X', step⟩ := X.arraycopy hexec hown hlink hnat hstat hini (src := a0) (dst := a) (cs := vp_cell (Γ.2.1 0) (n0, .inl (zI μ a0))) (cd := vp_cell (Γ.2.1 0) (n1, .inl (zI μ a))) (srcPos := sp) (destPos := dp) (n := n) (by rw [hT]; exact hc0) (by rw [hT]; exact hc1)
    (fun _ h => by cases h) (fun _ h => by cases h) (fun h => by cases h) (fun h => by cases h) hk0 hk1 hkk0 hkk1 (by simp [refKind]) h1 h2 h3
    (by rw [nn sp h1, nn n h3]; show ¬ _ > ((arrV (Γ.2.1 0) n0 (fun j => .int (zI μ a0 j))).slots.size : Int); rw [arrV_size]; omega)
    (by rw [nn dp h2, nn n h3]; show ¬ _ > ((arrV (Γ.2.1 0) n1 (fun j => .int (zI μ a j))).slots.size : Int); rw [arrV_size]; omega)
    (fun vm₁ _ i hi => by
      have e : (vp_cell (Γ.2.1 0) (n0, .inl (zI μ a0))).slots.getD (sp.toNatClampNeg + i) .null = .int (zI μ a0 (sp.toNatClampNeg + i)) := by
        show (arrV (Γ.2.1 0) n0 (fun j => .int (zI μ a0 j))).slots.getD _ _ = _
        rw [Array.getD_eq_getD_getElem?, arrV_read _ _ (by omega)]
        rfl
      refine ⟨?_, ?_⟩
      · rw [e]
        rfl
      · rw [e]
        exact trivial)
    (g := F0 m pc ls (.int n :: .int dp :: .ref a :: .int sp :: .ref a0 :: rest)) rfl (by rw [hml]) (rest := rest) rfl (by rw [hb]; exact hdg) hframes (by show 2 * 0 + _ + _ ≤ _; omega)
  have e1 : copied (vp_cell (Γ.2.1 0) (n0, .inl (zI μ a0))) (vp_cell (Γ.2.1 0) (n1, .inl (zI μ a))) sp dp n = vp_cell (Γ.2.1 0) (n1, .inl (va_cpy (zI μ a0) (zI μ a) sp.toNatClampNeg dp.toNatClampNeg n.toNatClampNeg)) := va_copied (fun z => .int z) (Γ.2.1 0) (Γ.2.1 0) (zI μ a0) (zI μ a) h4
  rw [e1] at X' step
  have hl : a < H.size := (Array.getElem?_eq_some_iff.mp hc1).1
  generalize hce : vp_cell (Γ.2.1 0) (n1, .inl (va_cpy (zI μ a0) (zI μ a) sp.toNatClampNeg dp.toNatClampNeg n.toNatClampNeg)) = cell at X' step
  have hheap : ((T.setVm vm').setCell a cell).heap = H.setIfInBounds a cell := by rw [← hT]; rfl
  have oq : ∀ q : Nat, q ≠ a → (H.setIfInBounds a cell)[q]? = H[q]? := fun q hq => by simp [Array.getElem?_setIfInBounds, Ne.symm hq]
  obtain ⟨t, a1, b1⟩ := kk _ _ (hB.updL (μ' := zcp μ a0 a sp.toNatClampNeg dp.toNatClampNeg n.toNatClampNeg) (fun q hq => by
      obtain ⟨z, -, hz⟩ := List.mem_map.mp hq
      rw [← hz]) ht1 (by simp) oq (by
      show (H.setIfInBounds a cell)[a]? = some (vp_cell (Γ.2.1 0) (n1, .inl (zI (zcp μ a0 a sp.toNatClampNeg dp.toNatClampNeg n.toNatClampNeg) a)))
      rw [show (H.setIfInBounds a cell)[a]? = some cell by simp [Array.getElem?_setIfInBounds, hl], ← hce]
      congr 5
      funext j
      rw [zI_cp]
      unfold va_cpy
      by_cases hj : dp.toNatClampNeg ≤ j ∧ j < dp.toNatClampNeg + n.toNatClampNeg
      · rw [if_pos hj, if_pos ⟨rfl, hj⟩]
      · rw [if_neg hj, if_neg (fun q => hj q.2)]) zE_cp (fun _ => rfl) rfl hB.2.2.2.2.2.2.1) _ hheap X'
  exact ⟨t, step t a1, b1⟩
end ZR6
theorem zNFw {Γ : zG} {Sh : zSh} {A : Nat → Prop} {μ0 μ : zM} {s : State} {H : Heap} {locs : List Loc} (hB : zB Γ Sh A μ0 s μ H locs) (i : Nat) {a b c d e : String} {n : Nat} (h : zNF[i]? = some (a, n, b, c, d, e)) : va_Nw (.fieldLinkNest a n b c d e) s := hB.1.2.1 _ (List.mem_of_getElem? h)
theorem zNMw {Γ : zG} {Sh : zSh} {A : Nat → Prop} {μ0 μ : zM} {s : State} {H : Heap} {locs : List Loc} (hB : zB Γ Sh A μ0 s μ H locs) (i : Nat) {a b : String} {n : Nat} {y : MethodName} (h : zNM[i]? = some (a, n, y, b)) : va_Nw (.methodLinkNest a n y b) s := hB.1.2.2.1 _ (List.mem_of_getElem? h)
/-! a method of java.lang.Math by its own code; the abstract Sum.value; more words -/
theorem zMetF {l : Launch} {y : MethodName} {ws ws' : List Cond} {rm : Room} {Pc : Array Value → State → Prop} {Qc : Array Value → State → Outcome → State → Prop} {mc ms : Nat} {free : Addr → Prop} {cc : ByteArray} {maxL : Nat} {ret : Option FieldType}
    (hy : plainFor y = true) (hw : ws = Cond.code y cc maxL ret :: ws')
    (body : ∀ p e s m args below meth c s₁, BodyLoose p l y (headSpec ws rm) cc maxL ret e s m args below meth c s₁ → c.maxLocals = maxL → Pc args s →
      W p l e (headSpec ws rm).room s m args below meth c s.heap [] 0 0 (MQ below Qc args s mc ms free) (entryFrame m args maxL)) : Met l y ws rm Pc Qc mc ms free := by
  refine MetFree.of_bodySF (code := cc) (maxLocals := maxL) (ret := ret) hy ?_ ?_
  · intro args s m h hn
    obtain ⟨meth, c, h1, h2, h3, h4, h5, h6, -, -⟩ := Cond.code_spec hn (atoms_spec (ws := ws) h _ (by rw [hw]; exact List.mem_cons_self))
    exact ⟨meth, c, h1, h2, h3, h4, h5, h6⟩
  · intro p e s m args below meth c s₁ B hml hP _
    have hh0 : s₁.heap = s.heap := by rw [B.state]; rfl
    obtain ⟨t, a1, o, b1, b2, b3⟩ := body p e s m args below meth c s₁ B hml hP s₁ hh0 (Stand.of_body B)
    exact ⟨t, o, a1, b1, b2, ⟨b3.1, b3.2⟩⟩
theorem zstartF {l : Launch} {Γ : zG} {Sh : zSh} {μ : zM} {y : MethodName} {cc : ByteArray} {maxL : Nat} {ret : Option FieldType} {rm : Room} {mc ms : Nat} {av : List Value} {Qc : Array Value → State → Outcome → State → Prop} (hy : plainFor y = true) (hl : (lg_sl av).length ≤ maxL)
    (body : ∀ (p : Program) (e : Env) (s : State) (m : MethodId) (below : List Frame) (meth : Method) (c : Code) (ls : Array Slot), zCx p m c cc maxL s av.toArray y.cls meth ret → meth.name = y.name → zB Γ Sh (zA μ) μ s μ s.heap [] → lv_has ls maxL (lv_args 0 av) → W p l e rm s m av.toArray below meth c s.heap [] 0 0 (MQ below Qc av.toArray s mc ms (zA μ)) (F0 m 0 ls [])) :
    Met l y (ws_ y cc maxL ret) rm (va_Pc av (zPre Γ Sh μ)) Qc mc ms (zA μ) := by
  refine zMetF (cc := cc) (maxL := maxL) (ret := ret) hy rfl ?_
  intro p e s m args below meth c s₁ B hml hv
  obtain ⟨rfl, hv⟩ := hv
  have hts := atoms_spec (ws := ws_ y cc maxL ret) B.pre
  have hts : ∀ w ∈ lw_all, w.before _ s = true := fun w h => hts w (List.mem_cons_of_mem _ h)
  have hlv := lv_entry av (n := maxL) hl
  rw [lg_entry_eq]
  exact body p e s m below meth c _ ⟨⟨B.exec, B.bytes, hml, findClass_of_methodNamed B.named, hts⟩, B.returns, B.notSynchronized⟩ (name_of_methodNamed B.named B.method).1 (zB.entry hv) hlv
/-! arrays behind an Object field; references into an array; the abstract Sum.value -/
def zkn (k : Nat) : String := match k with
  | 0 => "[I"
  | 1 => "[B"
  | 3 => "[J"
  | _ => "[S"
def zhd (μ : zM) (h : Option Nat) : Prop := ∀ b, h = some b → ∃ kd n, zty μ b = some (.inr (kd, n)) ∧ (kd = 0 ∨ kd = 1 ∨ kd = 3 ∨ kd = 4)
def zio (μ : zM) (h : Option Nat) (k : Nat) : Int32 := match h with
  | none => 0
  | some b => match zty μ b with
    | some (.inr q) => if q.1 = k then 1 else 0
    | _ => 0
theorem zarr_at {Γ : zG} {Sh : zSh} {A : Nat → Prop} {μ0 μ : zM} {s : State} {H : Heap} {locs : List Loc} (hB : zB Γ Sh A μ0 s μ H locs) {b kd n : Nat} (ht : zty μ b = some (.inr (kd, n))) (hk : kd = 0 ∨ kd = 1 ∨ kd = 3 ∨ kd = 4) : ∃ cell : Cell, H[b]? = some cell ∧ cell.vm.isStatics = false ∧ s.vm.findClass (zkn kd) = some cell.cls := by
  have h0 := hB.2.1 b _ ht
  have hK := hB.1.1.2
  rcases hk with rfl | rfl | rfl | rfl
  · exact ⟨_, h0, rfl, (hK 0 _ rfl).2⟩
  · exact ⟨_, h0, rfl, (hK 1 _ rfl).2⟩
  · exact ⟨_, h0, rfl, (hK 3 _ rfl).2⟩
  · exact ⟨_, h0, rfl, (hK 4 _ rfl).2⟩
def ySum : MethodName := ⟨"SunkTower$Sum", "value", "([I)I"⟩
def zSumOK (F : Nat → Nat → Nat → zM → (Int32 → zM → Prop) → Prop) (fa la : Nat) : Prop := ∀ (p : Program) (l : Launch) (e : Env) (R : Room) (s : State) (m : MethodId) (args : Array Value) (below : List Frame) (meth : Method) (c : Code) (H : Heap) (locs : List Loc) (cells slots : Nat) (cc : ByteArray) (nL : Nat) (own : String) (Γ : zG) (z : Nat) (A0 : Nat → Prop) (μ0 μ : zM) (b x1 index pc : Nat) (ls : Array Slot) (rest : List Value) (Qc : Int32 → zM → Prop), F z b x1 μ Qc → CallFix p m c cc nL s args lw_all own → zB Γ (cSh z) A0 μ0 s μ H locs → Cond.methodLink own index ySum ∈ lw_all → fa + 1 ≤ R.frames → 27 + la ≤ R.locals → ls.size = nL → (rest.map fun v => v.category).sum ≤ 8 → cells ≤ R.cells → slots ≤ R.slots → decode cc pc = .ok (.invokevirtual index, 3) → va_Run p l e R s m args below meth c H locs cells slots 0 0 (F0 m pc ls (.ref x1 :: .ref b :: rest)) rest (va_Qi Qc (zPost Γ (cSh z) μ) (zA μ) ([.ref b, .ref x1] : List Value).toArray) (zA μ)
section ZR7
variable {p : Program} {l : Launch} {e : Env} {R : Room} {s : State} {m : MethodId} {args : Array Value} {below : List Frame} {meth : Method} {c : Code} {H : Heap} {locs : List Loc} {cells slots : Nat} {Q : State → Prop}
variable {cc : ByteArray} {nL : Nat} {own : String} {pc : Nat} {ls : Array Slot} {rest : List Value} {Γ : zG} {Sh : zSh} {A : Nat → Prop} {μ0 μ : zM} {a : Nat}
theorem g_inst (S : CallFix p m c cc nL s args lw_all own) (hB : zB Γ Sh A μ0 s μ H locs) {h : Option Nat} {k index : Nat} (hk : k = 0 ∨ k = 1 ∨ k = 4) (hlink : Cond.classLink own index (zkn k) ∈ lw_all) (hh : zhd μ h) (hdg : decode cc pc = .ok (.instanceof index, 3))
    (kk : W p l e R s m args below meth c H locs cells slots Q (F0 m (pc + 3) ls (.int (zio μ h k) :: rest))) : W p l e R s m args below meth c H locs cells slots Q (F0 m pc ls (va_rf h :: rest)) := by
  cases h with
  | none => exact lv_instN S.1 S.2.1 hdg kk
  | some b =>
    obtain ⟨kd, n, ht, hkd⟩ := hh b rfl
    have hr := zarr_at hB ht hkd
    have hv : zio μ (some b) k = if kd = k then 1 else 0 := by unfold zio; simp only [ht]
    rw [hv] at kk
    by_cases e : kd = k
    · subst e
      rw [if_pos rfl] at kk
      exact va_instE S.1 S.2.1 S.2.2.2.1 (S.2.2.2.2 _ hlink) hr hdg kk
    · rw [if_neg e] at kk
      have hm : (zkn kd, zkn k) ∈ zNx := by
        rcases hkd with rfl | rfl | rfl | rfl <;> rcases hk with rfl | rfl | rfl <;> first | exact absurd rfl e | decide
      exact va_instNo S.1 S.2.1 S.2.2.2.1 (S.2.2.2.2 _ hlink) (hB.1.2.2.2.2.2.2.2 _ hm) hr hdg kk
theorem g_castA (S : CallFix p m c cc nL s args lw_all own) (hB : zB Γ Sh A μ0 s μ H locs) {k n index : Nat} (hk : k = 0 ∨ k = 1 ∨ k = 3 ∨ k = 4) (hlink : Cond.classLink own index (zkn k) ∈ lw_all) (ht : zty μ a = some (.inr (k, n))) (hdg : decode cc pc = .ok (.checkcast index, 3))
    (kk : W p l e R s m args below meth c H locs cells slots Q (F0 m (pc + 3) ls (.ref a :: rest))) : W p l e R s m args below meth c H locs cells slots Q (F0 m pc ls (.ref a :: rest)) :=
  va_castE S.1 S.2.1 S.2.2.2.1 (S.2.2.2.2 _ hlink) (zarr_at hB ht hk) hdg kk
theorem g_aast (S : CallFix p m c cc nL s args lw_all own) (hB : zB Γ Sh A μ0 s μ H locs) {kd n ci v : Nat} {r : vw_C} {i : Int32} (ht : zty μ a = some (.inr (kd, n))) (ht0 : (ztys Γ.2.1)[kd]? = some (Γ.2.1 kd, .object r.1)) (hq : ∀ ν : zM, zct kd ν a = .inr (.inr (.inr (.inr (zR ν a))))) (hv : zty μ v = some (.inl ci)) (hc : zcl[ci % 100]? = some r) (hi : vp_in i n) (hSh : Sh (zR (zsR μ a i.toNatClampNeg (some v))) (zty μ)) (hdg : decode cc pc = .ok (.aastore, 1))
    (kk : ∀ (H1 : Heap) (locs1 : List Loc), zB Γ Sh A μ0 s (zsR μ a i.toNatClampNeg (some v)) H1 locs1 → W p l e R s m args below meth c H1 locs1 cells slots Q (F0 m (pc + 1) ls rest)) : W p l e R s m args below meth c H locs cells slots Q (F0 m pc ls (.ref v :: .int i :: .ref a :: rest)) := by
  have hlt : i.toNatClampNeg < n := Nat.not_le.mp fun q => hi (Or.inr q)
  have h0 : ¬ i < 0 := fun q => hi (Or.inl q)
  have hK := hB.1.1
  obtain ⟨r', hr', cellV, g1, g2, g3, -⟩ := (hB.2.1 v _ hv : va_at Γ.1 zcl (v, .inr (ci % 100, zfs (ci % 100) μ v)) H)
  have hcls := (hK.1 (ci % 100) r hc).2
  obtain ⟨kA, comp, k1, k2, k3, -⟩ := (hK.2 kd _ ht0).2
  have hcomp : comp = Γ.1.1 (ci % 100) := Option.some.inj (k3.symm.trans hcls.1)
  subst hcomp
  obtain ⟨kC, hkC, -⟩ := hcls.2
  have hc0 : H[a]? = some (vp_cell (Γ.2.1 kd) (n, .inr (.inr (.inr (.inr (zR μ a)))))) := by
    have := hB.2.1 a _ ht
    rw [← hq μ]
    exact this
  refine W.aast S.1 S.2.1 hc0 (fun q h => by cases h) (fun h => by cases h) k1 k2 rfl hkC ⟨h0, by show _ < (arrV _ _ _).slots.size; rw [arrV_size]; exact hlt⟩ g1 (fun q h => by rw [g3] at h; cases h) (by rw [g2]; exact hkC) (by rw [g2]; exact va_assign hcls) rfl rfl hdg fun H1 e z oq => ?_
  refine kk H1 _ (hB.upd ht z oq ?_ zE_sR (fun _ => rfl) rfl hSh)
  show H1[a]? = some (vp_cell (Γ.2.1 kd) (n, zct kd (zsR μ a i.toNatClampNeg (some v)) a))
  rw [e, hq, vp_cell_q, vp_cell_q, arrV_store]
  congr 2
  funext q
  by_cases hq : q = i.toNatClampNeg
  · subst hq
    simp [updV, zR_sR, va_rf]
  · simp [updV, zR_sR, hq]
end ZR7
