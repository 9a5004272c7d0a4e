/-! making cells: a shape that bears new cells -/
def zpN (μ : zM) (t : zT) (K : Nat → zM → Prop) : Prop := K (znx μ) (zal μ t)
theorem zpN_e {μ : zM} {t : zT} {K : Nat → zM → Prop} (h : zpN μ t K) : ∃ a μ1, a = znx μ ∧ μ1 = zal μ t ∧ K a μ1 := ⟨_, _, rfl, rfl, h⟩
def zpT (μ : zM) (a : Nat) (t : zT) (K : zM → Prop) : Prop := K (zta μ a t)
theorem zpT_e {μ : zM} {a : Nat} {t : zT} {K : zM → Prop} (h : zpT μ a t K) : ∃ μ1, μ1 = zta μ a t ∧ K μ1 := ⟨_, rfl, h⟩
theorem zI_al (μ : zM) (t : zT) (b j : Nat) : zI (zal μ t) b j = if b = znx μ then 0 else zI μ b j := rfl
theorem zJ_al (μ : zM) (t : zT) (b j : Nat) : zJ (zal μ t) b j = if b = znx μ then 0 else zJ μ b j := rfl
theorem zR_al (μ : zM) (t : zT) (b j : Nat) : zR (zal μ t) b j = if b = znx μ then none else zR μ b j := rfl
theorem zty_al (μ : zM) (t : zT) (b : Nat) : zty (zal μ t) b = if b = znx μ then some t else zty μ b := rfl
theorem znx_al (μ : zM) (t : zT) : znx (zal μ t) = znx μ + 1 := rfl
theorem zI_ta (μ : zM) (a : Nat) (t : zT) (b j : Nat) : zI (zta μ a t) b j = zI μ b j := rfl
theorem zJ_ta (μ : zM) (a : Nat) (t : zT) (b j : Nat) : zJ (zta μ a t) b j = zJ μ b j := rfl
theorem zR_ta (μ : zM) (a : Nat) (t : zT) (b j : Nat) : zR (zta μ a t) b j = zR μ b j := rfl
theorem zty_ta (μ : zM) (a : Nat) (t : zT) (b : Nat) : zty (zta μ a t) b = if b = a then some t else zty μ b := rfl
theorem znx_ta (μ : zM) (a : Nat) (t : zT) : znx (zta μ a t) = znx μ := rfl
/-- what a cell of a class needs to count as whole -/
def zShp (z c : Nat) (R : Nat → Nat → Option Nat) (ty : Nat → Option zT) (a : Nat) : Prop := match c with
  | 1 => cRow R ty a cS1t
  | 2 => R a 7 = some z ∧ cRow R ty a cS2t
  | 3 => True
  | 5 => R a 10 = some z ∧ cRow R ty a cS5t
  | _ => False
/-- a shape that bears writes to raw cells, new cells, and cells that become whole -/
def zShOK (z : Nat) (Sh : zSh) : Prop :=
  (∀ (R : Nat → Nat → Option Nat) (ty : Nat → Option zT) (a k c : Nat) (x : Option Nat), Sh R ty → ty a = some (.inl c) → cKs c = [] → Sh (fun b j => if b = a ∧ j = k then x else R b j) ty) ∧
  (∀ (R : Nat → Nat → Option Nat) (ty : Nat → Option zT) (a : Nat) (t : zT), Sh R ty → ty a = none → (∀ c, t = .inl c → cKs c = []) → Sh (fun b j => if b = a then none else R b j) (fun b => if b = a then some t else ty b)) ∧
  (∀ (R : Nat → Nat → Option Nat) (ty : Nat → Option zT) (a c : Nat), Sh R ty → ty a = some (.inl (100 + c)) → zShp z c R ty a → Sh R (fun b => if b = a then some (.inl c) else ty b)) ∧
  (∀ (R : Nat → Nat → Option Nat) (ty : Nat → Option zT) (a k : Nat) (q : Nat × Nat) (x : Option Nat), Sh R ty → ty a = some (.inr q) → Sh (fun b j => if b = a ∧ j = k then x else R b j) ty)
def zTr : zSh := fun _ _ => True
theorem zTr_ok {z : Nat} : zShOK z zTr := ⟨fun _ _ _ _ _ _ _ _ _ => trivial, fun _ _ _ _ _ _ _ => trivial, fun _ _ _ _ _ _ _ => trivial, fun _ _ _ _ _ _ _ _ => trivial⟩
theorem cRow_al {R : Nat → Nat → Option Nat} {ty : Nat → Option zT} {a b : Nat} {t : zT} {tb : List (Nat × Nat × zT)} (hn : ty a = none) (hb : b ≠ a) (h : cRow R ty b tb) : cRow (fun b j => if b = a then none else R b j) (fun b => if b = a then some t else ty b) b tb := by
  intro i q hq
  obtain ⟨h1, h2⟩ := h i q hq
  refine ⟨?_, ?_⟩
  · show (if b = a then none else R b q.1) = _
    rw [if_neg hb]; exact h1
  · show (if b + q.2.1 = a then some t else ty (b + q.2.1)) = _
    rw [if_neg (fun e => by rw [e, hn] at h2; cases h2)]
    exact h2
theorem cRow_ta {R : Nat → Nat → Option Nat} {ty : Nat → Option zT} {a b c : Nat} {tb : List (Nat × Nat × zT)} (hn : ty a = some (.inl (100 + c))) (hq0 : ∀ q ∈ tb, ∀ c, q.2.2 ≠ .inl (100 + c)) (h : cRow R ty b tb) : cRow R (fun b => if b = a then some (.inl c) else ty b) b tb := by
  intro i q hq
  obtain ⟨h1, h2⟩ := h i q hq
  refine ⟨h1, ?_⟩
  show (if b + q.2.1 = a then some (.inl c) else ty (b + q.2.1)) = _
  rw [if_neg (fun e => by rw [e, hn] at h2; exact hq0 q (List.mem_of_getElem? hq) c (Option.some.inj h2).symm)]
  exact h2
theorem zraw_no (tb : List (Nat × Nat × zT)) (h : tb.all (fun q => !(zraw q.2.2)) = true) : ∀ q ∈ tb, ∀ c, q.2.2 ≠ .inl (100 + c) := by
  intro q hq c e
  have h1 := List.all_eq_true.mp h q hq
  rw [e] at h1
  simp [zraw] at h1
theorem cSh_ok {z : Nat} : zShOK z (cSh z) := by
  refine ⟨fun R ty a k c x h ht hk => cSh_set h ht (fun c' e => by cases e; rw [hk]; simp), fun R ty a t h hn hk => ?_, fun R ty a c h ht hs => ?_, fun R ty a k q x h ht => cSh_set h ht (fun c' e => by cases e)⟩
  · have ne : ∀ {b : Nat} {u : zT}, ty b = some u → b ≠ a := fun hb e => by rw [e, hn] at hb; cases hb
    have old : ∀ {b c : Nat}, (if b = a then some t else ty b) = some (.inl c) → cKs c ≠ [] → ty b = some (.inl c) := by
      intro b c hb hc
      by_cases e : b = a
      · rw [if_pos e] at hb
        exact absurd (hk c (Option.some.inj hb)) hc
      · rw [if_neg e] at hb
        exact hb
    refine ⟨?_, cRow_al hn (ne h.1) h.2.1, fun b hb => ?_, fun b hb => ?_, fun b hb => ?_⟩
    · show (if z = a then some t else ty z) = _
      rw [if_neg (ne h.1)]; exact h.1
    · have hb := old hb (by decide)
      exact cRow_al hn (ne hb) (h.2.2.1 b hb)
    · have hb := old hb (by decide)
      refine ⟨?_, cRow_al hn (ne hb) (h.2.2.2.1 b hb).2⟩
      show (if b = a then none else R b 7) = _
      rw [if_neg (ne hb)]; exact (h.2.2.2.1 b hb).1
    · have hb := old hb (by decide)
      refine ⟨?_, cRow_al hn (ne hb) (h.2.2.2.2 b hb).2⟩
      show (if b = a then none else R b 10) = _
      rw [if_neg (ne hb)]; exact (h.2.2.2.2 b hb).1
  · have old : ∀ {b c' : Nat}, (if b = a then some (.inl c) else ty b) = some (.inl c') → (b = a ∧ c = c') ∨ ty b = some (.inl c') := by
      intro b c' hb
      by_cases e : b = a
      · rw [if_pos e] at hb
        cases hb
        exact Or.inl ⟨e, rfl⟩
      · rw [if_neg e] at hb
        exact Or.inr hb
    refine ⟨?_, cRow_ta ht (zraw_no _ (by decide)) h.2.1, fun b hb => ?_, fun b hb => ?_, fun b hb => ?_⟩
    · show (if z = a then some (.inl c) else ty z) = _
      rw [if_neg (fun e => by rw [← e] at ht; have q := Sum.inl.inj (Option.some.inj (ht.symm.trans h.1)); omega)]
      exact h.1
    · rcases old hb with ⟨rfl, rfl⟩ | hb
      · exact cRow_ta ht (zraw_no _ (by decide)) hs
      · exact cRow_ta ht (zraw_no _ (by decide)) (h.2.2.1 b hb)
    · rcases old hb with ⟨rfl, rfl⟩ | hb
      · exact ⟨hs.1, cRow_ta ht (zraw_no _ (by decide)) hs.2⟩
      · exact ⟨(h.2.2.2.1 b hb).1, cRow_ta ht (zraw_no _ (by decide)) (h.2.2.2.1 b hb).2⟩
    · rcases old hb with ⟨rfl, rfl⟩ | hb
      · exact ⟨hs.1, cRow_ta ht (zraw_no _ (by decide)) hs.2⟩
      · exact ⟨(h.2.2.2.2 b hb).1, cRow_ta ht (zraw_no _ (by decide)) (h.2.2.2.2 b hb).2⟩
theorem zB.fresh {Γ : zG} {Sh : zSh} {A : Nat → Prop} {μ0 μ : zM} {s : State} {H : Heap} {locs : List Loc} (hB : zB Γ Sh A μ0 s μ H locs) {a : Nat} {t : zT} (h : zty μ a = some t) : a < znx μ := by
  have h1 := (hB.2.1 a t h).lt
  rw [hB.2.2.2.2.2.1]
  exact h1
theorem zB.fresh' {Γ : zG} {Sh : zSh} {A : Nat → Prop} {μ0 μ : zM} {s : State} {H : Heap} {locs : List Loc} (hB : zB Γ Sh A μ0 s μ H locs) : zty μ (znx μ) = none := by
  cases h : zty μ (znx μ) with
  | none => rfl
  | some t => exact absurd (hB.fresh h) (Nat.lt_irrefl _)
theorem zE_al {dA : Nat → ClassId} {μ : zM} {t : zT} (b : Nat) (u : zT) (hb : b ≠ znx μ) : zE dA (zal μ t) b u = zE dA μ b u := by
  have e1 : zI (zal μ t) b = zI μ b := by funext j; rw [zI_al, if_neg hb]
  have e2 : zJ (zal μ t) b = zJ μ b := by funext j; rw [zJ_al, if_neg hb]
  have e3 : zR (zal μ t) b = zR μ b := by funext j; rw [zR_al, if_neg hb]
  cases u with
  | inl c =>
    have : zfs (c % 100) (zal μ t) b = zfs (c % 100) μ b := by
      unfold zfs
      refine List.map_congr_left (fun j _ => ?_)
      unfold zfv
      rw [e1, e2, e3]
    exact congrArg (fun l => (Sum.inr (c % 100, l) : va_E)) this
  | inr q =>
    have : zct q.1 (zal μ t) b = zct q.1 μ b := by
      unfold zct
      rw [e1, e2, e3]
    exact congrArg (fun l => (Sum.inl (dA q.1, q.2, l) : va_E)) this
theorem zB.alloc {Γ : zG} {Sh : zSh} {A : Nat → Prop} {μ0 μ : zM} {s : State} {H H' : Heap} {locs : List Loc} (h : zB Γ Sh A μ0 s μ H locs) {t : zT} (hat : va_at Γ.1 zcl (znx μ, zE Γ.2.1 (zal μ t) (znx μ) t) H') (z1 : H'.size = H.size + 1) (o1 : ∀ q, q < H.size → H'[q]? = H[q]?) (hSh : Sh (zR (zal μ t)) (zty (zal μ t))) : zB Γ Sh A μ0 s (zal μ t) H' locs := by
  have hf := h.fresh'
  obtain ⟨h1, h2, h3, h4, h5, h6, h7, h8, h9⟩ := h
  refine ⟨h1, fun b u hb => ?_, fun b u hb => ?_, ⟨by rw [z1]; exact Nat.le_succ_of_le h4.1, fun q a1 a2 => (o1 q (Nat.lt_of_lt_of_le a1 h4.1)).trans (h4.2.1 q a1 a2), h4.2.2⟩, h5, by rw [znx_al, z1, h6], hSh, h8, ⟨by rw [znx_al]; exact Nat.le_succ_of_le h9.1, fun b u hb hr => ?_⟩⟩
  · rw [zty_al] at hb
    by_cases e : b = znx μ
    · rw [if_pos e] at hb
      cases hb
      rw [e]
      exact hat
    · rw [if_neg e] at hb
      rw [zE_al b u e]
      have h0 := h2 b u hb
      exact h0.kept (o1 b h0.lt)
  · rw [zty_al] at hb
    by_cases e : b = znx μ
    · rw [e, h6]
      exact h5 _ h4.1
    · rw [if_neg e] at hb
      exact h3 b u hb
  · have h0 := h9.2 b u hb hr
    rw [zty_al, if_neg (fun e => by rw [e, hf] at h0; cases h0)]
    exact h0
/-- a raw cell becomes whole -/
theorem zB.tag {Γ : zG} {Sh Sh' : zSh} {A : Nat → Prop} {μ0 μ : zM} {s : State} {H : Heap} {locs : List Loc} (h : zB Γ Sh A μ0 s μ H locs) {a c : Nat} (hc : c < 100) (ht : zty μ a = some (.inl (100 + c))) (hSh : Sh' (zR (zta μ a (.inl c))) (zty (zta μ a (.inl c)))) : zB Γ Sh' A μ0 s (zta μ a (.inl c)) H locs := by
  obtain ⟨h1, h2, h3, h4, h5, h6, h7, h8, h9⟩ := h
  refine ⟨h1, fun b u hb => ?_, fun b u hb => ?_, h4, h5, h6, hSh, h8, ⟨h9.1, fun b u hb hr => ?_⟩⟩
  · rw [zty_ta] at hb
    by_cases e : b = a
    · rw [if_pos e] at hb
      cases hb
      have h0 := h2 a _ ht
      rw [e]
      have e2 : zE Γ.2.1 (zta μ a (.inl c)) a (.inl c) = zE Γ.2.1 μ a (.inl (100 + c)) := by
        show (Sum.inr (c % 100, zfs (c % 100) μ a) : va_E) = Sum.inr ((100 + c) % 100, zfs ((100 + c) % 100) μ a)
        rw [Nat.add_mod_left]
      rw [e2]
      exact h0
    · rw [if_neg e] at hb
      exact h2 b u hb
  · rw [zty_ta] at hb
    by_cases e : b = a
    · rw [e]
      exact h3 a _ ht
    · rw [if_neg e] at hb
      exact h3 b u hb
  · have h0 := h9.2 b u hb hr
    rw [zty_ta, if_neg (fun e => by
      rw [e, ht] at h0
      cases h0
      simp [zraw] at hr)]
    exact h0
theorem zB.shape {Γ : zG} {Sh Sh' : zSh} {A : Nat → Prop} {μ0 μ : zM} {s : State} {H : Heap} {locs : List Loc} (h : zB Γ Sh A μ0 s μ H locs) (hs : Sh' (zR μ) (zty μ)) : zB Γ Sh' A μ0 s μ H locs := by
  obtain ⟨h1, h2, h3, h4, h5, h6, h7, h8, h9⟩ := h
  exact ⟨h1, h2, h3, h4, h5, h6, hs, h8, h9⟩
section ZR8
variable {p : Program} {l : Launch} {e : Env} {R : Room} {s : State} {m : MethodId} {args : Array Value} {below : List Frame} {meth : Method} {c : Code} {H : Heap} {locs : List Loc} {cells slots : Nat} {Q : State → Prop}
variable {cc : ByteArray} {nL : Nat} {own : String} {pc : Nat} {ls : Array Slot} {rest : List Value} {Γ : zG} {Sh : zSh} {A : Nat → Prop} {μ0 μ : zM} {a : Nat}
theorem g_new (S : CallFix p m c cc nL s args lw_all own) (hB : zB Γ Sh A μ0 s μ H locs) {ci cI N index : Nat} {C : String} {T : u_T} (ha : a = znx μ) (hcI : ci % 100 = cI) (hc : zcl[cI]? = some (C, T, N)) (hin : ∀ w ∈ u_ws C T N, w ∈ lw_all) (ty : Nat → FieldType) (hty : ∀ k, k < N → parseFieldDescriptor (T k).2.2.1 = some (ty k)) (hN : zN cI = N) (hdef : ∀ j, j < N → ∀ ν : zM, ∀ b : Nat, zI ν b j = 0 → zJ ν b j = 0 → zR ν b j = none → defaultValue (ty j) = zfv cI j ν b) (hcl : Cond.classLink own index C ∈ lw_all) (hins : Cond.instantiable C N ∈ lw_all) (hini : Cond.initialized C ∈ lw_all) (hcells : cells + 1 ≤ R.cells) (hslots : slots + N ≤ R.slots) (hSh : Sh (zR (zal μ (.inl ci))) (zty (zal μ (.inl ci)))) (hdg : decode cc pc = .ok (.new index, 3))
    (kk : ∀ (H1 : Heap), zB Γ Sh A μ0 s (zal μ (.inl ci)) H1 locs → W p l e R s m args below meth c H1 locs (cells + 1) (slots + N) Q (F0 m (pc + 3) ls (.ref a :: rest))) : W p l e R s m args below meth c H locs cells slots Q (F0 m pc ls rest) := by
  subst hcI
  have hKn := hB.1.1.1 (ci % 100) _ hc
  refine W.newcK S.1 S.2.1 S.2.2.2.1 (S.2.2.2.2 _ hcl) (S.2.2.2.2 _ hins) (S.2.2.2.2 _ hini) rfl hdg hcells hslots hKn.2.1 rfl fun H1 kC hkC e1 z1 o1 => ?_
  have hsz := hB.2.2.2.2.2.1
  refine W.eq (g2 := F0 m (pc + 3) ls (.ref a :: rest)) (by rw [ha, hsz]) ?_
  refine kk H1 (hB.alloc ?_ z1 o1 hSh)
  show va_at Γ.1 zcl (znx μ, .inr (ci % 100, zfs (ci % 100) (zal μ (.inl ci)) (znx μ))) H1
  refine ⟨_, hc, (u_born ty S.2.2.2.2 hin hKn hkC (by rw [hsz]; exact e1) hty).to (fun j hj => ?_)⟩
  show defaultValue (ty j) = vp_V (zfs (ci % 100) (zal μ (.inl ci)) (znx μ)) j
  unfold vp_V
  rw [List.getD_eq_getElem?_getD, zfs_get (by rw [hN]; exact hj)]
  exact hdef j hj _ _ (by rw [zI_al, if_pos rfl]) (by rw [zJ_al, if_pos rfl]) (by rw [zR_al, if_pos rfl])
theorem g_newa (S : CallFix p m c cc nL s args lw_all own) (hB : zB Γ Sh A μ0 s μ H locs) {kd N : Nat} {n : Int32} {atype : ArrayType} {ty : FieldType} (ha : a = znx μ) (hT : newarray.typeOf atype = ty) (hw : Cond.arrayClass ty ∈ lw_all) (ht0 : (ztys Γ.2.1)[kd]? = some (Γ.2.1 kd, ty)) (hRA : ∀ (U : State) (cA : ClassId), va_RA U cA ty → U.vm.findClass ("[" ++ ty.toString) = some cA) (hdef : ∀ ν : zM, ∀ b : Nat, (∀ j, zI ν b j = 0) → (∀ j, zJ ν b j = 0) → ∀ cA : ClassId, vp_cell cA (N, zct kd ν b) = arrV cA N (fun _ => defaultValue ty)) (hn : ¬ n < 0) (hN : n.toNatClampNeg = N) (hbytes : N * componentBytes ty ≤ 536870912) (hcells : cells + 1 ≤ R.cells) (hslots : slots + N ≤ R.slots) (hSh : Sh (zR (zal μ (.inr (kd, N)))) (zty (zal μ (.inr (kd, N))))) (hdg : decode cc pc = .ok (.newarray atype, 2))
    (kk : ∀ (H1 : Heap), zB Γ Sh A μ0 s (zal μ (.inr (kd, N))) H1 locs → W p l e R s m args below meth c H1 locs (cells + 1) (slots + N) Q (F0 m (pc + 2) ls (.ref a :: rest))) : W p l e R s m args below meth c H locs cells slots Q (F0 m pc ls (.int n :: rest)) := by
  subst hT
  have hsz := hB.2.2.2.2.2.1
  refine va_newaK S.1 S.2.1 (S.2.2.2.2 _ hw) rfl hdg rfl hn hN hbytes hcells hslots rfl fun H1 cA e1 z1 o1 hAr hNm => ?_
  have hcA : cA = Γ.2.1 kd := Option.some.inj (hNm.symm.trans (hRA s _ (hB.1.1.2 kd _ ht0).2))
  refine W.eq (g2 := F0 m (pc + 2) ls (.ref a :: rest)) (by rw [ha, hsz]) ?_
  refine kk H1 (hB.alloc ?_ z1 o1 hSh)
  show H1[znx μ]? = some (vp_cell (Γ.2.1 kd) (N, zct kd (zal μ (.inr (kd, N))) (znx μ)))
  rw [hdef _ _ (fun j => by rw [zI_al, if_pos rfl]) (fun j => by rw [zJ_al, if_pos rfl]), ← hcA, hsz]
  exact e1
theorem g_newq (S : CallFix p m c cc nL s args lw_all own) (hB : zB Γ Sh A μ0 s μ H locs) {kd N index : Nat} {n : Int32} {C : String} (ha : a = znx μ) (hcl : Cond.classLink own index C ∈ lw_all) (hO : C ∈ zNO) (ht0 : (ztys Γ.2.1)[kd]? = some (Γ.2.1 kd, .object C)) (hq : ∀ ν : zM, ∀ b : Nat, zct kd ν b = .inr (.inr (.inr (.inr (zR ν b))))) (hn : ¬ n < 0) (hN : n.toNatClampNeg = N) (hbytes : N * 4 ≤ 536870912) (hcells : cells + 1 ≤ R.cells) (hslots : slots + N ≤ R.slots) (hSh : Sh (zR (zal μ (.inr (kd, N)))) (zty (zal μ (.inr (kd, N))))) (hdg : decode cc pc = .ok (.anewarray index, 3))
    (kk : ∀ (H1 : Heap), zB Γ Sh A μ0 s (zal μ (.inr (kd, N))) H1 locs → W p l e R s m args below meth c H1 locs (cells + 1) (slots + N) Q (F0 m (pc + 3) ls (.ref a :: rest))) : W p l e R s m args below meth c H locs cells slots Q (F0 m pc ls (.int n :: rest)) := by
  subst hN
  have hsz := hB.2.2.2.2.2.1
  refine W.anew S.1 S.2.1 S.2.2.2.1 (S.2.2.2.2 _ hcl) (va_AO.use (hB.1.2.2.2.2.2.2.1 _ hO)) rfl hdg rfl hn hbytes hcells hslots fun cA kA comp h1 h2 h3 h4 => ?_
  obtain ⟨kA', comp', g1, g2, g3, g4⟩ := (hB.1.1.2 kd _ ht0).2
  have hcA : cA = Γ.2.1 kd := Option.some.inj (h1.symm.trans g4)
  refine W.eq (g2 := F0 m (pc + 3) ls (.ref a :: rest)) (by rw [ha, hsz]) ?_
  refine kk _ (hB.alloc ?_ (by simp) (fun q hq => by rw [Array.getElem?_push, if_neg (Nat.ne_of_lt hq)]) hSh)
  show (H.push _)[znx μ]? = some (vp_cell (Γ.2.1 kd) (n.toNatClampNeg, zct kd (zal μ (.inr (kd, n.toNatClampNeg))) (znx μ)))
  rw [hq, vp_cell_q, hsz, ← hcA]
  have e0 : (fun j => va_rf (zR (zal μ (.inr (kd, n.toNatClampNeg))) H.size j)) = fun _ => Value.null := by
    funext j
    rw [zR_al, if_pos hsz.symm]
    rfl
  rw [e0]
  rw [← arrV_new]
  simp

theorem g_putFI (S : CallFix p m c cc nL s args lw_all own) (hB : zB Γ Sh A μ0 s μ H locs) {ci cI N index : Nat} {C ref : String} {T : u_T} (ht : zty μ a = some (.inl ci)) (hcI : ci % 100 = cI) (hc : zcl[cI]? = some (C, T, N)) (hin : ∀ w ∈ u_ws C T N, w ∈ lw_all) (k : Nat) (hk : k < N) (hkz : k < zN cI) {x : Int32} (ty0 : Nat → FieldType) (hty : ∀ k, k < N → parseFieldDescriptor (T k).2.2.1 = some (ty0 k)) (hnm : ∀ a, a < N → ∀ b, b < N → a ≠ b → (T a).2.1 ≠ (T b).2.1) (hlink : (Cond.fieldLink own index ref (T k).2.1 (T k).2.2.1) ∈ lw_all) (hsame : ∀ x, s.fieldFound? (T k).1 (T k).2.1 (T k).2.2.1 = some x → s.fieldFound? ref (T k).2.1 (T k).2.2.1 = some x) (hfin : (T k).2.2.2 = true) (hin2 : meth.name = "<init>") (hdecl : (T k).1 = own) {ty : FieldType} (hd : parseFieldDescriptor (T k).2.2.1 = some ty) (hfits : fits ty (.int x) = true) (hnar : narrow ty (.int x) = .int x) (hkd : ∀ ν : zM, ∀ b : Nat, zfv cI k ν b = .int (zI ν b k))  (hdg : decode cc pc = .ok (.putfield index, 3))
    (kk : ∀ (H1 : Heap) (locs1 : List Loc), zB Γ Sh A μ0 s (zsI μ a k x) H1 locs1 → W p l e R s m args below meth c H1 locs1 cells slots Q (F0 m (pc + 3) ls rest)) : W p l e R s m args below meth c H locs cells slots Q (F0 m pc ls (.int x :: .ref a :: rest)) := by
  subst hcI
  have hK := hB.1.1
  have hap := va_apart (own := own) S.2.2.2.2 hin ty0 hty hnm hK hc
  have h0 : va_at Γ.1 zcl (a, .inr (ci % 100, zfs (ci % 100) μ a)) H := hB.2.1 a _ ht
  obtain ⟨r, h1, cell, q1, q2, q3, q4⟩ := h0
  have hr : r = (C, T, N) := Option.some.inj (h1.symm.trans hc)
  subst hr
  obtain ⟨hS, hfc, kC, hkC, hkind⟩ := hK.1 (ci % 100) _ hc
  obtain ⟨cf, kf, fi, f, hi, hsl⟩ := hS k hk
  have hlay := S.2.2.2.2 _ (hin _ (u_in_lay hk))
  unfold u_lay at hlay
  rw [if_pos hfin] at hlay
  have hst := (u_facts hfc hkC (u_lays S.2.2.2.2 hin hk) hi).1
  have hcf : m.cls = cf := by
    obtain ⟨_, _, c', _, _, _, -, -, hf', -, -, -, hown2, -⟩ := Cond.laysFinal_spec hlay
    have e1 : c' = cf := by have := hi.symm.trans hf'; simp at this; exact this.1.symm
    rw [hdecl] at hown2
    rw [← e1]; exact Option.some.inj (S.2.2.2.1.symm.trans hown2)
  have h6 := u_fits hfc hkC hkind (Or.inr hlay) hi hd hnar hfits
  refine W.putFinK S.1 S.2.1 S.2.2.2.1 (S.2.2.2.2 _ hlink) (hsame _ hi) hst hcf hin2 (by rw [q2]; exact h6) q1 q3 (by rw [hsl]; exact k2_hasslot (q4 k hk)) rfl rfl hdg fun H' e1 e2 e3 => ?_
  rw [hsl] at e1 ⊢
  have hset : zfs (ci % 100) (zsI μ a k x) a = (zfs (ci % 100) μ a).set k (.int x) := by
    refine zfs_set hkz ?_ (fun j hj => ?_)
    · rw [hkd, zI_sI, if_pos ⟨rfl, rfl⟩]
    · unfold zfv
      rw [zI_sI, if_neg (fun q => hj q.2)]
      rfl
  refine kk H' _ (hB.upd ht e2 e3 ?_ zE_sI (fun _ => rfl) rfl hB.2.2.2.2.2.2.1)
  show va_at Γ.1 zcl (a, .inr (ci % 100, zfs (ci % 100) (zsI μ a k x) a)) H'
  rw [hset]
  exact ⟨_, hc, t_OB.to (V := updV (vp_V (zfs (ci % 100) μ a)) k (.int x)) ⟨_, e1, q2, q3, t_set q4 hap hk (.int x)⟩ (fun j _ => vp_updV_set (by rw [zfs_len]; exact hkz) (.int x) j)⟩
theorem g_putFR (S : CallFix p m c cc nL s args lw_all own) (hB : zB Γ Sh A μ0 s μ H locs) {ci cI N index : Nat} {C ref : String} {T : u_T} (ht : zty μ a = some (.inl ci)) (hcI : ci % 100 = cI) (hc : zcl[cI]? = some (C, T, N)) (hin : ∀ w ∈ u_ws C T N, w ∈ lw_all) (k : Nat) (hk : k < N) (hkz : k < zN cI) {x : Option Nat} (ty0 : Nat → FieldType) (hty : ∀ k, k < N → parseFieldDescriptor (T k).2.2.1 = some (ty0 k)) (hnm : ∀ a, a < N → ∀ b, b < N → a ≠ b → (T a).2.1 ≠ (T b).2.1) (hlink : (Cond.fieldLink own index ref (T k).2.1 (T k).2.2.1) ∈ lw_all) (hsame : ∀ x, s.fieldFound? (T k).1 (T k).2.1 (T k).2.2.1 = some x → s.fieldFound? ref (T k).2.1 (T k).2.2.1 = some x) (hfin : (T k).2.2.2 = true) (hin2 : meth.name = "<init>") (hdecl : (T k).1 = own) {ty : FieldType} (hd : parseFieldDescriptor (T k).2.2.1 = some ty) (hfits : fits ty (va_rf x) = true) (hnar : narrow ty (va_rf x) = va_rf x) (hkd : ∀ ν : zM, ∀ b : Nat, zfv cI k ν b = va_rf (zR ν b k)) (hSh : Sh (zR (zsR μ a k x)) (zty μ)) (hdg : decode cc pc = .ok (.putfield index, 3))
    (kk : ∀ (H1 : Heap) (locs1 : List Loc), zB Γ Sh A μ0 s (zsR μ a k x) H1 locs1 → W p l e R s m args below meth c H1 locs1 cells slots Q (F0 m (pc + 3) ls rest)) : W p l e R s m args below meth c H locs cells slots Q (F0 m pc ls (va_rf x :: .ref a :: rest)) := by
  subst hcI
  have hK := hB.1.1
  have hap := va_apart (own := own) S.2.2.2.2 hin ty0 hty hnm hK hc
  have h0 : va_at Γ.1 zcl (a, .inr (ci % 100, zfs (ci % 100) μ a)) H := hB.2.1 a _ ht
  obtain ⟨r, h1, cell, q1, q2, q3, q4⟩ := h0
  have hr : r = (C, T, N) := Option.some.inj (h1.symm.trans hc)
  subst hr
  obtain ⟨hS, hfc, kC, hkC, hkind⟩ := hK.1 (ci % 100) _ hc
  obtain ⟨cf, kf, fi, f, hi, hsl⟩ := hS k hk
  have hlay := S.2.2.2.2 _ (hin _ (u_in_lay hk))
  unfold u_lay at hlay
  rw [if_pos hfin] at hlay
  have hst := (u_facts hfc hkC (u_lays S.2.2.2.2 hin hk) hi).1
  have hcf : m.cls = cf := by
    obtain ⟨_, _, c', _, _, _, -, -, hf', -, -, -, hown2, -⟩ := Cond.laysFinal_spec hlay
    have e1 : c' = cf := by have := hi.symm.trans hf'; simp at this; exact this.1.symm
    rw [hdecl] at hown2
    rw [← e1]; exact Option.some.inj (S.2.2.2.1.symm.trans hown2)
  have h6 := u_fits hfc hkC hkind (Or.inr hlay) hi hd hnar hfits
  refine W.putFinK S.1 S.2.1 S.2.2.2.1 (S.2.2.2.2 _ hlink) (hsame _ hi) hst hcf hin2 (by rw [q2]; exact h6) q1 q3 (by rw [hsl]; exact k2_hasslot (q4 k hk)) rfl rfl hdg fun H' e1 e2 e3 => ?_
  rw [hsl] at e1 ⊢
  have hset : zfs (ci % 100) (zsR μ a k x) a = (zfs (ci % 100) μ a).set k (va_rf x) := by
    refine zfs_set hkz ?_ (fun j hj => ?_)
    · rw [hkd, zR_sR, if_pos ⟨rfl, rfl⟩]
    · unfold zfv
      rw [zR_sR, if_neg (fun q => hj q.2)]
      rfl
  refine kk H' _ (hB.upd ht e2 e3 ?_ zE_sR (fun _ => rfl) rfl hSh)
  show va_at Γ.1 zcl (a, .inr (ci % 100, zfs (ci % 100) (zsR μ a k x) a)) H'
  rw [hset]
  exact ⟨_, hc, t_OB.to (V := updV (vp_V (zfs (ci % 100) μ a)) k (va_rf x)) ⟨_, e1, q2, q3, t_set q4 hap hk (va_rf x)⟩ (fun j _ => vp_updV_set (by rw [zfs_len]; exact hkz) (va_rf x) j)⟩
end ZR8
theorem zfits_a (t : FieldType) (r : Option Nat) : fits (.array t) (va_rf r) = true := by cases r <;> rfl
theorem znar_a (t : FieldType) (r : Option Nat) : narrow (.array t) (va_rf r) = va_rf r := by cases r <;> rfl
theorem zdefX0 : ∀ j, j < 33 → ∀ ν : zM, ∀ b : Nat, zI ν b j = 0 → zJ ν b j = 0 → zR ν b j = none → defaultValue (tyX0 j) = zfv 0 j ν b := by
  intro j hj ν b h1 h2 h3
  rcases (show j = 0 ∨ j = 1 ∨ j = 2 ∨ j = 3 ∨ j = 4 ∨ j = 5 ∨ j = 6 ∨ j = 7 ∨ j = 8 ∨ j = 9 ∨ j = 10 ∨ j = 11 ∨ j = 12 ∨ j = 13 ∨ j = 14 ∨ j = 15 ∨ j = 16 ∨ j = 17 ∨ j = 18 ∨ j = 19 ∨ j = 20 ∨ j = 21 ∨ j = 22 ∨ j = 23 ∨ j = 24 ∨ j = 25 ∨ j = 26 ∨ j = 27 ∨ j = 28 ∨ j = 29 ∨ j = 30 ∨ j = 31 ∨ j = 32 by omega) with rfl | rfl | rfl | rfl | rfl | rfl | rfl | rfl | rfl | rfl | rfl | rfl | rfl | rfl | rfl | rfl | rfl | rfl | rfl | rfl | rfl | rfl | rfl | rfl | rfl | rfl | rfl | rfl | rfl | rfl | rfl | rfl | rfl
  · show Value.null = va_rf _; rw [h3]; rfl
  · show Value.null = va_rf _; rw [h3]; rfl
  · show Value.null = va_rf _; rw [h3]; rfl
  · show Value.null = va_rf _; rw [h3]; rfl
  · show Value.int 0 = Value.int _; rw [h1]
  · show Value.int 0 = Value.int _; rw [h1]
  · show Value.int 0 = Value.int _; rw [h1]
  · show Value.null = va_rf _; rw [h3]; rfl
  · show Value.int 0 = Value.int _; rw [h1]
  · show Value.int 0 = Value.int _; rw [h1]
  · show Value.int 0 = Value.int _; rw [h1]
  · show Value.null = va_rf _; rw [h3]; rfl
  · show Value.null = va_rf _; rw [h3]; rfl
  · show Value.int 0 = Value.int _; rw [h1]
  · show Value.null = va_rf _; rw [h3]; rfl
  · show Value.null = va_rf _; rw [h3]; rfl
  · show Value.null = va_rf _; rw [h3]; rfl
  · show Value.null = va_rf _; rw [h3]; rfl
  · show Value.int 0 = Value.int _; rw [h1]
  · show Value.int 0 = Value.int _; rw [h1]
  · show Value.null = va_rf _; rw [h3]; rfl
  · show Value.null = va_rf _; rw [h3]; rfl
  · show Value.int 0 = Value.int _; rw [h1]
  · show Value.int 0 = Value.int _; rw [h1]
  · show Value.long 0 = Value.long _; rw [h2]
  · show Value.null = va_rf _; rw [h3]; rfl
  · show Value.null = va_rf _; rw [h3]; rfl
  · show Value.null = va_rf _; rw [h3]; rfl
  · show Value.null = va_rf _; rw [h3]; rfl
  · show Value.null = va_rf _; rw [h3]; rfl
  · show Value.null = va_rf _; rw [h3]; rfl
  · show Value.null = va_rf _; rw [h3]; rfl
  · show Value.null = va_rf _; rw [h3]; rfl
theorem zdefX1 : ∀ j, j < 16 → ∀ ν : zM, ∀ b : Nat, zI ν b j = 0 → zJ ν b j = 0 → zR ν b j = none → defaultValue (tyX1 j) = zfv 1 j ν b := by
  intro j hj ν b h1 h2 h3
  rcases (show j = 0 ∨ j = 1 ∨ j = 2 ∨ j = 3 ∨ j = 4 ∨ j = 5 ∨ j = 6 ∨ j = 7 ∨ j = 8 ∨ j = 9 ∨ j = 10 ∨ j = 11 ∨ j = 12 ∨ j = 13 ∨ j = 14 ∨ j = 15 by omega) with rfl | rfl | rfl | rfl | rfl | rfl | rfl | rfl | rfl | rfl | rfl | rfl | rfl | rfl | rfl | rfl
  · show Value.null = va_rf _; rw [h3]; rfl
  · show Value.null = va_rf _; rw [h3]; rfl
  · show Value.null = va_rf _; rw [h3]; rfl
  · show Value.null = va_rf _; rw [h3]; rfl
  · show Value.null = va_rf _; rw [h3]; rfl
  · show Value.int 0 = Value.int _; rw [h1]
  · show Value.int 0 = Value.int _; rw [h1]
  · show Value.int 0 = Value.int _; rw [h1]
  · show Value.int 0 = Value.int _; rw [h1]
  · show Value.int 0 = Value.int _; rw [h1]
  · show Value.int 0 = Value.int _; rw [h1]
  · show Value.int 0 = Value.int _; rw [h1]
  · show Value.int 0 = Value.int _; rw [h1]
  · show Value.null = va_rf _; rw [h3]; rfl
  · show Value.null = va_rf _; rw [h3]; rfl
  · show Value.null = va_rf _; rw [h3]; rfl
theorem zdefX2 : ∀ j, j < 8 → ∀ ν : zM, ∀ b : Nat, zI ν b j = 0 → zJ ν b j = 0 → zR ν b j = none → defaultValue (tyX2 j) = zfv 2 j ν b := by
  intro j hj ν b h1 h2 h3
  rcases (show j = 0 ∨ j = 1 ∨ j = 2 ∨ j = 3 ∨ j = 4 ∨ j = 5 ∨ j = 6 ∨ j = 7 by omega) with rfl | rfl | rfl | rfl | rfl | rfl | rfl | rfl
  · show Value.null = va_rf _; rw [h3]; rfl
  · show Value.null = va_rf _; rw [h3]; rfl
  · show Value.null = va_rf _; rw [h3]; rfl
  · show Value.int 0 = Value.int _; rw [h1]
  · show Value.int 0 = Value.int _; rw [h1]
  · show Value.int 0 = Value.int _; rw [h1]
  · show Value.int 0 = Value.int _; rw [h1]
  · show Value.null = va_rf _; rw [h3]; rfl
theorem zdefX3 : ∀ j, j < 1 → ∀ ν : zM, ∀ b : Nat, zI ν b j = 0 → zJ ν b j = 0 → zR ν b j = none → defaultValue (tyX3 j) = zfv 3 j ν b := by
  intro j hj ν b h1 h2 h3
  have e : j = 0 := by omega
  subst e
  · show Value.null = va_rf _; rw [h3]; rfl
theorem zdefX4 : ∀ j, j < 38 → ∀ ν : zM, ∀ b : Nat, zI ν b j = 0 → zJ ν b j = 0 → zR ν b j = none → defaultValue (tyX4 j) = zfv 4 j ν b := by
  intro j hj ν b h1 h2 h3
  rcases (show j = 0 ∨ j = 1 ∨ j = 2 ∨ j = 3 ∨ j = 4 ∨ j = 5 ∨ j = 6 ∨ j = 7 ∨ j = 8 ∨ j = 9 ∨ j = 10 ∨ j = 11 ∨ j = 12 ∨ j = 13 ∨ j = 14 ∨ j = 15 ∨ j = 16 ∨ j = 17 ∨ j = 18 ∨ j = 19 ∨ j = 20 ∨ j = 21 ∨ j = 22 ∨ j = 23 ∨ j = 24 ∨ j = 25 ∨ j = 26 ∨ j = 27 ∨ j = 28 ∨ j = 29 ∨ j = 30 ∨ j = 31 ∨ j = 32 ∨ j = 33 ∨ j = 34 ∨ j = 35 ∨ j = 36 ∨ j = 37 by omega) with rfl | rfl | rfl | rfl | rfl | rfl | rfl | rfl | rfl | rfl | rfl | rfl | rfl | rfl | rfl | rfl | rfl | rfl | rfl | rfl | rfl | rfl | rfl | rfl | rfl | rfl | rfl | rfl | rfl | rfl | rfl | rfl | rfl | rfl | rfl | rfl | rfl | rfl
  · show Value.int 0 = Value.int _; rw [h1]
  · show Value.null = va_rf _; rw [h3]; rfl
  · show Value.null = va_rf _; rw [h3]; rfl
  · show Value.null = va_rf _; rw [h3]; rfl
  · show Value.null = va_rf _; rw [h3]; rfl
  · show Value.int 0 = Value.int _; rw [h1]
  · show Value.int 0 = Value.int _; rw [h1]
  · show Value.int 0 = Value.int _; rw [h1]
  · show Value.int 0 = Value.int _; rw [h1]
  · show Value.int 0 = Value.int _; rw [h1]
  · show Value.int 0 = Value.int _; rw [h1]
  · show Value.int 0 = Value.int _; rw [h1]
  · show Value.int 0 = Value.int _; rw [h1]
  · show Value.int 0 = Value.int _; rw [h1]
  · show Value.int 0 = Value.int _; rw [h1]
  · show Value.int 0 = Value.int _; rw [h1]
  · show Value.null = va_rf _; rw [h3]; rfl
  · show Value.null = va_rf _; rw [h3]; rfl
  · show Value.null = va_rf _; rw [h3]; rfl
  · show Value.null = va_rf _; rw [h3]; rfl
  · show Value.int 0 = Value.int _; rw [h1]
  · show Value.int 0 = Value.int _; rw [h1]
  · show Value.int 0 = Value.int _; rw [h1]
  · show Value.null = va_rf _; rw [h3]; rfl
  · show Value.null = va_rf _; rw [h3]; rfl
  · show Value.int 0 = Value.int _; rw [h1]
  · show Value.int 0 = Value.int _; rw [h1]
  · show Value.null = va_rf _; rw [h3]; rfl
  · show Value.null = va_rf _; rw [h3]; rfl
  · show Value.int 0 = Value.int _; rw [h1]
  · show Value.int 0 = Value.int _; rw [h1]
  · show Value.long 0 = Value.long _; rw [h2]
  · show Value.null = va_rf _; rw [h3]; rfl
  · show Value.null = va_rf _; rw [h3]; rfl
  · show Value.null = va_rf _; rw [h3]; rfl
  · show Value.null = va_rf _; rw [h3]; rfl
  · show Value.null = va_rf _; rw [h3]; rfl
  · show Value.null = va_rf _; rw [h3]; rfl
theorem zdefX5 : ∀ j, j < 11 → ∀ ν : zM, ∀ b : Nat, zI ν b j = 0 → zJ ν b j = 0 → zR ν b j = none → defaultValue (tyX5 j) = zfv 5 j ν b := by
  intro j hj ν b h1 h2 h3
  rcases (show j = 0 ∨ j = 1 ∨ j = 2 ∨ j = 3 ∨ j = 4 ∨ j = 5 ∨ j = 6 ∨ j = 7 ∨ j = 8 ∨ j = 9 ∨ j = 10 by omega) with rfl | rfl | rfl | rfl | rfl | rfl | rfl | rfl | rfl | rfl | rfl
  · show Value.int 0 = Value.int _; rw [h1]
  · show Value.null = va_rf _; rw [h3]; rfl
  · show Value.int 0 = Value.int _; rw [h1]
  · show Value.int 0 = Value.int _; rw [h1]
  · show Value.int 0 = Value.int _; rw [h1]
  · show Value.int 0 = Value.int _; rw [h1]
  · show Value.int 0 = Value.int _; rw [h1]
  · show Value.int 0 = Value.int _; rw [h1]
  · show Value.int 0 = Value.int _; rw [h1]
  · show Value.int 0 = Value.int _; rw [h1]
  · show Value.null = va_rf _; rw [h3]; rfl
theorem zdefX7 : ∀ j, j < 1 → ∀ ν : zM, ∀ b : Nat, zI ν b j = 0 → zJ ν b j = 0 → zR ν b j = none → defaultValue (tyX7 j) = zfv 6 j ν b := by
  intro j hj ν b h1 h2 h3
  have e : j = 0 := by omega
  subst e
  · show Value.int 0 = Value.int _; rw [h1]
theorem zdefX8 : ∀ j, j < 1 → ∀ ν : zM, ∀ b : Nat, zI ν b j = 0 → zJ ν b j = 0 → zR ν b j = none → defaultValue (tyX8 j) = zfv 7 j ν b := by
  intro j hj ν b h1 h2 h3
  have e : j = 0 := by omega
  subst e
  · show Value.int 0 = Value.int _; rw [h1]
theorem zdefX9 : ∀ j, j < 3 → ∀ ν : zM, ∀ b : Nat, zI ν b j = 0 → zJ ν b j = 0 → zR ν b j = none → defaultValue (tyX9 j) = zfv 8 j ν b := by
  intro j hj ν b h1 h2 h3
  rcases (show j = 0 ∨ j = 1 ∨ j = 2 by omega) with rfl | rfl | rfl
  · show Value.null = va_rf _; rw [h3]; rfl
  · show Value.null = va_rf _; rw [h3]; rfl
  · show Value.int 0 = Value.int _; rw [h1]
theorem zdefa0 (N : Nat) : ∀ ν : zM, ∀ b : Nat, (∀ j, zI ν b j = 0) → (∀ j, zJ ν b j = 0) → ∀ cA : ClassId, vp_cell cA (N, zct 0 ν b) = arrV cA N (fun _ => defaultValue .int) := by
  intro ν b h1 h2 cA
  show arrV cA N (fun j => Value.int (zI ν b j)) = arrV cA N (fun _ => Value.int 0)
  congr 1; funext j; rw [h1]
theorem zdefa1 (N : Nat) : ∀ ν : zM, ∀ b : Nat, (∀ j, zI ν b j = 0) → (∀ j, zJ ν b j = 0) → ∀ cA : ClassId, vp_cell cA (N, zct 1 ν b) = arrV cA N (fun _ => defaultValue .byte) := by
  intro ν b h1 h2 cA
  show arrV cA N (fun j => Value.int (zI ν b j)) = arrV cA N (fun _ => Value.int 0)
  congr 1; funext j; rw [h1]
theorem zdefa2 (N : Nat) : ∀ ν : zM, ∀ b : Nat, (∀ j, zI ν b j = 0) → (∀ j, zJ ν b j = 0) → ∀ cA : ClassId, vp_cell cA (N, zct 2 ν b) = arrV cA N (fun _ => defaultValue .boolean) := by
  intro ν b h1 h2 cA
  show arrV cA N (fun j => Value.int (zI ν b j)) = arrV cA N (fun _ => Value.int 0)
  congr 1; funext j; rw [h1]
theorem zdefa4 (N : Nat) : ∀ ν : zM, ∀ b : Nat, (∀ j, zI ν b j = 0) → (∀ j, zJ ν b j = 0) → ∀ cA : ClassId, vp_cell cA (N, zct 4 ν b) = arrV cA N (fun _ => defaultValue .short) := by
  intro ν b h1 h2 cA
  show arrV cA N (fun j => Value.int (zI ν b j)) = arrV cA N (fun _ => Value.int 0)
  congr 1; funext j; rw [h1]
theorem zdefa3 (N : Nat) : ∀ ν : zM, ∀ b : Nat, (∀ j, zI ν b j = 0) → (∀ j, zJ ν b j = 0) → ∀ cA : ClassId, vp_cell cA (N, zct 3 ν b) = arrV cA N (fun _ => defaultValue .long) := by
  intro ν b h1 h2 cA
  show arrV cA N (fun j => Value.long (zJ ν b j)) = arrV cA N (fun _ => Value.long 0)
  congr 1; funext j; rw [h2]
