def pX0_bytes_3 (z : Nat) (x1 : Int32) (Q : zM → Prop) : Nat → Int32 → zM → Prop
  | 0, _, _ => False
  | n + 1, x2, μ => (if x2 < 0 then Q μ else (vp_in (zI μ z 4) 900 ∧ zpI μ (z + 15) (zI μ z 4).toNatClampNeg (vp_nar .byte ((x1 >>> (x2 &&& 31)).toInt8.toInt32)) fun μ1 => (zpI μ1 z 4 ((zI μ1 z 4) + (nI 1)) fun μ2 => pX0_bytes_3 z x1 Q n (x2 - (nI 8)) μ2)))
set_option maxHeartbeats 4000000 in
set_option maxRecDepth 100000 in
theorem wX0_bytes_3 {p : Program} {l : Launch} {e : Env} {s : State} {m : MethodId} {args : Array Value} {below : List Frame} {meth : Method} {c : Code} {Γ : zG} {μ0 : zM} {Q : zM → Prop} (X : zCx p m c cX0_bytes 3 s args RX0 meth none) (z : Nat) (x1 : Int32) : ∀ (n : Nat) (x2 : Int32) (μ : zM) (H : Heap) (locs : List Loc) (ls : Array Slot), pX0_bytes_3 z x1 Q n x2 μ → zB Γ (cSh z) (zA μ0) μ0 s μ H locs → lv_has ls 3 [(0, .ref z), (1, .int x1), (2, .int x2)] → W p l e ({ frames := 0, cells := 0, slots := 0, locals := 0 } : Room) s m args below meth c H locs 0 0 (MQ below (va_Qv Q (zPost Γ (cSh z) μ0) (zA μ0)) args s 0 0 (zA μ0)) (F0 m 3 ls []) := by
  have S := X.1
  obtain ⟨hx, hb, hml, hown, hts⟩ := X.1
  intro n
  induction n with
  | zero =>
    intro x2 μ H locs ls hp
    exact hp.elim
  | succ n ih =>
    intro x2 μ H locs ls hp hB hl
    unfold pX0_bytes_3 at hp
    refine lv_iload_n hx hb dX0_bytes_3 rfl (lv_at hl 2 rfl) ?_
    refine lv_if_lt (tgt := 36) hx hb dX0_bytes_4 rfl (fun c0 => ?_) (fun c0 => ?_)
    · have hp := zit hp c0
      exact zret_v X hB hp dX0_bytes_36
    · have hp := zif hp c0
      refine lv_aload_n hx hb dX0_bytes_7 rfl (lv_at hl 0 rfl) ?_
      refine g_getr S hB (cT hB) rfl (T := TX0) (N := 33) (C := RX0) rfl in_X0 3 (by decide) (by decide) q308 (fun _ h9 => h9) (fun _ => rfl) (cA hB 2 rfl).1 dX0_bytes_8 ?_
      refine lv_aload_n hx hb dX0_bytes_11 rfl (lv_at hl 0 rfl) ?_
      refine g_get S hB (cT hB) rfl (T := TX0) (N := 33) (C := RX0) rfl in_X0 4 (by decide) (by decide) q309 (fun _ h9 => h9) (v := .int (zI μ z 4)) rfl dX0_bytes_12 ?_
      refine lv_iload_n hx hb dX0_bytes_15 rfl (lv_at hl 1 rfl) ?_
      refine lv_iload_n hx hb dX0_bytes_16 rfl (lv_at hl 2 rfl) ?_
      refine lv_ishr hx hb dX0_bytes_17 ?_
      refine lv_i2b hx hb dX0_bytes_18 rfl ?_
      obtain ⟨hi, hp⟩ := hp
      obtain ⟨μ1, eμ1, hp⟩ := zpI_e hp
      refine g_bast S hB (cA hB 2 rfl).2 hi dX0_bytes_19 (fun H locs hB => ?_)
      rw [← eμ1] at hB
      refine lv_aload_n hx hb dX0_bytes_20 rfl (lv_at hl 0 rfl) ?_
      refine lv_dup hx hb dX0_bytes_21 rfl ?_
      refine g_get S hB (cT hB) rfl (T := TX0) (N := 33) (C := RX0) rfl in_X0 4 (by decide) (by decide) q309 (fun _ h9 => h9) (v := .int (zI μ1 z 4)) rfl dX0_bytes_22 ?_
      refine lv_iconst (v := (nI 1)) hx hb dX0_bytes_25 rfl ?_
      refine lv_iadd hx hb dX0_bytes_26 ?_
      obtain ⟨μ2, eμ2, hp⟩ := zpI_e hp
      refine g_putI S hB (cT hB) rfl (T := TX0) (N := 33) (C := RX0) rfl in_X0 4 (by decide) (by decide) (x := ((zI μ1 z 4) + (nI 1))) tyX0 tyX0_ok nmX0 q309 (fun _ h9 => h9) rfl (ty := .int) (by decide +kernel) rfl rfl (fun _ _ => rfl) dX0_bytes_27 (fun H locs hB => ?_)
      rw [← eμ2] at hB
      refine lv_iinc (v := (x2 - (nI 8))) (lv' := [(2, .int (x2 - (nI 8))), (0, .ref z), (1, .int x1)]) hx hb dX0_bytes_30 hl (k := 2) rfl (by rw [Int32.sub_eq_add_neg]; rfl) (by decide) rfl (fun ls hl => ?_)
      refine lv_goto (tgt := 3) hx hb dX0_bytes_33 rfl ?_
      exact ih (x2 - (nI 8)) μ2 _ _ _ hp hB (lv_sub hl [1, 2, 0] rfl)
def pX0_bytes (z : Nat) (x1 : Int32) (μ : zM) (Q : zM → Prop) : Prop := ∃ k1, pX0_bytes_3 z x1 Q k1 (nI 24) μ
theorem hX0_bytes : yX0_bytes.cls = "SunkTower" ∧ yX0_bytes.cls ≠ "java/lang/invoke/MethodHandle" ∧ yX0_bytes.cls ≠ "java/lang/invoke/VarHandle" ∧ (parseMethodDescriptor yX0_bytes.desc).map (fun d => d.parameters.length) = some 1 := by decide +kernel
set_option maxHeartbeats 4000000 in
set_option maxRecDepth 100000 in
theorem mX0_bytes (l : Launch) (Γ : zG) (z : Nat) (x1 : Int32) (μ : zM) (Q : zM → Prop) (hp : pX0_bytes z x1 μ Q) : Met l yX0_bytes (ws_ yX0_bytes cX0_bytes 3 none) ({ frames := 0, cells := 0, slots := 0, locals := 0 } : Room) (va_Pc [.ref z, .int x1] (zPre Γ (cSh z) μ)) (va_Qv Q (zPost Γ (cSh z) μ) (zA μ)) 0 0 (zA μ) := by
  refine zstart (by decide) (Nat.le_of_ble_eq_true rfl) ?_
  intro p e s m below meth c ls X hnm hB hl
  have X : zCx p m c cX0_bytes 3 s [.ref z, .int x1].toArray RX0 meth none := X
  have S := X.1
  obtain ⟨hx, hb, hml, hown, hts⟩ := X.1
  have hl : lv_has ls 3 [(0, .ref z), (1, .int x1)] := hl
  unfold pX0_bytes at hp
  refine lv_bipush (v := (nI 24)) hx hb dX0_bytes_0 rfl ?_
  refine lv_istore_n (lv' := [(2, .int (nI 24)), (0, .ref z), (1, .int x1)]) hx hb dX0_bytes_2 rfl hl (by decide) rfl (fun ls hl => ?_)
  obtain ⟨n1, hp⟩ := hp
  exact wX0_bytes_3 X z x1 n1 (nI 24) μ _ _ _ hp hB (lv_sub hl [1, 2, 0] rfl)
def pX0_in (z : Nat) (x0 : Int64) (x2 : Int64) (x4 : Int64) (μ : zM) (Q : Int32 → zM → Prop) : Prop := (if (lg_cmp x0 x2) < 0 then Q (nI 0) μ else (if 0 < (lg_cmp x0 x4) then Q (nI 0) μ else Q (nI 1) μ))
theorem hX0_in : yX0_in.cls ≠ "java/lang/invoke/MethodHandle" ∧ yX0_in.cls ≠ "java/lang/invoke/VarHandle" ∧ (parseMethodDescriptor yX0_in.desc).map (fun d => d.parameters.length) = some 3 := by decide +kernel
set_option maxHeartbeats 4000000 in
set_option maxRecDepth 100000 in
theorem mX0_in (l : Launch) (Γ : zG) (z : Nat) (x0 : Int64) (x2 : Int64) (x4 : Int64) (μ : zM) (Q : Int32 → zM → Prop) (hp : pX0_in z x0 x2 x4 μ Q) : Met l yX0_in (ws_ yX0_in cX0_in 6 (some .boolean)) ({ frames := 0, cells := 0, slots := 0, locals := 0 } : Room) (va_Pc [.long x0, .long x2, .long x4] (zPre Γ (cSh z) μ)) (va_Qi Q (zPost Γ (cSh z) μ) (zA μ)) 0 0 (zA μ) := by
  refine zstart (by decide) (Nat.le_of_ble_eq_true rfl) ?_
  intro p e s m below meth c ls X hnm hB hl
  have X : zCx p m c cX0_in 6 s [.long x0, .long x2, .long x4].toArray RX0 meth (some .boolean) := X
  have S := X.1
  obtain ⟨hx, hb, hml, hown, hts⟩ := X.1
  have hl : lv_has ls 6 [(0, .long x0), (2, .long x2), (4, .long x4)] := hl
  unfold pX0_in at hp
  refine lv_lload_n hx hb dX0_in_0 rfl (lv_at hl 0 rfl) ?_
  refine lv_lload_n hx hb dX0_in_1 rfl (lv_at hl 1 rfl) ?_
  refine W.lcmp hx hb dX0_in_2 ?_
  refine lv_if_lt (tgt := 17) hx hb dX0_in_3 rfl (fun c0 => ?_) (fun c0 => ?_)
  · have hp := zit hp c0
    refine lv_iconst (v := (nI 0)) hx hb dX0_in_17 rfl ?_
    exact zret_z X hB rfl hp dX0_in_18
  · have hp := zif hp c0
    refine lv_lload_n hx hb dX0_in_6 rfl (lv_at hl 0 rfl) ?_
    refine lv_lload hx hb dX0_in_7 (lv_at hl 2 rfl) ?_
    refine W.lcmp hx hb dX0_in_9 ?_
    refine lv_if_gt (tgt := 17) hx hb dX0_in_10 rfl (fun c0 => ?_) (fun c0 => ?_)
    · have hp := zit hp c0
      refine lv_iconst (v := (nI 0)) hx hb dX0_in_17 rfl ?_
      exact zret_z X hB rfl hp dX0_in_18
    · have hp := zif hp c0
      refine lv_iconst (v := (nI 1)) hx hb dX0_in_13 rfl ?_
      refine lv_goto (tgt := 18) hx hb dX0_in_14 rfl ?_
      exact zret_z X hB rfl hp dX0_in_18
def pX0_fault (z : Nat) (x1 : Int32) (μ : zM) (Q : Int32 → zM → Prop) : Prop := (if x1 = 0 then Q (zI μ z 5) μ else (if x1 = (nI 1) then Q (zI μ z 6) μ else Q (-1 : Int32) μ))
theorem hX0_fault : yX0_fault.cls = "SunkTower" ∧ yX0_fault.cls ≠ "java/lang/invoke/MethodHandle" ∧ yX0_fault.cls ≠ "java/lang/invoke/VarHandle" ∧ (parseMethodDescriptor yX0_fault.desc).map (fun d => d.parameters.length) = some 1 := by decide +kernel
set_option maxHeartbeats 4000000 in
set_option maxRecDepth 100000 in
theorem mX0_fault (l : Launch) (Γ : zG) (z : Nat) (x1 : Int32) (μ : zM) (Q : Int32 → zM → Prop) (hp : pX0_fault z x1 μ Q) : Met l yX0_fault (ws_ yX0_fault cX0_fault 2 (some .int)) ({ frames := 0, cells := 0, slots := 0, locals := 0 } : Room) (va_Pc [.ref z, .int x1] (zPre Γ (cSh z) μ)) (va_Qi Q (zPost Γ (cSh z) μ) (zA μ)) 0 0 (zA μ) := by
  refine zstart (by decide) (Nat.le_of_ble_eq_true rfl) ?_
  intro p e s m below meth c ls X hnm hB hl
  have X : zCx p m c cX0_fault 2 s [.ref z, .int x1].toArray RX0 meth (some .int) := X
  have S := X.1
  obtain ⟨hx, hb, hml, hown, hts⟩ := X.1
  have hl : lv_has ls 2 [(0, .ref z), (1, .int x1)] := hl
  unfold pX0_fault at hp
  refine lv_iload_n hx hb dX0_fault_0 rfl (lv_at hl 1 rfl) ?_
  refine lv_if_ne (tgt := 11) hx hb dX0_fault_1 rfl (fun c0 => ?_) (fun c0 => ?_)
  · have hp := zif hp c0
    refine lv_iload_n hx hb dX0_fault_11 rfl (lv_at hl 1 rfl) ?_
    refine lv_iconst (v := (nI 1)) hx hb dX0_fault_12 rfl ?_
    refine lv_icmp_ne (tgt := 23) hx hb dX0_fault_13 rfl (fun c0 => ?_) (fun c0 => ?_)
    · have hp := zif hp c0
      refine lv_iconst (v := (-1 : Int32)) hx hb dX0_fault_23 rfl ?_
      exact zret_i X hB hp dX0_fault_24
    · have hp := zit hp c0
      refine lv_aload_n hx hb dX0_fault_16 rfl (lv_at hl 0 rfl) ?_
      refine g_get S hB (cT hB) rfl (T := TX0) (N := 33) (C := RX0) rfl in_X0 6 (by decide) (by decide) q311 (fun _ h9 => h9) (v := .int (zI μ z 6)) rfl dX0_fault_17 ?_
      refine lv_goto (tgt := 24) hx hb dX0_fault_20 rfl ?_
      exact zret_i X hB hp dX0_fault_24
  · have hp := zit hp c0
    refine lv_aload_n hx hb dX0_fault_4 rfl (lv_at hl 0 rfl) ?_
    refine g_get S hB (cT hB) rfl (T := TX0) (N := 33) (C := RX0) rfl in_X0 5 (by decide) (by decide) q310 (fun _ h9 => h9) (v := .int (zI μ z 5)) rfl dX0_fault_5 ?_
    refine lv_goto (tgt := 24) hx hb dX0_fault_8 rfl ?_
    exact zret_i X hB hp dX0_fault_24
def pX0_isStorey (z : Nat) (x1 : Int32) (μ : zM) (Q : Int32 → zM → Prop) : Prop := (pX0_in z (x1.toInt64) (0 : Int64) (((zI μ (z + 7) 3) - (nI 1)).toInt64) μ fun r2 μ1 => (zbo r2 ∧ Q r2 μ1))
theorem hX0_isStorey : yX0_isStorey.cls = "SunkTower" ∧ yX0_isStorey.cls ≠ "java/lang/invoke/MethodHandle" ∧ yX0_isStorey.cls ≠ "java/lang/invoke/VarHandle" ∧ (parseMethodDescriptor yX0_isStorey.desc).map (fun d => d.parameters.length) = some 1 := by decide +kernel
set_option maxHeartbeats 4000000 in
set_option maxRecDepth 100000 in
theorem mX0_isStorey (l : Launch) (Γ : zG) (z : Nat) (x1 : Int32) (μ : zM) (Q : Int32 → zM → Prop) (hp : pX0_isStorey z x1 μ Q) : Met l yX0_isStorey (ws_ yX0_isStorey cX0_isStorey 2 (some .boolean)) ({ frames := 1, cells := 0, slots := 0, locals := 25 } : Room) (va_Pc [.ref z, .int x1] (zPre Γ (cSh z) μ)) (va_Qi Q (zPost Γ (cSh z) μ) (zA μ)) 0 0 (zA μ) := by
  refine zstart (by decide) (Nat.le_of_ble_eq_true rfl) ?_
  intro p e s m below meth c ls X hnm hB hl
  have X : zCx p m c cX0_isStorey 2 s [.ref z, .int x1].toArray RX0 meth (some .boolean) := X
  have S := X.1
  obtain ⟨hx, hb, hml, hown, hts⟩ := X.1
  have hl : lv_has ls 2 [(0, .ref z), (1, .int x1)] := hl
  unfold pX0_isStorey at hp
  refine lv_iload_n hx hb dX0_isStorey_0 rfl (lv_at hl 1 rfl) ?_
  refine lv_i2l hx hb dX0_isStorey_1 rfl ?_
  refine lv_lconst (v := (0 : Int64)) hx hb dX0_isStorey_2 rfl ?_
  refine lv_aload_n hx hb dX0_isStorey_3 rfl (lv_at hl 0 rfl) ?_
  refine g_getr S hB (cT hB) rfl (T := TX0) (N := 33) (C := RX0) rfl in_X0 1 (by decide) (by decide) q305 (fun _ h9 => h9) (fun _ => rfl) (cA hB 0 rfl).1 dX0_isStorey_4 ?_
  refine g_getN S hB (cA hB 0 rfl).2 rfl (T := TX2) (N := 8) (C := RX2) rfl in_X2 3 (by decide) (by decide) (zNFw hB 8 rfl) (fun _ h9 => h9) (v := .int (zI μ (z + 7) 3)) rfl dX0_isStorey_7 ?_
  refine lv_iconst (v := (nI 1)) hx hb dX0_isStorey_10 rfl ?_
  refine lv_isub hx hb dX0_isStorey_11 ?_
  refine lv_i2l hx hb dX0_isStorey_12 rfl ?_
  refine z_calli (va_runS (As := [.long (x1.toInt64), .long (0 : Int64), .long (((zI μ (z + 7) 3) - (nI 1)).toInt64)]) (rest := []) S (mX0_in l Γ z (x1.toInt64) (0 : Int64) (((zI μ (z + 7) 3) - (nI 1)).toInt64) μ _ hp) (va_cwS 3 hts (lw_S q418 q419 q127 q420) rfl rfl rfl hX0_in ⟨Nat.le_of_ble_eq_true rfl, Nat.le_of_ble_eq_true rfl⟩) hB.preS rfl rfl hl.1 rfl (lv_room (Nat.le_of_ble_eq_true rfl)) dX0_isStorey_13 ⟨Nat.le_refl _, Nat.le_refl _⟩) hB (fun r2 μ1 H locs hp hB => ?_)
  exact zret_z X hB hp.1 hp.2 dX0_isStorey_16
def pX0_one (z : Nat) (x0 : Int32) (μ : zM) (Q : Int32 → zM → Prop) : Prop := (if x0 = 0 then Q (nI 0) μ else Q (nI 1) μ)
theorem hX0_one : yX0_one.cls ≠ "java/lang/invoke/MethodHandle" ∧ yX0_one.cls ≠ "java/lang/invoke/VarHandle" ∧ (parseMethodDescriptor yX0_one.desc).map (fun d => d.parameters.length) = some 1 := by decide +kernel
set_option maxHeartbeats 4000000 in
set_option maxRecDepth 100000 in
theorem mX0_one (l : Launch) (Γ : zG) (z : Nat) (x0 : Int32) (μ : zM) (Q : Int32 → zM → Prop) (hp : pX0_one z x0 μ Q) : Met l yX0_one (ws_ yX0_one cX0_one 1 (some .int)) ({ frames := 0, cells := 0, slots := 0, locals := 0 } : Room) (va_Pc [.int x0] (zPre Γ (cSh z) μ)) (va_Qi Q (zPost Γ (cSh z) μ) (zA μ)) 0 0 (zA μ) := by
  refine zstart (by decide) (Nat.le_of_ble_eq_true rfl) ?_
  intro p e s m below meth c ls X hnm hB hl
  have X : zCx p m c cX0_one 1 s [.int x0].toArray RX0 meth (some .int) := X
  have S := X.1
  obtain ⟨hx, hb, hml, hown, hts⟩ := X.1
  have hl : lv_has ls 1 [(0, .int x0)] := hl
  unfold pX0_one at hp
  refine lv_iload_n hx hb dX0_one_0 rfl (lv_at hl 0 rfl) ?_
  refine lv_if_eq (tgt := 8) hx hb dX0_one_1 rfl (fun c0 => ?_) (fun c0 => ?_)
  · have hp := zit hp c0
    refine lv_iconst (v := (nI 0)) hx hb dX0_one_8 rfl ?_
    exact zret_i X hB hp dX0_one_9
  · have hp := zif hp c0
    refine lv_iconst (v := (nI 1)) hx hb dX0_one_4 rfl ?_
    refine lv_goto (tgt := 9) hx hb dX0_one_5 rfl ?_
    exact zret_i X hB hp dX0_one_9
def pX0_isTenant (z : Nat) (x1 : Int32) (μ : zM) (Q : Int32 → zM → Prop) : Prop := (zde (zR μ z 0) fun b1 => (zty μ b1 = some (.inl 1) ∧ (pX0_in z (x1.toInt64) (0 : Int64) (((zI μ b1 6) - (nI 1)).toInt64) μ fun r4 μ3 => (zbo r4 ∧ Q r4 μ3))))
theorem hX0_isTenant : yX0_isTenant.cls = "SunkTower" ∧ yX0_isTenant.cls ≠ "java/lang/invoke/MethodHandle" ∧ yX0_isTenant.cls ≠ "java/lang/invoke/VarHandle" ∧ (parseMethodDescriptor yX0_isTenant.desc).map (fun d => d.parameters.length) = some 1 := by decide +kernel
set_option maxHeartbeats 4000000 in
set_option maxRecDepth 100000 in
theorem mX0_isTenant (l : Launch) (Γ : zG) (z : Nat) (x1 : Int32) (μ : zM) (Q : Int32 → zM → Prop) (hp : pX0_isTenant z x1 μ Q) : Met l yX0_isTenant (ws_ yX0_isTenant cX0_isTenant 2 (some .boolean)) ({ frames := 1, cells := 0, slots := 0, locals := 25 } : Room) (va_Pc [.ref z, .int x1] (zPre Γ (cSh z) μ)) (va_Qi Q (zPost Γ (cSh z) μ) (zA μ)) 0 0 (zA μ) := by
  refine zstart (by decide) (Nat.le_of_ble_eq_true rfl) ?_
  intro p e s m below meth c ls X hnm hB hl
  have X : zCx p m c cX0_isTenant 2 s [.ref z, .int x1].toArray RX0 meth (some .boolean) := X
  have S := X.1
  obtain ⟨hx, hb, hml, hown, hts⟩ := X.1
  have hl : lv_has ls 2 [(0, .ref z), (1, .int x1)] := hl
  unfold pX0_isTenant at hp
  refine lv_iload_n hx hb dX0_isTenant_0 rfl (lv_at hl 1 rfl) ?_
  refine lv_i2l hx hb dX0_isTenant_1 rfl ?_
  refine lv_lconst (v := (0 : Int64)) hx hb dX0_isTenant_2 rfl ?_
  refine lv_aload_n hx hb dX0_isTenant_3 rfl (lv_at hl 0 rfl) ?_
  refine g_get S hB (cT hB) rfl (T := TX0) (N := 33) (C := RX0) rfl in_X0 0 (by decide) (by decide) q304 (fun _ h9 => h9) (v := va_rf (zR μ z 0)) rfl dX0_isTenant_4 ?_
  obtain ⟨b1, eb, hp⟩ := hp
  refine W.eq (g2 := F0 m 7 ls [.ref b1, .long (0 : Int64), .long (x1.toInt64)]) (by rw [eb]; rfl) ?_
  obtain ⟨ht2, hp⟩ := hp
  refine g_getN S hB ht2 rfl (T := TX1) (N := 16) (C := RX1) rfl in_X1 6 (by decide) (by decide) (zNFw hB 1 rfl) (fun _ h9 => h9) (v := .int (zI μ b1 6)) rfl dX0_isTenant_7 ?_
  refine lv_iconst (v := (nI 1)) hx hb dX0_isTenant_10 rfl ?_
  refine lv_isub hx hb dX0_isTenant_11 ?_
  refine lv_i2l hx hb dX0_isTenant_12 rfl ?_
  refine z_calli (va_runS (As := [.long (x1.toInt64), .long (0 : Int64), .long (((zI μ b1 6) - (nI 1)).toInt64)]) (rest := []) S (mX0_in l Γ z (x1.toInt64) (0 : Int64) (((zI μ b1 6) - (nI 1)).toInt64) μ _ hp) (va_cwS 3 hts (lw_S q418 q419 q127 q420) rfl rfl rfl hX0_in ⟨Nat.le_of_ble_eq_true rfl, Nat.le_of_ble_eq_true rfl⟩) hB.preS rfl rfl hl.1 rfl (lv_room (Nat.le_of_ble_eq_true rfl)) dX0_isTenant_13 ⟨Nat.le_refl _, Nat.le_refl _⟩) hB (fun r4 μ3 H locs hp hB => ?_)
  exact zret_z X hB hp.1 hp.2 dX0_isTenant_16
def pX0_has (z : Nat) (x0 : Int32) (x1 : Int32) (μ : zM) (Q : Int32 → zM → Prop) : Prop := (if ((x0 >>> (x1 &&& 31)) &&& (nI 1)) = (nI 1) then Q (nI 1) μ else Q (nI 0) μ)
theorem hX0_has : yX0_has.cls ≠ "java/lang/invoke/MethodHandle" ∧ yX0_has.cls ≠ "java/lang/invoke/VarHandle" ∧ (parseMethodDescriptor yX0_has.desc).map (fun d => d.parameters.length) = some 2 := by decide +kernel
set_option maxHeartbeats 4000000 in
set_option maxRecDepth 100000 in
theorem mX0_has (l : Launch) (Γ : zG) (z : Nat) (x0 : Int32) (x1 : Int32) (μ : zM) (Q : Int32 → zM → Prop) (hp : pX0_has z x0 x1 μ Q) : Met l yX0_has (ws_ yX0_has cX0_has 2 (some .boolean)) ({ frames := 0, cells := 0, slots := 0, locals := 0 } : Room) (va_Pc [.int x0, .int x1] (zPre Γ (cSh z) μ)) (va_Qi Q (zPost Γ (cSh z) μ) (zA μ)) 0 0 (zA μ) := by
  refine zstart (by decide) (Nat.le_of_ble_eq_true rfl) ?_
  intro p e s m below meth c ls X hnm hB hl
  have X : zCx p m c cX0_has 2 s [.int x0, .int x1].toArray RX0 meth (some .boolean) := X
  have S := X.1
  obtain ⟨hx, hb, hml, hown, hts⟩ := X.1
  have hl : lv_has ls 2 [(0, .int x0), (1, .int x1)] := hl
  unfold pX0_has at hp
  refine lv_iload_n hx hb dX0_has_0 rfl (lv_at hl 0 rfl) ?_
  refine lv_iload_n hx hb dX0_has_1 rfl (lv_at hl 1 rfl) ?_
  refine lv_ishr hx hb dX0_has_2 ?_
  refine lv_iconst (v := (nI 1)) hx hb dX0_has_3 rfl ?_
  refine lv_iand hx hb dX0_has_4 ?_
  refine lv_iconst (v := (nI 1)) hx hb dX0_has_5 rfl ?_
  refine lv_icmp_ne (tgt := 13) hx hb dX0_has_6 rfl (fun c0 => ?_) (fun c0 => ?_)
  · have hp := zif hp c0
    refine lv_iconst (v := (nI 0)) hx hb dX0_has_13 rfl ?_
    exact zret_z X hB rfl hp dX0_has_14
  · have hp := zit hp c0
    refine lv_iconst (v := (nI 1)) hx hb dX0_has_9 rfl ?_
    refine lv_goto (tgt := 14) hx hb dX0_has_10 rfl ?_
    exact zret_z X hB rfl hp dX0_has_14
def pX0_comeRound_114 (z : Nat) (x1 : Nat) (x2 : Int32) (K5 : Int32 → Int32 → zM → Prop) (Q : Int32 → zM → Prop) : Nat → Int32 → Int32 → Int32 → Int32 → zM → Prop
  | 0, _, _, _, _, _ => False
  | n + 1, x3, x4, x5, x7, μ => (zde (zR μ z 0) fun b1 => (zty μ b1 = some (.inl 1) ∧ (if (zI μ b1 6) ≤ x7 then K5 x3 (x4 + (nI 1)) μ else (pX0_has z x5 x7 μ fun r4 μ3 => (if r4 = 0 then pX0_comeRound_114 z x1 x2 K5 Q n x3 x4 x5 (x7 + (nI 1)) μ3 else (vp_in x7 6 ∧ (vp_in (zI μ3 (z + 58) x7.toNatClampNeg) 6 ∧ (vp_in x7 6 ∧ zpI μ3 (z + 57) x7.toNatClampNeg (zI μ3 (x1 + 1) (zI μ3 (z + 58) x7.toNatClampNeg).toNatClampNeg) fun μ5 => pX0_comeRound_114 z x1 x2 K5 Q n x3 x4 x5 (x7 + (nI 1)) μ5))))))))
set_option maxHeartbeats 4000000 in
set_option maxRecDepth 100000 in
theorem wX0_comeRound_114 {p : Program} {l : Launch} {e : Env} {s : State} {m : MethodId} {args : Array Value} {below : List Frame} {meth : Method} {c : Code} {Γ : zG} {μ0 : zM} {Q : Int32 → zM → Prop} {K5 : Int32 → Int32 → zM → Prop} (X : zCx p m c cX0_comeRound 8 s args RX0 meth (some .int)) {x1 : Nat} (ht_x1 : zty μ0 x1 = some (.inl 2)) (z : Nat) (x2 : Int32) (hK5 : ∀ (x3 : Int32) (x4 : Int32) (μ : zM) (H : Heap) (locs : List Loc) (ls : Array Slot), K5 x3 x4 μ → zB Γ (cSh z) (zA μ0) μ0 s μ H locs → lv_has ls 8 [(0, .ref z), (1, .ref x1), (2, .int x2), (3, .int x3), (4, .int x4)] → W p l e ({ frames := 1, cells := 0, slots := 0, locals := 21 } : Room) s m args below meth c H locs 0 0 (MQ below (va_Qi Q (zPost Γ (cSh z) μ0) (zA μ0)) args s 0 0 (zA μ0)) (F0 m 5 ls [])) : ∀ (n : Nat) (x3 : Int32) (x4 : Int32) (x5 : Int32) (x7 : Int32) (μ : zM) (H : Heap) (locs : List Loc) (ls : Array Slot), pX0_comeRound_114 z x1 x2 K5 Q n x3 x4 x5 x7 μ → zB Γ (cSh z) (zA μ0) μ0 s μ H locs → lv_has ls 8 [(0, .ref z), (1, .ref x1), (2, .int x2), (3, .int x3), (4, .int x4), (5, .int x5), (7, .int x7)] → W p l e ({ frames := 1, cells := 0, slots := 0, locals := 21 } : Room) s m args below meth c H locs 0 0 (MQ below (va_Qi Q (zPost Γ (cSh z) μ0) (zA μ0)) args s 0 0 (zA μ0)) (F0 m 114 ls []) := by
  have S := X.1
  obtain ⟨hx, hb, hml, hown, hts⟩ := X.1
  intro n
  induction n with
  | zero =>
    intro x3 x4 x5 x7 μ H locs ls hp
    exact hp.elim
  | succ n ih =>
    intro x3 x4 x5 x7 μ H locs ls hp hB hl
    unfold pX0_comeRound_114 at hp
    refine lv_iload hx hb dX0_comeRound_114 (lv_at hl 6 rfl) ?_
    refine lv_aload_n hx hb dX0_comeRound_116 rfl (lv_at hl 0 rfl) ?_
    refine g_get S hB (cT hB) rfl (T := TX0) (N := 33) (C := RX0) rfl in_X0 0 (by decide) (by decide) q304 (fun _ h9 => h9) (v := va_rf (zR μ z 0)) rfl dX0_comeRound_117 ?_
    obtain ⟨b1, eb, hp⟩ := hp
    refine W.eq (g2 := F0 m 120 ls [.ref b1, .int x7]) (by rw [eb]; rfl) ?_
    obtain ⟨ht2, hp⟩ := hp
    refine g_getN S hB ht2 rfl (T := TX1) (N := 16) (C := RX1) rfl in_X1 6 (by decide) (by decide) (zNFw hB 1 rfl) (fun _ h9 => h9) (v := .int (zI μ b1 6)) rfl dX0_comeRound_120 ?_
    refine lv_icmp_ge (tgt := 161) hx hb dX0_comeRound_123 rfl (fun c0 => ?_) (fun c0 => ?_)
    · have hp := zit hp c0
      refine lv_iinc (v := (x4 + (nI 1))) (lv' := [(4, .int (x4 + (nI 1))), (0, .ref z), (1, .ref x1), (2, .int x2), (3, .int x3), (5, .int x5), (7, .int x7)]) hx hb dX0_comeRound_161 hl (k := 4) rfl rfl (by decide) rfl (fun ls hl => ?_)
      refine lv_goto (tgt := 5) hx hb dX0_comeRound_164 rfl ?_
      exact hK5 x3 (x4 + (nI 1)) μ _ _ _ hp hB (lv_sub hl [1, 2, 3, 4, 0] rfl)
    · have hp := zif hp c0
      refine lv_iload hx hb dX0_comeRound_126 (lv_at hl 5 rfl) ?_
      refine lv_iload hx hb dX0_comeRound_128 (lv_at hl 6 rfl) ?_
      refine z_calli (va_runS (As := [.int x5, .int x7]) (rest := []) S (mX0_has l Γ z x5 x7 μ _ hp) (va_cwS 2 hts (lw_S q921 q922 q127 q923) rfl rfl rfl hX0_has ⟨Nat.le_of_ble_eq_true rfl, Nat.le_of_ble_eq_true rfl⟩) hB.preS rfl rfl hl.1 rfl (lv_room (Nat.le_of_ble_eq_true rfl)) dX0_comeRound_130 ⟨Nat.le_refl _, Nat.le_refl _⟩) hB (fun r4 μ3 H locs hp hB => ?_)
      refine lv_if_eq (tgt := 155) hx hb dX0_comeRound_133 rfl (fun c0 => ?_) (fun c0 => ?_)
      · have hp := zit hp c0
        refine lv_iinc (v := (x7 + (nI 1))) (lv' := [(7, .int (x7 + (nI 1))), (0, .ref z), (1, .ref x1), (2, .int x2), (3, .int x3), (4, .int x4), (5, .int x5)]) hx hb dX0_comeRound_155 hl (k := 6) rfl rfl (by decide) rfl (fun ls hl => ?_)
        refine lv_goto (tgt := 114) hx hb dX0_comeRound_158 rfl ?_
        exact ih x3 x4 x5 (x7 + (nI 1)) μ3 _ _ _ hp hB (lv_sub hl [1, 2, 3, 4, 5, 6, 0] rfl)
      · have hp := zif hp c0
        refine lv_aload_n hx hb dX0_comeRound_136 rfl (lv_at hl 0 rfl) ?_
        refine g_getr S hB (cT hB) rfl (T := TX0) (N := 33) (C := RX0) rfl in_X0 11 (by decide) (by decide) q316 (fun _ h9 => h9) (fun _ => rfl) (cA hB 4 rfl).1 dX0_comeRound_137 ?_
        refine lv_iload hx hb dX0_comeRound_140 (lv_at hl 6 rfl) ?_
        refine lv_aload_n hx hb dX0_comeRound_142 rfl (lv_at hl 1 rfl) ?_
        refine g_getrN S hB (hB.ty ht_x1 rfl) rfl (T := TX2) (N := 8) (C := RX2) rfl in_X2 0 (by decide) (by decide) (zNFw hB 5 rfl) (fun _ h9 => h9) (fun _ => rfl) (cS2 hB (hB.ty ht_x1 rfl) 0 rfl).1 dX0_comeRound_143 ?_
        refine lv_aload_n hx hb dX0_comeRound_146 rfl (lv_at hl 0 rfl) ?_
        refine g_getr S hB (cT hB) rfl (T := TX0) (N := 33) (C := RX0) rfl in_X0 12 (by decide) (by decide) q318 (fun _ h9 => h9) (fun _ => rfl) (cA hB 5 rfl).1 dX0_comeRound_147 ?_
        refine lv_iload hx hb dX0_comeRound_150 (lv_at hl 6 rfl) ?_
        obtain ⟨hi, hp⟩ := hp
        refine g_iald S hB (cA hB 5 rfl).2 hi dX0_comeRound_152 ?_
        obtain ⟨hi, hp⟩ := hp
        refine g_iald S hB (cS2 hB (hB.ty ht_x1 rfl) 0 rfl).2 hi dX0_comeRound_153 ?_
        obtain ⟨hi, hp⟩ := hp
        obtain ⟨μ5, eμ5, hp⟩ := zpI_e hp
        refine g_iast S hB (cA hB 4 rfl).2 hi dX0_comeRound_154 (fun H locs hB => ?_)
        rw [← eμ5] at hB
        refine lv_iinc (v := (x7 + (nI 1))) (lv' := [(7, .int (x7 + (nI 1))), (0, .ref z), (1, .ref x1), (2, .int x2), (3, .int x3), (4, .int x4), (5, .int x5)]) hx hb dX0_comeRound_155 hl (k := 6) rfl rfl (by decide) rfl (fun ls hl => ?_)
        refine lv_goto (tgt := 114) hx hb dX0_comeRound_158 rfl ?_
        exact ih x3 x4 x5 (x7 + (nI 1)) μ5 _ _ _ hp hB (lv_sub hl [1, 2, 3, 4, 5, 6, 0] rfl)
def pX0_comeRound_107 (z : Nat) (x1 : Nat) (x2 : Int32) (K5 : Int32 → Int32 → zM → Prop) (Q : Int32 → zM → Prop) (x3 : Int32) (x4 : Int32) (x5 : Int32) (y3 : Int32) (y2 : Int32) (μ : zM) : Prop := (zpI μ z 13 (y2 + y3) fun μ1 => ∃ k1, pX0_comeRound_114 z x1 x2 K5 Q k1 x3 x4 x5 (nI 0) μ1)
set_option maxHeartbeats 4000000 in
set_option maxRecDepth 100000 in
theorem wX0_comeRound_107 {p : Program} {l : Launch} {e : Env} {s : State} {m : MethodId} {args : Array Value} {below : List Frame} {meth : Method} {c : Code} {Γ : zG} {μ0 : zM} {Q : Int32 → zM → Prop} {K5 : Int32 → Int32 → zM → Prop} (X : zCx p m c cX0_comeRound 8 s args RX0 meth (some .int)) {x1 : Nat} (ht_x1 : zty μ0 x1 = some (.inl 2)) (z : Nat) (x2 : Int32) (hK5 : ∀ (x3 : Int32) (x4 : Int32) (μ : zM) (H : Heap) (locs : List Loc) (ls : Array Slot), K5 x3 x4 μ → zB Γ (cSh z) (zA μ0) μ0 s μ H locs → lv_has ls 8 [(0, .ref z), (1, .ref x1), (2, .int x2), (3, .int x3), (4, .int x4)] → W p l e ({ frames := 1, cells := 0, slots := 0, locals := 21 } : Room) s m args below meth c H locs 0 0 (MQ below (va_Qi Q (zPost Γ (cSh z) μ0) (zA μ0)) args s 0 0 (zA μ0)) (F0 m 5 ls [])) : ∀ (x3 : Int32) (x4 : Int32) (x5 : Int32) (y3 : Int32) (y2 : Int32) (μ : zM) (H : Heap) (locs : List Loc) (ls : Array Slot), pX0_comeRound_107 z x1 x2 K5 Q x3 x4 x5 y3 y2 μ → zB Γ (cSh z) (zA μ0) μ0 s μ H locs → lv_has ls 8 [(0, .ref z), (1, .ref x1), (2, .int x2), (3, .int x3), (4, .int x4), (5, .int x5)] → W p l e ({ frames := 1, cells := 0, slots := 0, locals := 21 } : Room) s m args below meth c H locs 0 0 (MQ below (va_Qi Q (zPost Γ (cSh z) μ0) (zA μ0)) args s 0 0 (zA μ0)) (F0 m 107 ls [.int y3, .int y2, .ref z]) := by
  have S := X.1
  obtain ⟨hx, hb, hml, hown, hts⟩ := X.1
  intro x3 x4 x5 y3 y2 μ H locs ls hp hB hl
  unfold pX0_comeRound_107 at hp
  refine lv_iadd hx hb dX0_comeRound_107 ?_
  obtain ⟨μ1, eμ1, hp⟩ := zpI_e hp
  refine g_putI S hB (cT hB) rfl (T := TX0) (N := 33) (C := RX0) rfl in_X0 13 (by decide) (by decide) (x := (y2 + y3)) tyX0 tyX0_ok nmX0 q319 (fun _ h9 => h9) rfl (ty := .int) (by decide +kernel) rfl rfl (fun _ _ => rfl) dX0_comeRound_108 (fun H locs hB => ?_)
  rw [← eμ1] at hB
  refine lv_iconst (v := (nI 0)) hx hb dX0_comeRound_111 rfl ?_
  refine lv_istore (lv' := [(7, .int (nI 0)), (0, .ref z), (1, .ref x1), (2, .int x2), (3, .int x3), (4, .int x4), (5, .int x5)]) hx hb dX0_comeRound_112 hl (by decide) rfl (fun ls hl => ?_)
  obtain ⟨n1, hp⟩ := hp
  exact wX0_comeRound_114 X ht_x1 z x2 hK5 n1 x3 x4 x5 (nI 0) μ1 _ _ _ hp hB (lv_sub hl [1, 2, 3, 4, 5, 6, 0] rfl)
def pX0_comeRound_40 (z : Nat) (x1 : Nat) (x2 : Int32) (K5 : Int32 → Int32 → zM → Prop) (Q : Int32 → zM → Prop) : Nat → Int32 → Int32 → Int32 → Int32 → zM → Prop
  | 0, _, _, _, _, _ => False
  | n + 1, x3, x4, x5, x6, μ => (pX0_has z (x5 ||| x3) x6 μ fun r2 μ1 => (if r2 = 0 then (vp_in x6 6 ∧ pX0_comeRound_40 z x1 x2 K5 Q n x3 x4 (x5 ||| ((nI 1) <<< (x6 &&& 31))) (zI μ1 (z + 58) x6.toNatClampNeg) μ1) else (if x6 = x4 then (pJ6_bitCount x5 μ1 fun r4 μ3 => (if r4 ≤ (nI 1) then pX0_comeRound_107 z x1 x2 K5 Q (x3 ||| x5) x4 x5 (nI 0) (zI μ1 z 13) μ3 else pX0_comeRound_107 z x1 x2 K5 Q (x3 ||| x5) x4 x5 (nI 1) (zI μ1 z 13) μ3)) else K5 x3 (x4 + (nI 1)) μ1)))
set_option maxHeartbeats 4000000 in
set_option maxRecDepth 100000 in
theorem wX0_comeRound_40 {p : Program} {l : Launch} {e : Env} {s : State} {m : MethodId} {args : Array Value} {below : List Frame} {meth : Method} {c : Code} {Γ : zG} {μ0 : zM} {Q : Int32 → zM → Prop} {K5 : Int32 → Int32 → zM → Prop} (X : zCx p m c cX0_comeRound 8 s args RX0 meth (some .int)) {x1 : Nat} (ht_x1 : zty μ0 x1 = some (.inl 2)) (z : Nat) (x2 : Int32) (hK5 : ∀ (x3 : Int32) (x4 : Int32) (μ : zM) (H : Heap) (locs : List Loc) (ls : Array Slot), K5 x3 x4 μ → zB Γ (cSh z) (zA μ0) μ0 s μ H locs → lv_has ls 8 [(0, .ref z), (1, .ref x1), (2, .int x2), (3, .int x3), (4, .int x4)] → W p l e ({ frames := 1, cells := 0, slots := 0, locals := 21 } : Room) s m args below meth c H locs 0 0 (MQ below (va_Qi Q (zPost Γ (cSh z) μ0) (zA μ0)) args s 0 0 (zA μ0)) (F0 m 5 ls [])) : ∀ (n : Nat) (x3 : Int32) (x4 : Int32) (x5 : Int32) (x6 : Int32) (μ : zM) (H : Heap) (locs : List Loc) (ls : Array Slot), pX0_comeRound_40 z x1 x2 K5 Q n x3 x4 x5 x6 μ → zB Γ (cSh z) (zA μ0) μ0 s μ H locs → lv_has ls 8 [(0, .ref z), (1, .ref x1), (2, .int x2), (3, .int x3), (4, .int x4), (5, .int x5), (6, .int x6)] → W p l e ({ frames := 1, cells := 0, slots := 0, locals := 21 } : Room) s m args below meth c H locs 0 0 (MQ below (va_Qi Q (zPost Γ (cSh z) μ0) (zA μ0)) args s 0 0 (zA μ0)) (F0 m 40 ls []) := by
  have S := X.1
  obtain ⟨hx, hb, hml, hown, hts⟩ := X.1
  intro n
  induction n with
  | zero =>
    intro x3 x4 x5 x6 μ H locs ls hp
    exact hp.elim
  | succ n ih =>
    intro x3 x4 x5 x6 μ H locs ls hp hB hl
    unfold pX0_comeRound_40 at hp
    refine lv_iload hx hb dX0_comeRound_40 (lv_at hl 5 rfl) ?_
    refine lv_iload_n hx hb dX0_comeRound_42 rfl (lv_at hl 3 rfl) ?_
    refine lv_ior hx hb dX0_comeRound_43 ?_
    refine lv_iload hx hb dX0_comeRound_44 (lv_at hl 6 rfl) ?_
    refine z_calli (va_runS (As := [.int (x5 ||| x3), .int x6]) (rest := []) S (mX0_has l Γ z (x5 ||| x3) x6 μ _ hp) (va_cwS 2 hts (lw_S q921 q922 q127 q923) rfl rfl rfl hX0_has ⟨Nat.le_of_ble_eq_true rfl, Nat.le_of_ble_eq_true rfl⟩) hB.preS rfl rfl hl.1 rfl (lv_room (Nat.le_of_ble_eq_true rfl)) dX0_comeRound_46 ⟨Nat.le_refl _, Nat.le_refl _⟩) hB (fun r2 μ1 H locs hp hB => ?_)
    refine lv_if_ne (tgt := 73) hx hb dX0_comeRound_49 rfl (fun c0 => ?_) (fun c0 => ?_)
    · have hp := zif hp c0
      refine lv_iload hx hb dX0_comeRound_73 (lv_at hl 6 rfl) ?_
      refine lv_iload hx hb dX0_comeRound_75 (lv_at hl 4 rfl) ?_
      refine lv_icmp_eq (tgt := 83) hx hb dX0_comeRound_77 rfl (fun c0 => ?_) (fun c0 => ?_)
      · have hp := zit hp c0
        refine lv_iload_n hx hb dX0_comeRound_83 rfl (lv_at hl 3 rfl) ?_
        refine lv_iload hx hb dX0_comeRound_84 (lv_at hl 5 rfl) ?_
        refine lv_ior hx hb dX0_comeRound_86 ?_
        refine lv_istore_n (lv' := [(3, .int (x3 ||| x5)), (0, .ref z), (1, .ref x1), (2, .int x2), (4, .int x4), (5, .int x5), (6, .int x6)]) hx hb dX0_comeRound_87 rfl hl (by decide) rfl (fun ls hl => ?_)
        refine lv_aload_n hx hb dX0_comeRound_88 rfl (lv_at hl 1 rfl) ?_
        refine lv_dup hx hb dX0_comeRound_89 rfl ?_
        refine g_get S hB (cT hB) rfl (T := TX0) (N := 33) (C := RX0) rfl in_X0 13 (by decide) (by decide) q319 (fun _ h9 => h9) (v := .int (zI μ1 z 13)) rfl dX0_comeRound_90 ?_
        refine lv_iload hx hb dX0_comeRound_93 (lv_at hl 5 rfl) ?_
        refine z_calli (va_runS (As := [.int x5]) (rest := [.int (zI μ1 z 13), .ref z]) S (mJ6_bitCount l Γ (cSh z) x5 μ1 _ hp) (va_cwS 1 hts (lw_S q932 q933 q144 q934) rfl rfl rfl hJ6_bitCount ⟨Nat.le_of_ble_eq_true rfl, Nat.le_of_ble_eq_true rfl⟩) hB.preS rfl rfl hl.1 rfl (lv_room (Nat.le_of_ble_eq_true rfl)) dX0_comeRound_95 ⟨Nat.le_refl _, Nat.le_refl _⟩) hB (fun r4 μ3 H locs hp hB => ?_)
        refine lv_iconst (v := (nI 1)) hx hb dX0_comeRound_98 rfl ?_
        refine lv_icmp_le (tgt := 106) hx hb dX0_comeRound_99 rfl (fun c0 => ?_) (fun c0 => ?_)
        · have hp := zit hp c0
          refine lv_iconst (v := (nI 0)) hx hb dX0_comeRound_106 rfl ?_
          exact wX0_comeRound_107 X ht_x1 z x2 hK5 (x3 ||| x5) x4 x5 (nI 0) (zI μ1 z 13) μ3 _ _ _ hp hB (lv_sub hl [1, 2, 3, 0, 4, 5] rfl)
        · have hp := zif hp c0
          refine lv_iconst (v := (nI 1)) hx hb dX0_comeRound_102 rfl ?_
          refine lv_goto (tgt := 107) hx hb dX0_comeRound_103 rfl ?_
          exact wX0_comeRound_107 X ht_x1 z x2 hK5 (x3 ||| x5) x4 x5 (nI 1) (zI μ1 z 13) μ3 _ _ _ hp hB (lv_sub hl [1, 2, 3, 0, 4, 5] rfl)
      · have hp := zif hp c0
        refine lv_goto (tgt := 161) hx hb dX0_comeRound_80 rfl ?_
        refine lv_iinc (v := (x4 + (nI 1))) (lv' := [(4, .int (x4 + (nI 1))), (0, .ref z), (1, .ref x1), (2, .int x2), (3, .int x3), (5, .int x5), (6, .int x6)]) hx hb dX0_comeRound_161 hl (k := 4) rfl rfl (by decide) rfl (fun ls hl => ?_)
        refine lv_goto (tgt := 5) hx hb dX0_comeRound_164 rfl ?_
        exact hK5 x3 (x4 + (nI 1)) μ1 _ _ _ hp hB (lv_sub hl [1, 2, 3, 4, 0] rfl)
    · have hp := zit hp c0
      refine lv_iload hx hb dX0_comeRound_52 (lv_at hl 5 rfl) ?_
      refine lv_iconst (v := (nI 1)) hx hb dX0_comeRound_54 rfl ?_
      refine lv_iload hx hb dX0_comeRound_55 (lv_at hl 6 rfl) ?_
      refine lv_ishl hx hb dX0_comeRound_57 ?_
      refine lv_ior hx hb dX0_comeRound_58 ?_
      refine lv_istore (lv' := [(5, .int (x5 ||| ((nI 1) <<< (x6 &&& 31)))), (0, .ref z), (1, .ref x1), (2, .int x2), (3, .int x3), (4, .int x4), (6, .int x6)]) hx hb dX0_comeRound_59 hl (by decide) rfl (fun ls hl => ?_)
      refine lv_aload_n hx hb dX0_comeRound_61 rfl (lv_at hl 1 rfl) ?_
      refine g_getr S hB (cT hB) rfl (T := TX0) (N := 33) (C := RX0) rfl in_X0 12 (by decide) (by decide) q318 (fun _ h9 => h9) (fun _ => rfl) (cA hB 5 rfl).1 dX0_comeRound_62 ?_
      refine lv_iload hx hb dX0_comeRound_65 (lv_at hl 6 rfl) ?_
      obtain ⟨hi, hp⟩ := hp
      refine g_iald S hB (cA hB 5 rfl).2 hi dX0_comeRound_67 ?_
      refine lv_istore (lv' := [(6, .int (zI μ1 (z + 58) x6.toNatClampNeg)), (5, .int (x5 ||| ((nI 1) <<< (x6 &&& 31)))), (0, .ref z), (1, .ref x1), (2, .int x2), (3, .int x3), (4, .int x4)]) hx hb dX0_comeRound_68 hl (by decide) rfl (fun ls hl => ?_)
      refine lv_goto (tgt := 40) hx hb dX0_comeRound_70 rfl ?_
      exact ih x3 x4 (x5 ||| ((nI 1) <<< (x6 &&& 31))) (zI μ1 (z + 58) x6.toNatClampNeg) μ1 _ _ _ hp hB (lv_sub hl [2, 3, 4, 5, 6, 1, 0] rfl)
def pX0_comeRound_5 (z : Nat) (x1 : Nat) (x2 : Int32) (Q : Int32 → zM → Prop) : Nat → Int32 → Int32 → zM → Prop
  | 0, _, _, _ => False
  | n + 1, x3, x4, μ => (zde (zR μ z 0) fun b1 => (zty μ b1 = some (.inl 1) ∧ (if (zI μ b1 6) ≤ x4 then Q x3 μ else (pX0_has z (x2 &&& (x3 ^^^ (-1 : Int32))) x4 μ fun r4 μ3 => (if r4 = 0 then pX0_comeRound_5 z x1 x2 Q n x3 (x4 + (nI 1)) μ3 else ∃ k1, pX0_comeRound_40 z x1 x2 (fun v0 v1 ν => pX0_comeRound_5 z x1 x2 Q n v0 v1 ν) Q k1 x3 x4 (nI 0) x4 μ3)))))
set_option maxHeartbeats 4000000 in
set_option maxRecDepth 100000 in
theorem wX0_comeRound_5 {p : Program} {l : Launch} {e : Env} {s : State} {m : MethodId} {args : Array Value} {below : List Frame} {meth : Method} {c : Code} {Γ : zG} {μ0 : zM} {Q : Int32 → zM → Prop} (X : zCx p m c cX0_comeRound 8 s args RX0 meth (some .int)) {x1 : Nat} (ht_x1 : zty μ0 x1 = some (.inl 2)) (z : Nat) (x2 : Int32) : ∀ (n : Nat) (x3 : Int32) (x4 : Int32) (μ : zM) (H : Heap) (locs : List Loc) (ls : Array Slot), pX0_comeRound_5 z x1 x2 Q n x3 x4 μ → zB Γ (cSh z) (zA μ0) μ0 s μ H locs → lv_has ls 8 [(0, .ref z), (1, .ref x1), (2, .int x2), (3, .int x3), (4, .int x4)] → W p l e ({ frames := 1, cells := 0, slots := 0, locals := 21 } : Room) s m args below meth c H locs 0 0 (MQ below (va_Qi Q (zPost Γ (cSh z) μ0) (zA μ0)) args s 0 0 (zA μ0)) (F0 m 5 ls []) := by
  have S := X.1
  obtain ⟨hx, hb, hml, hown, hts⟩ := X.1
  intro n
  induction n with
  | zero =>
    intro x3 x4 μ H locs ls hp
    exact hp.elim
  | succ n ih =>
    intro x3 x4 μ H locs ls hp hB hl
    unfold pX0_comeRound_5 at hp
    refine lv_iload hx hb dX0_comeRound_5 (lv_at hl 4 rfl) ?_
    refine lv_aload_n hx hb dX0_comeRound_7 rfl (lv_at hl 0 rfl) ?_
    refine g_get S hB (cT hB) rfl (T := TX0) (N := 33) (C := RX0) rfl in_X0 0 (by decide) (by decide) q304 (fun _ h9 => h9) (v := va_rf (zR μ z 0)) rfl dX0_comeRound_8 ?_
    obtain ⟨b1, eb, hp⟩ := hp
    refine W.eq (g2 := F0 m 11 ls [.ref b1, .int x4]) (by rw [eb]; rfl) ?_
    obtain ⟨ht2, hp⟩ := hp
    refine g_getN S hB ht2 rfl (T := TX1) (N := 16) (C := RX1) rfl in_X1 6 (by decide) (by decide) (zNFw hB 1 rfl) (fun _ h9 => h9) (v := .int (zI μ b1 6)) rfl dX0_comeRound_11 ?_
    refine lv_icmp_ge (tgt := 167) hx hb dX0_comeRound_14 rfl (fun c0 => ?_) (fun c0 => ?_)
    · have hp := zit hp c0
      refine lv_iload_n hx hb dX0_comeRound_167 rfl (lv_at hl 3 rfl) ?_
      exact zret_i X hB hp dX0_comeRound_168
    · have hp := zif hp c0
      refine lv_iload_n hx hb dX0_comeRound_17 rfl (lv_at hl 2 rfl) ?_
      refine lv_iload_n hx hb dX0_comeRound_18 rfl (lv_at hl 3 rfl) ?_
      refine lv_iconst (v := (-1 : Int32)) hx hb dX0_comeRound_19 rfl ?_
      refine lv_ixor hx hb dX0_comeRound_20 ?_
      refine lv_iand hx hb dX0_comeRound_21 ?_
      refine lv_iload hx hb dX0_comeRound_22 (lv_at hl 4 rfl) ?_
      refine z_calli (va_runS (As := [.int (x2 &&& (x3 ^^^ (-1 : Int32))), .int x4]) (rest := []) S (mX0_has l Γ z (x2 &&& (x3 ^^^ (-1 : Int32))) x4 μ _ hp) (va_cwS 2 hts (lw_S q921 q922 q127 q923) rfl rfl rfl hX0_has ⟨Nat.le_of_ble_eq_true rfl, Nat.le_of_ble_eq_true rfl⟩) hB.preS rfl rfl hl.1 rfl (lv_room (Nat.le_of_ble_eq_true rfl)) dX0_comeRound_24 ⟨Nat.le_refl _, Nat.le_refl _⟩) hB (fun r4 μ3 H locs hp hB => ?_)
      refine lv_if_ne (tgt := 33) hx hb dX0_comeRound_27 rfl (fun c0 => ?_) (fun c0 => ?_)
      · have hp := zif hp c0
        refine lv_iconst (v := (nI 0)) hx hb dX0_comeRound_33 rfl ?_
        refine lv_istore (lv' := [(5, .int (nI 0)), (0, .ref z), (1, .ref x1), (2, .int x2), (3, .int x3), (4, .int x4)]) hx hb dX0_comeRound_34 hl (by decide) rfl (fun ls hl => ?_)
        refine lv_iload hx hb dX0_comeRound_36 (lv_at hl 5 rfl) ?_
        refine lv_istore (lv' := [(6, .int x4), (5, .int (nI 0)), (0, .ref z), (1, .ref x1), (2, .int x2), (3, .int x3), (4, .int x4)]) hx hb dX0_comeRound_38 hl (by decide) rfl (fun ls hl => ?_)
        obtain ⟨n1, hp⟩ := hp
        exact wX0_comeRound_40 X ht_x1 z x2 (fun v0 v1 ν H2 L2 ls2 h2 b2 l2 => ih v0 v1 ν H2 L2 ls2 h2 b2 l2) n1 x3 x4 (nI 0) x4 μ3 _ _ _ hp hB (lv_sub hl [2, 3, 4, 5, 6, 1, 0] rfl)
      · have hp := zit hp c0
        refine lv_goto (tgt := 161) hx hb dX0_comeRound_30 rfl ?_
        refine lv_iinc (v := (x4 + (nI 1))) (lv' := [(4, .int (x4 + (nI 1))), (0, .ref z), (1, .ref x1), (2, .int x2), (3, .int x3)]) hx hb dX0_comeRound_161 hl (k := 4) rfl rfl (by decide) rfl (fun ls hl => ?_)
        refine lv_goto (tgt := 5) hx hb dX0_comeRound_164 rfl ?_
        exact ih x3 (x4 + (nI 1)) μ3 _ _ _ hp hB (lv_sub hl [1, 2, 3, 4, 0] rfl)
def pX0_comeRound (z : Nat) (x1 : Nat) (x2 : Int32) (μ : zM) (Q : Int32 → zM → Prop) : Prop := zty μ x1 = some (.inl 2) ∧ ∃ k1, pX0_comeRound_5 z x1 x2 Q k1 (nI 0) (nI 0) μ
theorem hX0_comeRound : yX0_comeRound.cls = "SunkTower" ∧ yX0_comeRound.cls ≠ "java/lang/invoke/MethodHandle" ∧ yX0_comeRound.cls ≠ "java/lang/invoke/VarHandle" ∧ (parseMethodDescriptor yX0_comeRound.desc).map (fun d => d.parameters.length) = some 2 := by decide +kernel
set_option maxHeartbeats 4000000 in
set_option maxRecDepth 100000 in
theorem mX0_comeRound (l : Launch) (Γ : zG) (z : Nat) (x1 : Nat) (x2 : Int32) (μ : zM) (Q : Int32 → zM → Prop) (hp : pX0_comeRound z x1 x2 μ Q) : Met l yX0_comeRound (ws_ yX0_comeRound cX0_comeRound 8 (some .int)) ({ frames := 1, cells := 0, slots := 0, locals := 21 } : Room) (va_Pc [.ref z, .ref x1, .int x2] (zPre Γ (cSh z) μ)) (va_Qi Q (zPost Γ (cSh z) μ) (zA μ)) 0 0 (zA μ) := by
  refine zstart (by decide) (Nat.le_of_ble_eq_true rfl) ?_
  intro p e s m below meth c ls X hnm hB hl
  have X : zCx p m c cX0_comeRound 8 s [.ref z, .ref x1, .int x2].toArray RX0 meth (some .int) := X
  have S := X.1
  obtain ⟨hx, hb, hml, hown, hts⟩ := X.1
  have hl : lv_has ls 8 [(0, .ref z), (1, .ref x1), (2, .int x2)] := hl
  obtain ⟨ht_x1, hp⟩ := hp
  refine lv_iconst (v := (nI 0)) hx hb dX0_comeRound_0 rfl ?_
  refine lv_istore_n (lv' := [(3, .int (nI 0)), (0, .ref z), (1, .ref x1), (2, .int x2)]) hx hb dX0_comeRound_1 rfl hl (by decide) rfl (fun ls hl => ?_)
  refine lv_iconst (v := (nI 0)) hx hb dX0_comeRound_2 rfl ?_
  refine lv_istore (lv' := [(4, .int (nI 0)), (3, .int (nI 0)), (0, .ref z), (1, .ref x1), (2, .int x2)]) hx hb dX0_comeRound_3 hl (by decide) rfl (fun ls hl => ?_)
  obtain ⟨n1, hp⟩ := hp
  exact wX0_comeRound_5 X ht_x1 z x2 n1 (nI 0) (nI 0) μ _ _ _ hp hB (lv_sub hl [2, 3, 4, 1, 0] rfl)
def pX0_isTray (z : Nat) (x0 : Int32) (μ : zM) (Q : Int32 → zM → Prop) : Prop := (pX0_in z (x0.toInt64) (0 : Int64) (3 : Int64) μ fun r2 μ1 => (zbo r2 ∧ Q r2 μ1))
theorem hX0_isTray : yX0_isTray.cls ≠ "java/lang/invoke/MethodHandle" ∧ yX0_isTray.cls ≠ "java/lang/invoke/VarHandle" ∧ (parseMethodDescriptor yX0_isTray.desc).map (fun d => d.parameters.length) = some 1 := by decide +kernel
set_option maxHeartbeats 4000000 in
set_option maxRecDepth 100000 in
theorem mX0_isTray (l : Launch) (Γ : zG) (z : Nat) (x0 : Int32) (μ : zM) (Q : Int32 → zM → Prop) (hp : pX0_isTray z x0 μ Q) : Met l yX0_isTray (ws_ yX0_isTray cX0_isTray 1 (some .boolean)) ({ frames := 1, cells := 0, slots := 0, locals := 25 } : Room) (va_Pc [.int x0] (zPre Γ (cSh z) μ)) (va_Qi Q (zPost Γ (cSh z) μ) (zA μ)) 0 0 (zA μ) := by
  refine zstart (by decide) (Nat.le_of_ble_eq_true rfl) ?_
  intro p e s m below meth c ls X hnm hB hl
  have X : zCx p m c cX0_isTray 1 s [.int x0].toArray RX0 meth (some .boolean) := X
  have S := X.1
  obtain ⟨hx, hb, hml, hown, hts⟩ := X.1
  have hl : lv_has ls 1 [(0, .int x0)] := hl
  unfold pX0_isTray at hp
  refine lv_iload_n hx hb dX0_isTray_0 rfl (lv_at hl 0 rfl) ?_
  refine lv_i2l hx hb dX0_isTray_1 rfl ?_
  refine lv_lconst (v := (0 : Int64)) hx hb dX0_isTray_2 rfl ?_
  refine lv_ldc2 (v := (3 : Int64)) hx hb hown (hts _ q949) dX0_isTray_3 ?_
  refine z_calli (va_runS (As := [.long (x0.toInt64), .long (0 : Int64), .long (3 : Int64)]) (rest := []) S (mX0_in l Γ z (x0.toInt64) (0 : Int64) (3 : Int64) μ _ hp) (va_cwS 3 hts (lw_S q418 q419 q127 q420) rfl rfl rfl hX0_in ⟨Nat.le_of_ble_eq_true rfl, Nat.le_of_ble_eq_true rfl⟩) hB.preS rfl rfl hl.1 rfl (lv_room (Nat.le_of_ble_eq_true rfl)) dX0_isTray_6 ⟨Nat.le_refl _, Nat.le_refl _⟩) hB (fun r2 μ1 H locs hp hB => ?_)
  exact zret_z X hB hp.1 hp.2 dX0_isTray_9
def pX0_draw (z : Nat) (x1 : Int32) (μ : zM) (Q : Int32 → zM → Prop) : Prop := (zpI μ z 10 (((nI 1103515245) * (zI μ z 10)) + (nI 12345)) fun μ1 => (¬ x1 = 0 ∧ Q ((((zI μ1 z 10).toUInt32 >>> ((nI 16).toUInt32 &&& Int32.toUInt32 31)).toInt32) - (((zI μ1 z 10).toUInt32 >>> ((nI 16).toUInt32 &&& Int32.toUInt32 31)).toInt32) / x1 * x1) μ1))
theorem hX0_draw : yX0_draw.cls = "SunkTower" ∧ yX0_draw.cls ≠ "java/lang/invoke/MethodHandle" ∧ yX0_draw.cls ≠ "java/lang/invoke/VarHandle" ∧ (parseMethodDescriptor yX0_draw.desc).map (fun d => d.parameters.length) = some 1 := by decide +kernel
set_option maxHeartbeats 4000000 in
set_option maxRecDepth 100000 in
theorem mX0_draw (l : Launch) (Γ : zG) (z : Nat) (x1 : Int32) (μ : zM) (Q : Int32 → zM → Prop) (hp : pX0_draw z x1 μ Q) : Met l yX0_draw (ws_ yX0_draw cX0_draw 2 (some .int)) ({ frames := 0, cells := 0, slots := 0, locals := 0 } : Room) (va_Pc [.ref z, .int x1] (zPre Γ (cSh z) μ)) (va_Qi Q (zPost Γ (cSh z) μ) (zA μ)) 0 0 (zA μ) := by
  refine zstart (by decide) (Nat.le_of_ble_eq_true rfl) ?_
  intro p e s m below meth c ls X hnm hB hl
  have X : zCx p m c cX0_draw 2 s [.ref z, .int x1].toArray RX0 meth (some .int) := X
  have S := X.1
  obtain ⟨hx, hb, hml, hown, hts⟩ := X.1
  have hl : lv_has ls 2 [(0, .ref z), (1, .int x1)] := hl
  unfold pX0_draw at hp
  refine lv_aload_n hx hb dX0_draw_0 rfl (lv_at hl 0 rfl) ?_
  refine lv_ldcw (v := (nI 1103515245)) hx hb hown (hts _ q1004) dX0_draw_1 ?_
  refine lv_aload_n hx hb dX0_draw_4 rfl (lv_at hl 0 rfl) ?_
  refine g_get S hB (cT hB) rfl (T := TX0) (N := 33) (C := RX0) rfl in_X0 10 (by decide) (by decide) q315 (fun _ h9 => h9) (v := .int (zI μ z 10)) rfl dX0_draw_5 ?_
  refine lv_imul hx hb dX0_draw_8 ?_
  refine lv_sipush (v := (nI 12345)) hx hb dX0_draw_9 rfl ?_
  refine lv_iadd hx hb dX0_draw_12 ?_
  obtain ⟨μ1, eμ1, hp⟩ := zpI_e hp
  refine g_putI S hB (cT hB) rfl (T := TX0) (N := 33) (C := RX0) rfl in_X0 10 (by decide) (by decide) (x := (((nI 1103515245) * (zI μ z 10)) + (nI 12345))) tyX0 tyX0_ok nmX0 q315 (fun _ h9 => h9) rfl (ty := .int) (by decide +kernel) rfl rfl (fun _ _ => rfl) dX0_draw_13 (fun H locs hB => ?_)
  rw [← eμ1] at hB
  refine lv_aload_n hx hb dX0_draw_16 rfl (lv_at hl 0 rfl) ?_
  refine g_get S hB (cT hB) rfl (T := TX0) (N := 33) (C := RX0) rfl in_X0 10 (by decide) (by decide) q315 (fun _ h9 => h9) (v := .int (zI μ1 z 10)) rfl dX0_draw_17 ?_
  refine lv_bipush (v := (nI 16)) hx hb dX0_draw_20 rfl ?_
  refine lv_iushr hx hb dX0_draw_22 rfl ?_
  refine lv_iload_n hx hb dX0_draw_23 rfl (lv_at hl 1 rfl) ?_
  obtain ⟨g0, hp⟩ := hp
  refine lv_irem hx hb dX0_draw_24 g0 ?_
  exact zret_i X hB hp dX0_draw_25
def pX0_isAhead (z : Nat) (x1 : Int32) (μ : zM) (Q : Int32 → zM → Prop) : Prop := (pX0_in z (x1.toInt64) (0 : Int64) (600 : Int64) μ fun r2 μ1 => (zbo r2 ∧ Q r2 μ1))
theorem hX0_isAhead : yX0_isAhead.cls = "SunkTower" ∧ yX0_isAhead.cls ≠ "java/lang/invoke/MethodHandle" ∧ yX0_isAhead.cls ≠ "java/lang/invoke/VarHandle" ∧ (parseMethodDescriptor yX0_isAhead.desc).map (fun d => d.parameters.length) = some 1 := by decide +kernel
set_option maxHeartbeats 4000000 in
set_option maxRecDepth 100000 in
theorem mX0_isAhead (l : Launch) (Γ : zG) (z : Nat) (x1 : Int32) (μ : zM) (Q : Int32 → zM → Prop) (hp : pX0_isAhead z x1 μ Q) : Met l yX0_isAhead (ws_ yX0_isAhead cX0_isAhead 2 (some .boolean)) ({ frames := 1, cells := 0, slots := 0, locals := 25 } : Room) (va_Pc [.ref z, .int x1] (zPre Γ (cSh z) μ)) (va_Qi Q (zPost Γ (cSh z) μ) (zA μ)) 0 0 (zA μ) := by
  refine zstart (by decide) (Nat.le_of_ble_eq_true rfl) ?_
  intro p e s m below meth c ls X hnm hB hl
  have X : zCx p m c cX0_isAhead 2 s [.ref z, .int x1].toArray RX0 meth (some .boolean) := X
  have S := X.1
  obtain ⟨hx, hb, hml, hown, hts⟩ := X.1
  have hl : lv_has ls 2 [(0, .ref z), (1, .int x1)] := hl
  unfold pX0_isAhead at hp
  refine lv_iload_n hx hb dX0_isAhead_0 rfl (lv_at hl 1 rfl) ?_
  refine lv_i2l hx hb dX0_isAhead_1 rfl ?_
  refine lv_lconst (v := (0 : Int64)) hx hb dX0_isAhead_2 rfl ?_
  refine lv_ldc2 (v := (600 : Int64)) hx hb hown (hts _ q1026) dX0_isAhead_3 ?_
  refine z_calli (va_runS (As := [.long (x1.toInt64), .long (0 : Int64), .long (600 : Int64)]) (rest := []) S (mX0_in l Γ z (x1.toInt64) (0 : Int64) (600 : Int64) μ _ hp) (va_cwS 3 hts (lw_S q418 q419 q127 q420) rfl rfl rfl hX0_in ⟨Nat.le_of_ble_eq_true rfl, Nat.le_of_ble_eq_true rfl⟩) hB.preS rfl rfl hl.1 rfl (lv_room (Nat.le_of_ble_eq_true rfl)) dX0_isAhead_6 ⟨Nat.le_refl _, Nat.le_refl _⟩) hB (fun r2 μ1 H locs hp hB => ?_)
  exact zret_z X hB hp.1 hp.2 dX0_isAhead_9
def pX0_moving (z : Nat) (x1 : Int32) (x2 : Int32) (x3 : Int32) (μ : zM) (Q : Int64 → zM → Prop) : Prop := (if x2 = x3 then Q (0 : Int64) μ else (if (nI 8) ≤ x3 then Q (-4000000000000 : Int64) μ else (vp_in x1 5 ∧ (pX0_has z (zI μ (z + 61) x1.toNatClampNeg) x3 μ fun r2 μ1 => (if r2 = 0 then Q (-4000000000000 : Int64) μ1 else (zde (zR μ1 z 0) fun b3 => (zty μ1 b3 = some (.inl 1) ∧ Q ((-(zI μ1 b3 11)).toInt64) μ1)))))))
theorem hX0_moving : yX0_moving.cls = "SunkTower" ∧ yX0_moving.cls ≠ "java/lang/invoke/MethodHandle" ∧ yX0_moving.cls ≠ "java/lang/invoke/VarHandle" ∧ (parseMethodDescriptor yX0_moving.desc).map (fun d => d.parameters.length) = some 3 := by decide +kernel
set_option maxHeartbeats 4000000 in
set_option maxRecDepth 100000 in
theorem mX0_moving (l : Launch) (Γ : zG) (z : Nat) (x1 : Int32) (x2 : Int32) (x3 : Int32) (μ : zM) (Q : Int64 → zM → Prop) (hp : pX0_moving z x1 x2 x3 μ Q) : Met l yX0_moving (ws_ yX0_moving cX0_moving 4 (some .long)) ({ frames := 1, cells := 0, slots := 0, locals := 21 } : Room) (va_Pc [.ref z, .int x1, .int x2, .int x3] (zPre Γ (cSh z) μ)) (va_Ql Q (zPost Γ (cSh z) μ) (zA μ)) 0 0 (zA μ) := by
  refine zstart (by decide) (Nat.le_of_ble_eq_true rfl) ?_
  intro p e s m below meth c ls X hnm hB hl
  have X : zCx p m c cX0_moving 4 s [.ref z, .int x1, .int x2, .int x3].toArray RX0 meth (some .long) := X
  have S := X.1
  obtain ⟨hx, hb, hml, hown, hts⟩ := X.1
  have hl : lv_has ls 4 [(0, .ref z), (1, .int x1), (2, .int x2), (3, .int x3)] := hl
  unfold pX0_moving at hp
  refine lv_iload_n hx hb dX0_moving_0 rfl (lv_at hl 2 rfl) ?_
  refine lv_iload_n hx hb dX0_moving_1 rfl (lv_at hl 3 rfl) ?_
  refine lv_icmp_ne (tgt := 9) hx hb dX0_moving_2 rfl (fun c0 => ?_) (fun c0 => ?_)
  · have hp := zif hp c0
    refine lv_iload_n hx hb dX0_moving_9 rfl (lv_at hl 3 rfl) ?_
    refine lv_bipush (v := (nI 8)) hx hb dX0_moving_10 rfl ?_
    refine lv_icmp_ge (tgt := 40) hx hb dX0_moving_12 rfl (fun c0 => ?_) (fun c0 => ?_)
    · have hp := zit hp c0
      refine lv_ldc2 (v := (-4000000000000 : Int64)) hx hb hown (hts _ q1109) dX0_moving_40 ?_
      exact zret_l X hB hp dX0_moving_43
    · have hp := zif hp c0
      refine lv_aload_n hx hb dX0_moving_15 rfl (lv_at hl 0 rfl) ?_
      refine g_getr S hB (cT hB) rfl (T := TX0) (N := 33) (C := RX0) rfl in_X0 16 (by decide) (by decide) q322 (fun _ h9 => h9) (fun _ => rfl) (cA hB 8 rfl).1 dX0_moving_16 ?_
      refine lv_iload_n hx hb dX0_moving_19 rfl (lv_at hl 1 rfl) ?_
      obtain ⟨hi, hp⟩ := hp
      refine g_iald S hB (cA hB 8 rfl).2 hi dX0_moving_20 ?_
      refine lv_iload_n hx hb dX0_moving_21 rfl (lv_at hl 3 rfl) ?_
      refine z_calli (va_runS (As := [.int (zI μ (z + 61) x1.toNatClampNeg), .int x3]) (rest := []) S (mX0_has l Γ z (zI μ (z + 61) x1.toNatClampNeg) x3 μ _ hp) (va_cwS 2 hts (lw_S q921 q922 q127 q923) rfl rfl rfl hX0_has ⟨Nat.le_of_ble_eq_true rfl, Nat.le_of_ble_eq_true rfl⟩) hB.preS rfl rfl hl.1 rfl (lv_room (Nat.le_of_ble_eq_true rfl)) dX0_moving_22 ⟨Nat.le_refl _, Nat.le_refl _⟩) hB (fun r2 μ1 H locs hp hB => ?_)
      refine lv_if_eq (tgt := 40) hx hb dX0_moving_25 rfl (fun c0 => ?_) (fun c0 => ?_)
      · have hp := zit hp c0
        refine lv_ldc2 (v := (-4000000000000 : Int64)) hx hb hown (hts _ q1109) dX0_moving_40 ?_
        exact zret_l X hB hp dX0_moving_43
      · have hp := zif hp c0
        refine lv_aload_n hx hb dX0_moving_28 rfl (lv_at hl 0 rfl) ?_
        refine g_get S hB (cT hB) rfl (T := TX0) (N := 33) (C := RX0) rfl in_X0 0 (by decide) (by decide) q304 (fun _ h9 => h9) (v := va_rf (zR μ1 z 0)) rfl dX0_moving_29 ?_
        obtain ⟨b3, eb, hp⟩ := hp
        refine W.eq (g2 := F0 m 32 ls [.ref b3]) (by rw [eb]; rfl) ?_
        obtain ⟨ht4, hp⟩ := hp
        refine g_getN S hB ht4 rfl (T := TX1) (N := 16) (C := RX1) rfl in_X1 11 (by decide) (by decide) (zNFw hB 3 rfl) (fun _ h9 => h9) (v := .int (zI μ1 b3 11)) rfl dX0_moving_32 ?_
        refine lv_ineg hx hb dX0_moving_35 ?_
        refine lv_i2l hx hb dX0_moving_36 rfl ?_
        refine lv_goto (tgt := 43) hx hb dX0_moving_37 rfl ?_
        exact zret_l X hB hp dX0_moving_43
  · have hp := zit hp c0
    refine lv_lconst (v := (0 : Int64)) hx hb dX0_moving_5 rfl ?_
    refine lv_goto (tgt := 43) hx hb dX0_moving_6 rfl ?_
    exact zret_l X hB hp dX0_moving_43
def pX0_through (z : Nat) (x1 : Int32) (x2 : Int32) (x3 : Int32) (μ : zM) (Q : Int64 → zM → Prop) : Prop := (pX0_moving z x1 x2 x3 μ fun r2 μ1 => (vp_in (((nI 9) * (x1 + (nI 1))) + x3) 54 ∧ (vp_in (((nI 9) * (x1 + (nI 1))) + x3) 54 ∧ Q ((r2 + (zJ μ1 (z + 59) (((nI 9) * (x1 + (nI 1))) + x3).toNatClampNeg)) + (zJ μ1 (z + 60) (((nI 9) * (x1 + (nI 1))) + x3).toNatClampNeg)) μ1)))
theorem hX0_through : yX0_through.cls = "SunkTower" ∧ yX0_through.cls ≠ "java/lang/invoke/MethodHandle" ∧ yX0_through.cls ≠ "java/lang/invoke/VarHandle" ∧ (parseMethodDescriptor yX0_through.desc).map (fun d => d.parameters.length) = some 3 := by decide +kernel
set_option maxHeartbeats 4000000 in
set_option maxRecDepth 100000 in
theorem mX0_through (l : Launch) (Γ : zG) (z : Nat) (x1 : Int32) (x2 : Int32) (x3 : Int32) (μ : zM) (Q : Int64 → zM → Prop) (hp : pX0_through z x1 x2 x3 μ Q) : Met l yX0_through (ws_ yX0_through cX0_through 4 (some .long)) ({ frames := 2, cells := 0, slots := 0, locals := 44 } : Room) (va_Pc [.ref z, .int x1, .int x2, .int x3] (zPre Γ (cSh z) μ)) (va_Ql Q (zPost Γ (cSh z) μ) (zA μ)) 0 0 (zA μ) := by
  refine zstart (by decide) (Nat.le_of_ble_eq_true rfl) ?_
  intro p e s m below meth c ls X hnm hB hl
  have X : zCx p m c cX0_through 4 s [.ref z, .int x1, .int x2, .int x3].toArray RX0 meth (some .long) := X
  have S := X.1
  obtain ⟨hx, hb, hml, hown, hts⟩ := X.1
  have hl : lv_has ls 4 [(0, .ref z), (1, .int x1), (2, .int x2), (3, .int x3)] := hl
  unfold pX0_through at hp
  refine lv_aload_n hx hb dX0_through_0 rfl (lv_at hl 0 rfl) ?_
  refine lv_iload_n hx hb dX0_through_1 rfl (lv_at hl 1 rfl) ?_
  refine lv_iload_n hx hb dX0_through_2 rfl (lv_at hl 2 rfl) ?_
  refine lv_iload_n hx hb dX0_through_3 rfl (lv_at hl 3 rfl) ?_
  refine z_calll (va_runV (As := [.int x1, .int x2, .int x3]) (rest := []) S (mX0_moving l Γ z x1 x2 x3 μ _ hp) (cwV 3 hts (lw_V q1110 q1112 qs43 q127 q1113) rfl rfl rfl hX0_moving ⟨Nat.le_of_ble_eq_true rfl, Nat.le_of_ble_eq_true rfl⟩) (hB.preV (cT hB) rfl rfl) rfl rfl hl.1 rfl (lv_room (Nat.le_of_ble_eq_true rfl)) dX0_through_4 ⟨Nat.le_refl _, Nat.le_refl _⟩) hB (fun r2 μ1 H locs hp hB => ?_)
  refine lv_aload_n hx hb dX0_through_7 rfl (lv_at hl 0 rfl) ?_
  refine g_getr S hB (cT hB) rfl (T := TX0) (N := 33) (C := RX0) rfl in_X0 14 (by decide) (by decide) q320 (fun _ h9 => h9) (fun _ => rfl) (cA hB 6 rfl).1 dX0_through_8 ?_
  refine lv_bipush (v := (nI 9)) hx hb dX0_through_11 rfl ?_
  refine lv_iload_n hx hb dX0_through_13 rfl (lv_at hl 1 rfl) ?_
  refine lv_iconst (v := (nI 1)) hx hb dX0_through_14 rfl ?_
  refine lv_iadd hx hb dX0_through_15 ?_
  refine lv_imul hx hb dX0_through_16 ?_
  refine lv_iload_n hx hb dX0_through_17 rfl (lv_at hl 3 rfl) ?_
  refine lv_iadd hx hb dX0_through_18 ?_
  obtain ⟨hi, hp⟩ := hp
  refine g_lald S hB (cA hB 6 rfl).2 hi dX0_through_19 ?_
  refine lv_ladd hx hb dX0_through_20 ?_
  refine lv_aload_n hx hb dX0_through_21 rfl (lv_at hl 0 rfl) ?_
  refine g_getr S hB (cT hB) rfl (T := TX0) (N := 33) (C := RX0) rfl in_X0 15 (by decide) (by decide) q321 (fun _ h9 => h9) (fun _ => rfl) (cA hB 7 rfl).1 dX0_through_22 ?_
  refine lv_bipush (v := (nI 9)) hx hb dX0_through_25 rfl ?_
  refine lv_iload_n hx hb dX0_through_27 rfl (lv_at hl 1 rfl) ?_
  refine lv_iconst (v := (nI 1)) hx hb dX0_through_28 rfl ?_
  refine lv_iadd hx hb dX0_through_29 ?_
  refine lv_imul hx hb dX0_through_30 ?_
  refine lv_iload_n hx hb dX0_through_31 rfl (lv_at hl 3 rfl) ?_
  refine lv_iadd hx hb dX0_through_32 ?_
  obtain ⟨hi, hp⟩ := hp
  refine g_lald S hB (cA hB 7 rfl).2 hi dX0_through_33 ?_
  refine lv_ladd hx hb dX0_through_34 ?_
  exact zret_l X hB hp dX0_through_35
def pX0_isFirst (z : Nat) (x1 : Int32) (x2 : Int32) (x3 : Int32) (μ : zM) (Q : Int32 → zM → Prop) : Prop := (pX0_moving z x1 x2 x3 μ fun r2 μ1 => (if (lg_cmp r2 (-4000000000000 : Int64)) ≤ 0 then Q (nI 0) μ1 else (pX0_through z x1 x2 x3 μ1 fun r4 μ3 => (vp_in (((nI 9) * x1) + x2) 54 ∧ (if (lg_cmp r4 (zJ μ3 (z + 60) (((nI 9) * x1) + x2).toNatClampNeg)) = 0 then Q (nI 1) μ3 else Q (nI 0) μ3)))))
theorem hX0_isFirst : yX0_isFirst.cls = "SunkTower" ∧ yX0_isFirst.cls ≠ "java/lang/invoke/MethodHandle" ∧ yX0_isFirst.cls ≠ "java/lang/invoke/VarHandle" ∧ (parseMethodDescriptor yX0_isFirst.desc).map (fun d => d.parameters.length) = some 3 := by decide +kernel
set_option maxHeartbeats 4000000 in
set_option maxRecDepth 100000 in
theorem mX0_isFirst (l : Launch) (Γ : zG) (z : Nat) (x1 : Int32) (x2 : Int32) (x3 : Int32) (μ : zM) (Q : Int32 → zM → Prop) (hp : pX0_isFirst z x1 x2 x3 μ Q) : Met l yX0_isFirst (ws_ yX0_isFirst cX0_isFirst 4 (some .boolean)) ({ frames := 3, cells := 0, slots := 0, locals := 67 } : Room) (va_Pc [.ref z, .int x1, .int x2, .int x3] (zPre Γ (cSh z) μ)) (va_Qi Q (zPost Γ (cSh z) μ) (zA μ)) 0 0 (zA μ) := by
  refine zstart (by decide) (Nat.le_of_ble_eq_true rfl) ?_
  intro p e s m below meth c ls X hnm hB hl
  have X : zCx p m c cX0_isFirst 4 s [.ref z, .int x1, .int x2, .int x3].toArray RX0 meth (some .boolean) := X
  have S := X.1
  obtain ⟨hx, hb, hml, hown, hts⟩ := X.1
  have hl : lv_has ls 4 [(0, .ref z), (1, .int x1), (2, .int x2), (3, .int x3)] := hl
  unfold pX0_isFirst at hp
  refine lv_aload_n hx hb dX0_isFirst_0 rfl (lv_at hl 0 rfl) ?_
  refine lv_iload_n hx hb dX0_isFirst_1 rfl (lv_at hl 1 rfl) ?_
  refine lv_iload_n hx hb dX0_isFirst_2 rfl (lv_at hl 2 rfl) ?_
  refine lv_iload_n hx hb dX0_isFirst_3 rfl (lv_at hl 3 rfl) ?_
  refine z_calll (va_runV (As := [.int x1, .int x2, .int x3]) (rest := []) S (mX0_moving l Γ z x1 x2 x3 μ _ hp) (cwV 3 hts (lw_V q1110 q1112 qs43 q127 q1113) rfl rfl rfl hX0_moving ⟨Nat.le_of_ble_eq_true rfl, Nat.le_of_ble_eq_true rfl⟩) (hB.preV (cT hB) rfl rfl) rfl rfl hl.1 rfl (lv_room (Nat.le_of_ble_eq_true rfl)) dX0_isFirst_4 ⟨Nat.le_refl _, Nat.le_refl _⟩) hB (fun r2 μ1 H locs hp hB => ?_)
  refine lv_ldc2 (v := (-4000000000000 : Int64)) hx hb hown (hts _ q1109) dX0_isFirst_7 ?_
  refine W.lcmp hx hb dX0_isFirst_10 ?_
  refine lv_if_le (tgt := 40) hx hb dX0_isFirst_11 rfl (fun c0 => ?_) (fun c0 => ?_)
  · have hp := zit hp c0
    refine lv_iconst (v := (nI 0)) hx hb dX0_isFirst_40 rfl ?_
    exact zret_z X hB rfl hp dX0_isFirst_41
  · have hp := zif hp c0
    refine lv_aload_n hx hb dX0_isFirst_14 rfl (lv_at hl 0 rfl) ?_
    refine lv_iload_n hx hb dX0_isFirst_15 rfl (lv_at hl 1 rfl) ?_
    refine lv_iload_n hx hb dX0_isFirst_16 rfl (lv_at hl 2 rfl) ?_
    refine lv_iload_n hx hb dX0_isFirst_17 rfl (lv_at hl 3 rfl) ?_
    refine z_calll (va_runV (As := [.int x1, .int x2, .int x3]) (rest := []) S (mX0_through l Γ z x1 x2 x3 μ1 _ hp) (cwV 3 hts (lw_V q1114 q1116 qs44 q127 q1117) rfl rfl rfl hX0_through ⟨Nat.le_of_ble_eq_true rfl, Nat.le_of_ble_eq_true rfl⟩) (hB.preV (cT hB) rfl rfl) rfl rfl hl.1 rfl (lv_room (Nat.le_of_ble_eq_true rfl)) dX0_isFirst_18 ⟨Nat.le_refl _, Nat.le_refl _⟩) hB (fun r4 μ3 H locs hp hB => ?_)
    refine lv_aload_n hx hb dX0_isFirst_21 rfl (lv_at hl 0 rfl) ?_
    refine g_getr S hB (cT hB) rfl (T := TX0) (N := 33) (C := RX0) rfl in_X0 15 (by decide) (by decide) q321 (fun _ h9 => h9) (fun _ => rfl) (cA hB 7 rfl).1 dX0_isFirst_22 ?_
    refine lv_bipush (v := (nI 9)) hx hb dX0_isFirst_25 rfl ?_
    refine lv_iload_n hx hb dX0_isFirst_27 rfl (lv_at hl 1 rfl) ?_
    refine lv_imul hx hb dX0_isFirst_28 ?_
    refine lv_iload_n hx hb dX0_isFirst_29 rfl (lv_at hl 2 rfl) ?_
    refine lv_iadd hx hb dX0_isFirst_30 ?_
    obtain ⟨hi, hp⟩ := hp
    refine g_lald S hB (cA hB 7 rfl).2 hi dX0_isFirst_31 ?_
    refine W.lcmp hx hb dX0_isFirst_32 ?_
    refine lv_if_ne (tgt := 40) hx hb dX0_isFirst_33 rfl (fun c0 => ?_) (fun c0 => ?_)
    · have hp := zif hp c0
      refine lv_iconst (v := (nI 0)) hx hb dX0_isFirst_40 rfl ?_
      exact zret_z X hB rfl hp dX0_isFirst_41
    · have hp := zit hp c0
      refine lv_iconst (v := (nI 1)) hx hb dX0_isFirst_36 rfl ?_
      refine lv_goto (tgt := 41) hx hb dX0_isFirst_37 rfl ?_
      exact zret_z X hB rfl hp dX0_isFirst_41
def pX0_isBuilding (z : Nat) (x0 : Int32) (x1 : Int32) (μ : zM) (Q : Int32 → zM → Prop) : Prop := (pX0_in z (x0.toInt64) (1 : Int64) (24 : Int64) μ fun r2 μ1 => (if r2 = 0 then Q (nI 0) μ1 else (pX0_in z (x1.toInt64) (0 : Int64) (3 : Int64) μ1 fun r4 μ3 => (if r4 = 0 then Q (nI 0) μ3 else Q (nI 1) μ3))))
theorem hX0_isBuilding : yX0_isBuilding.cls ≠ "java/lang/invoke/MethodHandle" ∧ yX0_isBuilding.cls ≠ "java/lang/invoke/VarHandle" ∧ (parseMethodDescriptor yX0_isBuilding.desc).map (fun d => d.parameters.length) = some 2 := by decide +kernel
set_option maxHeartbeats 4000000 in
set_option maxRecDepth 100000 in
theorem mX0_isBuilding (l : Launch) (Γ : zG) (z : Nat) (x0 : Int32) (x1 : Int32) (μ : zM) (Q : Int32 → zM → Prop) (hp : pX0_isBuilding z x0 x1 μ Q) : Met l yX0_isBuilding (ws_ yX0_isBuilding cX0_isBuilding 2 (some .boolean)) ({ frames := 1, cells := 0, slots := 0, locals := 25 } : Room) (va_Pc [.int x0, .int x1] (zPre Γ (cSh z) μ)) (va_Qi Q (zPost Γ (cSh z) μ) (zA μ)) 0 0 (zA μ) := by
  refine zstart (by decide) (Nat.le_of_ble_eq_true rfl) ?_
  intro p e s m below meth c ls X hnm hB hl
  have X : zCx p m c cX0_isBuilding 2 s [.int x0, .int x1].toArray RX0 meth (some .boolean) := X
  have S := X.1
  obtain ⟨hx, hb, hml, hown, hts⟩ := X.1
  have hl : lv_has ls 2 [(0, .int x0), (1, .int x1)] := hl
  unfold pX0_isBuilding at hp
  refine lv_iload_n hx hb dX0_isBuilding_0 rfl (lv_at hl 0 rfl) ?_
  refine lv_i2l hx hb dX0_isBuilding_1 rfl ?_
  refine lv_lconst (v := (1 : Int64)) hx hb dX0_isBuilding_2 rfl ?_
  refine lv_ldc2 (v := (24 : Int64)) hx hb hown (hts _ q1144) dX0_isBuilding_3 ?_
  refine z_calli (va_runS (As := [.long (x0.toInt64), .long (1 : Int64), .long (24 : Int64)]) (rest := []) S (mX0_in l Γ z (x0.toInt64) (1 : Int64) (24 : Int64) μ _ hp) (va_cwS 3 hts (lw_S q418 q419 q127 q420) rfl rfl rfl hX0_in ⟨Nat.le_of_ble_eq_true rfl, Nat.le_of_ble_eq_true rfl⟩) hB.preS rfl rfl hl.1 rfl (lv_room (Nat.le_of_ble_eq_true rfl)) dX0_isBuilding_6 ⟨Nat.le_refl _, Nat.le_refl _⟩) hB (fun r2 μ1 H locs hp hB => ?_)
  refine lv_if_eq (tgt := 28) hx hb dX0_isBuilding_9 rfl (fun c0 => ?_) (fun c0 => ?_)
  · have hp := zit hp c0
    refine lv_iconst (v := (nI 0)) hx hb dX0_isBuilding_28 rfl ?_
    exact zret_z X hB rfl hp dX0_isBuilding_29
  · have hp := zif hp c0
    refine lv_iload_n hx hb dX0_isBuilding_12 rfl (lv_at hl 1 rfl) ?_
    refine lv_i2l hx hb dX0_isBuilding_13 rfl ?_
    refine lv_lconst (v := (0 : Int64)) hx hb dX0_isBuilding_14 rfl ?_
    refine lv_ldc2 (v := (3 : Int64)) hx hb hown (hts _ q949) dX0_isBuilding_15 ?_
    refine z_calli (va_runS (As := [.long (x1.toInt64), .long (0 : Int64), .long (3 : Int64)]) (rest := []) S (mX0_in l Γ z (x1.toInt64) (0 : Int64) (3 : Int64) μ1 _ hp) (va_cwS 3 hts (lw_S q418 q419 q127 q420) rfl rfl rfl hX0_in ⟨Nat.le_of_ble_eq_true rfl, Nat.le_of_ble_eq_true rfl⟩) hB.preS rfl rfl hl.1 rfl (lv_room (Nat.le_of_ble_eq_true rfl)) dX0_isBuilding_18 ⟨Nat.le_refl _, Nat.le_refl _⟩) hB (fun r4 μ3 H locs hp hB => ?_)
    refine lv_if_eq (tgt := 28) hx hb dX0_isBuilding_21 rfl (fun c0 => ?_) (fun c0 => ?_)
    · have hp := zit hp c0
      refine lv_iconst (v := (nI 0)) hx hb dX0_isBuilding_28 rfl ?_
      exact zret_z X hB rfl hp dX0_isBuilding_29
    · have hp := zif hp c0
      refine lv_iconst (v := (nI 1)) hx hb dX0_isBuilding_24 rfl ?_
      refine lv_goto (tgt := 29) hx hb dX0_isBuilding_25 rfl ?_
      exact zret_z X hB rfl hp dX0_isBuilding_29
def pX0_sunkOf (z : Nat) (x1 : Int32) (x2 : Int32) (μ : zM) (Q : Int32 → zM → Prop) : Prop := (vp_in (((nI 61) * x1) + x2) 61061 ∧ Q (zI μ (z + 69) (((nI 61) * x1) + x2).toNatClampNeg) μ)
theorem hX0_sunkOf : yX0_sunkOf.cls = "SunkTower" ∧ yX0_sunkOf.cls ≠ "java/lang/invoke/MethodHandle" ∧ yX0_sunkOf.cls ≠ "java/lang/invoke/VarHandle" ∧ (parseMethodDescriptor yX0_sunkOf.desc).map (fun d => d.parameters.length) = some 2 := by decide +kernel
set_option maxHeartbeats 4000000 in
set_option maxRecDepth 100000 in
theorem mX0_sunkOf (l : Launch) (Γ : zG) (z : Nat) (x1 : Int32) (x2 : Int32) (μ : zM) (Q : Int32 → zM → Prop) (hp : pX0_sunkOf z x1 x2 μ Q) : Met l yX0_sunkOf (ws_ yX0_sunkOf cX0_sunkOf 3 (some .int)) ({ frames := 0, cells := 0, slots := 0, locals := 0 } : Room) (va_Pc [.ref z, .int x1, .int x2] (zPre Γ (cSh z) μ)) (va_Qi Q (zPost Γ (cSh z) μ) (zA μ)) 0 0 (zA μ) := by
  refine zstart (by decide) (Nat.le_of_ble_eq_true rfl) ?_
  intro p e s m below meth c ls X hnm hB hl
  have X : zCx p m c cX0_sunkOf 3 s [.ref z, .int x1, .int x2].toArray RX0 meth (some .int) := X
  have S := X.1
  obtain ⟨hx, hb, hml, hown, hts⟩ := X.1
  have hl : lv_has ls 3 [(0, .ref z), (1, .int x1), (2, .int x2)] := hl
  unfold pX0_sunkOf at hp
  refine lv_aload_n hx hb dX0_sunkOf_0 rfl (lv_at hl 0 rfl) ?_
  refine g_getr S hB (cT hB) rfl (T := TX0) (N := 33) (C := RX0) rfl in_X0 29 (by decide) (by decide) q335 (fun _ h9 => h9) (fun _ => rfl) (cA hB 16 rfl).1 dX0_sunkOf_1 ?_
  refine lv_bipush (v := (nI 61)) hx hb dX0_sunkOf_4 rfl ?_
  refine lv_iload_n hx hb dX0_sunkOf_6 rfl (lv_at hl 1 rfl) ?_
  refine lv_imul hx hb dX0_sunkOf_7 ?_
  refine lv_iload_n hx hb dX0_sunkOf_8 rfl (lv_at hl 2 rfl) ?_
  refine lv_iadd hx hb dX0_sunkOf_9 ?_
  obtain ⟨hi, hp⟩ := hp
  refine g_iald S hB (cA hB 16 rfl).2 hi dX0_sunkOf_10 ?_
  exact zret_i X hB hp dX0_sunkOf_11
def pX1_lays (z : Nat) (s0 : Nat) (x1 : Int32) (x2 : Int32) (x3 : Int32) (μ : zM) (Q : zM → Prop) : Prop := zty μ s0 = some (.inl 1) ∧ (pJ2_floorDiv (((nI 144) * x1) - x2) (nI 12) μ fun r2 μ1 => (vp_in (nI 0) 6 ∧ zpI μ1 (s0 + 5) (nI 0).toNatClampNeg r2 fun μ3 => (vp_in (nI 1) 6 ∧ zpI μ3 (s0 + 5) (nI 1).toNatClampNeg x1 fun μ4 => (vp_in (nI 2) 6 ∧ zpI μ4 (s0 + 5) (nI 2).toNatClampNeg (x3 - x3 / (nI 12) * (nI 12)) fun μ5 => Q μ5))))
theorem tX1_lays {z : Nat} {s0 : Nat} {x1 : Int32} {x2 : Int32} {x3 : Int32} {μ : zM} {Q : zM → Prop} (h : pX1_lays z s0 x1 x2 x3 μ Q) : zty μ s0 = some (.inl 1) := h.1
theorem hX1_lays : yX1_lays.cls = "SunkTower$Tower" ∧ yX1_lays.cls ≠ "java/lang/invoke/MethodHandle" ∧ yX1_lays.cls ≠ "java/lang/invoke/VarHandle" ∧ (parseMethodDescriptor yX1_lays.desc).map (fun d => d.parameters.length) = some 3 := by decide +kernel
set_option maxHeartbeats 4000000 in
set_option maxRecDepth 100000 in
theorem mX1_lays (l : Launch) (Γ : zG) (z : Nat) (s0 : Nat) (x1 : Int32) (x2 : Int32) (x3 : Int32) (μ : zM) (Q : zM → Prop) (hp : pX1_lays z s0 x1 x2 x3 μ Q) : Met l yX1_lays (ws_ yX1_lays cX1_lays 4 none) ({ frames := 1, cells := 0, slots := 0, locals := 22 } : Room) (va_Pc [.ref s0, .int x1, .int x2, .int x3] (zPre Γ (cSh z) μ)) (va_Qv Q (zPost Γ (cSh z) μ) (zA μ)) 0 0 (zA μ) := by
  refine zstart (by decide) (Nat.le_of_ble_eq_true rfl) ?_
  intro p e s m below meth c ls X hnm hB hl
  have X : zCx p m c cX1_lays 4 s [.ref s0, .int x1, .int x2, .int x3].toArray RX1 meth none := X
  have S := X.1
  obtain ⟨hx, hb, hml, hown, hts⟩ := X.1
  have hl : lv_has ls 4 [(0, .ref s0), (1, .int x1), (2, .int x2), (3, .int x3)] := hl
  obtain ⟨ht_s0, hp⟩ := hp
  refine lv_aload_n hx hb dX1_lays_0 rfl (lv_at hl 0 rfl) ?_
  refine g_getr S hB (hB.ty ht_s0 rfl) rfl (T := TX1) (N := 16) (C := RX1) rfl in_X1 4 (by decide) (by decide) q179 (fun _ h9 => h9) (fun _ => rfl) (cS1 hB (hB.ty ht_s0 rfl) 4 rfl).1 dX1_lays_1 ?_
  refine lv_iconst (v := (nI 0)) hx hb dX1_lays_4 rfl ?_
  refine lv_sipush (v := (nI 144)) hx hb dX1_lays_5 rfl ?_
  refine lv_iload_n hx hb dX1_lays_8 rfl (lv_at hl 1 rfl) ?_
  refine lv_imul hx hb dX1_lays_9 ?_
  refine lv_iload_n hx hb dX1_lays_10 rfl (lv_at hl 2 rfl) ?_
  refine lv_isub hx hb dX1_lays_11 ?_
  refine lv_bipush (v := (nI 12)) hx hb dX1_lays_12 rfl ?_
  refine z_calli (va_runS (As := [.int (((nI 144) * x1) - x2), .int (nI 12)]) (rest := [.int (nI 0), .ref (s0 + 5)]) S (mJ2_floorDiv l Γ (cSh z) (((nI 144) * x1) - x2) (nI 12) μ _ hp) (va_cwS 2 hts (lw_S q837 q838 q136 q839) rfl rfl rfl hJ2_floorDiv ⟨Nat.le_of_ble_eq_true rfl, Nat.le_of_ble_eq_true rfl⟩) hB.preS rfl rfl hl.1 rfl (lv_room (Nat.le_of_ble_eq_true rfl)) dX1_lays_14 ⟨Nat.le_refl _, Nat.le_refl _⟩) hB (fun r2 μ1 H locs hp hB => ?_)
  obtain ⟨hi, hp⟩ := hp
  obtain ⟨μ3, eμ3, hp⟩ := zpI_e hp
  refine g_iast S hB (cS1 hB (hB.ty ht_s0 rfl) 4 rfl).2 hi dX1_lays_17 (fun H locs hB => ?_)
  rw [← eμ3] at hB
  refine lv_aload_n hx hb dX1_lays_18 rfl (lv_at hl 0 rfl) ?_
  refine g_getr S hB (hB.ty ht_s0 rfl) rfl (T := TX1) (N := 16) (C := RX1) rfl in_X1 4 (by decide) (by decide) q179 (fun _ h9 => h9) (fun _ => rfl) (cS1 hB (hB.ty ht_s0 rfl) 4 rfl).1 dX1_lays_19 ?_
  refine lv_iconst (v := (nI 1)) hx hb dX1_lays_22 rfl ?_
  refine lv_iload_n hx hb dX1_lays_23 rfl (lv_at hl 1 rfl) ?_
  obtain ⟨hi, hp⟩ := hp
  obtain ⟨μ4, eμ4, hp⟩ := zpI_e hp
  refine g_iast S hB (cS1 hB (hB.ty ht_s0 rfl) 4 rfl).2 hi dX1_lays_24 (fun H locs hB => ?_)
  rw [← eμ4] at hB
  refine lv_aload_n hx hb dX1_lays_25 rfl (lv_at hl 0 rfl) ?_
  refine g_getr S hB (hB.ty ht_s0 rfl) rfl (T := TX1) (N := 16) (C := RX1) rfl in_X1 4 (by decide) (by decide) q179 (fun _ h9 => h9) (fun _ => rfl) (cS1 hB (hB.ty ht_s0 rfl) 4 rfl).1 dX1_lays_26 ?_
  refine lv_iconst (v := (nI 2)) hx hb dX1_lays_29 rfl ?_
  refine lv_iload_n hx hb dX1_lays_30 rfl (lv_at hl 3 rfl) ?_
  refine lv_bipush (v := (nI 12)) hx hb dX1_lays_31 rfl ?_
  refine lv_irem hx hb dX1_lays_33 (by decide) ?_
  obtain ⟨hi, hp⟩ := hp
  obtain ⟨μ5, eμ5, hp⟩ := zpI_e hp
  refine g_iast S hB (cS1 hB (hB.ty ht_s0 rfl) 4 rfl).2 hi dX1_lays_34 (fun H locs hB => ?_)
  rw [← eμ5] at hB
  exact zret_v X hB hp dX1_lays_35
def pX2_begins (z : Nat) (s0 : Nat) (μ : zM) (Q : Option Nat → zM → Prop) : Prop := zty μ s0 = some (.inl 2) ∧ (zde (zR μ z 0) fun b1 => (zty μ b1 = some (.inl 1) ∧ (zcr (nI 0) (nI 0) (nI 6) 6 6 ∧ zpC μ (b1 + 4) (s0 + 1) (nI 0).toNatClampNeg (nI 0).toNatClampNeg (nI 6).toNatClampNeg fun μ3 => (zde (zR μ3 z 0) fun b4 => (zty μ3 b4 = some (.inl 1) ∧ (zcr (nI 0) (nI 0) (nI 6) 6 6 ∧ zpC μ3 (b4 + 2) (s0 + 2) (nI 0).toNatClampNeg (nI 0).toNatClampNeg (nI 6).toNatClampNeg fun μ6 => (zde (zR μ6 z 0) fun b7 => (zty μ6 b7 = some (.inl 1) ∧ (zcr (nI 0) (nI 0) (nI 8) 8 8 ∧ zpC μ6 (b7 + 1) (s0 + 3) (nI 0).toNatClampNeg (nI 0).toNatClampNeg (nI 8).toNatClampNeg fun μ9 => (zde (zR μ9 z 0) fun b10 => (zty μ9 b10 = some (.inl 1) ∧ (zpI μ9 s0 3 (zI μ9 b10 5) fun μ12 => (zde (zR μ12 z 0) fun b13 => (zty μ12 b13 = some (.inl 1) ∧ (zpI μ12 s0 4 (zI μ12 b13 7) fun μ15 => (zde (zR μ15 z 0) fun b16 => (zty μ15 b16 = some (.inl 1) ∧ (zpI μ15 s0 5 (zI μ15 b16 8) fun μ18 => (zpI μ18 s0 6 (nI 0) fun μ19 => Q (some s0) μ19)))))))))))))))))))
theorem tX2_begins {z : Nat} {s0 : Nat} {μ : zM} {Q : Option Nat → zM → Prop} (h : pX2_begins z s0 μ Q) : zty μ s0 = some (.inl 2) := h.1
theorem hX2_begins : yX2_begins.cls = "SunkTower$State" ∧ yX2_begins.cls ≠ "java/lang/invoke/MethodHandle" ∧ yX2_begins.cls ≠ "java/lang/invoke/VarHandle" ∧ (parseMethodDescriptor yX2_begins.desc).map (fun d => d.parameters.length) = some 0 := by decide +kernel
set_option maxHeartbeats 4000000 in
set_option maxRecDepth 100000 in
theorem mX2_begins (l : Launch) (Γ : zG) (z : Nat) (s0 : Nat) (μ : zM) (Q : Option Nat → zM → Prop) (hp : pX2_begins z s0 μ Q) : Met l yX2_begins (ws_ yX2_begins cX2_begins 1 (some (.object "SunkTower$State"))) ({ frames := 1, cells := 0, slots := 0, locals := 64 } : Room) (va_Pc [.ref s0] (zPre Γ (cSh z) μ)) (va_Qq Q (zPost Γ (cSh z) μ) (zA μ)) 0 0 (zA μ) := by
  refine zstart (by decide) (Nat.le_of_ble_eq_true rfl) ?_
  intro p e s m below meth c ls X hnm hB hl
  have X : zCx p m c cX2_begins 1 s [.ref s0].toArray RX2 meth (some (.object "SunkTower$State")) := X
  have S := X.1
  obtain ⟨hx, hb, hml, hown, hts⟩ := X.1
  have hl : lv_has ls 1 [(0, .ref s0)] := hl
  obtain ⟨ht_s0, hp⟩ := hp
  refine lv_aload_n hx hb dX2_begins_0 rfl (lv_at hl 0 rfl) ?_
  refine g_getr S hB (hB.ty ht_s0 rfl) rfl (T := TX2) (N := 8) (C := RX2) rfl in_X2 7 (by decide) (by decide) q260 (fun _ h9 => h9) (fun _ => rfl) (cZ2 hB (hB.ty ht_s0 rfl)) dX2_begins_1 ?_
  refine g_getN S hB (cT hB) rfl (T := TX0) (N := 33) (C := RX0) rfl in_X0 0 (by decide) (by decide) (zNFw hB 25 rfl) (fun _ h9 => h9) (v := va_rf (zR μ z 0)) rfl dX2_begins_4 ?_
  obtain ⟨b1, eb, hp⟩ := hp
  refine W.eq (g2 := F0 m 7 ls [.ref b1]) (by rw [eb]; rfl) ?_
  obtain ⟨ht2, hp⟩ := hp
  refine g_getrN S hB ht2 rfl (T := TX1) (N := 16) (C := RX1) rfl in_X1 3 (by decide) (by decide) (zNFw hB 19 rfl) (fun _ h9 => h9) (fun _ => rfl) (cS1 hB ht2 3 rfl).1 dX2_begins_7 ?_
  refine lv_iconst (v := (nI 0)) hx hb dX2_begins_10 rfl ?_
  refine lv_aload_n hx hb dX2_begins_11 rfl (lv_at hl 0 rfl) ?_
  refine g_getr S hB (hB.ty ht_s0 rfl) rfl (T := TX2) (N := 8) (C := RX2) rfl in_X2 0 (by decide) (by decide) q246 (fun _ h9 => h9) (fun _ => rfl) (cS2 hB (hB.ty ht_s0 rfl) 0 rfl).1 dX2_begins_12 ?_
  refine lv_iconst (v := (nI 0)) hx hb dX2_begins_15 rfl ?_
  refine lv_bipush (v := (nI 6)) hx hb dX2_begins_16 rfl ?_
  obtain ⟨hi, hp⟩ := hp
  obtain ⟨μ3, eμ3, hp⟩ := zpC_e hp
  refine g_copyi S hB (hml.trans hl.1.symm) (cS1 hB ht2 3 rfl).2 (cS2 hB (hB.ty ht_s0 rfl) 0 rfl).2 hi (hts _ q300) (hts _ q302) (hts _ q301) (hts _ q131) (Nat.le_of_ble_eq_true rfl) (Nat.le_of_ble_eq_true rfl) dX2_begins_18 (fun H locs hB => ?_)
  rw [← eμ3] at hB
  refine lv_aload_n hx hb dX2_begins_21 rfl (lv_at hl 0 rfl) ?_
  refine g_getr S hB (hB.ty ht_s0 rfl) rfl (T := TX2) (N := 8) (C := RX2) rfl in_X2 7 (by decide) (by decide) q260 (fun _ h9 => h9) (fun _ => rfl) (cZ2 hB (hB.ty ht_s0 rfl)) dX2_begins_22 ?_
  refine g_getN S hB (cT hB) rfl (T := TX0) (N := 33) (C := RX0) rfl in_X0 0 (by decide) (by decide) (zNFw hB 25 rfl) (fun _ h9 => h9) (v := va_rf (zR μ3 z 0)) rfl dX2_begins_25 ?_
  obtain ⟨b4, eb, hp⟩ := hp
  refine W.eq (g2 := F0 m 28 ls [.ref b4]) (by rw [eb]; rfl) ?_
  obtain ⟨ht5, hp⟩ := hp
  refine g_getrN S hB ht5 rfl (T := TX1) (N := 16) (C := RX1) rfl in_X1 1 (by decide) (by decide) (zNFw hB 17 rfl) (fun _ h9 => h9) (fun _ => rfl) (cS1 hB ht5 1 rfl).1 dX2_begins_28 ?_
  refine lv_iconst (v := (nI 0)) hx hb dX2_begins_31 rfl ?_
  refine lv_aload_n hx hb dX2_begins_32 rfl (lv_at hl 0 rfl) ?_
  refine g_getr S hB (hB.ty ht_s0 rfl) rfl (T := TX2) (N := 8) (C := RX2) rfl in_X2 1 (by decide) (by decide) q248 (fun _ h9 => h9) (fun _ => rfl) (cS2 hB (hB.ty ht_s0 rfl) 1 rfl).1 dX2_begins_33 ?_
  refine lv_iconst (v := (nI 0)) hx hb dX2_begins_36 rfl ?_
  refine lv_bipush (v := (nI 6)) hx hb dX2_begins_37 rfl ?_
  obtain ⟨hi, hp⟩ := hp
  obtain ⟨μ6, eμ6, hp⟩ := zpC_e hp
  refine g_copyi S hB (hml.trans hl.1.symm) (cS1 hB ht5 1 rfl).2 (cS2 hB (hB.ty ht_s0 rfl) 1 rfl).2 hi (hts _ q300) (hts _ q302) (hts _ q301) (hts _ q131) (Nat.le_of_ble_eq_true rfl) (Nat.le_of_ble_eq_true rfl) dX2_begins_39 (fun H locs hB => ?_)
  rw [← eμ6] at hB
  refine lv_aload_n hx hb dX2_begins_42 rfl (lv_at hl 0 rfl) ?_
  refine g_getr S hB (hB.ty ht_s0 rfl) rfl (T := TX2) (N := 8) (C := RX2) rfl in_X2 7 (by decide) (by decide) q260 (fun _ h9 => h9) (fun _ => rfl) (cZ2 hB (hB.ty ht_s0 rfl)) dX2_begins_43 ?_
  refine g_getN S hB (cT hB) rfl (T := TX0) (N := 33) (C := RX0) rfl in_X0 0 (by decide) (by decide) (zNFw hB 25 rfl) (fun _ h9 => h9) (v := va_rf (zR μ6 z 0)) rfl dX2_begins_46 ?_
  obtain ⟨b7, eb, hp⟩ := hp
  refine W.eq (g2 := F0 m 49 ls [.ref b7]) (by rw [eb]; rfl) ?_
  obtain ⟨ht8, hp⟩ := hp
  refine g_getrN S hB ht8 rfl (T := TX1) (N := 16) (C := RX1) rfl in_X1 0 (by decide) (by decide) (zNFw hB 16 rfl) (fun _ h9 => h9) (fun _ => rfl) (cS1 hB ht8 0 rfl).1 dX2_begins_49 ?_
  refine lv_iconst (v := (nI 0)) hx hb dX2_begins_52 rfl ?_
  refine lv_aload_n hx hb dX2_begins_53 rfl (lv_at hl 0 rfl) ?_
  refine g_getr S hB (hB.ty ht_s0 rfl) rfl (T := TX2) (N := 8) (C := RX2) rfl in_X2 2 (by decide) (by decide) q250 (fun _ h9 => h9) (fun _ => rfl) (cS2 hB (hB.ty ht_s0 rfl) 2 rfl).1 dX2_begins_54 ?_
  refine lv_iconst (v := (nI 0)) hx hb dX2_begins_57 rfl ?_
  refine lv_bipush (v := (nI 8)) hx hb dX2_begins_58 rfl ?_
  obtain ⟨hi, hp⟩ := hp
  obtain ⟨μ9, eμ9, hp⟩ := zpC_e hp
  refine g_copyi S hB (hml.trans hl.1.symm) (cS1 hB ht8 0 rfl).2 (cS2 hB (hB.ty ht_s0 rfl) 2 rfl).2 hi (hts _ q300) (hts _ q302) (hts _ q301) (hts _ q131) (Nat.le_of_ble_eq_true rfl) (Nat.le_of_ble_eq_true rfl) dX2_begins_60 (fun H locs hB => ?_)
  rw [← eμ9] at hB
  refine lv_aload_n hx hb dX2_begins_63 rfl (lv_at hl 0 rfl) ?_
  refine lv_aload_n hx hb dX2_begins_64 rfl (lv_at hl 0 rfl) ?_
  refine g_getr S hB (hB.ty ht_s0 rfl) rfl (T := TX2) (N := 8) (C := RX2) rfl in_X2 7 (by decide) (by decide) q260 (fun _ h9 => h9) (fun _ => rfl) (cZ2 hB (hB.ty ht_s0 rfl)) dX2_begins_65 ?_
  refine g_getN S hB (cT hB) rfl (T := TX0) (N := 33) (C := RX0) rfl in_X0 0 (by decide) (by decide) (zNFw hB 25 rfl) (fun _ h9 => h9) (v := va_rf (zR μ9 z 0)) rfl dX2_begins_68 ?_
  obtain ⟨b10, eb, hp⟩ := hp
  refine W.eq (g2 := F0 m 71 ls [.ref b10, .ref s0]) (by rw [eb]; rfl) ?_
  obtain ⟨ht11, hp⟩ := hp
  refine g_getN S hB ht11 rfl (T := TX1) (N := 16) (C := RX1) rfl in_X1 5 (by decide) (by decide) (zNFw hB 20 rfl) (fun _ h9 => h9) (v := .int (zI μ9 b10 5)) rfl dX2_begins_71 ?_
  obtain ⟨μ12, eμ12, hp⟩ := zpI_e hp
  refine g_putI S hB (hB.ty ht_s0 rfl) rfl (T := TX2) (N := 8) (C := RX2) rfl in_X2 3 (by decide) (by decide) (x := (zI μ9 b10 5)) tyX2 tyX2_ok nmX2 q252 (fun _ h9 => h9) rfl (ty := .int) (by decide +kernel) rfl rfl (fun _ _ => rfl) dX2_begins_74 (fun H locs hB => ?_)
  rw [← eμ12] at hB
  refine lv_aload_n hx hb dX2_begins_77 rfl (lv_at hl 0 rfl) ?_
  refine lv_aload_n hx hb dX2_begins_78 rfl (lv_at hl 0 rfl) ?_
  refine g_getr S hB (hB.ty ht_s0 rfl) rfl (T := TX2) (N := 8) (C := RX2) rfl in_X2 7 (by decide) (by decide) q260 (fun _ h9 => h9) (fun _ => rfl) (cZ2 hB (hB.ty ht_s0 rfl)) dX2_begins_79 ?_
  refine g_getN S hB (cT hB) rfl (T := TX0) (N := 33) (C := RX0) rfl in_X0 0 (by decide) (by decide) (zNFw hB 25 rfl) (fun _ h9 => h9) (v := va_rf (zR μ12 z 0)) rfl dX2_begins_82 ?_
  obtain ⟨b13, eb, hp⟩ := hp
  refine W.eq (g2 := F0 m 85 ls [.ref b13, .ref s0]) (by rw [eb]; rfl) ?_
  obtain ⟨ht14, hp⟩ := hp
  refine g_getN S hB ht14 rfl (T := TX1) (N := 16) (C := RX1) rfl in_X1 7 (by decide) (by decide) (zNFw hB 22 rfl) (fun _ h9 => h9) (v := .int (zI μ12 b13 7)) rfl dX2_begins_85 ?_
  obtain ⟨μ15, eμ15, hp⟩ := zpI_e hp
  refine g_putI S hB (hB.ty ht_s0 rfl) rfl (T := TX2) (N := 8) (C := RX2) rfl in_X2 4 (by decide) (by decide) (x := (zI μ12 b13 7)) tyX2 tyX2_ok nmX2 q254 (fun _ h9 => h9) rfl (ty := .int) (by decide +kernel) rfl rfl (fun _ _ => rfl) dX2_begins_88 (fun H locs hB => ?_)
  rw [← eμ15] at hB
  refine lv_aload_n hx hb dX2_begins_91 rfl (lv_at hl 0 rfl) ?_
  refine lv_aload_n hx hb dX2_begins_92 rfl (lv_at hl 0 rfl) ?_
  refine g_getr S hB (hB.ty ht_s0 rfl) rfl (T := TX2) (N := 8) (C := RX2) rfl in_X2 7 (by decide) (by decide) q260 (fun _ h9 => h9) (fun _ => rfl) (cZ2 hB (hB.ty ht_s0 rfl)) dX2_begins_93 ?_
  refine g_getN S hB (cT hB) rfl (T := TX0) (N := 33) (C := RX0) rfl in_X0 0 (by decide) (by decide) (zNFw hB 25 rfl) (fun _ h9 => h9) (v := va_rf (zR μ15 z 0)) rfl dX2_begins_96 ?_
  obtain ⟨b16, eb, hp⟩ := hp
  refine W.eq (g2 := F0 m 99 ls [.ref b16, .ref s0]) (by rw [eb]; rfl) ?_
  obtain ⟨ht17, hp⟩ := hp
  refine g_getN S hB ht17 rfl (T := TX1) (N := 16) (C := RX1) rfl in_X1 8 (by decide) (by decide) (zNFw hB 23 rfl) (fun _ h9 => h9) (v := .int (zI μ15 b16 8)) rfl dX2_begins_99 ?_
  obtain ⟨μ18, eμ18, hp⟩ := zpI_e hp
  refine g_putI S hB (hB.ty ht_s0 rfl) rfl (T := TX2) (N := 8) (C := RX2) rfl in_X2 5 (by decide) (by decide) (x := (zI μ15 b16 8)) tyX2 tyX2_ok nmX2 q256 (fun _ h9 => h9) rfl (ty := .int) (by decide +kernel) rfl rfl (fun _ _ => rfl) dX2_begins_102 (fun H locs hB => ?_)
  rw [← eμ18] at hB
  refine lv_aload_n hx hb dX2_begins_105 rfl (lv_at hl 0 rfl) ?_
  refine lv_iconst (v := (nI 0)) hx hb dX2_begins_106 rfl ?_
  obtain ⟨μ19, eμ19, hp⟩ := zpI_e hp
  refine g_putI S hB (hB.ty ht_s0 rfl) rfl (T := TX2) (N := 8) (C := RX2) rfl in_X2 6 (by decide) (by decide) (x := (nI 0)) tyX2 tyX2_ok nmX2 q258 (fun _ h9 => h9) rfl (ty := .int) (by decide +kernel) rfl rfl (fun _ _ => rfl) dX2_begins_107 (fun H locs hB => ?_)
  rw [← eμ19] at hB
  refine lv_aload_n hx hb dX2_begins_110 rfl (lv_at hl 0 rfl) ?_
  exact zret_qs X hB hp dX2_begins_111
def pX2_who_2 (z : Nat) (s0 : Nat) (x1 : Int32) (Q : Int32 → zM → Prop) : Nat → Int32 → zM → Prop
  | 0, _, _ => False
  | n + 1, x2, μ => (zde (zR μ z 0) fun b1 => (zty μ b1 = some (.inl 1) ∧ (if (zI μ b1 6) ≤ x2 then Q (-1 : Int32) μ else (vp_in x2 6 ∧ (if (zI μ (s0 + 1) x2.toNatClampNeg) = x1 then Q x2 μ else pX2_who_2 z s0 x1 Q n (x2 + (nI 1)) μ)))))
set_option maxHeartbeats 4000000 in
set_option maxRecDepth 100000 in
theorem wX2_who_2 {p : Program} {l : Launch} {e : Env} {s : State} {m : MethodId} {args : Array Value} {below : List Frame} {meth : Method} {c : Code} {Γ : zG} {μ0 : zM} {Q : Int32 → zM → Prop} (X : zCx p m c cX2_who 3 s args RX2 meth (some .int)) {s0 : Nat} (ht_s0 : zty μ0 s0 = some (.inl 2)) (z : Nat) (x1 : Int32) : ∀ (n : Nat) (x2 : Int32) (μ : zM) (H : Heap) (locs : List Loc) (ls : Array Slot), pX2_who_2 z s0 x1 Q n x2 μ → zB Γ (cSh z) (zA μ0) μ0 s μ H locs → lv_has ls 3 [(0, .ref s0), (1, .int x1), (2, .int x2)] → W p l e ({ frames := 0, cells := 0, slots := 0, locals := 0 } : Room) s m args below meth c H locs 0 0 (MQ below (va_Qi Q (zPost Γ (cSh z) μ0) (zA μ0)) args s 0 0 (zA μ0)) (F0 m 2 ls []) := by
  have S := X.1
  obtain ⟨hx, hb, hml, hown, hts⟩ := X.1
  intro n
  induction n with
  | zero =>
    intro x2 μ H locs ls hp
    exact hp.elim
  | succ n ih =>
    intro x2 μ H locs ls hp hB hl
    unfold pX2_who_2 at hp
    refine lv_iload_n hx hb dX2_who_2 rfl (lv_at hl 2 rfl) ?_
    refine lv_aload_n hx hb dX2_who_3 rfl (lv_at hl 0 rfl) ?_
    refine g_getr S hB (hB.ty ht_s0 rfl) rfl (T := TX2) (N := 8) (C := RX2) rfl in_X2 7 (by decide) (by decide) q260 (fun _ h9 => h9) (fun _ => rfl) (cZ2 hB (hB.ty ht_s0 rfl)) dX2_who_4 ?_
    refine g_getN S hB (cT hB) rfl (T := TX0) (N := 33) (C := RX0) rfl in_X0 0 (by decide) (by decide) (zNFw hB 25 rfl) (fun _ h9 => h9) (v := va_rf (zR μ z 0)) rfl dX2_who_7 ?_
    obtain ⟨b1, eb, hp⟩ := hp
    refine W.eq (g2 := F0 m 10 ls [.ref b1, .int x2]) (by rw [eb]; rfl) ?_
    obtain ⟨ht2, hp⟩ := hp
    refine g_getN S hB ht2 rfl (T := TX1) (N := 16) (C := RX1) rfl in_X1 6 (by decide) (by decide) (zNFw hB 21 rfl) (fun _ h9 => h9) (v := .int (zI μ b1 6)) rfl dX2_who_10 ?_
    refine lv_icmp_ge (tgt := 34) hx hb dX2_who_13 rfl (fun c0 => ?_) (fun c0 => ?_)
    · have hp := zit hp c0
      refine lv_iconst (v := (-1 : Int32)) hx hb dX2_who_34 rfl ?_
      exact zret_i X hB hp dX2_who_35
    · have hp := zif hp c0
      refine lv_aload_n hx hb dX2_who_16 rfl (lv_at hl 0 rfl) ?_
      refine g_getr S hB (hB.ty ht_s0 rfl) rfl (T := TX2) (N := 8) (C := RX2) rfl in_X2 0 (by decide) (by decide) q246 (fun _ h9 => h9) (fun _ => rfl) (cS2 hB (hB.ty ht_s0 rfl) 0 rfl).1 dX2_who_17 ?_
      refine lv_iload_n hx hb dX2_who_20 rfl (lv_at hl 2 rfl) ?_
      obtain ⟨hi, hp⟩ := hp
      refine g_iald S hB (cS2 hB (hB.ty ht_s0 rfl) 0 rfl).2 hi dX2_who_21 ?_
      refine lv_iload_n hx hb dX2_who_22 rfl (lv_at hl 1 rfl) ?_
      refine lv_icmp_ne (tgt := 28) hx hb dX2_who_23 rfl (fun c0 => ?_) (fun c0 => ?_)
      · have hp := zif hp c0
        refine lv_iinc (v := (x2 + (nI 1))) (lv' := [(2, .int (x2 + (nI 1))), (0, .ref s0), (1, .int x1)]) hx hb dX2_who_28 hl (k := 2) rfl rfl (by decide) rfl (fun ls hl => ?_)
        refine lv_goto (tgt := 2) hx hb dX2_who_31 rfl ?_
        exact ih (x2 + (nI 1)) μ _ _ _ hp hB (lv_sub hl [1, 2, 0] rfl)
      · have hp := zit hp c0
        refine lv_iload_n hx hb dX2_who_26 rfl (lv_at hl 2 rfl) ?_
        exact zret_i X hB hp dX2_who_27
def pX2_who (z : Nat) (s0 : Nat) (x1 : Int32) (μ : zM) (Q : Int32 → zM → Prop) : Prop := zty μ s0 = some (.inl 2) ∧ ∃ k1, pX2_who_2 z s0 x1 Q k1 (nI 0) μ
theorem tX2_who {z : Nat} {s0 : Nat} {x1 : Int32} {μ : zM} {Q : Int32 → zM → Prop} (h : pX2_who z s0 x1 μ Q) : zty μ s0 = some (.inl 2) := h.1
theorem hX2_who : yX2_who.cls = "SunkTower$State" ∧ yX2_who.cls ≠ "java/lang/invoke/MethodHandle" ∧ yX2_who.cls ≠ "java/lang/invoke/VarHandle" ∧ (parseMethodDescriptor yX2_who.desc).map (fun d => d.parameters.length) = some 1 := by decide +kernel
set_option maxHeartbeats 4000000 in
set_option maxRecDepth 100000 in
theorem mX2_who (l : Launch) (Γ : zG) (z : Nat) (s0 : Nat) (x1 : Int32) (μ : zM) (Q : Int32 → zM → Prop) (hp : pX2_who z s0 x1 μ Q) : Met l yX2_who (ws_ yX2_who cX2_who 3 (some .int)) ({ frames := 0, cells := 0, slots := 0, locals := 0 } : Room) (va_Pc [.ref s0, .int x1] (zPre Γ (cSh z) μ)) (va_Qi Q (zPost Γ (cSh z) μ) (zA μ)) 0 0 (zA μ) := by
  refine zstart (by decide) (Nat.le_of_ble_eq_true rfl) ?_
  intro p e s m below meth c ls X hnm hB hl
  have X : zCx p m c cX2_who 3 s [.ref s0, .int x1].toArray RX2 meth (some .int) := X
  have S := X.1
  obtain ⟨hx, hb, hml, hown, hts⟩ := X.1
  have hl : lv_has ls 3 [(0, .ref s0), (1, .int x1)] := hl
  obtain ⟨ht_s0, hp⟩ := hp
  refine lv_iconst (v := (nI 0)) hx hb dX2_who_0 rfl ?_
  refine lv_istore_n (lv' := [(2, .int (nI 0)), (0, .ref s0), (1, .int x1)]) hx hb dX2_who_1 rfl hl (by decide) rfl (fun ls hl => ?_)
  obtain ⟨n1, hp⟩ := hp
  exact wX2_who_2 X ht_s0 z x1 n1 (nI 0) μ _ _ _ hp hB (lv_sub hl [1, 2, 0] rfl)
def pX2_isBuried (z : Nat) (s0 : Nat) (x1 : Int32) (μ : zM) (Q : Int32 → zM → Prop) : Prop := zty μ s0 = some (.inl 2) ∧ (if (zI μ s0 4) < ((nI 144) * (x1 + (nI 1))) then Q (nI 0) μ else Q (nI 1) μ)
theorem tX2_isBuried {z : Nat} {s0 : Nat} {x1 : Int32} {μ : zM} {Q : Int32 → zM → Prop} (h : pX2_isBuried z s0 x1 μ Q) : zty μ s0 = some (.inl 2) := h.1
theorem hX2_isBuried : yX2_isBuried.cls = "SunkTower$State" ∧ yX2_isBuried.cls ≠ "java/lang/invoke/MethodHandle" ∧ yX2_isBuried.cls ≠ "java/lang/invoke/VarHandle" ∧ (parseMethodDescriptor yX2_isBuried.desc).map (fun d => d.parameters.length) = some 1 := by decide +kernel
set_option maxHeartbeats 4000000 in
set_option maxRecDepth 100000 in
theorem mX2_isBuried (l : Launch) (Γ : zG) (z : Nat) (s0 : Nat) (x1 : Int32) (μ : zM) (Q : Int32 → zM → Prop) (hp : pX2_isBuried z s0 x1 μ Q) : Met l yX2_isBuried (ws_ yX2_isBuried cX2_isBuried 2 (some .boolean)) ({ frames := 0, cells := 0, slots := 0, locals := 0 } : Room) (va_Pc [.ref s0, .int x1] (zPre Γ (cSh z) μ)) (va_Qi Q (zPost Γ (cSh z) μ) (zA μ)) 0 0 (zA μ) := by
  refine zstart (by decide) (Nat.le_of_ble_eq_true rfl) ?_
  intro p e s m below meth c ls X hnm hB hl
  have X : zCx p m c cX2_isBuried 2 s [.ref s0, .int x1].toArray RX2 meth (some .boolean) := X
  have S := X.1
  obtain ⟨hx, hb, hml, hown, hts⟩ := X.1
  have hl : lv_has ls 2 [(0, .ref s0), (1, .int x1)] := hl
  obtain ⟨ht_s0, hp⟩ := hp
  refine lv_sipush (v := (nI 144)) hx hb dX2_isBuried_0 rfl ?_
  refine lv_iload_n hx hb dX2_isBuried_3 rfl (lv_at hl 1 rfl) ?_
  refine lv_iconst (v := (nI 1)) hx hb dX2_isBuried_4 rfl ?_
  refine lv_iadd hx hb dX2_isBuried_5 ?_
  refine lv_imul hx hb dX2_isBuried_6 ?_
  refine lv_aload_n hx hb dX2_isBuried_7 rfl (lv_at hl 0 rfl) ?_
  refine g_get S hB (hB.ty ht_s0 rfl) rfl (T := TX2) (N := 8) (C := RX2) rfl in_X2 4 (by decide) (by decide) q254 (fun _ h9 => h9) (v := .int (zI μ s0 4)) rfl dX2_isBuried_8 ?_
  refine lv_icmp_gt (tgt := 18) hx hb dX2_isBuried_11 rfl (fun c0 => ?_) (fun c0 => ?_)
  · have hp := zit hp c0
    refine lv_iconst (v := (nI 0)) hx hb dX2_isBuried_18 rfl ?_
    exact zret_z X hB rfl hp dX2_isBuried_19
  · have hp := zif hp c0
    refine lv_iconst (v := (nI 1)) hx hb dX2_isBuried_14 rfl ?_
    refine lv_goto (tgt := 19) hx hb dX2_isBuried_15 rfl ?_
    exact zret_z X hB rfl hp dX2_isBuried_19
def pX2_whole_32 (z : Nat) (s0 : Nat) (Q : Int32 → zM → Prop) : Nat → Int32 → Int32 → zM → Prop
  | 0, _, _, _ => False
  | n + 1, x1, x2, μ => (zde (zR μ z 0) fun b1 => (zty μ b1 = some (.inl 1) ∧ (if (zI μ b1 6) ≤ x2 then Q x1 μ else (vp_in x2 6 ∧ (if (zI μ (s0 + 1) x2.toNatClampNeg) = (-1 : Int32) then pX2_whole_32 z s0 Q n (x1 + (nI 0)) (x2 + (nI 1)) μ else (vp_in x2 6 ∧ pX2_whole_32 z s0 Q n (x1 + (zI μ (s0 + 2) x2.toNatClampNeg)) (x2 + (nI 1)) μ))))))
set_option maxHeartbeats 4000000 in
set_option maxRecDepth 100000 in
theorem wX2_whole_32 {p : Program} {l : Launch} {e : Env} {s : State} {m : MethodId} {args : Array Value} {below : List Frame} {meth : Method} {c : Code} {Γ : zG} {μ0 : zM} {Q : Int32 → zM → Prop} (X : zCx p m c cX2_whole 3 s args RX2 meth (some .int)) {s0 : Nat} (ht_s0 : zty μ0 s0 = some (.inl 2)) (z : Nat) : ∀ (n : Nat) (x1 : Int32) (x2 : Int32) (μ : zM) (H : Heap) (locs : List Loc) (ls : Array Slot), pX2_whole_32 z s0 Q n x1 x2 μ → zB Γ (cSh z) (zA μ0) μ0 s μ H locs → lv_has ls 3 [(0, .ref s0), (1, .int x1), (2, .int x2)] → W p l e ({ frames := 0, cells := 0, slots := 0, locals := 0 } : Room) s m args below meth c H locs 0 0 (MQ below (va_Qi Q (zPost Γ (cSh z) μ0) (zA μ0)) args s 0 0 (zA μ0)) (F0 m 32 ls []) := by
  have S := X.1
  obtain ⟨hx, hb, hml, hown, hts⟩ := X.1
  intro n
  induction n with
  | zero =>
    intro x1 x2 μ H locs ls hp
    exact hp.elim
  | succ n ih =>
    intro x1 x2 μ H locs ls hp hB hl
    unfold pX2_whole_32 at hp
    refine lv_iload_n hx hb dX2_whole_32 rfl (lv_at hl 2 rfl) ?_
    refine lv_aload_n hx hb dX2_whole_33 rfl (lv_at hl 0 rfl) ?_
    refine g_getr S hB (hB.ty ht_s0 rfl) rfl (T := TX2) (N := 8) (C := RX2) rfl in_X2 7 (by decide) (by decide) q260 (fun _ h9 => h9) (fun _ => rfl) (cZ2 hB (hB.ty ht_s0 rfl)) dX2_whole_34 ?_
    refine g_getN S hB (cT hB) rfl (T := TX0) (N := 33) (C := RX0) rfl in_X0 0 (by decide) (by decide) (zNFw hB 25 rfl) (fun _ h9 => h9) (v := va_rf (zR μ z 0)) rfl dX2_whole_37 ?_
    obtain ⟨b1, eb, hp⟩ := hp
    refine W.eq (g2 := F0 m 40 ls [.ref b1, .int x2]) (by rw [eb]; rfl) ?_
    obtain ⟨ht2, hp⟩ := hp
    refine g_getN S hB ht2 rfl (T := TX1) (N := 16) (C := RX1) rfl in_X1 6 (by decide) (by decide) (zNFw hB 21 rfl) (fun _ h9 => h9) (v := .int (zI μ b1 6)) rfl dX2_whole_40 ?_
    refine lv_icmp_ge (tgt := 75) hx hb dX2_whole_43 rfl (fun c0 => ?_) (fun c0 => ?_)
    · have hp := zit hp c0
      refine lv_iload_n hx hb dX2_whole_75 rfl (lv_at hl 1 rfl) ?_
      exact zret_i X hB hp dX2_whole_76
    · have hp := zif hp c0
      refine lv_iload_n hx hb dX2_whole_46 rfl (lv_at hl 1 rfl) ?_
      refine lv_aload_n hx hb dX2_whole_47 rfl (lv_at hl 0 rfl) ?_
      refine g_getr S hB (hB.ty ht_s0 rfl) rfl (T := TX2) (N := 8) (C := RX2) rfl in_X2 0 (by decide) (by decide) q246 (fun _ h9 => h9) (fun _ => rfl) (cS2 hB (hB.ty ht_s0 rfl) 0 rfl).1 dX2_whole_48 ?_
      refine lv_iload_n hx hb dX2_whole_51 rfl (lv_at hl 2 rfl) ?_
      obtain ⟨hi, hp⟩ := hp
      refine g_iald S hB (cS2 hB (hB.ty ht_s0 rfl) 0 rfl).2 hi dX2_whole_52 ?_
      refine lv_iconst (v := (-1 : Int32)) hx hb dX2_whole_53 rfl ?_
      refine lv_icmp_ne (tgt := 61) hx hb dX2_whole_54 rfl (fun c0 => ?_) (fun c0 => ?_)
      · have hp := zif hp c0
        refine lv_aload_n hx hb dX2_whole_61 rfl (lv_at hl 0 rfl) ?_
        refine g_getr S hB (hB.ty ht_s0 rfl) rfl (T := TX2) (N := 8) (C := RX2) rfl in_X2 1 (by decide) (by decide) q248 (fun _ h9 => h9) (fun _ => rfl) (cS2 hB (hB.ty ht_s0 rfl) 1 rfl).1 dX2_whole_62 ?_
        refine lv_iload_n hx hb dX2_whole_65 rfl (lv_at hl 2 rfl) ?_
        obtain ⟨hi, hp⟩ := hp
        refine g_iald S hB (cS2 hB (hB.ty ht_s0 rfl) 1 rfl).2 hi dX2_whole_66 ?_
        refine lv_iadd hx hb dX2_whole_67 ?_
        refine lv_istore_n (lv' := [(1, .int (x1 + (zI μ (s0 + 2) x2.toNatClampNeg))), (0, .ref s0), (2, .int x2)]) hx hb dX2_whole_68 rfl hl (by decide) rfl (fun ls hl => ?_)
        refine lv_iinc (v := (x2 + (nI 1))) (lv' := [(2, .int (x2 + (nI 1))), (1, .int (x1 + (zI μ (s0 + 2) x2.toNatClampNeg))), (0, .ref s0)]) hx hb dX2_whole_69 hl (k := 2) rfl rfl (by decide) rfl (fun ls hl => ?_)
        refine lv_goto (tgt := 32) hx hb dX2_whole_72 rfl ?_
        exact ih (x1 + (zI μ (s0 + 2) x2.toNatClampNeg)) (x2 + (nI 1)) μ _ _ _ hp hB (lv_sub hl [2, 1, 0] rfl)
      · have hp := zit hp c0
        refine lv_iconst (v := (nI 0)) hx hb dX2_whole_57 rfl ?_
        refine lv_goto (tgt := 67) hx hb dX2_whole_58 rfl ?_
        refine lv_iadd hx hb dX2_whole_67 ?_
        refine lv_istore_n (lv' := [(1, .int (x1 + (nI 0))), (0, .ref s0), (2, .int x2)]) hx hb dX2_whole_68 rfl hl (by decide) rfl (fun ls hl => ?_)
        refine lv_iinc (v := (x2 + (nI 1))) (lv' := [(2, .int (x2 + (nI 1))), (1, .int (x1 + (nI 0))), (0, .ref s0)]) hx hb dX2_whole_69 hl (k := 2) rfl rfl (by decide) rfl (fun ls hl => ?_)
        refine lv_goto (tgt := 32) hx hb dX2_whole_72 rfl ?_
        exact ih (x1 + (nI 0)) (x2 + (nI 1)) μ _ _ _ hp hB (lv_sub hl [2, 1, 0] rfl)
def pX2_whole_7 (z : Nat) (s0 : Nat) (Q : Int32 → zM → Prop) : Nat → Int32 → Int32 → zM → Prop
  | 0, _, _, _ => False
  | n + 1, x1, x2, μ => (if (zI μ s0 3) ≤ x2 then ∃ k1, pX2_whole_32 z s0 Q k1 x1 (nI 0) μ else (vp_in x2 8 ∧ pX2_whole_7 z s0 Q n (x1 + (zI μ (s0 + 3) x2.toNatClampNeg)) (x2 + (nI 1)) μ))
set_option maxHeartbeats 4000000 in
set_option maxRecDepth 100000 in
theorem wX2_whole_7 {p : Program} {l : Launch} {e : Env} {s : State} {m : MethodId} {args : Array Value} {below : List Frame} {meth : Method} {c : Code} {Γ : zG} {μ0 : zM} {Q : Int32 → zM → Prop} (X : zCx p m c cX2_whole 3 s args RX2 meth (some .int)) {s0 : Nat} (ht_s0 : zty μ0 s0 = some (.inl 2)) (z : Nat) : ∀ (n : Nat) (x1 : Int32) (x2 : Int32) (μ : zM) (H : Heap) (locs : List Loc) (ls : Array Slot), pX2_whole_7 z s0 Q n x1 x2 μ → zB Γ (cSh z) (zA μ0) μ0 s μ H locs → lv_has ls 3 [(0, .ref s0), (1, .int x1), (2, .int x2)] → W p l e ({ frames := 0, cells := 0, slots := 0, locals := 0 } : Room) s m args below meth c H locs 0 0 (MQ below (va_Qi Q (zPost Γ (cSh z) μ0) (zA μ0)) args s 0 0 (zA μ0)) (F0 m 7 ls []) := by
  have S := X.1
  obtain ⟨hx, hb, hml, hown, hts⟩ := X.1
  intro n
  induction n with
  | zero =>
    intro x1 x2 μ H locs ls hp
    exact hp.elim
  | succ n ih =>
    intro x1 x2 μ H locs ls hp hB hl
    unfold pX2_whole_7 at hp
    refine lv_iload_n hx hb dX2_whole_7 rfl (lv_at hl 2 rfl) ?_
    refine lv_aload_n hx hb dX2_whole_8 rfl (lv_at hl 0 rfl) ?_
    refine g_get S hB (hB.ty ht_s0 rfl) rfl (T := TX2) (N := 8) (C := RX2) rfl in_X2 3 (by decide) (by decide) q252 (fun _ h9 => h9) (v := .int (zI μ s0 3)) rfl dX2_whole_9 ?_
    refine lv_icmp_ge (tgt := 30) hx hb dX2_whole_12 rfl (fun c0 => ?_) (fun c0 => ?_)
    · have hp := zit hp c0
      refine lv_iconst (v := (nI 0)) hx hb dX2_whole_30 rfl ?_
      refine lv_istore_n (lv' := [(2, .int (nI 0)), (0, .ref s0), (1, .int x1)]) hx hb dX2_whole_31 rfl hl (by decide) rfl (fun ls hl => ?_)
      obtain ⟨n1, hp⟩ := hp
      exact wX2_whole_32 X ht_s0 z n1 x1 (nI 0) μ _ _ _ hp hB (lv_sub hl [1, 2, 0] rfl)
    · have hp := zif hp c0
      refine lv_iload_n hx hb dX2_whole_15 rfl (lv_at hl 1 rfl) ?_
      refine lv_aload_n hx hb dX2_whole_16 rfl (lv_at hl 0 rfl) ?_
      refine g_getr S hB (hB.ty ht_s0 rfl) rfl (T := TX2) (N := 8) (C := RX2) rfl in_X2 2 (by decide) (by decide) q250 (fun _ h9 => h9) (fun _ => rfl) (cS2 hB (hB.ty ht_s0 rfl) 2 rfl).1 dX2_whole_17 ?_
      refine lv_iload_n hx hb dX2_whole_20 rfl (lv_at hl 2 rfl) ?_
      obtain ⟨hi, hp⟩ := hp
      refine g_iald S hB (cS2 hB (hB.ty ht_s0 rfl) 2 rfl).2 hi dX2_whole_21 ?_
      refine lv_iadd hx hb dX2_whole_22 ?_
      refine lv_istore_n (lv' := [(1, .int (x1 + (zI μ (s0 + 3) x2.toNatClampNeg))), (0, .ref s0), (2, .int x2)]) hx hb dX2_whole_23 rfl hl (by decide) rfl (fun ls hl => ?_)
      refine lv_iinc (v := (x2 + (nI 1))) (lv' := [(2, .int (x2 + (nI 1))), (1, .int (x1 + (zI μ (s0 + 3) x2.toNatClampNeg))), (0, .ref s0)]) hx hb dX2_whole_24 hl (k := 2) rfl rfl (by decide) rfl (fun ls hl => ?_)
      refine lv_goto (tgt := 7) hx hb dX2_whole_27 rfl ?_
      exact ih (x1 + (zI μ (s0 + 3) x2.toNatClampNeg)) (x2 + (nI 1)) μ _ _ _ hp hB (lv_sub hl [2, 1, 0] rfl)
def pX2_whole (z : Nat) (s0 : Nat) (μ : zM) (Q : Int32 → zM → Prop) : Prop := zty μ s0 = some (.inl 2) ∧ ∃ k1, pX2_whole_7 z s0 Q k1 (zI μ s0 6) (nI 0) μ
theorem tX2_whole {z : Nat} {s0 : Nat} {μ : zM} {Q : Int32 → zM → Prop} (h : pX2_whole z s0 μ Q) : zty μ s0 = some (.inl 2) := h.1
theorem hX2_whole : yX2_whole.cls = "SunkTower$State" ∧ yX2_whole.cls ≠ "java/lang/invoke/MethodHandle" ∧ yX2_whole.cls ≠ "java/lang/invoke/VarHandle" ∧ (parseMethodDescriptor yX2_whole.desc).map (fun d => d.parameters.length) = some 0 := by decide +kernel
set_option maxHeartbeats 4000000 in
set_option maxRecDepth 100000 in
theorem mX2_whole (l : Launch) (Γ : zG) (z : Nat) (s0 : Nat) (μ : zM) (Q : Int32 → zM → Prop) (hp : pX2_whole z s0 μ Q) : Met l yX2_whole (ws_ yX2_whole cX2_whole 3 (some .int)) ({ frames := 0, cells := 0, slots := 0, locals := 0 } : Room) (va_Pc [.ref s0] (zPre Γ (cSh z) μ)) (va_Qi Q (zPost Γ (cSh z) μ) (zA μ)) 0 0 (zA μ) := by
  refine zstart (by decide) (Nat.le_of_ble_eq_true rfl) ?_
  intro p e s m below meth c ls X hnm hB hl
  have X : zCx p m c cX2_whole 3 s [.ref s0].toArray RX2 meth (some .int) := X
  have S := X.1
  obtain ⟨hx, hb, hml, hown, hts⟩ := X.1
  have hl : lv_has ls 3 [(0, .ref s0)] := hl
  obtain ⟨ht_s0, hp⟩ := hp
  refine lv_aload_n hx hb dX2_whole_0 rfl (lv_at hl 0 rfl) ?_
  refine g_get S hB (hB.ty ht_s0 rfl) rfl (T := TX2) (N := 8) (C := RX2) rfl in_X2 6 (by decide) (by decide) q258 (fun _ h9 => h9) (v := .int (zI μ s0 6)) rfl dX2_whole_1 ?_
  refine lv_istore_n (lv' := [(1, .int (zI μ s0 6)), (0, .ref s0)]) hx hb dX2_whole_4 rfl hl (by decide) rfl (fun ls hl => ?_)
  refine lv_iconst (v := (nI 0)) hx hb dX2_whole_5 rfl ?_
  refine lv_istore_n (lv' := [(2, .int (nI 0)), (1, .int (zI μ s0 6)), (0, .ref s0)]) hx hb dX2_whole_6 rfl hl (by decide) rfl (fun ls hl => ?_)
  obtain ⟨n1, hp⟩ := hp
  exact wX2_whole_7 X ht_s0 z n1 (zI μ s0 6) (nI 0) μ _ _ _ hp hB (lv_sub hl [2, 1, 0] rfl)
def pX2_buried (z : Nat) (s0 : Nat) (μ : zM) (Q : Int32 → zM → Prop) : Prop := zty μ s0 = some (.inl 2) ∧ Q (if ((zI μ s0 4) / (nI 144)) < (zI μ s0 3) then ((zI μ s0 4) / (nI 144)) else (zI μ s0 3)) μ
theorem tX2_buried {z : Nat} {s0 : Nat} {μ : zM} {Q : Int32 → zM → Prop} (h : pX2_buried z s0 μ Q) : zty μ s0 = some (.inl 2) := h.1
theorem hX2_buried : yX2_buried.cls = "SunkTower$State" ∧ yX2_buried.cls ≠ "java/lang/invoke/MethodHandle" ∧ yX2_buried.cls ≠ "java/lang/invoke/VarHandle" ∧ (parseMethodDescriptor yX2_buried.desc).map (fun d => d.parameters.length) = some 0 := by decide +kernel
set_option maxHeartbeats 4000000 in
set_option maxRecDepth 100000 in
theorem mX2_buried (l : Launch) (Γ : zG) (z : Nat) (s0 : Nat) (μ : zM) (Q : Int32 → zM → Prop) (hp : pX2_buried z s0 μ Q) : Met l yX2_buried (ws_ yX2_buried cX2_buried 1 (some .int)) ({ frames := 1, cells := 0, slots := 0, locals := 24 } : Room) (va_Pc [.ref s0] (zPre Γ (cSh z) μ)) (va_Qi Q (zPost Γ (cSh z) μ) (zA μ)) 0 0 (zA μ) := by
  refine zstart (by decide) (Nat.le_of_ble_eq_true rfl) ?_
  intro p e s m below meth c ls X hnm hB hl
  have X : zCx p m c cX2_buried 1 s [.ref s0].toArray RX2 meth (some .int) := X
  have S := X.1
  obtain ⟨hx, hb, hml, hown, hts⟩ := X.1
  have hl : lv_has ls 1 [(0, .ref s0)] := hl
  obtain ⟨ht_s0, hp⟩ := hp
  refine lv_aload_n hx hb dX2_buried_0 rfl (lv_at hl 0 rfl) ?_
  refine g_get S hB (hB.ty ht_s0 rfl) rfl (T := TX2) (N := 8) (C := RX2) rfl in_X2 3 (by decide) (by decide) q252 (fun _ h9 => h9) (v := .int (zI μ s0 3)) rfl dX2_buried_1 ?_
  refine lv_aload_n hx hb dX2_buried_4 rfl (lv_at hl 0 rfl) ?_
  refine g_get S hB (hB.ty ht_s0 rfl) rfl (T := TX2) (N := 8) (C := RX2) rfl in_X2 4 (by decide) (by decide) q254 (fun _ h9 => h9) (v := .int (zI μ s0 4)) rfl dX2_buried_5 ?_
  refine lv_sipush (v := (nI 144)) hx hb dX2_buried_8 rfl ?_
  refine lv_idiv hx hb dX2_buried_11 (by decide) ?_
  refine va_mmin hx hb (hml.trans hl.1.symm) hown (hts _ q793) (hts _ q524) (hts _ q136) (hts _ q525) (Nat.le_of_ble_eq_true rfl) (Nat.le_of_ble_eq_true rfl) (Nat.le_refl _) (Nat.le_refl _) dX2_buried_12 ?_
  exact zret_i X hB hp dX2_buried_15
def pX2_be (z : Nat) (s0 : Nat) (x1 : Nat) (μ : zM) (Q : Option Nat → zM → Prop) : Prop := zty μ s0 = some (.inl 2) ∧ zty μ x1 = some (.inl 2) ∧ (zcr (nI 0) (nI 0) (nI 6) 6 6 ∧ zpC μ (x1 + 1) (s0 + 1) (nI 0).toNatClampNeg (nI 0).toNatClampNeg (nI 6).toNatClampNeg fun μ1 => (zcr (nI 0) (nI 0) (nI 6) 6 6 ∧ zpC μ1 (x1 + 2) (s0 + 2) (nI 0).toNatClampNeg (nI 0).toNatClampNeg (nI 6).toNatClampNeg fun μ2 => (zcr (nI 0) (nI 0) (nI 8) 8 8 ∧ zpC μ2 (x1 + 3) (s0 + 3) (nI 0).toNatClampNeg (nI 0).toNatClampNeg (nI 8).toNatClampNeg fun μ3 => (zpI μ3 s0 3 (zI μ3 x1 3) fun μ4 => (zpI μ4 s0 4 (zI μ4 x1 4) fun μ5 => (zpI μ5 s0 5 (zI μ5 x1 5) fun μ6 => (zpI μ6 s0 6 (zI μ6 x1 6) fun μ7 => Q (some s0) μ7)))))))
theorem tX2_be {z : Nat} {s0 : Nat} {x1 : Nat} {μ : zM} {Q : Option Nat → zM → Prop} (h : pX2_be z s0 x1 μ Q) : zty μ s0 = some (.inl 2) := h.1
theorem hX2_be : yX2_be.cls = "SunkTower$State" ∧ yX2_be.cls ≠ "java/lang/invoke/MethodHandle" ∧ yX2_be.cls ≠ "java/lang/invoke/VarHandle" ∧ (parseMethodDescriptor yX2_be.desc).map (fun d => d.parameters.length) = some 1 := by decide +kernel
set_option maxHeartbeats 4000000 in
set_option maxRecDepth 100000 in
theorem mX2_be (l : Launch) (Γ : zG) (z : Nat) (s0 : Nat) (x1 : Nat) (μ : zM) (Q : Option Nat → zM → Prop) (hp : pX2_be z s0 x1 μ Q) : Met l yX2_be (ws_ yX2_be cX2_be 2 (some (.object "SunkTower$State"))) ({ frames := 1, cells := 0, slots := 0, locals := 64 } : Room) (va_Pc [.ref s0, .ref x1] (zPre Γ (cSh z) μ)) (va_Qq Q (zPost Γ (cSh z) μ) (zA μ)) 0 0 (zA μ) := by
  refine zstart (by decide) (Nat.le_of_ble_eq_true rfl) ?_
  intro p e s m below meth c ls X hnm hB hl
  have X : zCx p m c cX2_be 2 s [.ref s0, .ref x1].toArray RX2 meth (some (.object "SunkTower$State")) := X
  have S := X.1
  obtain ⟨hx, hb, hml, hown, hts⟩ := X.1
  have hl : lv_has ls 2 [(0, .ref s0), (1, .ref x1)] := hl
  obtain ⟨ht_s0, ht_x1, hp⟩ := hp
  refine lv_aload_n hx hb dX2_be_0 rfl (lv_at hl 1 rfl) ?_
  refine g_getr S hB (hB.ty ht_x1 rfl) rfl (T := TX2) (N := 8) (C := RX2) rfl in_X2 0 (by decide) (by decide) q246 (fun _ h9 => h9) (fun _ => rfl) (cS2 hB (hB.ty ht_x1 rfl) 0 rfl).1 dX2_be_1 ?_
  refine lv_iconst (v := (nI 0)) hx hb dX2_be_4 rfl ?_
  refine lv_aload_n hx hb dX2_be_5 rfl (lv_at hl 0 rfl) ?_
  refine g_getr S hB (hB.ty ht_s0 rfl) rfl (T := TX2) (N := 8) (C := RX2) rfl in_X2 0 (by decide) (by decide) q246 (fun _ h9 => h9) (fun _ => rfl) (cS2 hB (hB.ty ht_s0 rfl) 0 rfl).1 dX2_be_6 ?_
  refine lv_iconst (v := (nI 0)) hx hb dX2_be_9 rfl ?_
  refine lv_bipush (v := (nI 6)) hx hb dX2_be_10 rfl ?_
  obtain ⟨hi, hp⟩ := hp
  obtain ⟨μ1, eμ1, hp⟩ := zpC_e hp
  refine g_copyi S hB (hml.trans hl.1.symm) (cS2 hB (hB.ty ht_x1 rfl) 0 rfl).2 (cS2 hB (hB.ty ht_s0 rfl) 0 rfl).2 hi (hts _ q300) (hts _ q302) (hts _ q301) (hts _ q131) (Nat.le_of_ble_eq_true rfl) (Nat.le_of_ble_eq_true rfl) dX2_be_12 (fun H locs hB => ?_)
  rw [← eμ1] at hB
  refine lv_aload_n hx hb dX2_be_15 rfl (lv_at hl 1 rfl) ?_
  refine g_getr S hB (hB.ty ht_x1 rfl) rfl (T := TX2) (N := 8) (C := RX2) rfl in_X2 1 (by decide) (by decide) q248 (fun _ h9 => h9) (fun _ => rfl) (cS2 hB (hB.ty ht_x1 rfl) 1 rfl).1 dX2_be_16 ?_
  refine lv_iconst (v := (nI 0)) hx hb dX2_be_19 rfl ?_
  refine lv_aload_n hx hb dX2_be_20 rfl (lv_at hl 0 rfl) ?_
  refine g_getr S hB (hB.ty ht_s0 rfl) rfl (T := TX2) (N := 8) (C := RX2) rfl in_X2 1 (by decide) (by decide) q248 (fun _ h9 => h9) (fun _ => rfl) (cS2 hB (hB.ty ht_s0 rfl) 1 rfl).1 dX2_be_21 ?_
  refine lv_iconst (v := (nI 0)) hx hb dX2_be_24 rfl ?_
  refine lv_bipush (v := (nI 6)) hx hb dX2_be_25 rfl ?_
  obtain ⟨hi, hp⟩ := hp
  obtain ⟨μ2, eμ2, hp⟩ := zpC_e hp
  refine g_copyi S hB (hml.trans hl.1.symm) (cS2 hB (hB.ty ht_x1 rfl) 1 rfl).2 (cS2 hB (hB.ty ht_s0 rfl) 1 rfl).2 hi (hts _ q300) (hts _ q302) (hts _ q301) (hts _ q131) (Nat.le_of_ble_eq_true rfl) (Nat.le_of_ble_eq_true rfl) dX2_be_27 (fun H locs hB => ?_)
  rw [← eμ2] at hB
  refine lv_aload_n hx hb dX2_be_30 rfl (lv_at hl 1 rfl) ?_
  refine g_getr S hB (hB.ty ht_x1 rfl) rfl (T := TX2) (N := 8) (C := RX2) rfl in_X2 2 (by decide) (by decide) q250 (fun _ h9 => h9) (fun _ => rfl) (cS2 hB (hB.ty ht_x1 rfl) 2 rfl).1 dX2_be_31 ?_
  refine lv_iconst (v := (nI 0)) hx hb dX2_be_34 rfl ?_
  refine lv_aload_n hx hb dX2_be_35 rfl (lv_at hl 0 rfl) ?_
  refine g_getr S hB (hB.ty ht_s0 rfl) rfl (T := TX2) (N := 8) (C := RX2) rfl in_X2 2 (by decide) (by decide) q250 (fun _ h9 => h9) (fun _ => rfl) (cS2 hB (hB.ty ht_s0 rfl) 2 rfl).1 dX2_be_36 ?_
  refine lv_iconst (v := (nI 0)) hx hb dX2_be_39 rfl ?_
  refine lv_bipush (v := (nI 8)) hx hb dX2_be_40 rfl ?_
  obtain ⟨hi, hp⟩ := hp
  obtain ⟨μ3, eμ3, hp⟩ := zpC_e hp
  refine g_copyi S hB (hml.trans hl.1.symm) (cS2 hB (hB.ty ht_x1 rfl) 2 rfl).2 (cS2 hB (hB.ty ht_s0 rfl) 2 rfl).2 hi (hts _ q300) (hts _ q302) (hts _ q301) (hts _ q131) (Nat.le_of_ble_eq_true rfl) (Nat.le_of_ble_eq_true rfl) dX2_be_42 (fun H locs hB => ?_)
  rw [← eμ3] at hB
  refine lv_aload_n hx hb dX2_be_45 rfl (lv_at hl 0 rfl) ?_
  refine lv_aload_n hx hb dX2_be_46 rfl (lv_at hl 1 rfl) ?_
  refine g_get S hB (hB.ty ht_x1 rfl) rfl (T := TX2) (N := 8) (C := RX2) rfl in_X2 3 (by decide) (by decide) q252 (fun _ h9 => h9) (v := .int (zI μ3 x1 3)) rfl dX2_be_47 ?_
  obtain ⟨μ4, eμ4, hp⟩ := zpI_e hp
  refine g_putI S hB (hB.ty ht_s0 rfl) rfl (T := TX2) (N := 8) (C := RX2) rfl in_X2 3 (by decide) (by decide) (x := (zI μ3 x1 3)) tyX2 tyX2_ok nmX2 q252 (fun _ h9 => h9) rfl (ty := .int) (by decide +kernel) rfl rfl (fun _ _ => rfl) dX2_be_50 (fun H locs hB => ?_)
  rw [← eμ4] at hB
  refine lv_aload_n hx hb dX2_be_53 rfl (lv_at hl 0 rfl) ?_
  refine lv_aload_n hx hb dX2_be_54 rfl (lv_at hl 1 rfl) ?_
  refine g_get S hB (hB.ty ht_x1 rfl) rfl (T := TX2) (N := 8) (C := RX2) rfl in_X2 4 (by decide) (by decide) q254 (fun _ h9 => h9) (v := .int (zI μ4 x1 4)) rfl dX2_be_55 ?_
  obtain ⟨μ5, eμ5, hp⟩ := zpI_e hp
  refine g_putI S hB (hB.ty ht_s0 rfl) rfl (T := TX2) (N := 8) (C := RX2) rfl in_X2 4 (by decide) (by decide) (x := (zI μ4 x1 4)) tyX2 tyX2_ok nmX2 q254 (fun _ h9 => h9) rfl (ty := .int) (by decide +kernel) rfl rfl (fun _ _ => rfl) dX2_be_58 (fun H locs hB => ?_)
  rw [← eμ5] at hB
  refine lv_aload_n hx hb dX2_be_61 rfl (lv_at hl 0 rfl) ?_
  refine lv_aload_n hx hb dX2_be_62 rfl (lv_at hl 1 rfl) ?_
  refine g_get S hB (hB.ty ht_x1 rfl) rfl (T := TX2) (N := 8) (C := RX2) rfl in_X2 5 (by decide) (by decide) q256 (fun _ h9 => h9) (v := .int (zI μ5 x1 5)) rfl dX2_be_63 ?_
  obtain ⟨μ6, eμ6, hp⟩ := zpI_e hp
  refine g_putI S hB (hB.ty ht_s0 rfl) rfl (T := TX2) (N := 8) (C := RX2) rfl in_X2 5 (by decide) (by decide) (x := (zI μ5 x1 5)) tyX2 tyX2_ok nmX2 q256 (fun _ h9 => h9) rfl (ty := .int) (by decide +kernel) rfl rfl (fun _ _ => rfl) dX2_be_66 (fun H locs hB => ?_)
  rw [← eμ6] at hB
  refine lv_aload_n hx hb dX2_be_69 rfl (lv_at hl 0 rfl) ?_
  refine lv_aload_n hx hb dX2_be_70 rfl (lv_at hl 1 rfl) ?_
  refine g_get S hB (hB.ty ht_x1 rfl) rfl (T := TX2) (N := 8) (C := RX2) rfl in_X2 6 (by decide) (by decide) q258 (fun _ h9 => h9) (v := .int (zI μ6 x1 6)) rfl dX2_be_71 ?_
  obtain ⟨μ7, eμ7, hp⟩ := zpI_e hp
  refine g_putI S hB (hB.ty ht_s0 rfl) rfl (T := TX2) (N := 8) (C := RX2) rfl in_X2 6 (by decide) (by decide) (x := (zI μ6 x1 6)) tyX2 tyX2_ok nmX2 q258 (fun _ h9 => h9) rfl (ty := .int) (by decide +kernel) rfl rfl (fun _ _ => rfl) dX2_be_74 (fun H locs hB => ?_)
  rw [← eμ7] at hB
  refine lv_aload_n hx hb dX2_be_77 rfl (lv_at hl 0 rfl) ?_
  exact zret_qs X hB hp dX2_be_78
def pX2_builds (z : Nat) (s0 : Nat) (μ : zM) (Q : zM → Prop) : Prop := zty μ s0 = some (.inl 2) ∧ (zde (zR μ z 0) fun b1 => (zty μ b1 = some (.inl 1) ∧ (vp_in (zI μ s0 3) 8 ∧ zpI μ (s0 + 3) (zI μ s0 3).toNatClampNeg (zI μ b1 9) fun μ3 => (zpI μ3 s0 3 ((zI μ3 s0 3) + (nI 1)) fun μ4 => Q μ4))))
theorem tX2_builds {z : Nat} {s0 : Nat} {μ : zM} {Q : zM → Prop} (h : pX2_builds z s0 μ Q) : zty μ s0 = some (.inl 2) := h.1
theorem hX2_builds : yX2_builds.cls = "SunkTower$State" ∧ yX2_builds.cls ≠ "java/lang/invoke/MethodHandle" ∧ yX2_builds.cls ≠ "java/lang/invoke/VarHandle" ∧ (parseMethodDescriptor yX2_builds.desc).map (fun d => d.parameters.length) = some 0 := by decide +kernel
set_option maxHeartbeats 4000000 in
set_option maxRecDepth 100000 in
theorem mX2_builds (l : Launch) (Γ : zG) (z : Nat) (s0 : Nat) (μ : zM) (Q : zM → Prop) (hp : pX2_builds z s0 μ Q) : Met l yX2_builds (ws_ yX2_builds cX2_builds 1 none) ({ frames := 0, cells := 0, slots := 0, locals := 0 } : Room) (va_Pc [.ref s0] (zPre Γ (cSh z) μ)) (va_Qv Q (zPost Γ (cSh z) μ) (zA μ)) 0 0 (zA μ) := by
  refine zstart (by decide) (Nat.le_of_ble_eq_true rfl) ?_
  intro p e s m below meth c ls X hnm hB hl
  have X : zCx p m c cX2_builds 1 s [.ref s0].toArray RX2 meth none := X
  have S := X.1
  obtain ⟨hx, hb, hml, hown, hts⟩ := X.1
  have hl : lv_has ls 1 [(0, .ref s0)] := hl
  obtain ⟨ht_s0, hp⟩ := hp
  refine lv_aload_n hx hb dX2_builds_0 rfl (lv_at hl 0 rfl) ?_
  refine g_getr S hB (hB.ty ht_s0 rfl) rfl (T := TX2) (N := 8) (C := RX2) rfl in_X2 2 (by decide) (by decide) q250 (fun _ h9 => h9) (fun _ => rfl) (cS2 hB (hB.ty ht_s0 rfl) 2 rfl).1 dX2_builds_1 ?_
  refine lv_aload_n hx hb dX2_builds_4 rfl (lv_at hl 0 rfl) ?_
  refine g_get S hB (hB.ty ht_s0 rfl) rfl (T := TX2) (N := 8) (C := RX2) rfl in_X2 3 (by decide) (by decide) q252 (fun _ h9 => h9) (v := .int (zI μ s0 3)) rfl dX2_builds_5 ?_
  refine lv_aload_n hx hb dX2_builds_8 rfl (lv_at hl 0 rfl) ?_
  refine g_getr S hB (hB.ty ht_s0 rfl) rfl (T := TX2) (N := 8) (C := RX2) rfl in_X2 7 (by decide) (by decide) q260 (fun _ h9 => h9) (fun _ => rfl) (cZ2 hB (hB.ty ht_s0 rfl)) dX2_builds_9 ?_
  refine g_getN S hB (cT hB) rfl (T := TX0) (N := 33) (C := RX0) rfl in_X0 0 (by decide) (by decide) (zNFw hB 25 rfl) (fun _ h9 => h9) (v := va_rf (zR μ z 0)) rfl dX2_builds_12 ?_
  obtain ⟨b1, eb, hp⟩ := hp
  refine W.eq (g2 := F0 m 15 ls [.ref b1, .int (zI μ s0 3), .ref (s0 + 3)]) (by rw [eb]; rfl) ?_
  obtain ⟨ht2, hp⟩ := hp
  refine g_getN S hB ht2 rfl (T := TX1) (N := 16) (C := RX1) rfl in_X1 9 (by decide) (by decide) (zNFw hB 24 rfl) (fun _ h9 => h9) (v := .int (zI μ b1 9)) rfl dX2_builds_15 ?_
  obtain ⟨hi, hp⟩ := hp
  obtain ⟨μ3, eμ3, hp⟩ := zpI_e hp
  refine g_iast S hB (cS2 hB (hB.ty ht_s0 rfl) 2 rfl).2 hi dX2_builds_18 (fun H locs hB => ?_)
  rw [← eμ3] at hB
  refine lv_aload_n hx hb dX2_builds_19 rfl (lv_at hl 0 rfl) ?_
  refine lv_dup hx hb dX2_builds_20 rfl ?_
  refine g_get S hB (hB.ty ht_s0 rfl) rfl (T := TX2) (N := 8) (C := RX2) rfl in_X2 3 (by decide) (by decide) q252 (fun _ h9 => h9) (v := .int (zI μ3 s0 3)) rfl dX2_builds_21 ?_
  refine lv_iconst (v := (nI 1)) hx hb dX2_builds_24 rfl ?_
  refine lv_iadd hx hb dX2_builds_25 ?_
  obtain ⟨μ4, eμ4, hp⟩ := zpI_e hp
  refine g_putI S hB (hB.ty ht_s0 rfl) rfl (T := TX2) (N := 8) (C := RX2) rfl in_X2 3 (by decide) (by decide) (x := ((zI μ3 s0 3) + (nI 1))) tyX2 tyX2_ok nmX2 q252 (fun _ h9 => h9) rfl (ty := .int) (by decide +kernel) rfl rfl (fun _ _ => rfl) dX2_builds_26 (fun H locs hB => ?_)
  rw [← eμ4] at hB
  exact zret_v X hB hp dX2_builds_29
def pX2_whyMove (z : Nat) (s0 : Nat) (x1 : Int64) (x3 : Int64) (μ : zM) (Q : Int32 → zM → Prop) : Prop := zty μ s0 = some (.inl 2) ∧ (zde (zR μ z 0) fun b1 => (zty μ b1 = some (.inl 1) ∧ (pX0_in z x1 (0 : Int64) (((zI μ b1 6) - (nI 1)).toInt64) μ fun r4 μ3 => (if r4 = 0 then Q (nI 1) μ3 else (pX0_in z x3 (0 : Int64) (((zI μ3 s0 3) - (nI 1)).toInt64) μ3 fun r6 μ5 => (if r6 = 0 then Q (nI 1) μ5 else (pX2_who z s0 (x3.toInt32) μ5 fun r8 μ7 => (if r8 = (-1 : Int32) then (pX2_isBuried z s0 (x3.toInt32) μ7 fun r10 μ9 => (if r10 = 0 then Q (nI 0) μ9 else Q (nI 3) μ9)) else Q (nI 2) μ7))))))))
theorem tX2_whyMove {z : Nat} {s0 : Nat} {x1 : Int64} {x3 : Int64} {μ : zM} {Q : Int32 → zM → Prop} (h : pX2_whyMove z s0 x1 x3 μ Q) : zty μ s0 = some (.inl 2) := h.1
theorem hX2_whyMove : yX2_whyMove.cls = "SunkTower$State" ∧ yX2_whyMove.cls ≠ "java/lang/invoke/MethodHandle" ∧ yX2_whyMove.cls ≠ "java/lang/invoke/VarHandle" ∧ (parseMethodDescriptor yX2_whyMove.desc).map (fun d => d.parameters.length) = some 2 := by decide +kernel
set_option maxHeartbeats 4000000 in
set_option maxRecDepth 100000 in
theorem mX2_whyMove (l : Launch) (Γ : zG) (z : Nat) (s0 : Nat) (x1 : Int64) (x3 : Int64) (μ : zM) (Q : Int32 → zM → Prop) (hp : pX2_whyMove z s0 x1 x3 μ Q) : Met l yX2_whyMove (ws_ yX2_whyMove cX2_whyMove 5 (some .int)) ({ frames := 1, cells := 0, slots := 0, locals := 25 } : Room) (va_Pc [.ref s0, .long x1, .long x3] (zPre Γ (cSh z) μ)) (va_Qi Q (zPost Γ (cSh z) μ) (zA μ)) 0 0 (zA μ) := by
  refine zstart (by decide) (Nat.le_of_ble_eq_true rfl) ?_
  intro p e s m below meth c ls X hnm hB hl
  have X : zCx p m c cX2_whyMove 5 s [.ref s0, .long x1, .long x3].toArray RX2 meth (some .int) := X
  have S := X.1
  obtain ⟨hx, hb, hml, hown, hts⟩ := X.1
  have hl : lv_has ls 5 [(0, .ref s0), (1, .long x1), (3, .long x3)] := hl
  obtain ⟨ht_s0, hp⟩ := hp
  refine lv_lload_n hx hb dX2_whyMove_0 rfl (lv_at hl 1 rfl) ?_
  refine lv_lconst (v := (0 : Int64)) hx hb dX2_whyMove_1 rfl ?_
  refine lv_aload_n hx hb dX2_whyMove_2 rfl (lv_at hl 0 rfl) ?_
  refine g_getr S hB (hB.ty ht_s0 rfl) rfl (T := TX2) (N := 8) (C := RX2) rfl in_X2 7 (by decide) (by decide) q260 (fun _ h9 => h9) (fun _ => rfl) (cZ2 hB (hB.ty ht_s0 rfl)) dX2_whyMove_3 ?_
  refine g_getN S hB (cT hB) rfl (T := TX0) (N := 33) (C := RX0) rfl in_X0 0 (by decide) (by decide) (zNFw hB 25 rfl) (fun _ h9 => h9) (v := va_rf (zR μ z 0)) rfl dX2_whyMove_6 ?_
  obtain ⟨b1, eb, hp⟩ := hp
  refine W.eq (g2 := F0 m 9 ls [.ref b1, .long (0 : Int64), .long x1]) (by rw [eb]; rfl) ?_
  obtain ⟨ht2, hp⟩ := hp
  refine g_getN S hB ht2 rfl (T := TX1) (N := 16) (C := RX1) rfl in_X1 6 (by decide) (by decide) (zNFw hB 21 rfl) (fun _ h9 => h9) (v := .int (zI μ b1 6)) rfl dX2_whyMove_9 ?_
  refine lv_iconst (v := (nI 1)) hx hb dX2_whyMove_12 rfl ?_
  refine lv_isub hx hb dX2_whyMove_13 ?_
  refine lv_i2l hx hb dX2_whyMove_14 rfl ?_
  refine z_calli (va_runSN (As := [.long x1, .long (0 : Int64), .long (((zI μ b1 6) - (nI 1)).toInt64)]) (rest := []) S (mX0_in l Γ z x1 (0 : Int64) (((zI μ b1 6) - (nI 1)).toInt64) μ _ hp) ⟨va_cnB 3 hts (lw_meth q420) rfl rfl rfl (zNMw hB 2 rfl) (hts _ q127) hX0_in ⟨Nat.le_of_ble_eq_true rfl, Nat.le_of_ble_eq_true rfl⟩, hts _ q419, trivial⟩ hB.preS rfl rfl hl.1 rfl (lv_room (Nat.le_of_ble_eq_true rfl)) dX2_whyMove_15 ⟨Nat.le_refl _, Nat.le_refl _⟩) hB (fun r4 μ3 H locs hp hB => ?_)
  refine lv_if_eq (tgt := 36) hx hb dX2_whyMove_18 rfl (fun c0 => ?_) (fun c0 => ?_)
  · have hp := zit hp c0
    refine lv_iconst (v := (nI 1)) hx hb dX2_whyMove_36 rfl ?_
    exact zret_i X hB hp dX2_whyMove_37
  · have hp := zif hp c0
    refine lv_lload_n hx hb dX2_whyMove_21 rfl (lv_at hl 2 rfl) ?_
    refine lv_lconst (v := (0 : Int64)) hx hb dX2_whyMove_22 rfl ?_
    refine lv_aload_n hx hb dX2_whyMove_23 rfl (lv_at hl 0 rfl) ?_
    refine g_get S hB (hB.ty ht_s0 rfl) rfl (T := TX2) (N := 8) (C := RX2) rfl in_X2 3 (by decide) (by decide) q252 (fun _ h9 => h9) (v := .int (zI μ3 s0 3)) rfl dX2_whyMove_24 ?_
    refine lv_iconst (v := (nI 1)) hx hb dX2_whyMove_27 rfl ?_
    refine lv_isub hx hb dX2_whyMove_28 ?_
    refine lv_i2l hx hb dX2_whyMove_29 rfl ?_
    refine z_calli (va_runSN (As := [.long x3, .long (0 : Int64), .long (((zI μ3 s0 3) - (nI 1)).toInt64)]) (rest := []) S (mX0_in l Γ z x3 (0 : Int64) (((zI μ3 s0 3) - (nI 1)).toInt64) μ3 _ hp) ⟨va_cnB 3 hts (lw_meth q420) rfl rfl rfl (zNMw hB 2 rfl) (hts _ q127) hX0_in ⟨Nat.le_of_ble_eq_true rfl, Nat.le_of_ble_eq_true rfl⟩, hts _ q419, trivial⟩ hB.preS rfl rfl hl.1 rfl (lv_room (Nat.le_of_ble_eq_true rfl)) dX2_whyMove_30 ⟨Nat.le_refl _, Nat.le_refl _⟩) hB (fun r6 μ5 H locs hp hB => ?_)
    refine lv_if_ne (tgt := 38) hx hb dX2_whyMove_33 rfl (fun c0 => ?_) (fun c0 => ?_)
    · have hp := zif hp c0
      refine lv_aload_n hx hb dX2_whyMove_38 rfl (lv_at hl 0 rfl) ?_
      refine lv_lload_n hx hb dX2_whyMove_39 rfl (lv_at hl 2 rfl) ?_
      refine lv_l2i hx hb dX2_whyMove_40 rfl ?_
      refine z_calli (va_runV (As := [.int (x3.toInt32)]) (rest := []) S (mX2_who l Γ z s0 (x3.toInt32) μ5 _ hp) (cwV 1 hts (lw_V q894 q754 q755 q129 q756) rfl rfl rfl hX2_who ⟨Nat.le_of_ble_eq_true rfl, Nat.le_of_ble_eq_true rfl⟩) (hB.preV (hB.ty ht_s0 rfl) rfl rfl) rfl rfl hl.1 rfl (lv_room (Nat.le_of_ble_eq_true rfl)) dX2_whyMove_41 ⟨Nat.le_refl _, Nat.le_refl _⟩) hB (fun r8 μ7 H locs hp hB => ?_)
      refine lv_iconst (v := (-1 : Int32)) hx hb dX2_whyMove_44 rfl ?_
      refine lv_icmp_eq (tgt := 52) hx hb dX2_whyMove_45 rfl (fun c0 => ?_) (fun c0 => ?_)
      · have hp := zit hp c0
        refine lv_aload_n hx hb dX2_whyMove_52 rfl (lv_at hl 0 rfl) ?_
        refine lv_lload_n hx hb dX2_whyMove_53 rfl (lv_at hl 2 rfl) ?_
        refine lv_l2i hx hb dX2_whyMove_54 rfl ?_
        refine z_calli (va_runV (As := [.int (x3.toInt32)]) (rest := []) S (mX2_isBuried l Γ z s0 (x3.toInt32) μ7 _ hp) (cwV 1 hts (lw_V q895 q758 q759 q129 q760) rfl rfl rfl hX2_isBuried ⟨Nat.le_of_ble_eq_true rfl, Nat.le_of_ble_eq_true rfl⟩) (hB.preV (hB.ty ht_s0 rfl) rfl rfl) rfl rfl hl.1 rfl (lv_room (Nat.le_of_ble_eq_true rfl)) dX2_whyMove_55 ⟨Nat.le_refl _, Nat.le_refl _⟩) hB (fun r10 μ9 H locs hp hB => ?_)
        refine lv_if_eq (tgt := 65) hx hb dX2_whyMove_58 rfl (fun c0 => ?_) (fun c0 => ?_)
        · have hp := zit hp c0
          refine lv_iconst (v := (nI 0)) hx hb dX2_whyMove_65 rfl ?_
          exact zret_i X hB hp dX2_whyMove_66
        · have hp := zif hp c0
          refine lv_iconst (v := (nI 3)) hx hb dX2_whyMove_61 rfl ?_
          refine lv_goto (tgt := 66) hx hb dX2_whyMove_62 rfl ?_
          exact zret_i X hB hp dX2_whyMove_66
      · have hp := zif hp c0
        refine lv_iconst (v := (nI 2)) hx hb dX2_whyMove_48 rfl ?_
        refine lv_goto (tgt := 66) hx hb dX2_whyMove_49 rfl ?_
        exact zret_i X hB hp dX2_whyMove_66
    · have hp := zit hp c0
      refine lv_iconst (v := (nI 1)) hx hb dX2_whyMove_36 rfl ?_
      exact zret_i X hB hp dX2_whyMove_37
def pX2_whyLeave (z : Nat) (s0 : Nat) (x1 : Int64) (μ : zM) (Q : Int32 → zM → Prop) : Prop := zty μ s0 = some (.inl 2) ∧ (zde (zR μ z 0) fun b1 => (zty μ b1 = some (.inl 1) ∧ (pX0_in z x1 (0 : Int64) (((zI μ b1 6) - (nI 1)).toInt64) μ fun r4 μ3 => (if r4 = 0 then Q (nI 1) μ3 else (vp_in (x1.toInt32) 6 ∧ (if (zI μ3 (s0 + 1) (x1.toInt32).toNatClampNeg) = (-1 : Int32) then Q (nI 2) μ3 else Q (nI 0) μ3))))))
theorem tX2_whyLeave {z : Nat} {s0 : Nat} {x1 : Int64} {μ : zM} {Q : Int32 → zM → Prop} (h : pX2_whyLeave z s0 x1 μ Q) : zty μ s0 = some (.inl 2) := h.1
theorem hX2_whyLeave : yX2_whyLeave.cls = "SunkTower$State" ∧ yX2_whyLeave.cls ≠ "java/lang/invoke/MethodHandle" ∧ yX2_whyLeave.cls ≠ "java/lang/invoke/VarHandle" ∧ (parseMethodDescriptor yX2_whyLeave.desc).map (fun d => d.parameters.length) = some 1 := by decide +kernel
set_option maxHeartbeats 4000000 in
set_option maxRecDepth 100000 in
theorem mX2_whyLeave (l : Launch) (Γ : zG) (z : Nat) (s0 : Nat) (x1 : Int64) (μ : zM) (Q : Int32 → zM → Prop) (hp : pX2_whyLeave z s0 x1 μ Q) : Met l yX2_whyLeave (ws_ yX2_whyLeave cX2_whyLeave 3 (some .int)) ({ frames := 1, cells := 0, slots := 0, locals := 25 } : Room) (va_Pc [.ref s0, .long x1] (zPre Γ (cSh z) μ)) (va_Qi Q (zPost Γ (cSh z) μ) (zA μ)) 0 0 (zA μ) := by
  refine zstart (by decide) (Nat.le_of_ble_eq_true rfl) ?_
  intro p e s m below meth c ls X hnm hB hl
  have X : zCx p m c cX2_whyLeave 3 s [.ref s0, .long x1].toArray RX2 meth (some .int) := X
  have S := X.1
  obtain ⟨hx, hb, hml, hown, hts⟩ := X.1
  have hl : lv_has ls 3 [(0, .ref s0), (1, .long x1)] := hl
  obtain ⟨ht_s0, hp⟩ := hp
  refine lv_lload_n hx hb dX2_whyLeave_0 rfl (lv_at hl 1 rfl) ?_
  refine lv_lconst (v := (0 : Int64)) hx hb dX2_whyLeave_1 rfl ?_
  refine lv_aload_n hx hb dX2_whyLeave_2 rfl (lv_at hl 0 rfl) ?_
  refine g_getr S hB (hB.ty ht_s0 rfl) rfl (T := TX2) (N := 8) (C := RX2) rfl in_X2 7 (by decide) (by decide) q260 (fun _ h9 => h9) (fun _ => rfl) (cZ2 hB (hB.ty ht_s0 rfl)) dX2_whyLeave_3 ?_
  refine g_getN S hB (cT hB) rfl (T := TX0) (N := 33) (C := RX0) rfl in_X0 0 (by decide) (by decide) (zNFw hB 25 rfl) (fun _ h9 => h9) (v := va_rf (zR μ z 0)) rfl dX2_whyLeave_6 ?_
  obtain ⟨b1, eb, hp⟩ := hp
  refine W.eq (g2 := F0 m 9 ls [.ref b1, .long (0 : Int64), .long x1]) (by rw [eb]; rfl) ?_
  obtain ⟨ht2, hp⟩ := hp
  refine g_getN S hB ht2 rfl (T := TX1) (N := 16) (C := RX1) rfl in_X1 6 (by decide) (by decide) (zNFw hB 21 rfl) (fun _ h9 => h9) (v := .int (zI μ b1 6)) rfl dX2_whyLeave_9 ?_
  refine lv_iconst (v := (nI 1)) hx hb dX2_whyLeave_12 rfl ?_
  refine lv_isub hx hb dX2_whyLeave_13 ?_
  refine lv_i2l hx hb dX2_whyLeave_14 rfl ?_
  refine z_calli (va_runSN (As := [.long x1, .long (0 : Int64), .long (((zI μ b1 6) - (nI 1)).toInt64)]) (rest := []) S (mX0_in l Γ z x1 (0 : Int64) (((zI μ b1 6) - (nI 1)).toInt64) μ _ hp) ⟨va_cnB 3 hts (lw_meth q420) rfl rfl rfl (zNMw hB 2 rfl) (hts _ q127) hX0_in ⟨Nat.le_of_ble_eq_true rfl, Nat.le_of_ble_eq_true rfl⟩, hts _ q419, trivial⟩ hB.preS rfl rfl hl.1 rfl (lv_room (Nat.le_of_ble_eq_true rfl)) dX2_whyLeave_15 ⟨Nat.le_refl _, Nat.le_refl _⟩) hB (fun r4 μ3 H locs hp hB => ?_)
  refine lv_if_ne (tgt := 25) hx hb dX2_whyLeave_18 rfl (fun c0 => ?_) (fun c0 => ?_)
  · have hp := zif hp c0
    refine lv_aload_n hx hb dX2_whyLeave_25 rfl (lv_at hl 0 rfl) ?_
    refine g_getr S hB (hB.ty ht_s0 rfl) rfl (T := TX2) (N := 8) (C := RX2) rfl in_X2 0 (by decide) (by decide) q246 (fun _ h9 => h9) (fun _ => rfl) (cS2 hB (hB.ty ht_s0 rfl) 0 rfl).1 dX2_whyLeave_26 ?_
    refine lv_lload_n hx hb dX2_whyLeave_29 rfl (lv_at hl 1 rfl) ?_
    refine lv_l2i hx hb dX2_whyLeave_30 rfl ?_
    obtain ⟨hi, hp⟩ := hp
    refine g_iald S hB (cS2 hB (hB.ty ht_s0 rfl) 0 rfl).2 hi dX2_whyLeave_31 ?_
    refine lv_iconst (v := (-1 : Int32)) hx hb dX2_whyLeave_32 rfl ?_
    refine lv_icmp_ne (tgt := 40) hx hb dX2_whyLeave_33 rfl (fun c0 => ?_) (fun c0 => ?_)
    · have hp := zif hp c0
      refine lv_iconst (v := (nI 0)) hx hb dX2_whyLeave_40 rfl ?_
      exact zret_i X hB hp dX2_whyLeave_41
    · have hp := zit hp c0
      refine lv_iconst (v := (nI 2)) hx hb dX2_whyLeave_36 rfl ?_
      refine lv_goto (tgt := 41) hx hb dX2_whyLeave_37 rfl ?_
      exact zret_i X hB hp dX2_whyLeave_41
  · have hp := zit hp c0
    refine lv_iconst (v := (nI 1)) hx hb dX2_whyLeave_21 rfl ?_
    refine lv_goto (tgt := 41) hx hb dX2_whyLeave_22 rfl ?_
    exact zret_i X hB hp dX2_whyLeave_41
def pX2_why (z : Nat) (s0 : Nat) (x1 : Int64) (μ : zM) (Q : Int32 → zM → Prop) : Prop := zty μ s0 = some (.inl 2) ∧ (if (lg_cmp x1 (-1 : Int64)) = 0 then Q (nI 0) μ else (if (lg_cmp x1 (3000 : Int64)) = 0 then Q (nI 0) μ else (if (lg_cmp x1 (2000 : Int64)) = 0 then (if (zI μ s0 3) = (nI 8) then Q (nI 2) μ else Q (nI 0) μ) else (pX0_in z x1 (0 : Int64) (599 : Int64) μ fun r2 μ1 => (if r2 = 0 then (pX0_in z x1 (1000 : Int64) (1099 : Int64) μ1 fun r4 μ3 => (if r4 = 0 then (pX0_in z x1 (10000 : Int64) (15999 : Int64) μ3 fun r6 μ5 => (if r6 = 0 then Q (nI 1) μ5 else (zde (zR μ5 z 0) fun b7 => (zty μ5 b7 = some (.inl 1) ∧ (if 0 ≤ (lg_cmp ((x1 - (10000 : Int64)) / (1000 : Int64)) ((zI μ5 b7 6).toInt64)) then Q (nI 1) μ5 else Q (nI 0) μ5))))) else (pX2_whyLeave z s0 (x1 - (1000 : Int64)) μ3 fun r10 μ9 => Q r10 μ9))) else (pX2_whyMove z s0 (x1 / (100 : Int64)) (x1 - x1 / (100 : Int64) * (100 : Int64)) μ1 fun r12 μ11 => Q r12 μ11))))))
theorem tX2_why {z : Nat} {s0 : Nat} {x1 : Int64} {μ : zM} {Q : Int32 → zM → Prop} (h : pX2_why z s0 x1 μ Q) : zty μ s0 = some (.inl 2) := h.1
theorem hX2_why : yX2_why.cls = "SunkTower$State" ∧ yX2_why.cls ≠ "java/lang/invoke/MethodHandle" ∧ yX2_why.cls ≠ "java/lang/invoke/VarHandle" ∧ (parseMethodDescriptor yX2_why.desc).map (fun d => d.parameters.length) = some 1 := by decide +kernel
set_option maxHeartbeats 4000000 in
set_option maxRecDepth 100000 in
theorem mX2_why (l : Launch) (Γ : zG) (z : Nat) (s0 : Nat) (x1 : Int64) (μ : zM) (Q : Int32 → zM → Prop) (hp : pX2_why z s0 x1 μ Q) : Met l yX2_why (ws_ yX2_why cX2_why 3 (some .int)) ({ frames := 2, cells := 0, slots := 0, locals := 49 } : Room) (va_Pc [.ref s0, .long x1] (zPre Γ (cSh z) μ)) (va_Qi Q (zPost Γ (cSh z) μ) (zA μ)) 0 0 (zA μ) := by
  refine zstart (by decide) (Nat.le_of_ble_eq_true rfl) ?_
  intro p e s m below meth c ls X hnm hB hl
  have X : zCx p m c cX2_why 3 s [.ref s0, .long x1].toArray RX2 meth (some .int) := X
  have S := X.1
  obtain ⟨hx, hb, hml, hown, hts⟩ := X.1
  have hl : lv_has ls 3 [(0, .ref s0), (1, .long x1)] := hl
  obtain ⟨ht_s0, hp⟩ := hp
  refine lv_lload_n hx hb dX2_why_0 rfl (lv_at hl 1 rfl) ?_
  refine lv_ldc2 (v := (-1 : Int64)) hx hb hown (hts _ q970) dX2_why_1 ?_
  refine W.lcmp hx hb dX2_why_4 ?_
  refine lv_if_eq (tgt := 16) hx hb dX2_why_5 rfl (fun c0 => ?_) (fun c0 => ?_)
  · have hp := zit hp c0
    refine lv_iconst (v := (nI 0)) hx hb dX2_why_16 rfl ?_
    exact zret_i X hB hp dX2_why_17
  · have hp := zif hp c0
    refine lv_lload_n hx hb dX2_why_8 rfl (lv_at hl 1 rfl) ?_
    refine lv_ldc2 (v := (3000 : Int64)) hx hb hown (hts _ q971) dX2_why_9 ?_
    refine W.lcmp hx hb dX2_why_12 ?_
    refine lv_if_ne (tgt := 18) hx hb dX2_why_13 rfl (fun c0 => ?_) (fun c0 => ?_)
    · have hp := zif hp c0
      refine lv_lload_n hx hb dX2_why_18 rfl (lv_at hl 1 rfl) ?_
      refine lv_ldc2 (v := (2000 : Int64)) hx hb hown (hts _ q972) dX2_why_19 ?_
      refine W.lcmp hx hb dX2_why_22 ?_
      refine lv_if_ne (tgt := 41) hx hb dX2_why_23 rfl (fun c0 => ?_) (fun c0 => ?_)
      · have hp := zif hp c0
        refine lv_lload_n hx hb dX2_why_41 rfl (lv_at hl 1 rfl) ?_
        refine lv_lconst (v := (0 : Int64)) hx hb dX2_why_42 rfl ?_
        refine lv_ldc2 (v := (599 : Int64)) hx hb hown (hts _ q973) dX2_why_43 ?_
        refine z_calli (va_runSN (As := [.long x1, .long (0 : Int64), .long (599 : Int64)]) (rest := []) S (mX0_in l Γ z x1 (0 : Int64) (599 : Int64) μ _ hp) ⟨va_cnB 3 hts (lw_meth q420) rfl rfl rfl (zNMw hB 2 rfl) (hts _ q127) hX0_in ⟨Nat.le_of_ble_eq_true rfl, Nat.le_of_ble_eq_true rfl⟩, hts _ q419, trivial⟩ hB.preS rfl rfl hl.1 rfl (lv_room (Nat.le_of_ble_eq_true rfl)) dX2_why_46 ⟨Nat.le_refl _, Nat.le_refl _⟩) hB (fun r2 μ1 H locs hp hB => ?_)
        refine lv_if_eq (tgt := 67) hx hb dX2_why_49 rfl (fun c0 => ?_) (fun c0 => ?_)
        · have hp := zit hp c0
          refine lv_lload_n hx hb dX2_why_67 rfl (lv_at hl 1 rfl) ?_
          refine lv_ldc2 (v := (1000 : Int64)) hx hb hown (hts _ q976) dX2_why_68 ?_
          refine lv_ldc2 (v := (1099 : Int64)) hx hb hown (hts _ q977) dX2_why_71 ?_
          refine z_calli (va_runSN (As := [.long x1, .long (1000 : Int64), .long (1099 : Int64)]) (rest := []) S (mX0_in l Γ z x1 (1000 : Int64) (1099 : Int64) μ1 _ hp) ⟨va_cnB 3 hts (lw_meth q420) rfl rfl rfl (zNMw hB 2 rfl) (hts _ q127) hX0_in ⟨Nat.le_of_ble_eq_true rfl, Nat.le_of_ble_eq_true rfl⟩, hts _ q419, trivial⟩ hB.preS rfl rfl hl.1 rfl (lv_room (Nat.le_of_ble_eq_true rfl)) dX2_why_74 ⟨Nat.le_refl _, Nat.le_refl _⟩) hB (fun r4 μ3 H locs hp hB => ?_)
          refine lv_if_eq (tgt := 90) hx hb dX2_why_77 rfl (fun c0 => ?_) (fun c0 => ?_)
          · have hp := zit hp c0
            refine lv_lload_n hx hb dX2_why_90 rfl (lv_at hl 1 rfl) ?_
            refine lv_ldc2 (v := (10000 : Int64)) hx hb hown (hts _ q979) dX2_why_91 ?_
            refine lv_ldc2 (v := (15999 : Int64)) hx hb hown (hts _ q980) dX2_why_94 ?_
            refine z_calli (va_runSN (As := [.long x1, .long (10000 : Int64), .long (15999 : Int64)]) (rest := []) S (mX0_in l Γ z x1 (10000 : Int64) (15999 : Int64) μ3 _ hp) ⟨va_cnB 3 hts (lw_meth q420) rfl rfl rfl (zNMw hB 2 rfl) (hts _ q127) hX0_in ⟨Nat.le_of_ble_eq_true rfl, Nat.le_of_ble_eq_true rfl⟩, hts _ q419, trivial⟩ hB.preS rfl rfl hl.1 rfl (lv_room (Nat.le_of_ble_eq_true rfl)) dX2_why_97 ⟨Nat.le_refl _, Nat.le_refl _⟩) hB (fun r6 μ5 H locs hp hB => ?_)
            refine lv_if_eq (tgt := 131) hx hb dX2_why_100 rfl (fun c0 => ?_) (fun c0 => ?_)
            · have hp := zit hp c0
              refine lv_iconst (v := (nI 1)) hx hb dX2_why_131 rfl ?_
              exact zret_i X hB hp dX2_why_132
            · have hp := zif hp c0
              refine lv_lload_n hx hb dX2_why_103 rfl (lv_at hl 1 rfl) ?_
              refine lv_ldc2 (v := (10000 : Int64)) hx hb hown (hts _ q979) dX2_why_104 ?_
              refine lv_lsub hx hb dX2_why_107 ?_
              refine lv_ldc2 (v := (1000 : Int64)) hx hb hown (hts _ q976) dX2_why_108 ?_
              refine lv_ldiv hx hb dX2_why_111 (by decide) ?_
              refine lv_aload_n hx hb dX2_why_112 rfl (lv_at hl 0 rfl) ?_
              refine g_getr S hB (hB.ty ht_s0 rfl) rfl (T := TX2) (N := 8) (C := RX2) rfl in_X2 7 (by decide) (by decide) q260 (fun _ h9 => h9) (fun _ => rfl) (cZ2 hB (hB.ty ht_s0 rfl)) dX2_why_113 ?_
              refine g_getN S hB (cT hB) rfl (T := TX0) (N := 33) (C := RX0) rfl in_X0 0 (by decide) (by decide) (zNFw hB 25 rfl) (fun _ h9 => h9) (v := va_rf (zR μ5 z 0)) rfl dX2_why_116 ?_
              obtain ⟨b7, eb, hp⟩ := hp
              refine W.eq (g2 := F0 m 119 ls [.ref b7, .long ((x1 - (10000 : Int64)) / (1000 : Int64))]) (by rw [eb]; rfl) ?_
              obtain ⟨ht8, hp⟩ := hp
              refine g_getN S hB ht8 rfl (T := TX1) (N := 16) (C := RX1) rfl in_X1 6 (by decide) (by decide) (zNFw hB 21 rfl) (fun _ h9 => h9) (v := .int (zI μ5 b7 6)) rfl dX2_why_119 ?_
              refine lv_i2l hx hb dX2_why_122 rfl ?_
              refine W.lcmp hx hb dX2_why_123 ?_
              refine lv_if_ge (tgt := 131) hx hb dX2_why_124 rfl (fun c0 => ?_) (fun c0 => ?_)
              · have hp := zit hp c0
                refine lv_iconst (v := (nI 1)) hx hb dX2_why_131 rfl ?_
                exact zret_i X hB hp dX2_why_132
              · have hp := zif hp c0
                refine lv_iconst (v := (nI 0)) hx hb dX2_why_127 rfl ?_
                refine lv_goto (tgt := 132) hx hb dX2_why_128 rfl ?_
                exact zret_i X hB hp dX2_why_132
          · have hp := zif hp c0
            refine lv_aload_n hx hb dX2_why_80 rfl (lv_at hl 0 rfl) ?_
            refine lv_lload_n hx hb dX2_why_81 rfl (lv_at hl 1 rfl) ?_
            refine lv_ldc2 (v := (1000 : Int64)) hx hb hown (hts _ q976) dX2_why_82 ?_
            refine lv_lsub hx hb dX2_why_85 ?_
            refine z_calli (va_runV (As := [.long (x1 - (1000 : Int64))]) (rest := []) S (mX2_whyLeave l Γ z s0 (x1 - (1000 : Int64)) μ3 _ hp) (cwV 1 hts (lw_V q978 q901 q902 q129 q903) rfl rfl rfl hX2_whyLeave ⟨Nat.le_of_ble_eq_true rfl, Nat.le_of_ble_eq_true rfl⟩) (hB.preV (hB.ty ht_s0 rfl) rfl rfl) rfl rfl hl.1 rfl (lv_room (Nat.le_of_ble_eq_true rfl)) dX2_why_86 ⟨Nat.le_refl _, Nat.le_refl _⟩) hB (fun r10 μ9 H locs hp hB => ?_)
            exact zret_i X hB hp dX2_why_89
        · have hp := zif hp c0
          refine lv_aload_n hx hb dX2_why_52 rfl (lv_at hl 0 rfl) ?_
          refine lv_lload_n hx hb dX2_why_53 rfl (lv_at hl 1 rfl) ?_
          refine lv_ldc2 (v := (100 : Int64)) hx hb hown (hts _ q974) dX2_why_54 ?_
          refine lv_ldiv hx hb dX2_why_57 (by decide) ?_
          refine lv_lload_n hx hb dX2_why_58 rfl (lv_at hl 1 rfl) ?_
          refine lv_ldc2 (v := (100 : Int64)) hx hb hown (hts _ q974) dX2_why_59 ?_
          refine lv_lrem hx hb dX2_why_62 (by decide) ?_
          refine z_calli (va_runV (As := [.long (x1 / (100 : Int64)), .long (x1 - x1 / (100 : Int64) * (100 : Int64))]) (rest := []) S (mX2_whyMove l Γ z s0 (x1 / (100 : Int64)) (x1 - x1 / (100 : Int64) * (100 : Int64)) μ1 _ hp) (cwV 2 hts (lw_V q975 q890 q891 q129 q892) rfl rfl rfl hX2_whyMove ⟨Nat.le_of_ble_eq_true rfl, Nat.le_of_ble_eq_true rfl⟩) (hB.preV (hB.ty ht_s0 rfl) rfl rfl) rfl rfl hl.1 rfl (lv_room (Nat.le_of_ble_eq_true rfl)) dX2_why_63 ⟨Nat.le_refl _, Nat.le_refl _⟩) hB (fun r12 μ11 H locs hp hB => ?_)
          exact zret_i X hB hp dX2_why_66
      · have hp := zit hp c0
        refine lv_aload_n hx hb dX2_why_26 rfl (lv_at hl 0 rfl) ?_
        refine g_get S hB (hB.ty ht_s0 rfl) rfl (T := TX2) (N := 8) (C := RX2) rfl in_X2 3 (by decide) (by decide) q252 (fun _ h9 => h9) (v := .int (zI μ s0 3)) rfl dX2_why_27 ?_
        refine lv_bipush (v := (nI 8)) hx hb dX2_why_30 rfl ?_
        refine lv_icmp_ne (tgt := 39) hx hb dX2_why_32 rfl (fun c0 => ?_) (fun c0 => ?_)
        · have hp := zif hp c0
          refine lv_iconst (v := (nI 0)) hx hb dX2_why_39 rfl ?_
          exact zret_i X hB hp dX2_why_40
        · have hp := zit hp c0
          refine lv_iconst (v := (nI 2)) hx hb dX2_why_35 rfl ?_
          refine lv_goto (tgt := 40) hx hb dX2_why_36 rfl ?_
          exact zret_i X hB hp dX2_why_40
    · have hp := zit hp c0
      refine lv_iconst (v := (nI 0)) hx hb dX2_why_16 rfl ?_
      exact zret_i X hB hp dX2_why_17
def pX2_door (z : Nat) (s0 : Nat) (μ : zM) (Q : Int32 → zM → Prop) : Prop := zty μ s0 = some (.inl 2) ∧ (pX2_buried z s0 μ fun r2 μ1 => (if (zI μ1 s0 3) ≤ r2 then Q (-1 : Int32) μ1 else (pX2_buried z s0 μ1 fun r4 μ3 => Q r4 μ3)))
theorem tX2_door {z : Nat} {s0 : Nat} {μ : zM} {Q : Int32 → zM → Prop} (h : pX2_door z s0 μ Q) : zty μ s0 = some (.inl 2) := h.1
theorem hX2_door : yX2_door.cls = "SunkTower$State" ∧ yX2_door.cls ≠ "java/lang/invoke/MethodHandle" ∧ yX2_door.cls ≠ "java/lang/invoke/VarHandle" ∧ (parseMethodDescriptor yX2_door.desc).map (fun d => d.parameters.length) = some 0 := by decide +kernel
set_option maxHeartbeats 4000000 in
set_option maxRecDepth 100000 in
theorem mX2_door (l : Launch) (Γ : zG) (z : Nat) (s0 : Nat) (μ : zM) (Q : Int32 → zM → Prop) (hp : pX2_door z s0 μ Q) : Met l yX2_door (ws_ yX2_door cX2_door 1 (some .int)) ({ frames := 2, cells := 0, slots := 0, locals := 44 } : Room) (va_Pc [.ref s0] (zPre Γ (cSh z) μ)) (va_Qi Q (zPost Γ (cSh z) μ) (zA μ)) 0 0 (zA μ) := by
  refine zstart (by decide) (Nat.le_of_ble_eq_true rfl) ?_
  intro p e s m below meth c ls X hnm hB hl
  have X : zCx p m c cX2_door 1 s [.ref s0].toArray RX2 meth (some .int) := X
  have S := X.1
  obtain ⟨hx, hb, hml, hown, hts⟩ := X.1
  have hl : lv_has ls 1 [(0, .ref s0)] := hl
  obtain ⟨ht_s0, hp⟩ := hp
  refine lv_aload_n hx hb dX2_door_0 rfl (lv_at hl 0 rfl) ?_
  refine z_calli (va_runV (As := []) (rest := []) S (mX2_buried l Γ z s0 μ _ hp) (cwV 0 hts (lw_V q789 q790 q791 q129 q792) rfl rfl rfl hX2_buried ⟨Nat.le_of_ble_eq_true rfl, Nat.le_of_ble_eq_true rfl⟩) (hB.preV (hB.ty ht_s0 rfl) rfl rfl) rfl rfl hl.1 rfl (lv_room (Nat.le_of_ble_eq_true rfl)) dX2_door_1 ⟨Nat.le_refl _, Nat.le_refl _⟩) hB (fun r2 μ1 H locs hp hB => ?_)
  refine lv_aload_n hx hb dX2_door_4 rfl (lv_at hl 0 rfl) ?_
  refine g_get S hB (hB.ty ht_s0 rfl) rfl (T := TX2) (N := 8) (C := RX2) rfl in_X2 3 (by decide) (by decide) q252 (fun _ h9 => h9) (v := .int (zI μ1 s0 3)) rfl dX2_door_5 ?_
  refine lv_icmp_ge (tgt := 18) hx hb dX2_door_8 rfl (fun c0 => ?_) (fun c0 => ?_)
  · have hp := zit hp c0
    refine lv_iconst (v := (-1 : Int32)) hx hb dX2_door_18 rfl ?_
    exact zret_i X hB hp dX2_door_19
  · have hp := zif hp c0
    refine lv_aload_n hx hb dX2_door_11 rfl (lv_at hl 0 rfl) ?_
    refine z_calli (va_runV (As := []) (rest := []) S (mX2_buried l Γ z s0 μ1 _ hp) (cwV 0 hts (lw_V q789 q790 q791 q129 q792) rfl rfl rfl hX2_buried ⟨Nat.le_of_ble_eq_true rfl, Nat.le_of_ble_eq_true rfl⟩) (hB.preV (hB.ty ht_s0 rfl) rfl rfl) rfl rfl hl.1 rfl (lv_room (Nat.le_of_ble_eq_true rfl)) dX2_door_12 ⟨Nat.le_refl _, Nat.le_refl _⟩) hB (fun r4 μ3 H locs hp hB => ?_)
    refine lv_goto (tgt := 19) hx hb dX2_door_15 rfl ?_
    exact zret_i X hB hp dX2_door_19
def pX2_away_4 (z : Nat) (s0 : Nat) (Q : Int32 → zM → Prop) : Nat → Int32 → Int32 → zM → Prop
  | 0, _, _, _ => False
  | n + 1, x1, x2, μ => (zde (zR μ z 0) fun b1 => (zty μ b1 = some (.inl 1) ∧ (if (zI μ b1 6) ≤ x2 then Q x1 μ else (vp_in x2 6 ∧ (if (zI μ (s0 + 1) x2.toNatClampNeg) = (-1 : Int32) then pX2_away_4 z s0 Q n (x1 + (nI 1)) (x2 + (nI 1)) μ else pX2_away_4 z s0 Q n (x1 + (nI 0)) (x2 + (nI 1)) μ)))))
set_option maxHeartbeats 4000000 in
set_option maxRecDepth 100000 in
theorem wX2_away_4 {p : Program} {l : Launch} {e : Env} {s : State} {m : MethodId} {args : Array Value} {below : List Frame} {meth : Method} {c : Code} {Γ : zG} {μ0 : zM} {Q : Int32 → zM → Prop} (X : zCx p m c cX2_away 3 s args RX2 meth (some .int)) {s0 : Nat} (ht_s0 : zty μ0 s0 = some (.inl 2)) (z : Nat) : ∀ (n : Nat) (x1 : Int32) (x2 : Int32) (μ : zM) (H : Heap) (locs : List Loc) (ls : Array Slot), pX2_away_4 z s0 Q n x1 x2 μ → zB Γ (cSh z) (zA μ0) μ0 s μ H locs → lv_has ls 3 [(0, .ref s0), (1, .int x1), (2, .int x2)] → W p l e ({ frames := 0, cells := 0, slots := 0, locals := 0 } : Room) s m args below meth c H locs 0 0 (MQ below (va_Qi Q (zPost Γ (cSh z) μ0) (zA μ0)) args s 0 0 (zA μ0)) (F0 m 4 ls []) := by
  have S := X.1
  obtain ⟨hx, hb, hml, hown, hts⟩ := X.1
  intro n
  induction n with
  | zero =>
    intro x1 x2 μ H locs ls hp
    exact hp.elim
  | succ n ih =>
    intro x1 x2 μ H locs ls hp hB hl
    unfold pX2_away_4 at hp
    refine lv_iload_n hx hb dX2_away_4 rfl (lv_at hl 2 rfl) ?_
    refine lv_aload_n hx hb dX2_away_5 rfl (lv_at hl 0 rfl) ?_
    refine g_getr S hB (hB.ty ht_s0 rfl) rfl (T := TX2) (N := 8) (C := RX2) rfl in_X2 7 (by decide) (by decide) q260 (fun _ h9 => h9) (fun _ => rfl) (cZ2 hB (hB.ty ht_s0 rfl)) dX2_away_6 ?_
    refine g_getN S hB (cT hB) rfl (T := TX0) (N := 33) (C := RX0) rfl in_X0 0 (by decide) (by decide) (zNFw hB 25 rfl) (fun _ h9 => h9) (v := va_rf (zR μ z 0)) rfl dX2_away_9 ?_
    obtain ⟨b1, eb, hp⟩ := hp
    refine W.eq (g2 := F0 m 12 ls [.ref b1, .int x2]) (by rw [eb]; rfl) ?_
    obtain ⟨ht2, hp⟩ := hp
    refine g_getN S hB ht2 rfl (T := TX1) (N := 16) (C := RX1) rfl in_X1 6 (by decide) (by decide) (zNFw hB 21 rfl) (fun _ h9 => h9) (v := .int (zI μ b1 6)) rfl dX2_away_12 ?_
    refine lv_icmp_ge (tgt := 42) hx hb dX2_away_15 rfl (fun c0 => ?_) (fun c0 => ?_)
    · have hp := zit hp c0
      refine lv_iload_n hx hb dX2_away_42 rfl (lv_at hl 1 rfl) ?_
      exact zret_i X hB hp dX2_away_43
    · have hp := zif hp c0
      refine lv_iload_n hx hb dX2_away_18 rfl (lv_at hl 1 rfl) ?_
      refine lv_aload_n hx hb dX2_away_19 rfl (lv_at hl 0 rfl) ?_
      refine g_getr S hB (hB.ty ht_s0 rfl) rfl (T := TX2) (N := 8) (C := RX2) rfl in_X2 0 (by decide) (by decide) q246 (fun _ h9 => h9) (fun _ => rfl) (cS2 hB (hB.ty ht_s0 rfl) 0 rfl).1 dX2_away_20 ?_
      refine lv_iload_n hx hb dX2_away_23 rfl (lv_at hl 2 rfl) ?_
      obtain ⟨hi, hp⟩ := hp
      refine g_iald S hB (cS2 hB (hB.ty ht_s0 rfl) 0 rfl).2 hi dX2_away_24 ?_
      refine lv_iconst (v := (-1 : Int32)) hx hb dX2_away_25 rfl ?_
      refine lv_icmp_ne (tgt := 33) hx hb dX2_away_26 rfl (fun c0 => ?_) (fun c0 => ?_)
      · have hp := zif hp c0
        refine lv_iconst (v := (nI 0)) hx hb dX2_away_33 rfl ?_
        refine lv_iadd hx hb dX2_away_34 ?_
        refine lv_istore_n (lv' := [(1, .int (x1 + (nI 0))), (0, .ref s0), (2, .int x2)]) hx hb dX2_away_35 rfl hl (by decide) rfl (fun ls hl => ?_)
        refine lv_iinc (v := (x2 + (nI 1))) (lv' := [(2, .int (x2 + (nI 1))), (1, .int (x1 + (nI 0))), (0, .ref s0)]) hx hb dX2_away_36 hl (k := 2) rfl rfl (by decide) rfl (fun ls hl => ?_)
        refine lv_goto (tgt := 4) hx hb dX2_away_39 rfl ?_
        exact ih (x1 + (nI 0)) (x2 + (nI 1)) μ _ _ _ hp hB (lv_sub hl [2, 1, 0] rfl)
      · have hp := zit hp c0
        refine lv_iconst (v := (nI 1)) hx hb dX2_away_29 rfl ?_
        refine lv_goto (tgt := 34) hx hb dX2_away_30 rfl ?_
        refine lv_iadd hx hb dX2_away_34 ?_
        refine lv_istore_n (lv' := [(1, .int (x1 + (nI 1))), (0, .ref s0), (2, .int x2)]) hx hb dX2_away_35 rfl hl (by decide) rfl (fun ls hl => ?_)
        refine lv_iinc (v := (x2 + (nI 1))) (lv' := [(2, .int (x2 + (nI 1))), (1, .int (x1 + (nI 1))), (0, .ref s0)]) hx hb dX2_away_36 hl (k := 2) rfl rfl (by decide) rfl (fun ls hl => ?_)
        refine lv_goto (tgt := 4) hx hb dX2_away_39 rfl ?_
        exact ih (x1 + (nI 1)) (x2 + (nI 1)) μ _ _ _ hp hB (lv_sub hl [2, 1, 0] rfl)
def pX2_away (z : Nat) (s0 : Nat) (μ : zM) (Q : Int32 → zM → Prop) : Prop := zty μ s0 = some (.inl 2) ∧ ∃ k1, pX2_away_4 z s0 Q k1 (nI 0) (nI 0) μ
theorem tX2_away {z : Nat} {s0 : Nat} {μ : zM} {Q : Int32 → zM → Prop} (h : pX2_away z s0 μ Q) : zty μ s0 = some (.inl 2) := h.1
theorem hX2_away : yX2_away.cls = "SunkTower$State" ∧ yX2_away.cls ≠ "java/lang/invoke/MethodHandle" ∧ yX2_away.cls ≠ "java/lang/invoke/VarHandle" ∧ (parseMethodDescriptor yX2_away.desc).map (fun d => d.parameters.length) = some 0 := by decide +kernel
set_option maxHeartbeats 4000000 in
set_option maxRecDepth 100000 in
theorem mX2_away (l : Launch) (Γ : zG) (z : Nat) (s0 : Nat) (μ : zM) (Q : Int32 → zM → Prop) (hp : pX2_away z s0 μ Q) : Met l yX2_away (ws_ yX2_away cX2_away 3 (some .int)) ({ frames := 0, cells := 0, slots := 0, locals := 0 } : Room) (va_Pc [.ref s0] (zPre Γ (cSh z) μ)) (va_Qi Q (zPost Γ (cSh z) μ) (zA μ)) 0 0 (zA μ) := by
  refine zstart (by decide) (Nat.le_of_ble_eq_true rfl) ?_
  intro p e s m below meth c ls X hnm hB hl
  have X : zCx p m c cX2_away 3 s [.ref s0].toArray RX2 meth (some .int) := X
  have S := X.1
  obtain ⟨hx, hb, hml, hown, hts⟩ := X.1
  have hl : lv_has ls 3 [(0, .ref s0)] := hl
  obtain ⟨ht_s0, hp⟩ := hp
  refine lv_iconst (v := (nI 0)) hx hb dX2_away_0 rfl ?_
  refine lv_istore_n (lv' := [(1, .int (nI 0)), (0, .ref s0)]) hx hb dX2_away_1 rfl hl (by decide) rfl (fun ls hl => ?_)
  refine lv_iconst (v := (nI 0)) hx hb dX2_away_2 rfl ?_
  refine lv_istore_n (lv' := [(2, .int (nI 0)), (1, .int (nI 0)), (0, .ref s0)]) hx hb dX2_away_3 rfl hl (by decide) rfl (fun ls hl => ?_)
  obtain ⟨n1, hp⟩ := hp
  exact wX2_away_4 X ht_s0 z n1 (nI 0) (nI 0) μ _ _ _ hp hB (lv_sub hl [2, 1, 0] rfl)
def pX3_many (z : Nat) (s0 : Nat) (μ : zM) (Q : Int32 → zM → Prop) : Prop := zty μ s0 = some (.inl 3) ∧ (zhd μ (zR μ s0 0) ∧ (if (zio μ (zR μ s0 0) 1) = 0 then (zhd μ (zR μ s0 0) ∧ (if (zio μ (zR μ s0 0) 4) = 0 then (zhd μ (zR μ s0 0) ∧ (if (zio μ (zR μ s0 0) 0) = 0 then (∃ b1 n2, (zR μ s0 0) = some b1 ∧ zty μ b1 = some (.inr (3, n2)) ∧ Q (nI n2) μ) else (∃ b4 n5, (zR μ s0 0) = some b4 ∧ zty μ b4 = some (.inr (0, n5)) ∧ Q (nI n5) μ))) else (∃ b7 n8, (zR μ s0 0) = some b7 ∧ zty μ b7 = some (.inr (4, n8)) ∧ Q (nI n8) μ))) else (∃ b10 n11, (zR μ s0 0) = some b10 ∧ zty μ b10 = some (.inr (1, n11)) ∧ Q (nI n11) μ)))
theorem tX3_many {z : Nat} {s0 : Nat} {μ : zM} {Q : Int32 → zM → Prop} (h : pX3_many z s0 μ Q) : zty μ s0 = some (.inl 3) := h.1
theorem hX3_many : yX3_many.cls = "SunkTower$Numbers" ∧ yX3_many.cls ≠ "java/lang/invoke/MethodHandle" ∧ yX3_many.cls ≠ "java/lang/invoke/VarHandle" ∧ (parseMethodDescriptor yX3_many.desc).map (fun d => d.parameters.length) = some 0 := by decide +kernel
set_option maxHeartbeats 4000000 in
set_option maxRecDepth 100000 in
theorem mX3_many (l : Launch) (Γ : zG) (z : Nat) (s0 : Nat) (μ : zM) (Q : Int32 → zM → Prop) (hp : pX3_many z s0 μ Q) : Met l yX3_many (ws_ yX3_many cX3_many 1 (some .int)) ({ frames := 0, cells := 0, slots := 0, locals := 0 } : Room) (va_Pc [.ref s0] (zPre Γ (cSh z) μ)) (va_Qi Q (zPost Γ (cSh z) μ) (zA μ)) 0 0 (zA μ) := by
  refine zstart (by decide) (Nat.le_of_ble_eq_true rfl) ?_
  intro p e s m below meth c ls X hnm hB hl
  have X : zCx p m c cX3_many 1 s [.ref s0].toArray RX3 meth (some .int) := X
  have S := X.1
  obtain ⟨hx, hb, hml, hown, hts⟩ := X.1
  have hl : lv_has ls 1 [(0, .ref s0)] := hl
  obtain ⟨ht_s0, hp⟩ := hp
  refine lv_aload_n hx hb dX3_many_0 rfl (lv_at hl 0 rfl) ?_
  refine g_get S hB (hB.ty ht_s0 rfl) rfl (T := TX3) (N := 1) (C := RX3) rfl in_X3 0 (by decide) (by decide) q288 (fun _ h9 => h9) (v := va_rf (zR μ s0 0)) rfl dX3_many_1 ?_
  obtain ⟨hi, hp⟩ := hp
  refine g_inst S hB (k := 1) (by decide) q958 hi dX3_many_4 ?_
  refine lv_if_eq (tgt := 19) hx hb dX3_many_7 rfl (fun c0 => ?_) (fun c0 => ?_)
  · have hp := zit hp c0
    refine lv_aload_n hx hb dX3_many_19 rfl (lv_at hl 0 rfl) ?_
    refine g_get S hB (hB.ty ht_s0 rfl) rfl (T := TX3) (N := 1) (C := RX3) rfl in_X3 0 (by decide) (by decide) q288 (fun _ h9 => h9) (v := va_rf (zR μ s0 0)) rfl dX3_many_20 ?_
    obtain ⟨hi, hp⟩ := hp
    refine g_inst S hB (k := 4) (by decide) q959 hi dX3_many_23 ?_
    refine lv_if_eq (tgt := 38) hx hb dX3_many_26 rfl (fun c0 => ?_) (fun c0 => ?_)
    · have hp := zit hp c0
      refine lv_aload_n hx hb dX3_many_38 rfl (lv_at hl 0 rfl) ?_
      refine g_get S hB (hB.ty ht_s0 rfl) rfl (T := TX3) (N := 1) (C := RX3) rfl in_X3 0 (by decide) (by decide) q288 (fun _ h9 => h9) (v := va_rf (zR μ s0 0)) rfl dX3_many_39 ?_
      obtain ⟨hi, hp⟩ := hp
      refine g_inst S hB (k := 0) (by decide) q960 hi dX3_many_42 ?_
      refine lv_if_eq (tgt := 59) hx hb dX3_many_45 rfl (fun c0 => ?_) (fun c0 => ?_)
      · have hp := zit hp c0
        refine lv_aload_n hx hb dX3_many_59 rfl (lv_at hl 0 rfl) ?_
        refine g_get S hB (hB.ty ht_s0 rfl) rfl (T := TX3) (N := 1) (C := RX3) rfl in_X3 0 (by decide) (by decide) q288 (fun _ h9 => h9) (v := va_rf (zR μ s0 0)) rfl dX3_many_60 ?_
        obtain ⟨b1, n2, eb, ht3, hp⟩ := hp
        refine W.eq (g2 := F0 m 63 ls [.ref b1]) (by rw [eb]; rfl) ?_
        refine g_castA S hB (k := 3) (by decide) q961 ht3 dX3_many_63 ?_
        refine g_alen S hB ht3 rfl dX3_many_66 ?_
        exact zret_i X hB hp dX3_many_67
      · have hp := zif hp c0
        refine lv_aload_n hx hb dX3_many_48 rfl (lv_at hl 0 rfl) ?_
        refine g_get S hB (hB.ty ht_s0 rfl) rfl (T := TX3) (N := 1) (C := RX3) rfl in_X3 0 (by decide) (by decide) q288 (fun _ h9 => h9) (v := va_rf (zR μ s0 0)) rfl dX3_many_49 ?_
        obtain ⟨b4, n5, eb, ht6, hp⟩ := hp
        refine W.eq (g2 := F0 m 52 ls [.ref b4]) (by rw [eb]; rfl) ?_
        refine g_castA S hB (k := 0) (by decide) q960 ht6 dX3_many_52 ?_
        refine g_alen S hB ht6 rfl dX3_many_55 ?_
        refine lv_goto (tgt := 67) hx hb dX3_many_56 rfl ?_
        exact zret_i X hB hp dX3_many_67
    · have hp := zif hp c0
      refine lv_aload_n hx hb dX3_many_29 rfl (lv_at hl 0 rfl) ?_
      refine g_get S hB (hB.ty ht_s0 rfl) rfl (T := TX3) (N := 1) (C := RX3) rfl in_X3 0 (by decide) (by decide) q288 (fun _ h9 => h9) (v := va_rf (zR μ s0 0)) rfl dX3_many_30 ?_
      obtain ⟨b7, n8, eb, ht9, hp⟩ := hp
      refine W.eq (g2 := F0 m 33 ls [.ref b7]) (by rw [eb]; rfl) ?_
      refine g_castA S hB (k := 4) (by decide) q959 ht9 dX3_many_33 ?_
      refine g_alen S hB ht9 rfl dX3_many_36 ?_
      exact zret_i X hB hp dX3_many_37
  · have hp := zif hp c0
    refine lv_aload_n hx hb dX3_many_10 rfl (lv_at hl 0 rfl) ?_
    refine g_get S hB (hB.ty ht_s0 rfl) rfl (T := TX3) (N := 1) (C := RX3) rfl in_X3 0 (by decide) (by decide) q288 (fun _ h9 => h9) (v := va_rf (zR μ s0 0)) rfl dX3_many_11 ?_
    obtain ⟨b10, n11, eb, ht12, hp⟩ := hp
    refine W.eq (g2 := F0 m 14 ls [.ref b10]) (by rw [eb]; rfl) ?_
    refine g_castA S hB (k := 1) (by decide) q958 ht12 dX3_many_14 ?_
    refine g_alen S hB ht12 rfl dX3_many_17 ?_
    exact zret_i X hB hp dX3_many_18
def pX3_number (z : Nat) (s0 : Nat) (x1 : Int32) (μ : zM) (Q : Int64 → zM → Prop) : Prop := zty μ s0 = some (.inl 3) ∧ (zhd μ (zR μ s0 0) ∧ (if (zio μ (zR μ s0 0) 1) = 0 then (zhd μ (zR μ s0 0) ∧ (if (zio μ (zR μ s0 0) 4) = 0 then (zhd μ (zR μ s0 0) ∧ (if (zio μ (zR μ s0 0) 0) = 0 then (∃ b1 n2, (zR μ s0 0) = some b1 ∧ zty μ b1 = some (.inr (3, n2)) ∧ (vp_in x1 n2 ∧ Q (zJ μ b1 x1.toNatClampNeg) μ)) else (∃ b4 n5, (zR μ s0 0) = some b4 ∧ zty μ b4 = some (.inr (0, n5)) ∧ (vp_in x1 n5 ∧ Q ((zI μ b4 x1.toNatClampNeg).toInt64) μ)))) else (∃ b7 n8, (zR μ s0 0) = some b7 ∧ zty μ b7 = some (.inr (4, n8)) ∧ (vp_in x1 n8 ∧ Q ((zI μ b7 x1.toNatClampNeg).toInt64) μ)))) else (∃ b10 n11, (zR μ s0 0) = some b10 ∧ zty μ b10 = some (.inr (1, n11)) ∧ (vp_in x1 n11 ∧ Q ((zI μ b10 x1.toNatClampNeg).toInt64) μ))))
theorem tX3_number {z : Nat} {s0 : Nat} {x1 : Int32} {μ : zM} {Q : Int64 → zM → Prop} (h : pX3_number z s0 x1 μ Q) : zty μ s0 = some (.inl 3) := h.1
theorem hX3_number : yX3_number.cls = "SunkTower$Numbers" ∧ yX3_number.cls ≠ "java/lang/invoke/MethodHandle" ∧ yX3_number.cls ≠ "java/lang/invoke/VarHandle" ∧ (parseMethodDescriptor yX3_number.desc).map (fun d => d.parameters.length) = some 1 := by decide +kernel
set_option maxHeartbeats 4000000 in
set_option maxRecDepth 100000 in
theorem mX3_number (l : Launch) (Γ : zG) (z : Nat) (s0 : Nat) (x1 : Int32) (μ : zM) (Q : Int64 → zM → Prop) (hp : pX3_number z s0 x1 μ Q) : Met l yX3_number (ws_ yX3_number cX3_number 2 (some .long)) ({ frames := 0, cells := 0, slots := 0, locals := 0 } : Room) (va_Pc [.ref s0, .int x1] (zPre Γ (cSh z) μ)) (va_Ql Q (zPost Γ (cSh z) μ) (zA μ)) 0 0 (zA μ) := by
  refine zstart (by decide) (Nat.le_of_ble_eq_true rfl) ?_
  intro p e s m below meth c ls X hnm hB hl
  have X : zCx p m c cX3_number 2 s [.ref s0, .int x1].toArray RX3 meth (some .long) := X
  have S := X.1
  obtain ⟨hx, hb, hml, hown, hts⟩ := X.1
  have hl : lv_has ls 2 [(0, .ref s0), (1, .int x1)] := hl
  obtain ⟨ht_s0, hp⟩ := hp
  refine lv_aload_n hx hb dX3_number_0 rfl (lv_at hl 0 rfl) ?_
  refine g_get S hB (hB.ty ht_s0 rfl) rfl (T := TX3) (N := 1) (C := RX3) rfl in_X3 0 (by decide) (by decide) q288 (fun _ h9 => h9) (v := va_rf (zR μ s0 0)) rfl dX3_number_1 ?_
  obtain ⟨hi, hp⟩ := hp
  refine g_inst S hB (k := 1) (by decide) q958 hi dX3_number_4 ?_
  refine lv_if_eq (tgt := 21) hx hb dX3_number_7 rfl (fun c0 => ?_) (fun c0 => ?_)
  · have hp := zit hp c0
    refine lv_aload_n hx hb dX3_number_21 rfl (lv_at hl 0 rfl) ?_
    refine g_get S hB (hB.ty ht_s0 rfl) rfl (T := TX3) (N := 1) (C := RX3) rfl in_X3 0 (by decide) (by decide) q288 (fun _ h9 => h9) (v := va_rf (zR μ s0 0)) rfl dX3_number_22 ?_
    obtain ⟨hi, hp⟩ := hp
    refine g_inst S hB (k := 4) (by decide) q959 hi dX3_number_25 ?_
    refine lv_if_eq (tgt := 42) hx hb dX3_number_28 rfl (fun c0 => ?_) (fun c0 => ?_)
    · have hp := zit hp c0
      refine lv_aload_n hx hb dX3_number_42 rfl (lv_at hl 0 rfl) ?_
      refine g_get S hB (hB.ty ht_s0 rfl) rfl (T := TX3) (N := 1) (C := RX3) rfl in_X3 0 (by decide) (by decide) q288 (fun _ h9 => h9) (v := va_rf (zR μ s0 0)) rfl dX3_number_43 ?_
      obtain ⟨hi, hp⟩ := hp
      refine g_inst S hB (k := 0) (by decide) q960 hi dX3_number_46 ?_
      refine lv_if_eq (tgt := 65) hx hb dX3_number_49 rfl (fun c0 => ?_) (fun c0 => ?_)
      · have hp := zit hp c0
        refine lv_aload_n hx hb dX3_number_65 rfl (lv_at hl 0 rfl) ?_
        refine g_get S hB (hB.ty ht_s0 rfl) rfl (T := TX3) (N := 1) (C := RX3) rfl in_X3 0 (by decide) (by decide) q288 (fun _ h9 => h9) (v := va_rf (zR μ s0 0)) rfl dX3_number_66 ?_
        obtain ⟨b1, n2, eb, ht3, hp⟩ := hp
        refine W.eq (g2 := F0 m 69 ls [.ref b1]) (by rw [eb]; rfl) ?_
        refine g_castA S hB (k := 3) (by decide) q961 ht3 dX3_number_69 ?_
        refine lv_iload_n hx hb dX3_number_72 rfl (lv_at hl 1 rfl) ?_
        obtain ⟨hi, hp⟩ := hp
        refine g_lald S hB ht3 hi dX3_number_73 ?_
        exact zret_l X hB hp dX3_number_74
      · have hp := zif hp c0
        refine lv_aload_n hx hb dX3_number_52 rfl (lv_at hl 0 rfl) ?_
        refine g_get S hB (hB.ty ht_s0 rfl) rfl (T := TX3) (N := 1) (C := RX3) rfl in_X3 0 (by decide) (by decide) q288 (fun _ h9 => h9) (v := va_rf (zR μ s0 0)) rfl dX3_number_53 ?_
        obtain ⟨b4, n5, eb, ht6, hp⟩ := hp
        refine W.eq (g2 := F0 m 56 ls [.ref b4]) (by rw [eb]; rfl) ?_
        refine g_castA S hB (k := 0) (by decide) q960 ht6 dX3_number_56 ?_
        refine lv_iload_n hx hb dX3_number_59 rfl (lv_at hl 1 rfl) ?_
        obtain ⟨hi, hp⟩ := hp
        refine g_iald S hB ht6 hi dX3_number_60 ?_
        refine lv_i2l hx hb dX3_number_61 rfl ?_
        refine lv_goto (tgt := 74) hx hb dX3_number_62 rfl ?_
        exact zret_l X hB hp dX3_number_74
    · have hp := zif hp c0
      refine lv_aload_n hx hb dX3_number_31 rfl (lv_at hl 0 rfl) ?_
      refine g_get S hB (hB.ty ht_s0 rfl) rfl (T := TX3) (N := 1) (C := RX3) rfl in_X3 0 (by decide) (by decide) q288 (fun _ h9 => h9) (v := va_rf (zR μ s0 0)) rfl dX3_number_32 ?_
      obtain ⟨b7, n8, eb, ht9, hp⟩ := hp
      refine W.eq (g2 := F0 m 35 ls [.ref b7]) (by rw [eb]; rfl) ?_
      refine g_castA S hB (k := 4) (by decide) q959 ht9 dX3_number_35 ?_
      refine lv_iload_n hx hb dX3_number_38 rfl (lv_at hl 1 rfl) ?_
      obtain ⟨hi, hp⟩ := hp
      refine g_sald S hB ht9 hi dX3_number_39 ?_
      refine lv_i2l hx hb dX3_number_40 rfl ?_
      exact zret_l X hB hp dX3_number_41
  · have hp := zif hp c0
    refine lv_aload_n hx hb dX3_number_10 rfl (lv_at hl 0 rfl) ?_
    refine g_get S hB (hB.ty ht_s0 rfl) rfl (T := TX3) (N := 1) (C := RX3) rfl in_X3 0 (by decide) (by decide) q288 (fun _ h9 => h9) (v := va_rf (zR μ s0 0)) rfl dX3_number_11 ?_
    obtain ⟨b10, n11, eb, ht12, hp⟩ := hp
    refine W.eq (g2 := F0 m 14 ls [.ref b10]) (by rw [eb]; rfl) ?_
    refine g_castA S hB (k := 1) (by decide) q958 ht12 dX3_number_14 ?_
    refine lv_iload_n hx hb dX3_number_17 rfl (lv_at hl 1 rfl) ?_
    obtain ⟨hi, hp⟩ := hp
    refine g_bald S hB ht12 hi dX3_number_18 ?_
    refine lv_i2l hx hb dX3_number_19 rfl ?_
    exact zret_l X hB hp dX3_number_20
def pX3_puts (z : Nat) (s0 : Nat) (x1 : Int32) (x2 : Int64) (μ : zM) (Q : zM → Prop) : Prop := zty μ s0 = some (.inl 3) ∧ (zhd μ (zR μ s0 0) ∧ (if (zio μ (zR μ s0 0) 1) = 0 then (zhd μ (zR μ s0 0) ∧ (if (zio μ (zR μ s0 0) 4) = 0 then (zhd μ (zR μ s0 0) ∧ (if (zio μ (zR μ s0 0) 0) = 0 then (∃ b1 n2, (zR μ s0 0) = some b1 ∧ zty μ b1 = some (.inr (3, n2)) ∧ (vp_in x1 n2 ∧ zpJ μ b1 x1.toNatClampNeg x2 fun μ4 => Q μ4)) else (∃ b5 n6, (zR μ s0 0) = some b5 ∧ zty μ b5 = some (.inr (0, n6)) ∧ (vp_in x1 n6 ∧ zpI μ b5 x1.toNatClampNeg (x2.toInt32) fun μ8 => Q μ8)))) else (∃ b9 n10, (zR μ s0 0) = some b9 ∧ zty μ b9 = some (.inr (4, n10)) ∧ (vp_in x1 n10 ∧ zpI μ b9 x1.toNatClampNeg (vp_nar .short ((x2.toInt32).toInt16.toInt32)) fun μ12 => Q μ12)))) else (∃ b13 n14, (zR μ s0 0) = some b13 ∧ zty μ b13 = some (.inr (1, n14)) ∧ (vp_in x1 n14 ∧ zpI μ b13 x1.toNatClampNeg (vp_nar .byte ((x2.toInt32).toInt8.toInt32)) fun μ16 => Q μ16))))
theorem tX3_puts {z : Nat} {s0 : Nat} {x1 : Int32} {x2 : Int64} {μ : zM} {Q : zM → Prop} (h : pX3_puts z s0 x1 x2 μ Q) : zty μ s0 = some (.inl 3) := h.1
theorem hX3_puts : yX3_puts.cls = "SunkTower$Numbers" ∧ yX3_puts.cls ≠ "java/lang/invoke/MethodHandle" ∧ yX3_puts.cls ≠ "java/lang/invoke/VarHandle" ∧ (parseMethodDescriptor yX3_puts.desc).map (fun d => d.parameters.length) = some 2 := by decide +kernel
set_option maxHeartbeats 4000000 in
set_option maxRecDepth 100000 in
theorem mX3_puts (l : Launch) (Γ : zG) (z : Nat) (s0 : Nat) (x1 : Int32) (x2 : Int64) (μ : zM) (Q : zM → Prop) (hp : pX3_puts z s0 x1 x2 μ Q) : Met l yX3_puts (ws_ yX3_puts cX3_puts 4 none) ({ frames := 0, cells := 0, slots := 0, locals := 0 } : Room) (va_Pc [.ref s0, .int x1, .long x2] (zPre Γ (cSh z) μ)) (va_Qv Q (zPost Γ (cSh z) μ) (zA μ)) 0 0 (zA μ) := by
  refine zstart (by decide) (Nat.le_of_ble_eq_true rfl) ?_
  intro p e s m below meth c ls X hnm hB hl
  have X : zCx p m c cX3_puts 4 s [.ref s0, .int x1, .long x2].toArray RX3 meth none := X
  have S := X.1
  obtain ⟨hx, hb, hml, hown, hts⟩ := X.1
  have hl : lv_has ls 4 [(0, .ref s0), (1, .int x1), (2, .long x2)] := hl
  obtain ⟨ht_s0, hp⟩ := hp
  refine lv_aload_n hx hb dX3_puts_0 rfl (lv_at hl 0 rfl) ?_
  refine g_get S hB (hB.ty ht_s0 rfl) rfl (T := TX3) (N := 1) (C := RX3) rfl in_X3 0 (by decide) (by decide) q288 (fun _ h9 => h9) (v := va_rf (zR μ s0 0)) rfl dX3_puts_1 ?_
  obtain ⟨hi, hp⟩ := hp
  refine g_inst S hB (k := 1) (by decide) q958 hi dX3_puts_4 ?_
  refine lv_if_eq (tgt := 25) hx hb dX3_puts_7 rfl (fun c0 => ?_) (fun c0 => ?_)
  · have hp := zit hp c0
    refine lv_aload_n hx hb dX3_puts_25 rfl (lv_at hl 0 rfl) ?_
    refine g_get S hB (hB.ty ht_s0 rfl) rfl (T := TX3) (N := 1) (C := RX3) rfl in_X3 0 (by decide) (by decide) q288 (fun _ h9 => h9) (v := va_rf (zR μ s0 0)) rfl dX3_puts_26 ?_
    obtain ⟨hi, hp⟩ := hp
    refine g_inst S hB (k := 4) (by decide) q959 hi dX3_puts_29 ?_
    refine lv_if_eq (tgt := 50) hx hb dX3_puts_32 rfl (fun c0 => ?_) (fun c0 => ?_)
    · have hp := zit hp c0
      refine lv_aload_n hx hb dX3_puts_50 rfl (lv_at hl 0 rfl) ?_
      refine g_get S hB (hB.ty ht_s0 rfl) rfl (T := TX3) (N := 1) (C := RX3) rfl in_X3 0 (by decide) (by decide) q288 (fun _ h9 => h9) (v := va_rf (zR μ s0 0)) rfl dX3_puts_51 ?_
      obtain ⟨hi, hp⟩ := hp
      refine g_inst S hB (k := 0) (by decide) q960 hi dX3_puts_54 ?_
      refine lv_if_eq (tgt := 74) hx hb dX3_puts_57 rfl (fun c0 => ?_) (fun c0 => ?_)
      · have hp := zit hp c0
        refine lv_aload_n hx hb dX3_puts_74 rfl (lv_at hl 0 rfl) ?_
        refine g_get S hB (hB.ty ht_s0 rfl) rfl (T := TX3) (N := 1) (C := RX3) rfl in_X3 0 (by decide) (by decide) q288 (fun _ h9 => h9) (v := va_rf (zR μ s0 0)) rfl dX3_puts_75 ?_
        obtain ⟨b1, n2, eb, ht3, hp⟩ := hp
        refine W.eq (g2 := F0 m 78 ls [.ref b1]) (by rw [eb]; rfl) ?_
        refine g_castA S hB (k := 3) (by decide) q961 ht3 dX3_puts_78 ?_
        refine lv_iload_n hx hb dX3_puts_81 rfl (lv_at hl 1 rfl) ?_
        refine lv_lload_n hx hb dX3_puts_82 rfl (lv_at hl 2 rfl) ?_
        obtain ⟨hi, hp⟩ := hp
        obtain ⟨μ4, eμ4, hp⟩ := zpJ_e hp
        refine g_last S hB ht3 hi dX3_puts_83 (fun H locs hB => ?_)
        rw [← eμ4] at hB
        exact zret_v X hB hp dX3_puts_84
      · have hp := zif hp c0
        refine lv_aload_n hx hb dX3_puts_60 rfl (lv_at hl 0 rfl) ?_
        refine g_get S hB (hB.ty ht_s0 rfl) rfl (T := TX3) (N := 1) (C := RX3) rfl in_X3 0 (by decide) (by decide) q288 (fun _ h9 => h9) (v := va_rf (zR μ s0 0)) rfl dX3_puts_61 ?_
        obtain ⟨b5, n6, eb, ht7, hp⟩ := hp
        refine W.eq (g2 := F0 m 64 ls [.ref b5]) (by rw [eb]; rfl) ?_
        refine g_castA S hB (k := 0) (by decide) q960 ht7 dX3_puts_64 ?_
        refine lv_iload_n hx hb dX3_puts_67 rfl (lv_at hl 1 rfl) ?_
        refine lv_lload_n hx hb dX3_puts_68 rfl (lv_at hl 2 rfl) ?_
        refine lv_l2i hx hb dX3_puts_69 rfl ?_
        obtain ⟨hi, hp⟩ := hp
        obtain ⟨μ8, eμ8, hp⟩ := zpI_e hp
        refine g_iast S hB ht7 hi dX3_puts_70 (fun H locs hB => ?_)
        rw [← eμ8] at hB
        refine lv_goto (tgt := 84) hx hb dX3_puts_71 rfl ?_
        exact zret_v X hB hp dX3_puts_84
    · have hp := zif hp c0
      refine lv_aload_n hx hb dX3_puts_35 rfl (lv_at hl 0 rfl) ?_
      refine g_get S hB (hB.ty ht_s0 rfl) rfl (T := TX3) (N := 1) (C := RX3) rfl in_X3 0 (by decide) (by decide) q288 (fun _ h9 => h9) (v := va_rf (zR μ s0 0)) rfl dX3_puts_36 ?_
      obtain ⟨b9, n10, eb, ht11, hp⟩ := hp
      refine W.eq (g2 := F0 m 39 ls [.ref b9]) (by rw [eb]; rfl) ?_
      refine g_castA S hB (k := 4) (by decide) q959 ht11 dX3_puts_39 ?_
      refine lv_iload_n hx hb dX3_puts_42 rfl (lv_at hl 1 rfl) ?_
      refine lv_lload_n hx hb dX3_puts_43 rfl (lv_at hl 2 rfl) ?_
      refine lv_l2i hx hb dX3_puts_44 rfl ?_
      refine lv_i2s hx hb dX3_puts_45 rfl ?_
      obtain ⟨hi, hp⟩ := hp
      obtain ⟨μ12, eμ12, hp⟩ := zpI_e hp
      refine g_sast S hB ht11 hi dX3_puts_46 (fun H locs hB => ?_)
      rw [← eμ12] at hB
      refine lv_goto (tgt := 84) hx hb dX3_puts_47 rfl ?_
      exact zret_v X hB hp dX3_puts_84
  · have hp := zif hp c0
    refine lv_aload_n hx hb dX3_puts_10 rfl (lv_at hl 0 rfl) ?_
    refine g_get S hB (hB.ty ht_s0 rfl) rfl (T := TX3) (N := 1) (C := RX3) rfl in_X3 0 (by decide) (by decide) q288 (fun _ h9 => h9) (v := va_rf (zR μ s0 0)) rfl dX3_puts_11 ?_
    obtain ⟨b13, n14, eb, ht15, hp⟩ := hp
    refine W.eq (g2 := F0 m 14 ls [.ref b13]) (by rw [eb]; rfl) ?_
    refine g_castA S hB (k := 1) (by decide) q958 ht15 dX3_puts_14 ?_
    refine lv_iload_n hx hb dX3_puts_17 rfl (lv_at hl 1 rfl) ?_
    refine lv_lload_n hx hb dX3_puts_18 rfl (lv_at hl 2 rfl) ?_
    refine lv_l2i hx hb dX3_puts_19 rfl ?_
    refine lv_i2b hx hb dX3_puts_20 rfl ?_
    obtain ⟨hi, hp⟩ := hp
    obtain ⟨μ16, eμ16, hp⟩ := zpI_e hp
    refine g_bast S hB ht15 hi dX3_puts_21 (fun H locs hB => ?_)
    rw [← eμ16] at hB
    refine lv_goto (tgt := 84) hx hb dX3_puts_22 rfl ?_
    exact zret_v X hB hp dX3_puts_84
def pX5_see (z : Nat) (s0 : Nat) (x1 : Int32) (μ : zM) (Q : Int32 → zM → Prop) : Prop := zty μ s0 = some (.inl 5) ∧ (if (zI μ s0 0) ≤ x1 then Q (nI 0) μ else (vp_in x1 900 ∧ Q ((zI μ (z + 15) x1.toNatClampNeg) &&& (nI 255)) μ))
theorem tX5_see {z : Nat} {s0 : Nat} {x1 : Int32} {μ : zM} {Q : Int32 → zM → Prop} (h : pX5_see z s0 x1 μ Q) : zty μ s0 = some (.inl 5) := h.1
theorem hX5_see : yX5_see.cls = "SunkTower$Reader" ∧ yX5_see.cls ≠ "java/lang/invoke/MethodHandle" ∧ yX5_see.cls ≠ "java/lang/invoke/VarHandle" ∧ (parseMethodDescriptor yX5_see.desc).map (fun d => d.parameters.length) = some 1 := by decide +kernel
set_option maxHeartbeats 4000000 in
set_option maxRecDepth 100000 in
theorem mX5_see (l : Launch) (Γ : zG) (z : Nat) (s0 : Nat) (x1 : Int32) (μ : zM) (Q : Int32 → zM → Prop) (hp : pX5_see z s0 x1 μ Q) : Met l yX5_see (ws_ yX5_see cX5_see 2 (some .int)) ({ frames := 0, cells := 0, slots := 0, locals := 0 } : Room) (va_Pc [.ref s0, .int x1] (zPre Γ (cSh z) μ)) (va_Qi Q (zPost Γ (cSh z) μ) (zA μ)) 0 0 (zA μ) := by
  refine zstart (by decide) (Nat.le_of_ble_eq_true rfl) ?_
  intro p e s m below meth c ls X hnm hB hl
  have X : zCx p m c cX5_see 2 s [.ref s0, .int x1].toArray RX5 meth (some .int) := X
  have S := X.1
  obtain ⟨hx, hb, hml, hown, hts⟩ := X.1
  have hl : lv_has ls 2 [(0, .ref s0), (1, .int x1)] := hl
  obtain ⟨ht_s0, hp⟩ := hp
  refine lv_iload_n hx hb dX5_see_0 rfl (lv_at hl 1 rfl) ?_
  refine lv_aload_n hx hb dX5_see_1 rfl (lv_at hl 0 rfl) ?_
  refine g_get S hB (hB.ty ht_s0 rfl) rfl (T := TX5) (N := 11) (C := RX5) rfl in_X5 0 (by decide) (by decide) q429 (fun _ h9 => h9) (v := .int (zI μ s0 0)) rfl dX5_see_2 ?_
  refine lv_icmp_ge (tgt := 24) hx hb dX5_see_5 rfl (fun c0 => ?_) (fun c0 => ?_)
  · have hp := zit hp c0
    refine lv_iconst (v := (nI 0)) hx hb dX5_see_24 rfl ?_
    exact zret_i X hB hp dX5_see_25
  · have hp := zif hp c0
    refine lv_aload_n hx hb dX5_see_8 rfl (lv_at hl 0 rfl) ?_
    refine g_getr S hB (hB.ty ht_s0 rfl) rfl (T := TX5) (N := 11) (C := RX5) rfl in_X5 10 (by decide) (by decide) q442 (fun _ h9 => h9) (fun _ => rfl) (cZ5 hB (hB.ty ht_s0 rfl)) dX5_see_9 ?_
    refine g_getrN S hB (cT hB) rfl (T := TX0) (N := 33) (C := RX0) rfl in_X0 3 (by decide) (by decide) (zNFw hB 42 rfl) (fun _ h9 => h9) (fun _ => rfl) (cA hB 2 rfl).1 dX5_see_12 ?_
    refine lv_iload_n hx hb dX5_see_15 rfl (lv_at hl 1 rfl) ?_
    obtain ⟨hi, hp⟩ := hp
    refine g_bald S hB (cA hB 2 rfl).2 hi dX5_see_16 ?_
    refine lv_sipush (v := (nI 255)) hx hb dX5_see_17 rfl ?_
    refine lv_iand hx hb dX5_see_20 ?_
    refine lv_goto (tgt := 25) hx hb dX5_see_21 rfl ?_
    exact zret_i X hB hp dX5_see_25
def pX5_isSmall (z : Nat) (s0 : Nat) (x1 : Int32) (μ : zM) (Q : Int32 → zM → Prop) : Prop := zty μ s0 = some (.inl 5) ∧ (pX5_see z s0 x1 μ fun r2 μ1 => (pX0_in z (r2.toInt64) (97 : Int64) (122 : Int64) μ1 fun r4 μ3 => (zbo r4 ∧ Q r4 μ3)))
theorem tX5_isSmall {z : Nat} {s0 : Nat} {x1 : Int32} {μ : zM} {Q : Int32 → zM → Prop} (h : pX5_isSmall z s0 x1 μ Q) : zty μ s0 = some (.inl 5) := h.1
theorem hX5_isSmall : yX5_isSmall.cls = "SunkTower$Reader" ∧ yX5_isSmall.cls ≠ "java/lang/invoke/MethodHandle" ∧ yX5_isSmall.cls ≠ "java/lang/invoke/VarHandle" ∧ (parseMethodDescriptor yX5_isSmall.desc).map (fun d => d.parameters.length) = some 1 := by decide +kernel
set_option maxHeartbeats 4000000 in
set_option maxRecDepth 100000 in
theorem mX5_isSmall (l : Launch) (Γ : zG) (z : Nat) (s0 : Nat) (x1 : Int32) (μ : zM) (Q : Int32 → zM → Prop) (hp : pX5_isSmall z s0 x1 μ Q) : Met l yX5_isSmall (ws_ yX5_isSmall cX5_isSmall 2 (some .boolean)) ({ frames := 1, cells := 0, slots := 0, locals := 25 } : Room) (va_Pc [.ref s0, .int x1] (zPre Γ (cSh z) μ)) (va_Qi Q (zPost Γ (cSh z) μ) (zA μ)) 0 0 (zA μ) := by
  refine zstart (by decide) (Nat.le_of_ble_eq_true rfl) ?_
  intro p e s m below meth c ls X hnm hB hl
  have X : zCx p m c cX5_isSmall 2 s [.ref s0, .int x1].toArray RX5 meth (some .boolean) := X
  have S := X.1
  obtain ⟨hx, hb, hml, hown, hts⟩ := X.1
  have hl : lv_has ls 2 [(0, .ref s0), (1, .int x1)] := hl
  obtain ⟨ht_s0, hp⟩ := hp
  refine lv_aload_n hx hb dX5_isSmall_0 rfl (lv_at hl 0 rfl) ?_
  refine lv_iload_n hx hb dX5_isSmall_1 rfl (lv_at hl 1 rfl) ?_
  refine z_calli (va_runV (As := [.int x1]) (rest := []) S (mX5_see l Γ z s0 x1 μ _ hp) (cwV 1 hts (lw_V q474 q476 qs2 q133 q477) rfl rfl rfl hX5_see ⟨Nat.le_of_ble_eq_true rfl, Nat.le_of_ble_eq_true rfl⟩) (hB.preV (hB.ty ht_s0 rfl) rfl rfl) rfl rfl hl.1 rfl (lv_room (Nat.le_of_ble_eq_true rfl)) dX5_isSmall_2 ⟨Nat.le_refl _, Nat.le_refl _⟩) hB (fun r2 μ1 H locs hp hB => ?_)
  refine lv_i2l hx hb dX5_isSmall_5 rfl ?_
  refine lv_ldc2 (v := (97 : Int64)) hx hb hown (hts _ q482) dX5_isSmall_6 ?_
  refine lv_ldc2 (v := (122 : Int64)) hx hb hown (hts _ q483) dX5_isSmall_9 ?_
  refine z_calli (va_runSN (As := [.long (r2.toInt64), .long (97 : Int64), .long (122 : Int64)]) (rest := []) S (mX0_in l Γ z (r2.toInt64) (97 : Int64) (122 : Int64) μ1 _ hp) ⟨va_cnB 3 hts (lw_meth q420) rfl rfl rfl (zNMw hB 4 rfl) (hts _ q127) hX0_in ⟨Nat.le_of_ble_eq_true rfl, Nat.le_of_ble_eq_true rfl⟩, hts _ q419, trivial⟩ hB.preS rfl rfl hl.1 rfl (lv_room (Nat.le_of_ble_eq_true rfl)) dX5_isSmall_12 ⟨Nat.le_refl _, Nat.le_refl _⟩) hB (fun r4 μ3 H locs hp hB => ?_)
  exact zret_z X hB hp.1 hp.2 dX5_isSmall_15
def pX5_isDigit (z : Nat) (s0 : Nat) (x1 : Int32) (μ : zM) (Q : Int32 → zM → Prop) : Prop := zty μ s0 = some (.inl 5) ∧ (pX5_see z s0 x1 μ fun r2 μ1 => (pX0_in z (r2.toInt64) (48 : Int64) (57 : Int64) μ1 fun r4 μ3 => (zbo r4 ∧ Q r4 μ3)))
theorem tX5_isDigit {z : Nat} {s0 : Nat} {x1 : Int32} {μ : zM} {Q : Int32 → zM → Prop} (h : pX5_isDigit z s0 x1 μ Q) : zty μ s0 = some (.inl 5) := h.1
theorem hX5_isDigit : yX5_isDigit.cls = "SunkTower$Reader" ∧ yX5_isDigit.cls ≠ "java/lang/invoke/MethodHandle" ∧ yX5_isDigit.cls ≠ "java/lang/invoke/VarHandle" ∧ (parseMethodDescriptor yX5_isDigit.desc).map (fun d => d.parameters.length) = some 1 := by decide +kernel
set_option maxHeartbeats 4000000 in
set_option maxRecDepth 100000 in
theorem mX5_isDigit (l : Launch) (Γ : zG) (z : Nat) (s0 : Nat) (x1 : Int32) (μ : zM) (Q : Int32 → zM → Prop) (hp : pX5_isDigit z s0 x1 μ Q) : Met l yX5_isDigit (ws_ yX5_isDigit cX5_isDigit 2 (some .boolean)) ({ frames := 1, cells := 0, slots := 0, locals := 25 } : Room) (va_Pc [.ref s0, .int x1] (zPre Γ (cSh z) μ)) (va_Qi Q (zPost Γ (cSh z) μ) (zA μ)) 0 0 (zA μ) := by
  refine zstart (by decide) (Nat.le_of_ble_eq_true rfl) ?_
  intro p e s m below meth c ls X hnm hB hl
  have X : zCx p m c cX5_isDigit 2 s [.ref s0, .int x1].toArray RX5 meth (some .boolean) := X
  have S := X.1
  obtain ⟨hx, hb, hml, hown, hts⟩ := X.1
  have hl : lv_has ls 2 [(0, .ref s0), (1, .int x1)] := hl
  obtain ⟨ht_s0, hp⟩ := hp
  refine lv_aload_n hx hb dX5_isDigit_0 rfl (lv_at hl 0 rfl) ?_
  refine lv_iload_n hx hb dX5_isDigit_1 rfl (lv_at hl 1 rfl) ?_
  refine z_calli (va_runV (As := [.int x1]) (rest := []) S (mX5_see l Γ z s0 x1 μ _ hp) (cwV 1 hts (lw_V q474 q476 qs2 q133 q477) rfl rfl rfl hX5_see ⟨Nat.le_of_ble_eq_true rfl, Nat.le_of_ble_eq_true rfl⟩) (hB.preV (hB.ty ht_s0 rfl) rfl rfl) rfl rfl hl.1 rfl (lv_room (Nat.le_of_ble_eq_true rfl)) dX5_isDigit_2 ⟨Nat.le_refl _, Nat.le_refl _⟩) hB (fun r2 μ1 H locs hp hB => ?_)
  refine lv_i2l hx hb dX5_isDigit_5 rfl ?_
  refine lv_ldc2 (v := (48 : Int64)) hx hb hown (hts _ q489) dX5_isDigit_6 ?_
  refine lv_ldc2 (v := (57 : Int64)) hx hb hown (hts _ q490) dX5_isDigit_9 ?_
  refine z_calli (va_runSN (As := [.long (r2.toInt64), .long (48 : Int64), .long (57 : Int64)]) (rest := []) S (mX0_in l Γ z (r2.toInt64) (48 : Int64) (57 : Int64) μ1 _ hp) ⟨va_cnB 3 hts (lw_meth q420) rfl rfl rfl (zNMw hB 4 rfl) (hts _ q127) hX0_in ⟨Nat.le_of_ble_eq_true rfl, Nat.le_of_ble_eq_true rfl⟩, hts _ q419, trivial⟩ hB.preS rfl rfl hl.1 rfl (lv_room (Nat.le_of_ble_eq_true rfl)) dX5_isDigit_12 ⟨Nat.le_refl _, Nat.le_refl _⟩) hB (fun r4 μ3 H locs hp hB => ?_)
  exact zret_z X hB hp.1 hp.2 dX5_isDigit_15
def pX5_is_35 (z : Nat) (s0 : Nat) (x1 : Nat) (Q : Int32 → zM → Prop) : Nat → Int32 → zM → Prop
  | 0, _, _ => False
  | n + 1, x2, μ => (x1 < zSn ∧ (pJ0_length x1 μ fun r2 μ1 => (if r2 ≤ x2 then Q (nI 1) μ1 else (pX5_see z s0 ((zI μ1 s0 3) + x2) μ1 fun r4 μ3 => (x1 < zSn ∧ (pJ0_charAt x1 x2 μ3 fun r6 μ5 => (if r4 = r6 then pX5_is_35 z s0 x1 Q n (x2 + (nI 1)) μ5 else Q (nI 0) μ5)))))))
set_option maxHeartbeats 4000000 in
set_option maxRecDepth 100000 in
theorem wX5_is_35 {p : Program} {l : Launch} {e : Env} {s : State} {m : MethodId} {args : Array Value} {below : List Frame} {meth : Method} {c : Code} {Γ : zG} {μ0 : zM} {Q : Int32 → zM → Prop} (X : zCx p m c cX5_is 3 s args RX5 meth (some .boolean)) {s0 : Nat} (ht_s0 : zty μ0 s0 = some (.inl 5)) (z : Nat) (x1 : Nat) : ∀ (n : Nat) (x2 : Int32) (μ : zM) (H : Heap) (locs : List Loc) (ls : Array Slot), pX5_is_35 z s0 x1 Q n x2 μ → zB Γ (cSh z) (zA μ0) μ0 s μ H locs → lv_has ls 3 [(0, .ref s0), (1, .ref (Γ.2.2.1 x1)), (2, .int x2)] → W p l e ({ frames := 4, cells := 0, slots := 0, locals := 85 } : Room) s m args below meth c H locs 0 0 (MQ below (va_Qi Q (zPost Γ (cSh z) μ0) (zA μ0)) args s 0 0 (zA μ0)) (F0 m 35 ls []) := by
  have S := X.1
  obtain ⟨hx, hb, hml, hown, hts⟩ := X.1
  intro n
  induction n with
  | zero =>
    intro x2 μ H locs ls hp
    exact hp.elim
  | succ n ih =>
    intro x2 μ H locs ls hp hB hl
    unfold pX5_is_35 at hp
    refine lv_iload_n hx hb dX5_is_35 rfl (lv_at hl 2 rfl) ?_
    refine lv_aload_n hx hb dX5_is_36 rfl (lv_at hl 1 rfl) ?_
    obtain ⟨hw0, hp⟩ := hp
    refine z_calli (va_runV (As := []) (rest := [.int x2]) S (mJ0_length l Γ (cSh z) x1 μ _ hp) (cwV 0 hts (lw_V q587 q507 q508 q134 q509) rfl rfl rfl hJ0_length ⟨Nat.le_of_ble_eq_true rfl, Nat.le_of_ble_eq_true rfl⟩) (hB.preStr hw0) rfl rfl hl.1 rfl (lv_room (Nat.le_of_ble_eq_true rfl)) dX5_is_37 ⟨Nat.le_refl _, Nat.le_refl _⟩) hB (fun r2 μ1 H locs hp hB => ?_)
    refine lv_icmp_ge (tgt := 69) hx hb dX5_is_40 rfl (fun c0 => ?_) (fun c0 => ?_)
    · have hp := zit hp c0
      refine lv_iconst (v := (nI 1)) hx hb dX5_is_69 rfl ?_
      exact zret_z X hB rfl hp dX5_is_70
    · have hp := zif hp c0
      refine lv_aload_n hx hb dX5_is_43 rfl (lv_at hl 0 rfl) ?_
      refine lv_aload_n hx hb dX5_is_44 rfl (lv_at hl 0 rfl) ?_
      refine g_get S hB (hB.ty ht_s0 rfl) rfl (T := TX5) (N := 11) (C := RX5) rfl in_X5 3 (by decide) (by decide) q433 (fun _ h9 => h9) (v := .int (zI μ1 s0 3)) rfl dX5_is_45 ?_
      refine lv_iload_n hx hb dX5_is_48 rfl (lv_at hl 2 rfl) ?_
      refine lv_iadd hx hb dX5_is_49 ?_
      refine z_calli (va_runV (As := [.int ((zI μ1 s0 3) + x2)]) (rest := []) S (mX5_see l Γ z s0 ((zI μ1 s0 3) + x2) μ1 _ hp) (cwV 1 hts (lw_V q474 q476 qs2 q133 q477) rfl rfl rfl hX5_see ⟨Nat.le_of_ble_eq_true rfl, Nat.le_of_ble_eq_true rfl⟩) (hB.preV (hB.ty ht_s0 rfl) rfl rfl) rfl rfl hl.1 rfl (lv_room (Nat.le_of_ble_eq_true rfl)) dX5_is_50 ⟨Nat.le_refl _, Nat.le_refl _⟩) hB (fun r4 μ3 H locs hp hB => ?_)
      refine lv_aload_n hx hb dX5_is_53 rfl (lv_at hl 1 rfl) ?_
      refine lv_iload_n hx hb dX5_is_54 rfl (lv_at hl 2 rfl) ?_
      obtain ⟨hw0, hp⟩ := hp
      refine z_calli (va_runV (As := [.int x2]) (rest := [.int r4]) S (mJ0_charAt l Γ (cSh z) x1 x2 μ3 _ hp) (cwV 1 hts (lw_V q588 q589 q590 q134 q591) rfl rfl rfl hJ0_charAt ⟨Nat.le_of_ble_eq_true rfl, Nat.le_of_ble_eq_true rfl⟩) (hB.preStr hw0) rfl rfl hl.1 rfl (lv_room (Nat.le_of_ble_eq_true rfl)) dX5_is_55 ⟨Nat.le_refl _, Nat.le_refl _⟩) hB (fun r6 μ5 H locs hp hB => ?_)
      refine lv_icmp_eq (tgt := 63) hx hb dX5_is_58 rfl (fun c0 => ?_) (fun c0 => ?_)
      · have hp := zit hp c0
        refine lv_iinc (v := (x2 + (nI 1))) (lv' := [(2, .int (x2 + (nI 1))), (0, .ref s0), (1, .ref (Γ.2.2.1 x1))]) hx hb dX5_is_63 hl (k := 2) rfl rfl (by decide) rfl (fun ls hl => ?_)
        refine lv_goto (tgt := 35) hx hb dX5_is_66 rfl ?_
        exact ih (x2 + (nI 1)) μ5 _ _ _ hp hB (lv_sub hl [1, 2, 0] rfl)
      · have hp := zif hp c0
        refine lv_iconst (v := (nI 0)) hx hb dX5_is_61 rfl ?_
        exact zret_z X hB rfl hp dX5_is_62
def pX5_is (z : Nat) (s0 : Nat) (x1 : Nat) (μ : zM) (Q : Int32 → zM → Prop) : Prop := zty μ s0 = some (.inl 5) ∧ (if (zI μ s0 6) = 0 then (if (zI μ s0 4) = (nI 1) then (x1 < zSn ∧ (pJ0_length x1 μ fun r2 μ1 => (if ((zI μ s0 2) - (zI μ s0 3)) = r2 then ∃ k1, pX5_is_35 z s0 x1 Q k1 (nI 0) μ1 else Q (nI 0) μ1))) else Q (nI 0) μ) else Q (nI 0) μ)
theorem tX5_is {z : Nat} {s0 : Nat} {x1 : Nat} {μ : zM} {Q : Int32 → zM → Prop} (h : pX5_is z s0 x1 μ Q) : zty μ s0 = some (.inl 5) := h.1
theorem hX5_is : yX5_is.cls = "SunkTower$Reader" ∧ yX5_is.cls ≠ "java/lang/invoke/MethodHandle" ∧ yX5_is.cls ≠ "java/lang/invoke/VarHandle" ∧ (parseMethodDescriptor yX5_is.desc).map (fun d => d.parameters.length) = some 1 := by decide +kernel
set_option maxHeartbeats 4000000 in
set_option maxRecDepth 100000 in
theorem mX5_is (l : Launch) (Γ : zG) (z : Nat) (s0 : Nat) (x1 : Nat) (μ : zM) (Q : Int32 → zM → Prop) (hp : pX5_is z s0 x1 μ Q) : Met l yX5_is (ws_ yX5_is cX5_is 3 (some .boolean)) ({ frames := 4, cells := 0, slots := 0, locals := 85 } : Room) (va_Pc [.ref s0, .ref (Γ.2.2.1 x1)] (zPre Γ (cSh z) μ)) (va_Qi Q (zPost Γ (cSh z) μ) (zA μ)) 0 0 (zA μ) := by
  refine zstart (by decide) (Nat.le_of_ble_eq_true rfl) ?_
  intro p e s m below meth c ls X hnm hB hl
  have X : zCx p m c cX5_is 3 s [.ref s0, .ref (Γ.2.2.1 x1)].toArray RX5 meth (some .boolean) := X
  have S := X.1
  obtain ⟨hx, hb, hml, hown, hts⟩ := X.1
  have hl : lv_has ls 3 [(0, .ref s0), (1, .ref (Γ.2.2.1 x1))] := hl
  obtain ⟨ht_s0, hp⟩ := hp
  refine lv_aload_n hx hb dX5_is_0 rfl (lv_at hl 0 rfl) ?_
  refine g_get S hB (hB.ty ht_s0 rfl) rfl (T := TX5) (N := 11) (C := RX5) rfl in_X5 6 (by decide) (by decide) q436 (fun _ h9 => h9) (v := .int (zI μ s0 6)) rfl dX5_is_1 ?_
  refine lv_if_ne (tgt := 31) hx hb dX5_is_4 rfl (fun c0 => ?_) (fun c0 => ?_)
  · have hp := zif hp c0
    refine lv_iconst (v := (nI 0)) hx hb dX5_is_31 rfl ?_
    exact zret_z X hB rfl hp dX5_is_32
  · have hp := zit hp c0
    refine lv_aload_n hx hb dX5_is_7 rfl (lv_at hl 0 rfl) ?_
    refine g_get S hB (hB.ty ht_s0 rfl) rfl (T := TX5) (N := 11) (C := RX5) rfl in_X5 4 (by decide) (by decide) q434 (fun _ h9 => h9) (v := .int (zI μ s0 4)) rfl dX5_is_8 ?_
    refine lv_iconst (v := (nI 1)) hx hb dX5_is_11 rfl ?_
    refine lv_icmp_ne (tgt := 31) hx hb dX5_is_12 rfl (fun c0 => ?_) (fun c0 => ?_)
    · have hp := zif hp c0
      refine lv_iconst (v := (nI 0)) hx hb dX5_is_31 rfl ?_
      exact zret_z X hB rfl hp dX5_is_32
    · have hp := zit hp c0
      refine lv_aload_n hx hb dX5_is_15 rfl (lv_at hl 0 rfl) ?_
      refine g_get S hB (hB.ty ht_s0 rfl) rfl (T := TX5) (N := 11) (C := RX5) rfl in_X5 2 (by decide) (by decide) q432 (fun _ h9 => h9) (v := .int (zI μ s0 2)) rfl dX5_is_16 ?_
      refine lv_aload_n hx hb dX5_is_19 rfl (lv_at hl 0 rfl) ?_
      refine g_get S hB (hB.ty ht_s0 rfl) rfl (T := TX5) (N := 11) (C := RX5) rfl in_X5 3 (by decide) (by decide) q433 (fun _ h9 => h9) (v := .int (zI μ s0 3)) rfl dX5_is_20 ?_
      refine lv_isub hx hb dX5_is_23 ?_
      refine lv_aload_n hx hb dX5_is_24 rfl (lv_at hl 1 rfl) ?_
      obtain ⟨hw0, hp⟩ := hp
      refine z_calli (va_runV (As := []) (rest := [.int ((zI μ s0 2) - (zI μ s0 3))]) S (mJ0_length l Γ (cSh z) x1 μ _ hp) (cwV 0 hts (lw_V q587 q507 q508 q134 q509) rfl rfl rfl hJ0_length ⟨Nat.le_of_ble_eq_true rfl, Nat.le_of_ble_eq_true rfl⟩) (hB.preStr hw0) rfl rfl hl.1 rfl (lv_room (Nat.le_of_ble_eq_true rfl)) dX5_is_25 ⟨Nat.le_refl _, Nat.le_refl _⟩) hB (fun r2 μ1 H locs hp hB => ?_)
      refine lv_icmp_eq (tgt := 33) hx hb dX5_is_28 rfl (fun c0 => ?_) (fun c0 => ?_)
      · have hp := zit hp c0
        refine lv_iconst (v := (nI 0)) hx hb dX5_is_33 rfl ?_
        refine lv_istore_n (lv' := [(2, .int (nI 0)), (0, .ref s0), (1, .ref (Γ.2.2.1 x1))]) hx hb dX5_is_34 rfl hl (by decide) rfl (fun ls hl => ?_)
        obtain ⟨n1, hp⟩ := hp
        exact wX5_is_35 X ht_s0 z x1 n1 (nI 0) μ1 _ _ _ hp hB (lv_sub hl [1, 2, 0] rfl)
      · have hp := zif hp c0
        refine lv_iconst (v := (nI 0)) hx hb dX5_is_31 rfl ?_
        exact zret_z X hB rfl hp dX5_is_32
def pX5_wrong_22 (z : Nat) (s0 : Nat) (Q : zM → Prop) (y2 : Int32) (μ : zM) : Prop := (zpI μ s0 6 y2 fun μ1 => (zpI μ1 s0 8 (zI μ1 s0 3) fun μ2 => Q μ2))
set_option maxHeartbeats 4000000 in
set_option maxRecDepth 100000 in
theorem wX5_wrong_22 {p : Program} {l : Launch} {e : Env} {s : State} {m : MethodId} {args : Array Value} {below : List Frame} {meth : Method} {c : Code} {Γ : zG} {μ0 : zM} {Q : zM → Prop} (X : zCx p m c cX5_wrong 2 s args RX5 meth none) {s0 : Nat} (ht_s0 : zty μ0 s0 = some (.inl 5)) (z : Nat) : ∀ (y2 : Int32) (μ : zM) (H : Heap) (locs : List Loc) (ls : Array Slot), pX5_wrong_22 z s0 Q y2 μ → zB Γ (cSh z) (zA μ0) μ0 s μ H locs → lv_has ls 2 [(0, .ref s0)] → W p l e ({ frames := 0, cells := 0, slots := 0, locals := 0 } : Room) s m args below meth c H locs 0 0 (MQ below (va_Qv Q (zPost Γ (cSh z) μ0) (zA μ0)) args s 0 0 (zA μ0)) (F0 m 22 ls [.int y2, .ref s0]) := by
  have S := X.1
  obtain ⟨hx, hb, hml, hown, hts⟩ := X.1
  intro y2 μ H locs ls hp hB hl
  unfold pX5_wrong_22 at hp
  obtain ⟨μ1, eμ1, hp⟩ := zpI_e hp
  refine g_putI S hB (hB.ty ht_s0 rfl) rfl (T := TX5) (N := 11) (C := RX5) rfl in_X5 6 (by decide) (by decide) (x := y2) tyX5 tyX5_ok nmX5 q436 (fun _ h9 => h9) rfl (ty := .int) (by decide +kernel) rfl rfl (fun _ _ => rfl) dX5_wrong_22 (fun H locs hB => ?_)
  rw [← eμ1] at hB
  refine lv_aload_n hx hb dX5_wrong_25 rfl (lv_at hl 0 rfl) ?_
  refine lv_aload_n hx hb dX5_wrong_26 rfl (lv_at hl 0 rfl) ?_
  refine g_get S hB (hB.ty ht_s0 rfl) rfl (T := TX5) (N := 11) (C := RX5) rfl in_X5 3 (by decide) (by decide) q433 (fun _ h9 => h9) (v := .int (zI μ1 s0 3)) rfl dX5_wrong_27 ?_
  obtain ⟨μ2, eμ2, hp⟩ := zpI_e hp
  refine g_putI S hB (hB.ty ht_s0 rfl) rfl (T := TX5) (N := 11) (C := RX5) rfl in_X5 8 (by decide) (by decide) (x := (zI μ1 s0 3)) tyX5 tyX5_ok nmX5 q439 (fun _ h9 => h9) rfl (ty := .int) (by decide +kernel) rfl rfl (fun _ _ => rfl) dX5_wrong_30 (fun H locs hB => ?_)
  rw [← eμ2] at hB
  exact zret_v X hB hp dX5_wrong_33
def pX5_wrong (z : Nat) (s0 : Nat) (x1 : Int32) (μ : zM) (Q : zM → Prop) : Prop := zty μ s0 = some (.inl 5) ∧ (if (zI μ s0 6) = 0 then (if (zI μ s0 4) = (nI 3) then pX5_wrong_22 z s0 Q (nI 1) μ else pX5_wrong_22 z s0 Q x1 μ) else Q μ)
theorem tX5_wrong {z : Nat} {s0 : Nat} {x1 : Int32} {μ : zM} {Q : zM → Prop} (h : pX5_wrong z s0 x1 μ Q) : zty μ s0 = some (.inl 5) := h.1
theorem hX5_wrong : yX5_wrong.cls = "SunkTower$Reader" ∧ yX5_wrong.cls ≠ "java/lang/invoke/MethodHandle" ∧ yX5_wrong.cls ≠ "java/lang/invoke/VarHandle" ∧ (parseMethodDescriptor yX5_wrong.desc).map (fun d => d.parameters.length) = some 1 := by decide +kernel
set_option maxHeartbeats 4000000 in
set_option maxRecDepth 100000 in
theorem mX5_wrong (l : Launch) (Γ : zG) (z : Nat) (s0 : Nat) (x1 : Int32) (μ : zM) (Q : zM → Prop) (hp : pX5_wrong z s0 x1 μ Q) : Met l yX5_wrong (ws_ yX5_wrong cX5_wrong 2 none) ({ frames := 0, cells := 0, slots := 0, locals := 0 } : Room) (va_Pc [.ref s0, .int x1] (zPre Γ (cSh z) μ)) (va_Qv Q (zPost Γ (cSh z) μ) (zA μ)) 0 0 (zA μ) := by
  refine zstart (by decide) (Nat.le_of_ble_eq_true rfl) ?_
  intro p e s m below meth c ls X hnm hB hl
  have X : zCx p m c cX5_wrong 2 s [.ref s0, .int x1].toArray RX5 meth none := X
  have S := X.1
  obtain ⟨hx, hb, hml, hown, hts⟩ := X.1
  have hl : lv_has ls 2 [(0, .ref s0), (1, .int x1)] := hl
  obtain ⟨ht_s0, hp⟩ := hp
  refine lv_aload_n hx hb dX5_wrong_0 rfl (lv_at hl 0 rfl) ?_
  refine g_get S hB (hB.ty ht_s0 rfl) rfl (T := TX5) (N := 11) (C := RX5) rfl in_X5 6 (by decide) (by decide) q436 (fun _ h9 => h9) (v := .int (zI μ s0 6)) rfl dX5_wrong_1 ?_
  refine lv_if_eq (tgt := 8) hx hb dX5_wrong_4 rfl (fun c0 => ?_) (fun c0 => ?_)
  · have hp := zit hp c0
    refine lv_aload_n hx hb dX5_wrong_8 rfl (lv_at hl 0 rfl) ?_
    refine lv_aload_n hx hb dX5_wrong_9 rfl (lv_at hl 0 rfl) ?_
    refine g_get S hB (hB.ty ht_s0 rfl) rfl (T := TX5) (N := 11) (C := RX5) rfl in_X5 4 (by decide) (by decide) q434 (fun _ h9 => h9) (v := .int (zI μ s0 4)) rfl dX5_wrong_10 ?_
    refine lv_iconst (v := (nI 3)) hx hb dX5_wrong_13 rfl ?_
    refine lv_icmp_ne (tgt := 21) hx hb dX5_wrong_14 rfl (fun c0 => ?_) (fun c0 => ?_)
    · have hp := zif hp c0
      refine lv_iload_n hx hb dX5_wrong_21 rfl (lv_at hl 1 rfl) ?_
      exact wX5_wrong_22 X ht_s0 z x1 μ _ _ _ hp hB (lv_sub hl [0] rfl)
    · have hp := zit hp c0
      refine lv_iconst (v := (nI 1)) hx hb dX5_wrong_17 rfl ?_
      refine lv_goto (tgt := 22) hx hb dX5_wrong_18 rfl ?_
      exact wX5_wrong_22 X ht_s0 z (nI 1) μ _ _ _ hp hB (lv_sub hl [0] rfl)
  · have hp := zif hp c0
    exact zret_v X hB hp dX5_wrong_7
def pX5_isSign (z : Nat) (s0 : Nat) (x1 : Int32) (μ : zM) (Q : Int32 → zM → Prop) : Prop := zty μ s0 = some (.inl 5) ∧ (if (zI μ s0 6) = 0 then (if (zI μ s0 4) = x1 then Q (nI 1) μ else Q (nI 0) μ) else Q (nI 0) μ)
theorem tX5_isSign {z : Nat} {s0 : Nat} {x1 : Int32} {μ : zM} {Q : Int32 → zM → Prop} (h : pX5_isSign z s0 x1 μ Q) : zty μ s0 = some (.inl 5) := h.1
theorem hX5_isSign : yX5_isSign.cls = "SunkTower$Reader" ∧ yX5_isSign.cls ≠ "java/lang/invoke/MethodHandle" ∧ yX5_isSign.cls ≠ "java/lang/invoke/VarHandle" ∧ (parseMethodDescriptor yX5_isSign.desc).map (fun d => d.parameters.length) = some 1 := by decide +kernel
set_option maxHeartbeats 4000000 in
set_option maxRecDepth 100000 in
theorem mX5_isSign (l : Launch) (Γ : zG) (z : Nat) (s0 : Nat) (x1 : Int32) (μ : zM) (Q : Int32 → zM → Prop) (hp : pX5_isSign z s0 x1 μ Q) : Met l yX5_isSign (ws_ yX5_isSign cX5_isSign 2 (some .boolean)) ({ frames := 0, cells := 0, slots := 0, locals := 0 } : Room) (va_Pc [.ref s0, .int x1] (zPre Γ (cSh z) μ)) (va_Qi Q (zPost Γ (cSh z) μ) (zA μ)) 0 0 (zA μ) := by
  refine zstart (by decide) (Nat.le_of_ble_eq_true rfl) ?_
  intro p e s m below meth c ls X hnm hB hl
  have X : zCx p m c cX5_isSign 2 s [.ref s0, .int x1].toArray RX5 meth (some .boolean) := X
  have S := X.1
  obtain ⟨hx, hb, hml, hown, hts⟩ := X.1
  have hl : lv_has ls 2 [(0, .ref s0), (1, .int x1)] := hl
  obtain ⟨ht_s0, hp⟩ := hp
  refine lv_aload_n hx hb dX5_isSign_0 rfl (lv_at hl 0 rfl) ?_
  refine g_get S hB (hB.ty ht_s0 rfl) rfl (T := TX5) (N := 11) (C := RX5) rfl in_X5 6 (by decide) (by decide) q436 (fun _ h9 => h9) (v := .int (zI μ s0 6)) rfl dX5_isSign_1 ?_
  refine lv_if_ne (tgt := 19) hx hb dX5_isSign_4 rfl (fun c0 => ?_) (fun c0 => ?_)
  · have hp := zif hp c0
    refine lv_iconst (v := (nI 0)) hx hb dX5_isSign_19 rfl ?_
    exact zret_z X hB rfl hp dX5_isSign_20
  · have hp := zit hp c0
    refine lv_aload_n hx hb dX5_isSign_7 rfl (lv_at hl 0 rfl) ?_
    refine g_get S hB (hB.ty ht_s0 rfl) rfl (T := TX5) (N := 11) (C := RX5) rfl in_X5 4 (by decide) (by decide) q434 (fun _ h9 => h9) (v := .int (zI μ s0 4)) rfl dX5_isSign_8 ?_
    refine lv_iload_n hx hb dX5_isSign_11 rfl (lv_at hl 1 rfl) ?_
    refine lv_icmp_ne (tgt := 19) hx hb dX5_isSign_12 rfl (fun c0 => ?_) (fun c0 => ?_)
    · have hp := zif hp c0
      refine lv_iconst (v := (nI 0)) hx hb dX5_isSign_19 rfl ?_
      exact zret_z X hB rfl hp dX5_isSign_20
    · have hp := zit hp c0
      refine lv_iconst (v := (nI 1)) hx hb dX5_isSign_15 rfl ?_
      refine lv_goto (tgt := 20) hx hb dX5_isSign_16 rfl ?_
      exact zret_z X hB rfl hp dX5_isSign_20
def pX7_value (z : Nat) (s0 : Nat) (x1 : Nat) (μ : zM) (Q : Int32 → zM → Prop) : Prop := zty μ s0 = some (.inl 6) ∧ (zia μ x1 0 (zI μ s0 0) ∧ Q (zI μ x1 (zI μ s0 0).toNatClampNeg) μ)
theorem tX7_value {z : Nat} {s0 : Nat} {x1 : Nat} {μ : zM} {Q : Int32 → zM → Prop} (h : pX7_value z s0 x1 μ Q) : zty μ s0 = some (.inl 6) := h.1
theorem hX7_value : yX7_value.cls = "SunkTower$Known" ∧ yX7_value.cls ≠ "java/lang/invoke/MethodHandle" ∧ yX7_value.cls ≠ "java/lang/invoke/VarHandle" ∧ (parseMethodDescriptor yX7_value.desc).map (fun d => d.parameters.length) = some 1 := by decide +kernel
set_option maxHeartbeats 4000000 in
set_option maxRecDepth 100000 in
theorem mX7_value (l : Launch) (Γ : zG) (z : Nat) (s0 : Nat) (x1 : Nat) (μ : zM) (Q : Int32 → zM → Prop) (hp : pX7_value z s0 x1 μ Q) : Met l yX7_value (ws_ yX7_value cX7_value 2 (some .int)) ({ frames := 0, cells := 0, slots := 0, locals := 0 } : Room) (va_Pc [.ref s0, .ref x1] (zPre Γ (cSh z) μ)) (va_Qi Q (zPost Γ (cSh z) μ) (zA μ)) 0 0 (zA μ) := by
  refine zstart (by decide) (Nat.le_of_ble_eq_true rfl) ?_
  intro p e s m below meth c ls X hnm hB hl
  have X : zCx p m c cX7_value 2 s [.ref s0, .ref x1].toArray RX7 meth (some .int) := X
  have S := X.1
  obtain ⟨hx, hb, hml, hown, hts⟩ := X.1
  have hl : lv_has ls 2 [(0, .ref s0), (1, .ref x1)] := hl
  obtain ⟨ht_s0, hp⟩ := hp
  refine lv_aload_n hx hb dX7_value_0 rfl (lv_at hl 1 rfl) ?_
  refine lv_aload_n hx hb dX7_value_1 rfl (lv_at hl 0 rfl) ?_
  refine g_get S hB (hB.ty ht_s0 rfl) rfl (T := TX7) (N := 1) (C := RX7) rfl in_X7 0 (by decide) (by decide) q689 (fun _ h9 => h9) (v := .int (zI μ s0 0)) rfl dX7_value_2 ?_
  obtain ⟨⟨_, ht, hi⟩, hp⟩ := hp
  refine g_iald S hB ht hi dX7_value_5 ?_
  exact zret_i X hB hp dX7_value_6
def pX8_value (z : Nat) (s0 : Nat) (x1 : Nat) (μ : zM) (Q : Int32 → zM → Prop) : Prop := zty μ s0 = some (.inl 7) ∧ Q (zI μ s0 0) μ
theorem tX8_value {z : Nat} {s0 : Nat} {x1 : Nat} {μ : zM} {Q : Int32 → zM → Prop} (h : pX8_value z s0 x1 μ Q) : zty μ s0 = some (.inl 7) := h.1
theorem hX8_value : yX8_value.cls = "SunkTower$Plain" ∧ yX8_value.cls ≠ "java/lang/invoke/MethodHandle" ∧ yX8_value.cls ≠ "java/lang/invoke/VarHandle" ∧ (parseMethodDescriptor yX8_value.desc).map (fun d => d.parameters.length) = some 1 := by decide +kernel
set_option maxHeartbeats 4000000 in
set_option maxRecDepth 100000 in
theorem mX8_value (l : Launch) (Γ : zG) (z : Nat) (s0 : Nat) (x1 : Nat) (μ : zM) (Q : Int32 → zM → Prop) (hp : pX8_value z s0 x1 μ Q) : Met l yX8_value (ws_ yX8_value cX8_value 2 (some .int)) ({ frames := 0, cells := 0, slots := 0, locals := 0 } : Room) (va_Pc [.ref s0, .ref x1] (zPre Γ (cSh z) μ)) (va_Qi Q (zPost Γ (cSh z) μ) (zA μ)) 0 0 (zA μ) := by
  refine zstart (by decide) (Nat.le_of_ble_eq_true rfl) ?_
  intro p e s m below meth c ls X hnm hB hl
  have X : zCx p m c cX8_value 2 s [.ref s0, .ref x1].toArray RX8 meth (some .int) := X
  have S := X.1
  obtain ⟨hx, hb, hml, hown, hts⟩ := X.1
  have hl : lv_has ls 2 [(0, .ref s0), (1, .ref x1)] := hl
  obtain ⟨ht_s0, hp⟩ := hp
  refine lv_aload_n hx hb dX8_value_0 rfl (lv_at hl 0 rfl) ?_
  refine g_get S hB (hB.ty ht_s0 rfl) rfl (T := TX8) (N := 1) (C := RX8) rfl in_X8 0 (by decide) (by decide) q703 (fun _ h9 => h9) (v := .int (zI μ s0 0)) rfl dX8_value_1 ?_
  exact zret_i X hB hp dX8_value_4
def pX9_value_57 (A : Nat → Nat → Nat → zM → (Int32 → zM → Prop) → Prop) (z : Nat) (s0 : Nat) (Q : Int32 → zM → Prop) (y1 : Int64) (μ : zM) : Prop := Q ((if (if y1 < (1000000 : Int64) then y1 else (1000000 : Int64)) < (-1000000 : Int64) then (-1000000 : Int64) else (if y1 < (1000000 : Int64) then y1 else (1000000 : Int64))).toInt32) μ
set_option maxHeartbeats 4000000 in
set_option maxRecDepth 100000 in
theorem wX9_value_57 {p : Program} {l : Launch} {e : Env} {s : State} {m : MethodId} {args : Array Value} {below : List Frame} {meth : Method} {c : Code} {Γ : zG} {μ0 : zM} {Q : Int32 → zM → Prop} (X : zCx p m c cX9_value 8 s args RX9 meth (some .int)) (A : Nat → Nat → Nat → zM → (Int32 → zM → Prop) → Prop) (fa la : Nat) (hA : zSumOK A fa la) {s0 : Nat} (ht_s0 : zty μ0 s0 = some (.inl 8)) (z : Nat) : ∀ (y1 : Int64) (μ : zM) (H : Heap) (locs : List Loc) (ls : Array Slot), pX9_value_57 A z s0 Q y1 μ → zB Γ (cSh z) (zA μ0) μ0 s μ H locs → lv_has ls 8 [] → W p l e ({ frames := fa + 1, cells := 0, slots := 0, locals := la + 27 } : Room) s m args below meth c H locs 0 0 (MQ below (va_Qi Q (zPost Γ (cSh z) μ0) (zA μ0)) args s 0 0 (zA μ0)) (F0 m 57 ls [.long y1]) := by
  have S := X.1
  obtain ⟨hx, hb, hml, hown, hts⟩ := X.1
  intro y1 μ H locs ls hp hB hl
  unfold pX9_value_57 at hp
  refine lv_lstore (lv' := [(6, .long y1)]) hx hb dX9_value_57 hl (by decide) rfl (fun ls hl => ?_)
  refine lv_ldc2 (v := (-1000000 : Int64)) hx hb hown (hts _ q810) dX9_value_59 ?_
  refine lv_ldc2 (v := (1000000 : Int64)) hx hb hown (hts _ q811) dX9_value_62 ?_
  refine lv_lload hx hb dX9_value_65 (lv_at hl 0 rfl) ?_
  refine va_mmin_long hx hb (hml.trans hl.1.symm) hown (hts _ q812) (hts _ q813) (hts _ q136) (hts _ q814) (by dsimp only; omega) (by simp only [List.map_cons, List.map_nil, List.sum_cons, List.sum_nil, Value.category]; omega) (Nat.le_refl _) (Nat.le_refl _) dX9_value_67 ?_
  refine va_mmax_long hx hb (hml.trans hl.1.symm) hown (hts _ q815) (hts _ q816) (hts _ q136) (hts _ q817) (by dsimp only; omega) (by simp only [List.map_cons, List.map_nil, List.sum_cons, List.sum_nil, Value.category]; omega) (Nat.le_refl _) (Nat.le_refl _) dX9_value_70 ?_
  refine lv_l2i hx hb dX9_value_73 rfl ?_
  exact zret_i X hB hp dX9_value_74
def pX9_value_of (A : Nat → Nat → Nat → zM → (Int32 → zM → Prop) → Prop) (z : Nat) (s0 : Nat) (x1 : Nat) (μ : zM) (Q : Int32 → zM → Prop) : Prop := zty μ s0 = some (.inl 8) ∧ (zde (zR μ s0 0) fun b1 => (A z b1 x1 μ fun r2 μ3 => (zde (zR μ3 s0 1) fun b4 => (A z b4 x1 μ3 fun r5 μ6 => (if (zI μ6 s0 2) = (nI 43) then pX9_value_57 A z s0 Q ((r2.toInt64) + (r5.toInt64)) μ6 else (if (zI μ6 s0 2) = (nI 45) then pX9_value_57 A z s0 Q ((r2.toInt64) - (r5.toInt64)) μ6 else pX9_value_57 A z s0 Q ((r2.toInt64) * (r5.toInt64)) μ6))))))
theorem tX9_value_of {A : Nat → Nat → Nat → zM → (Int32 → zM → Prop) → Prop} {z : Nat} {s0 : Nat} {x1 : Nat} {μ : zM} {Q : Int32 → zM → Prop} (h : pX9_value_of A z s0 x1 μ Q) : zty μ s0 = some (.inl 8) := h.1
theorem hX9_value : yX9_value.cls = "SunkTower$Pair" ∧ yX9_value.cls ≠ "java/lang/invoke/MethodHandle" ∧ yX9_value.cls ≠ "java/lang/invoke/VarHandle" ∧ (parseMethodDescriptor yX9_value.desc).map (fun d => d.parameters.length) = some 1 := by decide +kernel
set_option maxHeartbeats 4000000 in
set_option maxRecDepth 100000 in
theorem mX9_value_of (A : Nat → Nat → Nat → zM → (Int32 → zM → Prop) → Prop) (fa la : Nat) (hA : zSumOK A fa la) (l : Launch) (Γ : zG) (z : Nat) (s0 : Nat) (x1 : Nat) (μ : zM) (Q : Int32 → zM → Prop) (hp : pX9_value_of A z s0 x1 μ Q) : Met l yX9_value (ws_ yX9_value cX9_value 8 (some .int)) ({ frames := fa + 1, cells := 0, slots := 0, locals := la + 27 } : Room) (va_Pc [.ref s0, .ref x1] (zPre Γ (cSh z) μ)) (va_Qi Q (zPost Γ (cSh z) μ) (zA μ)) 0 0 (zA μ) := by
  refine zstart (by decide) (Nat.le_of_ble_eq_true rfl) ?_
  intro p e s m below meth c ls X hnm hB hl
  have X : zCx p m c cX9_value 8 s [.ref s0, .ref x1].toArray RX9 meth (some .int) := X
  have S := X.1
  obtain ⟨hx, hb, hml, hown, hts⟩ := X.1
  have hl : lv_has ls 8 [(0, .ref s0), (1, .ref x1)] := hl
  obtain ⟨ht_s0, hp⟩ := hp
  refine lv_aload_n hx hb dX9_value_0 rfl (lv_at hl 0 rfl) ?_
  refine g_get S hB (hB.ty ht_s0 rfl) rfl (T := TX9) (N := 3) (C := RX9) rfl in_X9 0 (by decide) (by decide) q717 (fun _ h9 => h9) (v := va_rf (zR μ s0 0)) rfl dX9_value_1 ?_
  refine lv_aload_n hx hb dX9_value_4 rfl (lv_at hl 1 rfl) ?_
  obtain ⟨b1, eb, hp⟩ := hp
  refine W.eq (g2 := F0 m 5 ls [.ref x1, .ref b1]) (by rw [eb]; rfl) ?_
  refine z_calli (hA _ _ _ _ _ _ _ _ _ _ _ _ _ _ _ _ _ Γ z _ _ _ _ _ _ _ _ [] _ hp S hB q807 (by dsimp only; omega) (by dsimp only; omega) hl.1 (Nat.le_of_ble_eq_true rfl) (Nat.le_refl _) (Nat.le_refl _) dX9_value_5) hB (fun r2 μ3 H locs hp hB => ?_)
  refine lv_i2l hx hb dX9_value_8 rfl ?_
  refine lv_lstore_n (lv' := [(2, .long (r2.toInt64)), (0, .ref s0), (1, .ref x1)]) hx hb dX9_value_9 rfl hl (by decide) rfl (fun ls hl => ?_)
  refine lv_aload_n hx hb dX9_value_10 rfl (lv_at hl 1 rfl) ?_
  refine g_get S hB (hB.ty ht_s0 rfl) rfl (T := TX9) (N := 3) (C := RX9) rfl in_X9 1 (by decide) (by decide) q718 (fun _ h9 => h9) (v := va_rf (zR μ3 s0 1)) rfl dX9_value_11 ?_
  refine lv_aload_n hx hb dX9_value_14 rfl (lv_at hl 2 rfl) ?_
  obtain ⟨b4, eb, hp⟩ := hp
  refine W.eq (g2 := F0 m 15 ls [.ref x1, .ref b4]) (by rw [eb]; rfl) ?_
  refine z_calli (hA _ _ _ _ _ _ _ _ _ _ _ _ _ _ _ _ _ Γ z _ _ _ _ _ _ _ _ [] _ hp S hB q807 (by dsimp only; omega) (by dsimp only; omega) hl.1 (Nat.le_of_ble_eq_true rfl) (Nat.le_refl _) (Nat.le_refl _) dX9_value_15) hB (fun r5 μ6 H locs hp hB => ?_)
  refine lv_i2l hx hb dX9_value_18 rfl ?_
  refine lv_lstore (lv' := [(4, .long (r5.toInt64)), (2, .long (r2.toInt64)), (0, .ref s0), (1, .ref x1)]) hx hb dX9_value_19 hl (by decide) rfl (fun ls hl => ?_)
  refine lv_aload_n hx hb dX9_value_21 rfl (lv_at hl 2 rfl) ?_
  refine g_get S hB (hB.ty ht_s0 rfl) rfl (T := TX9) (N := 3) (C := RX9) rfl in_X9 2 (by decide) (by decide) q719 (fun _ h9 => h9) (v := .int (zI μ6 s0 2)) rfl dX9_value_22 ?_
  refine lv_bipush (v := (nI 43)) hx hb dX9_value_25 rfl ?_
  refine lv_icmp_ne (tgt := 37) hx hb dX9_value_27 rfl (fun c0 => ?_) (fun c0 => ?_)
  · have hp := zif hp c0
    refine lv_aload_n hx hb dX9_value_37 rfl (lv_at hl 2 rfl) ?_
    refine g_get S hB (hB.ty ht_s0 rfl) rfl (T := TX9) (N := 3) (C := RX9) rfl in_X9 2 (by decide) (by decide) q719 (fun _ h9 => h9) (v := .int (zI μ6 s0 2)) rfl dX9_value_38 ?_
    refine lv_bipush (v := (nI 45)) hx hb dX9_value_41 rfl ?_
    refine lv_icmp_ne (tgt := 53) hx hb dX9_value_43 rfl (fun c0 => ?_) (fun c0 => ?_)
    · have hp := zif hp c0
      refine lv_lload_n hx hb dX9_value_53 rfl (lv_at hl 1 rfl) ?_
      refine lv_lload hx hb dX9_value_54 (lv_at hl 0 rfl) ?_
      refine lv_lmul hx hb dX9_value_56 ?_
      exact wX9_value_57 X A fa la hA ht_s0 z ((r2.toInt64) * (r5.toInt64)) μ6 _ _ _ hp hB (lv_sub hl [] rfl)
    · have hp := zit hp c0
      refine lv_lload_n hx hb dX9_value_46 rfl (lv_at hl 1 rfl) ?_
      refine lv_lload hx hb dX9_value_47 (lv_at hl 0 rfl) ?_
      refine lv_lsub hx hb dX9_value_49 ?_
      refine lv_goto (tgt := 57) hx hb dX9_value_50 rfl ?_
      exact wX9_value_57 X A fa la hA ht_s0 z ((r2.toInt64) - (r5.toInt64)) μ6 _ _ _ hp hB (lv_sub hl [] rfl)
  · have hp := zit hp c0
    refine lv_lload_n hx hb dX9_value_30 rfl (lv_at hl 1 rfl) ?_
    refine lv_lload hx hb dX9_value_31 (lv_at hl 0 rfl) ?_
    refine lv_ladd hx hb dX9_value_33 ?_
    refine lv_goto (tgt := 57) hx hb dX9_value_34 rfl ?_
    exact wX9_value_57 X A fa la hA ht_s0 z ((r2.toInt64) + (r5.toInt64)) μ6 _ _ _ hp hB (lv_sub hl [] rfl)
def pX6_value : Nat → Nat → Nat → Nat → zM → (Int32 → zM → Prop) → Prop
  | 0 => fun _ _ _ _ _ => False
  | d + 1 => fun z s0 x1 μ Q => (zty μ s0 = some (.inl 6) ∧ pX7_value z s0 x1 μ Q) ∨ (zty μ s0 = some (.inl 7) ∧ pX8_value z s0 x1 μ Q) ∨ (zty μ s0 = some (.inl 8) ∧ pX9_value_of (pX6_value d) z s0 x1 μ Q)
set_option maxHeartbeats 4000000 in
theorem zSum_step (F : Nat → Nat → Nat → zM → (Int32 → zM → Prop) → Prop) (fa la : Nat) (hA : zSumOK F fa la) : zSumOK (fun z s0 x1 μ Q => (zty μ s0 = some (.inl 6) ∧ pX7_value z s0 x1 μ Q) ∨ (zty μ s0 = some (.inl 7) ∧ pX8_value z s0 x1 μ Q) ∨ (zty μ s0 = some (.inl 8) ∧ pX9_value_of F z s0 x1 μ Q)) (fa + 1) (la + 27) := by
  intro p l e R s m args below meth c H locs cells slots cc nL own Γ z A0 μ0 μ b x1 index pc ls rest Qc hq S hB hl hf hlo hsz hst hc hs hdg
  rcases hq with hq | hq | hq
  · have ht : zty μ b = some (.inl 6) := hq.1
    exact va_runU (As := [.ref x1]) (rest := rest) S (mX7_value l Γ z b x1 μ Qc hq.2) (va_cwA (owner := "SunkTower$Sum") 1 S.2.2.2.2 (lw_app (by
      intro w hw
      simp only [List.mem_cons, List.not_mem_nil, or_false] at hw
      rcases hw with e | e | e | e | e
      · rw [e]; exact hl
      · rw [e]; exact q800
      · rw [e]; exact q801
      · rw [e]; exact q802
      · rw [e]; exact q141) (lw_meth q803)) rfl rfl rfl (hB.1.2.2.2.2.1 _ (List.mem_of_getElem? (i := 9) rfl)) (by decide +kernel) ⟨by show _ ≤ _; dsimp only; omega, by show _ ≤ _; dsimp only; omega⟩) (hB.preV ht rfl rfl) rfl rfl hsz rfl (by show 2 * 0 + _ ≤ 8; omega) hdg ⟨hc, hs⟩
  · have ht : zty μ b = some (.inl 7) := hq.1
    exact va_runU (As := [.ref x1]) (rest := rest) S (mX8_value l Γ z b x1 μ Qc hq.2) (va_cwA (owner := "SunkTower$Sum") 1 S.2.2.2.2 (lw_app (by
      intro w hw
      simp only [List.mem_cons, List.not_mem_nil, or_false] at hw
      rcases hw with e | e | e | e | e
      · rw [e]; exact hl
      · rw [e]; exact q800
      · rw [e]; exact q818
      · rw [e]; exact q808
      · rw [e]; exact q142) (lw_meth q809)) rfl rfl rfl (hB.1.2.2.2.2.1 _ (List.mem_of_getElem? (i := 9) rfl)) (by decide +kernel) ⟨by show _ ≤ _; dsimp only; omega, by show _ ≤ _; dsimp only; omega⟩) (hB.preV ht rfl rfl) rfl rfl hsz rfl (by show 2 * 0 + _ ≤ 8; omega) hdg ⟨hc, hs⟩
  · have ht : zty μ b = some (.inl 8) := hq.1
    exact va_runU (As := [.ref x1]) (rest := rest) S (mX9_value_of F fa la hA l Γ z b x1 μ Qc hq.2) (va_cwA (owner := "SunkTower$Sum") 1 S.2.2.2.2 (lw_app (by
      intro w hw
      simp only [List.mem_cons, List.not_mem_nil, or_false] at hw
      rcases hw with e | e | e | e | e
      · rw [e]; exact hl
      · rw [e]; exact q800
      · rw [e]; exact q804
      · rw [e]; exact q805
      · rw [e]; exact q143) (lw_meth q806)) rfl rfl rfl (hB.1.2.2.2.2.1 _ (List.mem_of_getElem? (i := 9) rfl)) (by decide +kernel) ⟨by show _ ≤ _; dsimp only; omega, by show _ ≤ _; dsimp only; omega⟩) (hB.preV ht rfl rfl) rfl rfl hsz rfl (by show 2 * 0 + _ ≤ 8; omega) hdg ⟨hc, hs⟩
theorem zSum_all : ∀ d : Nat, zSumOK (pX6_value d) (1 * d) (27 * d) := by
  intro d
  induction d with
  | zero => intro p l e R s m args below meth c H locs cells slots cc nL own Γ z A0 μ0 μ b x1 index pc ls rest Qc hq; exact hq.elim
  | succ d ih => exact zSum_step _ _ _ ih
def pX0_feed (z : Nat) (x1 : Int32) (x2 : Int32) (x3 : Int32) (x4 : Int32) (x5 : Int32) (μ : zM) (Q : Int32 → zM → Prop) : Prop := (if ((zI μ z 4) + (nI 20)) ≤ (nI 900) then (pX0_bytes z x1 μ fun μ1 => (pX0_bytes z x2 μ1 fun μ2 => (pX0_bytes z x3 μ2 fun μ3 => (pX0_bytes z x4 μ3 fun μ4 => (pX0_bytes z x5 μ4 fun μ5 => Q (zI μ5 z 4) μ5))))) else Q (-5 : Int32) μ)
theorem hX0_feed : yX0_feed.cls = "SunkTower" ∧ yX0_feed.cls ≠ "java/lang/invoke/MethodHandle" ∧ yX0_feed.cls ≠ "java/lang/invoke/VarHandle" ∧ (parseMethodDescriptor yX0_feed.desc).map (fun d => d.parameters.length) = some 5 := by decide +kernel
set_option maxHeartbeats 4000000 in
set_option maxRecDepth 100000 in
theorem mX0_feed (l : Launch) (Γ : zG) (z : Nat) (x1 : Int32) (x2 : Int32) (x3 : Int32) (x4 : Int32) (x5 : Int32) (μ : zM) (Q : Int32 → zM → Prop) (hp : pX0_feed z x1 x2 x3 x4 x5 μ Q) : Met l yX0_feed (ws_ yX0_feed cX0_feed 6 (some .int)) ({ frames := 1, cells := 0, slots := 0, locals := 22 } : Room) (va_Pc [.ref z, .int x1, .int x2, .int x3, .int x4, .int x5] (zPre Γ (cSh z) μ)) (va_Qi Q (zPost Γ (cSh z) μ) (zA μ)) 0 0 (zA μ) := by
  refine zstart (by decide) (Nat.le_of_ble_eq_true rfl) ?_
  intro p e s m below meth c ls X hnm hB hl
  have X : zCx p m c cX0_feed 6 s [.ref z, .int x1, .int x2, .int x3, .int x4, .int x5].toArray RX0 meth (some .int) := X
  have S := X.1
  obtain ⟨hx, hb, hml, hown, hts⟩ := X.1
  have hl : lv_has ls 6 [(0, .ref z), (1, .int x1), (2, .int x2), (3, .int x3), (4, .int x4), (5, .int x5)] := hl
  unfold pX0_feed at hp
  refine lv_aload_n hx hb dX0_feed_0 rfl (lv_at hl 0 rfl) ?_
  refine g_get S hB (cT hB) rfl (T := TX0) (N := 33) (C := RX0) rfl in_X0 4 (by decide) (by decide) q309 (fun _ h9 => h9) (v := .int (zI μ z 4)) rfl dX0_feed_1 ?_
  refine lv_bipush (v := (nI 20)) hx hb dX0_feed_4 rfl ?_
  refine lv_iadd hx hb dX0_feed_6 ?_
  refine lv_sipush (v := (nI 900)) hx hb dX0_feed_7 rfl ?_
  refine lv_icmp_le (tgt := 16) hx hb dX0_feed_10 rfl (fun c0 => ?_) (fun c0 => ?_)
  · have hp := zit hp c0
    refine lv_aload_n hx hb dX0_feed_16 rfl (lv_at hl 0 rfl) ?_
    refine lv_iload_n hx hb dX0_feed_17 rfl (lv_at hl 1 rfl) ?_
    refine z_callv (va_runV (As := [.int x1]) (rest := []) S (mX0_bytes l Γ z x1 μ _ hp) (cwV 1 hts (lw_V q410 q412 qs0 q127 q413) rfl rfl rfl hX0_bytes ⟨Nat.le_of_ble_eq_true rfl, Nat.le_of_ble_eq_true rfl⟩) (hB.preV (cT hB) rfl rfl) rfl rfl hl.1 rfl (lv_room (Nat.le_of_ble_eq_true rfl)) dX0_feed_18 ⟨Nat.le_refl _, Nat.le_refl _⟩) hB (fun μ1 H locs hp hB => ?_)
    refine lv_aload_n hx hb dX0_feed_21 rfl (lv_at hl 0 rfl) ?_
    refine lv_iload_n hx hb dX0_feed_22 rfl (lv_at hl 2 rfl) ?_
    refine z_callv (va_runV (As := [.int x2]) (rest := []) S (mX0_bytes l Γ z x2 μ1 _ hp) (cwV 1 hts (lw_V q410 q412 qs0 q127 q413) rfl rfl rfl hX0_bytes ⟨Nat.le_of_ble_eq_true rfl, Nat.le_of_ble_eq_true rfl⟩) (hB.preV (cT hB) rfl rfl) rfl rfl hl.1 rfl (lv_room (Nat.le_of_ble_eq_true rfl)) dX0_feed_23 ⟨Nat.le_refl _, Nat.le_refl _⟩) hB (fun μ2 H locs hp hB => ?_)
    refine lv_aload_n hx hb dX0_feed_26 rfl (lv_at hl 0 rfl) ?_
    refine lv_iload_n hx hb dX0_feed_27 rfl (lv_at hl 3 rfl) ?_
    refine z_callv (va_runV (As := [.int x3]) (rest := []) S (mX0_bytes l Γ z x3 μ2 _ hp) (cwV 1 hts (lw_V q410 q412 qs0 q127 q413) rfl rfl rfl hX0_bytes ⟨Nat.le_of_ble_eq_true rfl, Nat.le_of_ble_eq_true rfl⟩) (hB.preV (cT hB) rfl rfl) rfl rfl hl.1 rfl (lv_room (Nat.le_of_ble_eq_true rfl)) dX0_feed_28 ⟨Nat.le_refl _, Nat.le_refl _⟩) hB (fun μ3 H locs hp hB => ?_)
    refine lv_aload_n hx hb dX0_feed_31 rfl (lv_at hl 0 rfl) ?_
    refine lv_iload hx hb dX0_feed_32 (lv_at hl 4 rfl) ?_
    refine z_callv (va_runV (As := [.int x4]) (rest := []) S (mX0_bytes l Γ z x4 μ3 _ hp) (cwV 1 hts (lw_V q410 q412 qs0 q127 q413) rfl rfl rfl hX0_bytes ⟨Nat.le_of_ble_eq_true rfl, Nat.le_of_ble_eq_true rfl⟩) (hB.preV (cT hB) rfl rfl) rfl rfl hl.1 rfl (lv_room (Nat.le_of_ble_eq_true rfl)) dX0_feed_34 ⟨Nat.le_refl _, Nat.le_refl _⟩) hB (fun μ4 H locs hp hB => ?_)
    refine lv_aload_n hx hb dX0_feed_37 rfl (lv_at hl 0 rfl) ?_
    refine lv_iload hx hb dX0_feed_38 (lv_at hl 5 rfl) ?_
    refine z_callv (va_runV (As := [.int x5]) (rest := []) S (mX0_bytes l Γ z x5 μ4 _ hp) (cwV 1 hts (lw_V q410 q412 qs0 q127 q413) rfl rfl rfl hX0_bytes ⟨Nat.le_of_ble_eq_true rfl, Nat.le_of_ble_eq_true rfl⟩) (hB.preV (cT hB) rfl rfl) rfl rfl hl.1 rfl (lv_room (Nat.le_of_ble_eq_true rfl)) dX0_feed_40 ⟨Nat.le_refl _, Nat.le_refl _⟩) hB (fun μ5 H locs hp hB => ?_)
    refine lv_aload_n hx hb dX0_feed_43 rfl (lv_at hl 0 rfl) ?_
    refine g_get S hB (cT hB) rfl (T := TX0) (N := 33) (C := RX0) rfl in_X0 4 (by decide) (by decide) q309 (fun _ h9 => h9) (v := .int (zI μ5 z 4)) rfl dX0_feed_44 ?_
    exact zret_i X hB hp dX0_feed_47
  · have hp := zif hp c0
    refine lv_bipush (v := (-5 : Int32)) hx hb dX0_feed_13 rfl ?_
    exact zret_i X hB hp dX0_feed_15
def pX0_storey (z : Nat) (x1 : Int32) (x2 : Int32) (μ : zM) (Q : Int32 → zM → Prop) : Prop := (pX0_isStorey z x1 μ fun r2 μ1 => (if r2 = 0 then Q (-2 : Int32) μ1 else (pX0_in z (x2.toInt64) (0 : Int64) (2 : Int64) μ1 fun r4 μ3 => (if r4 = 0 then Q (-2 : Int32) μ3 else (if x2 = 0 then (vp_in x1 8 ∧ Q (zI μ3 ((z + 7) + 3) x1.toNatClampNeg) μ3) else (if x2 = (nI 1) then (pX2_who z (z + 7) x1 μ3 fun r10 μ9 => Q r10 μ9) else (pX2_isBuried z (z + 7) x1 μ3 fun r6 μ5 => (pX0_one z r6 μ5 fun r8 μ7 => Q r8 μ7))))))))
theorem hX0_storey : yX0_storey.cls = "SunkTower" ∧ yX0_storey.cls ≠ "java/lang/invoke/MethodHandle" ∧ yX0_storey.cls ≠ "java/lang/invoke/VarHandle" ∧ (parseMethodDescriptor yX0_storey.desc).map (fun d => d.parameters.length) = some 2 := by decide +kernel
set_option maxHeartbeats 4000000 in
set_option maxRecDepth 100000 in
theorem mX0_storey (l : Launch) (Γ : zG) (z : Nat) (x1 : Int32) (x2 : Int32) (μ : zM) (Q : Int32 → zM → Prop) (hp : pX0_storey z x1 x2 μ Q) : Met l yX0_storey (ws_ yX0_storey cX0_storey 3 (some .int)) ({ frames := 2, cells := 0, slots := 0, locals := 46 } : Room) (va_Pc [.ref z, .int x1, .int x2] (zPre Γ (cSh z) μ)) (va_Qi Q (zPost Γ (cSh z) μ) (zA μ)) 0 0 (zA μ) := by
  refine zstart (by decide) (Nat.le_of_ble_eq_true rfl) ?_
  intro p e s m below meth c ls X hnm hB hl
  have X : zCx p m c cX0_storey 3 s [.ref z, .int x1, .int x2].toArray RX0 meth (some .int) := X
  have S := X.1
  obtain ⟨hx, hb, hml, hown, hts⟩ := X.1
  have hl : lv_has ls 3 [(0, .ref z), (1, .int x1), (2, .int x2)] := hl
  unfold pX0_storey at hp
  refine lv_aload_n hx hb dX0_storey_0 rfl (lv_at hl 0 rfl) ?_
  refine lv_iload_n hx hb dX0_storey_1 rfl (lv_at hl 1 rfl) ?_
  refine z_calli (va_runV (As := [.int x1]) (rest := []) S (mX0_isStorey l Γ z x1 μ _ hp) (cwV 1 hts (lw_V q748 q750 qs26 q127 q751) rfl rfl rfl hX0_isStorey ⟨Nat.le_of_ble_eq_true rfl, Nat.le_of_ble_eq_true rfl⟩) (hB.preV (cT hB) rfl rfl) rfl rfl hl.1 rfl (lv_room (Nat.le_of_ble_eq_true rfl)) dX0_storey_2 ⟨Nat.le_refl _, Nat.le_refl _⟩) hB (fun r2 μ1 H locs hp hB => ?_)
  refine lv_if_eq (tgt := 20) hx hb dX0_storey_5 rfl (fun c0 => ?_) (fun c0 => ?_)
  · have hp := zit hp c0
    refine lv_bipush (v := (-2 : Int32)) hx hb dX0_storey_20 rfl ?_
    exact zret_i X hB hp dX0_storey_22
  · have hp := zif hp c0
    refine lv_iload_n hx hb dX0_storey_8 rfl (lv_at hl 2 rfl) ?_
    refine lv_i2l hx hb dX0_storey_9 rfl ?_
    refine lv_lconst (v := (0 : Int64)) hx hb dX0_storey_10 rfl ?_
    refine lv_ldc2 (v := (2 : Int64)) hx hb hown (hts _ q752) dX0_storey_11 ?_
    refine z_calli (va_runS (As := [.long (x2.toInt64), .long (0 : Int64), .long (2 : Int64)]) (rest := []) S (mX0_in l Γ z (x2.toInt64) (0 : Int64) (2 : Int64) μ1 _ hp) (va_cwS 3 hts (lw_S q418 q419 q127 q420) rfl rfl rfl hX0_in ⟨Nat.le_of_ble_eq_true rfl, Nat.le_of_ble_eq_true rfl⟩) hB.preS rfl rfl hl.1 rfl (lv_room (Nat.le_of_ble_eq_true rfl)) dX0_storey_14 ⟨Nat.le_refl _, Nat.le_refl _⟩) hB (fun r4 μ3 H locs hp hB => ?_)
    refine lv_if_ne (tgt := 23) hx hb dX0_storey_17 rfl (fun c0 => ?_) (fun c0 => ?_)
    · have hp := zif hp c0
      refine lv_iload_n hx hb dX0_storey_23 rfl (lv_at hl 2 rfl) ?_
      refine lv_if_ne (tgt := 39) hx hb dX0_storey_24 rfl (fun c0 => ?_) (fun c0 => ?_)
      · have hp := zif hp c0
        refine lv_iload_n hx hb dX0_storey_39 rfl (lv_at hl 2 rfl) ?_
        refine lv_iconst (v := (nI 1)) hx hb dX0_storey_40 rfl ?_
        refine lv_icmp_ne (tgt := 55) hx hb dX0_storey_41 rfl (fun c0 => ?_) (fun c0 => ?_)
        · have hp := zif hp c0
          refine lv_aload_n hx hb dX0_storey_55 rfl (lv_at hl 0 rfl) ?_
          refine g_getr S hB (cT hB) rfl (T := TX0) (N := 33) (C := RX0) rfl in_X0 1 (by decide) (by decide) q305 (fun _ h9 => h9) (fun _ => rfl) (cA hB 0 rfl).1 dX0_storey_56 ?_
          refine lv_iload_n hx hb dX0_storey_59 rfl (lv_at hl 1 rfl) ?_
          refine z_calli (va_runV (As := [.int x1]) (rest := []) S (mX2_isBuried l Γ z (z + 7) x1 μ3 _ hp) (cwV 1 hts (lw_V q757 q758 q759 q129 q760) rfl rfl rfl hX2_isBuried ⟨Nat.le_of_ble_eq_true rfl, Nat.le_of_ble_eq_true rfl⟩) (hB.preV (tX2_isBuried hp) rfl rfl) rfl rfl hl.1 rfl (lv_room (Nat.le_of_ble_eq_true rfl)) dX0_storey_60 ⟨Nat.le_refl _, Nat.le_refl _⟩) hB (fun r6 μ5 H locs hp hB => ?_)
          refine z_calli (va_runS (As := [.int r6]) (rest := []) S (mX0_one l Γ z r6 μ5 _ hp) (va_cwS 1 hts (lw_S q761 q762 q127 q763) rfl rfl rfl hX0_one ⟨Nat.le_of_ble_eq_true rfl, Nat.le_of_ble_eq_true rfl⟩) hB.preS rfl rfl hl.1 rfl (lv_room (Nat.le_of_ble_eq_true rfl)) dX0_storey_63 ⟨Nat.le_refl _, Nat.le_refl _⟩) hB (fun r8 μ7 H locs hp hB => ?_)
          exact zret_i X hB hp dX0_storey_66
        · have hp := zit hp c0
          refine lv_aload_n hx hb dX0_storey_44 rfl (lv_at hl 0 rfl) ?_
          refine g_getr S hB (cT hB) rfl (T := TX0) (N := 33) (C := RX0) rfl in_X0 1 (by decide) (by decide) q305 (fun _ h9 => h9) (fun _ => rfl) (cA hB 0 rfl).1 dX0_storey_45 ?_
          refine lv_iload_n hx hb dX0_storey_48 rfl (lv_at hl 1 rfl) ?_
          refine z_calli (va_runV (As := [.int x1]) (rest := []) S (mX2_who l Γ z (z + 7) x1 μ3 _ hp) (cwV 1 hts (lw_V q753 q754 q755 q129 q756) rfl rfl rfl hX2_who ⟨Nat.le_of_ble_eq_true rfl, Nat.le_of_ble_eq_true rfl⟩) (hB.preV (tX2_who hp) rfl rfl) rfl rfl hl.1 rfl (lv_room (Nat.le_of_ble_eq_true rfl)) dX0_storey_49 ⟨Nat.le_refl _, Nat.le_refl _⟩) hB (fun r10 μ9 H locs hp hB => ?_)
          refine lv_goto (tgt := 66) hx hb dX0_storey_52 rfl ?_
          exact zret_i X hB hp dX0_storey_66
      · have hp := zit hp c0
        refine lv_aload_n hx hb dX0_storey_27 rfl (lv_at hl 0 rfl) ?_
        refine g_getr S hB (cT hB) rfl (T := TX0) (N := 33) (C := RX0) rfl in_X0 1 (by decide) (by decide) q305 (fun _ h9 => h9) (fun _ => rfl) (cA hB 0 rfl).1 dX0_storey_28 ?_
        refine g_getrN S hB (cA hB 0 rfl).2 rfl (T := TX2) (N := 8) (C := RX2) rfl in_X2 2 (by decide) (by decide) (zNFw hB 7 rfl) (fun _ h9 => h9) (fun _ => rfl) (cS2 hB (cA hB 0 rfl).2 2 rfl).1 dX0_storey_31 ?_
        refine lv_iload_n hx hb dX0_storey_34 rfl (lv_at hl 1 rfl) ?_
        obtain ⟨hi, hp⟩ := hp
        refine g_iald S hB (cS2 hB (cA hB 0 rfl).2 2 rfl).2 hi dX0_storey_35 ?_
        refine lv_goto (tgt := 66) hx hb dX0_storey_36 rfl ?_
        exact zret_i X hB hp dX0_storey_66
    · have hp := zit hp c0
      refine lv_bipush (v := (-2 : Int32)) hx hb dX0_storey_20 rfl ?_
      exact zret_i X hB hp dX0_storey_22
def pX0_tenant (z : Nat) (x1 : Int32) (x2 : Int32) (μ : zM) (Q : Int32 → zM → Prop) : Prop := (pX0_isTenant z x1 μ fun r2 μ1 => (if r2 = 0 then Q (-8 : Int32) μ1 else (pX0_in z (x2.toInt64) (0 : Int64) (2 : Int64) μ1 fun r4 μ3 => (if r4 = 0 then Q (-8 : Int32) μ3 else (if x2 = 0 then (vp_in x1 6 ∧ Q (zI μ3 ((z + 7) + 2) x1.toNatClampNeg) μ3) else (if x2 = (nI 1) then (zde (zR μ3 z 0) fun b5 => (zty μ3 b5 = some (.inl 1) ∧ (vp_in x1 6 ∧ Q (zI μ3 (b5 + 3) x1.toNatClampNeg) μ3))) else (vp_in x1 6 ∧ Q (zI μ3 ((z + 7) + 1) x1.toNatClampNeg) μ3)))))))
theorem hX0_tenant : yX0_tenant.cls = "SunkTower" ∧ yX0_tenant.cls ≠ "java/lang/invoke/MethodHandle" ∧ yX0_tenant.cls ≠ "java/lang/invoke/VarHandle" ∧ (parseMethodDescriptor yX0_tenant.desc).map (fun d => d.parameters.length) = some 2 := by decide +kernel
set_option maxHeartbeats 4000000 in
set_option maxRecDepth 100000 in
theorem mX0_tenant (l : Launch) (Γ : zG) (z : Nat) (x1 : Int32) (x2 : Int32) (μ : zM) (Q : Int32 → zM → Prop) (hp : pX0_tenant z x1 x2 μ Q) : Met l yX0_tenant (ws_ yX0_tenant cX0_tenant 3 (some .int)) ({ frames := 2, cells := 0, slots := 0, locals := 46 } : Room) (va_Pc [.ref z, .int x1, .int x2] (zPre Γ (cSh z) μ)) (va_Qi Q (zPost Γ (cSh z) μ) (zA μ)) 0 0 (zA μ) := by
  refine zstart (by decide) (Nat.le_of_ble_eq_true rfl) ?_
  intro p e s m below meth c ls X hnm hB hl
  have X : zCx p m c cX0_tenant 3 s [.ref z, .int x1, .int x2].toArray RX0 meth (some .int) := X
  have S := X.1
  obtain ⟨hx, hb, hml, hown, hts⟩ := X.1
  have hl : lv_has ls 3 [(0, .ref z), (1, .int x1), (2, .int x2)] := hl
  unfold pX0_tenant at hp
  refine lv_aload_n hx hb dX0_tenant_0 rfl (lv_at hl 0 rfl) ?_
  refine lv_iload_n hx hb dX0_tenant_1 rfl (lv_at hl 1 rfl) ?_
  refine z_calli (va_runV (As := [.int x1]) (rest := []) S (mX0_isTenant l Γ z x1 μ _ hp) (cwV 1 hts (lw_V q768 q770 qs27 q127 q771) rfl rfl rfl hX0_isTenant ⟨Nat.le_of_ble_eq_true rfl, Nat.le_of_ble_eq_true rfl⟩) (hB.preV (cT hB) rfl rfl) rfl rfl hl.1 rfl (lv_room (Nat.le_of_ble_eq_true rfl)) dX0_tenant_2 ⟨Nat.le_refl _, Nat.le_refl _⟩) hB (fun r2 μ1 H locs hp hB => ?_)
  refine lv_if_eq (tgt := 20) hx hb dX0_tenant_5 rfl (fun c0 => ?_) (fun c0 => ?_)
  · have hp := zit hp c0
    refine lv_bipush (v := (-8 : Int32)) hx hb dX0_tenant_20 rfl ?_
    exact zret_i X hB hp dX0_tenant_22
  · have hp := zif hp c0
    refine lv_iload_n hx hb dX0_tenant_8 rfl (lv_at hl 2 rfl) ?_
    refine lv_i2l hx hb dX0_tenant_9 rfl ?_
    refine lv_lconst (v := (0 : Int64)) hx hb dX0_tenant_10 rfl ?_
    refine lv_ldc2 (v := (2 : Int64)) hx hb hown (hts _ q752) dX0_tenant_11 ?_
    refine z_calli (va_runS (As := [.long (x2.toInt64), .long (0 : Int64), .long (2 : Int64)]) (rest := []) S (mX0_in l Γ z (x2.toInt64) (0 : Int64) (2 : Int64) μ1 _ hp) (va_cwS 3 hts (lw_S q418 q419 q127 q420) rfl rfl rfl hX0_in ⟨Nat.le_of_ble_eq_true rfl, Nat.le_of_ble_eq_true rfl⟩) hB.preS rfl rfl hl.1 rfl (lv_room (Nat.le_of_ble_eq_true rfl)) dX0_tenant_14 ⟨Nat.le_refl _, Nat.le_refl _⟩) hB (fun r4 μ3 H locs hp hB => ?_)
    refine lv_if_ne (tgt := 23) hx hb dX0_tenant_17 rfl (fun c0 => ?_) (fun c0 => ?_)
    · have hp := zif hp c0
      refine lv_iload_n hx hb dX0_tenant_23 rfl (lv_at hl 2 rfl) ?_
      refine lv_if_ne (tgt := 39) hx hb dX0_tenant_24 rfl (fun c0 => ?_) (fun c0 => ?_)
      · have hp := zif hp c0
        refine lv_iload_n hx hb dX0_tenant_39 rfl (lv_at hl 2 rfl) ?_
        refine lv_iconst (v := (nI 1)) hx hb dX0_tenant_40 rfl ?_
        refine lv_icmp_ne (tgt := 56) hx hb dX0_tenant_41 rfl (fun c0 => ?_) (fun c0 => ?_)
        · have hp := zif hp c0
          refine lv_aload_n hx hb dX0_tenant_56 rfl (lv_at hl 0 rfl) ?_
          refine g_getr S hB (cT hB) rfl (T := TX0) (N := 33) (C := RX0) rfl in_X0 1 (by decide) (by decide) q305 (fun _ h9 => h9) (fun _ => rfl) (cA hB 0 rfl).1 dX0_tenant_57 ?_
          refine g_getrN S hB (cA hB 0 rfl).2 rfl (T := TX2) (N := 8) (C := RX2) rfl in_X2 0 (by decide) (by decide) (zNFw hB 5 rfl) (fun _ h9 => h9) (fun _ => rfl) (cS2 hB (cA hB 0 rfl).2 0 rfl).1 dX0_tenant_60 ?_
          refine lv_iload_n hx hb dX0_tenant_63 rfl (lv_at hl 1 rfl) ?_
          obtain ⟨hi, hp⟩ := hp
          refine g_iald S hB (cS2 hB (cA hB 0 rfl).2 0 rfl).2 hi dX0_tenant_64 ?_
          exact zret_i X hB hp dX0_tenant_65
        · have hp := zit hp c0
          refine lv_aload_n hx hb dX0_tenant_44 rfl (lv_at hl 0 rfl) ?_
          refine g_get S hB (cT hB) rfl (T := TX0) (N := 33) (C := RX0) rfl in_X0 0 (by decide) (by decide) q304 (fun _ h9 => h9) (v := va_rf (zR μ3 z 0)) rfl dX0_tenant_45 ?_
          obtain ⟨b5, eb, hp⟩ := hp
          refine W.eq (g2 := F0 m 48 ls [.ref b5]) (by rw [eb]; rfl) ?_
          obtain ⟨ht6, hp⟩ := hp
          refine g_getrN S hB ht6 rfl (T := TX1) (N := 16) (C := RX1) rfl in_X1 2 (by decide) (by decide) (zNFw hB 0 rfl) (fun _ h9 => h9) (fun _ => rfl) (cS1 hB ht6 2 rfl).1 dX0_tenant_48 ?_
          refine lv_iload_n hx hb dX0_tenant_51 rfl (lv_at hl 1 rfl) ?_
          obtain ⟨hi, hp⟩ := hp
          refine g_iald S hB (cS1 hB ht6 2 rfl).2 hi dX0_tenant_52 ?_
          refine lv_goto (tgt := 65) hx hb dX0_tenant_53 rfl ?_
          exact zret_i X hB hp dX0_tenant_65
      · have hp := zit hp c0
        refine lv_aload_n hx hb dX0_tenant_27 rfl (lv_at hl 0 rfl) ?_
        refine g_getr S hB (cT hB) rfl (T := TX0) (N := 33) (C := RX0) rfl in_X0 1 (by decide) (by decide) q305 (fun _ h9 => h9) (fun _ => rfl) (cA hB 0 rfl).1 dX0_tenant_28 ?_
        refine g_getrN S hB (cA hB 0 rfl).2 rfl (T := TX2) (N := 8) (C := RX2) rfl in_X2 1 (by decide) (by decide) (zNFw hB 6 rfl) (fun _ h9 => h9) (fun _ => rfl) (cS2 hB (cA hB 0 rfl).2 1 rfl).1 dX0_tenant_31 ?_
        refine lv_iload_n hx hb dX0_tenant_34 rfl (lv_at hl 1 rfl) ?_
        obtain ⟨hi, hp⟩ := hp
        refine g_iald S hB (cS2 hB (cA hB 0 rfl).2 1 rfl).2 hi dX0_tenant_35 ?_
        refine lv_goto (tgt := 65) hx hb dX0_tenant_36 rfl ?_
        exact zret_i X hB hp dX0_tenant_65
    · have hp := zit hp c0
      refine lv_bipush (v := (-8 : Int32)) hx hb dX0_tenant_20 rfl ?_
      exact zret_i X hB hp dX0_tenant_22
def pX0_weight (z : Nat) (μ : zM) (Q : Int32 → zM → Prop) : Prop := (pX2_whole z (z + 7) μ fun r2 μ1 => Q r2 μ1)
theorem hX0_weight : yX0_weight.cls = "SunkTower" ∧ yX0_weight.cls ≠ "java/lang/invoke/MethodHandle" ∧ yX0_weight.cls ≠ "java/lang/invoke/VarHandle" ∧ (parseMethodDescriptor yX0_weight.desc).map (fun d => d.parameters.length) = some 0 := by decide +kernel
set_option maxHeartbeats 4000000 in
set_option maxRecDepth 100000 in
theorem mX0_weight (l : Launch) (Γ : zG) (z : Nat) (μ : zM) (Q : Int32 → zM → Prop) (hp : pX0_weight z μ Q) : Met l yX0_weight (ws_ yX0_weight cX0_weight 1 (some .int)) ({ frames := 1, cells := 0, slots := 0, locals := 22 } : Room) (va_Pc [.ref z] (zPre Γ (cSh z) μ)) (va_Qi Q (zPost Γ (cSh z) μ) (zA μ)) 0 0 (zA μ) := by
  refine zstart (by decide) (Nat.le_of_ble_eq_true rfl) ?_
  intro p e s m below meth c ls X hnm hB hl
  have X : zCx p m c cX0_weight 1 s [.ref z].toArray RX0 meth (some .int) := X
  have S := X.1
  obtain ⟨hx, hb, hml, hown, hts⟩ := X.1
  have hl : lv_has ls 1 [(0, .ref z)] := hl
  unfold pX0_weight at hp
  refine lv_aload_n hx hb dX0_weight_0 rfl (lv_at hl 0 rfl) ?_
  refine g_getr S hB (cT hB) rfl (T := TX0) (N := 33) (C := RX0) rfl in_X0 1 (by decide) (by decide) q305 (fun _ h9 => h9) (fun _ => rfl) (cA hB 0 rfl).1 dX0_weight_1 ?_
  refine z_calli (va_runV (As := []) (rest := []) S (mX2_whole l Γ z (z + 7) μ _ hp) (cwV 0 hts (lw_V q776 q777 q778 q129 q779) rfl rfl rfl hX2_whole ⟨Nat.le_of_ble_eq_true rfl, Nat.le_of_ble_eq_true rfl⟩) (hB.preV (tX2_whole hp) rfl rfl) rfl rfl hl.1 rfl (lv_room (Nat.le_of_ble_eq_true rfl)) dX0_weight_4 ⟨Nat.le_refl _, Nat.le_refl _⟩) hB (fun r2 μ1 H locs hp hB => ?_)
  exact zret_i X hB hp dX0_weight_7
def pX0_keeps (z : Nat) (μ : zM) (Q : zM → Prop) : Prop := (vp_in (zI μ z 9) 10 ∧ (zde (zR μ (z + 16) (zI μ z 9).toNatClampNeg) fun b1 => (pX2_be z b1 (z + 7) μ fun r3 μ2 => (zpI μ2 z 9 (((zI μ2 z 9) + (nI 1)) - ((zI μ2 z 9) + (nI 1)) / (nI 10) * (nI 10)) fun μ4 => (zpI μ4 z 8 (if ((zI μ4 z 8) + (nI 1)) < (nI 10) then ((zI μ4 z 8) + (nI 1)) else (nI 10)) fun μ5 => Q μ5)))))
theorem hX0_keeps : yX0_keeps.cls = "SunkTower" ∧ yX0_keeps.cls ≠ "java/lang/invoke/MethodHandle" ∧ yX0_keeps.cls ≠ "java/lang/invoke/VarHandle" ∧ (parseMethodDescriptor yX0_keeps.desc).map (fun d => d.parameters.length) = some 0 := by decide +kernel
set_option maxHeartbeats 4000000 in
set_option maxRecDepth 100000 in
theorem mX0_keeps (l : Launch) (Γ : zG) (z : Nat) (μ : zM) (Q : zM → Prop) (hp : pX0_keeps z μ Q) : Met l yX0_keeps (ws_ yX0_keeps cX0_keeps 1 none) ({ frames := 2, cells := 0, slots := 0, locals := 85 } : Room) (va_Pc [.ref z] (zPre Γ (cSh z) μ)) (va_Qv Q (zPost Γ (cSh z) μ) (zA μ)) 0 0 (zA μ) := by
  refine zstart (by decide) (Nat.le_of_ble_eq_true rfl) ?_
  intro p e s m below meth c ls X hnm hB hl
  have X : zCx p m c cX0_keeps 1 s [.ref z].toArray RX0 meth none := X
  have S := X.1
  obtain ⟨hx, hb, hml, hown, hts⟩ := X.1
  have hl : lv_has ls 1 [(0, .ref z)] := hl
  unfold pX0_keeps at hp
  refine lv_aload_n hx hb dX0_keeps_0 rfl (lv_at hl 0 rfl) ?_
  refine g_getr S hB (cT hB) rfl (T := TX0) (N := 33) (C := RX0) rfl in_X0 7 (by decide) (by decide) q312 (fun _ h9 => h9) (fun _ => rfl) (cA hB 3 rfl).1 dX0_keeps_1 ?_
  refine lv_aload_n hx hb dX0_keeps_4 rfl (lv_at hl 0 rfl) ?_
  refine g_get S hB (cT hB) rfl (T := TX0) (N := 33) (C := RX0) rfl in_X0 9 (by decide) (by decide) q314 (fun _ h9 => h9) (v := .int (zI μ z 9)) rfl dX0_keeps_5 ?_
  obtain ⟨hi, hp⟩ := hp
  refine g_aald S hB (t0 := 5) (cA hB 3 rfl).2 rfl rfl hi dX0_keeps_8 ?_
  obtain ⟨b1, eb, hp⟩ := hp
  refine W.eq (g2 := F0 m 9 ls [.ref b1]) (by rw [eb]; rfl) ?_
  refine lv_aload_n hx hb dX0_keeps_9 rfl (lv_at hl 0 rfl) ?_
  refine g_getr S hB (cT hB) rfl (T := TX0) (N := 33) (C := RX0) rfl in_X0 1 (by decide) (by decide) q305 (fun _ h9 => h9) (fun _ => rfl) (cA hB 0 rfl).1 dX0_keeps_10 ?_
  refine z_callq (va_runV (As := [.ref (z + 7)]) (rest := []) S (mX2_be l Γ z b1 (z + 7) μ _ hp) (cwV 1 hts (lw_V q862 q863 q864 q129 q865) rfl rfl rfl hX2_be ⟨Nat.le_of_ble_eq_true rfl, Nat.le_of_ble_eq_true rfl⟩) (hB.preV (tX2_be hp) rfl rfl) rfl rfl hl.1 rfl (lv_room (Nat.le_of_ble_eq_true rfl)) dX0_keeps_13 ⟨Nat.le_refl _, Nat.le_refl _⟩) hB (fun r3 μ2 H locs hp hB => ?_)
  refine lv_pop hx hb dX0_keeps_16 (va_rf_c _) ?_
  refine lv_aload_n hx hb dX0_keeps_17 rfl (lv_at hl 0 rfl) ?_
  refine lv_aload_n hx hb dX0_keeps_18 rfl (lv_at hl 0 rfl) ?_
  refine g_get S hB (cT hB) rfl (T := TX0) (N := 33) (C := RX0) rfl in_X0 9 (by decide) (by decide) q314 (fun _ h9 => h9) (v := .int (zI μ2 z 9)) rfl dX0_keeps_19 ?_
  refine lv_iconst (v := (nI 1)) hx hb dX0_keeps_22 rfl ?_
  refine lv_iadd hx hb dX0_keeps_23 ?_
  refine lv_bipush (v := (nI 10)) hx hb dX0_keeps_24 rfl ?_
  refine lv_irem hx hb dX0_keeps_26 (by decide) ?_
  obtain ⟨μ4, eμ4, hp⟩ := zpI_e hp
  refine g_putI S hB (cT hB) rfl (T := TX0) (N := 33) (C := RX0) rfl in_X0 9 (by decide) (by decide) (x := (((zI μ2 z 9) + (nI 1)) - ((zI μ2 z 9) + (nI 1)) / (nI 10) * (nI 10))) tyX0 tyX0_ok nmX0 q314 (fun _ h9 => h9) rfl (ty := .int) (by decide +kernel) rfl rfl (fun _ _ => rfl) dX0_keeps_27 (fun H locs hB => ?_)
  rw [← eμ4] at hB
  refine lv_aload_n hx hb dX0_keeps_30 rfl (lv_at hl 0 rfl) ?_
  refine lv_bipush (v := (nI 10)) hx hb dX0_keeps_31 rfl ?_
  refine lv_aload_n hx hb dX0_keeps_33 rfl (lv_at hl 0 rfl) ?_
  refine g_get S hB (cT hB) rfl (T := TX0) (N := 33) (C := RX0) rfl in_X0 8 (by decide) (by decide) q313 (fun _ h9 => h9) (v := .int (zI μ4 z 8)) rfl dX0_keeps_34 ?_
  refine lv_iconst (v := (nI 1)) hx hb dX0_keeps_37 rfl ?_
  refine lv_iadd hx hb dX0_keeps_38 ?_
  refine va_mmin hx hb (hml.trans hl.1.symm) hown (hts _ q866) (hts _ q524) (hts _ q136) (hts _ q525) (Nat.le_of_ble_eq_true rfl) (Nat.le_of_ble_eq_true rfl) (Nat.le_refl _) (Nat.le_refl _) dX0_keeps_39 ?_
  obtain ⟨μ5, eμ5, hp⟩ := zpI_e hp
  refine g_putI S hB (cT hB) rfl (T := TX0) (N := 33) (C := RX0) rfl in_X0 8 (by decide) (by decide) (x := (if ((zI μ4 z 8) + (nI 1)) < (nI 10) then ((zI μ4 z 8) + (nI 1)) else (nI 10))) tyX0 tyX0_ok nmX0 q313 (fun _ h9 => h9) rfl (ty := .int) (by decide +kernel) rfl rfl (fun _ _ => rfl) dX0_keeps_42 (fun H locs hB => ?_)
  rw [← eμ5] at hB
  exact zret_v X hB hp dX0_keeps_45
def pX0_builds (z : Nat) (μ : zM) (Q : Int32 → zM → Prop) : Prop := (if (zI μ (z + 7) 3) = (nI 8) then Q (-12 : Int32) μ else (pX0_keeps z μ fun μ1 => (pX2_builds z (z + 7) μ1 fun μ2 => Q ((zI μ2 (z + 7) 3) - (nI 1)) μ2)))
theorem hX0_builds : yX0_builds.cls = "SunkTower" ∧ yX0_builds.cls ≠ "java/lang/invoke/MethodHandle" ∧ yX0_builds.cls ≠ "java/lang/invoke/VarHandle" ∧ (parseMethodDescriptor yX0_builds.desc).map (fun d => d.parameters.length) = some 0 := by decide +kernel
set_option maxHeartbeats 4000000 in
set_option maxRecDepth 100000 in
theorem mX0_builds (l : Launch) (Γ : zG) (z : Nat) (μ : zM) (Q : Int32 → zM → Prop) (hp : pX0_builds z μ Q) : Met l yX0_builds (ws_ yX0_builds cX0_builds 1 (some .int)) ({ frames := 3, cells := 0, slots := 0, locals := 105 } : Room) (va_Pc [.ref z] (zPre Γ (cSh z) μ)) (va_Qi Q (zPost Γ (cSh z) μ) (zA μ)) 0 0 (zA μ) := by
  refine zstart (by decide) (Nat.le_of_ble_eq_true rfl) ?_
  intro p e s m below meth c ls X hnm hB hl
  have X : zCx p m c cX0_builds 1 s [.ref z].toArray RX0 meth (some .int) := X
  have S := X.1
  obtain ⟨hx, hb, hml, hown, hts⟩ := X.1
  have hl : lv_has ls 1 [(0, .ref z)] := hl
  unfold pX0_builds at hp
  refine lv_aload_n hx hb dX0_builds_0 rfl (lv_at hl 0 rfl) ?_
  refine g_getr S hB (cT hB) rfl (T := TX0) (N := 33) (C := RX0) rfl in_X0 1 (by decide) (by decide) q305 (fun _ h9 => h9) (fun _ => rfl) (cA hB 0 rfl).1 dX0_builds_1 ?_
  refine g_getN S hB (cA hB 0 rfl).2 rfl (T := TX2) (N := 8) (C := RX2) rfl in_X2 3 (by decide) (by decide) (zNFw hB 8 rfl) (fun _ h9 => h9) (v := .int (zI μ (z + 7) 3)) rfl dX0_builds_4 ?_
  refine lv_bipush (v := (nI 8)) hx hb dX0_builds_7 rfl ?_
  refine lv_icmp_ne (tgt := 15) hx hb dX0_builds_9 rfl (fun c0 => ?_) (fun c0 => ?_)
  · have hp := zif hp c0
    refine lv_aload_n hx hb dX0_builds_15 rfl (lv_at hl 0 rfl) ?_
    refine z_callv (va_runV (As := []) (rest := []) S (mX0_keeps l Γ z μ _ hp) (cwV 0 hts (lw_V q858 q860 qs29 q127 q861) rfl rfl rfl hX0_keeps ⟨Nat.le_of_ble_eq_true rfl, Nat.le_of_ble_eq_true rfl⟩) (hB.preV (cT hB) rfl rfl) rfl rfl hl.1 rfl (lv_room (Nat.le_of_ble_eq_true rfl)) dX0_builds_16 ⟨Nat.le_refl _, Nat.le_refl _⟩) hB (fun μ1 H locs hp hB => ?_)
    refine lv_aload_n hx hb dX0_builds_19 rfl (lv_at hl 0 rfl) ?_
    refine g_getr S hB (cT hB) rfl (T := TX0) (N := 33) (C := RX0) rfl in_X0 1 (by decide) (by decide) q305 (fun _ h9 => h9) (fun _ => rfl) (cA hB 0 rfl).1 dX0_builds_20 ?_
    refine z_callv (va_runV (As := []) (rest := []) S (mX2_builds l Γ z (z + 7) μ1 _ hp) (cwV 0 hts (lw_V q881 q882 q883 q129 q884) rfl rfl rfl hX2_builds ⟨Nat.le_of_ble_eq_true rfl, Nat.le_of_ble_eq_true rfl⟩) (hB.preV (tX2_builds hp) rfl rfl) rfl rfl hl.1 rfl (lv_room (Nat.le_of_ble_eq_true rfl)) dX0_builds_23 ⟨Nat.le_refl _, Nat.le_refl _⟩) hB (fun μ2 H locs hp hB => ?_)
    refine lv_aload_n hx hb dX0_builds_26 rfl (lv_at hl 0 rfl) ?_
    refine g_getr S hB (cT hB) rfl (T := TX0) (N := 33) (C := RX0) rfl in_X0 1 (by decide) (by decide) q305 (fun _ h9 => h9) (fun _ => rfl) (cA hB 0 rfl).1 dX0_builds_27 ?_
    refine g_getN S hB (cA hB 0 rfl).2 rfl (T := TX2) (N := 8) (C := RX2) rfl in_X2 3 (by decide) (by decide) (zNFw hB 8 rfl) (fun _ h9 => h9) (v := .int (zI μ2 (z + 7) 3)) rfl dX0_builds_30 ?_
    refine lv_iconst (v := (nI 1)) hx hb dX0_builds_33 rfl ?_
    refine lv_isub hx hb dX0_builds_34 ?_
    exact zret_i X hB hp dX0_builds_35
  · have hp := zit hp c0
    refine lv_bipush (v := (-12 : Int32)) hx hb dX0_builds_12 rfl ?_
    exact zret_i X hB hp dX0_builds_14
def pX0_moves (z : Nat) (x1 : Int32) (x2 : Int32) (μ : zM) (Q : Int32 → zM → Prop) : Prop := (pX2_whyMove z (z + 7) (x1.toInt64) (x2.toInt64) μ fun r2 μ1 => (if r2 = 0 then (pX0_keeps z μ1 fun μ3 => (vp_in x1 6 ∧ (vp_in x1 6 ∧ zpI μ3 ((z + 7) + 1) x1.toNatClampNeg x2 fun μ4 => Q (zI μ3 ((z + 7) + 1) x1.toNatClampNeg) μ4))) else Q ((-10 : Int32) - r2) μ1))
theorem hX0_moves : yX0_moves.cls = "SunkTower" ∧ yX0_moves.cls ≠ "java/lang/invoke/MethodHandle" ∧ yX0_moves.cls ≠ "java/lang/invoke/VarHandle" ∧ (parseMethodDescriptor yX0_moves.desc).map (fun d => d.parameters.length) = some 2 := by decide +kernel
set_option maxHeartbeats 4000000 in
set_option maxRecDepth 100000 in
theorem mX0_moves (l : Launch) (Γ : zG) (z : Nat) (x1 : Int32) (x2 : Int32) (μ : zM) (Q : Int32 → zM → Prop) (hp : pX0_moves z x1 x2 μ Q) : Met l yX0_moves (ws_ yX0_moves cX0_moves 5 (some .int)) ({ frames := 3, cells := 0, slots := 0, locals := 105 } : Room) (va_Pc [.ref z, .int x1, .int x2] (zPre Γ (cSh z) μ)) (va_Qi Q (zPost Γ (cSh z) μ) (zA μ)) 0 0 (zA μ) := by
  refine zstart (by decide) (Nat.le_of_ble_eq_true rfl) ?_
  intro p e s m below meth c ls X hnm hB hl
  have X : zCx p m c cX0_moves 5 s [.ref z, .int x1, .int x2].toArray RX0 meth (some .int) := X
  have S := X.1
  obtain ⟨hx, hb, hml, hown, hts⟩ := X.1
  have hl : lv_has ls 5 [(0, .ref z), (1, .int x1), (2, .int x2)] := hl
  unfold pX0_moves at hp
  refine lv_aload_n hx hb dX0_moves_0 rfl (lv_at hl 0 rfl) ?_
  refine g_getr S hB (cT hB) rfl (T := TX0) (N := 33) (C := RX0) rfl in_X0 1 (by decide) (by decide) q305 (fun _ h9 => h9) (fun _ => rfl) (cA hB 0 rfl).1 dX0_moves_1 ?_
  refine lv_iload_n hx hb dX0_moves_4 rfl (lv_at hl 1 rfl) ?_
  refine lv_i2l hx hb dX0_moves_5 rfl ?_
  refine lv_iload_n hx hb dX0_moves_6 rfl (lv_at hl 2 rfl) ?_
  refine lv_i2l hx hb dX0_moves_7 rfl ?_
  refine z_calli (va_runV (As := [.long (x1.toInt64), .long (x2.toInt64)]) (rest := []) S (mX2_whyMove l Γ z (z + 7) (x1.toInt64) (x2.toInt64) μ _ hp) (cwV 2 hts (lw_V q889 q890 q891 q129 q892) rfl rfl rfl hX2_whyMove ⟨Nat.le_of_ble_eq_true rfl, Nat.le_of_ble_eq_true rfl⟩) (hB.preV (tX2_whyMove hp) rfl rfl) rfl rfl hl.1 rfl (lv_room (Nat.le_of_ble_eq_true rfl)) dX0_moves_8 ⟨Nat.le_refl _, Nat.le_refl _⟩) hB (fun r2 μ1 H locs hp hB => ?_)
  refine lv_istore_n (lv' := [(3, .int r2), (0, .ref z), (1, .int x1), (2, .int x2)]) hx hb dX0_moves_11 rfl hl (by decide) rfl (fun ls hl => ?_)
  refine lv_iload_n hx hb dX0_moves_12 rfl (lv_at hl 0 rfl) ?_
  refine lv_if_eq (tgt := 21) hx hb dX0_moves_13 rfl (fun c0 => ?_) (fun c0 => ?_)
  · have hp := zit hp c0
    refine lv_aload_n hx hb dX0_moves_21 rfl (lv_at hl 1 rfl) ?_
    refine z_callv (va_runV (As := []) (rest := []) S (mX0_keeps l Γ z μ1 _ hp) (cwV 0 hts (lw_V q858 q860 qs29 q127 q861) rfl rfl rfl hX0_keeps ⟨Nat.le_of_ble_eq_true rfl, Nat.le_of_ble_eq_true rfl⟩) (hB.preV (cT hB) rfl rfl) rfl rfl hl.1 rfl (lv_room (Nat.le_of_ble_eq_true rfl)) dX0_moves_22 ⟨Nat.le_refl _, Nat.le_refl _⟩) hB (fun μ3 H locs hp hB => ?_)
    refine lv_aload_n hx hb dX0_moves_25 rfl (lv_at hl 1 rfl) ?_
    refine g_getr S hB (cT hB) rfl (T := TX0) (N := 33) (C := RX0) rfl in_X0 1 (by decide) (by decide) q305 (fun _ h9 => h9) (fun _ => rfl) (cA hB 0 rfl).1 dX0_moves_26 ?_
    refine g_getrN S hB (cA hB 0 rfl).2 rfl (T := TX2) (N := 8) (C := RX2) rfl in_X2 0 (by decide) (by decide) (zNFw hB 5 rfl) (fun _ h9 => h9) (fun _ => rfl) (cS2 hB (cA hB 0 rfl).2 0 rfl).1 dX0_moves_29 ?_
    refine lv_iload_n hx hb dX0_moves_32 rfl (lv_at hl 2 rfl) ?_
    obtain ⟨hi, hp⟩ := hp
    refine g_iald S hB (cS2 hB (cA hB 0 rfl).2 0 rfl).2 hi dX0_moves_33 ?_
    refine lv_istore (lv' := [(4, .int (zI μ3 ((z + 7) + 1) x1.toNatClampNeg)), (3, .int r2), (0, .ref z), (1, .int x1), (2, .int x2)]) hx hb dX0_moves_34 hl (by decide) rfl (fun ls hl => ?_)
    refine lv_aload_n hx hb dX0_moves_36 rfl (lv_at hl 2 rfl) ?_
    refine g_getr S hB (cT hB) rfl (T := TX0) (N := 33) (C := RX0) rfl in_X0 1 (by decide) (by decide) q305 (fun _ h9 => h9) (fun _ => rfl) (cA hB 0 rfl).1 dX0_moves_37 ?_
    refine g_getrN S hB (cA hB 0 rfl).2 rfl (T := TX2) (N := 8) (C := RX2) rfl in_X2 0 (by decide) (by decide) (zNFw hB 5 rfl) (fun _ h9 => h9) (fun _ => rfl) (cS2 hB (cA hB 0 rfl).2 0 rfl).1 dX0_moves_40 ?_
    refine lv_iload_n hx hb dX0_moves_43 rfl (lv_at hl 3 rfl) ?_
    refine lv_iload_n hx hb dX0_moves_44 rfl (lv_at hl 4 rfl) ?_
    obtain ⟨hi, hp⟩ := hp
    obtain ⟨μ4, eμ4, hp⟩ := zpI_e hp
    refine g_iast S hB (cS2 hB (cA hB 0 rfl).2 0 rfl).2 hi dX0_moves_45 (fun H locs hB => ?_)
    rw [← eμ4] at hB
    refine lv_iload hx hb dX0_moves_46 (lv_at hl 0 rfl) ?_
    exact zret_i X hB hp dX0_moves_48
  · have hp := zif hp c0
    refine lv_bipush (v := (-10 : Int32)) hx hb dX0_moves_16 rfl ?_
    refine lv_iload_n hx hb dX0_moves_18 rfl (lv_at hl 0 rfl) ?_
    refine lv_isub hx hb dX0_moves_19 ?_
    exact zret_i X hB hp dX0_moves_20
def pX0_leaves (z : Nat) (x1 : Int32) (μ : zM) (Q : Int32 → zM → Prop) : Prop := (pX2_whyLeave z (z + 7) (x1.toInt64) μ fun r2 μ1 => (if r2 = 0 then (pX0_keeps z μ1 fun μ3 => (vp_in x1 6 ∧ (vp_in x1 6 ∧ zpI μ3 ((z + 7) + 1) x1.toNatClampNeg (-1 : Int32) fun μ4 => Q (zI μ3 ((z + 7) + 1) x1.toNatClampNeg) μ4))) else Q ((-10 : Int32) - r2) μ1))
theorem hX0_leaves : yX0_leaves.cls = "SunkTower" ∧ yX0_leaves.cls ≠ "java/lang/invoke/MethodHandle" ∧ yX0_leaves.cls ≠ "java/lang/invoke/VarHandle" ∧ (parseMethodDescriptor yX0_leaves.desc).map (fun d => d.parameters.length) = some 1 := by decide +kernel
set_option maxHeartbeats 4000000 in
set_option maxRecDepth 100000 in
theorem mX0_leaves (l : Launch) (Γ : zG) (z : Nat) (x1 : Int32) (μ : zM) (Q : Int32 → zM → Prop) (hp : pX0_leaves z x1 μ Q) : Met l yX0_leaves (ws_ yX0_leaves cX0_leaves 4 (some .int)) ({ frames := 3, cells := 0, slots := 0, locals := 105 } : Room) (va_Pc [.ref z, .int x1] (zPre Γ (cSh z) μ)) (va_Qi Q (zPost Γ (cSh z) μ) (zA μ)) 0 0 (zA μ) := by
  refine zstart (by decide) (Nat.le_of_ble_eq_true rfl) ?_
  intro p e s m below meth c ls X hnm hB hl
  have X : zCx p m c cX0_leaves 4 s [.ref z, .int x1].toArray RX0 meth (some .int) := X
  have S := X.1
  obtain ⟨hx, hb, hml, hown, hts⟩ := X.1
  have hl : lv_has ls 4 [(0, .ref z), (1, .int x1)] := hl
  unfold pX0_leaves at hp
  refine lv_aload_n hx hb dX0_leaves_0 rfl (lv_at hl 0 rfl) ?_
  refine g_getr S hB (cT hB) rfl (T := TX0) (N := 33) (C := RX0) rfl in_X0 1 (by decide) (by decide) q305 (fun _ h9 => h9) (fun _ => rfl) (cA hB 0 rfl).1 dX0_leaves_1 ?_
  refine lv_iload_n hx hb dX0_leaves_4 rfl (lv_at hl 1 rfl) ?_
  refine lv_i2l hx hb dX0_leaves_5 rfl ?_
  refine z_calli (va_runV (As := [.long (x1.toInt64)]) (rest := []) S (mX2_whyLeave l Γ z (z + 7) (x1.toInt64) μ _ hp) (cwV 1 hts (lw_V q900 q901 q902 q129 q903) rfl rfl rfl hX2_whyLeave ⟨Nat.le_of_ble_eq_true rfl, Nat.le_of_ble_eq_true rfl⟩) (hB.preV (tX2_whyLeave hp) rfl rfl) rfl rfl hl.1 rfl (lv_room (Nat.le_of_ble_eq_true rfl)) dX0_leaves_6 ⟨Nat.le_refl _, Nat.le_refl _⟩) hB (fun r2 μ1 H locs hp hB => ?_)
  refine lv_istore_n (lv' := [(2, .int r2), (0, .ref z), (1, .int x1)]) hx hb dX0_leaves_9 rfl hl (by decide) rfl (fun ls hl => ?_)
  refine lv_iload_n hx hb dX0_leaves_10 rfl (lv_at hl 0 rfl) ?_
  refine lv_if_eq (tgt := 19) hx hb dX0_leaves_11 rfl (fun c0 => ?_) (fun c0 => ?_)
  · have hp := zit hp c0
    refine lv_aload_n hx hb dX0_leaves_19 rfl (lv_at hl 1 rfl) ?_
    refine z_callv (va_runV (As := []) (rest := []) S (mX0_keeps l Γ z μ1 _ hp) (cwV 0 hts (lw_V q858 q860 qs29 q127 q861) rfl rfl rfl hX0_keeps ⟨Nat.le_of_ble_eq_true rfl, Nat.le_of_ble_eq_true rfl⟩) (hB.preV (cT hB) rfl rfl) rfl rfl hl.1 rfl (lv_room (Nat.le_of_ble_eq_true rfl)) dX0_leaves_20 ⟨Nat.le_refl _, Nat.le_refl _⟩) hB (fun μ3 H locs hp hB => ?_)
    refine lv_aload_n hx hb dX0_leaves_23 rfl (lv_at hl 1 rfl) ?_
    refine g_getr S hB (cT hB) rfl (T := TX0) (N := 33) (C := RX0) rfl in_X0 1 (by decide) (by decide) q305 (fun _ h9 => h9) (fun _ => rfl) (cA hB 0 rfl).1 dX0_leaves_24 ?_
    refine g_getrN S hB (cA hB 0 rfl).2 rfl (T := TX2) (N := 8) (C := RX2) rfl in_X2 0 (by decide) (by decide) (zNFw hB 5 rfl) (fun _ h9 => h9) (fun _ => rfl) (cS2 hB (cA hB 0 rfl).2 0 rfl).1 dX0_leaves_27 ?_
    refine lv_iload_n hx hb dX0_leaves_30 rfl (lv_at hl 2 rfl) ?_
    obtain ⟨hi, hp⟩ := hp
    refine g_iald S hB (cS2 hB (cA hB 0 rfl).2 0 rfl).2 hi dX0_leaves_31 ?_
    refine lv_istore_n (lv' := [(3, .int (zI μ3 ((z + 7) + 1) x1.toNatClampNeg)), (2, .int r2), (0, .ref z), (1, .int x1)]) hx hb dX0_leaves_32 rfl hl (by decide) rfl (fun ls hl => ?_)
    refine lv_aload_n hx hb dX0_leaves_33 rfl (lv_at hl 2 rfl) ?_
    refine g_getr S hB (cT hB) rfl (T := TX0) (N := 33) (C := RX0) rfl in_X0 1 (by decide) (by decide) q305 (fun _ h9 => h9) (fun _ => rfl) (cA hB 0 rfl).1 dX0_leaves_34 ?_
    refine g_getrN S hB (cA hB 0 rfl).2 rfl (T := TX2) (N := 8) (C := RX2) rfl in_X2 0 (by decide) (by decide) (zNFw hB 5 rfl) (fun _ h9 => h9) (fun _ => rfl) (cS2 hB (cA hB 0 rfl).2 0 rfl).1 dX0_leaves_37 ?_
    refine lv_iload_n hx hb dX0_leaves_40 rfl (lv_at hl 3 rfl) ?_
    refine lv_iconst (v := (-1 : Int32)) hx hb dX0_leaves_41 rfl ?_
    obtain ⟨hi, hp⟩ := hp
    obtain ⟨μ4, eμ4, hp⟩ := zpI_e hp
    refine g_iast S hB (cS2 hB (cA hB 0 rfl).2 0 rfl).2 hi dX0_leaves_42 (fun H locs hB => ?_)
    rw [← eμ4] at hB
    refine lv_iload_n hx hb dX0_leaves_43 rfl (lv_at hl 0 rfl) ?_
    exact zret_i X hB hp dX0_leaves_44
  · have hp := zif hp c0
    refine lv_bipush (v := (-10 : Int32)) hx hb dX0_leaves_14 rfl ?_
    refine lv_iload_n hx hb dX0_leaves_16 rfl (lv_at hl 0 rfl) ?_
    refine lv_isub hx hb dX0_leaves_17 ?_
    exact zret_i X hB hp dX0_leaves_18
def pX0_carries (z : Nat) (x1 : Int32) (x2 : Int32) (μ : zM) (Q : Int32 → zM → Prop) : Prop := (pX0_isTenant z x1 μ fun r2 μ1 => (if r2 = 0 then Q (-11 : Int32) μ1 else (pX0_in z (x2.toInt64) (0 : Int64) (999 : Int64) μ1 fun r4 μ3 => (if r4 = 0 then Q (-11 : Int32) μ3 else (pX0_keeps z μ3 fun μ5 => (vp_in x1 6 ∧ (vp_in x1 6 ∧ zpI μ5 ((z + 7) + 2) x1.toNatClampNeg x2 fun μ6 => Q (zI μ5 ((z + 7) + 2) x1.toNatClampNeg) μ6)))))))
theorem hX0_carries : yX0_carries.cls = "SunkTower" ∧ yX0_carries.cls ≠ "java/lang/invoke/MethodHandle" ∧ yX0_carries.cls ≠ "java/lang/invoke/VarHandle" ∧ (parseMethodDescriptor yX0_carries.desc).map (fun d => d.parameters.length) = some 2 := by decide +kernel
set_option maxHeartbeats 4000000 in
set_option maxRecDepth 100000 in
theorem mX0_carries (l : Launch) (Γ : zG) (z : Nat) (x1 : Int32) (x2 : Int32) (μ : zM) (Q : Int32 → zM → Prop) (hp : pX0_carries z x1 x2 μ Q) : Met l yX0_carries (ws_ yX0_carries cX0_carries 4 (some .int)) ({ frames := 3, cells := 0, slots := 0, locals := 105 } : Room) (va_Pc [.ref z, .int x1, .int x2] (zPre Γ (cSh z) μ)) (va_Qi Q (zPost Γ (cSh z) μ) (zA μ)) 0 0 (zA μ) := by
  refine zstart (by decide) (Nat.le_of_ble_eq_true rfl) ?_
  intro p e s m below meth c ls X hnm hB hl
  have X : zCx p m c cX0_carries 4 s [.ref z, .int x1, .int x2].toArray RX0 meth (some .int) := X
  have S := X.1
  obtain ⟨hx, hb, hml, hown, hts⟩ := X.1
  have hl : lv_has ls 4 [(0, .ref z), (1, .int x1), (2, .int x2)] := hl
  unfold pX0_carries at hp
  refine lv_aload_n hx hb dX0_carries_0 rfl (lv_at hl 0 rfl) ?_
  refine lv_iload_n hx hb dX0_carries_1 rfl (lv_at hl 1 rfl) ?_
  refine z_calli (va_runV (As := [.int x1]) (rest := []) S (mX0_isTenant l Γ z x1 μ _ hp) (cwV 1 hts (lw_V q768 q770 qs27 q127 q771) rfl rfl rfl hX0_isTenant ⟨Nat.le_of_ble_eq_true rfl, Nat.le_of_ble_eq_true rfl⟩) (hB.preV (cT hB) rfl rfl) rfl rfl hl.1 rfl (lv_room (Nat.le_of_ble_eq_true rfl)) dX0_carries_2 ⟨Nat.le_refl _, Nat.le_refl _⟩) hB (fun r2 μ1 H locs hp hB => ?_)
  refine lv_if_eq (tgt := 20) hx hb dX0_carries_5 rfl (fun c0 => ?_) (fun c0 => ?_)
  · have hp := zit hp c0
    refine lv_bipush (v := (-11 : Int32)) hx hb dX0_carries_20 rfl ?_
    exact zret_i X hB hp dX0_carries_22
  · have hp := zif hp c0
    refine lv_iload_n hx hb dX0_carries_8 rfl (lv_at hl 2 rfl) ?_
    refine lv_i2l hx hb dX0_carries_9 rfl ?_
    refine lv_lconst (v := (0 : Int64)) hx hb dX0_carries_10 rfl ?_
    refine lv_ldc2 (v := (999 : Int64)) hx hb hown (hts _ q908) dX0_carries_11 ?_
    refine z_calli (va_runS (As := [.long (x2.toInt64), .long (0 : Int64), .long (999 : Int64)]) (rest := []) S (mX0_in l Γ z (x2.toInt64) (0 : Int64) (999 : Int64) μ1 _ hp) (va_cwS 3 hts (lw_S q418 q419 q127 q420) rfl rfl rfl hX0_in ⟨Nat.le_of_ble_eq_true rfl, Nat.le_of_ble_eq_true rfl⟩) hB.preS rfl rfl hl.1 rfl (lv_room (Nat.le_of_ble_eq_true rfl)) dX0_carries_14 ⟨Nat.le_refl _, Nat.le_refl _⟩) hB (fun r4 μ3 H locs hp hB => ?_)
    refine lv_if_ne (tgt := 23) hx hb dX0_carries_17 rfl (fun c0 => ?_) (fun c0 => ?_)
    · have hp := zif hp c0
      refine lv_aload_n hx hb dX0_carries_23 rfl (lv_at hl 0 rfl) ?_
      refine z_callv (va_runV (As := []) (rest := []) S (mX0_keeps l Γ z μ3 _ hp) (cwV 0 hts (lw_V q858 q860 qs29 q127 q861) rfl rfl rfl hX0_keeps ⟨Nat.le_of_ble_eq_true rfl, Nat.le_of_ble_eq_true rfl⟩) (hB.preV (cT hB) rfl rfl) rfl rfl hl.1 rfl (lv_room (Nat.le_of_ble_eq_true rfl)) dX0_carries_24 ⟨Nat.le_refl _, Nat.le_refl _⟩) hB (fun μ5 H locs hp hB => ?_)
      refine lv_aload_n hx hb dX0_carries_27 rfl (lv_at hl 0 rfl) ?_
      refine g_getr S hB (cT hB) rfl (T := TX0) (N := 33) (C := RX0) rfl in_X0 1 (by decide) (by decide) q305 (fun _ h9 => h9) (fun _ => rfl) (cA hB 0 rfl).1 dX0_carries_28 ?_
      refine g_getrN S hB (cA hB 0 rfl).2 rfl (T := TX2) (N := 8) (C := RX2) rfl in_X2 1 (by decide) (by decide) (zNFw hB 6 rfl) (fun _ h9 => h9) (fun _ => rfl) (cS2 hB (cA hB 0 rfl).2 1 rfl).1 dX0_carries_31 ?_
      refine lv_iload_n hx hb dX0_carries_34 rfl (lv_at hl 1 rfl) ?_
      obtain ⟨hi, hp⟩ := hp
      refine g_iald S hB (cS2 hB (cA hB 0 rfl).2 1 rfl).2 hi dX0_carries_35 ?_
      refine lv_istore_n (lv' := [(3, .int (zI μ5 ((z + 7) + 2) x1.toNatClampNeg)), (0, .ref z), (1, .int x1), (2, .int x2)]) hx hb dX0_carries_36 rfl hl (by decide) rfl (fun ls hl => ?_)
      refine lv_aload_n hx hb dX0_carries_37 rfl (lv_at hl 1 rfl) ?_
      refine g_getr S hB (cT hB) rfl (T := TX0) (N := 33) (C := RX0) rfl in_X0 1 (by decide) (by decide) q305 (fun _ h9 => h9) (fun _ => rfl) (cA hB 0 rfl).1 dX0_carries_38 ?_
      refine g_getrN S hB (cA hB 0 rfl).2 rfl (T := TX2) (N := 8) (C := RX2) rfl in_X2 1 (by decide) (by decide) (zNFw hB 6 rfl) (fun _ h9 => h9) (fun _ => rfl) (cS2 hB (cA hB 0 rfl).2 1 rfl).1 dX0_carries_41 ?_
      refine lv_iload_n hx hb dX0_carries_44 rfl (lv_at hl 2 rfl) ?_
      refine lv_iload_n hx hb dX0_carries_45 rfl (lv_at hl 3 rfl) ?_
      obtain ⟨hi, hp⟩ := hp
      obtain ⟨μ6, eμ6, hp⟩ := zpI_e hp
      refine g_iast S hB (cS2 hB (cA hB 0 rfl).2 1 rfl).2 hi dX0_carries_46 (fun H locs hB => ?_)
      rw [← eμ6] at hB
      refine lv_iload_n hx hb dX0_carries_47 rfl (lv_at hl 0 rfl) ?_
      exact zret_i X hB hp dX0_carries_48
    · have hp := zit hp c0
      refine lv_bipush (v := (-11 : Int32)) hx hb dX0_carries_20 rfl ?_
      exact zret_i X hB hp dX0_carries_22
def pX0_undo (z : Nat) (x1 : Int32) (μ : zM) (Q : Int32 → zM → Prop) : Prop := (pX0_in z (x1.toInt64) (1 : Int64) ((zI μ z 8).toInt64) μ fun r2 μ1 => (if r2 = 0 then Q (-3 : Int32) μ1 else (zpI μ1 z 9 ((((zI μ1 z 9) + (nI 10)) - x1) - (((zI μ1 z 9) + (nI 10)) - x1) / (nI 10) * (nI 10)) fun μ3 => (zpI μ3 z 8 ((zI μ3 z 8) - x1) fun μ4 => (vp_in (zI μ4 z 9) 10 ∧ (zde (zR μ4 (z + 16) (zI μ4 z 9).toNatClampNeg) fun b5 => (pX2_be z (z + 7) b5 μ4 fun r7 μ6 => Q (zI μ6 z 8) μ6)))))))
theorem hX0_undo : yX0_undo.cls = "SunkTower" ∧ yX0_undo.cls ≠ "java/lang/invoke/MethodHandle" ∧ yX0_undo.cls ≠ "java/lang/invoke/VarHandle" ∧ (parseMethodDescriptor yX0_undo.desc).map (fun d => d.parameters.length) = some 1 := by decide +kernel
set_option maxHeartbeats 4000000 in
set_option maxRecDepth 100000 in
theorem mX0_undo (l : Launch) (Γ : zG) (z : Nat) (x1 : Int32) (μ : zM) (Q : Int32 → zM → Prop) (hp : pX0_undo z x1 μ Q) : Met l yX0_undo (ws_ yX0_undo cX0_undo 2 (some .int)) ({ frames := 2, cells := 0, slots := 0, locals := 85 } : Room) (va_Pc [.ref z, .int x1] (zPre Γ (cSh z) μ)) (va_Qi Q (zPost Γ (cSh z) μ) (zA μ)) 0 0 (zA μ) := by
  refine zstart (by decide) (Nat.le_of_ble_eq_true rfl) ?_
  intro p e s m below meth c ls X hnm hB hl
  have X : zCx p m c cX0_undo 2 s [.ref z, .int x1].toArray RX0 meth (some .int) := X
  have S := X.1
  obtain ⟨hx, hb, hml, hown, hts⟩ := X.1
  have hl : lv_has ls 2 [(0, .ref z), (1, .int x1)] := hl
  unfold pX0_undo at hp
  refine lv_iload_n hx hb dX0_undo_0 rfl (lv_at hl 1 rfl) ?_
  refine lv_i2l hx hb dX0_undo_1 rfl ?_
  refine lv_lconst (v := (1 : Int64)) hx hb dX0_undo_2 rfl ?_
  refine lv_aload_n hx hb dX0_undo_3 rfl (lv_at hl 0 rfl) ?_
  refine g_get S hB (cT hB) rfl (T := TX0) (N := 33) (C := RX0) rfl in_X0 8 (by decide) (by decide) q313 (fun _ h9 => h9) (v := .int (zI μ z 8)) rfl dX0_undo_4 ?_
  refine lv_i2l hx hb dX0_undo_7 rfl ?_
  refine z_calli (va_runS (As := [.long (x1.toInt64), .long (1 : Int64), .long ((zI μ z 8).toInt64)]) (rest := []) S (mX0_in l Γ z (x1.toInt64) (1 : Int64) ((zI μ z 8).toInt64) μ _ hp) (va_cwS 3 hts (lw_S q418 q419 q127 q420) rfl rfl rfl hX0_in ⟨Nat.le_of_ble_eq_true rfl, Nat.le_of_ble_eq_true rfl⟩) hB.preS rfl rfl hl.1 rfl (lv_room (Nat.le_of_ble_eq_true rfl)) dX0_undo_8 ⟨Nat.le_refl _, Nat.le_refl _⟩) hB (fun r2 μ1 H locs hp hB => ?_)
  refine lv_if_ne (tgt := 17) hx hb dX0_undo_11 rfl (fun c0 => ?_) (fun c0 => ?_)
  · have hp := zif hp c0
    refine lv_aload_n hx hb dX0_undo_17 rfl (lv_at hl 0 rfl) ?_
    refine lv_aload_n hx hb dX0_undo_18 rfl (lv_at hl 0 rfl) ?_
    refine g_get S hB (cT hB) rfl (T := TX0) (N := 33) (C := RX0) rfl in_X0 9 (by decide) (by decide) q314 (fun _ h9 => h9) (v := .int (zI μ1 z 9)) rfl dX0_undo_19 ?_
    refine lv_bipush (v := (nI 10)) hx hb dX0_undo_22 rfl ?_
    refine lv_iadd hx hb dX0_undo_24 ?_
    refine lv_iload_n hx hb dX0_undo_25 rfl (lv_at hl 1 rfl) ?_
    refine lv_isub hx hb dX0_undo_26 ?_
    refine lv_bipush (v := (nI 10)) hx hb dX0_undo_27 rfl ?_
    refine lv_irem hx hb dX0_undo_29 (by decide) ?_
    obtain ⟨μ3, eμ3, hp⟩ := zpI_e hp
    refine g_putI S hB (cT hB) rfl (T := TX0) (N := 33) (C := RX0) rfl in_X0 9 (by decide) (by decide) (x := ((((zI μ1 z 9) + (nI 10)) - x1) - (((zI μ1 z 9) + (nI 10)) - x1) / (nI 10) * (nI 10))) tyX0 tyX0_ok nmX0 q314 (fun _ h9 => h9) rfl (ty := .int) (by decide +kernel) rfl rfl (fun _ _ => rfl) dX0_undo_30 (fun H locs hB => ?_)
    rw [← eμ3] at hB
    refine lv_aload_n hx hb dX0_undo_33 rfl (lv_at hl 0 rfl) ?_
    refine lv_dup hx hb dX0_undo_34 rfl ?_
    refine g_get S hB (cT hB) rfl (T := TX0) (N := 33) (C := RX0) rfl in_X0 8 (by decide) (by decide) q313 (fun _ h9 => h9) (v := .int (zI μ3 z 8)) rfl dX0_undo_35 ?_
    refine lv_iload_n hx hb dX0_undo_38 rfl (lv_at hl 1 rfl) ?_
    refine lv_isub hx hb dX0_undo_39 ?_
    obtain ⟨μ4, eμ4, hp⟩ := zpI_e hp
    refine g_putI S hB (cT hB) rfl (T := TX0) (N := 33) (C := RX0) rfl in_X0 8 (by decide) (by decide) (x := ((zI μ3 z 8) - x1)) tyX0 tyX0_ok nmX0 q313 (fun _ h9 => h9) rfl (ty := .int) (by decide +kernel) rfl rfl (fun _ _ => rfl) dX0_undo_40 (fun H locs hB => ?_)
    rw [← eμ4] at hB
    refine lv_aload_n hx hb dX0_undo_43 rfl (lv_at hl 0 rfl) ?_
    refine g_getr S hB (cT hB) rfl (T := TX0) (N := 33) (C := RX0) rfl in_X0 1 (by decide) (by decide) q305 (fun _ h9 => h9) (fun _ => rfl) (cA hB 0 rfl).1 dX0_undo_44 ?_
    refine lv_aload_n hx hb dX0_undo_47 rfl (lv_at hl 0 rfl) ?_
    refine g_getr S hB (cT hB) rfl (T := TX0) (N := 33) (C := RX0) rfl in_X0 7 (by decide) (by decide) q312 (fun _ h9 => h9) (fun _ => rfl) (cA hB 3 rfl).1 dX0_undo_48 ?_
    refine lv_aload_n hx hb dX0_undo_51 rfl (lv_at hl 0 rfl) ?_
    refine g_get S hB (cT hB) rfl (T := TX0) (N := 33) (C := RX0) rfl in_X0 9 (by decide) (by decide) q314 (fun _ h9 => h9) (v := .int (zI μ4 z 9)) rfl dX0_undo_52 ?_
    obtain ⟨hi, hp⟩ := hp
    refine g_aald S hB (t0 := 5) (cA hB 3 rfl).2 rfl rfl hi dX0_undo_55 ?_
    obtain ⟨b5, eb, hp⟩ := hp
    refine W.eq (g2 := F0 m 56 ls [.ref b5, .ref (z + 7)]) (by rw [eb]; rfl) ?_
    refine z_callq (va_runV (As := [.ref b5]) (rest := []) S (mX2_be l Γ z (z + 7) b5 μ4 _ hp) (cwV 1 hts (lw_V q862 q863 q864 q129 q865) rfl rfl rfl hX2_be ⟨Nat.le_of_ble_eq_true rfl, Nat.le_of_ble_eq_true rfl⟩) (hB.preV (tX2_be hp) rfl rfl) rfl rfl hl.1 rfl (lv_room (Nat.le_of_ble_eq_true rfl)) dX0_undo_56 ⟨Nat.le_refl _, Nat.le_refl _⟩) hB (fun r7 μ6 H locs hp hB => ?_)
    refine lv_pop hx hb dX0_undo_59 (va_rf_c _) ?_
    refine lv_aload_n hx hb dX0_undo_60 rfl (lv_at hl 0 rfl) ?_
    refine g_get S hB (cT hB) rfl (T := TX0) (N := 33) (C := RX0) rfl in_X0 8 (by decide) (by decide) q313 (fun _ h9 => h9) (v := .int (zI μ6 z 8)) rfl dX0_undo_61 ?_
    exact zret_i X hB hp dX0_undo_64
  · have hp := zit hp c0
    refine lv_bipush (v := (-3 : Int32)) hx hb dX0_undo_14 rfl ?_
    exact zret_i X hB hp dX0_undo_16
def pX0_told (z : Nat) (μ : zM) (Q : Int32 → zM → Prop) : Prop := (pX0_draw z (nI 6) μ fun r2 μ1 => (if (nI 2) ≤ r2 then (if r2 = (nI 3) then Q (nI 3000) μ1 else (if r2 = (nI 4) then Q (nI 2000) μ1 else (zde (zR μ1 z 0) fun b3 => (zty μ1 b3 = some (.inl 1) ∧ (pX0_draw z (zI μ1 b3 6) μ1 fun r6 μ5 => (if r2 = (nI 2) then (pX0_draw z (zI μ5 (z + 11) 3) μ5 fun r10 μ9 => Q (((nI 100) * r6) + r10) μ9) else (pX0_draw z (nI 1000) μ5 fun r8 μ7 => Q (((nI 10000) + ((nI 1000) * r6)) + r8) μ7))))))) else Q (-1 : Int32) μ1))
theorem hX0_told : yX0_told.cls = "SunkTower" ∧ yX0_told.cls ≠ "java/lang/invoke/MethodHandle" ∧ yX0_told.cls ≠ "java/lang/invoke/VarHandle" ∧ (parseMethodDescriptor yX0_told.desc).map (fun d => d.parameters.length) = some 0 := by decide +kernel
set_option maxHeartbeats 4000000 in
set_option maxRecDepth 100000 in
theorem mX0_told (l : Launch) (Γ : zG) (z : Nat) (μ : zM) (Q : Int32 → zM → Prop) (hp : pX0_told z μ Q) : Met l yX0_told (ws_ yX0_told cX0_told 3 (some .int)) ({ frames := 1, cells := 0, slots := 0, locals := 21 } : Room) (va_Pc [.ref z] (zPre Γ (cSh z) μ)) (va_Qi Q (zPost Γ (cSh z) μ) (zA μ)) 0 0 (zA μ) := by
  refine zstart (by decide) (Nat.le_of_ble_eq_true rfl) ?_
  intro p e s m below meth c ls X hnm hB hl
  have X : zCx p m c cX0_told 3 s [.ref z].toArray RX0 meth (some .int) := X
  have S := X.1
  obtain ⟨hx, hb, hml, hown, hts⟩ := X.1
  have hl : lv_has ls 3 [(0, .ref z)] := hl
  unfold pX0_told at hp
  refine lv_aload_n hx hb dX0_told_0 rfl (lv_at hl 0 rfl) ?_
  refine lv_bipush (v := (nI 6)) hx hb dX0_told_1 rfl ?_
  refine z_calli (va_runV (As := [.int (nI 6)]) (rest := []) S (mX0_draw l Γ z (nI 6) μ _ hp) (cwV 1 hts (lw_V q1000 q1002 qs35 q127 q1003) rfl rfl rfl hX0_draw ⟨Nat.le_of_ble_eq_true rfl, Nat.le_of_ble_eq_true rfl⟩) (hB.preV (cT hB) rfl rfl) rfl rfl hl.1 rfl (lv_room (Nat.le_of_ble_eq_true rfl)) dX0_told_3 ⟨Nat.le_refl _, Nat.le_refl _⟩) hB (fun r2 μ1 H locs hp hB => ?_)
  refine lv_istore_n (lv' := [(1, .int r2), (0, .ref z)]) hx hb dX0_told_6 rfl hl (by decide) rfl (fun ls hl => ?_)
  refine lv_iload_n hx hb dX0_told_7 rfl (lv_at hl 0 rfl) ?_
  refine lv_iconst (v := (nI 2)) hx hb dX0_told_8 rfl ?_
  refine lv_icmp_ge (tgt := 14) hx hb dX0_told_9 rfl (fun c0 => ?_) (fun c0 => ?_)
  · have hp := zit hp c0
    refine lv_iload_n hx hb dX0_told_14 rfl (lv_at hl 0 rfl) ?_
    refine lv_iconst (v := (nI 3)) hx hb dX0_told_15 rfl ?_
    refine lv_icmp_ne (tgt := 23) hx hb dX0_told_16 rfl (fun c0 => ?_) (fun c0 => ?_)
    · have hp := zif hp c0
      refine lv_iload_n hx hb dX0_told_23 rfl (lv_at hl 0 rfl) ?_
      refine lv_iconst (v := (nI 4)) hx hb dX0_told_24 rfl ?_
      refine lv_icmp_ne (tgt := 32) hx hb dX0_told_25 rfl (fun c0 => ?_) (fun c0 => ?_)
      · have hp := zif hp c0
        refine lv_aload_n hx hb dX0_told_32 rfl (lv_at hl 1 rfl) ?_
        refine lv_aload_n hx hb dX0_told_33 rfl (lv_at hl 1 rfl) ?_
        refine g_get S hB (cT hB) rfl (T := TX0) (N := 33) (C := RX0) rfl in_X0 0 (by decide) (by decide) q304 (fun _ h9 => h9) (v := va_rf (zR μ1 z 0)) rfl dX0_told_34 ?_
        obtain ⟨b3, eb, hp⟩ := hp
        refine W.eq (g2 := F0 m 37 ls [.ref b3, .ref z]) (by rw [eb]; rfl) ?_
        obtain ⟨ht4, hp⟩ := hp
        refine g_getN S hB ht4 rfl (T := TX1) (N := 16) (C := RX1) rfl in_X1 6 (by decide) (by decide) (zNFw hB 1 rfl) (fun _ h9 => h9) (v := .int (zI μ1 b3 6)) rfl dX0_told_37 ?_
        refine z_calli (va_runV (As := [.int (zI μ1 b3 6)]) (rest := []) S (mX0_draw l Γ z (zI μ1 b3 6) μ1 _ hp) (cwV 1 hts (lw_V q1000 q1002 qs35 q127 q1003) rfl rfl rfl hX0_draw ⟨Nat.le_of_ble_eq_true rfl, Nat.le_of_ble_eq_true rfl⟩) (hB.preV (cT hB) rfl rfl) rfl rfl hl.1 rfl (lv_room (Nat.le_of_ble_eq_true rfl)) dX0_told_40 ⟨Nat.le_refl _, Nat.le_refl _⟩) hB (fun r6 μ5 H locs hp hB => ?_)
        refine lv_istore_n (lv' := [(2, .int r6), (1, .int r2), (0, .ref z)]) hx hb dX0_told_43 rfl hl (by decide) rfl (fun ls hl => ?_)
        refine lv_iload_n hx hb dX0_told_44 rfl (lv_at hl 1 rfl) ?_
        refine lv_iconst (v := (nI 2)) hx hb dX0_told_45 rfl ?_
        refine lv_icmp_ne (tgt := 68) hx hb dX0_told_46 rfl (fun c0 => ?_) (fun c0 => ?_)
        · have hp := zif hp c0
          refine lv_sipush (v := (nI 10000)) hx hb dX0_told_68 rfl ?_
          refine lv_sipush (v := (nI 1000)) hx hb dX0_told_71 rfl ?_
          refine lv_iload_n hx hb dX0_told_74 rfl (lv_at hl 0 rfl) ?_
          refine lv_imul hx hb dX0_told_75 ?_
          refine lv_iadd hx hb dX0_told_76 ?_
          refine lv_aload_n hx hb dX0_told_77 rfl (lv_at hl 2 rfl) ?_
          refine lv_sipush (v := (nI 1000)) hx hb dX0_told_78 rfl ?_
          refine z_calli (va_runV (As := [.int (nI 1000)]) (rest := [.int ((nI 10000) + ((nI 1000) * r6))]) S (mX0_draw l Γ z (nI 1000) μ5 _ hp) (cwV 1 hts (lw_V q1000 q1002 qs35 q127 q1003) rfl rfl rfl hX0_draw ⟨Nat.le_of_ble_eq_true rfl, Nat.le_of_ble_eq_true rfl⟩) (hB.preV (cT hB) rfl rfl) rfl rfl hl.1 rfl (lv_room (Nat.le_of_ble_eq_true rfl)) dX0_told_81 ⟨Nat.le_refl _, Nat.le_refl _⟩) hB (fun r8 μ7 H locs hp hB => ?_)
          refine lv_iadd hx hb dX0_told_84 ?_
          exact zret_i X hB hp dX0_told_85
        · have hp := zit hp c0
          refine lv_bipush (v := (nI 100)) hx hb dX0_told_49 rfl ?_
          refine lv_iload_n hx hb dX0_told_51 rfl (lv_at hl 0 rfl) ?_
          refine lv_imul hx hb dX0_told_52 ?_
          refine lv_aload_n hx hb dX0_told_53 rfl (lv_at hl 2 rfl) ?_
          refine lv_aload_n hx hb dX0_told_54 rfl (lv_at hl 2 rfl) ?_
          refine g_getr S hB (cT hB) rfl (T := TX0) (N := 33) (C := RX0) rfl in_X0 2 (by decide) (by decide) q306 (fun _ h9 => h9) (fun _ => rfl) (cA hB 1 rfl).1 dX0_told_55 ?_
          refine g_getN S hB (cA hB 1 rfl).2 rfl (T := TX2) (N := 8) (C := RX2) rfl in_X2 3 (by decide) (by decide) (zNFw hB 8 rfl) (fun _ h9 => h9) (v := .int (zI μ5 (z + 11) 3)) rfl dX0_told_58 ?_
          refine z_calli (va_runV (As := [.int (zI μ5 (z + 11) 3)]) (rest := [.int ((nI 100) * r6)]) S (mX0_draw l Γ z (zI μ5 (z + 11) 3) μ5 _ hp) (cwV 1 hts (lw_V q1000 q1002 qs35 q127 q1003) rfl rfl rfl hX0_draw ⟨Nat.le_of_ble_eq_true rfl, Nat.le_of_ble_eq_true rfl⟩) (hB.preV (cT hB) rfl rfl) rfl rfl hl.1 rfl (lv_room (Nat.le_of_ble_eq_true rfl)) dX0_told_61 ⟨Nat.le_refl _, Nat.le_refl _⟩) hB (fun r10 μ9 H locs hp hB => ?_)
          refine lv_iadd hx hb dX0_told_64 ?_
          refine lv_goto (tgt := 85) hx hb dX0_told_65 rfl ?_
          exact zret_i X hB hp dX0_told_85
      · have hp := zit hp c0
        refine lv_sipush (v := (nI 2000)) hx hb dX0_told_28 rfl ?_
        exact zret_i X hB hp dX0_told_31
    · have hp := zit hp c0
      refine lv_sipush (v := (nI 3000)) hx hb dX0_told_19 rfl ?_
      exact zret_i X hB hp dX0_told_22
  · have hp := zif hp c0
    refine lv_iconst (v := (-1 : Int32)) hx hb dX0_told_12 rfl ?_
    exact zret_i X hB hp dX0_told_13
def pX0_mostFrom_7 (z : Nat) (x1 : Int32) (x2 : Int32) (Q : Int64 → zM → Prop) : Nat → Int64 → Int32 → zM → Prop
  | 0, _, _, _ => False
  | n + 1, x3, x5, μ => (if (nI 9) ≤ x5 then Q x3 μ else (pX0_moving z x1 x2 x5 μ fun r2 μ1 => (if (lg_cmp r2 (-4000000000000 : Int64)) ≤ 0 then pX0_mostFrom_7 z x1 x2 Q n x3 (x5 + (nI 1)) μ1 else (pX0_through z x1 x2 x5 μ1 fun r4 μ3 => pX0_mostFrom_7 z x1 x2 Q n (if r4 < x3 then x3 else r4) (x5 + (nI 1)) μ3))))
set_option maxHeartbeats 4000000 in
set_option maxRecDepth 100000 in
theorem wX0_mostFrom_7 {p : Program} {l : Launch} {e : Env} {s : State} {m : MethodId} {args : Array Value} {below : List Frame} {meth : Method} {c : Code} {Γ : zG} {μ0 : zM} {Q : Int64 → zM → Prop} (X : zCx p m c cX0_mostFrom 6 s args RX0 meth (some .long)) (z : Nat) (x1 : Int32) (x2 : Int32) : ∀ (n : Nat) (x3 : Int64) (x5 : Int32) (μ : zM) (H : Heap) (locs : List Loc) (ls : Array Slot), pX0_mostFrom_7 z x1 x2 Q n x3 x5 μ → zB Γ (cSh z) (zA μ0) μ0 s μ H locs → lv_has ls 6 [(0, .ref z), (1, .int x1), (2, .int x2), (3, .long x3), (5, .int x5)] → W p l e ({ frames := 3, cells := 0, slots := 0, locals := 67 } : Room) s m args below meth c H locs 0 0 (MQ below (va_Ql Q (zPost Γ (cSh z) μ0) (zA μ0)) args s 0 0 (zA μ0)) (F0 m 7 ls []) := by
  have S := X.1
  obtain ⟨hx, hb, hml, hown, hts⟩ := X.1
  intro n
  induction n with
  | zero =>
    intro x3 x5 μ H locs ls hp
    exact hp.elim
  | succ n ih =>
    intro x3 x5 μ H locs ls hp hB hl
    unfold pX0_mostFrom_7 at hp
    refine lv_iload hx hb dX0_mostFrom_7 (lv_at hl 4 rfl) ?_
    refine lv_bipush (v := (nI 9)) hx hb dX0_mostFrom_9 rfl ?_
    refine lv_icmp_ge (tgt := 48) hx hb dX0_mostFrom_11 rfl (fun c0 => ?_) (fun c0 => ?_)
    · have hp := zit hp c0
      refine lv_lload_n hx hb dX0_mostFrom_48 rfl (lv_at hl 3 rfl) ?_
      exact zret_l X hB hp dX0_mostFrom_49
    · have hp := zif hp c0
      refine lv_aload_n hx hb dX0_mostFrom_14 rfl (lv_at hl 0 rfl) ?_
      refine lv_iload_n hx hb dX0_mostFrom_15 rfl (lv_at hl 1 rfl) ?_
      refine lv_iload_n hx hb dX0_mostFrom_16 rfl (lv_at hl 2 rfl) ?_
      refine lv_iload hx hb dX0_mostFrom_17 (lv_at hl 4 rfl) ?_
      refine z_calll (va_runV (As := [.int x1, .int x2, .int x5]) (rest := []) S (mX0_moving l Γ z x1 x2 x5 μ _ hp) (cwV 3 hts (lw_V q1110 q1112 qs43 q127 q1113) rfl rfl rfl hX0_moving ⟨Nat.le_of_ble_eq_true rfl, Nat.le_of_ble_eq_true rfl⟩) (hB.preV (cT hB) rfl rfl) rfl rfl hl.1 rfl (lv_room (Nat.le_of_ble_eq_true rfl)) dX0_mostFrom_19 ⟨Nat.le_refl _, Nat.le_refl _⟩) hB (fun r2 μ1 H locs hp hB => ?_)
      refine lv_ldc2 (v := (-4000000000000 : Int64)) hx hb hown (hts _ q1109) dX0_mostFrom_22 ?_
      refine W.lcmp hx hb dX0_mostFrom_25 ?_
      refine lv_if_le (tgt := 42) hx hb dX0_mostFrom_26 rfl (fun c0 => ?_) (fun c0 => ?_)
      · have hp := zit hp c0
        refine lv_iinc (v := (x5 + (nI 1))) (lv' := [(5, .int (x5 + (nI 1))), (0, .ref z), (1, .int x1), (2, .int x2), (3, .long x3)]) hx hb dX0_mostFrom_42 hl (k := 4) rfl rfl (by decide) rfl (fun ls hl => ?_)
        refine lv_goto (tgt := 7) hx hb dX0_mostFrom_45 rfl ?_
        exact ih x3 (x5 + (nI 1)) μ1 _ _ _ hp hB (lv_sub hl [1, 2, 3, 4, 0] rfl)
      · have hp := zif hp c0
        refine lv_lload_n hx hb dX0_mostFrom_29 rfl (lv_at hl 3 rfl) ?_
        refine lv_aload_n hx hb dX0_mostFrom_30 rfl (lv_at hl 0 rfl) ?_
        refine lv_iload_n hx hb dX0_mostFrom_31 rfl (lv_at hl 1 rfl) ?_
        refine lv_iload_n hx hb dX0_mostFrom_32 rfl (lv_at hl 2 rfl) ?_
        refine lv_iload hx hb dX0_mostFrom_33 (lv_at hl 4 rfl) ?_
        refine z_calll (va_runV (As := [.int x1, .int x2, .int x5]) (rest := [.long x3]) S (mX0_through l Γ z x1 x2 x5 μ1 _ hp) (cwV 3 hts (lw_V q1114 q1116 qs44 q127 q1117) rfl rfl rfl hX0_through ⟨Nat.le_of_ble_eq_true rfl, Nat.le_of_ble_eq_true rfl⟩) (hB.preV (cT hB) rfl rfl) rfl rfl hl.1 rfl (lv_room (Nat.le_of_ble_eq_true rfl)) dX0_mostFrom_35 ⟨Nat.le_refl _, Nat.le_refl _⟩) hB (fun r4 μ3 H locs hp hB => ?_)
        refine va_mmax_long hx hb (hml.trans hl.1.symm) hown (hts _ q1118) (hts _ q816) (hts _ q136) (hts _ q817) (Nat.le_of_ble_eq_true rfl) (Nat.le_of_ble_eq_true rfl) (Nat.le_refl _) (Nat.le_refl _) dX0_mostFrom_38 ?_
        refine lv_lstore_n (lv' := [(3, .long (if r4 < x3 then x3 else r4)), (0, .ref z), (1, .int x1), (2, .int x2), (5, .int x5)]) hx hb dX0_mostFrom_41 rfl hl (by decide) rfl (fun ls hl => ?_)
        refine lv_iinc (v := (x5 + (nI 1))) (lv' := [(5, .int (x5 + (nI 1))), (3, .long (if r4 < x3 then x3 else r4)), (0, .ref z), (1, .int x1), (2, .int x2)]) hx hb dX0_mostFrom_42 hl (k := 4) rfl rfl (by decide) rfl (fun ls hl => ?_)
        refine lv_goto (tgt := 7) hx hb dX0_mostFrom_45 rfl ?_
        exact ih (if r4 < x3 then x3 else r4) (x5 + (nI 1)) μ3 _ _ _ hp hB (lv_sub hl [2, 3, 4, 1, 0] rfl)
def pX0_mostFrom (z : Nat) (x1 : Int32) (x2 : Int32) (μ : zM) (Q : Int64 → zM → Prop) : Prop := ∃ k1, pX0_mostFrom_7 z x1 x2 Q k1 (-4000000000000 : Int64) (nI 0) μ
theorem hX0_mostFrom : yX0_mostFrom.cls = "SunkTower" ∧ yX0_mostFrom.cls ≠ "java/lang/invoke/MethodHandle" ∧ yX0_mostFrom.cls ≠ "java/lang/invoke/VarHandle" ∧ (parseMethodDescriptor yX0_mostFrom.desc).map (fun d => d.parameters.length) = some 2 := by decide +kernel
set_option maxHeartbeats 4000000 in
set_option maxRecDepth 100000 in
theorem mX0_mostFrom (l : Launch) (Γ : zG) (z : Nat) (x1 : Int32) (x2 : Int32) (μ : zM) (Q : Int64 → zM → Prop) (hp : pX0_mostFrom z x1 x2 μ Q) : Met l yX0_mostFrom (ws_ yX0_mostFrom cX0_mostFrom 6 (some .long)) ({ frames := 3, cells := 0, slots := 0, locals := 67 } : Room) (va_Pc [.ref z, .int x1, .int x2] (zPre Γ (cSh z) μ)) (va_Ql Q (zPost Γ (cSh z) μ) (zA μ)) 0 0 (zA μ) := by
  refine zstart (by decide) (Nat.le_of_ble_eq_true rfl) ?_
  intro p e s m below meth c ls X hnm hB hl
  have X : zCx p m c cX0_mostFrom 6 s [.ref z, .int x1, .int x2].toArray RX0 meth (some .long) := X
  have S := X.1
  obtain ⟨hx, hb, hml, hown, hts⟩ := X.1
  have hl : lv_has ls 6 [(0, .ref z), (1, .int x1), (2, .int x2)] := hl
  unfold pX0_mostFrom at hp
  refine lv_ldc2 (v := (-4000000000000 : Int64)) hx hb hown (hts _ q1109) dX0_mostFrom_0 ?_
  refine lv_lstore_n (lv' := [(3, .long (-4000000000000 : Int64)), (0, .ref z), (1, .int x1), (2, .int x2)]) hx hb dX0_mostFrom_3 rfl hl (by decide) rfl (fun ls hl => ?_)
  refine lv_iconst (v := (nI 0)) hx hb dX0_mostFrom_4 rfl ?_
  refine lv_istore (lv' := [(5, .int (nI 0)), (3, .long (-4000000000000 : Int64)), (0, .ref z), (1, .int x1), (2, .int x2)]) hx hb dX0_mostFrom_5 hl (by decide) rfl (fun ls hl => ?_)
  obtain ⟨n1, hp⟩ := hp
  exact wX0_mostFrom_7 X z x1 x2 n1 (-4000000000000 : Int64) (nI 0) μ _ _ _ hp hB (lv_sub hl [2, 3, 4, 1, 0] rfl)
def pX0_marksFault_59 (z : Nat) (Q : Int32 → zM → Prop) : Nat → Nat → Int32 → zM → Prop
  | 0, _, _, _ => False
  | n + 1, x2, x3, μ => (pX3_many z x2 μ fun r2 μ1 => (if r2 ≤ x3 then Q (nI 0) μ1 else (pX3_number z x2 x3 μ1 fun r4 μ3 => (pX0_in z r4 (1 : Int64) (60 : Int64) μ3 fun r6 μ5 => (if r6 = 0 then Q (-3 : Int32) μ5 else (pX3_number z x2 (x3 + (nI 1)) μ5 fun r8 μ7 => (pX0_in z r8 (0 : Int64) (99999 : Int64) μ7 fun r10 μ9 => (if r10 = 0 then Q (-3 : Int32) μ9 else pX0_marksFault_59 z Q n x2 (x3 + (nI 2)) μ9))))))))
set_option maxHeartbeats 4000000 in
set_option maxRecDepth 100000 in
theorem wX0_marksFault_59 {p : Program} {l : Launch} {e : Env} {s : State} {m : MethodId} {args : Array Value} {below : List Frame} {meth : Method} {c : Code} {Γ : zG} {μ0 : zM} {Q : Int32 → zM → Prop} (X : zCx p m c cX0_marksFault 4 s args RX0 meth (some .int)) (z : Nat) : ∀ (n : Nat) (x2 : Nat) (x3 : Int32) (μ : zM) (H : Heap) (locs : List Loc) (ls : Array Slot), pX0_marksFault_59 z Q n x2 x3 μ → zB Γ (cSh z) (zA μ0) μ0 s μ H locs → lv_has ls 4 [(2, .ref x2), (3, .int x3)] → W p l e ({ frames := 2, cells := 0, slots := 0, locals := 45 } : Room) s m args below meth c H locs 0 0 (MQ below (va_Qi Q (zPost Γ (cSh z) μ0) (zA μ0)) args s 0 0 (zA μ0)) (F0 m 59 ls []) := by
  have S := X.1
  obtain ⟨hx, hb, hml, hown, hts⟩ := X.1
  intro n
  induction n with
  | zero =>
    intro x2 x3 μ H locs ls hp
    exact hp.elim
  | succ n ih =>
    intro x2 x3 μ H locs ls hp hB hl
    unfold pX0_marksFault_59 at hp
    refine lv_iload_n hx hb dX0_marksFault_59 rfl (lv_at hl 1 rfl) ?_
    refine lv_aload_n hx hb dX0_marksFault_60 rfl (lv_at hl 0 rfl) ?_
    refine z_calli (va_runV (As := []) (rest := [.int x3]) S (mX3_many l Γ z x2 μ _ hp) (cwV 0 hts (lw_V q954 q955 q956 q130 q957) rfl rfl rfl hX3_many ⟨Nat.le_of_ble_eq_true rfl, Nat.le_of_ble_eq_true rfl⟩) (hB.preV (tX3_many hp) rfl rfl) rfl rfl hl.1 rfl (lv_room (Nat.le_of_ble_eq_true rfl)) dX0_marksFault_61 ⟨Nat.le_refl _, Nat.le_refl _⟩) hB (fun r2 μ1 H locs hp hB => ?_)
    refine lv_icmp_ge (tgt := 108) hx hb dX0_marksFault_64 rfl (fun c0 => ?_) (fun c0 => ?_)
    · have hp := zit hp c0
      refine lv_iconst (v := (nI 0)) hx hb dX0_marksFault_108 rfl ?_
      exact zret_i X hB hp dX0_marksFault_109
    · have hp := zif hp c0
      refine lv_aload_n hx hb dX0_marksFault_67 rfl (lv_at hl 0 rfl) ?_
      refine lv_iload_n hx hb dX0_marksFault_68 rfl (lv_at hl 1 rfl) ?_
      refine z_calll (va_runV (As := [.int x3]) (rest := []) S (mX3_number l Γ z x2 x3 μ1 _ hp) (cwV 1 hts (lw_V q962 q963 q964 q130 q965) rfl rfl rfl hX3_number ⟨Nat.le_of_ble_eq_true rfl, Nat.le_of_ble_eq_true rfl⟩) (hB.preV (tX3_number hp) rfl rfl) rfl rfl hl.1 rfl (lv_room (Nat.le_of_ble_eq_true rfl)) dX0_marksFault_69 ⟨Nat.le_refl _, Nat.le_refl _⟩) hB (fun r4 μ3 H locs hp hB => ?_)
      refine lv_lconst (v := (1 : Int64)) hx hb dX0_marksFault_72 rfl ?_
      refine lv_ldc2 (v := (60 : Int64)) hx hb hown (hts _ q1084) dX0_marksFault_73 ?_
      refine z_calli (va_runS (As := [.long r4, .long (1 : Int64), .long (60 : Int64)]) (rest := []) S (mX0_in l Γ z r4 (1 : Int64) (60 : Int64) μ3 _ hp) (va_cwS 3 hts (lw_S q418 q419 q127 q420) rfl rfl rfl hX0_in ⟨Nat.le_of_ble_eq_true rfl, Nat.le_of_ble_eq_true rfl⟩) hB.preS rfl rfl hl.1 rfl (lv_room (Nat.le_of_ble_eq_true rfl)) dX0_marksFault_76 ⟨Nat.le_refl _, Nat.le_refl _⟩) hB (fun r6 μ5 H locs hp hB => ?_)
      refine lv_if_eq (tgt := 99) hx hb dX0_marksFault_79 rfl (fun c0 => ?_) (fun c0 => ?_)
      · have hp := zit hp c0
        refine lv_bipush (v := (-3 : Int32)) hx hb dX0_marksFault_99 rfl ?_
        exact zret_i X hB hp dX0_marksFault_101
      · have hp := zif hp c0
        refine lv_aload_n hx hb dX0_marksFault_82 rfl (lv_at hl 0 rfl) ?_
        refine lv_iload_n hx hb dX0_marksFault_83 rfl (lv_at hl 1 rfl) ?_
        refine lv_iconst (v := (nI 1)) hx hb dX0_marksFault_84 rfl ?_
        refine lv_iadd hx hb dX0_marksFault_85 ?_
        refine z_calll (va_runV (As := [.int (x3 + (nI 1))]) (rest := []) S (mX3_number l Γ z x2 (x3 + (nI 1)) μ5 _ hp) (cwV 1 hts (lw_V q962 q963 q964 q130 q965) rfl rfl rfl hX3_number ⟨Nat.le_of_ble_eq_true rfl, Nat.le_of_ble_eq_true rfl⟩) (hB.preV (tX3_number hp) rfl rfl) rfl rfl hl.1 rfl (lv_room (Nat.le_of_ble_eq_true rfl)) dX0_marksFault_86 ⟨Nat.le_refl _, Nat.le_refl _⟩) hB (fun r8 μ7 H locs hp hB => ?_)
        refine lv_lconst (v := (0 : Int64)) hx hb dX0_marksFault_89 rfl ?_
        refine lv_ldc2 (v := (99999 : Int64)) hx hb hown (hts _ q1176) dX0_marksFault_90 ?_
        refine z_calli (va_runS (As := [.long r8, .long (0 : Int64), .long (99999 : Int64)]) (rest := []) S (mX0_in l Γ z r8 (0 : Int64) (99999 : Int64) μ7 _ hp) (va_cwS 3 hts (lw_S q418 q419 q127 q420) rfl rfl rfl hX0_in ⟨Nat.le_of_ble_eq_true rfl, Nat.le_of_ble_eq_true rfl⟩) hB.preS rfl rfl hl.1 rfl (lv_room (Nat.le_of_ble_eq_true rfl)) dX0_marksFault_93 ⟨Nat.le_refl _, Nat.le_refl _⟩) hB (fun r10 μ9 H locs hp hB => ?_)
        refine lv_if_ne (tgt := 102) hx hb dX0_marksFault_96 rfl (fun c0 => ?_) (fun c0 => ?_)
        · have hp := zif hp c0
          refine lv_iinc (v := (x3 + (nI 2))) (lv' := [(3, .int (x3 + (nI 2))), (2, .ref x2)]) hx hb dX0_marksFault_102 hl (k := 1) rfl rfl (by decide) rfl (fun ls hl => ?_)
          refine lv_goto (tgt := 59) hx hb dX0_marksFault_105 rfl ?_
          exact ih x2 (x3 + (nI 2)) μ9 _ _ _ hp hB (lv_sub hl [1, 0] rfl)
        · have hp := zit hp c0
          refine lv_bipush (v := (-3 : Int32)) hx hb dX0_marksFault_99 rfl ?_
          exact zret_i X hB hp dX0_marksFault_101
def pX0_marksFault (z : Nat) (x1 : Int32) (μ : zM) (Q : Int32 → zM → Prop) : Prop := (pX0_isTray z x1 μ fun r2 μ1 => (if r2 = 0 then Q (-2 : Int32) μ1 else (vp_in x1 4 ∧ (zde (zR μ1 (z + 70) x1.toNatClampNeg) fun b3 => (zty μ1 b3 = some (.inl 3) ∧ (if (zR μ1 b3 0) = none then Q (-6 : Int32) μ1 else (pX3_many z b3 μ1 fun r7 μ6 => (if (r7 - r7 / (nI 2) * (nI 2)) = (nI 1) then Q (-4 : Int32) μ6 else (pX3_many z b3 μ6 fun r9 μ8 => (pX0_in z (r9.toInt64) (2 : Int64) (16 : Int64) μ8 fun r11 μ10 => (if r11 = 0 then Q (-4 : Int32) μ10 else ∃ k1, pX0_marksFault_59 z Q k1 b3 (nI 0) μ10)))))))))))
theorem hX0_marksFault : yX0_marksFault.cls = "SunkTower" ∧ yX0_marksFault.cls ≠ "java/lang/invoke/MethodHandle" ∧ yX0_marksFault.cls ≠ "java/lang/invoke/VarHandle" ∧ (parseMethodDescriptor yX0_marksFault.desc).map (fun d => d.parameters.length) = some 1 := by decide +kernel
set_option maxHeartbeats 4000000 in
set_option maxRecDepth 100000 in
theorem mX0_marksFault (l : Launch) (Γ : zG) (z : Nat) (x1 : Int32) (μ : zM) (Q : Int32 → zM → Prop) (hp : pX0_marksFault z x1 μ Q) : Met l yX0_marksFault (ws_ yX0_marksFault cX0_marksFault 4 (some .int)) ({ frames := 2, cells := 0, slots := 0, locals := 45 } : Room) (va_Pc [.ref z, .int x1] (zPre Γ (cSh z) μ)) (va_Qi Q (zPost Γ (cSh z) μ) (zA μ)) 0 0 (zA μ) := by
  refine zstart (by decide) (Nat.le_of_ble_eq_true rfl) ?_
  intro p e s m below meth c ls X hnm hB hl
  have X : zCx p m c cX0_marksFault 4 s [.ref z, .int x1].toArray RX0 meth (some .int) := X
  have S := X.1
  obtain ⟨hx, hb, hml, hown, hts⟩ := X.1
  have hl : lv_has ls 4 [(0, .ref z), (1, .int x1)] := hl
  unfold pX0_marksFault at hp
  refine lv_iload_n hx hb dX0_marksFault_0 rfl (lv_at hl 1 rfl) ?_
  refine z_calli (va_runS (As := [.int x1]) (rest := []) S (mX0_isTray l Γ z x1 μ _ hp) (va_cwS 1 hts (lw_S q946 q947 q127 q948) rfl rfl rfl hX0_isTray ⟨Nat.le_of_ble_eq_true rfl, Nat.le_of_ble_eq_true rfl⟩) hB.preS rfl rfl hl.1 rfl (lv_room (Nat.le_of_ble_eq_true rfl)) dX0_marksFault_1 ⟨Nat.le_refl _, Nat.le_refl _⟩) hB (fun r2 μ1 H locs hp hB => ?_)
  refine lv_if_ne (tgt := 10) hx hb dX0_marksFault_4 rfl (fun c0 => ?_) (fun c0 => ?_)
  · have hp := zif hp c0
    refine lv_aload_n hx hb dX0_marksFault_10 rfl (lv_at hl 0 rfl) ?_
    refine g_getr S hB (cT hB) rfl (T := TX0) (N := 33) (C := RX0) rfl in_X0 30 (by decide) (by decide) q336 (fun _ h9 => h9) (fun _ => rfl) (cA hB 17 rfl).1 dX0_marksFault_11 ?_
    refine lv_iload_n hx hb dX0_marksFault_14 rfl (lv_at hl 1 rfl) ?_
    obtain ⟨hi, hp⟩ := hp
    refine g_aald S hB (t0 := 6) (cA hB 17 rfl).2 rfl rfl hi dX0_marksFault_15 ?_
    obtain ⟨b3, eb, hp⟩ := hp
    refine W.eq (g2 := F0 m 16 ls [.ref b3]) (by rw [eb]; rfl) ?_
    refine lv_astore_n (lv' := [(2, .ref b3), (0, .ref z), (1, .int x1)]) hx hb dX0_marksFault_16 rfl hl (by decide) rfl (fun ls hl => ?_)
    refine lv_aload_n hx hb dX0_marksFault_17 rfl (lv_at hl 0 rfl) ?_
    obtain ⟨ht4, hp⟩ := hp
    refine g_getN S hB ht4 rfl (T := TX3) (N := 1) (C := RX3) rfl in_X3 0 (by decide) (by decide) (zNFw hB 12 rfl) (fun _ h9 => h9) (v := va_rf (zR μ1 b3 0)) rfl dX0_marksFault_18 ?_
    refine g_ifnonnull (tgt := 27) hx hb dX0_marksFault_21 rfl (fun c0 => ?_) (fun c0 => ?_)
    · have hp := zit hp c0
      refine lv_bipush (v := (-6 : Int32)) hx hb dX0_marksFault_24 rfl ?_
      exact zret_i X hB hp dX0_marksFault_26
    · have hp := zif hp c0
      refine lv_aload_n hx hb dX0_marksFault_27 rfl (lv_at hl 0 rfl) ?_
      refine z_calli (va_runV (As := []) (rest := []) S (mX3_many l Γ z b3 μ1 _ hp) (cwV 0 hts (lw_V q954 q955 q956 q130 q957) rfl rfl rfl hX3_many ⟨Nat.le_of_ble_eq_true rfl, Nat.le_of_ble_eq_true rfl⟩) (hB.preV (tX3_many hp) rfl rfl) rfl rfl hl.1 rfl (lv_room (Nat.le_of_ble_eq_true rfl)) dX0_marksFault_28 ⟨Nat.le_refl _, Nat.le_refl _⟩) hB (fun r7 μ6 H locs hp hB => ?_)
      refine lv_iconst (v := (nI 2)) hx hb dX0_marksFault_31 rfl ?_
      refine lv_irem hx hb dX0_marksFault_32 (by decide) ?_
      refine lv_iconst (v := (nI 1)) hx hb dX0_marksFault_33 rfl ?_
      refine lv_icmp_eq (tgt := 54) hx hb dX0_marksFault_34 rfl (fun c0 => ?_) (fun c0 => ?_)
      · have hp := zit hp c0
        refine lv_bipush (v := (-4 : Int32)) hx hb dX0_marksFault_54 rfl ?_
        exact zret_i X hB hp dX0_marksFault_56
      · have hp := zif hp c0
        refine lv_aload_n hx hb dX0_marksFault_37 rfl (lv_at hl 0 rfl) ?_
        refine z_calli (va_runV (As := []) (rest := []) S (mX3_many l Γ z b3 μ6 _ hp) (cwV 0 hts (lw_V q954 q955 q956 q130 q957) rfl rfl rfl hX3_many ⟨Nat.le_of_ble_eq_true rfl, Nat.le_of_ble_eq_true rfl⟩) (hB.preV (tX3_many hp) rfl rfl) rfl rfl hl.1 rfl (lv_room (Nat.le_of_ble_eq_true rfl)) dX0_marksFault_38 ⟨Nat.le_refl _, Nat.le_refl _⟩) hB (fun r9 μ8 H locs hp hB => ?_)
        refine lv_i2l hx hb dX0_marksFault_41 rfl ?_
        refine lv_ldc2 (v := (2 : Int64)) hx hb hown (hts _ q752) dX0_marksFault_42 ?_
        refine lv_ldc2 (v := (16 : Int64)) hx hb hown (hts _ q1175) dX0_marksFault_45 ?_
        refine z_calli (va_runS (As := [.long (r9.toInt64), .long (2 : Int64), .long (16 : Int64)]) (rest := []) S (mX0_in l Γ z (r9.toInt64) (2 : Int64) (16 : Int64) μ8 _ hp) (va_cwS 3 hts (lw_S q418 q419 q127 q420) rfl rfl rfl hX0_in ⟨Nat.le_of_ble_eq_true rfl, Nat.le_of_ble_eq_true rfl⟩) hB.preS rfl rfl hl.1 rfl (lv_room (Nat.le_of_ble_eq_true rfl)) dX0_marksFault_48 ⟨Nat.le_refl _, Nat.le_refl _⟩) hB (fun r11 μ10 H locs hp hB => ?_)
        refine lv_if_ne (tgt := 57) hx hb dX0_marksFault_51 rfl (fun c0 => ?_) (fun c0 => ?_)
        · have hp := zif hp c0
          refine lv_iconst (v := (nI 0)) hx hb dX0_marksFault_57 rfl ?_
          refine lv_istore_n (lv' := [(3, .int (nI 0)), (2, .ref b3), (0, .ref z), (1, .int x1)]) hx hb dX0_marksFault_58 rfl hl (by decide) rfl (fun ls hl => ?_)
          obtain ⟨n1, hp⟩ := hp
          exact wX0_marksFault_59 X z n1 b3 (nI 0) μ10 _ _ _ hp hB (lv_sub hl [1, 0] rfl)
        · have hp := zit hp c0
          refine lv_bipush (v := (-4 : Int32)) hx hb dX0_marksFault_54 rfl ?_
          exact zret_i X hB hp dX0_marksFault_56
  · have hp := zit hp c0
    refine lv_bipush (v := (-2 : Int32)) hx hb dX0_marksFault_7 rfl ?_
    exact zret_i X hB hp dX0_marksFault_9
def pX0_fitsMark (z : Nat) (x1 : Nat) (x2 : Int32) (μ : zM) (Q : Int32 → zM → Prop) : Prop := zty μ x1 = some (.inl 3) ∧ (pX3_number z x1 ((nI 2) * x2) μ fun r2 μ1 => (vp_in (r2.toInt32) 61 ∧ (pX3_number z x1 (((nI 2) * x2) + (nI 1)) μ1 fun r4 μ3 => (if (lg_cmp ((zI μ1 (z + 65) (r2.toInt32).toNatClampNeg).toInt64) r4) = 0 then Q (nI 1) μ3 else Q (nI 0) μ3))))
theorem hX0_fitsMark : yX0_fitsMark.cls = "SunkTower" ∧ yX0_fitsMark.cls ≠ "java/lang/invoke/MethodHandle" ∧ yX0_fitsMark.cls ≠ "java/lang/invoke/VarHandle" ∧ (parseMethodDescriptor yX0_fitsMark.desc).map (fun d => d.parameters.length) = some 2 := by decide +kernel
set_option maxHeartbeats 4000000 in
set_option maxRecDepth 100000 in
theorem mX0_fitsMark (l : Launch) (Γ : zG) (z : Nat) (x1 : Nat) (x2 : Int32) (μ : zM) (Q : Int32 → zM → Prop) (hp : pX0_fitsMark z x1 x2 μ Q) : Met l yX0_fitsMark (ws_ yX0_fitsMark cX0_fitsMark 3 (some .boolean)) ({ frames := 1, cells := 0, slots := 0, locals := 21 } : Room) (va_Pc [.ref z, .ref x1, .int x2] (zPre Γ (cSh z) μ)) (va_Qi Q (zPost Γ (cSh z) μ) (zA μ)) 0 0 (zA μ) := by
  refine zstart (by decide) (Nat.le_of_ble_eq_true rfl) ?_
  intro p e s m below meth c ls X hnm hB hl
  have X : zCx p m c cX0_fitsMark 3 s [.ref z, .ref x1, .int x2].toArray RX0 meth (some .boolean) := X
  have S := X.1
  obtain ⟨hx, hb, hml, hown, hts⟩ := X.1
  have hl : lv_has ls 3 [(0, .ref z), (1, .ref x1), (2, .int x2)] := hl
  obtain ⟨ht_x1, hp⟩ := hp
  refine lv_aload_n hx hb dX0_fitsMark_0 rfl (lv_at hl 0 rfl) ?_
  refine g_getr S hB (cT hB) rfl (T := TX0) (N := 33) (C := RX0) rfl in_X0 25 (by decide) (by decide) q331 (fun _ h9 => h9) (fun _ => rfl) (cA hB 12 rfl).1 dX0_fitsMark_1 ?_
  refine lv_aload_n hx hb dX0_fitsMark_4 rfl (lv_at hl 1 rfl) ?_
  refine lv_iconst (v := (nI 2)) hx hb dX0_fitsMark_5 rfl ?_
  refine lv_iload_n hx hb dX0_fitsMark_6 rfl (lv_at hl 2 rfl) ?_
  refine lv_imul hx hb dX0_fitsMark_7 ?_
  refine z_calll (va_runV (As := [.int ((nI 2) * x2)]) (rest := [.ref (z + 65)]) S (mX3_number l Γ z x1 ((nI 2) * x2) μ _ hp) (cwV 1 hts (lw_V q962 q963 q964 q130 q965) rfl rfl rfl hX3_number ⟨Nat.le_of_ble_eq_true rfl, Nat.le_of_ble_eq_true rfl⟩) (hB.preV (tX3_number hp) rfl rfl) rfl rfl hl.1 rfl (lv_room (Nat.le_of_ble_eq_true rfl)) dX0_fitsMark_8 ⟨Nat.le_refl _, Nat.le_refl _⟩) hB (fun r2 μ1 H locs hp hB => ?_)
  refine lv_l2i hx hb dX0_fitsMark_11 rfl ?_
  obtain ⟨hi, hp⟩ := hp
  refine g_iald S hB (cA hB 12 rfl).2 hi dX0_fitsMark_12 ?_
  refine lv_i2l hx hb dX0_fitsMark_13 rfl ?_
  refine lv_aload_n hx hb dX0_fitsMark_14 rfl (lv_at hl 1 rfl) ?_
  refine lv_iconst (v := (nI 2)) hx hb dX0_fitsMark_15 rfl ?_
  refine lv_iload_n hx hb dX0_fitsMark_16 rfl (lv_at hl 2 rfl) ?_
  refine lv_imul hx hb dX0_fitsMark_17 ?_
  refine lv_iconst (v := (nI 1)) hx hb dX0_fitsMark_18 rfl ?_
  refine lv_iadd hx hb dX0_fitsMark_19 ?_
  refine z_calll (va_runV (As := [.int (((nI 2) * x2) + (nI 1))]) (rest := [.long ((zI μ1 (z + 65) (r2.toInt32).toNatClampNeg).toInt64)]) S (mX3_number l Γ z x1 (((nI 2) * x2) + (nI 1)) μ1 _ hp) (cwV 1 hts (lw_V q962 q963 q964 q130 q965) rfl rfl rfl hX3_number ⟨Nat.le_of_ble_eq_true rfl, Nat.le_of_ble_eq_true rfl⟩) (hB.preV (tX3_number hp) rfl rfl) rfl rfl hl.1 rfl (lv_room (Nat.le_of_ble_eq_true rfl)) dX0_fitsMark_20 ⟨Nat.le_refl _, Nat.le_refl _⟩) hB (fun r4 μ3 H locs hp hB => ?_)
  refine W.lcmp hx hb dX0_fitsMark_23 ?_
  refine lv_if_ne (tgt := 31) hx hb dX0_fitsMark_24 rfl (fun c0 => ?_) (fun c0 => ?_)
  · have hp := zif hp c0
    refine lv_iconst (v := (nI 0)) hx hb dX0_fitsMark_31 rfl ?_
    exact zret_z X hB rfl hp dX0_fitsMark_32
  · have hp := zit hp c0
    refine lv_iconst (v := (nI 1)) hx hb dX0_fitsMark_27 rfl ?_
    refine lv_goto (tgt := 32) hx hb dX0_fitsMark_28 rfl ?_
    exact zret_z X hB rfl hp dX0_fitsMark_32
def pX0_laysAlike_76 (z : Nat) (x1 : Int32) (K2 : Int32 → zM → Prop) (Q : zM → Prop) : Nat → Int32 → Int32 → zM → Prop
  | 0, _, _, _ => False
  | n + 1, x2, x3, μ => (if x1 ≤ x3 then K2 (x2 + (nI 1)) μ else (vp_in x3 1000 ∧ (pX0_sunkOf z (zI μ (z + 66) x3.toNatClampNeg) x2 μ fun r2 μ1 => (vp_in r2 100000 ∧ zpI μ1 (z + 67) r2.toNatClampNeg (nI 0) fun μ3 => pX0_laysAlike_76 z x1 K2 Q n x2 (x3 + (nI 1)) μ3))))
set_option maxHeartbeats 4000000 in
set_option maxRecDepth 100000 in
theorem wX0_laysAlike_76 {p : Program} {l : Launch} {e : Env} {s : State} {m : MethodId} {args : Array Value} {below : List Frame} {meth : Method} {c : Code} {Γ : zG} {μ0 : zM} {Q : zM → Prop} {K2 : Int32 → zM → Prop} (X : zCx p m c cX0_laysAlike 5 s args RX0 meth none) (z : Nat) (x1 : Int32) (hK2 : ∀ (x2 : Int32) (μ : zM) (H : Heap) (locs : List Loc) (ls : Array Slot), K2 x2 μ → zB Γ (cSh z) (zA μ0) μ0 s μ H locs → lv_has ls 5 [(0, .ref z), (1, .int x1), (2, .int x2)] → W p l e ({ frames := 1, cells := 0, slots := 0, locals := 24 } : Room) s m args below meth c H locs 0 0 (MQ below (va_Qv Q (zPost Γ (cSh z) μ0) (zA μ0)) args s 0 0 (zA μ0)) (F0 m 2 ls [])) : ∀ (n : Nat) (x2 : Int32) (x3 : Int32) (μ : zM) (H : Heap) (locs : List Loc) (ls : Array Slot), pX0_laysAlike_76 z x1 K2 Q n x2 x3 μ → zB Γ (cSh z) (zA μ0) μ0 s μ H locs → lv_has ls 5 [(0, .ref z), (1, .int x1), (2, .int x2), (3, .int x3)] → W p l e ({ frames := 1, cells := 0, slots := 0, locals := 24 } : Room) s m args below meth c H locs 0 0 (MQ below (va_Qv Q (zPost Γ (cSh z) μ0) (zA μ0)) args s 0 0 (zA μ0)) (F0 m 76 ls []) := by
  have S := X.1
  obtain ⟨hx, hb, hml, hown, hts⟩ := X.1
  intro n
  induction n with
  | zero =>
    intro x2 x3 μ H locs ls hp
    exact hp.elim
  | succ n ih =>
    intro x2 x3 μ H locs ls hp hB hl
    unfold pX0_laysAlike_76 at hp
    refine lv_iload_n hx hb dX0_laysAlike_76 rfl (lv_at hl 3 rfl) ?_
    refine lv_iload_n hx hb dX0_laysAlike_77 rfl (lv_at hl 1 rfl) ?_
    refine lv_icmp_ge (tgt := 104) hx hb dX0_laysAlike_78 rfl (fun c0 => ?_) (fun c0 => ?_)
    · have hp := zit hp c0
      refine lv_iinc (v := (x2 + (nI 1))) (lv' := [(2, .int (x2 + (nI 1))), (0, .ref z), (1, .int x1), (3, .int x3)]) hx hb dX0_laysAlike_104 hl (k := 2) rfl rfl (by decide) rfl (fun ls hl => ?_)
      refine lv_goto (tgt := 2) hx hb dX0_laysAlike_107 rfl ?_
      exact hK2 (x2 + (nI 1)) μ _ _ _ hp hB (lv_sub hl [1, 2, 0] rfl)
    · have hp := zif hp c0
      refine lv_aload_n hx hb dX0_laysAlike_81 rfl (lv_at hl 0 rfl) ?_
      refine g_getr S hB (cT hB) rfl (T := TX0) (N := 33) (C := RX0) rfl in_X0 27 (by decide) (by decide) q333 (fun _ h9 => h9) (fun _ => rfl) (cA hB 14 rfl).1 dX0_laysAlike_82 ?_
      refine lv_aload_n hx hb dX0_laysAlike_85 rfl (lv_at hl 0 rfl) ?_
      refine lv_aload_n hx hb dX0_laysAlike_86 rfl (lv_at hl 0 rfl) ?_
      refine g_getr S hB (cT hB) rfl (T := TX0) (N := 33) (C := RX0) rfl in_X0 26 (by decide) (by decide) q332 (fun _ h9 => h9) (fun _ => rfl) (cA hB 13 rfl).1 dX0_laysAlike_87 ?_
      refine lv_iload_n hx hb dX0_laysAlike_90 rfl (lv_at hl 3 rfl) ?_
      obtain ⟨hi, hp⟩ := hp
      refine g_iald S hB (cA hB 13 rfl).2 hi dX0_laysAlike_91 ?_
      refine lv_iload_n hx hb dX0_laysAlike_92 rfl (lv_at hl 2 rfl) ?_
      refine z_calli (va_runV (As := [.int (zI μ (z + 66) x3.toNatClampNeg), .int x2]) (rest := [.ref (z + 67)]) S (mX0_sunkOf l Γ z (zI μ (z + 66) x3.toNatClampNeg) x2 μ _ hp) (cwV 2 hts (lw_V q1201 q1203 qs55 q127 q1204) rfl rfl rfl hX0_sunkOf ⟨Nat.le_of_ble_eq_true rfl, Nat.le_of_ble_eq_true rfl⟩) (hB.preV (cT hB) rfl rfl) rfl rfl hl.1 rfl (lv_room (Nat.le_of_ble_eq_true rfl)) dX0_laysAlike_93 ⟨Nat.le_refl _, Nat.le_refl _⟩) hB (fun r2 μ1 H locs hp hB => ?_)
      refine lv_iconst (v := (nI 0)) hx hb dX0_laysAlike_96 rfl ?_
      obtain ⟨hi, hp⟩ := hp
      obtain ⟨μ3, eμ3, hp⟩ := zpI_e hp
      refine g_iast S hB (cA hB 14 rfl).2 hi dX0_laysAlike_97 (fun H locs hB => ?_)
      rw [← eμ3] at hB
      refine lv_iinc (v := (x3 + (nI 1))) (lv' := [(3, .int (x3 + (nI 1))), (0, .ref z), (1, .int x1), (2, .int x2)]) hx hb dX0_laysAlike_98 hl (k := 3) rfl rfl (by decide) rfl (fun ls hl => ?_)
      refine lv_goto (tgt := 76) hx hb dX0_laysAlike_101 rfl ?_
      exact ih x2 (x3 + (nI 1)) μ3 _ _ _ hp hB (lv_sub hl [1, 2, 3, 0] rfl)
def pX0_laysAlike_17 (z : Nat) (x1 : Int32) (K2 : Int32 → zM → Prop) (Q : zM → Prop) : Nat → Int32 → Int32 → zM → Prop
  | 0, _, _, _ => False
  | n + 1, x2, x3, μ => (if x1 ≤ x3 then ∃ k1, pX0_laysAlike_76 z x1 K2 Q k1 x2 (nI 0) μ else (vp_in x3 1000 ∧ (pX0_sunkOf z (zI μ (z + 66) x3.toNatClampNeg) x2 μ fun r2 μ1 => (vp_in r2 100000 ∧ (vp_in r2 100000 ∧ zpI μ1 (z + 67) r2.toNatClampNeg ((zI μ1 (z + 67) r2.toNatClampNeg) + (nI 1)) fun μ3 => (vp_in x2 61 ∧ (vp_in r2 100000 ∧ (vp_in x2 61 ∧ zpI μ3 (z + 68) x2.toNatClampNeg (if (zI μ3 (z + 68) x2.toNatClampNeg) < (zI μ3 (z + 67) r2.toNatClampNeg) then (zI μ3 (z + 67) r2.toNatClampNeg) else (zI μ3 (z + 68) x2.toNatClampNeg)) fun μ4 => pX0_laysAlike_17 z x1 K2 Q n x2 (x3 + (nI 1)) μ4))))))))
set_option maxHeartbeats 4000000 in
set_option maxRecDepth 100000 in
theorem wX0_laysAlike_17 {p : Program} {l : Launch} {e : Env} {s : State} {m : MethodId} {args : Array Value} {below : List Frame} {meth : Method} {c : Code} {Γ : zG} {μ0 : zM} {Q : zM → Prop} {K2 : Int32 → zM → Prop} (X : zCx p m c cX0_laysAlike 5 s args RX0 meth none) (z : Nat) (x1 : Int32) (hK2 : ∀ (x2 : Int32) (μ : zM) (H : Heap) (locs : List Loc) (ls : Array Slot), K2 x2 μ → zB Γ (cSh z) (zA μ0) μ0 s μ H locs → lv_has ls 5 [(0, .ref z), (1, .int x1), (2, .int x2)] → W p l e ({ frames := 1, cells := 0, slots := 0, locals := 24 } : Room) s m args below meth c H locs 0 0 (MQ below (va_Qv Q (zPost Γ (cSh z) μ0) (zA μ0)) args s 0 0 (zA μ0)) (F0 m 2 ls [])) : ∀ (n : Nat) (x2 : Int32) (x3 : Int32) (μ : zM) (H : Heap) (locs : List Loc) (ls : Array Slot), pX0_laysAlike_17 z x1 K2 Q n x2 x3 μ → zB Γ (cSh z) (zA μ0) μ0 s μ H locs → lv_has ls 5 [(0, .ref z), (1, .int x1), (2, .int x2), (3, .int x3)] → W p l e ({ frames := 1, cells := 0, slots := 0, locals := 24 } : Room) s m args below meth c H locs 0 0 (MQ below (va_Qv Q (zPost Γ (cSh z) μ0) (zA μ0)) args s 0 0 (zA μ0)) (F0 m 17 ls []) := by
  have S := X.1
  obtain ⟨hx, hb, hml, hown, hts⟩ := X.1
  intro n
  induction n with
  | zero =>
    intro x2 x3 μ H locs ls hp
    exact hp.elim
  | succ n ih =>
    intro x2 x3 μ H locs ls hp hB hl
    unfold pX0_laysAlike_17 at hp
    refine lv_iload_n hx hb dX0_laysAlike_17 rfl (lv_at hl 3 rfl) ?_
    refine lv_iload_n hx hb dX0_laysAlike_18 rfl (lv_at hl 1 rfl) ?_
    refine lv_icmp_ge (tgt := 74) hx hb dX0_laysAlike_19 rfl (fun c0 => ?_) (fun c0 => ?_)
    · have hp := zit hp c0
      refine lv_iconst (v := (nI 0)) hx hb dX0_laysAlike_74 rfl ?_
      refine lv_istore_n (lv' := [(3, .int (nI 0)), (0, .ref z), (1, .int x1), (2, .int x2)]) hx hb dX0_laysAlike_75 rfl hl (by decide) rfl (fun ls hl => ?_)
      obtain ⟨n1, hp⟩ := hp
      exact wX0_laysAlike_76 X z x1 hK2 n1 x2 (nI 0) μ _ _ _ hp hB (lv_sub hl [1, 2, 3, 0] rfl)
    · have hp := zif hp c0
      refine lv_aload_n hx hb dX0_laysAlike_22 rfl (lv_at hl 0 rfl) ?_
      refine lv_aload_n hx hb dX0_laysAlike_23 rfl (lv_at hl 0 rfl) ?_
      refine g_getr S hB (cT hB) rfl (T := TX0) (N := 33) (C := RX0) rfl in_X0 26 (by decide) (by decide) q332 (fun _ h9 => h9) (fun _ => rfl) (cA hB 13 rfl).1 dX0_laysAlike_24 ?_
      refine lv_iload_n hx hb dX0_laysAlike_27 rfl (lv_at hl 3 rfl) ?_
      obtain ⟨hi, hp⟩ := hp
      refine g_iald S hB (cA hB 13 rfl).2 hi dX0_laysAlike_28 ?_
      refine lv_iload_n hx hb dX0_laysAlike_29 rfl (lv_at hl 2 rfl) ?_
      refine z_calli (va_runV (As := [.int (zI μ (z + 66) x3.toNatClampNeg), .int x2]) (rest := []) S (mX0_sunkOf l Γ z (zI μ (z + 66) x3.toNatClampNeg) x2 μ _ hp) (cwV 2 hts (lw_V q1201 q1203 qs55 q127 q1204) rfl rfl rfl hX0_sunkOf ⟨Nat.le_of_ble_eq_true rfl, Nat.le_of_ble_eq_true rfl⟩) (hB.preV (cT hB) rfl rfl) rfl rfl hl.1 rfl (lv_room (Nat.le_of_ble_eq_true rfl)) dX0_laysAlike_30 ⟨Nat.le_refl _, Nat.le_refl _⟩) hB (fun r2 μ1 H locs hp hB => ?_)
      refine lv_istore (lv' := [(4, .int r2), (0, .ref z), (1, .int x1), (2, .int x2), (3, .int x3)]) hx hb dX0_laysAlike_33 hl (by decide) rfl (fun ls hl => ?_)
      refine lv_aload_n hx hb dX0_laysAlike_35 rfl (lv_at hl 1 rfl) ?_
      refine g_getr S hB (cT hB) rfl (T := TX0) (N := 33) (C := RX0) rfl in_X0 27 (by decide) (by decide) q333 (fun _ h9 => h9) (fun _ => rfl) (cA hB 14 rfl).1 dX0_laysAlike_36 ?_
      refine lv_iload hx hb dX0_laysAlike_39 (lv_at hl 0 rfl) ?_
      refine lv_dup2_11 hx hb dX0_laysAlike_41 rfl rfl ?_
      obtain ⟨hi, hp⟩ := hp
      refine g_iald S hB (cA hB 14 rfl).2 hi dX0_laysAlike_42 ?_
      refine lv_iconst (v := (nI 1)) hx hb dX0_laysAlike_43 rfl ?_
      refine lv_iadd hx hb dX0_laysAlike_44 ?_
      obtain ⟨hi, hp⟩ := hp
      obtain ⟨μ3, eμ3, hp⟩ := zpI_e hp
      refine g_iast S hB (cA hB 14 rfl).2 hi dX0_laysAlike_45 (fun H locs hB => ?_)
      rw [← eμ3] at hB
      refine lv_aload_n hx hb dX0_laysAlike_46 rfl (lv_at hl 1 rfl) ?_
      refine g_getr S hB (cT hB) rfl (T := TX0) (N := 33) (C := RX0) rfl in_X0 28 (by decide) (by decide) q334 (fun _ h9 => h9) (fun _ => rfl) (cA hB 15 rfl).1 dX0_laysAlike_47 ?_
      refine lv_iload_n hx hb dX0_laysAlike_50 rfl (lv_at hl 3 rfl) ?_
      refine lv_aload_n hx hb dX0_laysAlike_51 rfl (lv_at hl 1 rfl) ?_
      refine g_getr S hB (cT hB) rfl (T := TX0) (N := 33) (C := RX0) rfl in_X0 28 (by decide) (by decide) q334 (fun _ h9 => h9) (fun _ => rfl) (cA hB 15 rfl).1 dX0_laysAlike_52 ?_
      refine lv_iload_n hx hb dX0_laysAlike_55 rfl (lv_at hl 3 rfl) ?_
      obtain ⟨hi, hp⟩ := hp
      refine g_iald S hB (cA hB 15 rfl).2 hi dX0_laysAlike_56 ?_
      refine lv_aload_n hx hb dX0_laysAlike_57 rfl (lv_at hl 1 rfl) ?_
      refine g_getr S hB (cT hB) rfl (T := TX0) (N := 33) (C := RX0) rfl in_X0 27 (by decide) (by decide) q333 (fun _ h9 => h9) (fun _ => rfl) (cA hB 14 rfl).1 dX0_laysAlike_58 ?_
      refine lv_iload hx hb dX0_laysAlike_61 (lv_at hl 0 rfl) ?_
      obtain ⟨hi, hp⟩ := hp
      refine g_iald S hB (cA hB 14 rfl).2 hi dX0_laysAlike_63 ?_
      refine va_mmax hx hb (hml.trans hl.1.symm) hown (hts _ q1205) (hts _ q521) (hts _ q136) (hts _ q522) (Nat.le_of_ble_eq_true rfl) (Nat.le_of_ble_eq_true rfl) (Nat.le_refl _) (Nat.le_refl _) dX0_laysAlike_64 ?_
      obtain ⟨hi, hp⟩ := hp
      obtain ⟨μ4, eμ4, hp⟩ := zpI_e hp
      refine g_iast S hB (cA hB 15 rfl).2 hi dX0_laysAlike_67 (fun H locs hB => ?_)
      rw [← eμ4] at hB
      refine lv_iinc (v := (x3 + (nI 1))) (lv' := [(3, .int (x3 + (nI 1))), (4, .int r2), (0, .ref z), (1, .int x1), (2, .int x2)]) hx hb dX0_laysAlike_68 hl (k := 4) rfl rfl (by decide) rfl (fun ls hl => ?_)
      refine lv_goto (tgt := 17) hx hb dX0_laysAlike_71 rfl ?_
      exact ih x2 (x3 + (nI 1)) μ4 _ _ _ hp hB (lv_sub hl [2, 3, 4, 0] rfl)
def pX0_laysAlike_2 (z : Nat) (x1 : Int32) (Q : zM → Prop) : Nat → Int32 → zM → Prop
  | 0, _, _ => False
  | n + 1, x2, μ => (if (nI 60) < x2 then Q μ else (vp_in x2 61 ∧ zpI μ (z + 68) x2.toNatClampNeg (nI 0) fun μ1 => ∃ k1, pX0_laysAlike_17 z x1 (fun v0 ν => pX0_laysAlike_2 z x1 Q n v0 ν) Q k1 x2 (nI 0) μ1))
set_option maxHeartbeats 4000000 in
set_option maxRecDepth 100000 in
theorem wX0_laysAlike_2 {p : Program} {l : Launch} {e : Env} {s : State} {m : MethodId} {args : Array Value} {below : List Frame} {meth : Method} {c : Code} {Γ : zG} {μ0 : zM} {Q : zM → Prop} (X : zCx p m c cX0_laysAlike 5 s args RX0 meth none) (z : Nat) (x1 : Int32) : ∀ (n : Nat) (x2 : Int32) (μ : zM) (H : Heap) (locs : List Loc) (ls : Array Slot), pX0_laysAlike_2 z x1 Q n x2 μ → zB Γ (cSh z) (zA μ0) μ0 s μ H locs → lv_has ls 5 [(0, .ref z), (1, .int x1), (2, .int x2)] → W p l e ({ frames := 1, cells := 0, slots := 0, locals := 24 } : Room) s m args below meth c H locs 0 0 (MQ below (va_Qv Q (zPost Γ (cSh z) μ0) (zA μ0)) args s 0 0 (zA μ0)) (F0 m 2 ls []) := by
  have S := X.1
  obtain ⟨hx, hb, hml, hown, hts⟩ := X.1
  intro n
  induction n with
  | zero =>
    intro x2 μ H locs ls hp
    exact hp.elim
  | succ n ih =>
    intro x2 μ H locs ls hp hB hl
    unfold pX0_laysAlike_2 at hp
    refine lv_iload_n hx hb dX0_laysAlike_2 rfl (lv_at hl 2 rfl) ?_
    refine lv_bipush (v := (nI 60)) hx hb dX0_laysAlike_3 rfl ?_
    refine lv_icmp_gt (tgt := 110) hx hb dX0_laysAlike_5 rfl (fun c0 => ?_) (fun c0 => ?_)
    · have hp := zit hp c0
      exact zret_v X hB hp dX0_laysAlike_110
    · have hp := zif hp c0
      refine lv_aload_n hx hb dX0_laysAlike_8 rfl (lv_at hl 0 rfl) ?_
      refine g_getr S hB (cT hB) rfl (T := TX0) (N := 33) (C := RX0) rfl in_X0 28 (by decide) (by decide) q334 (fun _ h9 => h9) (fun _ => rfl) (cA hB 15 rfl).1 dX0_laysAlike_9 ?_
      refine lv_iload_n hx hb dX0_laysAlike_12 rfl (lv_at hl 2 rfl) ?_
      refine lv_iconst (v := (nI 0)) hx hb dX0_laysAlike_13 rfl ?_
      obtain ⟨hi, hp⟩ := hp
      obtain ⟨μ1, eμ1, hp⟩ := zpI_e hp
      refine g_iast S hB (cA hB 15 rfl).2 hi dX0_laysAlike_14 (fun H locs hB => ?_)
      rw [← eμ1] at hB
      refine lv_iconst (v := (nI 0)) hx hb dX0_laysAlike_15 rfl ?_
      refine lv_istore_n (lv' := [(3, .int (nI 0)), (0, .ref z), (1, .int x1), (2, .int x2)]) hx hb dX0_laysAlike_16 rfl hl (by decide) rfl (fun ls hl => ?_)
      obtain ⟨n1, hp⟩ := hp
      exact wX0_laysAlike_17 X z x1 (fun v0 ν H2 L2 ls2 h2 b2 l2 => ih v0 ν H2 L2 ls2 h2 b2 l2) n1 x2 (nI 0) μ1 _ _ _ hp hB (lv_sub hl [1, 2, 3, 0] rfl)
def pX0_laysAlike (z : Nat) (x1 : Int32) (μ : zM) (Q : zM → Prop) : Prop := ∃ k1, pX0_laysAlike_2 z x1 Q k1 (nI 1) μ
theorem hX0_laysAlike : yX0_laysAlike.cls = "SunkTower" ∧ yX0_laysAlike.cls ≠ "java/lang/invoke/MethodHandle" ∧ yX0_laysAlike.cls ≠ "java/lang/invoke/VarHandle" ∧ (parseMethodDescriptor yX0_laysAlike.desc).map (fun d => d.parameters.length) = some 1 := by decide +kernel
set_option maxHeartbeats 4000000 in
set_option maxRecDepth 100000 in
theorem mX0_laysAlike (l : Launch) (Γ : zG) (z : Nat) (x1 : Int32) (μ : zM) (Q : zM → Prop) (hp : pX0_laysAlike z x1 μ Q) : Met l yX0_laysAlike (ws_ yX0_laysAlike cX0_laysAlike 5 none) ({ frames := 1, cells := 0, slots := 0, locals := 24 } : Room) (va_Pc [.ref z, .int x1] (zPre Γ (cSh z) μ)) (va_Qv Q (zPost Γ (cSh z) μ) (zA μ)) 0 0 (zA μ) := by
  refine zstart (by decide) (Nat.le_of_ble_eq_true rfl) ?_
  intro p e s m below meth c ls X hnm hB hl
  have X : zCx p m c cX0_laysAlike 5 s [.ref z, .int x1].toArray RX0 meth none := X
  have S := X.1
  obtain ⟨hx, hb, hml, hown, hts⟩ := X.1
  have hl : lv_has ls 5 [(0, .ref z), (1, .int x1)] := hl
  unfold pX0_laysAlike at hp
  refine lv_iconst (v := (nI 1)) hx hb dX0_laysAlike_0 rfl ?_
  refine lv_istore_n (lv' := [(2, .int (nI 1)), (0, .ref z), (1, .int x1)]) hx hb dX0_laysAlike_1 rfl hl (by decide) rfl (fun ls hl => ?_)
  obtain ⟨n1, hp⟩ := hp
  exact wX0_laysAlike_2 X z x1 n1 (nI 1) μ _ _ _ hp hB (lv_sub hl [1, 2, 0] rfl)
def pX0_image (z : Nat) (x1 : Int32) (μ : zM) (Q : Int32 → zM → Prop) : Prop := (pX0_in z (x1.toInt64) (0 : Int64) (1 : Int64) μ fun r2 μ1 => (if r2 = 0 then Q (-2 : Int32) μ1 else (zde (zR μ1 z 0) fun b3 => (zty μ1 b3 = some (.inl 1) ∧ (vp_in x1 2 ∧ zpR μ1 (z + 75) x1.toNatClampNeg (some b3) fun μ5 => (vp_in x1 2 ∧ (zde (zR μ5 (z + 76) x1.toNatClampNeg) fun b6 => (pX2_be z b6 (z + 7) μ5 fun r8 μ7 => Q (nI 0) μ7))))))))
theorem hX0_image : yX0_image.cls = "SunkTower" ∧ yX0_image.cls ≠ "java/lang/invoke/MethodHandle" ∧ yX0_image.cls ≠ "java/lang/invoke/VarHandle" ∧ (parseMethodDescriptor yX0_image.desc).map (fun d => d.parameters.length) = some 1 := by decide +kernel
set_option maxHeartbeats 4000000 in
set_option maxRecDepth 100000 in
theorem mX0_image (l : Launch) (Γ : zG) (z : Nat) (x1 : Int32) (μ : zM) (Q : Int32 → zM → Prop) (hp : pX0_image z x1 μ Q) : Met l yX0_image (ws_ yX0_image cX0_image 2 (some .int)) ({ frames := 2, cells := 0, slots := 0, locals := 85 } : Room) (va_Pc [.ref z, .int x1] (zPre Γ (cSh z) μ)) (va_Qi Q (zPost Γ (cSh z) μ) (zA μ)) 0 0 (zA μ) := by
  refine zstart (by decide) (Nat.le_of_ble_eq_true rfl) ?_
  intro p e s m below meth c ls X hnm hB hl
  have X : zCx p m c cX0_image 2 s [.ref z, .int x1].toArray RX0 meth (some .int) := X
  have S := X.1
  obtain ⟨hx, hb, hml, hown, hts⟩ := X.1
  have hl : lv_has ls 2 [(0, .ref z), (1, .int x1)] := hl
  unfold pX0_image at hp
  refine lv_iload_n hx hb dX0_image_0 rfl (lv_at hl 1 rfl) ?_
  refine lv_i2l hx hb dX0_image_1 rfl ?_
  refine lv_lconst (v := (0 : Int64)) hx hb dX0_image_2 rfl ?_
  refine lv_lconst (v := (1 : Int64)) hx hb dX0_image_3 rfl ?_
  refine z_calli (va_runS (As := [.long (x1.toInt64), .long (0 : Int64), .long (1 : Int64)]) (rest := []) S (mX0_in l Γ z (x1.toInt64) (0 : Int64) (1 : Int64) μ _ hp) (va_cwS 3 hts (lw_S q418 q419 q127 q420) rfl rfl rfl hX0_in ⟨Nat.le_of_ble_eq_true rfl, Nat.le_of_ble_eq_true rfl⟩) hB.preS rfl rfl hl.1 rfl (lv_room (Nat.le_of_ble_eq_true rfl)) dX0_image_4 ⟨Nat.le_refl _, Nat.le_refl _⟩) hB (fun r2 μ1 H locs hp hB => ?_)
  refine lv_if_ne (tgt := 13) hx hb dX0_image_7 rfl (fun c0 => ?_) (fun c0 => ?_)
  · have hp := zif hp c0
    refine lv_aload_n hx hb dX0_image_13 rfl (lv_at hl 0 rfl) ?_
    refine g_getr S hB (cT hB) rfl (T := TX0) (N := 33) (C := RX0) rfl in_X0 31 (by decide) (by decide) q337 (fun _ h9 => h9) (fun _ => rfl) (cA hB 18 rfl).1 dX0_image_14 ?_
    refine lv_iload_n hx hb dX0_image_17 rfl (lv_at hl 1 rfl) ?_
    refine lv_aload_n hx hb dX0_image_18 rfl (lv_at hl 0 rfl) ?_
    refine g_get S hB (cT hB) rfl (T := TX0) (N := 33) (C := RX0) rfl in_X0 0 (by decide) (by decide) q304 (fun _ h9 => h9) (v := va_rf (zR μ1 z 0)) rfl dX0_image_19 ?_
    obtain ⟨b3, eb, hp⟩ := hp
    refine W.eq (g2 := F0 m 22 ls [.ref b3, .int x1, .ref (z + 75)]) (by rw [eb]; rfl) ?_
    obtain ⟨ht4, hp⟩ := hp
    obtain ⟨hi, hp⟩ := hp
    obtain ⟨μ5, eμ5, hp⟩ := zpR_e hp
    refine g_aast S hB (r := (RX1, TX1, 16)) (cA hB 18 rfl).2 rfl (fun _ => rfl) ht4 rfl hi (cSh_putA hB (cA hB 18 rfl).2 _) dX0_image_22 (fun H locs hB => ?_)
    rw [← eμ5] at hB
    refine lv_aload_n hx hb dX0_image_23 rfl (lv_at hl 0 rfl) ?_
    refine g_getr S hB (cT hB) rfl (T := TX0) (N := 33) (C := RX0) rfl in_X0 32 (by decide) (by decide) q338 (fun _ h9 => h9) (fun _ => rfl) (cA hB 19 rfl).1 dX0_image_24 ?_
    refine lv_iload_n hx hb dX0_image_27 rfl (lv_at hl 1 rfl) ?_
    obtain ⟨hi, hp⟩ := hp
    refine g_aald S hB (t0 := 5) (cA hB 19 rfl).2 rfl rfl hi dX0_image_28 ?_
    obtain ⟨b6, eb, hp⟩ := hp
    refine W.eq (g2 := F0 m 29 ls [.ref b6]) (by rw [eb]; rfl) ?_
    refine lv_aload_n hx hb dX0_image_29 rfl (lv_at hl 0 rfl) ?_
    refine g_getr S hB (cT hB) rfl (T := TX0) (N := 33) (C := RX0) rfl in_X0 1 (by decide) (by decide) q305 (fun _ h9 => h9) (fun _ => rfl) (cA hB 0 rfl).1 dX0_image_30 ?_
    refine z_callq (va_runV (As := [.ref (z + 7)]) (rest := []) S (mX2_be l Γ z b6 (z + 7) μ5 _ hp) (cwV 1 hts (lw_V q862 q863 q864 q129 q865) rfl rfl rfl hX2_be ⟨Nat.le_of_ble_eq_true rfl, Nat.le_of_ble_eq_true rfl⟩) (hB.preV (tX2_be hp) rfl rfl) rfl rfl hl.1 rfl (lv_room (Nat.le_of_ble_eq_true rfl)) dX0_image_33 ⟨Nat.le_refl _, Nat.le_refl _⟩) hB (fun r8 μ7 H locs hp hB => ?_)
    refine lv_pop hx hb dX0_image_36 (va_rf_c _) ?_
    refine lv_iconst (v := (nI 0)) hx hb dX0_image_37 rfl ?_
    exact zret_i X hB hp dX0_image_38
  · have hp := zit hp c0
    refine lv_bipush (v := (-2 : Int32)) hx hb dX0_image_10 rfl ?_
    exact zret_i X hB hp dX0_image_12
def pX0_restore (z : Nat) (x1 : Int32) (μ : zM) (Q : Int32 → zM → Prop) : Prop := (pX0_in z (x1.toInt64) (0 : Int64) (1 : Int64) μ fun r2 μ1 => (if r2 = 0 then Q (-2 : Int32) μ1 else (vp_in x1 2 ∧ (if (zR μ1 (z + 75) x1.toNatClampNeg) = none then Q (-5 : Int32) μ1 else (vp_in x1 2 ∧ (zpR μ1 z 0 (zR μ1 (z + 75) x1.toNatClampNeg) fun μ4 => (vp_in x1 2 ∧ (zde (zR μ4 (z + 76) x1.toNatClampNeg) fun b5 => (pX2_be z (z + 7) b5 μ4 fun r7 μ6 => (zpI μ6 z 8 (nI 0) fun μ8 => Q (nI 0) μ8))))))))))
theorem hX0_restore : yX0_restore.cls = "SunkTower" ∧ yX0_restore.cls ≠ "java/lang/invoke/MethodHandle" ∧ yX0_restore.cls ≠ "java/lang/invoke/VarHandle" ∧ (parseMethodDescriptor yX0_restore.desc).map (fun d => d.parameters.length) = some 1 := by decide +kernel
set_option maxHeartbeats 4000000 in
set_option maxRecDepth 100000 in
theorem mX0_restore (l : Launch) (Γ : zG) (z : Nat) (x1 : Int32) (μ : zM) (Q : Int32 → zM → Prop) (hp : pX0_restore z x1 μ Q) : Met l yX0_restore (ws_ yX0_restore cX0_restore 2 (some .int)) ({ frames := 2, cells := 0, slots := 0, locals := 85 } : Room) (va_Pc [.ref z, .int x1] (zPre Γ (cSh z) μ)) (va_Qi Q (zPost Γ (cSh z) μ) (zA μ)) 0 0 (zA μ) := by
  refine zstart (by decide) (Nat.le_of_ble_eq_true rfl) ?_
  intro p e s m below meth c ls X hnm hB hl
  have X : zCx p m c cX0_restore 2 s [.ref z, .int x1].toArray RX0 meth (some .int) := X
  have S := X.1
  obtain ⟨hx, hb, hml, hown, hts⟩ := X.1
  have hl : lv_has ls 2 [(0, .ref z), (1, .int x1)] := hl
  unfold pX0_restore at hp
  refine lv_iload_n hx hb dX0_restore_0 rfl (lv_at hl 1 rfl) ?_
  refine lv_i2l hx hb dX0_restore_1 rfl ?_
  refine lv_lconst (v := (0 : Int64)) hx hb dX0_restore_2 rfl ?_
  refine lv_lconst (v := (1 : Int64)) hx hb dX0_restore_3 rfl ?_
  refine z_calli (va_runS (As := [.long (x1.toInt64), .long (0 : Int64), .long (1 : Int64)]) (rest := []) S (mX0_in l Γ z (x1.toInt64) (0 : Int64) (1 : Int64) μ _ hp) (va_cwS 3 hts (lw_S q418 q419 q127 q420) rfl rfl rfl hX0_in ⟨Nat.le_of_ble_eq_true rfl, Nat.le_of_ble_eq_true rfl⟩) hB.preS rfl rfl hl.1 rfl (lv_room (Nat.le_of_ble_eq_true rfl)) dX0_restore_4 ⟨Nat.le_refl _, Nat.le_refl _⟩) hB (fun r2 μ1 H locs hp hB => ?_)
  refine lv_if_ne (tgt := 13) hx hb dX0_restore_7 rfl (fun c0 => ?_) (fun c0 => ?_)
  · have hp := zif hp c0
    refine lv_aload_n hx hb dX0_restore_13 rfl (lv_at hl 0 rfl) ?_
    refine g_getr S hB (cT hB) rfl (T := TX0) (N := 33) (C := RX0) rfl in_X0 31 (by decide) (by decide) q337 (fun _ h9 => h9) (fun _ => rfl) (cA hB 18 rfl).1 dX0_restore_14 ?_
    refine lv_iload_n hx hb dX0_restore_17 rfl (lv_at hl 1 rfl) ?_
    obtain ⟨hi, hp⟩ := hp
    refine g_aald S hB (t0 := 7) (cA hB 18 rfl).2 rfl rfl hi dX0_restore_18 ?_
    refine g_ifnonnull (tgt := 25) hx hb dX0_restore_19 rfl (fun c0 => ?_) (fun c0 => ?_)
    · have hp := zit hp c0
      refine lv_bipush (v := (-5 : Int32)) hx hb dX0_restore_22 rfl ?_
      exact zret_i X hB hp dX0_restore_24
    · have hp := zif hp c0
      refine lv_aload_n hx hb dX0_restore_25 rfl (lv_at hl 0 rfl) ?_
      refine lv_aload_n hx hb dX0_restore_26 rfl (lv_at hl 0 rfl) ?_
      refine g_getr S hB (cT hB) rfl (T := TX0) (N := 33) (C := RX0) rfl in_X0 31 (by decide) (by decide) q337 (fun _ h9 => h9) (fun _ => rfl) (cA hB 18 rfl).1 dX0_restore_27 ?_
      refine lv_iload_n hx hb dX0_restore_30 rfl (lv_at hl 1 rfl) ?_
      obtain ⟨hi, hp⟩ := hp
      refine g_aald S hB (t0 := 7) (cA hB 18 rfl).2 rfl rfl hi dX0_restore_31 ?_
      obtain ⟨μ4, eμ4, hp⟩ := zpR_e hp
      refine g_putR S hB (cT hB) rfl (T := TX0) (N := 33) (C := RX0) rfl in_X0 0 (by decide) (by decide) (x := (zR μ1 (z + 75) x1.toNatClampNeg)) tyX0 tyX0_ok nmX0 q304 (fun _ h9 => h9) rfl (ty := .object "SunkTower$Tower") (by decide +kernel) (zfits_o _ _) (znar_o _ _) (fun _ _ => rfl) (cSh_put hB (cT hB) 0 (by decide)) dX0_restore_32 (fun H locs hB => ?_)
      rw [← eμ4] at hB
      refine lv_aload_n hx hb dX0_restore_35 rfl (lv_at hl 0 rfl) ?_
      refine g_getr S hB (cT hB) rfl (T := TX0) (N := 33) (C := RX0) rfl in_X0 1 (by decide) (by decide) q305 (fun _ h9 => h9) (fun _ => rfl) (cA hB 0 rfl).1 dX0_restore_36 ?_
      refine lv_aload_n hx hb dX0_restore_39 rfl (lv_at hl 0 rfl) ?_
      refine g_getr S hB (cT hB) rfl (T := TX0) (N := 33) (C := RX0) rfl in_X0 32 (by decide) (by decide) q338 (fun _ h9 => h9) (fun _ => rfl) (cA hB 19 rfl).1 dX0_restore_40 ?_
      refine lv_iload_n hx hb dX0_restore_43 rfl (lv_at hl 1 rfl) ?_
      obtain ⟨hi, hp⟩ := hp
      refine g_aald S hB (t0 := 5) (cA hB 19 rfl).2 rfl rfl hi dX0_restore_44 ?_
      obtain ⟨b5, eb, hp⟩ := hp
      refine W.eq (g2 := F0 m 45 ls [.ref b5, .ref (z + 7)]) (by rw [eb]; rfl) ?_
      refine z_callq (va_runV (As := [.ref b5]) (rest := []) S (mX2_be l Γ z (z + 7) b5 μ4 _ hp) (cwV 1 hts (lw_V q862 q863 q864 q129 q865) rfl rfl rfl hX2_be ⟨Nat.le_of_ble_eq_true rfl, Nat.le_of_ble_eq_true rfl⟩) (hB.preV (tX2_be hp) rfl rfl) rfl rfl hl.1 rfl (lv_room (Nat.le_of_ble_eq_true rfl)) dX0_restore_45 ⟨Nat.le_refl _, Nat.le_refl _⟩) hB (fun r7 μ6 H locs hp hB => ?_)
      refine lv_pop hx hb dX0_restore_48 (va_rf_c _) ?_
      refine lv_aload_n hx hb dX0_restore_49 rfl (lv_at hl 0 rfl) ?_
      refine lv_iconst (v := (nI 0)) hx hb dX0_restore_50 rfl ?_
      obtain ⟨μ8, eμ8, hp⟩ := zpI_e hp
      refine g_putI S hB (cT hB) rfl (T := TX0) (N := 33) (C := RX0) rfl in_X0 8 (by decide) (by decide) (x := (nI 0)) tyX0 tyX0_ok nmX0 q313 (fun _ h9 => h9) rfl (ty := .int) (by decide +kernel) rfl rfl (fun _ _ => rfl) dX0_restore_51 (fun H locs hB => ?_)
      rw [← eμ8] at hB
      refine lv_iconst (v := (nI 0)) hx hb dX0_restore_54 rfl ?_
      exact zret_i X hB hp dX0_restore_55
  · have hp := zit hp c0
    refine lv_bipush (v := (-2 : Int32)) hx hb dX0_restore_10 rfl ?_
    exact zret_i X hB hp dX0_restore_12
def pX0_count (z : Nat) (x1 : Int32) (μ : zM) (Q : Int32 → zM → Prop) : Prop := (if x1 = (nI 0) then Q (zI μ (z + 7) 3) μ else (if x1 = (nI 1) then (zde (zR μ z 0) fun b1 => (zty μ b1 = some (.inl 1) ∧ Q (zI μ b1 6) μ)) else (if x1 = (nI 2) then (pX2_away z (z + 7) μ fun r4 μ3 => Q r4 μ3) else (if x1 = (nI 3) then Q (zI μ (z + 7) 4) μ else (if x1 = (nI 4) then Q (zI μ (z + 7) 5) μ else (if x1 = (nI 5) then (pX2_buried z (z + 7) μ fun r6 μ5 => Q r6 μ5) else (if x1 = (nI 6) then (zde (zR μ z 0) fun b7 => (zty μ b7 = some (.inl 1) ∧ (pX2_away z (z + 7) μ fun r10 μ9 => Q (((zI μ (z + 7) 3) - (zI μ b7 6)) + r10) μ9))) else (if x1 = (nI 7) then Q (zI μ z 8) μ else (if x1 = (nI 8) then Q (zI μ z 4) μ else (if x1 = (nI 9) then (zde (zR μ z 0) fun b11 => (zty μ b11 = some (.inl 1) ∧ Q (zI μ b11 12) μ)) else Q (-1 : Int32) μ))))))))))
theorem hX0_count : yX0_count.cls = "SunkTower" ∧ yX0_count.cls ≠ "java/lang/invoke/MethodHandle" ∧ yX0_count.cls ≠ "java/lang/invoke/VarHandle" ∧ (parseMethodDescriptor yX0_count.desc).map (fun d => d.parameters.length) = some 1 := by decide +kernel
set_option maxHeartbeats 4000000 in
set_option maxRecDepth 100000 in
theorem mX0_count (l : Launch) (Γ : zG) (z : Nat) (x1 : Int32) (μ : zM) (Q : Int32 → zM → Prop) (hp : pX0_count z x1 μ Q) : Met l yX0_count (ws_ yX0_count cX0_count 2 (some .int)) ({ frames := 2, cells := 0, slots := 0, locals := 44 } : Room) (va_Pc [.ref z, .int x1] (zPre Γ (cSh z) μ)) (va_Qi Q (zPost Γ (cSh z) μ) (zA μ)) 0 0 (zA μ) := by
  refine zstart (by decide) (Nat.le_of_ble_eq_true rfl) ?_
  intro p e s m below meth c ls X hnm hB hl
  have X : zCx p m c cX0_count 2 s [.ref z, .int x1].toArray RX0 meth (some .int) := X
  have S := X.1
  obtain ⟨hx, hb, hml, hown, hts⟩ := X.1
  have hl : lv_has ls 2 [(0, .ref z), (1, .int x1)] := hl
  unfold pX0_count at hp
  refine lv_iload_n hx hb dX0_count_0 rfl (lv_at hl 1 rfl) ?_
  by_cases c0 : x1 = (nI 0)
  · have hp := zit hp c0
    refine lv_tableIn (tgt := 56) hx hb dX0_count_1 (by rw [c0]; decide) (by rw [c0]; decide) (by rw [c0]; rfl) rfl ?_
    refine lv_aload_n hx hb dX0_count_56 rfl (lv_at hl 0 rfl) ?_
    refine g_getr S hB (cT hB) rfl (T := TX0) (N := 33) (C := RX0) rfl in_X0 1 (by decide) (by decide) q305 (fun _ h9 => h9) (fun _ => rfl) (cA hB 0 rfl).1 dX0_count_57 ?_
    refine g_getN S hB (cA hB 0 rfl).2 rfl (T := TX2) (N := 8) (C := RX2) rfl in_X2 3 (by decide) (by decide) (zNFw hB 8 rfl) (fun _ h9 => h9) (v := .int (zI μ (z + 7) 3)) rfl dX0_count_60 ?_
    exact zret_i X hB hp dX0_count_63
  have hp := zif hp c0
  by_cases c1 : x1 = (nI 1)
  · have hp := zit hp c1
    refine lv_tableIn (tgt := 64) hx hb dX0_count_1 (by rw [c1]; decide) (by rw [c1]; decide) (by rw [c1]; rfl) rfl ?_
    refine lv_aload_n hx hb dX0_count_64 rfl (lv_at hl 0 rfl) ?_
    refine g_get S hB (cT hB) rfl (T := TX0) (N := 33) (C := RX0) rfl in_X0 0 (by decide) (by decide) q304 (fun _ h9 => h9) (v := va_rf (zR μ z 0)) rfl dX0_count_65 ?_
    obtain ⟨b1, eb, hp⟩ := hp
    refine W.eq (g2 := F0 m 68 ls [.ref b1]) (by rw [eb]; rfl) ?_
    obtain ⟨ht2, hp⟩ := hp
    refine g_getN S hB ht2 rfl (T := TX1) (N := 16) (C := RX1) rfl in_X1 6 (by decide) (by decide) (zNFw hB 1 rfl) (fun _ h9 => h9) (v := .int (zI μ b1 6)) rfl dX0_count_68 ?_
    exact zret_i X hB hp dX0_count_71
  have hp := zif hp c1
  by_cases c2 : x1 = (nI 2)
  · have hp := zit hp c2
    refine lv_tableIn (tgt := 72) hx hb dX0_count_1 (by rw [c2]; decide) (by rw [c2]; decide) (by rw [c2]; rfl) rfl ?_
    refine lv_aload_n hx hb dX0_count_72 rfl (lv_at hl 0 rfl) ?_
    refine g_getr S hB (cT hB) rfl (T := TX0) (N := 33) (C := RX0) rfl in_X0 1 (by decide) (by decide) q305 (fun _ h9 => h9) (fun _ => rfl) (cA hB 0 rfl).1 dX0_count_73 ?_
    refine z_calli (va_runV (As := []) (rest := []) S (mX2_away l Γ z (z + 7) μ _ hp) (cwV 0 hts (lw_V q1377 q1378 q1379 q129 q1380) rfl rfl rfl hX2_away ⟨Nat.le_of_ble_eq_true rfl, Nat.le_of_ble_eq_true rfl⟩) (hB.preV (tX2_away hp) rfl rfl) rfl rfl hl.1 rfl (lv_room (Nat.le_of_ble_eq_true rfl)) dX0_count_76 ⟨Nat.le_refl _, Nat.le_refl _⟩) hB (fun r4 μ3 H locs hp hB => ?_)
    exact zret_i X hB hp dX0_count_79
  have hp := zif hp c2
  by_cases c3 : x1 = (nI 3)
  · have hp := zit hp c3
    refine lv_tableIn (tgt := 80) hx hb dX0_count_1 (by rw [c3]; decide) (by rw [c3]; decide) (by rw [c3]; rfl) rfl ?_
    refine lv_aload_n hx hb dX0_count_80 rfl (lv_at hl 0 rfl) ?_
    refine g_getr S hB (cT hB) rfl (T := TX0) (N := 33) (C := RX0) rfl in_X0 1 (by decide) (by decide) q305 (fun _ h9 => h9) (fun _ => rfl) (cA hB 0 rfl).1 dX0_count_81 ?_
    refine g_getN S hB (cA hB 0 rfl).2 rfl (T := TX2) (N := 8) (C := RX2) rfl in_X2 4 (by decide) (by decide) (zNFw hB 9 rfl) (fun _ h9 => h9) (v := .int (zI μ (z + 7) 4)) rfl dX0_count_84 ?_
    exact zret_i X hB hp dX0_count_87
  have hp := zif hp c3
  by_cases c4 : x1 = (nI 4)
  · have hp := zit hp c4
    refine lv_tableIn (tgt := 88) hx hb dX0_count_1 (by rw [c4]; decide) (by rw [c4]; decide) (by rw [c4]; rfl) rfl ?_
    refine lv_aload_n hx hb dX0_count_88 rfl (lv_at hl 0 rfl) ?_
    refine g_getr S hB (cT hB) rfl (T := TX0) (N := 33) (C := RX0) rfl in_X0 1 (by decide) (by decide) q305 (fun _ h9 => h9) (fun _ => rfl) (cA hB 0 rfl).1 dX0_count_89 ?_
    refine g_getN S hB (cA hB 0 rfl).2 rfl (T := TX2) (N := 8) (C := RX2) rfl in_X2 5 (by decide) (by decide) (zNFw hB 10 rfl) (fun _ h9 => h9) (v := .int (zI μ (z + 7) 5)) rfl dX0_count_92 ?_
    exact zret_i X hB hp dX0_count_95
  have hp := zif hp c4
  by_cases c5 : x1 = (nI 5)
  · have hp := zit hp c5
    refine lv_tableIn (tgt := 96) hx hb dX0_count_1 (by rw [c5]; decide) (by rw [c5]; decide) (by rw [c5]; rfl) rfl ?_
    refine lv_aload_n hx hb dX0_count_96 rfl (lv_at hl 0 rfl) ?_
    refine g_getr S hB (cT hB) rfl (T := TX0) (N := 33) (C := RX0) rfl in_X0 1 (by decide) (by decide) q305 (fun _ h9 => h9) (fun _ => rfl) (cA hB 0 rfl).1 dX0_count_97 ?_
    refine z_calli (va_runV (As := []) (rest := []) S (mX2_buried l Γ z (z + 7) μ _ hp) (cwV 0 hts (lw_V q1099 q790 q791 q129 q792) rfl rfl rfl hX2_buried ⟨Nat.le_of_ble_eq_true rfl, Nat.le_of_ble_eq_true rfl⟩) (hB.preV (tX2_buried hp) rfl rfl) rfl rfl hl.1 rfl (lv_room (Nat.le_of_ble_eq_true rfl)) dX0_count_100 ⟨Nat.le_refl _, Nat.le_refl _⟩) hB (fun r6 μ5 H locs hp hB => ?_)
    exact zret_i X hB hp dX0_count_103
  have hp := zif hp c5
  by_cases c6 : x1 = (nI 6)
  · have hp := zit hp c6
    refine lv_tableIn (tgt := 104) hx hb dX0_count_1 (by rw [c6]; decide) (by rw [c6]; decide) (by rw [c6]; rfl) rfl ?_
    refine lv_aload_n hx hb dX0_count_104 rfl (lv_at hl 0 rfl) ?_
    refine g_getr S hB (cT hB) rfl (T := TX0) (N := 33) (C := RX0) rfl in_X0 1 (by decide) (by decide) q305 (fun _ h9 => h9) (fun _ => rfl) (cA hB 0 rfl).1 dX0_count_105 ?_
    refine g_getN S hB (cA hB 0 rfl).2 rfl (T := TX2) (N := 8) (C := RX2) rfl in_X2 3 (by decide) (by decide) (zNFw hB 8 rfl) (fun _ h9 => h9) (v := .int (zI μ (z + 7) 3)) rfl dX0_count_108 ?_
    refine lv_aload_n hx hb dX0_count_111 rfl (lv_at hl 0 rfl) ?_
    refine g_get S hB (cT hB) rfl (T := TX0) (N := 33) (C := RX0) rfl in_X0 0 (by decide) (by decide) q304 (fun _ h9 => h9) (v := va_rf (zR μ z 0)) rfl dX0_count_112 ?_
    obtain ⟨b7, eb, hp⟩ := hp
    refine W.eq (g2 := F0 m 115 ls [.ref b7, .int (zI μ (z + 7) 3)]) (by rw [eb]; rfl) ?_
    obtain ⟨ht8, hp⟩ := hp
    refine g_getN S hB ht8 rfl (T := TX1) (N := 16) (C := RX1) rfl in_X1 6 (by decide) (by decide) (zNFw hB 1 rfl) (fun _ h9 => h9) (v := .int (zI μ b7 6)) rfl dX0_count_115 ?_
    refine lv_isub hx hb dX0_count_118 ?_
    refine lv_aload_n hx hb dX0_count_119 rfl (lv_at hl 0 rfl) ?_
    refine g_getr S hB (cT hB) rfl (T := TX0) (N := 33) (C := RX0) rfl in_X0 1 (by decide) (by decide) q305 (fun _ h9 => h9) (fun _ => rfl) (cA hB 0 rfl).1 dX0_count_120 ?_
    refine z_calli (va_runV (As := []) (rest := [.int ((zI μ (z + 7) 3) - (zI μ b7 6))]) S (mX2_away l Γ z (z + 7) μ _ hp) (cwV 0 hts (lw_V q1377 q1378 q1379 q129 q1380) rfl rfl rfl hX2_away ⟨Nat.le_of_ble_eq_true rfl, Nat.le_of_ble_eq_true rfl⟩) (hB.preV (tX2_away hp) rfl rfl) rfl rfl hl.1 rfl (lv_room (Nat.le_of_ble_eq_true rfl)) dX0_count_123 ⟨Nat.le_refl _, Nat.le_refl _⟩) hB (fun r10 μ9 H locs hp hB => ?_)
    refine lv_iadd hx hb dX0_count_126 ?_
    exact zret_i X hB hp dX0_count_127
  have hp := zif hp c6
  by_cases c7 : x1 = (nI 7)
  · have hp := zit hp c7
    refine lv_tableIn (tgt := 128) hx hb dX0_count_1 (by rw [c7]; decide) (by rw [c7]; decide) (by rw [c7]; rfl) rfl ?_
    refine lv_aload_n hx hb dX0_count_128 rfl (lv_at hl 0 rfl) ?_
    refine g_get S hB (cT hB) rfl (T := TX0) (N := 33) (C := RX0) rfl in_X0 8 (by decide) (by decide) q313 (fun _ h9 => h9) (v := .int (zI μ z 8)) rfl dX0_count_129 ?_
    exact zret_i X hB hp dX0_count_132
  have hp := zif hp c7
  by_cases c8 : x1 = (nI 8)
  · have hp := zit hp c8
    refine lv_tableIn (tgt := 133) hx hb dX0_count_1 (by rw [c8]; decide) (by rw [c8]; decide) (by rw [c8]; rfl) rfl ?_
    refine lv_aload_n hx hb dX0_count_133 rfl (lv_at hl 0 rfl) ?_
    refine g_get S hB (cT hB) rfl (T := TX0) (N := 33) (C := RX0) rfl in_X0 4 (by decide) (by decide) q309 (fun _ h9 => h9) (v := .int (zI μ z 4)) rfl dX0_count_134 ?_
    exact zret_i X hB hp dX0_count_137
  have hp := zif hp c8
  by_cases c9 : x1 = (nI 9)
  · have hp := zit hp c9
    refine lv_tableIn (tgt := 138) hx hb dX0_count_1 (by rw [c9]; decide) (by rw [c9]; decide) (by rw [c9]; rfl) rfl ?_
    refine lv_aload_n hx hb dX0_count_138 rfl (lv_at hl 0 rfl) ?_
    refine g_get S hB (cT hB) rfl (T := TX0) (N := 33) (C := RX0) rfl in_X0 0 (by decide) (by decide) q304 (fun _ h9 => h9) (v := va_rf (zR μ z 0)) rfl dX0_count_139 ?_
    obtain ⟨b11, eb, hp⟩ := hp
    refine W.eq (g2 := F0 m 142 ls [.ref b11]) (by rw [eb]; rfl) ?_
    obtain ⟨ht12, hp⟩ := hp
    refine g_getN S hB ht12 rfl (T := TX1) (N := 16) (C := RX1) rfl in_X1 12 (by decide) (by decide) (zNFw hB 4 rfl) (fun _ h9 => h9) (v := .int (zI μ b11 12)) rfl dX0_count_142 ?_
    exact zret_i X hB hp dX0_count_145
  have hp := zif hp c9
  refine lv_tableOut (tgt := 146) hx hb dX0_count_1 (zswN (x := x1) 0 9 (fun k h1 h2 => by rcases (show k = 0 ∨ k = 1 ∨ k = 2 ∨ k = 3 ∨ k = 4 ∨ k = 5 ∨ k = 6 ∨ k = 7 ∨ k = 8 ∨ k = 9 by omega) with rfl | rfl | rfl | rfl | rfl | rfl | rfl | rfl | rfl | rfl <;> assumption) (by decide)) rfl ?_
  refine lv_iconst (v := (-1 : Int32)) hx hb dX0_count_146 rfl ?_
  exact zret_i X hB hp dX0_count_147
def pX1_inches_66 (z : Nat) (s0 : Nat) (Q : Int32 → zM → Prop) (x6 : Int32) (μ : zM) : Prop := Q (if (nI 0) < (if x6 < (nI 144) then x6 else (nI 144)) then (if x6 < (nI 144) then x6 else (nI 144)) else (nI 0)) μ
set_option maxHeartbeats 4000000 in
set_option maxRecDepth 100000 in
theorem wX1_inches_66 {p : Program} {l : Launch} {e : Env} {s : State} {m : MethodId} {args : Array Value} {below : List Frame} {meth : Method} {c : Code} {Γ : zG} {μ0 : zM} {Q : Int32 → zM → Prop} (X : zCx p m c cX1_inches 7 s args RX1 meth (some .int)) {s0 : Nat} (ht_s0 : zty μ0 s0 = some (.inl 1)) (z : Nat) : ∀ (x6 : Int32) (μ : zM) (H : Heap) (locs : List Loc) (ls : Array Slot), pX1_inches_66 z s0 Q x6 μ → zB Γ (cSh z) (zA μ0) μ0 s μ H locs → lv_has ls 7 [(6, .int x6)] → W p l e ({ frames := 461, cells := 0, slots := 0, locals := 12447 } : Room) s m args below meth c H locs 0 0 (MQ below (va_Qi Q (zPost Γ (cSh z) μ0) (zA μ0)) args s 0 0 (zA μ0)) (F0 m 66 ls []) := by
  have S := X.1
  obtain ⟨hx, hb, hml, hown, hts⟩ := X.1
  intro x6 μ H locs ls hp hB hl
  unfold pX1_inches_66 at hp
  refine lv_iconst (v := (nI 0)) hx hb dX1_inches_66 rfl ?_
  refine lv_sipush (v := (nI 144)) hx hb dX1_inches_67 rfl ?_
  refine lv_iload hx hb dX1_inches_70 (lv_at hl 0 rfl) ?_
  refine va_mmin hx hb (hml.trans hl.1.symm) hown (hts _ q819) (hts _ q524) (hts _ q136) (hts _ q525) (Nat.le_of_ble_eq_true rfl) (Nat.le_of_ble_eq_true rfl) (Nat.le_refl _) (Nat.le_refl _) dX1_inches_72 ?_
  refine va_mmax hx hb (hml.trans hl.1.symm) hown (hts _ q820) (hts _ q521) (hts _ q136) (hts _ q522) (Nat.le_of_ble_eq_true rfl) (Nat.le_of_ble_eq_true rfl) (Nat.le_refl _) (Nat.le_refl _) dX1_inches_75 ?_
  exact zret_i X hB hp dX1_inches_78
def pX1_inches (z : Nat) (s0 : Nat) (x1 : Int32) (x2 : Int32) (x3 : Int32) (x4 : Int32) (x5 : Int32) (μ : zM) (Q : Int32 → zM → Prop) : Prop := zty μ s0 = some (.inl 1) ∧ (if (zR μ s0 13) = none then pX1_inches_66 z s0 Q (x1 / (nI 100)) μ else (vp_in (nI 0) 6 ∧ zpI μ (s0 + 5) (nI 0).toNatClampNeg x1 fun μ2 => (vp_in (nI 1) 6 ∧ zpI μ2 (s0 + 5) (nI 1).toNatClampNeg x2 fun μ3 => (vp_in (nI 2) 6 ∧ zpI μ3 (s0 + 5) (nI 2).toNatClampNeg x3 fun μ4 => (vp_in (nI 3) 6 ∧ zpI μ4 (s0 + 5) (nI 3).toNatClampNeg (x4 - x4 / (nI 12) * (nI 12)) fun μ5 => (vp_in (nI 4) 6 ∧ zpI μ5 (s0 + 5) (nI 4).toNatClampNeg x5 fun μ6 => (zde (zR μ6 s0 13) fun b7 => (pX6_value 460 z b7 (s0 + 5) μ6 fun r8 μ9 => pX1_inches_66 z s0 Q r8 μ9))))))))
theorem tX1_inches {z : Nat} {s0 : Nat} {x1 : Int32} {x2 : Int32} {x3 : Int32} {x4 : Int32} {x5 : Int32} {μ : zM} {Q : Int32 → zM → Prop} (h : pX1_inches z s0 x1 x2 x3 x4 x5 μ Q) : zty μ s0 = some (.inl 1) := h.1
theorem hX1_inches : yX1_inches.cls = "SunkTower$Tower" ∧ yX1_inches.cls ≠ "java/lang/invoke/MethodHandle" ∧ yX1_inches.cls ≠ "java/lang/invoke/VarHandle" ∧ (parseMethodDescriptor yX1_inches.desc).map (fun d => d.parameters.length) = some 5 := by decide +kernel
set_option maxHeartbeats 4000000 in
set_option maxRecDepth 100000 in
theorem mX1_inches (l : Launch) (Γ : zG) (z : Nat) (s0 : Nat) (x1 : Int32) (x2 : Int32) (x3 : Int32) (x4 : Int32) (x5 : Int32) (μ : zM) (Q : Int32 → zM → Prop) (hp : pX1_inches z s0 x1 x2 x3 x4 x5 μ Q) : Met l yX1_inches (ws_ yX1_inches cX1_inches 7 (some .int)) ({ frames := 461, cells := 0, slots := 0, locals := 12447 } : Room) (va_Pc [.ref s0, .int x1, .int x2, .int x3, .int x4, .int x5] (zPre Γ (cSh z) μ)) (va_Qi Q (zPost Γ (cSh z) μ) (zA μ)) 0 0 (zA μ) := by
  refine zstart (by decide) (Nat.le_of_ble_eq_true rfl) ?_
  intro p e s m below meth c ls X hnm hB hl
  have X : zCx p m c cX1_inches 7 s [.ref s0, .int x1, .int x2, .int x3, .int x4, .int x5].toArray RX1 meth (some .int) := X
  have S := X.1
  obtain ⟨hx, hb, hml, hown, hts⟩ := X.1
  have hl : lv_has ls 7 [(0, .ref s0), (1, .int x1), (2, .int x2), (3, .int x3), (4, .int x4), (5, .int x5)] := hl
  obtain ⟨ht_s0, hp⟩ := hp
  refine lv_iload_n hx hb dX1_inches_0 rfl (lv_at hl 1 rfl) ?_
  refine lv_bipush (v := (nI 100)) hx hb dX1_inches_1 rfl ?_
  refine lv_idiv hx hb dX1_inches_3 (by decide) ?_
  refine lv_istore (lv' := [(6, .int (x1 / (nI 100))), (0, .ref s0), (1, .int x1), (2, .int x2), (3, .int x3), (4, .int x4), (5, .int x5)]) hx hb dX1_inches_4 hl (by decide) rfl (fun ls hl => ?_)
  refine lv_aload_n hx hb dX1_inches_6 rfl (lv_at hl 1 rfl) ?_
  refine g_get S hB (hB.ty ht_s0 rfl) rfl (T := TX1) (N := 16) (C := RX1) rfl in_X1 13 (by decide) (by decide) q200 (fun _ h9 => h9) (v := va_rf (zR μ s0 13)) rfl dX1_inches_7 ?_
  refine g_ifnull (tgt := 66) hx hb dX1_inches_10 rfl (fun c0 => ?_) (fun c0 => ?_)
  · have hp := zit hp c0
    exact wX1_inches_66 X ht_s0 z (x1 / (nI 100)) μ _ _ _ hp hB (lv_sub hl [0] rfl)
  · have hp := zif hp c0
    refine lv_aload_n hx hb dX1_inches_13 rfl (lv_at hl 1 rfl) ?_
    refine g_getr S hB (hB.ty ht_s0 rfl) rfl (T := TX1) (N := 16) (C := RX1) rfl in_X1 4 (by decide) (by decide) q179 (fun _ h9 => h9) (fun _ => rfl) (cS1 hB (hB.ty ht_s0 rfl) 4 rfl).1 dX1_inches_14 ?_
    refine lv_iconst (v := (nI 0)) hx hb dX1_inches_17 rfl ?_
    refine lv_iload_n hx hb dX1_inches_18 rfl (lv_at hl 2 rfl) ?_
    obtain ⟨hi, hp⟩ := hp
    obtain ⟨μ2, eμ2, hp⟩ := zpI_e hp
    refine g_iast S hB (cS1 hB (hB.ty ht_s0 rfl) 4 rfl).2 hi dX1_inches_19 (fun H locs hB => ?_)
    rw [← eμ2] at hB
    refine lv_aload_n hx hb dX1_inches_20 rfl (lv_at hl 1 rfl) ?_
    refine g_getr S hB (hB.ty ht_s0 rfl) rfl (T := TX1) (N := 16) (C := RX1) rfl in_X1 4 (by decide) (by decide) q179 (fun _ h9 => h9) (fun _ => rfl) (cS1 hB (hB.ty ht_s0 rfl) 4 rfl).1 dX1_inches_21 ?_
    refine lv_iconst (v := (nI 1)) hx hb dX1_inches_24 rfl ?_
    refine lv_iload_n hx hb dX1_inches_25 rfl (lv_at hl 3 rfl) ?_
    obtain ⟨hi, hp⟩ := hp
    obtain ⟨μ3, eμ3, hp⟩ := zpI_e hp
    refine g_iast S hB (cS1 hB (hB.ty ht_s0 rfl) 4 rfl).2 hi dX1_inches_26 (fun H locs hB => ?_)
    rw [← eμ3] at hB
    refine lv_aload_n hx hb dX1_inches_27 rfl (lv_at hl 1 rfl) ?_
    refine g_getr S hB (hB.ty ht_s0 rfl) rfl (T := TX1) (N := 16) (C := RX1) rfl in_X1 4 (by decide) (by decide) q179 (fun _ h9 => h9) (fun _ => rfl) (cS1 hB (hB.ty ht_s0 rfl) 4 rfl).1 dX1_inches_28 ?_
    refine lv_iconst (v := (nI 2)) hx hb dX1_inches_31 rfl ?_
    refine lv_iload_n hx hb dX1_inches_32 rfl (lv_at hl 4 rfl) ?_
    obtain ⟨hi, hp⟩ := hp
    obtain ⟨μ4, eμ4, hp⟩ := zpI_e hp
    refine g_iast S hB (cS1 hB (hB.ty ht_s0 rfl) 4 rfl).2 hi dX1_inches_33 (fun H locs hB => ?_)
    rw [← eμ4] at hB
    refine lv_aload_n hx hb dX1_inches_34 rfl (lv_at hl 1 rfl) ?_
    refine g_getr S hB (hB.ty ht_s0 rfl) rfl (T := TX1) (N := 16) (C := RX1) rfl in_X1 4 (by decide) (by decide) q179 (fun _ h9 => h9) (fun _ => rfl) (cS1 hB (hB.ty ht_s0 rfl) 4 rfl).1 dX1_inches_35 ?_
    refine lv_iconst (v := (nI 3)) hx hb dX1_inches_38 rfl ?_
    refine lv_iload hx hb dX1_inches_39 (lv_at hl 5 rfl) ?_
    refine lv_bipush (v := (nI 12)) hx hb dX1_inches_41 rfl ?_
    refine lv_irem hx hb dX1_inches_43 (by decide) ?_
    obtain ⟨hi, hp⟩ := hp
    obtain ⟨μ5, eμ5, hp⟩ := zpI_e hp
    refine g_iast S hB (cS1 hB (hB.ty ht_s0 rfl) 4 rfl).2 hi dX1_inches_44 (fun H locs hB => ?_)
    rw [← eμ5] at hB
    refine lv_aload_n hx hb dX1_inches_45 rfl (lv_at hl 1 rfl) ?_
    refine g_getr S hB (hB.ty ht_s0 rfl) rfl (T := TX1) (N := 16) (C := RX1) rfl in_X1 4 (by decide) (by decide) q179 (fun _ h9 => h9) (fun _ => rfl) (cS1 hB (hB.ty ht_s0 rfl) 4 rfl).1 dX1_inches_46 ?_
    refine lv_iconst (v := (nI 4)) hx hb dX1_inches_49 rfl ?_
    refine lv_iload hx hb dX1_inches_50 (lv_at hl 6 rfl) ?_
    obtain ⟨hi, hp⟩ := hp
    obtain ⟨μ6, eμ6, hp⟩ := zpI_e hp
    refine g_iast S hB (cS1 hB (hB.ty ht_s0 rfl) 4 rfl).2 hi dX1_inches_52 (fun H locs hB => ?_)
    rw [← eμ6] at hB
    refine lv_aload_n hx hb dX1_inches_53 rfl (lv_at hl 1 rfl) ?_
    refine g_get S hB (hB.ty ht_s0 rfl) rfl (T := TX1) (N := 16) (C := RX1) rfl in_X1 13 (by decide) (by decide) q200 (fun _ h9 => h9) (v := va_rf (zR μ6 s0 13)) rfl dX1_inches_54 ?_
    refine lv_aload_n hx hb dX1_inches_57 rfl (lv_at hl 1 rfl) ?_
    refine g_getr S hB (hB.ty ht_s0 rfl) rfl (T := TX1) (N := 16) (C := RX1) rfl in_X1 4 (by decide) (by decide) q179 (fun _ h9 => h9) (fun _ => rfl) (cS1 hB (hB.ty ht_s0 rfl) 4 rfl).1 dX1_inches_58 ?_
    obtain ⟨b7, eb, hp⟩ := hp
    refine W.eq (g2 := F0 m 61 ls [.ref (s0 + 5), .ref b7]) (by rw [eb]; rfl) ?_
    refine z_calli ((zSum_all 460) _ _ _ _ _ _ _ _ _ _ _ _ _ _ _ _ _ Γ z _ _ _ _ _ _ _ _ [] _ hp S hB q798 (Nat.le_of_ble_eq_true rfl) (Nat.le_of_ble_eq_true rfl) hl.1 (Nat.le_of_ble_eq_true rfl) (Nat.le_refl _) (Nat.le_refl _) dX1_inches_61) hB (fun r8 μ9 H locs hp hB => ?_)
    refine lv_istore (lv' := [(6, .int r8), (0, .ref s0), (1, .int x1), (2, .int x2), (3, .int x3), (4, .int x4), (5, .int x5)]) hx hb dX1_inches_64 hl (by decide) rfl (fun ls hl => ?_)
    exact wX1_inches_66 X ht_s0 z r8 μ9 _ _ _ hp hB (lv_sub hl [0] rfl)
def pX1_pays (z : Nat) (s0 : Nat) (x1 : Int32) (x2 : Int32) (x3 : Int32) (μ : zM) (Q : Int32 → zM → Prop) : Prop := zty μ s0 = some (.inl 1) ∧ (if (zR μ s0 14) = none then Q (nI 0) μ else (pX1_lays z s0 x1 x2 x3 μ fun μ2 => (zde (zR μ2 s0 14) fun b3 => (pX6_value 460 z b3 (s0 + 5) μ2 fun r4 μ5 => Q r4 μ5))))
theorem tX1_pays {z : Nat} {s0 : Nat} {x1 : Int32} {x2 : Int32} {x3 : Int32} {μ : zM} {Q : Int32 → zM → Prop} (h : pX1_pays z s0 x1 x2 x3 μ Q) : zty μ s0 = some (.inl 1) := h.1
theorem hX1_pays : yX1_pays.cls = "SunkTower$Tower" ∧ yX1_pays.cls ≠ "java/lang/invoke/MethodHandle" ∧ yX1_pays.cls ≠ "java/lang/invoke/VarHandle" ∧ (parseMethodDescriptor yX1_pays.desc).map (fun d => d.parameters.length) = some 3 := by decide +kernel
set_option maxHeartbeats 4000000 in
set_option maxRecDepth 100000 in
theorem mX1_pays (l : Launch) (Γ : zG) (z : Nat) (s0 : Nat) (x1 : Int32) (x2 : Int32) (x3 : Int32) (μ : zM) (Q : Int32 → zM → Prop) (hp : pX1_pays z s0 x1 x2 x3 μ Q) : Met l yX1_pays (ws_ yX1_pays cX1_pays 4 (some .int)) ({ frames := 461, cells := 0, slots := 0, locals := 12447 } : Room) (va_Pc [.ref s0, .int x1, .int x2, .int x3] (zPre Γ (cSh z) μ)) (va_Qi Q (zPost Γ (cSh z) μ) (zA μ)) 0 0 (zA μ) := by
  refine zstart (by decide) (Nat.le_of_ble_eq_true rfl) ?_
  intro p e s m below meth c ls X hnm hB hl
  have X : zCx p m c cX1_pays 4 s [.ref s0, .int x1, .int x2, .int x3].toArray RX1 meth (some .int) := X
  have S := X.1
  obtain ⟨hx, hb, hml, hown, hts⟩ := X.1
  have hl : lv_has ls 4 [(0, .ref s0), (1, .int x1), (2, .int x2), (3, .int x3)] := hl
  obtain ⟨ht_s0, hp⟩ := hp
  refine lv_aload_n hx hb dX1_pays_0 rfl (lv_at hl 0 rfl) ?_
  refine g_get S hB (hB.ty ht_s0 rfl) rfl (T := TX1) (N := 16) (C := RX1) rfl in_X1 14 (by decide) (by decide) q202 (fun _ h9 => h9) (v := va_rf (zR μ s0 14)) rfl dX1_pays_1 ?_
  refine g_ifnonnull (tgt := 9) hx hb dX1_pays_4 rfl (fun c0 => ?_) (fun c0 => ?_)
  · have hp := zit hp c0
    refine lv_iconst (v := (nI 0)) hx hb dX1_pays_7 rfl ?_
    exact zret_i X hB hp dX1_pays_8
  · have hp := zif hp c0
    refine lv_aload_n hx hb dX1_pays_9 rfl (lv_at hl 0 rfl) ?_
    refine lv_iload_n hx hb dX1_pays_10 rfl (lv_at hl 1 rfl) ?_
    refine lv_iload_n hx hb dX1_pays_11 rfl (lv_at hl 2 rfl) ?_
    refine lv_iload_n hx hb dX1_pays_12 rfl (lv_at hl 3 rfl) ?_
    refine z_callv (va_runV (As := [.int x1, .int x2, .int x3]) (rest := []) S (mX1_lays l Γ z s0 x1 x2 x3 μ _ hp) (cwV 3 hts (lw_V q833 q835 qs28 q128 q836) rfl rfl rfl hX1_lays ⟨Nat.le_of_ble_eq_true rfl, Nat.le_of_ble_eq_true rfl⟩) (hB.preV (hB.ty ht_s0 rfl) rfl rfl) rfl rfl hl.1 rfl (lv_room (Nat.le_of_ble_eq_true rfl)) dX1_pays_13 ⟨Nat.le_refl _, Nat.le_refl _⟩) hB (fun μ2 H locs hp hB => ?_)
    refine lv_aload_n hx hb dX1_pays_16 rfl (lv_at hl 0 rfl) ?_
    refine g_get S hB (hB.ty ht_s0 rfl) rfl (T := TX1) (N := 16) (C := RX1) rfl in_X1 14 (by decide) (by decide) q202 (fun _ h9 => h9) (v := va_rf (zR μ2 s0 14)) rfl dX1_pays_17 ?_
    refine lv_aload_n hx hb dX1_pays_20 rfl (lv_at hl 0 rfl) ?_
    refine g_getr S hB (hB.ty ht_s0 rfl) rfl (T := TX1) (N := 16) (C := RX1) rfl in_X1 4 (by decide) (by decide) q179 (fun _ h9 => h9) (fun _ => rfl) (cS1 hB (hB.ty ht_s0 rfl) 4 rfl).1 dX1_pays_21 ?_
    obtain ⟨b3, eb, hp⟩ := hp
    refine W.eq (g2 := F0 m 24 ls [.ref (s0 + 5), .ref b3]) (by rw [eb]; rfl) ?_
    refine z_calli ((zSum_all 460) _ _ _ _ _ _ _ _ _ _ _ _ _ _ _ _ _ Γ z _ _ _ _ _ _ _ _ [] _ hp S hB q798 (Nat.le_of_ble_eq_true rfl) (Nat.le_of_ble_eq_true rfl) hl.1 (Nat.le_of_ble_eq_true rfl) (Nat.le_refl _) (Nat.le_refl _) dX1_pays_24) hB (fun r4 μ5 H locs hp hB => ?_)
    exact zret_i X hB hp dX1_pays_27
def pX1_worth_47 (z : Nat) (s0 : Nat) (Q : Int32 → zM → Prop) (y3 : Int32) (y2 : Int32) (μ : zM) : Prop := (vp_in y2 6 ∧ zpI μ (s0 + 5) y2.toNatClampNeg y3 fun μ1 => (zde (zR μ1 s0 15) fun b2 => (pX6_value 460 z b2 (s0 + 5) μ1 fun r3 μ4 => Q r3 μ4)))
set_option maxHeartbeats 4000000 in
set_option maxRecDepth 100000 in
theorem wX1_worth_47 {p : Program} {l : Launch} {e : Env} {s : State} {m : MethodId} {args : Array Value} {below : List Frame} {meth : Method} {c : Code} {Γ : zG} {μ0 : zM} {Q : Int32 → zM → Prop} (X : zCx p m c cX1_worth 7 s args RX1 meth (some .int)) {s0 : Nat} (ht_s0 : zty μ0 s0 = some (.inl 1)) (z : Nat) : ∀ (y3 : Int32) (y2 : Int32) (μ : zM) (H : Heap) (locs : List Loc) (ls : Array Slot), pX1_worth_47 z s0 Q y3 y2 μ → zB Γ (cSh z) (zA μ0) μ0 s μ H locs → lv_has ls 7 [(0, .ref s0)] → W p l e ({ frames := 461, cells := 0, slots := 0, locals := 12447 } : Room) s m args below meth c H locs 0 0 (MQ below (va_Qi Q (zPost Γ (cSh z) μ0) (zA μ0)) args s 0 0 (zA μ0)) (F0 m 47 ls [.int y3, .int y2, .ref (s0 + 5)]) := by
  have S := X.1
  obtain ⟨hx, hb, hml, hown, hts⟩ := X.1
  intro y3 y2 μ H locs ls hp hB hl
  unfold pX1_worth_47 at hp
  obtain ⟨hi, hp⟩ := hp
  obtain ⟨μ1, eμ1, hp⟩ := zpI_e hp
  refine g_iast S hB (cS1 hB (hB.ty ht_s0 rfl) 4 rfl).2 hi dX1_worth_47 (fun H locs hB => ?_)
  rw [← eμ1] at hB
  refine lv_aload_n hx hb dX1_worth_48 rfl (lv_at hl 0 rfl) ?_
  refine g_get S hB (hB.ty ht_s0 rfl) rfl (T := TX1) (N := 16) (C := RX1) rfl in_X1 15 (by decide) (by decide) q204 (fun _ h9 => h9) (v := va_rf (zR μ1 s0 15)) rfl dX1_worth_49 ?_
  refine lv_aload_n hx hb dX1_worth_52 rfl (lv_at hl 0 rfl) ?_
  refine g_getr S hB (hB.ty ht_s0 rfl) rfl (T := TX1) (N := 16) (C := RX1) rfl in_X1 4 (by decide) (by decide) q179 (fun _ h9 => h9) (fun _ => rfl) (cS1 hB (hB.ty ht_s0 rfl) 4 rfl).1 dX1_worth_53 ?_
  obtain ⟨b2, eb, hp⟩ := hp
  refine W.eq (g2 := F0 m 56 ls [.ref (s0 + 5), .ref b2]) (by rw [eb]; rfl) ?_
  refine z_calli ((zSum_all 460) _ _ _ _ _ _ _ _ _ _ _ _ _ _ _ _ _ Γ z _ _ _ _ _ _ _ _ [] _ hp S hB q798 (Nat.le_of_ble_eq_true rfl) (Nat.le_of_ble_eq_true rfl) hl.1 (Nat.le_of_ble_eq_true rfl) (Nat.le_refl _) (Nat.le_refl _) dX1_worth_56) hB (fun r3 μ4 H locs hp hB => ?_)
  exact zret_i X hB hp dX1_worth_59
def pX1_worth (z : Nat) (s0 : Nat) (x1 : Int32) (x2 : Int32) (x3 : Int32) (x4 : Int32) (x5 : Int32) (x6 : Int32) (μ : zM) (Q : Int32 → zM → Prop) : Prop := zty μ s0 = some (.inl 1) ∧ (if (zR μ s0 15) = none then Q (nI 0) μ else (pX1_lays z s0 x4 x5 x6 μ fun μ2 => (vp_in (nI 3) 6 ∧ zpI μ2 (s0 + 5) (nI 3).toNatClampNeg x1 fun μ3 => (vp_in (nI 4) 6 ∧ zpI μ3 (s0 + 5) (nI 4).toNatClampNeg x2 fun μ4 => (if x3 = 0 then pX1_worth_47 z s0 Q (nI 0) (nI 5) μ4 else pX1_worth_47 z s0 Q (nI 1) (nI 5) μ4)))))
theorem tX1_worth {z : Nat} {s0 : Nat} {x1 : Int32} {x2 : Int32} {x3 : Int32} {x4 : Int32} {x5 : Int32} {x6 : Int32} {μ : zM} {Q : Int32 → zM → Prop} (h : pX1_worth z s0 x1 x2 x3 x4 x5 x6 μ Q) : zty μ s0 = some (.inl 1) := h.1
theorem hX1_worth : yX1_worth.cls = "SunkTower$Tower" ∧ yX1_worth.cls ≠ "java/lang/invoke/MethodHandle" ∧ yX1_worth.cls ≠ "java/lang/invoke/VarHandle" ∧ (parseMethodDescriptor yX1_worth.desc).map (fun d => d.parameters.length) = some 6 := by decide +kernel
set_option maxHeartbeats 4000000 in
set_option maxRecDepth 100000 in
theorem mX1_worth (l : Launch) (Γ : zG) (z : Nat) (s0 : Nat) (x1 : Int32) (x2 : Int32) (x3 : Int32) (x4 : Int32) (x5 : Int32) (x6 : Int32) (μ : zM) (Q : Int32 → zM → Prop) (hp : pX1_worth z s0 x1 x2 x3 x4 x5 x6 μ Q) : Met l yX1_worth (ws_ yX1_worth cX1_worth 7 (some .int)) ({ frames := 461, cells := 0, slots := 0, locals := 12447 } : Room) (va_Pc [.ref s0, .int x1, .int x2, .int x3, .int x4, .int x5, .int x6] (zPre Γ (cSh z) μ)) (va_Qi Q (zPost Γ (cSh z) μ) (zA μ)) 0 0 (zA μ) := by
  refine zstart (by decide) (Nat.le_of_ble_eq_true rfl) ?_
  intro p e s m below meth c ls X hnm hB hl
  have X : zCx p m c cX1_worth 7 s [.ref s0, .int x1, .int x2, .int x3, .int x4, .int x5, .int x6].toArray RX1 meth (some .int) := X
  have S := X.1
  obtain ⟨hx, hb, hml, hown, hts⟩ := X.1
  have hl : lv_has ls 7 [(0, .ref s0), (1, .int x1), (2, .int x2), (3, .int x3), (4, .int x4), (5, .int x5), (6, .int x6)] := hl
  obtain ⟨ht_s0, hp⟩ := hp
  refine lv_aload_n hx hb dX1_worth_0 rfl (lv_at hl 0 rfl) ?_
  refine g_get S hB (hB.ty ht_s0 rfl) rfl (T := TX1) (N := 16) (C := RX1) rfl in_X1 15 (by decide) (by decide) q204 (fun _ h9 => h9) (v := va_rf (zR μ s0 15)) rfl dX1_worth_1 ?_
  refine g_ifnonnull (tgt := 9) hx hb dX1_worth_4 rfl (fun c0 => ?_) (fun c0 => ?_)
  · have hp := zit hp c0
    refine lv_iconst (v := (nI 0)) hx hb dX1_worth_7 rfl ?_
    exact zret_i X hB hp dX1_worth_8
  · have hp := zif hp c0
    refine lv_aload_n hx hb dX1_worth_9 rfl (lv_at hl 0 rfl) ?_
    refine lv_iload hx hb dX1_worth_10 (lv_at hl 4 rfl) ?_
    refine lv_iload hx hb dX1_worth_12 (lv_at hl 5 rfl) ?_
    refine lv_iload hx hb dX1_worth_14 (lv_at hl 6 rfl) ?_
    refine z_callv (va_runV (As := [.int x4, .int x5, .int x6]) (rest := []) S (mX1_lays l Γ z s0 x4 x5 x6 μ _ hp) (cwV 3 hts (lw_V q833 q835 qs28 q128 q836) rfl rfl rfl hX1_lays ⟨Nat.le_of_ble_eq_true rfl, Nat.le_of_ble_eq_true rfl⟩) (hB.preV (hB.ty ht_s0 rfl) rfl rfl) rfl rfl hl.1 rfl (lv_room (Nat.le_of_ble_eq_true rfl)) dX1_worth_16 ⟨Nat.le_refl _, Nat.le_refl _⟩) hB (fun μ2 H locs hp hB => ?_)
    refine lv_aload_n hx hb dX1_worth_19 rfl (lv_at hl 0 rfl) ?_
    refine g_getr S hB (hB.ty ht_s0 rfl) rfl (T := TX1) (N := 16) (C := RX1) rfl in_X1 4 (by decide) (by decide) q179 (fun _ h9 => h9) (fun _ => rfl) (cS1 hB (hB.ty ht_s0 rfl) 4 rfl).1 dX1_worth_20 ?_
    refine lv_iconst (v := (nI 3)) hx hb dX1_worth_23 rfl ?_
    refine lv_iload_n hx hb dX1_worth_24 rfl (lv_at hl 1 rfl) ?_
    obtain ⟨hi, hp⟩ := hp
    obtain ⟨μ3, eμ3, hp⟩ := zpI_e hp
    refine g_iast S hB (cS1 hB (hB.ty ht_s0 rfl) 4 rfl).2 hi dX1_worth_25 (fun H locs hB => ?_)
    rw [← eμ3] at hB
    refine lv_aload_n hx hb dX1_worth_26 rfl (lv_at hl 0 rfl) ?_
    refine g_getr S hB (hB.ty ht_s0 rfl) rfl (T := TX1) (N := 16) (C := RX1) rfl in_X1 4 (by decide) (by decide) q179 (fun _ h9 => h9) (fun _ => rfl) (cS1 hB (hB.ty ht_s0 rfl) 4 rfl).1 dX1_worth_27 ?_
    refine lv_iconst (v := (nI 4)) hx hb dX1_worth_30 rfl ?_
    refine lv_iload_n hx hb dX1_worth_31 rfl (lv_at hl 2 rfl) ?_
    obtain ⟨hi, hp⟩ := hp
    obtain ⟨μ4, eμ4, hp⟩ := zpI_e hp
    refine g_iast S hB (cS1 hB (hB.ty ht_s0 rfl) 4 rfl).2 hi dX1_worth_32 (fun H locs hB => ?_)
    rw [← eμ4] at hB
    refine lv_aload_n hx hb dX1_worth_33 rfl (lv_at hl 0 rfl) ?_
    refine g_getr S hB (hB.ty ht_s0 rfl) rfl (T := TX1) (N := 16) (C := RX1) rfl in_X1 4 (by decide) (by decide) q179 (fun _ h9 => h9) (fun _ => rfl) (cS1 hB (hB.ty ht_s0 rfl) 4 rfl).1 dX1_worth_34 ?_
    refine lv_iconst (v := (nI 5)) hx hb dX1_worth_37 rfl ?_
    refine lv_iload_n hx hb dX1_worth_38 rfl (lv_at hl 3 rfl) ?_
    refine lv_if_eq (tgt := 46) hx hb dX1_worth_39 rfl (fun c0 => ?_) (fun c0 => ?_)
    · have hp := zit hp c0
      refine lv_iconst (v := (nI 0)) hx hb dX1_worth_46 rfl ?_
      exact wX1_worth_47 X ht_s0 z (nI 0) (nI 5) μ4 _ _ _ hp hB (lv_sub hl [0] rfl)
    · have hp := zif hp c0
      refine lv_iconst (v := (nI 1)) hx hb dX1_worth_42 rfl ?_
      refine lv_goto (tgt := 47) hx hb dX1_worth_43 rfl ?_
      exact wX1_worth_47 X ht_s0 z (nI 1) (nI 5) μ4 _ _ _ hp hB (lv_sub hl [0] rfl)
def pX2_inches (z : Nat) (s0 : Nat) (μ : zM) (Q : Int32 → zM → Prop) : Prop := zty μ s0 = some (.inl 2) ∧ (zde (zR μ z 0) fun b1 => (pX2_whole z s0 μ fun r3 μ2 => (pX2_buried z s0 μ2 fun r5 μ4 => (pX1_inches z b1 r3 (zI μ2 s0 3) (zI μ2 s0 4) (zI μ2 s0 5) r5 μ4 fun r7 μ6 => Q r7 μ6))))
theorem tX2_inches {z : Nat} {s0 : Nat} {μ : zM} {Q : Int32 → zM → Prop} (h : pX2_inches z s0 μ Q) : zty μ s0 = some (.inl 2) := h.1
theorem hX2_inches : yX2_inches.cls = "SunkTower$State" ∧ yX2_inches.cls ≠ "java/lang/invoke/MethodHandle" ∧ yX2_inches.cls ≠ "java/lang/invoke/VarHandle" ∧ (parseMethodDescriptor yX2_inches.desc).map (fun d => d.parameters.length) = some 0 := by decide +kernel
set_option maxHeartbeats 4000000 in
set_option maxRecDepth 100000 in
theorem mX2_inches (l : Launch) (Γ : zG) (z : Nat) (s0 : Nat) (μ : zM) (Q : Int32 → zM → Prop) (hp : pX2_inches z s0 μ Q) : Met l yX2_inches (ws_ yX2_inches cX2_inches 1 (some .int)) ({ frames := 462, cells := 0, slots := 0, locals := 12473 } : Room) (va_Pc [.ref s0] (zPre Γ (cSh z) μ)) (va_Qi Q (zPost Γ (cSh z) μ) (zA μ)) 0 0 (zA μ) := by
  refine zstart (by decide) (Nat.le_of_ble_eq_true rfl) ?_
  intro p e s m below meth c ls X hnm hB hl
  have X : zCx p m c cX2_inches 1 s [.ref s0].toArray RX2 meth (some .int) := X
  have S := X.1
  obtain ⟨hx, hb, hml, hown, hts⟩ := X.1
  have hl : lv_has ls 1 [(0, .ref s0)] := hl
  obtain ⟨ht_s0, hp⟩ := hp
  refine lv_aload_n hx hb dX2_inches_0 rfl (lv_at hl 0 rfl) ?_
  refine g_getr S hB (hB.ty ht_s0 rfl) rfl (T := TX2) (N := 8) (C := RX2) rfl in_X2 7 (by decide) (by decide) q260 (fun _ h9 => h9) (fun _ => rfl) (cZ2 hB (hB.ty ht_s0 rfl)) dX2_inches_1 ?_
  refine g_getN S hB (cT hB) rfl (T := TX0) (N := 33) (C := RX0) rfl in_X0 0 (by decide) (by decide) (zNFw hB 25 rfl) (fun _ h9 => h9) (v := va_rf (zR μ z 0)) rfl dX2_inches_4 ?_
  obtain ⟨b1, eb, hp⟩ := hp
  refine W.eq (g2 := F0 m 7 ls [.ref b1]) (by rw [eb]; rfl) ?_
  refine lv_aload_n hx hb dX2_inches_7 rfl (lv_at hl 0 rfl) ?_
  refine z_calli (va_runV (As := []) (rest := [.ref b1]) S (mX2_whole l Γ z s0 μ _ hp) (cwV 0 hts (lw_V q788 q777 q778 q129 q779) rfl rfl rfl hX2_whole ⟨Nat.le_of_ble_eq_true rfl, Nat.le_of_ble_eq_true rfl⟩) (hB.preV (hB.ty ht_s0 rfl) rfl rfl) rfl rfl hl.1 rfl (lv_room (Nat.le_of_ble_eq_true rfl)) dX2_inches_8 ⟨Nat.le_refl _, Nat.le_refl _⟩) hB (fun r3 μ2 H locs hp hB => ?_)
  refine lv_aload_n hx hb dX2_inches_11 rfl (lv_at hl 0 rfl) ?_
  refine g_get S hB (hB.ty ht_s0 rfl) rfl (T := TX2) (N := 8) (C := RX2) rfl in_X2 3 (by decide) (by decide) q252 (fun _ h9 => h9) (v := .int (zI μ2 s0 3)) rfl dX2_inches_12 ?_
  refine lv_aload_n hx hb dX2_inches_15 rfl (lv_at hl 0 rfl) ?_
  refine g_get S hB (hB.ty ht_s0 rfl) rfl (T := TX2) (N := 8) (C := RX2) rfl in_X2 4 (by decide) (by decide) q254 (fun _ h9 => h9) (v := .int (zI μ2 s0 4)) rfl dX2_inches_16 ?_
  refine lv_aload_n hx hb dX2_inches_19 rfl (lv_at hl 0 rfl) ?_
  refine g_get S hB (hB.ty ht_s0 rfl) rfl (T := TX2) (N := 8) (C := RX2) rfl in_X2 5 (by decide) (by decide) q256 (fun _ h9 => h9) (v := .int (zI μ2 s0 5)) rfl dX2_inches_20 ?_
  refine lv_aload_n hx hb dX2_inches_23 rfl (lv_at hl 0 rfl) ?_
  refine z_calli (va_runV (As := []) (rest := [.int (zI μ2 s0 5), .int (zI μ2 s0 4), .int (zI μ2 s0 3), .int r3, .ref b1]) S (mX2_buried l Γ z s0 μ2 _ hp) (cwV 0 hts (lw_V q789 q790 q791 q129 q792) rfl rfl rfl hX2_buried ⟨Nat.le_of_ble_eq_true rfl, Nat.le_of_ble_eq_true rfl⟩) (hB.preV (hB.ty ht_s0 rfl) rfl rfl) rfl rfl hl.1 rfl (lv_room (Nat.le_of_ble_eq_true rfl)) dX2_inches_24 ⟨Nat.le_refl _, Nat.le_refl _⟩) hB (fun r5 μ4 H locs hp hB => ?_)
  refine z_calli (va_runV (As := [.int r3, .int (zI μ2 s0 3), .int (zI μ2 s0 4), .int (zI μ2 s0 5), .int r5]) (rest := []) S (mX1_inches l Γ z b1 r3 (zI μ2 s0 3) (zI μ2 s0 4) (zI μ2 s0 5) r5 μ4 _ hp) (cwV 5 hts (lw_V q794 q795 q796 q128 q797) rfl rfl rfl hX1_inches ⟨Nat.le_of_ble_eq_true rfl, Nat.le_of_ble_eq_true rfl⟩) (hB.preV (tX1_inches hp) rfl rfl) rfl rfl hl.1 rfl (lv_room (Nat.le_of_ble_eq_true rfl)) dX2_inches_27 ⟨Nat.le_refl _, Nat.le_refl _⟩) hB (fun r7 μ6 H locs hp hB => ?_)
  exact zret_i X hB hp dX2_inches_30
def pX2_pays (z : Nat) (s0 : Nat) (x1 : Int32) (μ : zM) (Q : Int32 → zM → Prop) : Prop := zty μ s0 = some (.inl 2) ∧ (zde (zR μ z 0) fun b1 => (pX1_pays z b1 x1 (zI μ s0 4) (zI μ s0 5) μ fun r3 μ2 => Q r3 μ2))
theorem tX2_pays {z : Nat} {s0 : Nat} {x1 : Int32} {μ : zM} {Q : Int32 → zM → Prop} (h : pX2_pays z s0 x1 μ Q) : zty μ s0 = some (.inl 2) := h.1
theorem hX2_pays : yX2_pays.cls = "SunkTower$State" ∧ yX2_pays.cls ≠ "java/lang/invoke/MethodHandle" ∧ yX2_pays.cls ≠ "java/lang/invoke/VarHandle" ∧ (parseMethodDescriptor yX2_pays.desc).map (fun d => d.parameters.length) = some 1 := by decide +kernel
set_option maxHeartbeats 4000000 in
set_option maxRecDepth 100000 in
theorem mX2_pays (l : Launch) (Γ : zG) (z : Nat) (s0 : Nat) (x1 : Int32) (μ : zM) (Q : Int32 → zM → Prop) (hp : pX2_pays z s0 x1 μ Q) : Met l yX2_pays (ws_ yX2_pays cX2_pays 2 (some .int)) ({ frames := 462, cells := 0, slots := 0, locals := 12470 } : Room) (va_Pc [.ref s0, .int x1] (zPre Γ (cSh z) μ)) (va_Qi Q (zPost Γ (cSh z) μ) (zA μ)) 0 0 (zA μ) := by
  refine zstart (by decide) (Nat.le_of_ble_eq_true rfl) ?_
  intro p e s m below meth c ls X hnm hB hl
  have X : zCx p m c cX2_pays 2 s [.ref s0, .int x1].toArray RX2 meth (some .int) := X
  have S := X.1
  obtain ⟨hx, hb, hml, hown, hts⟩ := X.1
  have hl : lv_has ls 2 [(0, .ref s0), (1, .int x1)] := hl
  obtain ⟨ht_s0, hp⟩ := hp
  refine lv_aload_n hx hb dX2_pays_0 rfl (lv_at hl 0 rfl) ?_
  refine g_getr S hB (hB.ty ht_s0 rfl) rfl (T := TX2) (N := 8) (C := RX2) rfl in_X2 7 (by decide) (by decide) q260 (fun _ h9 => h9) (fun _ => rfl) (cZ2 hB (hB.ty ht_s0 rfl)) dX2_pays_1 ?_
  refine g_getN S hB (cT hB) rfl (T := TX0) (N := 33) (C := RX0) rfl in_X0 0 (by decide) (by decide) (zNFw hB 25 rfl) (fun _ h9 => h9) (v := va_rf (zR μ z 0)) rfl dX2_pays_4 ?_
  obtain ⟨b1, eb, hp⟩ := hp
  refine W.eq (g2 := F0 m 7 ls [.ref b1]) (by rw [eb]; rfl) ?_
  refine lv_iload_n hx hb dX2_pays_7 rfl (lv_at hl 1 rfl) ?_
  refine lv_aload_n hx hb dX2_pays_8 rfl (lv_at hl 0 rfl) ?_
  refine g_get S hB (hB.ty ht_s0 rfl) rfl (T := TX2) (N := 8) (C := RX2) rfl in_X2 4 (by decide) (by decide) q254 (fun _ h9 => h9) (v := .int (zI μ s0 4)) rfl dX2_pays_9 ?_
  refine lv_aload_n hx hb dX2_pays_12 rfl (lv_at hl 0 rfl) ?_
  refine g_get S hB (hB.ty ht_s0 rfl) rfl (T := TX2) (N := 8) (C := RX2) rfl in_X2 5 (by decide) (by decide) q256 (fun _ h9 => h9) (v := .int (zI μ s0 5)) rfl dX2_pays_13 ?_
  refine z_calli (va_runV (As := [.int x1, .int (zI μ s0 4), .int (zI μ s0 5)]) (rest := []) S (mX1_pays l Γ z b1 x1 (zI μ s0 4) (zI μ s0 5) μ _ hp) (cwV 3 hts (lw_V q829 q830 q831 q128 q832) rfl rfl rfl hX1_pays ⟨Nat.le_of_ble_eq_true rfl, Nat.le_of_ble_eq_true rfl⟩) (hB.preV (tX1_pays hp) rfl rfl) rfl rfl hl.1 rfl (lv_room (Nat.le_of_ble_eq_true rfl)) dX2_pays_16 ⟨Nat.le_refl _, Nat.le_refl _⟩) hB (fun r3 μ2 H locs hp hB => ?_)
  exact zret_i X hB hp dX2_pays_19
def pX2_worth_40 (z : Nat) (s0 : Nat) (x2 : Int32) (Q : Int32 → zM → Prop) (y4 : Int32) (y3 : Int32) (y2 : Int32) (y1 : Nat) (μ : zM) : Prop := (pX1_worth z y1 y2 y3 y4 x2 (zI μ s0 4) (zI μ s0 5) μ fun r2 μ1 => Q r2 μ1)
set_option maxHeartbeats 4000000 in
set_option maxRecDepth 100000 in
theorem wX2_worth_40 {p : Program} {l : Launch} {e : Env} {s : State} {m : MethodId} {args : Array Value} {below : List Frame} {meth : Method} {c : Code} {Γ : zG} {μ0 : zM} {Q : Int32 → zM → Prop} (X : zCx p m c cX2_worth 3 s args RX2 meth (some .int)) {s0 : Nat} (ht_s0 : zty μ0 s0 = some (.inl 2)) (z : Nat) (x2 : Int32) : ∀ (y4 : Int32) (y3 : Int32) (y2 : Int32) (y1 : Nat) (μ : zM) (H : Heap) (locs : List Loc) (ls : Array Slot), pX2_worth_40 z s0 x2 Q y4 y3 y2 y1 μ → zB Γ (cSh z) (zA μ0) μ0 s μ H locs → lv_has ls 3 [(0, .ref s0), (2, .int x2)] → W p l e ({ frames := 462, cells := 0, slots := 0, locals := 12473 } : Room) s m args below meth c H locs 0 0 (MQ below (va_Qi Q (zPost Γ (cSh z) μ0) (zA μ0)) args s 0 0 (zA μ0)) (F0 m 40 ls [.int y4, .int y3, .int y2, .ref y1]) := by
  have S := X.1
  obtain ⟨hx, hb, hml, hown, hts⟩ := X.1
  intro y4 y3 y2 y1 μ H locs ls hp hB hl
  unfold pX2_worth_40 at hp
  refine lv_iload_n hx hb dX2_worth_40 rfl (lv_at hl 1 rfl) ?_
  refine lv_aload_n hx hb dX2_worth_41 rfl (lv_at hl 0 rfl) ?_
  refine g_get S hB (hB.ty ht_s0 rfl) rfl (T := TX2) (N := 8) (C := RX2) rfl in_X2 4 (by decide) (by decide) q254 (fun _ h9 => h9) (v := .int (zI μ s0 4)) rfl dX2_worth_42 ?_
  refine lv_aload_n hx hb dX2_worth_45 rfl (lv_at hl 0 rfl) ?_
  refine g_get S hB (hB.ty ht_s0 rfl) rfl (T := TX2) (N := 8) (C := RX2) rfl in_X2 5 (by decide) (by decide) q256 (fun _ h9 => h9) (v := .int (zI μ s0 5)) rfl dX2_worth_46 ?_
  refine z_calli (va_runV (As := [.int y2, .int y3, .int y4, .int x2, .int (zI μ s0 4), .int (zI μ s0 5)]) (rest := []) S (mX1_worth l Γ z y1 y2 y3 y4 x2 (zI μ s0 4) (zI μ s0 5) μ _ hp) (cwV 6 hts (lw_V q849 q850 q851 q128 q852) rfl rfl rfl hX1_worth ⟨Nat.le_of_ble_eq_true rfl, Nat.le_of_ble_eq_true rfl⟩) (hB.preV (tX1_worth hp) rfl rfl) rfl rfl hl.1 rfl (lv_room (Nat.le_of_ble_eq_true rfl)) dX2_worth_49 ⟨Nat.le_refl _, Nat.le_refl _⟩) hB (fun r2 μ1 H locs hp hB => ?_)
  exact zret_i X hB hp dX2_worth_52
def pX2_worth (z : Nat) (s0 : Nat) (x1 : Int32) (x2 : Int32) (μ : zM) (Q : Int32 → zM → Prop) : Prop := zty μ s0 = some (.inl 2) ∧ (zde (zR μ z 0) fun b1 => (zde (zR μ z 0) fun b2 => (zty μ b2 = some (.inl 1) ∧ (vp_in x1 6 ∧ (vp_in x1 6 ∧ (vp_in x1 6 ∧ (if (zI μ (s0 + 1) x1.toNatClampNeg) = x2 then pX2_worth_40 z s0 x2 Q (nI 1) (zI μ (s0 + 2) x1.toNatClampNeg) (zI μ (b2 + 3) x1.toNatClampNeg) b1 μ else pX2_worth_40 z s0 x2 Q (nI 0) (zI μ (s0 + 2) x1.toNatClampNeg) (zI μ (b2 + 3) x1.toNatClampNeg) b1 μ)))))))
theorem tX2_worth {z : Nat} {s0 : Nat} {x1 : Int32} {x2 : Int32} {μ : zM} {Q : Int32 → zM → Prop} (h : pX2_worth z s0 x1 x2 μ Q) : zty μ s0 = some (.inl 2) := h.1
theorem hX2_worth : yX2_worth.cls = "SunkTower$State" ∧ yX2_worth.cls ≠ "java/lang/invoke/MethodHandle" ∧ yX2_worth.cls ≠ "java/lang/invoke/VarHandle" ∧ (parseMethodDescriptor yX2_worth.desc).map (fun d => d.parameters.length) = some 2 := by decide +kernel
set_option maxHeartbeats 4000000 in
set_option maxRecDepth 100000 in
theorem mX2_worth (l : Launch) (Γ : zG) (z : Nat) (s0 : Nat) (x1 : Int32) (x2 : Int32) (μ : zM) (Q : Int32 → zM → Prop) (hp : pX2_worth z s0 x1 x2 μ Q) : Met l yX2_worth (ws_ yX2_worth cX2_worth 3 (some .int)) ({ frames := 462, cells := 0, slots := 0, locals := 12473 } : Room) (va_Pc [.ref s0, .int x1, .int x2] (zPre Γ (cSh z) μ)) (va_Qi Q (zPost Γ (cSh z) μ) (zA μ)) 0 0 (zA μ) := by
  refine zstart (by decide) (Nat.le_of_ble_eq_true rfl) ?_
  intro p e s m below meth c ls X hnm hB hl
  have X : zCx p m c cX2_worth 3 s [.ref s0, .int x1, .int x2].toArray RX2 meth (some .int) := X
  have S := X.1
  obtain ⟨hx, hb, hml, hown, hts⟩ := X.1
  have hl : lv_has ls 3 [(0, .ref s0), (1, .int x1), (2, .int x2)] := hl
  obtain ⟨ht_s0, hp⟩ := hp
  refine lv_aload_n hx hb dX2_worth_0 rfl (lv_at hl 0 rfl) ?_
  refine g_getr S hB (hB.ty ht_s0 rfl) rfl (T := TX2) (N := 8) (C := RX2) rfl in_X2 7 (by decide) (by decide) q260 (fun _ h9 => h9) (fun _ => rfl) (cZ2 hB (hB.ty ht_s0 rfl)) dX2_worth_1 ?_
  refine g_getN S hB (cT hB) rfl (T := TX0) (N := 33) (C := RX0) rfl in_X0 0 (by decide) (by decide) (zNFw hB 25 rfl) (fun _ h9 => h9) (v := va_rf (zR μ z 0)) rfl dX2_worth_4 ?_
  obtain ⟨b1, eb, hp⟩ := hp
  refine W.eq (g2 := F0 m 7 ls [.ref b1]) (by rw [eb]; rfl) ?_
  refine lv_aload_n hx hb dX2_worth_7 rfl (lv_at hl 0 rfl) ?_
  refine g_getr S hB (hB.ty ht_s0 rfl) rfl (T := TX2) (N := 8) (C := RX2) rfl in_X2 7 (by decide) (by decide) q260 (fun _ h9 => h9) (fun _ => rfl) (cZ2 hB (hB.ty ht_s0 rfl)) dX2_worth_8 ?_
  refine g_getN S hB (cT hB) rfl (T := TX0) (N := 33) (C := RX0) rfl in_X0 0 (by decide) (by decide) (zNFw hB 25 rfl) (fun _ h9 => h9) (v := va_rf (zR μ z 0)) rfl dX2_worth_11 ?_
  obtain ⟨b2, eb, hp⟩ := hp
  refine W.eq (g2 := F0 m 14 ls [.ref b2, .ref b1]) (by rw [eb]; rfl) ?_
  obtain ⟨ht3, hp⟩ := hp
  refine g_getrN S hB ht3 rfl (T := TX1) (N := 16) (C := RX1) rfl in_X1 2 (by decide) (by decide) (zNFw hB 18 rfl) (fun _ h9 => h9) (fun _ => rfl) (cS1 hB ht3 2 rfl).1 dX2_worth_14 ?_
  refine lv_iload_n hx hb dX2_worth_17 rfl (lv_at hl 1 rfl) ?_
  obtain ⟨hi, hp⟩ := hp
  refine g_iald S hB (cS1 hB ht3 2 rfl).2 hi dX2_worth_18 ?_
  refine lv_aload_n hx hb dX2_worth_19 rfl (lv_at hl 0 rfl) ?_
  refine g_getr S hB (hB.ty ht_s0 rfl) rfl (T := TX2) (N := 8) (C := RX2) rfl in_X2 1 (by decide) (by decide) q248 (fun _ h9 => h9) (fun _ => rfl) (cS2 hB (hB.ty ht_s0 rfl) 1 rfl).1 dX2_worth_20 ?_
  refine lv_iload_n hx hb dX2_worth_23 rfl (lv_at hl 1 rfl) ?_
  obtain ⟨hi, hp⟩ := hp
  refine g_iald S hB (cS2 hB (hB.ty ht_s0 rfl) 1 rfl).2 hi dX2_worth_24 ?_
  refine lv_aload_n hx hb dX2_worth_25 rfl (lv_at hl 0 rfl) ?_
  refine g_getr S hB (hB.ty ht_s0 rfl) rfl (T := TX2) (N := 8) (C := RX2) rfl in_X2 0 (by decide) (by decide) q246 (fun _ h9 => h9) (fun _ => rfl) (cS2 hB (hB.ty ht_s0 rfl) 0 rfl).1 dX2_worth_26 ?_
  refine lv_iload_n hx hb dX2_worth_29 rfl (lv_at hl 1 rfl) ?_
  obtain ⟨hi, hp⟩ := hp
  refine g_iald S hB (cS2 hB (hB.ty ht_s0 rfl) 0 rfl).2 hi dX2_worth_30 ?_
  refine lv_iload_n hx hb dX2_worth_31 rfl (lv_at hl 2 rfl) ?_
  refine lv_icmp_ne (tgt := 39) hx hb dX2_worth_32 rfl (fun c0 => ?_) (fun c0 => ?_)
  · have hp := zif hp c0
    refine lv_iconst (v := (nI 0)) hx hb dX2_worth_39 rfl ?_
    exact wX2_worth_40 X ht_s0 z x2 (nI 0) (zI μ (s0 + 2) x1.toNatClampNeg) (zI μ (b2 + 3) x1.toNatClampNeg) b1 μ _ _ _ hp hB (lv_sub hl [0, 2] rfl)
  · have hp := zit hp c0
    refine lv_iconst (v := (nI 1)) hx hb dX2_worth_35 rfl ?_
    refine lv_goto (tgt := 40) hx hb dX2_worth_36 rfl ?_
    exact wX2_worth_40 X ht_s0 z x2 (nI 1) (zI μ (s0 + 2) x1.toNatClampNeg) (zI μ (b2 + 3) x1.toNatClampNeg) b1 μ _ _ _ hp hB (lv_sub hl [0, 2] rfl)
def pX2_sinks (z : Nat) (s0 : Nat) (μ : zM) (Q : Int32 → zM → Prop) : Prop := zty μ s0 = some (.inl 2) ∧ (pX2_inches z s0 μ fun r2 μ1 => (zpI μ1 s0 4 (if ((zI μ s0 4) + r2) < (nI 99999) then ((zI μ s0 4) + r2) else (nI 99999)) fun μ3 => (zpI μ3 s0 5 ((zI μ3 s0 5) + (nI 1)) fun μ4 => Q ((zI μ4 s0 4) - (zI μ s0 4)) μ4)))
theorem tX2_sinks {z : Nat} {s0 : Nat} {μ : zM} {Q : Int32 → zM → Prop} (h : pX2_sinks z s0 μ Q) : zty μ s0 = some (.inl 2) := h.1
theorem hX2_sinks : yX2_sinks.cls = "SunkTower$State" ∧ yX2_sinks.cls ≠ "java/lang/invoke/MethodHandle" ∧ yX2_sinks.cls ≠ "java/lang/invoke/VarHandle" ∧ (parseMethodDescriptor yX2_sinks.desc).map (fun d => d.parameters.length) = some 0 := by decide +kernel
set_option maxHeartbeats 4000000 in
set_option maxRecDepth 100000 in
theorem mX2_sinks (l : Launch) (Γ : zG) (z : Nat) (s0 : Nat) (μ : zM) (Q : Int32 → zM → Prop) (hp : pX2_sinks z s0 μ Q) : Met l yX2_sinks (ws_ yX2_sinks cX2_sinks 2 (some .int)) ({ frames := 463, cells := 0, slots := 0, locals := 12493 } : Room) (va_Pc [.ref s0] (zPre Γ (cSh z) μ)) (va_Qi Q (zPost Γ (cSh z) μ) (zA μ)) 0 0 (zA μ) := by
  refine zstart (by decide) (Nat.le_of_ble_eq_true rfl) ?_
  intro p e s m below meth c ls X hnm hB hl
  have X : zCx p m c cX2_sinks 2 s [.ref s0].toArray RX2 meth (some .int) := X
  have S := X.1
  obtain ⟨hx, hb, hml, hown, hts⟩ := X.1
  have hl : lv_has ls 2 [(0, .ref s0)] := hl
  obtain ⟨ht_s0, hp⟩ := hp
  refine lv_aload_n hx hb dX2_sinks_0 rfl (lv_at hl 0 rfl) ?_
  refine g_get S hB (hB.ty ht_s0 rfl) rfl (T := TX2) (N := 8) (C := RX2) rfl in_X2 4 (by decide) (by decide) q254 (fun _ h9 => h9) (v := .int (zI μ s0 4)) rfl dX2_sinks_1 ?_
  refine lv_istore_n (lv' := [(1, .int (zI μ s0 4)), (0, .ref s0)]) hx hb dX2_sinks_4 rfl hl (by decide) rfl (fun ls hl => ?_)
  refine lv_aload_n hx hb dX2_sinks_5 rfl (lv_at hl 1 rfl) ?_
  refine lv_ldc (v := (nI 99999)) hx hb hown (hts _ q875) dX2_sinks_6 ?_
  refine lv_aload_n hx hb dX2_sinks_8 rfl (lv_at hl 1 rfl) ?_
  refine g_get S hB (hB.ty ht_s0 rfl) rfl (T := TX2) (N := 8) (C := RX2) rfl in_X2 4 (by decide) (by decide) q254 (fun _ h9 => h9) (v := .int (zI μ s0 4)) rfl dX2_sinks_9 ?_
  refine lv_aload_n hx hb dX2_sinks_12 rfl (lv_at hl 1 rfl) ?_
  refine z_calli (va_runV (As := []) (rest := [.int (zI μ s0 4), .int (nI 99999), .ref s0]) S (mX2_inches l Γ z s0 μ _ hp) (cwV 0 hts (lw_V q876 q785 q786 q129 q787) rfl rfl rfl hX2_inches ⟨Nat.le_of_ble_eq_true rfl, Nat.le_of_ble_eq_true rfl⟩) (hB.preV (hB.ty ht_s0 rfl) rfl rfl) rfl rfl hl.1 rfl (lv_room (Nat.le_of_ble_eq_true rfl)) dX2_sinks_13 ⟨Nat.le_refl _, Nat.le_refl _⟩) hB (fun r2 μ1 H locs hp hB => ?_)
  refine lv_iadd hx hb dX2_sinks_16 ?_
  refine va_mmin hx hb (hml.trans hl.1.symm) hown (hts _ q793) (hts _ q524) (hts _ q136) (hts _ q525) (Nat.le_of_ble_eq_true rfl) (Nat.le_of_ble_eq_true rfl) (Nat.le_refl _) (Nat.le_refl _) dX2_sinks_17 ?_
  obtain ⟨μ3, eμ3, hp⟩ := zpI_e hp
  refine g_putI S hB (hB.ty ht_s0 rfl) rfl (T := TX2) (N := 8) (C := RX2) rfl in_X2 4 (by decide) (by decide) (x := (if ((zI μ s0 4) + r2) < (nI 99999) then ((zI μ s0 4) + r2) else (nI 99999))) tyX2 tyX2_ok nmX2 q254 (fun _ h9 => h9) rfl (ty := .int) (by decide +kernel) rfl rfl (fun _ _ => rfl) dX2_sinks_20 (fun H locs hB => ?_)
  rw [← eμ3] at hB
  refine lv_aload_n hx hb dX2_sinks_23 rfl (lv_at hl 1 rfl) ?_
  refine lv_dup hx hb dX2_sinks_24 rfl ?_
  refine g_get S hB (hB.ty ht_s0 rfl) rfl (T := TX2) (N := 8) (C := RX2) rfl in_X2 5 (by decide) (by decide) q256 (fun _ h9 => h9) (v := .int (zI μ3 s0 5)) rfl dX2_sinks_25 ?_
  refine lv_iconst (v := (nI 1)) hx hb dX2_sinks_28 rfl ?_
  refine lv_iadd hx hb dX2_sinks_29 ?_
  obtain ⟨μ4, eμ4, hp⟩ := zpI_e hp
  refine g_putI S hB (hB.ty ht_s0 rfl) rfl (T := TX2) (N := 8) (C := RX2) rfl in_X2 5 (by decide) (by decide) (x := ((zI μ3 s0 5) + (nI 1))) tyX2 tyX2_ok nmX2 q256 (fun _ h9 => h9) rfl (ty := .int) (by decide +kernel) rfl rfl (fun _ _ => rfl) dX2_sinks_30 (fun H locs hB => ?_)
  rw [← eμ4] at hB
  refine lv_aload_n hx hb dX2_sinks_33 rfl (lv_at hl 1 rfl) ?_
  refine g_get S hB (hB.ty ht_s0 rfl) rfl (T := TX2) (N := 8) (C := RX2) rfl in_X2 4 (by decide) (by decide) q254 (fun _ h9 => h9) (v := .int (zI μ4 s0 4)) rfl dX2_sinks_34 ?_
  refine lv_iload_n hx hb dX2_sinks_37 rfl (lv_at hl 0 rfl) ?_
  refine lv_isub hx hb dX2_sinks_38 ?_
  exact zret_i X hB hp dX2_sinks_39
def pX2_paysAll_30 (z : Nat) (s0 : Nat) (x1 : Int32) (K4 : Int32 → Int32 → zM → Prop) (Q : Int32 → zM → Prop) (x3 : Int32) (y1 : Int32) (μ : zM) : Prop := (pX2_pays z s0 x3 μ fun r2 μ1 => K4 (y1 + r2) (x3 + (nI 1)) μ1)
set_option maxHeartbeats 4000000 in
set_option maxRecDepth 100000 in
theorem wX2_paysAll_30 {p : Program} {l : Launch} {e : Env} {s : State} {m : MethodId} {args : Array Value} {below : List Frame} {meth : Method} {c : Code} {Γ : zG} {μ0 : zM} {Q : Int32 → zM → Prop} {K4 : Int32 → Int32 → zM → Prop} (X : zCx p m c cX2_paysAll 4 s args RX2 meth (some .int)) {s0 : Nat} (ht_s0 : zty μ0 s0 = some (.inl 2)) (z : Nat) (x1 : Int32) (hK4 : ∀ (x2 : Int32) (x3 : Int32) (μ : zM) (H : Heap) (locs : List Loc) (ls : Array Slot), K4 x2 x3 μ → zB Γ (cSh z) (zA μ0) μ0 s μ H locs → lv_has ls 4 [(0, .ref s0), (1, .int x1), (2, .int x2), (3, .int x3)] → W p l e ({ frames := 463, cells := 0, slots := 0, locals := 12491 } : Room) s m args below meth c H locs 0 0 (MQ below (va_Qi Q (zPost Γ (cSh z) μ0) (zA μ0)) args s 0 0 (zA μ0)) (F0 m 4 ls [])) : ∀ (x3 : Int32) (y1 : Int32) (μ : zM) (H : Heap) (locs : List Loc) (ls : Array Slot), pX2_paysAll_30 z s0 x1 K4 Q x3 y1 μ → zB Γ (cSh z) (zA μ0) μ0 s μ H locs → lv_has ls 4 [(0, .ref s0), (1, .int x1), (3, .int x3)] → W p l e ({ frames := 463, cells := 0, slots := 0, locals := 12491 } : Room) s m args below meth c H locs 0 0 (MQ below (va_Qi Q (zPost Γ (cSh z) μ0) (zA μ0)) args s 0 0 (zA μ0)) (F0 m 30 ls [.int y1]) := by
  have S := X.1
  obtain ⟨hx, hb, hml, hown, hts⟩ := X.1
  intro x3 y1 μ H locs ls hp hB hl
  unfold pX2_paysAll_30 at hp
  refine lv_aload_n hx hb dX2_paysAll_30 rfl (lv_at hl 0 rfl) ?_
  refine lv_iload_n hx hb dX2_paysAll_31 rfl (lv_at hl 2 rfl) ?_
  refine z_calli (va_runV (As := [.int x3]) (rest := [.int y1]) S (mX2_pays l Γ z s0 x3 μ _ hp) (cwV 1 hts (lw_V q1067 q826 q827 q129 q828) rfl rfl rfl hX2_pays ⟨Nat.le_of_ble_eq_true rfl, Nat.le_of_ble_eq_true rfl⟩) (hB.preV (hB.ty ht_s0 rfl) rfl rfl) rfl rfl hl.1 rfl (lv_room (Nat.le_of_ble_eq_true rfl)) dX2_paysAll_32 ⟨Nat.le_refl _, Nat.le_refl _⟩) hB (fun r2 μ1 H locs hp hB => ?_)
  refine lv_iadd hx hb dX2_paysAll_35 ?_
  refine lv_istore_n (lv' := [(2, .int (y1 + r2)), (0, .ref s0), (1, .int x1), (3, .int x3)]) hx hb dX2_paysAll_36 rfl hl (by decide) rfl (fun ls hl => ?_)
  refine lv_iinc (v := (x3 + (nI 1))) (lv' := [(3, .int (x3 + (nI 1))), (2, .int (y1 + r2)), (0, .ref s0), (1, .int x1)]) hx hb dX2_paysAll_37 hl (k := 3) rfl rfl (by decide) rfl (fun ls hl => ?_)
  refine lv_goto (tgt := 4) hx hb dX2_paysAll_40 rfl ?_
  exact hK4 (y1 + r2) (x3 + (nI 1)) μ1 _ _ _ hp hB (lv_sub hl [2, 3, 1, 0] rfl)
def pX2_paysAll_4 (z : Nat) (s0 : Nat) (x1 : Int32) (Q : Int32 → zM → Prop) : Nat → Int32 → Int32 → zM → Prop
  | 0, _, _, _ => False
  | n + 1, x2, x3, μ => (if (zI μ s0 3) ≤ x3 then Q x2 μ else (if x1 = 0 then pX2_paysAll_30 z s0 x1 (fun v0 v1 ν => pX2_paysAll_4 z s0 x1 Q n v0 v1 ν) Q x3 x2 μ else (pX2_who z s0 x3 μ fun r2 μ1 => (if r2 = (-1 : Int32) then pX2_paysAll_4 z s0 x1 Q n (x2 + (nI 0)) (x3 + (nI 1)) μ1 else pX2_paysAll_30 z s0 x1 (fun v0 v1 ν => pX2_paysAll_4 z s0 x1 Q n v0 v1 ν) Q x3 x2 μ1))))
set_option maxHeartbeats 4000000 in
set_option maxRecDepth 100000 in
theorem wX2_paysAll_4 {p : Program} {l : Launch} {e : Env} {s : State} {m : MethodId} {args : Array Value} {below : List Frame} {meth : Method} {c : Code} {Γ : zG} {μ0 : zM} {Q : Int32 → zM → Prop} (X : zCx p m c cX2_paysAll 4 s args RX2 meth (some .int)) {s0 : Nat} (ht_s0 : zty μ0 s0 = some (.inl 2)) (z : Nat) (x1 : Int32) : ∀ (n : Nat) (x2 : Int32) (x3 : Int32) (μ : zM) (H : Heap) (locs : List Loc) (ls : Array Slot), pX2_paysAll_4 z s0 x1 Q n x2 x3 μ → zB Γ (cSh z) (zA μ0) μ0 s μ H locs → lv_has ls 4 [(0, .ref s0), (1, .int x1), (2, .int x2), (3, .int x3)] → W p l e ({ frames := 463, cells := 0, slots := 0, locals := 12491 } : Room) s m args below meth c H locs 0 0 (MQ below (va_Qi Q (zPost Γ (cSh z) μ0) (zA μ0)) args s 0 0 (zA μ0)) (F0 m 4 ls []) := by
  have S := X.1
  obtain ⟨hx, hb, hml, hown, hts⟩ := X.1
  intro n
  induction n with
  | zero =>
    intro x2 x3 μ H locs ls hp
    exact hp.elim
  | succ n ih =>
    intro x2 x3 μ H locs ls hp hB hl
    unfold pX2_paysAll_4 at hp
    refine lv_iload_n hx hb dX2_paysAll_4 rfl (lv_at hl 3 rfl) ?_
    refine lv_aload_n hx hb dX2_paysAll_5 rfl (lv_at hl 0 rfl) ?_
    refine g_get S hB (hB.ty ht_s0 rfl) rfl (T := TX2) (N := 8) (C := RX2) rfl in_X2 3 (by decide) (by decide) q252 (fun _ h9 => h9) (v := .int (zI μ s0 3)) rfl dX2_paysAll_6 ?_
    refine lv_icmp_ge (tgt := 43) hx hb dX2_paysAll_9 rfl (fun c0 => ?_) (fun c0 => ?_)
    · have hp := zit hp c0
      refine lv_iload_n hx hb dX2_paysAll_43 rfl (lv_at hl 2 rfl) ?_
      exact zret_i X hB hp dX2_paysAll_44
    · have hp := zif hp c0
      refine lv_iload_n hx hb dX2_paysAll_12 rfl (lv_at hl 2 rfl) ?_
      refine lv_iload_n hx hb dX2_paysAll_13 rfl (lv_at hl 1 rfl) ?_
      refine lv_if_eq (tgt := 30) hx hb dX2_paysAll_14 rfl (fun c0 => ?_) (fun c0 => ?_)
      · have hp := zit hp c0
        exact wX2_paysAll_30 X ht_s0 z x1 (fun v0 v1 ν H2 L2 ls2 h2 b2 l2 => ih v0 v1 ν H2 L2 ls2 h2 b2 l2) x3 x2 μ _ _ _ hp hB (lv_sub hl [0, 1, 3] rfl)
      · have hp := zif hp c0
        refine lv_aload_n hx hb dX2_paysAll_17 rfl (lv_at hl 0 rfl) ?_
        refine lv_iload_n hx hb dX2_paysAll_18 rfl (lv_at hl 3 rfl) ?_
        refine z_calli (va_runV (As := [.int x3]) (rest := [.int x2]) S (mX2_who l Γ z s0 x3 μ _ hp) (cwV 1 hts (lw_V q894 q754 q755 q129 q756) rfl rfl rfl hX2_who ⟨Nat.le_of_ble_eq_true rfl, Nat.le_of_ble_eq_true rfl⟩) (hB.preV (hB.ty ht_s0 rfl) rfl rfl) rfl rfl hl.1 rfl (lv_room (Nat.le_of_ble_eq_true rfl)) dX2_paysAll_19 ⟨Nat.le_refl _, Nat.le_refl _⟩) hB (fun r2 μ1 H locs hp hB => ?_)
        refine lv_iconst (v := (-1 : Int32)) hx hb dX2_paysAll_22 rfl ?_
        refine lv_icmp_ne (tgt := 30) hx hb dX2_paysAll_23 rfl (fun c0 => ?_) (fun c0 => ?_)
        · have hp := zif hp c0
          exact wX2_paysAll_30 X ht_s0 z x1 (fun v0 v1 ν H2 L2 ls2 h2 b2 l2 => ih v0 v1 ν H2 L2 ls2 h2 b2 l2) x3 x2 μ1 _ _ _ hp hB (lv_sub hl [0, 1, 3] rfl)
        · have hp := zit hp c0
          refine lv_iconst (v := (nI 0)) hx hb dX2_paysAll_26 rfl ?_
          refine lv_goto (tgt := 35) hx hb dX2_paysAll_27 rfl ?_
          refine lv_iadd hx hb dX2_paysAll_35 ?_
          refine lv_istore_n (lv' := [(2, .int (x2 + (nI 0))), (0, .ref s0), (1, .int x1), (3, .int x3)]) hx hb dX2_paysAll_36 rfl hl (by decide) rfl (fun ls hl => ?_)
          refine lv_iinc (v := (x3 + (nI 1))) (lv' := [(3, .int (x3 + (nI 1))), (2, .int (x2 + (nI 0))), (0, .ref s0), (1, .int x1)]) hx hb dX2_paysAll_37 hl (k := 3) rfl rfl (by decide) rfl (fun ls hl => ?_)
          refine lv_goto (tgt := 4) hx hb dX2_paysAll_40 rfl ?_
          exact ih (x2 + (nI 0)) (x3 + (nI 1)) μ1 _ _ _ hp hB (lv_sub hl [2, 3, 1, 0] rfl)
def pX2_paysAll (z : Nat) (s0 : Nat) (x1 : Int32) (μ : zM) (Q : Int32 → zM → Prop) : Prop := zty μ s0 = some (.inl 2) ∧ ∃ k1, pX2_paysAll_4 z s0 x1 Q k1 (nI 0) (nI 0) μ
theorem tX2_paysAll {z : Nat} {s0 : Nat} {x1 : Int32} {μ : zM} {Q : Int32 → zM → Prop} (h : pX2_paysAll z s0 x1 μ Q) : zty μ s0 = some (.inl 2) := h.1
theorem hX2_paysAll : yX2_paysAll.cls = "SunkTower$State" ∧ yX2_paysAll.cls ≠ "java/lang/invoke/MethodHandle" ∧ yX2_paysAll.cls ≠ "java/lang/invoke/VarHandle" ∧ (parseMethodDescriptor yX2_paysAll.desc).map (fun d => d.parameters.length) = some 1 := by decide +kernel
set_option maxHeartbeats 4000000 in
set_option maxRecDepth 100000 in
theorem mX2_paysAll (l : Launch) (Γ : zG) (z : Nat) (s0 : Nat) (x1 : Int32) (μ : zM) (Q : Int32 → zM → Prop) (hp : pX2_paysAll z s0 x1 μ Q) : Met l yX2_paysAll (ws_ yX2_paysAll cX2_paysAll 4 (some .int)) ({ frames := 463, cells := 0, slots := 0, locals := 12491 } : Room) (va_Pc [.ref s0, .int x1] (zPre Γ (cSh z) μ)) (va_Qi Q (zPost Γ (cSh z) μ) (zA μ)) 0 0 (zA μ) := by
  refine zstart (by decide) (Nat.le_of_ble_eq_true rfl) ?_
  intro p e s m below meth c ls X hnm hB hl
  have X : zCx p m c cX2_paysAll 4 s [.ref s0, .int x1].toArray RX2 meth (some .int) := X
  have S := X.1
  obtain ⟨hx, hb, hml, hown, hts⟩ := X.1
  have hl : lv_has ls 4 [(0, .ref s0), (1, .int x1)] := hl
  obtain ⟨ht_s0, hp⟩ := hp
  refine lv_iconst (v := (nI 0)) hx hb dX2_paysAll_0 rfl ?_
  refine lv_istore_n (lv' := [(2, .int (nI 0)), (0, .ref s0), (1, .int x1)]) hx hb dX2_paysAll_1 rfl hl (by decide) rfl (fun ls hl => ?_)
  refine lv_iconst (v := (nI 0)) hx hb dX2_paysAll_2 rfl ?_
  refine lv_istore_n (lv' := [(3, .int (nI 0)), (2, .int (nI 0)), (0, .ref s0), (1, .int x1)]) hx hb dX2_paysAll_3 rfl hl (by decide) rfl (fun ls hl => ?_)
  obtain ⟨n1, hp⟩ := hp
  exact wX2_paysAll_4 X ht_s0 z x1 n1 (nI 0) (nI 0) μ _ _ _ hp hB (lv_sub hl [2, 3, 1, 0] rfl)
def pX5_next_37 (z : Nat) (s0 : Nat) (K0 : zM → Prop) (Q : zM → Prop) (μ : zM) : Prop := (zpI μ s0 2 ((zI μ s0 2) + (nI 1)) fun μ1 => K0 μ1)
set_option maxHeartbeats 4000000 in
set_option maxRecDepth 100000 in
theorem wX5_next_37 {p : Program} {l : Launch} {e : Env} {s : State} {m : MethodId} {args : Array Value} {below : List Frame} {meth : Method} {c : Code} {Γ : zG} {μ0 : zM} {Q : zM → Prop} {K0 : zM → Prop} (X : zCx p m c cX5_next 1 s args RX5 meth none) {s0 : Nat} (ht_s0 : zty μ0 s0 = some (.inl 5)) (z : Nat) (hK0 : ∀ (μ : zM) (H : Heap) (locs : List Loc) (ls : Array Slot), K0  μ → zB Γ (cSh z) (zA μ0) μ0 s μ H locs → lv_has ls 1 [(0, .ref s0)] → W p l e ({ frames := 4, cells := 0, slots := 0, locals := 91 } : Room) s m args below meth c H locs 0 0 (MQ below (va_Qv Q (zPost Γ (cSh z) μ0) (zA μ0)) args s 0 0 (zA μ0)) (F0 m 0 ls [])) : ∀ (μ : zM) (H : Heap) (locs : List Loc) (ls : Array Slot), pX5_next_37 z s0 K0 Q  μ → zB Γ (cSh z) (zA μ0) μ0 s μ H locs → lv_has ls 1 [(0, .ref s0)] → W p l e ({ frames := 4, cells := 0, slots := 0, locals := 91 } : Room) s m args below meth c H locs 0 0 (MQ below (va_Qv Q (zPost Γ (cSh z) μ0) (zA μ0)) args s 0 0 (zA μ0)) (F0 m 37 ls []) := by
  have S := X.1
  obtain ⟨hx, hb, hml, hown, hts⟩ := X.1
  intro  μ H locs ls hp hB hl
  unfold pX5_next_37 at hp
  refine lv_aload_n hx hb dX5_next_37 rfl (lv_at hl 0 rfl) ?_
  refine lv_dup hx hb dX5_next_38 rfl ?_
  refine g_get S hB (hB.ty ht_s0 rfl) rfl (T := TX5) (N := 11) (C := RX5) rfl in_X5 2 (by decide) (by decide) q432 (fun _ h9 => h9) (v := .int (zI μ s0 2)) rfl dX5_next_39 ?_
  refine lv_iconst (v := (nI 1)) hx hb dX5_next_42 rfl ?_
  refine lv_iadd hx hb dX5_next_43 ?_
  obtain ⟨μ1, eμ1, hp⟩ := zpI_e hp
  refine g_putI S hB (hB.ty ht_s0 rfl) rfl (T := TX5) (N := 11) (C := RX5) rfl in_X5 2 (by decide) (by decide) (x := ((zI μ s0 2) + (nI 1))) tyX5 tyX5_ok nmX5 q432 (fun _ h9 => h9) rfl (ty := .int) (by decide +kernel) rfl rfl (fun _ _ => rfl) dX5_next_44 (fun H locs hB => ?_)
  rw [← eμ1] at hB
  refine lv_goto (tgt := 0) hx hb dX5_next_47 rfl ?_
  exact hK0  μ1 _ _ _ hp hB (lv_sub hl [0] rfl)
def pX5_next_88 (z : Nat) (s0 : Nat) (Q : zM → Prop) : Nat → zM → Prop
  | 0, _ => False
  | n + 1, μ => (pX5_isSmall z s0 (zI μ s0 2) μ fun r2 μ1 => (if r2 = 0 then (zpI μ1 s0 4 (nI 1) fun μ3 => Q μ3) else (zpI μ1 s0 2 ((zI μ1 s0 2) + (nI 1)) fun μ4 => pX5_next_88 z s0 Q n μ4)))
set_option maxHeartbeats 4000000 in
set_option maxRecDepth 100000 in
theorem wX5_next_88 {p : Program} {l : Launch} {e : Env} {s : State} {m : MethodId} {args : Array Value} {below : List Frame} {meth : Method} {c : Code} {Γ : zG} {μ0 : zM} {Q : zM → Prop} (X : zCx p m c cX5_next 1 s args RX5 meth none) {s0 : Nat} (ht_s0 : zty μ0 s0 = some (.inl 5)) (z : Nat) : ∀ (n : Nat) (μ : zM) (H : Heap) (locs : List Loc) (ls : Array Slot), pX5_next_88 z s0 Q n  μ → zB Γ (cSh z) (zA μ0) μ0 s μ H locs → lv_has ls 1 [(0, .ref s0)] → W p l e ({ frames := 4, cells := 0, slots := 0, locals := 91 } : Room) s m args below meth c H locs 0 0 (MQ below (va_Qv Q (zPost Γ (cSh z) μ0) (zA μ0)) args s 0 0 (zA μ0)) (F0 m 88 ls []) := by
  have S := X.1
  obtain ⟨hx, hb, hml, hown, hts⟩ := X.1
  intro n
  induction n with
  | zero =>
    intro  μ H locs ls hp
    exact hp.elim
  | succ n ih =>
    intro  μ H locs ls hp hB hl
    unfold pX5_next_88 at hp
    refine lv_aload_n hx hb dX5_next_88 rfl (lv_at hl 0 rfl) ?_
    refine lv_aload_n hx hb dX5_next_89 rfl (lv_at hl 0 rfl) ?_
    refine g_get S hB (hB.ty ht_s0 rfl) rfl (T := TX5) (N := 11) (C := RX5) rfl in_X5 2 (by decide) (by decide) q432 (fun _ h9 => h9) (v := .int (zI μ s0 2)) rfl dX5_next_90 ?_
    refine z_calli (va_runV (As := [.int (zI μ s0 2)]) (rest := []) S (mX5_isSmall l Γ z s0 (zI μ s0 2) μ _ hp) (cwV 1 hts (lw_V q478 q480 qs3 q133 q481) rfl rfl rfl hX5_isSmall ⟨Nat.le_of_ble_eq_true rfl, Nat.le_of_ble_eq_true rfl⟩) (hB.preV (hB.ty ht_s0 rfl) rfl rfl) rfl rfl hl.1 rfl (lv_room (Nat.le_of_ble_eq_true rfl)) dX5_next_93 ⟨Nat.le_refl _, Nat.le_refl _⟩) hB (fun r2 μ1 H locs hp hB => ?_)
    refine lv_if_eq (tgt := 112) hx hb dX5_next_96 rfl (fun c0 => ?_) (fun c0 => ?_)
    · have hp := zit hp c0
      refine lv_aload_n hx hb dX5_next_112 rfl (lv_at hl 0 rfl) ?_
      refine lv_iconst (v := (nI 1)) hx hb dX5_next_113 rfl ?_
      obtain ⟨μ3, eμ3, hp⟩ := zpI_e hp
      refine g_putI S hB (hB.ty ht_s0 rfl) rfl (T := TX5) (N := 11) (C := RX5) rfl in_X5 4 (by decide) (by decide) (x := (nI 1)) tyX5 tyX5_ok nmX5 q434 (fun _ h9 => h9) rfl (ty := .int) (by decide +kernel) rfl rfl (fun _ _ => rfl) dX5_next_114 (fun H locs hB => ?_)
      rw [← eμ3] at hB
      refine lv_goto (tgt := 263) hx hb dX5_next_117 rfl ?_
      exact zret_v X hB hp dX5_next_263
    · have hp := zif hp c0
      refine lv_aload_n hx hb dX5_next_99 rfl (lv_at hl 0 rfl) ?_
      refine lv_dup hx hb dX5_next_100 rfl ?_
      refine g_get S hB (hB.ty ht_s0 rfl) rfl (T := TX5) (N := 11) (C := RX5) rfl in_X5 2 (by decide) (by decide) q432 (fun _ h9 => h9) (v := .int (zI μ1 s0 2)) rfl dX5_next_101 ?_
      refine lv_iconst (v := (nI 1)) hx hb dX5_next_104 rfl ?_
      refine lv_iadd hx hb dX5_next_105 ?_
      obtain ⟨μ4, eμ4, hp⟩ := zpI_e hp
      refine g_putI S hB (hB.ty ht_s0 rfl) rfl (T := TX5) (N := 11) (C := RX5) rfl in_X5 2 (by decide) (by decide) (x := ((zI μ1 s0 2) + (nI 1))) tyX5 tyX5_ok nmX5 q432 (fun _ h9 => h9) rfl (ty := .int) (by decide +kernel) rfl rfl (fun _ _ => rfl) dX5_next_106 (fun H locs hB => ?_)
      rw [← eμ4] at hB
      refine lv_goto (tgt := 88) hx hb dX5_next_109 rfl ?_
      exact ih  μ4 _ _ _ hp hB (lv_sub hl [0] rfl)
def pX5_next_183 (z : Nat) (s0 : Nat) (K136 : zM → Prop) (Q : zM → Prop) (μ : zM) : Prop := (zpI μ s0 2 ((zI μ s0 2) + (nI 1)) fun μ1 => K136 μ1)
set_option maxHeartbeats 4000000 in
set_option maxRecDepth 100000 in
theorem wX5_next_183 {p : Program} {l : Launch} {e : Env} {s : State} {m : MethodId} {args : Array Value} {below : List Frame} {meth : Method} {c : Code} {Γ : zG} {μ0 : zM} {Q : zM → Prop} {K136 : zM → Prop} (X : zCx p m c cX5_next 1 s args RX5 meth none) {s0 : Nat} (ht_s0 : zty μ0 s0 = some (.inl 5)) (z : Nat) (hK136 : ∀ (μ : zM) (H : Heap) (locs : List Loc) (ls : Array Slot), K136  μ → zB Γ (cSh z) (zA μ0) μ0 s μ H locs → lv_has ls 1 [(0, .ref s0)] → W p l e ({ frames := 4, cells := 0, slots := 0, locals := 91 } : Room) s m args below meth c H locs 0 0 (MQ below (va_Qv Q (zPost Γ (cSh z) μ0) (zA μ0)) args s 0 0 (zA μ0)) (F0 m 136 ls [])) : ∀ (μ : zM) (H : Heap) (locs : List Loc) (ls : Array Slot), pX5_next_183 z s0 K136 Q  μ → zB Γ (cSh z) (zA μ0) μ0 s μ H locs → lv_has ls 1 [(0, .ref s0)] → W p l e ({ frames := 4, cells := 0, slots := 0, locals := 91 } : Room) s m args below meth c H locs 0 0 (MQ below (va_Qv Q (zPost Γ (cSh z) μ0) (zA μ0)) args s 0 0 (zA μ0)) (F0 m 183 ls []) := by
  have S := X.1
  obtain ⟨hx, hb, hml, hown, hts⟩ := X.1
  intro  μ H locs ls hp hB hl
  unfold pX5_next_183 at hp
  refine lv_aload_n hx hb dX5_next_183 rfl (lv_at hl 0 rfl) ?_
  refine lv_dup hx hb dX5_next_184 rfl ?_
  refine g_get S hB (hB.ty ht_s0 rfl) rfl (T := TX5) (N := 11) (C := RX5) rfl in_X5 2 (by decide) (by decide) q432 (fun _ h9 => h9) (v := .int (zI μ s0 2)) rfl dX5_next_185 ?_
  refine lv_iconst (v := (nI 1)) hx hb dX5_next_188 rfl ?_
  refine lv_iadd hx hb dX5_next_189 ?_
  obtain ⟨μ1, eμ1, hp⟩ := zpI_e hp
  refine g_putI S hB (hB.ty ht_s0 rfl) rfl (T := TX5) (N := 11) (C := RX5) rfl in_X5 2 (by decide) (by decide) (x := ((zI μ s0 2) + (nI 1))) tyX5 tyX5_ok nmX5 q432 (fun _ h9 => h9) rfl (ty := .int) (by decide +kernel) rfl rfl (fun _ _ => rfl) dX5_next_190 (fun H locs hB => ?_)
  rw [← eμ1] at hB
  refine lv_goto (tgt := 136) hx hb dX5_next_193 rfl ?_
  exact hK136  μ1 _ _ _ hp hB (lv_sub hl [0] rfl)
def pX5_next_215 (z : Nat) (s0 : Nat) (Q : zM → Prop) (y2 : Int32) (μ : zM) : Prop := (zpI μ s0 4 y2 fun μ1 => Q μ1)
set_option maxHeartbeats 4000000 in
set_option maxRecDepth 100000 in
theorem wX5_next_215 {p : Program} {l : Launch} {e : Env} {s : State} {m : MethodId} {args : Array Value} {below : List Frame} {meth : Method} {c : Code} {Γ : zG} {μ0 : zM} {Q : zM → Prop} (X : zCx p m c cX5_next 1 s args RX5 meth none) {s0 : Nat} (ht_s0 : zty μ0 s0 = some (.inl 5)) (z : Nat) : ∀ (y2 : Int32) (μ : zM) (H : Heap) (locs : List Loc) (ls : Array Slot), pX5_next_215 z s0 Q y2 μ → zB Γ (cSh z) (zA μ0) μ0 s μ H locs → lv_has ls 1 [] → W p l e ({ frames := 4, cells := 0, slots := 0, locals := 91 } : Room) s m args below meth c H locs 0 0 (MQ below (va_Qv Q (zPost Γ (cSh z) μ0) (zA μ0)) args s 0 0 (zA μ0)) (F0 m 215 ls [.int y2, .ref s0]) := by
  have S := X.1
  obtain ⟨hx, hb, hml, hown, hts⟩ := X.1
  intro y2 μ H locs ls hp hB hl
  unfold pX5_next_215 at hp
  obtain ⟨μ1, eμ1, hp⟩ := zpI_e hp
  refine g_putI S hB (hB.ty ht_s0 rfl) rfl (T := TX5) (N := 11) (C := RX5) rfl in_X5 4 (by decide) (by decide) (x := y2) tyX5 tyX5_ok nmX5 q434 (fun _ h9 => h9) rfl (ty := .int) (by decide +kernel) rfl rfl (fun _ _ => rfl) dX5_next_215 (fun H locs hB => ?_)
  rw [← eμ1] at hB
  refine lv_goto (tgt := 263) hx hb dX5_next_218 rfl ?_
  exact zret_v X hB hp dX5_next_263
def pX5_next_136 (z : Nat) (s0 : Nat) (Q : zM → Prop) : Nat → zM → Prop
  | 0, _ => False
  | n + 1, μ => (pX5_isDigit z s0 (zI μ s0 2) μ fun r2 μ1 => (if r2 = 0 then (if ((zI μ1 s0 2) - (zI μ1 s0 3)) ≤ (nI 3) then pX5_next_215 z s0 Q (nI 2) μ1 else pX5_next_215 z s0 Q (nI 3) μ1) else (if (nI 3) ≤ ((zI μ1 s0 2) - (zI μ1 s0 3)) then pX5_next_183 z s0 (fun  ν => pX5_next_136 z s0 Q n ν) Q μ1 else (pX5_see z s0 (zI μ1 s0 2) μ1 fun r4 μ3 => (zpI μ3 s0 5 ((((nI 10) * (zI μ1 s0 5)) + r4) - (nI 48)) fun μ5 => pX5_next_183 z s0 (fun  ν => pX5_next_136 z s0 Q n ν) Q μ5)))))
set_option maxHeartbeats 4000000 in
set_option maxRecDepth 100000 in
theorem wX5_next_136 {p : Program} {l : Launch} {e : Env} {s : State} {m : MethodId} {args : Array Value} {below : List Frame} {meth : Method} {c : Code} {Γ : zG} {μ0 : zM} {Q : zM → Prop} (X : zCx p m c cX5_next 1 s args RX5 meth none) {s0 : Nat} (ht_s0 : zty μ0 s0 = some (.inl 5)) (z : Nat) : ∀ (n : Nat) (μ : zM) (H : Heap) (locs : List Loc) (ls : Array Slot), pX5_next_136 z s0 Q n  μ → zB Γ (cSh z) (zA μ0) μ0 s μ H locs → lv_has ls 1 [(0, .ref s0)] → W p l e ({ frames := 4, cells := 0, slots := 0, locals := 91 } : Room) s m args below meth c H locs 0 0 (MQ below (va_Qv Q (zPost Γ (cSh z) μ0) (zA μ0)) args s 0 0 (zA μ0)) (F0 m 136 ls []) := by
  have S := X.1
  obtain ⟨hx, hb, hml, hown, hts⟩ := X.1
  intro n
  induction n with
  | zero =>
    intro  μ H locs ls hp
    exact hp.elim
  | succ n ih =>
    intro  μ H locs ls hp hB hl
    unfold pX5_next_136 at hp
    refine lv_aload_n hx hb dX5_next_136 rfl (lv_at hl 0 rfl) ?_
    refine lv_aload_n hx hb dX5_next_137 rfl (lv_at hl 0 rfl) ?_
    refine g_get S hB (hB.ty ht_s0 rfl) rfl (T := TX5) (N := 11) (C := RX5) rfl in_X5 2 (by decide) (by decide) q432 (fun _ h9 => h9) (v := .int (zI μ s0 2)) rfl dX5_next_138 ?_
    refine z_calli (va_runV (As := [.int (zI μ s0 2)]) (rest := []) S (mX5_isDigit l Γ z s0 (zI μ s0 2) μ _ hp) (cwV 1 hts (lw_V q485 q487 qs4 q133 q488) rfl rfl rfl hX5_isDigit ⟨Nat.le_of_ble_eq_true rfl, Nat.le_of_ble_eq_true rfl⟩) (hB.preV (hB.ty ht_s0 rfl) rfl rfl) rfl rfl hl.1 rfl (lv_room (Nat.le_of_ble_eq_true rfl)) dX5_next_141 ⟨Nat.le_refl _, Nat.le_refl _⟩) hB (fun r2 μ1 H locs hp hB => ?_)
    refine lv_if_eq (tgt := 196) hx hb dX5_next_144 rfl (fun c0 => ?_) (fun c0 => ?_)
    · have hp := zit hp c0
      refine lv_aload_n hx hb dX5_next_196 rfl (lv_at hl 0 rfl) ?_
      refine lv_aload_n hx hb dX5_next_197 rfl (lv_at hl 0 rfl) ?_
      refine g_get S hB (hB.ty ht_s0 rfl) rfl (T := TX5) (N := 11) (C := RX5) rfl in_X5 2 (by decide) (by decide) q432 (fun _ h9 => h9) (v := .int (zI μ1 s0 2)) rfl dX5_next_198 ?_
      refine lv_aload_n hx hb dX5_next_201 rfl (lv_at hl 0 rfl) ?_
      refine g_get S hB (hB.ty ht_s0 rfl) rfl (T := TX5) (N := 11) (C := RX5) rfl in_X5 3 (by decide) (by decide) q433 (fun _ h9 => h9) (v := .int (zI μ1 s0 3)) rfl dX5_next_202 ?_
      refine lv_isub hx hb dX5_next_205 ?_
      refine lv_iconst (v := (nI 3)) hx hb dX5_next_206 rfl ?_
      refine lv_icmp_le (tgt := 214) hx hb dX5_next_207 rfl (fun c0 => ?_) (fun c0 => ?_)
      · have hp := zit hp c0
        refine lv_iconst (v := (nI 2)) hx hb dX5_next_214 rfl ?_
        exact wX5_next_215 X ht_s0 z (nI 2) μ1 _ _ _ hp hB (lv_sub hl [] rfl)
      · have hp := zif hp c0
        refine lv_iconst (v := (nI 3)) hx hb dX5_next_210 rfl ?_
        refine lv_goto (tgt := 215) hx hb dX5_next_211 rfl ?_
        exact wX5_next_215 X ht_s0 z (nI 3) μ1 _ _ _ hp hB (lv_sub hl [] rfl)
    · have hp := zif hp c0
      refine lv_aload_n hx hb dX5_next_147 rfl (lv_at hl 0 rfl) ?_
      refine g_get S hB (hB.ty ht_s0 rfl) rfl (T := TX5) (N := 11) (C := RX5) rfl in_X5 2 (by decide) (by decide) q432 (fun _ h9 => h9) (v := .int (zI μ1 s0 2)) rfl dX5_next_148 ?_
      refine lv_aload_n hx hb dX5_next_151 rfl (lv_at hl 0 rfl) ?_
      refine g_get S hB (hB.ty ht_s0 rfl) rfl (T := TX5) (N := 11) (C := RX5) rfl in_X5 3 (by decide) (by decide) q433 (fun _ h9 => h9) (v := .int (zI μ1 s0 3)) rfl dX5_next_152 ?_
      refine lv_isub hx hb dX5_next_155 ?_
      refine lv_iconst (v := (nI 3)) hx hb dX5_next_156 rfl ?_
      refine lv_icmp_ge (tgt := 183) hx hb dX5_next_157 rfl (fun c0 => ?_) (fun c0 => ?_)
      · have hp := zit hp c0
        exact wX5_next_183 X ht_s0 z (fun  ν H2 L2 ls2 h2 b2 l2 => ih  ν H2 L2 ls2 h2 b2 l2) μ1 _ _ _ hp hB (lv_sub hl [0] rfl)
      · have hp := zif hp c0
        refine lv_aload_n hx hb dX5_next_160 rfl (lv_at hl 0 rfl) ?_
        refine lv_bipush (v := (nI 10)) hx hb dX5_next_161 rfl ?_
        refine lv_aload_n hx hb dX5_next_163 rfl (lv_at hl 0 rfl) ?_
        refine g_get S hB (hB.ty ht_s0 rfl) rfl (T := TX5) (N := 11) (C := RX5) rfl in_X5 5 (by decide) (by decide) q435 (fun _ h9 => h9) (v := .int (zI μ1 s0 5)) rfl dX5_next_164 ?_
        refine lv_imul hx hb dX5_next_167 ?_
        refine lv_aload_n hx hb dX5_next_168 rfl (lv_at hl 0 rfl) ?_
        refine lv_aload_n hx hb dX5_next_169 rfl (lv_at hl 0 rfl) ?_
        refine g_get S hB (hB.ty ht_s0 rfl) rfl (T := TX5) (N := 11) (C := RX5) rfl in_X5 2 (by decide) (by decide) q432 (fun _ h9 => h9) (v := .int (zI μ1 s0 2)) rfl dX5_next_170 ?_
        refine z_calli (va_runV (As := [.int (zI μ1 s0 2)]) (rest := [.int ((nI 10) * (zI μ1 s0 5)), .ref s0]) S (mX5_see l Γ z s0 (zI μ1 s0 2) μ1 _ hp) (cwV 1 hts (lw_V q474 q476 qs2 q133 q477) rfl rfl rfl hX5_see ⟨Nat.le_of_ble_eq_true rfl, Nat.le_of_ble_eq_true rfl⟩) (hB.preV (hB.ty ht_s0 rfl) rfl rfl) rfl rfl hl.1 rfl (lv_room (Nat.le_of_ble_eq_true rfl)) dX5_next_173 ⟨Nat.le_refl _, Nat.le_refl _⟩) hB (fun r4 μ3 H locs hp hB => ?_)
        refine lv_iadd hx hb dX5_next_176 ?_
        refine lv_bipush (v := (nI 48)) hx hb dX5_next_177 rfl ?_
        refine lv_isub hx hb dX5_next_179 ?_
        obtain ⟨μ5, eμ5, hp⟩ := zpI_e hp
        refine g_putI S hB (hB.ty ht_s0 rfl) rfl (T := TX5) (N := 11) (C := RX5) rfl in_X5 5 (by decide) (by decide) (x := ((((nI 10) * (zI μ1 s0 5)) + r4) - (nI 48))) tyX5 tyX5_ok nmX5 q435 (fun _ h9 => h9) rfl (ty := .int) (by decide +kernel) rfl rfl (fun _ _ => rfl) dX5_next_180 (fun H locs hB => ?_)
        rw [← eμ5] at hB
        exact wX5_next_183 X ht_s0 z (fun  ν H2 L2 ls2 h2 b2 l2 => ih  ν H2 L2 ls2 h2 b2 l2) μ5 _ _ _ hp hB (lv_sub hl [0] rfl)
def pX5_next_250 (z : Nat) (s0 : Nat) (Q : zM → Prop) (y2 : Int32) (μ : zM) : Prop := (zpI μ s0 4 y2 fun μ1 => (zpI μ1 s0 2 ((zI μ1 s0 2) + (nI 1)) fun μ2 => Q μ2))
set_option maxHeartbeats 4000000 in
set_option maxRecDepth 100000 in
theorem wX5_next_250 {p : Program} {l : Launch} {e : Env} {s : State} {m : MethodId} {args : Array Value} {below : List Frame} {meth : Method} {c : Code} {Γ : zG} {μ0 : zM} {Q : zM → Prop} (X : zCx p m c cX5_next 1 s args RX5 meth none) {s0 : Nat} (ht_s0 : zty μ0 s0 = some (.inl 5)) (z : Nat) : ∀ (y2 : Int32) (μ : zM) (H : Heap) (locs : List Loc) (ls : Array Slot), pX5_next_250 z s0 Q y2 μ → zB Γ (cSh z) (zA μ0) μ0 s μ H locs → lv_has ls 1 [(0, .ref s0)] → W p l e ({ frames := 4, cells := 0, slots := 0, locals := 91 } : Room) s m args below meth c H locs 0 0 (MQ below (va_Qv Q (zPost Γ (cSh z) μ0) (zA μ0)) args s 0 0 (zA μ0)) (F0 m 250 ls [.int y2, .ref s0]) := by
  have S := X.1
  obtain ⟨hx, hb, hml, hown, hts⟩ := X.1
  intro y2 μ H locs ls hp hB hl
  unfold pX5_next_250 at hp
  obtain ⟨μ1, eμ1, hp⟩ := zpI_e hp
  refine g_putI S hB (hB.ty ht_s0 rfl) rfl (T := TX5) (N := 11) (C := RX5) rfl in_X5 4 (by decide) (by decide) (x := y2) tyX5 tyX5_ok nmX5 q434 (fun _ h9 => h9) rfl (ty := .int) (by decide +kernel) rfl rfl (fun _ _ => rfl) dX5_next_250 (fun H locs hB => ?_)
  rw [← eμ1] at hB
  refine lv_aload_n hx hb dX5_next_253 rfl (lv_at hl 0 rfl) ?_
  refine lv_dup hx hb dX5_next_254 rfl ?_
  refine g_get S hB (hB.ty ht_s0 rfl) rfl (T := TX5) (N := 11) (C := RX5) rfl in_X5 2 (by decide) (by decide) q432 (fun _ h9 => h9) (v := .int (zI μ1 s0 2)) rfl dX5_next_255 ?_
  refine lv_iconst (v := (nI 1)) hx hb dX5_next_258 rfl ?_
  refine lv_iadd hx hb dX5_next_259 ?_
  obtain ⟨μ2, eμ2, hp⟩ := zpI_e hp
  refine g_putI S hB (hB.ty ht_s0 rfl) rfl (T := TX5) (N := 11) (C := RX5) rfl in_X5 2 (by decide) (by decide) (x := ((zI μ1 s0 2) + (nI 1))) tyX5 tyX5_ok nmX5 q432 (fun _ h9 => h9) rfl (ty := .int) (by decide +kernel) rfl rfl (fun _ _ => rfl) dX5_next_260 (fun H locs hB => ?_)
  rw [← eμ2] at hB
  exact zret_v X hB hp dX5_next_263
def pX5_next_50 (z : Nat) (s0 : Nat) (Q : zM → Prop) (μ : zM) : Prop := (zpI μ s0 3 (zI μ s0 2) fun μ1 => (if (zI μ1 s0 2) < (zI μ1 s0 0) then (pX5_isSmall z s0 (zI μ1 s0 2) μ1 fun r3 μ2 => (if r3 = 0 then (pX5_isDigit z s0 (zI μ2 s0 2) μ2 fun r5 μ4 => (if r5 = 0 then (pX5_see z s0 (zI μ4 s0 2) μ4 fun r7 μ6 => (1 < zSn ∧ (pJ0_indexOf 1 r7 μ6 fun r9 μ8 => (if r9 < 0 then pX5_next_250 z s0 Q (nI 3) μ8 else (pX5_see z s0 (zI μ8 s0 2) μ8 fun r11 μ10 => pX5_next_250 z s0 Q r11 μ10))))) else (zpI μ4 s0 5 (nI 0) fun μ12 => ∃ k1, pX5_next_136 z s0 Q k1 μ12))) else ∃ k1, pX5_next_88 z s0 Q k1 μ2)) else (zpI μ1 s0 4 (nI 0) fun μ13 => Q μ13)))
set_option maxHeartbeats 4000000 in
set_option maxRecDepth 100000 in
theorem wX5_next_50 {p : Program} {l : Launch} {e : Env} {s : State} {m : MethodId} {args : Array Value} {below : List Frame} {meth : Method} {c : Code} {Γ : zG} {μ0 : zM} {Q : zM → Prop} (X : zCx p m c cX5_next 1 s args RX5 meth none) {s0 : Nat} (ht_s0 : zty μ0 s0 = some (.inl 5)) (z : Nat) : ∀ (μ : zM) (H : Heap) (locs : List Loc) (ls : Array Slot), pX5_next_50 z s0 Q  μ → zB Γ (cSh z) (zA μ0) μ0 s μ H locs → lv_has ls 1 [(0, .ref s0)] → W p l e ({ frames := 4, cells := 0, slots := 0, locals := 91 } : Room) s m args below meth c H locs 0 0 (MQ below (va_Qv Q (zPost Γ (cSh z) μ0) (zA μ0)) args s 0 0 (zA μ0)) (F0 m 50 ls []) := by
  have S := X.1
  obtain ⟨hx, hb, hml, hown, hts⟩ := X.1
  intro  μ H locs ls hp hB hl
  unfold pX5_next_50 at hp
  refine lv_aload_n hx hb dX5_next_50 rfl (lv_at hl 0 rfl) ?_
  refine lv_aload_n hx hb dX5_next_51 rfl (lv_at hl 0 rfl) ?_
  refine g_get S hB (hB.ty ht_s0 rfl) rfl (T := TX5) (N := 11) (C := RX5) rfl in_X5 2 (by decide) (by decide) q432 (fun _ h9 => h9) (v := .int (zI μ s0 2)) rfl dX5_next_52 ?_
  obtain ⟨μ1, eμ1, hp⟩ := zpI_e hp
  refine g_putI S hB (hB.ty ht_s0 rfl) rfl (T := TX5) (N := 11) (C := RX5) rfl in_X5 3 (by decide) (by decide) (x := (zI μ s0 2)) tyX5 tyX5_ok nmX5 q433 (fun _ h9 => h9) rfl (ty := .int) (by decide +kernel) rfl rfl (fun _ _ => rfl) dX5_next_55 (fun H locs hB => ?_)
  rw [← eμ1] at hB
  refine lv_aload_n hx hb dX5_next_58 rfl (lv_at hl 0 rfl) ?_
  refine g_get S hB (hB.ty ht_s0 rfl) rfl (T := TX5) (N := 11) (C := RX5) rfl in_X5 2 (by decide) (by decide) q432 (fun _ h9 => h9) (v := .int (zI μ1 s0 2)) rfl dX5_next_59 ?_
  refine lv_aload_n hx hb dX5_next_62 rfl (lv_at hl 0 rfl) ?_
  refine g_get S hB (hB.ty ht_s0 rfl) rfl (T := TX5) (N := 11) (C := RX5) rfl in_X5 0 (by decide) (by decide) q429 (fun _ h9 => h9) (v := .int (zI μ1 s0 0)) rfl dX5_next_63 ?_
  refine lv_icmp_lt (tgt := 77) hx hb dX5_next_66 rfl (fun c0 => ?_) (fun c0 => ?_)
  · have hp := zit hp c0
    refine lv_aload_n hx hb dX5_next_77 rfl (lv_at hl 0 rfl) ?_
    refine lv_aload_n hx hb dX5_next_78 rfl (lv_at hl 0 rfl) ?_
    refine g_get S hB (hB.ty ht_s0 rfl) rfl (T := TX5) (N := 11) (C := RX5) rfl in_X5 2 (by decide) (by decide) q432 (fun _ h9 => h9) (v := .int (zI μ1 s0 2)) rfl dX5_next_79 ?_
    refine z_calli (va_runV (As := [.int (zI μ1 s0 2)]) (rest := []) S (mX5_isSmall l Γ z s0 (zI μ1 s0 2) μ1 _ hp) (cwV 1 hts (lw_V q478 q480 qs3 q133 q481) rfl rfl rfl hX5_isSmall ⟨Nat.le_of_ble_eq_true rfl, Nat.le_of_ble_eq_true rfl⟩) (hB.preV (hB.ty ht_s0 rfl) rfl rfl) rfl rfl hl.1 rfl (lv_room (Nat.le_of_ble_eq_true rfl)) dX5_next_82 ⟨Nat.le_refl _, Nat.le_refl _⟩) hB (fun r3 μ2 H locs hp hB => ?_)
    refine lv_if_eq (tgt := 120) hx hb dX5_next_85 rfl (fun c0 => ?_) (fun c0 => ?_)
    · have hp := zit hp c0
      refine lv_aload_n hx hb dX5_next_120 rfl (lv_at hl 0 rfl) ?_
      refine lv_aload_n hx hb dX5_next_121 rfl (lv_at hl 0 rfl) ?_
      refine g_get S hB (hB.ty ht_s0 rfl) rfl (T := TX5) (N := 11) (C := RX5) rfl in_X5 2 (by decide) (by decide) q432 (fun _ h9 => h9) (v := .int (zI μ2 s0 2)) rfl dX5_next_122 ?_
      refine z_calli (va_runV (As := [.int (zI μ2 s0 2)]) (rest := []) S (mX5_isDigit l Γ z s0 (zI μ2 s0 2) μ2 _ hp) (cwV 1 hts (lw_V q485 q487 qs4 q133 q488) rfl rfl rfl hX5_isDigit ⟨Nat.le_of_ble_eq_true rfl, Nat.le_of_ble_eq_true rfl⟩) (hB.preV (hB.ty ht_s0 rfl) rfl rfl) rfl rfl hl.1 rfl (lv_room (Nat.le_of_ble_eq_true rfl)) dX5_next_125 ⟨Nat.le_refl _, Nat.le_refl _⟩) hB (fun r5 μ4 H locs hp hB => ?_)
      refine lv_if_eq (tgt := 221) hx hb dX5_next_128 rfl (fun c0 => ?_) (fun c0 => ?_)
      · have hp := zit hp c0
        refine lv_aload_n hx hb dX5_next_221 rfl (lv_at hl 0 rfl) ?_
        refine g_ldcs S hB (i := 2) rfl dX5_next_222 ?_
        refine lv_aload_n hx hb dX5_next_224 rfl (lv_at hl 0 rfl) ?_
        refine lv_aload_n hx hb dX5_next_225 rfl (lv_at hl 0 rfl) ?_
        refine g_get S hB (hB.ty ht_s0 rfl) rfl (T := TX5) (N := 11) (C := RX5) rfl in_X5 2 (by decide) (by decide) q432 (fun _ h9 => h9) (v := .int (zI μ4 s0 2)) rfl dX5_next_226 ?_
        refine z_calli (va_runV (As := [.int (zI μ4 s0 2)]) (rest := [.ref (Γ.2.2.1 1), .ref s0]) S (mX5_see l Γ z s0 (zI μ4 s0 2) μ4 _ hp) (cwV 1 hts (lw_V q474 q476 qs2 q133 q477) rfl rfl rfl hX5_see ⟨Nat.le_of_ble_eq_true rfl, Nat.le_of_ble_eq_true rfl⟩) (hB.preV (hB.ty ht_s0 rfl) rfl rfl) rfl rfl hl.1 rfl (lv_room (Nat.le_of_ble_eq_true rfl)) dX5_next_229 ⟨Nat.le_refl _, Nat.le_refl _⟩) hB (fun r7 μ6 H locs hp hB => ?_)
        obtain ⟨hw0, hp⟩ := hp
        refine z_calli (va_runV (As := [.int r7]) (rest := [.ref s0]) S (mJ0_indexOf l Γ (cSh z) 1 r7 μ6 _ hp) (cwV 1 hts (lw_V q492 q493 q494 q134 q495) rfl rfl rfl hJ0_indexOf ⟨Nat.le_of_ble_eq_true rfl, Nat.le_of_ble_eq_true rfl⟩) (hB.preStr hw0) rfl rfl hl.1 rfl (lv_room (Nat.le_of_ble_eq_true rfl)) dX5_next_232 ⟨Nat.le_refl _, Nat.le_refl _⟩) hB (fun r9 μ8 H locs hp hB => ?_)
        refine lv_if_lt (tgt := 249) hx hb dX5_next_235 rfl (fun c0 => ?_) (fun c0 => ?_)
        · have hp := zit hp c0
          refine lv_iconst (v := (nI 3)) hx hb dX5_next_249 rfl ?_
          exact wX5_next_250 X ht_s0 z (nI 3) μ8 _ _ _ hp hB (lv_sub hl [0] rfl)
        · have hp := zif hp c0
          refine lv_aload_n hx hb dX5_next_238 rfl (lv_at hl 0 rfl) ?_
          refine lv_aload_n hx hb dX5_next_239 rfl (lv_at hl 0 rfl) ?_
          refine g_get S hB (hB.ty ht_s0 rfl) rfl (T := TX5) (N := 11) (C := RX5) rfl in_X5 2 (by decide) (by decide) q432 (fun _ h9 => h9) (v := .int (zI μ8 s0 2)) rfl dX5_next_240 ?_
          refine z_calli (va_runV (As := [.int (zI μ8 s0 2)]) (rest := [.ref s0]) S (mX5_see l Γ z s0 (zI μ8 s0 2) μ8 _ hp) (cwV 1 hts (lw_V q474 q476 qs2 q133 q477) rfl rfl rfl hX5_see ⟨Nat.le_of_ble_eq_true rfl, Nat.le_of_ble_eq_true rfl⟩) (hB.preV (hB.ty ht_s0 rfl) rfl rfl) rfl rfl hl.1 rfl (lv_room (Nat.le_of_ble_eq_true rfl)) dX5_next_243 ⟨Nat.le_refl _, Nat.le_refl _⟩) hB (fun r11 μ10 H locs hp hB => ?_)
          refine lv_goto (tgt := 250) hx hb dX5_next_246 rfl ?_
          exact wX5_next_250 X ht_s0 z r11 μ10 _ _ _ hp hB (lv_sub hl [0] rfl)
      · have hp := zif hp c0
        refine lv_aload_n hx hb dX5_next_131 rfl (lv_at hl 0 rfl) ?_
        refine lv_iconst (v := (nI 0)) hx hb dX5_next_132 rfl ?_
        obtain ⟨μ12, eμ12, hp⟩ := zpI_e hp
        refine g_putI S hB (hB.ty ht_s0 rfl) rfl (T := TX5) (N := 11) (C := RX5) rfl in_X5 5 (by decide) (by decide) (x := (nI 0)) tyX5 tyX5_ok nmX5 q435 (fun _ h9 => h9) rfl (ty := .int) (by decide +kernel) rfl rfl (fun _ _ => rfl) dX5_next_133 (fun H locs hB => ?_)
        rw [← eμ12] at hB
        obtain ⟨n1, hp⟩ := hp
        exact wX5_next_136 X ht_s0 z n1 μ12 _ _ _ hp hB (lv_sub hl [0] rfl)
    · have hp := zif hp c0
      obtain ⟨n1, hp⟩ := hp
      exact wX5_next_88 X ht_s0 z n1 μ2 _ _ _ hp hB (lv_sub hl [0] rfl)
  · have hp := zif hp c0
    refine lv_aload_n hx hb dX5_next_69 rfl (lv_at hl 0 rfl) ?_
    refine lv_iconst (v := (nI 0)) hx hb dX5_next_70 rfl ?_
    obtain ⟨μ13, eμ13, hp⟩ := zpI_e hp
    refine g_putI S hB (hB.ty ht_s0 rfl) rfl (T := TX5) (N := 11) (C := RX5) rfl in_X5 4 (by decide) (by decide) (x := (nI 0)) tyX5 tyX5_ok nmX5 q434 (fun _ h9 => h9) rfl (ty := .int) (by decide +kernel) rfl rfl (fun _ _ => rfl) dX5_next_71 (fun H locs hB => ?_)
    rw [← eμ13] at hB
    refine lv_goto (tgt := 263) hx hb dX5_next_74 rfl ?_
    exact zret_v X hB hp dX5_next_263
def pX5_next_0 (z : Nat) (s0 : Nat) (Q : zM → Prop) : Nat → zM → Prop
  | 0, _ => False
  | n + 1, μ => (if (zI μ s0 0) ≤ (zI μ s0 2) then pX5_next_50 z s0 Q μ else (pX5_see z s0 (zI μ s0 2) μ fun r2 μ1 => (if r2 = (nI 32) then pX5_next_37 z s0 (fun  ν => pX5_next_0 z s0 Q n ν) Q μ1 else (pX5_see z s0 (zI μ1 s0 2) μ1 fun r4 μ3 => (if r4 = (nI 10) then pX5_next_37 z s0 (fun  ν => pX5_next_0 z s0 Q n ν) Q μ3 else pX5_next_50 z s0 Q μ3)))))
set_option maxHeartbeats 4000000 in
set_option maxRecDepth 100000 in
theorem wX5_next_0 {p : Program} {l : Launch} {e : Env} {s : State} {m : MethodId} {args : Array Value} {below : List Frame} {meth : Method} {c : Code} {Γ : zG} {μ0 : zM} {Q : zM → Prop} (X : zCx p m c cX5_next 1 s args RX5 meth none) {s0 : Nat} (ht_s0 : zty μ0 s0 = some (.inl 5)) (z : Nat) : ∀ (n : Nat) (μ : zM) (H : Heap) (locs : List Loc) (ls : Array Slot), pX5_next_0 z s0 Q n  μ → zB Γ (cSh z) (zA μ0) μ0 s μ H locs → lv_has ls 1 [(0, .ref s0)] → W p l e ({ frames := 4, cells := 0, slots := 0, locals := 91 } : Room) s m args below meth c H locs 0 0 (MQ below (va_Qv Q (zPost Γ (cSh z) μ0) (zA μ0)) args s 0 0 (zA μ0)) (F0 m 0 ls []) := by
  have S := X.1
  obtain ⟨hx, hb, hml, hown, hts⟩ := X.1
  intro n
  induction n with
  | zero =>
    intro  μ H locs ls hp
    exact hp.elim
  | succ n ih =>
    intro  μ H locs ls hp hB hl
    unfold pX5_next_0 at hp
    refine lv_aload_n hx hb dX5_next_0 rfl (lv_at hl 0 rfl) ?_
    refine g_get S hB (hB.ty ht_s0 rfl) rfl (T := TX5) (N := 11) (C := RX5) rfl in_X5 2 (by decide) (by decide) q432 (fun _ h9 => h9) (v := .int (zI μ s0 2)) rfl dX5_next_1 ?_
    refine lv_aload_n hx hb dX5_next_4 rfl (lv_at hl 0 rfl) ?_
    refine g_get S hB (hB.ty ht_s0 rfl) rfl (T := TX5) (N := 11) (C := RX5) rfl in_X5 0 (by decide) (by decide) q429 (fun _ h9 => h9) (v := .int (zI μ s0 0)) rfl dX5_next_5 ?_
    refine lv_icmp_ge (tgt := 50) hx hb dX5_next_8 rfl (fun c0 => ?_) (fun c0 => ?_)
    · have hp := zit hp c0
      exact wX5_next_50 X ht_s0 z μ _ _ _ hp hB (lv_sub hl [0] rfl)
    · have hp := zif hp c0
      refine lv_aload_n hx hb dX5_next_11 rfl (lv_at hl 0 rfl) ?_
      refine lv_aload_n hx hb dX5_next_12 rfl (lv_at hl 0 rfl) ?_
      refine g_get S hB (hB.ty ht_s0 rfl) rfl (T := TX5) (N := 11) (C := RX5) rfl in_X5 2 (by decide) (by decide) q432 (fun _ h9 => h9) (v := .int (zI μ s0 2)) rfl dX5_next_13 ?_
      refine z_calli (va_runV (As := [.int (zI μ s0 2)]) (rest := []) S (mX5_see l Γ z s0 (zI μ s0 2) μ _ hp) (cwV 1 hts (lw_V q474 q476 qs2 q133 q477) rfl rfl rfl hX5_see ⟨Nat.le_of_ble_eq_true rfl, Nat.le_of_ble_eq_true rfl⟩) (hB.preV (hB.ty ht_s0 rfl) rfl rfl) rfl rfl hl.1 rfl (lv_room (Nat.le_of_ble_eq_true rfl)) dX5_next_16 ⟨Nat.le_refl _, Nat.le_refl _⟩) hB (fun r2 μ1 H locs hp hB => ?_)
      refine lv_bipush (v := (nI 32)) hx hb dX5_next_19 rfl ?_
      refine lv_icmp_eq (tgt := 37) hx hb dX5_next_21 rfl (fun c0 => ?_) (fun c0 => ?_)
      · have hp := zit hp c0
        exact wX5_next_37 X ht_s0 z (fun  ν H2 L2 ls2 h2 b2 l2 => ih  ν H2 L2 ls2 h2 b2 l2) μ1 _ _ _ hp hB (lv_sub hl [0] rfl)
      · have hp := zif hp c0
        refine lv_aload_n hx hb dX5_next_24 rfl (lv_at hl 0 rfl) ?_
        refine lv_aload_n hx hb dX5_next_25 rfl (lv_at hl 0 rfl) ?_
        refine g_get S hB (hB.ty ht_s0 rfl) rfl (T := TX5) (N := 11) (C := RX5) rfl in_X5 2 (by decide) (by decide) q432 (fun _ h9 => h9) (v := .int (zI μ1 s0 2)) rfl dX5_next_26 ?_
        refine z_calli (va_runV (As := [.int (zI μ1 s0 2)]) (rest := []) S (mX5_see l Γ z s0 (zI μ1 s0 2) μ1 _ hp) (cwV 1 hts (lw_V q474 q476 qs2 q133 q477) rfl rfl rfl hX5_see ⟨Nat.le_of_ble_eq_true rfl, Nat.le_of_ble_eq_true rfl⟩) (hB.preV (hB.ty ht_s0 rfl) rfl rfl) rfl rfl hl.1 rfl (lv_room (Nat.le_of_ble_eq_true rfl)) dX5_next_29 ⟨Nat.le_refl _, Nat.le_refl _⟩) hB (fun r4 μ3 H locs hp hB => ?_)
        refine lv_bipush (v := (nI 10)) hx hb dX5_next_32 rfl ?_
        refine lv_icmp_ne (tgt := 50) hx hb dX5_next_34 rfl (fun c0 => ?_) (fun c0 => ?_)
        · have hp := zif hp c0
          exact wX5_next_50 X ht_s0 z μ3 _ _ _ hp hB (lv_sub hl [0] rfl)
        · have hp := zit hp c0
          exact wX5_next_37 X ht_s0 z (fun  ν H2 L2 ls2 h2 b2 l2 => ih  ν H2 L2 ls2 h2 b2 l2) μ3 _ _ _ hp hB (lv_sub hl [0] rfl)
def pX5_next (z : Nat) (s0 : Nat) (μ : zM) (Q : zM → Prop) : Prop := zty μ s0 = some (.inl 5) ∧ ∃ k1, pX5_next_0 z s0 Q k1 μ
theorem tX5_next {z : Nat} {s0 : Nat} {μ : zM} {Q : zM → Prop} (h : pX5_next z s0 μ Q) : zty μ s0 = some (.inl 5) := h.1
theorem hX5_next : yX5_next.cls = "SunkTower$Reader" ∧ yX5_next.cls ≠ "java/lang/invoke/MethodHandle" ∧ yX5_next.cls ≠ "java/lang/invoke/VarHandle" ∧ (parseMethodDescriptor yX5_next.desc).map (fun d => d.parameters.length) = some 0 := by decide +kernel
set_option maxHeartbeats 4000000 in
set_option maxRecDepth 100000 in
theorem mX5_next (l : Launch) (Γ : zG) (z : Nat) (s0 : Nat) (μ : zM) (Q : zM → Prop) (hp : pX5_next z s0 μ Q) : Met l yX5_next (ws_ yX5_next cX5_next 1 none) ({ frames := 4, cells := 0, slots := 0, locals := 91 } : Room) (va_Pc [.ref s0] (zPre Γ (cSh z) μ)) (va_Qv Q (zPost Γ (cSh z) μ) (zA μ)) 0 0 (zA μ) := by
  refine zstart (by decide) (Nat.le_of_ble_eq_true rfl) ?_
  intro p e s m below meth c ls X hnm hB hl
  have X : zCx p m c cX5_next 1 s [.ref s0].toArray RX5 meth none := X
  have S := X.1
  obtain ⟨hx, hb, hml, hown, hts⟩ := X.1
  have hl : lv_has ls 1 [(0, .ref s0)] := hl
  obtain ⟨ht_s0, hp⟩ := hp
  obtain ⟨n1, hp⟩ := hp
  exact wX5_next_0 X ht_s0 z n1 μ _ _ _ hp hB (lv_sub hl [0] rfl)
def pX5_begins_21 (z : Nat) (s0 : Nat) (Q : Int32 → zM → Prop) (μ : zM) : Prop := (if (zI μ s0 6) = 0 then Q (nI 1) μ else Q (nI 0) μ)
set_option maxHeartbeats 4000000 in
set_option maxRecDepth 100000 in
theorem wX5_begins_21 {p : Program} {l : Launch} {e : Env} {s : State} {m : MethodId} {args : Array Value} {below : List Frame} {meth : Method} {c : Code} {Γ : zG} {μ0 : zM} {Q : Int32 → zM → Prop} (X : zCx p m c cX5_begins 3 s args RX5 meth (some .boolean)) {s0 : Nat} (ht_s0 : zty μ0 s0 = some (.inl 5)) (z : Nat) : ∀ (μ : zM) (H : Heap) (locs : List Loc) (ls : Array Slot), pX5_begins_21 z s0 Q  μ → zB Γ (cSh z) (zA μ0) μ0 s μ H locs → lv_has ls 3 [(0, .ref s0)] → W p l e ({ frames := 5, cells := 0, slots := 0, locals := 111 } : Room) s m args below meth c H locs 0 0 (MQ below (va_Qi Q (zPost Γ (cSh z) μ0) (zA μ0)) args s 0 0 (zA μ0)) (F0 m 21 ls []) := by
  have S := X.1
  obtain ⟨hx, hb, hml, hown, hts⟩ := X.1
  intro  μ H locs ls hp hB hl
  unfold pX5_begins_21 at hp
  refine lv_aload_n hx hb dX5_begins_21 rfl (lv_at hl 0 rfl) ?_
  refine g_get S hB (hB.ty ht_s0 rfl) rfl (T := TX5) (N := 11) (C := RX5) rfl in_X5 6 (by decide) (by decide) q436 (fun _ h9 => h9) (v := .int (zI μ s0 6)) rfl dX5_begins_22 ?_
  refine lv_if_ne (tgt := 32) hx hb dX5_begins_25 rfl (fun c0 => ?_) (fun c0 => ?_)
  · have hp := zif hp c0
    refine lv_iconst (v := (nI 0)) hx hb dX5_begins_32 rfl ?_
    exact zret_z X hB rfl hp dX5_begins_33
  · have hp := zit hp c0
    refine lv_iconst (v := (nI 1)) hx hb dX5_begins_28 rfl ?_
    refine lv_goto (tgt := 33) hx hb dX5_begins_29 rfl ?_
    exact zret_z X hB rfl hp dX5_begins_33
def pX5_begins_10 (z : Nat) (s0 : Nat) (Q : Int32 → zM → Prop) (μ : zM) : Prop := (if (zI μ s0 6) = 0 then (pX5_next z s0 μ fun μ1 => pX5_begins_21 z s0 Q μ1) else pX5_begins_21 z s0 Q μ)
set_option maxHeartbeats 4000000 in
set_option maxRecDepth 100000 in
theorem wX5_begins_10 {p : Program} {l : Launch} {e : Env} {s : State} {m : MethodId} {args : Array Value} {below : List Frame} {meth : Method} {c : Code} {Γ : zG} {μ0 : zM} {Q : Int32 → zM → Prop} (X : zCx p m c cX5_begins 3 s args RX5 meth (some .boolean)) {s0 : Nat} (ht_s0 : zty μ0 s0 = some (.inl 5)) (z : Nat) : ∀ (μ : zM) (H : Heap) (locs : List Loc) (ls : Array Slot), pX5_begins_10 z s0 Q  μ → zB Γ (cSh z) (zA μ0) μ0 s μ H locs → lv_has ls 3 [(0, .ref s0)] → W p l e ({ frames := 5, cells := 0, slots := 0, locals := 111 } : Room) s m args below meth c H locs 0 0 (MQ below (va_Qi Q (zPost Γ (cSh z) μ0) (zA μ0)) args s 0 0 (zA μ0)) (F0 m 10 ls []) := by
  have S := X.1
  obtain ⟨hx, hb, hml, hown, hts⟩ := X.1
  intro  μ H locs ls hp hB hl
  unfold pX5_begins_10 at hp
  refine lv_aload_n hx hb dX5_begins_10 rfl (lv_at hl 0 rfl) ?_
  refine g_get S hB (hB.ty ht_s0 rfl) rfl (T := TX5) (N := 11) (C := RX5) rfl in_X5 6 (by decide) (by decide) q436 (fun _ h9 => h9) (v := .int (zI μ s0 6)) rfl dX5_begins_11 ?_
  refine lv_if_ne (tgt := 21) hx hb dX5_begins_14 rfl (fun c0 => ?_) (fun c0 => ?_)
  · have hp := zif hp c0
    exact wX5_begins_21 X ht_s0 z μ _ _ _ hp hB (lv_sub hl [0] rfl)
  · have hp := zit hp c0
    refine lv_aload_n hx hb dX5_begins_17 rfl (lv_at hl 0 rfl) ?_
    refine z_callv (va_runV (As := []) (rest := []) S (mX5_next l Γ z s0 μ _ hp) (cwV 0 hts (lw_V q470 q472 qs1 q133 q473) rfl rfl rfl hX5_next ⟨Nat.le_of_ble_eq_true rfl, Nat.le_of_ble_eq_true rfl⟩) (hB.preV (hB.ty ht_s0 rfl) rfl rfl) rfl rfl hl.1 rfl (lv_room (Nat.le_of_ble_eq_true rfl)) dX5_begins_18 ⟨Nat.le_refl _, Nat.le_refl _⟩) hB (fun μ1 H locs hp hB => ?_)
    exact wX5_begins_21 X ht_s0 z μ1 _ _ _ hp hB (lv_sub hl [0] rfl)
def pX5_begins (z : Nat) (s0 : Nat) (x1 : Int32) (x2 : Int32) (μ : zM) (Q : Int32 → zM → Prop) : Prop := zty μ s0 = some (.inl 5) ∧ (if x1 = x2 then (pX5_wrong z s0 (nI 4) μ fun μ1 => pX5_begins_10 z s0 Q μ1) else pX5_begins_10 z s0 Q μ)
theorem tX5_begins {z : Nat} {s0 : Nat} {x1 : Int32} {x2 : Int32} {μ : zM} {Q : Int32 → zM → Prop} (h : pX5_begins z s0 x1 x2 μ Q) : zty μ s0 = some (.inl 5) := h.1
theorem hX5_begins : yX5_begins.cls = "SunkTower$Reader" ∧ yX5_begins.cls ≠ "java/lang/invoke/MethodHandle" ∧ yX5_begins.cls ≠ "java/lang/invoke/VarHandle" ∧ (parseMethodDescriptor yX5_begins.desc).map (fun d => d.parameters.length) = some 2 := by decide +kernel
set_option maxHeartbeats 4000000 in
set_option maxRecDepth 100000 in
theorem mX5_begins (l : Launch) (Γ : zG) (z : Nat) (s0 : Nat) (x1 : Int32) (x2 : Int32) (μ : zM) (Q : Int32 → zM → Prop) (hp : pX5_begins z s0 x1 x2 μ Q) : Met l yX5_begins (ws_ yX5_begins cX5_begins 3 (some .boolean)) ({ frames := 5, cells := 0, slots := 0, locals := 111 } : Room) (va_Pc [.ref s0, .int x1, .int x2] (zPre Γ (cSh z) μ)) (va_Qi Q (zPost Γ (cSh z) μ) (zA μ)) 0 0 (zA μ) := by
  refine zstart (by decide) (Nat.le_of_ble_eq_true rfl) ?_
  intro p e s m below meth c ls X hnm hB hl
  have X : zCx p m c cX5_begins 3 s [.ref s0, .int x1, .int x2].toArray RX5 meth (some .boolean) := X
  have S := X.1
  obtain ⟨hx, hb, hml, hown, hts⟩ := X.1
  have hl : lv_has ls 3 [(0, .ref s0), (1, .int x1), (2, .int x2)] := hl
  obtain ⟨ht_s0, hp⟩ := hp
  refine lv_iload_n hx hb dX5_begins_0 rfl (lv_at hl 1 rfl) ?_
  refine lv_iload_n hx hb dX5_begins_1 rfl (lv_at hl 2 rfl) ?_
  refine lv_icmp_ne (tgt := 10) hx hb dX5_begins_2 rfl (fun c0 => ?_) (fun c0 => ?_)
  · have hp := zif hp c0
    exact wX5_begins_10 X ht_s0 z μ _ _ _ hp hB (lv_sub hl [0] rfl)
  · have hp := zit hp c0
    refine lv_aload_n hx hb dX5_begins_5 rfl (lv_at hl 0 rfl) ?_
    refine lv_iconst (v := (nI 4)) hx hb dX5_begins_6 rfl ?_
    refine z_callv (va_runV (As := [.int (nI 4)]) (rest := []) S (mX5_wrong l Γ z s0 (nI 4) μ _ hp) (cwV 1 hts (lw_V q616 q618 qs9 q133 q619) rfl rfl rfl hX5_wrong ⟨Nat.le_of_ble_eq_true rfl, Nat.le_of_ble_eq_true rfl⟩) (hB.preV (hB.ty ht_s0 rfl) rfl rfl) rfl rfl hl.1 rfl (lv_room (Nat.le_of_ble_eq_true rfl)) dX5_begins_7 ⟨Nat.le_refl _, Nat.le_refl _⟩) hB (fun μ1 H locs hp hB => ?_)
    exact wX5_begins_10 X ht_s0 z μ1 _ _ _ hp hB (lv_sub hl [0] rfl)
def pX5_number_47 (z : Nat) (s0 : Nat) (x1 : Int32) (Q : Int32 → zM → Prop) (μ : zM) : Prop := (if (zI μ s0 6) = 0 then (pX5_next z s0 μ fun μ1 => Q (zI μ s0 5) μ1) else Q x1 μ)
set_option maxHeartbeats 4000000 in
set_option maxRecDepth 100000 in
theorem wX5_number_47 {p : Program} {l : Launch} {e : Env} {s : State} {m : MethodId} {args : Array Value} {below : List Frame} {meth : Method} {c : Code} {Γ : zG} {μ0 : zM} {Q : Int32 → zM → Prop} (X : zCx p m c cX5_number 4 s args RX5 meth (some .int)) {s0 : Nat} (ht_s0 : zty μ0 s0 = some (.inl 5)) (z : Nat) (x1 : Int32) : ∀ (μ : zM) (H : Heap) (locs : List Loc) (ls : Array Slot), pX5_number_47 z s0 x1 Q  μ → zB Γ (cSh z) (zA μ0) μ0 s μ H locs → lv_has ls 4 [(0, .ref s0), (1, .int x1)] → W p l e ({ frames := 5, cells := 0, slots := 0, locals := 111 } : Room) s m args below meth c H locs 0 0 (MQ below (va_Qi Q (zPost Γ (cSh z) μ0) (zA μ0)) args s 0 0 (zA μ0)) (F0 m 47 ls []) := by
  have S := X.1
  obtain ⟨hx, hb, hml, hown, hts⟩ := X.1
  intro  μ H locs ls hp hB hl
  unfold pX5_number_47 at hp
  refine lv_aload_n hx hb dX5_number_47 rfl (lv_at hl 0 rfl) ?_
  refine g_get S hB (hB.ty ht_s0 rfl) rfl (T := TX5) (N := 11) (C := RX5) rfl in_X5 6 (by decide) (by decide) q436 (fun _ h9 => h9) (v := .int (zI μ s0 6)) rfl dX5_number_48 ?_
  refine lv_if_eq (tgt := 56) hx hb dX5_number_51 rfl (fun c0 => ?_) (fun c0 => ?_)
  · have hp := zit hp c0
    refine lv_aload_n hx hb dX5_number_56 rfl (lv_at hl 0 rfl) ?_
    refine g_get S hB (hB.ty ht_s0 rfl) rfl (T := TX5) (N := 11) (C := RX5) rfl in_X5 5 (by decide) (by decide) q435 (fun _ h9 => h9) (v := .int (zI μ s0 5)) rfl dX5_number_57 ?_
    refine lv_istore_n (lv' := [(3, .int (zI μ s0 5)), (0, .ref s0), (1, .int x1)]) hx hb dX5_number_60 rfl hl (by decide) rfl (fun ls hl => ?_)
    refine lv_aload_n hx hb dX5_number_61 rfl (lv_at hl 1 rfl) ?_
    refine z_callv (va_runV (As := []) (rest := []) S (mX5_next l Γ z s0 μ _ hp) (cwV 0 hts (lw_V q470 q472 qs1 q133 q473) rfl rfl rfl hX5_next ⟨Nat.le_of_ble_eq_true rfl, Nat.le_of_ble_eq_true rfl⟩) (hB.preV (hB.ty ht_s0 rfl) rfl rfl) rfl rfl hl.1 rfl (lv_room (Nat.le_of_ble_eq_true rfl)) dX5_number_62 ⟨Nat.le_refl _, Nat.le_refl _⟩) hB (fun μ1 H locs hp hB => ?_)
    refine lv_iload_n hx hb dX5_number_65 rfl (lv_at hl 0 rfl) ?_
    exact zret_i X hB hp dX5_number_66
  · have hp := zif hp c0
    refine lv_iload_n hx hb dX5_number_54 rfl (lv_at hl 1 rfl) ?_
    exact zret_i X hB hp dX5_number_55
def pX5_number_20 (z : Nat) (s0 : Nat) (x1 : Int32) (x2 : Int32) (Q : Int32 → zM → Prop) (μ : zM) : Prop := (if (zI μ s0 6) = 0 then (pX0_in z ((zI μ s0 5).toInt64) (x1.toInt64) (x2.toInt64) μ fun r2 μ1 => (if r2 = 0 then (pX5_wrong z s0 (nI 3) μ1 fun μ3 => pX5_number_47 z s0 x1 Q μ3) else pX5_number_47 z s0 x1 Q μ1)) else pX5_number_47 z s0 x1 Q μ)
set_option maxHeartbeats 4000000 in
set_option maxRecDepth 100000 in
theorem wX5_number_20 {p : Program} {l : Launch} {e : Env} {s : State} {m : MethodId} {args : Array Value} {below : List Frame} {meth : Method} {c : Code} {Γ : zG} {μ0 : zM} {Q : Int32 → zM → Prop} (X : zCx p m c cX5_number 4 s args RX5 meth (some .int)) {s0 : Nat} (ht_s0 : zty μ0 s0 = some (.inl 5)) (z : Nat) (x1 : Int32) (x2 : Int32) : ∀ (μ : zM) (H : Heap) (locs : List Loc) (ls : Array Slot), pX5_number_20 z s0 x1 x2 Q  μ → zB Γ (cSh z) (zA μ0) μ0 s μ H locs → lv_has ls 4 [(0, .ref s0), (1, .int x1), (2, .int x2)] → W p l e ({ frames := 5, cells := 0, slots := 0, locals := 111 } : Room) s m args below meth c H locs 0 0 (MQ below (va_Qi Q (zPost Γ (cSh z) μ0) (zA μ0)) args s 0 0 (zA μ0)) (F0 m 20 ls []) := by
  have S := X.1
  obtain ⟨hx, hb, hml, hown, hts⟩ := X.1
  intro  μ H locs ls hp hB hl
  unfold pX5_number_20 at hp
  refine lv_aload_n hx hb dX5_number_20 rfl (lv_at hl 0 rfl) ?_
  refine g_get S hB (hB.ty ht_s0 rfl) rfl (T := TX5) (N := 11) (C := RX5) rfl in_X5 6 (by decide) (by decide) q436 (fun _ h9 => h9) (v := .int (zI μ s0 6)) rfl dX5_number_21 ?_
  refine lv_if_ne (tgt := 47) hx hb dX5_number_24 rfl (fun c0 => ?_) (fun c0 => ?_)
  · have hp := zif hp c0
    exact wX5_number_47 X ht_s0 z x1 μ _ _ _ hp hB (lv_sub hl [0, 1] rfl)
  · have hp := zit hp c0
    refine lv_aload_n hx hb dX5_number_27 rfl (lv_at hl 0 rfl) ?_
    refine g_get S hB (hB.ty ht_s0 rfl) rfl (T := TX5) (N := 11) (C := RX5) rfl in_X5 5 (by decide) (by decide) q435 (fun _ h9 => h9) (v := .int (zI μ s0 5)) rfl dX5_number_28 ?_
    refine lv_i2l hx hb dX5_number_31 rfl ?_
    refine lv_iload_n hx hb dX5_number_32 rfl (lv_at hl 1 rfl) ?_
    refine lv_i2l hx hb dX5_number_33 rfl ?_
    refine lv_iload_n hx hb dX5_number_34 rfl (lv_at hl 2 rfl) ?_
    refine lv_i2l hx hb dX5_number_35 rfl ?_
    refine z_calli (va_runSN (As := [.long ((zI μ s0 5).toInt64), .long (x1.toInt64), .long (x2.toInt64)]) (rest := []) S (mX0_in l Γ z ((zI μ s0 5).toInt64) (x1.toInt64) (x2.toInt64) μ _ hp) ⟨va_cnB 3 hts (lw_meth q420) rfl rfl rfl (zNMw hB 4 rfl) (hts _ q127) hX0_in ⟨Nat.le_of_ble_eq_true rfl, Nat.le_of_ble_eq_true rfl⟩, hts _ q419, trivial⟩ hB.preS rfl rfl hl.1 rfl (lv_room (Nat.le_of_ble_eq_true rfl)) dX5_number_36 ⟨Nat.le_refl _, Nat.le_refl _⟩) hB (fun r2 μ1 H locs hp hB => ?_)
    refine lv_if_ne (tgt := 47) hx hb dX5_number_39 rfl (fun c0 => ?_) (fun c0 => ?_)
    · have hp := zif hp c0
      exact wX5_number_47 X ht_s0 z x1 μ1 _ _ _ hp hB (lv_sub hl [0, 1] rfl)
    · have hp := zit hp c0
      refine lv_aload_n hx hb dX5_number_42 rfl (lv_at hl 0 rfl) ?_
      refine lv_iconst (v := (nI 3)) hx hb dX5_number_43 rfl ?_
      refine z_callv (va_runV (As := [.int (nI 3)]) (rest := []) S (mX5_wrong l Γ z s0 (nI 3) μ1 _ hp) (cwV 1 hts (lw_V q616 q618 qs9 q133 q619) rfl rfl rfl hX5_wrong ⟨Nat.le_of_ble_eq_true rfl, Nat.le_of_ble_eq_true rfl⟩) (hB.preV (hB.ty ht_s0 rfl) rfl rfl) rfl rfl hl.1 rfl (lv_room (Nat.le_of_ble_eq_true rfl)) dX5_number_44 ⟨Nat.le_refl _, Nat.le_refl _⟩) hB (fun μ3 H locs hp hB => ?_)
      exact wX5_number_47 X ht_s0 z x1 μ3 _ _ _ hp hB (lv_sub hl [0, 1] rfl)
def pX5_number (z : Nat) (s0 : Nat) (x1 : Int32) (x2 : Int32) (μ : zM) (Q : Int32 → zM → Prop) : Prop := zty μ s0 = some (.inl 5) ∧ (if (zI μ s0 6) = 0 then (if (zI μ s0 4) = (nI 2) then pX5_number_20 z s0 x1 x2 Q μ else (pX5_wrong z s0 (nI 2) μ fun μ1 => pX5_number_20 z s0 x1 x2 Q μ1)) else pX5_number_20 z s0 x1 x2 Q μ)
theorem tX5_number {z : Nat} {s0 : Nat} {x1 : Int32} {x2 : Int32} {μ : zM} {Q : Int32 → zM → Prop} (h : pX5_number z s0 x1 x2 μ Q) : zty μ s0 = some (.inl 5) := h.1
theorem hX5_number : yX5_number.cls = "SunkTower$Reader" ∧ yX5_number.cls ≠ "java/lang/invoke/MethodHandle" ∧ yX5_number.cls ≠ "java/lang/invoke/VarHandle" ∧ (parseMethodDescriptor yX5_number.desc).map (fun d => d.parameters.length) = some 2 := by decide +kernel
set_option maxHeartbeats 4000000 in
set_option maxRecDepth 100000 in
theorem mX5_number (l : Launch) (Γ : zG) (z : Nat) (s0 : Nat) (x1 : Int32) (x2 : Int32) (μ : zM) (Q : Int32 → zM → Prop) (hp : pX5_number z s0 x1 x2 μ Q) : Met l yX5_number (ws_ yX5_number cX5_number 4 (some .int)) ({ frames := 5, cells := 0, slots := 0, locals := 111 } : Room) (va_Pc [.ref s0, .int x1, .int x2] (zPre Γ (cSh z) μ)) (va_Qi Q (zPost Γ (cSh z) μ) (zA μ)) 0 0 (zA μ) := by
  refine zstart (by decide) (Nat.le_of_ble_eq_true rfl) ?_
  intro p e s m below meth c ls X hnm hB hl
  have X : zCx p m c cX5_number 4 s [.ref s0, .int x1, .int x2].toArray RX5 meth (some .int) := X
  have S := X.1
  obtain ⟨hx, hb, hml, hown, hts⟩ := X.1
  have hl : lv_has ls 4 [(0, .ref s0), (1, .int x1), (2, .int x2)] := hl
  obtain ⟨ht_s0, hp⟩ := hp
  refine lv_aload_n hx hb dX5_number_0 rfl (lv_at hl 0 rfl) ?_
  refine g_get S hB (hB.ty ht_s0 rfl) rfl (T := TX5) (N := 11) (C := RX5) rfl in_X5 6 (by decide) (by decide) q436 (fun _ h9 => h9) (v := .int (zI μ s0 6)) rfl dX5_number_1 ?_
  refine lv_if_ne (tgt := 20) hx hb dX5_number_4 rfl (fun c0 => ?_) (fun c0 => ?_)
  · have hp := zif hp c0
    exact wX5_number_20 X ht_s0 z x1 x2 μ _ _ _ hp hB (lv_sub hl [0, 1, 2] rfl)
  · have hp := zit hp c0
    refine lv_aload_n hx hb dX5_number_7 rfl (lv_at hl 0 rfl) ?_
    refine g_get S hB (hB.ty ht_s0 rfl) rfl (T := TX5) (N := 11) (C := RX5) rfl in_X5 4 (by decide) (by decide) q434 (fun _ h9 => h9) (v := .int (zI μ s0 4)) rfl dX5_number_8 ?_
    refine lv_iconst (v := (nI 2)) hx hb dX5_number_11 rfl ?_
    refine lv_icmp_eq (tgt := 20) hx hb dX5_number_12 rfl (fun c0 => ?_) (fun c0 => ?_)
    · have hp := zit hp c0
      exact wX5_number_20 X ht_s0 z x1 x2 μ _ _ _ hp hB (lv_sub hl [0, 1, 2] rfl)
    · have hp := zif hp c0
      refine lv_aload_n hx hb dX5_number_15 rfl (lv_at hl 0 rfl) ?_
      refine lv_iconst (v := (nI 2)) hx hb dX5_number_16 rfl ?_
      refine z_callv (va_runV (As := [.int (nI 2)]) (rest := []) S (mX5_wrong l Γ z s0 (nI 2) μ _ hp) (cwV 1 hts (lw_V q616 q618 qs9 q133 q619) rfl rfl rfl hX5_wrong ⟨Nat.le_of_ble_eq_true rfl, Nat.le_of_ble_eq_true rfl⟩) (hB.preV (hB.ty ht_s0 rfl) rfl rfl) rfl rfl hl.1 rfl (lv_room (Nat.le_of_ble_eq_true rfl)) dX5_number_17 ⟨Nat.le_refl _, Nat.le_refl _⟩) hB (fun μ1 H locs hp hB => ?_)
      exact wX5_number_20 X ht_s0 z x1 x2 μ1 _ _ _ hp hB (lv_sub hl [0, 1, 2] rfl)
def pX5_takes (z : Nat) (s0 : Nat) (x1 : Nat) (μ : zM) (Q : Int32 → zM → Prop) : Prop := zty μ s0 = some (.inl 5) ∧ (pX5_is z s0 x1 μ fun r2 μ1 => (if r2 = 0 then Q (nI 0) μ1 else (pX5_next z s0 μ1 fun μ3 => Q (nI 1) μ3)))
theorem tX5_takes {z : Nat} {s0 : Nat} {x1 : Nat} {μ : zM} {Q : Int32 → zM → Prop} (h : pX5_takes z s0 x1 μ Q) : zty μ s0 = some (.inl 5) := h.1
theorem hX5_takes : yX5_takes.cls = "SunkTower$Reader" ∧ yX5_takes.cls ≠ "java/lang/invoke/MethodHandle" ∧ yX5_takes.cls ≠ "java/lang/invoke/VarHandle" ∧ (parseMethodDescriptor yX5_takes.desc).map (fun d => d.parameters.length) = some 1 := by decide +kernel
set_option maxHeartbeats 4000000 in
set_option maxRecDepth 100000 in
theorem mX5_takes (l : Launch) (Γ : zG) (z : Nat) (s0 : Nat) (x1 : Nat) (μ : zM) (Q : Int32 → zM → Prop) (hp : pX5_takes z s0 x1 μ Q) : Met l yX5_takes (ws_ yX5_takes cX5_takes 2 (some .boolean)) ({ frames := 5, cells := 0, slots := 0, locals := 111 } : Room) (va_Pc [.ref s0, .ref (Γ.2.2.1 x1)] (zPre Γ (cSh z) μ)) (va_Qi Q (zPost Γ (cSh z) μ) (zA μ)) 0 0 (zA μ) := by
  refine zstart (by decide) (Nat.le_of_ble_eq_true rfl) ?_
  intro p e s m below meth c ls X hnm hB hl
  have X : zCx p m c cX5_takes 2 s [.ref s0, .ref (Γ.2.2.1 x1)].toArray RX5 meth (some .boolean) := X
  have S := X.1
  obtain ⟨hx, hb, hml, hown, hts⟩ := X.1
  have hl : lv_has ls 2 [(0, .ref s0), (1, .ref (Γ.2.2.1 x1))] := hl
  obtain ⟨ht_s0, hp⟩ := hp
  refine lv_aload_n hx hb dX5_takes_0 rfl (lv_at hl 0 rfl) ?_
  refine lv_aload_n hx hb dX5_takes_1 rfl (lv_at hl 1 rfl) ?_
  refine z_calli (va_runV (As := [.ref (Γ.2.2.1 x1)]) (rest := []) S (mX5_is l Γ z s0 x1 μ _ hp) (cwV 1 hts (lw_V q583 q585 qs6 q133 q586) rfl rfl rfl hX5_is ⟨Nat.le_of_ble_eq_true rfl, Nat.le_of_ble_eq_true rfl⟩) (hB.preV (hB.ty ht_s0 rfl) rfl rfl) rfl rfl hl.1 rfl (lv_room (Nat.le_of_ble_eq_true rfl)) dX5_takes_2 ⟨Nat.le_refl _, Nat.le_refl _⟩) hB (fun r2 μ1 H locs hp hB => ?_)
  refine lv_if_ne (tgt := 10) hx hb dX5_takes_5 rfl (fun c0 => ?_) (fun c0 => ?_)
  · have hp := zif hp c0
    refine lv_aload_n hx hb dX5_takes_10 rfl (lv_at hl 0 rfl) ?_
    refine z_callv (va_runV (As := []) (rest := []) S (mX5_next l Γ z s0 μ1 _ hp) (cwV 0 hts (lw_V q470 q472 qs1 q133 q473) rfl rfl rfl hX5_next ⟨Nat.le_of_ble_eq_true rfl, Nat.le_of_ble_eq_true rfl⟩) (hB.preV (hB.ty ht_s0 rfl) rfl rfl) rfl rfl hl.1 rfl (lv_room (Nat.le_of_ble_eq_true rfl)) dX5_takes_11 ⟨Nat.le_refl _, Nat.le_refl _⟩) hB (fun μ3 H locs hp hB => ?_)
    refine lv_iconst (v := (nI 1)) hx hb dX5_takes_14 rfl ?_
    exact zret_z X hB rfl hp dX5_takes_15
  · have hp := zit hp c0
    refine lv_iconst (v := (nI 0)) hx hb dX5_takes_8 rfl ?_
    exact zret_z X hB rfl hp dX5_takes_9
def pX5_emptyStorey_2 (z : Nat) (s0 : Nat) (x1 : Int32) (Q : Int32 → zM → Prop) : Nat → Int32 → zM → Prop
  | 0, _, _ => False
  | n + 1, x2, μ => (if x1 ≤ x2 then (pX5_number z s0 (nI 0) ((zI μ (s0 + 1) 5) - (nI 1)) μ fun r2 μ1 => Q r2 μ1) else (if (zI μ s0 6) = 0 then (if (zI μ s0 4) = (nI 2) then (vp_in x2 6 ∧ (if (zI μ ((s0 + 1) + 4) x2.toNatClampNeg) = (zI μ s0 5) then (pX5_wrong z s0 (nI 3) μ fun μ3 => pX5_emptyStorey_2 z s0 x1 Q n (x2 + (nI 1)) μ3) else pX5_emptyStorey_2 z s0 x1 Q n (x2 + (nI 1)) μ)) else pX5_emptyStorey_2 z s0 x1 Q n (x2 + (nI 1)) μ) else pX5_emptyStorey_2 z s0 x1 Q n (x2 + (nI 1)) μ))
set_option maxHeartbeats 4000000 in
set_option maxRecDepth 100000 in
theorem wX5_emptyStorey_2 {p : Program} {l : Launch} {e : Env} {s : State} {m : MethodId} {args : Array Value} {below : List Frame} {meth : Method} {c : Code} {Γ : zG} {μ0 : zM} {Q : Int32 → zM → Prop} (X : zCx p m c cX5_emptyStorey 3 s args RX5 meth (some .int)) {s0 : Nat} (ht_s0 : zty μ0 s0 = some (.inl 5)) (z : Nat) (x1 : Int32) : ∀ (n : Nat) (x2 : Int32) (μ : zM) (H : Heap) (locs : List Loc) (ls : Array Slot), pX5_emptyStorey_2 z s0 x1 Q n x2 μ → zB Γ (cSh z) (zA μ0) μ0 s μ H locs → lv_has ls 3 [(0, .ref s0), (1, .int x1), (2, .int x2)] → W p l e ({ frames := 6, cells := 0, slots := 0, locals := 134 } : Room) s m args below meth c H locs 0 0 (MQ below (va_Qi Q (zPost Γ (cSh z) μ0) (zA μ0)) args s 0 0 (zA μ0)) (F0 m 2 ls []) := by
  have S := X.1
  obtain ⟨hx, hb, hml, hown, hts⟩ := X.1
  intro n
  induction n with
  | zero =>
    intro x2 μ H locs ls hp
    exact hp.elim
  | succ n ih =>
    intro x2 μ H locs ls hp hB hl
    unfold pX5_emptyStorey_2 at hp
    refine lv_iload_n hx hb dX5_emptyStorey_2 rfl (lv_at hl 2 rfl) ?_
    refine lv_iload_n hx hb dX5_emptyStorey_3 rfl (lv_at hl 1 rfl) ?_
    refine lv_icmp_ge (tgt := 49) hx hb dX5_emptyStorey_4 rfl (fun c0 => ?_) (fun c0 => ?_)
    · have hp := zit hp c0
      refine lv_aload_n hx hb dX5_emptyStorey_49 rfl (lv_at hl 0 rfl) ?_
      refine lv_iconst (v := (nI 0)) hx hb dX5_emptyStorey_50 rfl ?_
      refine lv_aload_n hx hb dX5_emptyStorey_51 rfl (lv_at hl 0 rfl) ?_
      refine g_getr S hB (hB.ty ht_s0 rfl) rfl (T := TX5) (N := 11) (C := RX5) rfl in_X5 1 (by decide) (by decide) q430 (fun _ h9 => h9) (fun _ => rfl) (cS5 hB (hB.ty ht_s0 rfl) 0 rfl).1 dX5_emptyStorey_52 ?_
      refine g_getN S hB (cS5 hB (hB.ty ht_s0 rfl) 0 rfl).2 rfl (T := TX1) (N := 16) (C := RX1) rfl in_X1 5 (by decide) (by decide) (zNFw hB 31 rfl) (fun _ h9 => h9) (v := .int (zI μ (s0 + 1) 5)) rfl dX5_emptyStorey_55 ?_
      refine lv_iconst (v := (nI 1)) hx hb dX5_emptyStorey_58 rfl ?_
      refine lv_isub hx hb dX5_emptyStorey_59 ?_
      refine z_calli (va_runV (As := [.int (nI 0), .int ((zI μ (s0 + 1) 5) - (nI 1))]) (rest := []) S (mX5_number l Γ z s0 (nI 0) ((zI μ (s0 + 1) 5) - (nI 1)) μ _ hp) (cwV 2 hts (lw_V q620 q622 qs10 q133 q623) rfl rfl rfl hX5_number ⟨Nat.le_of_ble_eq_true rfl, Nat.le_of_ble_eq_true rfl⟩) (hB.preV (hB.ty ht_s0 rfl) rfl rfl) rfl rfl hl.1 rfl (lv_room (Nat.le_of_ble_eq_true rfl)) dX5_emptyStorey_60 ⟨Nat.le_refl _, Nat.le_refl _⟩) hB (fun r2 μ1 H locs hp hB => ?_)
      exact zret_i X hB hp dX5_emptyStorey_63
    · have hp := zif hp c0
      refine lv_aload_n hx hb dX5_emptyStorey_7 rfl (lv_at hl 0 rfl) ?_
      refine g_get S hB (hB.ty ht_s0 rfl) rfl (T := TX5) (N := 11) (C := RX5) rfl in_X5 6 (by decide) (by decide) q436 (fun _ h9 => h9) (v := .int (zI μ s0 6)) rfl dX5_emptyStorey_8 ?_
      refine lv_if_ne (tgt := 43) hx hb dX5_emptyStorey_11 rfl (fun c0 => ?_) (fun c0 => ?_)
      · have hp := zif hp c0
        refine lv_iinc (v := (x2 + (nI 1))) (lv' := [(2, .int (x2 + (nI 1))), (0, .ref s0), (1, .int x1)]) hx hb dX5_emptyStorey_43 hl (k := 2) rfl rfl (by decide) rfl (fun ls hl => ?_)
        refine lv_goto (tgt := 2) hx hb dX5_emptyStorey_46 rfl ?_
        exact ih (x2 + (nI 1)) μ _ _ _ hp hB (lv_sub hl [1, 2, 0] rfl)
      · have hp := zit hp c0
        refine lv_aload_n hx hb dX5_emptyStorey_14 rfl (lv_at hl 0 rfl) ?_
        refine g_get S hB (hB.ty ht_s0 rfl) rfl (T := TX5) (N := 11) (C := RX5) rfl in_X5 4 (by decide) (by decide) q434 (fun _ h9 => h9) (v := .int (zI μ s0 4)) rfl dX5_emptyStorey_15 ?_
        refine lv_iconst (v := (nI 2)) hx hb dX5_emptyStorey_18 rfl ?_
        refine lv_icmp_ne (tgt := 43) hx hb dX5_emptyStorey_19 rfl (fun c0 => ?_) (fun c0 => ?_)
        · have hp := zif hp c0
          refine lv_iinc (v := (x2 + (nI 1))) (lv' := [(2, .int (x2 + (nI 1))), (0, .ref s0), (1, .int x1)]) hx hb dX5_emptyStorey_43 hl (k := 2) rfl rfl (by decide) rfl (fun ls hl => ?_)
          refine lv_goto (tgt := 2) hx hb dX5_emptyStorey_46 rfl ?_
          exact ih (x2 + (nI 1)) μ _ _ _ hp hB (lv_sub hl [1, 2, 0] rfl)
        · have hp := zit hp c0
          refine lv_aload_n hx hb dX5_emptyStorey_22 rfl (lv_at hl 0 rfl) ?_
          refine g_getr S hB (hB.ty ht_s0 rfl) rfl (T := TX5) (N := 11) (C := RX5) rfl in_X5 1 (by decide) (by decide) q430 (fun _ h9 => h9) (fun _ => rfl) (cS5 hB (hB.ty ht_s0 rfl) 0 rfl).1 dX5_emptyStorey_23 ?_
          refine g_getrN S hB (cS5 hB (hB.ty ht_s0 rfl) 0 rfl).2 rfl (T := TX1) (N := 16) (C := RX1) rfl in_X1 3 (by decide) (by decide) (zNFw hB 30 rfl) (fun _ h9 => h9) (fun _ => rfl) (cS1 hB (cS5 hB (hB.ty ht_s0 rfl) 0 rfl).2 3 rfl).1 dX5_emptyStorey_26 ?_
          refine lv_iload_n hx hb dX5_emptyStorey_29 rfl (lv_at hl 2 rfl) ?_
          obtain ⟨hi, hp⟩ := hp
          refine g_iald S hB (cS1 hB (cS5 hB (hB.ty ht_s0 rfl) 0 rfl).2 3 rfl).2 hi dX5_emptyStorey_30 ?_
          refine lv_aload_n hx hb dX5_emptyStorey_31 rfl (lv_at hl 0 rfl) ?_
          refine g_get S hB (hB.ty ht_s0 rfl) rfl (T := TX5) (N := 11) (C := RX5) rfl in_X5 5 (by decide) (by decide) q435 (fun _ h9 => h9) (v := .int (zI μ s0 5)) rfl dX5_emptyStorey_32 ?_
          refine lv_icmp_ne (tgt := 43) hx hb dX5_emptyStorey_35 rfl (fun c0 => ?_) (fun c0 => ?_)
          · have hp := zif hp c0
            refine lv_iinc (v := (x2 + (nI 1))) (lv' := [(2, .int (x2 + (nI 1))), (0, .ref s0), (1, .int x1)]) hx hb dX5_emptyStorey_43 hl (k := 2) rfl rfl (by decide) rfl (fun ls hl => ?_)
            refine lv_goto (tgt := 2) hx hb dX5_emptyStorey_46 rfl ?_
            exact ih (x2 + (nI 1)) μ _ _ _ hp hB (lv_sub hl [1, 2, 0] rfl)
          · have hp := zit hp c0
            refine lv_aload_n hx hb dX5_emptyStorey_38 rfl (lv_at hl 0 rfl) ?_
            refine lv_iconst (v := (nI 3)) hx hb dX5_emptyStorey_39 rfl ?_
            refine z_callv (va_runV (As := [.int (nI 3)]) (rest := []) S (mX5_wrong l Γ z s0 (nI 3) μ _ hp) (cwV 1 hts (lw_V q616 q618 qs9 q133 q619) rfl rfl rfl hX5_wrong ⟨Nat.le_of_ble_eq_true rfl, Nat.le_of_ble_eq_true rfl⟩) (hB.preV (hB.ty ht_s0 rfl) rfl rfl) rfl rfl hl.1 rfl (lv_room (Nat.le_of_ble_eq_true rfl)) dX5_emptyStorey_40 ⟨Nat.le_refl _, Nat.le_refl _⟩) hB (fun μ3 H locs hp hB => ?_)
            refine lv_iinc (v := (x2 + (nI 1))) (lv' := [(2, .int (x2 + (nI 1))), (0, .ref s0), (1, .int x1)]) hx hb dX5_emptyStorey_43 hl (k := 2) rfl rfl (by decide) rfl (fun ls hl => ?_)
            refine lv_goto (tgt := 2) hx hb dX5_emptyStorey_46 rfl ?_
            exact ih (x2 + (nI 1)) μ3 _ _ _ hp hB (lv_sub hl [1, 2, 0] rfl)
def pX5_emptyStorey (z : Nat) (s0 : Nat) (x1 : Int32) (μ : zM) (Q : Int32 → zM → Prop) : Prop := zty μ s0 = some (.inl 5) ∧ ∃ k1, pX5_emptyStorey_2 z s0 x1 Q k1 (nI 0) μ
theorem tX5_emptyStorey {z : Nat} {s0 : Nat} {x1 : Int32} {μ : zM} {Q : Int32 → zM → Prop} (h : pX5_emptyStorey z s0 x1 μ Q) : zty μ s0 = some (.inl 5) := h.1
theorem hX5_emptyStorey : yX5_emptyStorey.cls = "SunkTower$Reader" ∧ yX5_emptyStorey.cls ≠ "java/lang/invoke/MethodHandle" ∧ yX5_emptyStorey.cls ≠ "java/lang/invoke/VarHandle" ∧ (parseMethodDescriptor yX5_emptyStorey.desc).map (fun d => d.parameters.length) = some 1 := by decide +kernel
set_option maxHeartbeats 4000000 in
set_option maxRecDepth 100000 in
theorem mX5_emptyStorey (l : Launch) (Γ : zG) (z : Nat) (s0 : Nat) (x1 : Int32) (μ : zM) (Q : Int32 → zM → Prop) (hp : pX5_emptyStorey z s0 x1 μ Q) : Met l yX5_emptyStorey (ws_ yX5_emptyStorey cX5_emptyStorey 3 (some .int)) ({ frames := 6, cells := 0, slots := 0, locals := 134 } : Room) (va_Pc [.ref s0, .int x1] (zPre Γ (cSh z) μ)) (va_Qi Q (zPost Γ (cSh z) μ) (zA μ)) 0 0 (zA μ) := by
  refine zstart (by decide) (Nat.le_of_ble_eq_true rfl) ?_
  intro p e s m below meth c ls X hnm hB hl
  have X : zCx p m c cX5_emptyStorey 3 s [.ref s0, .int x1].toArray RX5 meth (some .int) := X
  have S := X.1
  obtain ⟨hx, hb, hml, hown, hts⟩ := X.1
  have hl : lv_has ls 3 [(0, .ref s0), (1, .int x1)] := hl
  obtain ⟨ht_s0, hp⟩ := hp
  refine lv_iconst (v := (nI 0)) hx hb dX5_emptyStorey_0 rfl ?_
  refine lv_istore_n (lv' := [(2, .int (nI 0)), (0, .ref s0), (1, .int x1)]) hx hb dX5_emptyStorey_1 rfl hl (by decide) rfl (fun ls hl => ?_)
  obtain ⟨n1, hp⟩ := hp
  exact wX5_emptyStorey_2 X ht_s0 z x1 n1 (nI 0) μ _ _ _ hp hB (lv_sub hl [1, 2, 0] rfl)
def pX5_must_20 (z : Nat) (s0 : Nat) (Q : zM → Prop) (μ : zM) : Prop := (if (zI μ s0 6) = 0 then (pX5_next z s0 μ fun μ1 => Q μ1) else Q μ)
set_option maxHeartbeats 4000000 in
set_option maxRecDepth 100000 in
theorem wX5_must_20 {p : Program} {l : Launch} {e : Env} {s : State} {m : MethodId} {args : Array Value} {below : List Frame} {meth : Method} {c : Code} {Γ : zG} {μ0 : zM} {Q : zM → Prop} (X : zCx p m c cX5_must 2 s args RX5 meth none) {s0 : Nat} (ht_s0 : zty μ0 s0 = some (.inl 5)) (z : Nat) : ∀ (μ : zM) (H : Heap) (locs : List Loc) (ls : Array Slot), pX5_must_20 z s0 Q  μ → zB Γ (cSh z) (zA μ0) μ0 s μ H locs → lv_has ls 2 [(0, .ref s0)] → W p l e ({ frames := 5, cells := 0, slots := 0, locals := 111 } : Room) s m args below meth c H locs 0 0 (MQ below (va_Qv Q (zPost Γ (cSh z) μ0) (zA μ0)) args s 0 0 (zA μ0)) (F0 m 20 ls []) := by
  have S := X.1
  obtain ⟨hx, hb, hml, hown, hts⟩ := X.1
  intro  μ H locs ls hp hB hl
  unfold pX5_must_20 at hp
  refine lv_aload_n hx hb dX5_must_20 rfl (lv_at hl 0 rfl) ?_
  refine g_get S hB (hB.ty ht_s0 rfl) rfl (T := TX5) (N := 11) (C := RX5) rfl in_X5 6 (by decide) (by decide) q436 (fun _ h9 => h9) (v := .int (zI μ s0 6)) rfl dX5_must_21 ?_
  refine lv_if_ne (tgt := 31) hx hb dX5_must_24 rfl (fun c0 => ?_) (fun c0 => ?_)
  · have hp := zif hp c0
    exact zret_v X hB hp dX5_must_31
  · have hp := zit hp c0
    refine lv_aload_n hx hb dX5_must_27 rfl (lv_at hl 0 rfl) ?_
    refine z_callv (va_runV (As := []) (rest := []) S (mX5_next l Γ z s0 μ _ hp) (cwV 0 hts (lw_V q470 q472 qs1 q133 q473) rfl rfl rfl hX5_next ⟨Nat.le_of_ble_eq_true rfl, Nat.le_of_ble_eq_true rfl⟩) (hB.preV (hB.ty ht_s0 rfl) rfl rfl) rfl rfl hl.1 rfl (lv_room (Nat.le_of_ble_eq_true rfl)) dX5_must_28 ⟨Nat.le_refl _, Nat.le_refl _⟩) hB (fun μ1 H locs hp hB => ?_)
    exact zret_v X hB hp dX5_must_31
def pX5_must (z : Nat) (s0 : Nat) (x1 : Int32) (μ : zM) (Q : zM → Prop) : Prop := zty μ s0 = some (.inl 5) ∧ (if (zI μ s0 6) = 0 then (if (zI μ s0 4) = x1 then pX5_must_20 z s0 Q μ else (pX5_wrong z s0 (nI 2) μ fun μ1 => pX5_must_20 z s0 Q μ1)) else pX5_must_20 z s0 Q μ)
theorem tX5_must {z : Nat} {s0 : Nat} {x1 : Int32} {μ : zM} {Q : zM → Prop} (h : pX5_must z s0 x1 μ Q) : zty μ s0 = some (.inl 5) := h.1
theorem hX5_must : yX5_must.cls = "SunkTower$Reader" ∧ yX5_must.cls ≠ "java/lang/invoke/MethodHandle" ∧ yX5_must.cls ≠ "java/lang/invoke/VarHandle" ∧ (parseMethodDescriptor yX5_must.desc).map (fun d => d.parameters.length) = some 1 := by decide +kernel
set_option maxHeartbeats 4000000 in
set_option maxRecDepth 100000 in
theorem mX5_must (l : Launch) (Γ : zG) (z : Nat) (s0 : Nat) (x1 : Int32) (μ : zM) (Q : zM → Prop) (hp : pX5_must z s0 x1 μ Q) : Met l yX5_must (ws_ yX5_must cX5_must 2 none) ({ frames := 5, cells := 0, slots := 0, locals := 111 } : Room) (va_Pc [.ref s0, .int x1] (zPre Γ (cSh z) μ)) (va_Qv Q (zPost Γ (cSh z) μ) (zA μ)) 0 0 (zA μ) := by
  refine zstart (by decide) (Nat.le_of_ble_eq_true rfl) ?_
  intro p e s m below meth c ls X hnm hB hl
  have X : zCx p m c cX5_must 2 s [.ref s0, .int x1].toArray RX5 meth none := X
  have S := X.1
  obtain ⟨hx, hb, hml, hown, hts⟩ := X.1
  have hl : lv_has ls 2 [(0, .ref s0), (1, .int x1)] := hl
  obtain ⟨ht_s0, hp⟩ := hp
  refine lv_aload_n hx hb dX5_must_0 rfl (lv_at hl 0 rfl) ?_
  refine g_get S hB (hB.ty ht_s0 rfl) rfl (T := TX5) (N := 11) (C := RX5) rfl in_X5 6 (by decide) (by decide) q436 (fun _ h9 => h9) (v := .int (zI μ s0 6)) rfl dX5_must_1 ?_
  refine lv_if_ne (tgt := 20) hx hb dX5_must_4 rfl (fun c0 => ?_) (fun c0 => ?_)
  · have hp := zif hp c0
    exact wX5_must_20 X ht_s0 z μ _ _ _ hp hB (lv_sub hl [0] rfl)
  · have hp := zit hp c0
    refine lv_aload_n hx hb dX5_must_7 rfl (lv_at hl 0 rfl) ?_
    refine g_get S hB (hB.ty ht_s0 rfl) rfl (T := TX5) (N := 11) (C := RX5) rfl in_X5 4 (by decide) (by decide) q434 (fun _ h9 => h9) (v := .int (zI μ s0 4)) rfl dX5_must_8 ?_
    refine lv_iload_n hx hb dX5_must_11 rfl (lv_at hl 1 rfl) ?_
    refine lv_icmp_eq (tgt := 20) hx hb dX5_must_12 rfl (fun c0 => ?_) (fun c0 => ?_)
    · have hp := zit hp c0
      exact wX5_must_20 X ht_s0 z μ _ _ _ hp hB (lv_sub hl [0] rfl)
    · have hp := zif hp c0
      refine lv_aload_n hx hb dX5_must_15 rfl (lv_at hl 0 rfl) ?_
      refine lv_iconst (v := (nI 2)) hx hb dX5_must_16 rfl ?_
      refine z_callv (va_runV (As := [.int (nI 2)]) (rest := []) S (mX5_wrong l Γ z s0 (nI 2) μ _ hp) (cwV 1 hts (lw_V q616 q618 qs9 q133 q619) rfl rfl rfl hX5_wrong ⟨Nat.le_of_ble_eq_true rfl, Nat.le_of_ble_eq_true rfl⟩) (hB.preV (hB.ty ht_s0 rfl) rfl rfl) rfl rfl hl.1 rfl (lv_room (Nat.le_of_ble_eq_true rfl)) dX5_must_17 ⟨Nat.le_refl _, Nat.le_refl _⟩) hB (fun μ1 H locs hp hB => ?_)
      exact wX5_must_20 X ht_s0 z μ1 _ _ _ hp hB (lv_sub hl [0] rfl)
def pX5_sinkWord (z : Nat) (s0 : Nat) (μ : zM) (Q : Int32 → zM → Prop) : Prop := zty μ s0 = some (.inl 5) ∧ (pX5_takes z s0 7 μ fun r2 μ1 => (if r2 = 0 then (pX5_takes z s0 8 μ1 fun r4 μ3 => (if r4 = 0 then (pX5_takes z s0 9 μ3 fun r6 μ5 => (if r6 = 0 then (pX5_takes z s0 10 μ5 fun r8 μ7 => (if r8 = 0 then (pX5_takes z s0 11 μ7 fun r10 μ9 => (if r10 = 0 then Q (-1 : Int32) μ9 else Q (nI 4) μ9)) else Q (nI 3) μ7)) else Q (nI 2) μ5)) else Q (nI 1) μ3)) else Q (nI 0) μ1))
theorem tX5_sinkWord {z : Nat} {s0 : Nat} {μ : zM} {Q : Int32 → zM → Prop} (h : pX5_sinkWord z s0 μ Q) : zty μ s0 = some (.inl 5) := h.1
theorem hX5_sinkWord : yX5_sinkWord.cls = "SunkTower$Reader" ∧ yX5_sinkWord.cls ≠ "java/lang/invoke/MethodHandle" ∧ yX5_sinkWord.cls ≠ "java/lang/invoke/VarHandle" ∧ (parseMethodDescriptor yX5_sinkWord.desc).map (fun d => d.parameters.length) = some 0 := by decide +kernel
set_option maxHeartbeats 4000000 in
set_option maxRecDepth 100000 in
theorem mX5_sinkWord (l : Launch) (Γ : zG) (z : Nat) (s0 : Nat) (μ : zM) (Q : Int32 → zM → Prop) (hp : pX5_sinkWord z s0 μ Q) : Met l yX5_sinkWord (ws_ yX5_sinkWord cX5_sinkWord 1 (some .int)) ({ frames := 6, cells := 0, slots := 0, locals := 132 } : Room) (va_Pc [.ref s0] (zPre Γ (cSh z) μ)) (va_Qi Q (zPost Γ (cSh z) μ) (zA μ)) 0 0 (zA μ) := by
  refine zstart (by decide) (Nat.le_of_ble_eq_true rfl) ?_
  intro p e s m below meth c ls X hnm hB hl
  have X : zCx p m c cX5_sinkWord 1 s [.ref s0].toArray RX5 meth (some .int) := X
  have S := X.1
  obtain ⟨hx, hb, hml, hown, hts⟩ := X.1
  have hl : lv_has ls 1 [(0, .ref s0)] := hl
  obtain ⟨ht_s0, hp⟩ := hp
  refine lv_aload_n hx hb dX5_sinkWord_0 rfl (lv_at hl 0 rfl) ?_
  refine g_ldcs S hB (i := 8) rfl dX5_sinkWord_1 ?_
  refine z_calli (va_runV (As := [.ref (Γ.2.2.1 7)]) (rest := []) S (mX5_takes l Γ z s0 7 μ _ hp) (cwV 1 hts (lw_V q634 q636 qs13 q133 q637) rfl rfl rfl hX5_takes ⟨Nat.le_of_ble_eq_true rfl, Nat.le_of_ble_eq_true rfl⟩) (hB.preV (hB.ty ht_s0 rfl) rfl rfl) rfl rfl hl.1 rfl (lv_room (Nat.le_of_ble_eq_true rfl)) dX5_sinkWord_3 ⟨Nat.le_refl _, Nat.le_refl _⟩) hB (fun r2 μ1 H locs hp hB => ?_)
  refine lv_if_eq (tgt := 11) hx hb dX5_sinkWord_6 rfl (fun c0 => ?_) (fun c0 => ?_)
  · have hp := zit hp c0
    refine lv_aload_n hx hb dX5_sinkWord_11 rfl (lv_at hl 0 rfl) ?_
    refine g_ldcs S hB (i := 9) rfl dX5_sinkWord_12 ?_
    refine z_calli (va_runV (As := [.ref (Γ.2.2.1 8)]) (rest := []) S (mX5_takes l Γ z s0 8 μ1 _ hp) (cwV 1 hts (lw_V q634 q636 qs13 q133 q637) rfl rfl rfl hX5_takes ⟨Nat.le_of_ble_eq_true rfl, Nat.le_of_ble_eq_true rfl⟩) (hB.preV (hB.ty ht_s0 rfl) rfl rfl) rfl rfl hl.1 rfl (lv_room (Nat.le_of_ble_eq_true rfl)) dX5_sinkWord_14 ⟨Nat.le_refl _, Nat.le_refl _⟩) hB (fun r4 μ3 H locs hp hB => ?_)
    refine lv_if_eq (tgt := 22) hx hb dX5_sinkWord_17 rfl (fun c0 => ?_) (fun c0 => ?_)
    · have hp := zit hp c0
      refine lv_aload_n hx hb dX5_sinkWord_22 rfl (lv_at hl 0 rfl) ?_
      refine g_ldcs S hB (i := 10) rfl dX5_sinkWord_23 ?_
      refine z_calli (va_runV (As := [.ref (Γ.2.2.1 9)]) (rest := []) S (mX5_takes l Γ z s0 9 μ3 _ hp) (cwV 1 hts (lw_V q634 q636 qs13 q133 q637) rfl rfl rfl hX5_takes ⟨Nat.le_of_ble_eq_true rfl, Nat.le_of_ble_eq_true rfl⟩) (hB.preV (hB.ty ht_s0 rfl) rfl rfl) rfl rfl hl.1 rfl (lv_room (Nat.le_of_ble_eq_true rfl)) dX5_sinkWord_25 ⟨Nat.le_refl _, Nat.le_refl _⟩) hB (fun r6 μ5 H locs hp hB => ?_)
      refine lv_if_eq (tgt := 33) hx hb dX5_sinkWord_28 rfl (fun c0 => ?_) (fun c0 => ?_)
      · have hp := zit hp c0
        refine lv_aload_n hx hb dX5_sinkWord_33 rfl (lv_at hl 0 rfl) ?_
        refine g_ldcs S hB (i := 11) rfl dX5_sinkWord_34 ?_
        refine z_calli (va_runV (As := [.ref (Γ.2.2.1 10)]) (rest := []) S (mX5_takes l Γ z s0 10 μ5 _ hp) (cwV 1 hts (lw_V q634 q636 qs13 q133 q637) rfl rfl rfl hX5_takes ⟨Nat.le_of_ble_eq_true rfl, Nat.le_of_ble_eq_true rfl⟩) (hB.preV (hB.ty ht_s0 rfl) rfl rfl) rfl rfl hl.1 rfl (lv_room (Nat.le_of_ble_eq_true rfl)) dX5_sinkWord_36 ⟨Nat.le_refl _, Nat.le_refl _⟩) hB (fun r8 μ7 H locs hp hB => ?_)
        refine lv_if_eq (tgt := 44) hx hb dX5_sinkWord_39 rfl (fun c0 => ?_) (fun c0 => ?_)
        · have hp := zit hp c0
          refine lv_aload_n hx hb dX5_sinkWord_44 rfl (lv_at hl 0 rfl) ?_
          refine g_ldcs S hB (i := 12) rfl dX5_sinkWord_45 ?_
          refine z_calli (va_runV (As := [.ref (Γ.2.2.1 11)]) (rest := []) S (mX5_takes l Γ z s0 11 μ7 _ hp) (cwV 1 hts (lw_V q634 q636 qs13 q133 q637) rfl rfl rfl hX5_takes ⟨Nat.le_of_ble_eq_true rfl, Nat.le_of_ble_eq_true rfl⟩) (hB.preV (hB.ty ht_s0 rfl) rfl rfl) rfl rfl hl.1 rfl (lv_room (Nat.le_of_ble_eq_true rfl)) dX5_sinkWord_47 ⟨Nat.le_refl _, Nat.le_refl _⟩) hB (fun r10 μ9 H locs hp hB => ?_)
          refine lv_if_eq (tgt := 57) hx hb dX5_sinkWord_50 rfl (fun c0 => ?_) (fun c0 => ?_)
          · have hp := zit hp c0
            refine lv_iconst (v := (-1 : Int32)) hx hb dX5_sinkWord_57 rfl ?_
            exact zret_i X hB hp dX5_sinkWord_58
          · have hp := zif hp c0
            refine lv_iconst (v := (nI 4)) hx hb dX5_sinkWord_53 rfl ?_
            refine lv_goto (tgt := 58) hx hb dX5_sinkWord_54 rfl ?_
            exact zret_i X hB hp dX5_sinkWord_58
        · have hp := zif hp c0
          refine lv_iconst (v := (nI 3)) hx hb dX5_sinkWord_42 rfl ?_
          exact zret_i X hB hp dX5_sinkWord_43
      · have hp := zif hp c0
        refine lv_iconst (v := (nI 2)) hx hb dX5_sinkWord_31 rfl ?_
        exact zret_i X hB hp dX5_sinkWord_32
    · have hp := zif hp c0
      refine lv_iconst (v := (nI 1)) hx hb dX5_sinkWord_20 rfl ?_
      exact zret_i X hB hp dX5_sinkWord_21
  · have hp := zif hp c0
    refine lv_iconst (v := (nI 0)) hx hb dX5_sinkWord_9 rfl ?_
    exact zret_i X hB hp dX5_sinkWord_10
def pX5_storeyWord (z : Nat) (s0 : Nat) (μ : zM) (Q : Int32 → zM → Prop) : Prop := zty μ s0 = some (.inl 5) ∧ (pX5_takes z s0 12 μ fun r2 μ1 => (if r2 = 0 then (pX5_takes z s0 2 μ1 fun r4 μ3 => (if r4 = 0 then (pX5_takes z s0 10 μ3 fun r6 μ5 => (if r6 = 0 then (if (zI μ5 s0 9) = (nI 1) then Q (-1 : Int32) μ5 else (pX5_takes z s0 4 μ5 fun r8 μ7 => (if r8 = 0 then (pX5_takes z s0 13 μ7 fun r10 μ9 => (if r10 = 0 then (pX5_takes z s0 14 μ9 fun r12 μ11 => (if r12 = 0 then Q (-1 : Int32) μ11 else Q (nI 5) μ11)) else Q (nI 4) μ9)) else Q (nI 3) μ7))) else Q (nI 2) μ5)) else Q (nI 1) μ3)) else Q (nI 0) μ1))
theorem tX5_storeyWord {z : Nat} {s0 : Nat} {μ : zM} {Q : Int32 → zM → Prop} (h : pX5_storeyWord z s0 μ Q) : zty μ s0 = some (.inl 5) := h.1
theorem hX5_storeyWord : yX5_storeyWord.cls = "SunkTower$Reader" ∧ yX5_storeyWord.cls ≠ "java/lang/invoke/MethodHandle" ∧ yX5_storeyWord.cls ≠ "java/lang/invoke/VarHandle" ∧ (parseMethodDescriptor yX5_storeyWord.desc).map (fun d => d.parameters.length) = some 0 := by decide +kernel
set_option maxHeartbeats 4000000 in
set_option maxRecDepth 100000 in
theorem mX5_storeyWord (l : Launch) (Γ : zG) (z : Nat) (s0 : Nat) (μ : zM) (Q : Int32 → zM → Prop) (hp : pX5_storeyWord z s0 μ Q) : Met l yX5_storeyWord (ws_ yX5_storeyWord cX5_storeyWord 1 (some .int)) ({ frames := 6, cells := 0, slots := 0, locals := 132 } : Room) (va_Pc [.ref s0] (zPre Γ (cSh z) μ)) (va_Qi Q (zPost Γ (cSh z) μ) (zA μ)) 0 0 (zA μ) := by
  refine zstart (by decide) (Nat.le_of_ble_eq_true rfl) ?_
  intro p e s m below meth c ls X hnm hB hl
  have X : zCx p m c cX5_storeyWord 1 s [.ref s0].toArray RX5 meth (some .int) := X
  have S := X.1
  obtain ⟨hx, hb, hml, hown, hts⟩ := X.1
  have hl : lv_has ls 1 [(0, .ref s0)] := hl
  obtain ⟨ht_s0, hp⟩ := hp
  refine lv_aload_n hx hb dX5_storeyWord_0 rfl (lv_at hl 0 rfl) ?_
  refine g_ldcs S hB (i := 13) rfl dX5_storeyWord_1 ?_
  refine z_calli (va_runV (As := [.ref (Γ.2.2.1 12)]) (rest := []) S (mX5_takes l Γ z s0 12 μ _ hp) (cwV 1 hts (lw_V q634 q636 qs13 q133 q637) rfl rfl rfl hX5_takes ⟨Nat.le_of_ble_eq_true rfl, Nat.le_of_ble_eq_true rfl⟩) (hB.preV (hB.ty ht_s0 rfl) rfl rfl) rfl rfl hl.1 rfl (lv_room (Nat.le_of_ble_eq_true rfl)) dX5_storeyWord_3 ⟨Nat.le_refl _, Nat.le_refl _⟩) hB (fun r2 μ1 H locs hp hB => ?_)
  refine lv_if_eq (tgt := 11) hx hb dX5_storeyWord_6 rfl (fun c0 => ?_) (fun c0 => ?_)
  · have hp := zit hp c0
    refine lv_aload_n hx hb dX5_storeyWord_11 rfl (lv_at hl 0 rfl) ?_
    refine g_ldcs S hB (i := 3) rfl dX5_storeyWord_12 ?_
    refine z_calli (va_runV (As := [.ref (Γ.2.2.1 2)]) (rest := []) S (mX5_takes l Γ z s0 2 μ1 _ hp) (cwV 1 hts (lw_V q634 q636 qs13 q133 q637) rfl rfl rfl hX5_takes ⟨Nat.le_of_ble_eq_true rfl, Nat.le_of_ble_eq_true rfl⟩) (hB.preV (hB.ty ht_s0 rfl) rfl rfl) rfl rfl hl.1 rfl (lv_room (Nat.le_of_ble_eq_true rfl)) dX5_storeyWord_14 ⟨Nat.le_refl _, Nat.le_refl _⟩) hB (fun r4 μ3 H locs hp hB => ?_)
    refine lv_if_eq (tgt := 22) hx hb dX5_storeyWord_17 rfl (fun c0 => ?_) (fun c0 => ?_)
    · have hp := zit hp c0
      refine lv_aload_n hx hb dX5_storeyWord_22 rfl (lv_at hl 0 rfl) ?_
      refine g_ldcs S hB (i := 11) rfl dX5_storeyWord_23 ?_
      refine z_calli (va_runV (As := [.ref (Γ.2.2.1 10)]) (rest := []) S (mX5_takes l Γ z s0 10 μ3 _ hp) (cwV 1 hts (lw_V q634 q636 qs13 q133 q637) rfl rfl rfl hX5_takes ⟨Nat.le_of_ble_eq_true rfl, Nat.le_of_ble_eq_true rfl⟩) (hB.preV (hB.ty ht_s0 rfl) rfl rfl) rfl rfl hl.1 rfl (lv_room (Nat.le_of_ble_eq_true rfl)) dX5_storeyWord_25 ⟨Nat.le_refl _, Nat.le_refl _⟩) hB (fun r6 μ5 H locs hp hB => ?_)
      refine lv_if_eq (tgt := 33) hx hb dX5_storeyWord_28 rfl (fun c0 => ?_) (fun c0 => ?_)
      · have hp := zit hp c0
        refine lv_aload_n hx hb dX5_storeyWord_33 rfl (lv_at hl 0 rfl) ?_
        refine g_get S hB (hB.ty ht_s0 rfl) rfl (T := TX5) (N := 11) (C := RX5) rfl in_X5 9 (by decide) (by decide) q441 (fun _ h9 => h9) (v := .int (zI μ5 s0 9)) rfl dX5_storeyWord_34 ?_
        refine lv_iconst (v := (nI 1)) hx hb dX5_storeyWord_37 rfl ?_
        refine lv_icmp_ne (tgt := 43) hx hb dX5_storeyWord_38 rfl (fun c0 => ?_) (fun c0 => ?_)
        · have hp := zif hp c0
          refine lv_aload_n hx hb dX5_storeyWord_43 rfl (lv_at hl 0 rfl) ?_
          refine g_ldcs S hB (i := 5) rfl dX5_storeyWord_44 ?_
          refine z_calli (va_runV (As := [.ref (Γ.2.2.1 4)]) (rest := []) S (mX5_takes l Γ z s0 4 μ5 _ hp) (cwV 1 hts (lw_V q634 q636 qs13 q133 q637) rfl rfl rfl hX5_takes ⟨Nat.le_of_ble_eq_true rfl, Nat.le_of_ble_eq_true rfl⟩) (hB.preV (hB.ty ht_s0 rfl) rfl rfl) rfl rfl hl.1 rfl (lv_room (Nat.le_of_ble_eq_true rfl)) dX5_storeyWord_46 ⟨Nat.le_refl _, Nat.le_refl _⟩) hB (fun r8 μ7 H locs hp hB => ?_)
          refine lv_if_eq (tgt := 54) hx hb dX5_storeyWord_49 rfl (fun c0 => ?_) (fun c0 => ?_)
          · have hp := zit hp c0
            refine lv_aload_n hx hb dX5_storeyWord_54 rfl (lv_at hl 0 rfl) ?_
            refine g_ldcs S hB (i := 14) rfl dX5_storeyWord_55 ?_
            refine z_calli (va_runV (As := [.ref (Γ.2.2.1 13)]) (rest := []) S (mX5_takes l Γ z s0 13 μ7 _ hp) (cwV 1 hts (lw_V q634 q636 qs13 q133 q637) rfl rfl rfl hX5_takes ⟨Nat.le_of_ble_eq_true rfl, Nat.le_of_ble_eq_true rfl⟩) (hB.preV (hB.ty ht_s0 rfl) rfl rfl) rfl rfl hl.1 rfl (lv_room (Nat.le_of_ble_eq_true rfl)) dX5_storeyWord_57 ⟨Nat.le_refl _, Nat.le_refl _⟩) hB (fun r10 μ9 H locs hp hB => ?_)
            refine lv_if_eq (tgt := 65) hx hb dX5_storeyWord_60 rfl (fun c0 => ?_) (fun c0 => ?_)
            · have hp := zit hp c0
              refine lv_aload_n hx hb dX5_storeyWord_65 rfl (lv_at hl 0 rfl) ?_
              refine g_ldcs S hB (i := 15) rfl dX5_storeyWord_66 ?_
              refine z_calli (va_runV (As := [.ref (Γ.2.2.1 14)]) (rest := []) S (mX5_takes l Γ z s0 14 μ9 _ hp) (cwV 1 hts (lw_V q634 q636 qs13 q133 q637) rfl rfl rfl hX5_takes ⟨Nat.le_of_ble_eq_true rfl, Nat.le_of_ble_eq_true rfl⟩) (hB.preV (hB.ty ht_s0 rfl) rfl rfl) rfl rfl hl.1 rfl (lv_room (Nat.le_of_ble_eq_true rfl)) dX5_storeyWord_68 ⟨Nat.le_refl _, Nat.le_refl _⟩) hB (fun r12 μ11 H locs hp hB => ?_)
              refine lv_if_eq (tgt := 78) hx hb dX5_storeyWord_71 rfl (fun c0 => ?_) (fun c0 => ?_)
              · have hp := zit hp c0
                refine lv_iconst (v := (-1 : Int32)) hx hb dX5_storeyWord_78 rfl ?_
                exact zret_i X hB hp dX5_storeyWord_79
              · have hp := zif hp c0
                refine lv_iconst (v := (nI 5)) hx hb dX5_storeyWord_74 rfl ?_
                refine lv_goto (tgt := 79) hx hb dX5_storeyWord_75 rfl ?_
                exact zret_i X hB hp dX5_storeyWord_79
            · have hp := zif hp c0
              refine lv_iconst (v := (nI 4)) hx hb dX5_storeyWord_63 rfl ?_
              exact zret_i X hB hp dX5_storeyWord_64
          · have hp := zif hp c0
            refine lv_iconst (v := (nI 3)) hx hb dX5_storeyWord_52 rfl ?_
            exact zret_i X hB hp dX5_storeyWord_53
        · have hp := zit hp c0
          refine lv_iconst (v := (-1 : Int32)) hx hb dX5_storeyWord_41 rfl ?_
          exact zret_i X hB hp dX5_storeyWord_42
      · have hp := zif hp c0
        refine lv_iconst (v := (nI 2)) hx hb dX5_storeyWord_31 rfl ?_
        exact zret_i X hB hp dX5_storeyWord_32
    · have hp := zif hp c0
      refine lv_iconst (v := (nI 1)) hx hb dX5_storeyWord_20 rfl ?_
      exact zret_i X hB hp dX5_storeyWord_21
  · have hp := zif hp c0
    refine lv_iconst (v := (nI 0)) hx hb dX5_storeyWord_9 rfl ?_
    exact zret_i X hB hp dX5_storeyWord_10
def pX5_goesIn_14 (z : Nat) (s0 : Nat) (Q : zM → Prop) (μ : zM) : Prop := (zpI μ s0 7 ((zI μ s0 7) + (nI 1)) fun μ1 => (if (zI μ1 s0 6) = 0 then (pX5_next z s0 μ1 fun μ2 => Q μ2) else Q μ1))
set_option maxHeartbeats 4000000 in
set_option maxRecDepth 100000 in
theorem wX5_goesIn_14 {p : Program} {l : Launch} {e : Env} {s : State} {m : MethodId} {args : Array Value} {below : List Frame} {meth : Method} {c : Code} {Γ : zG} {μ0 : zM} {Q : zM → Prop} (X : zCx p m c cX5_goesIn 1 s args RX5 meth none) {s0 : Nat} (ht_s0 : zty μ0 s0 = some (.inl 5)) (z : Nat) : ∀ (μ : zM) (H : Heap) (locs : List Loc) (ls : Array Slot), pX5_goesIn_14 z s0 Q  μ → zB Γ (cSh z) (zA μ0) μ0 s μ H locs → lv_has ls 1 [(0, .ref s0)] → W p l e ({ frames := 5, cells := 0, slots := 0, locals := 111 } : Room) s m args below meth c H locs 0 0 (MQ below (va_Qv Q (zPost Γ (cSh z) μ0) (zA μ0)) args s 0 0 (zA μ0)) (F0 m 14 ls []) := by
  have S := X.1
  obtain ⟨hx, hb, hml, hown, hts⟩ := X.1
  intro  μ H locs ls hp hB hl
  unfold pX5_goesIn_14 at hp
  refine lv_aload_n hx hb dX5_goesIn_14 rfl (lv_at hl 0 rfl) ?_
  refine lv_dup hx hb dX5_goesIn_15 rfl ?_
  refine g_get S hB (hB.ty ht_s0 rfl) rfl (T := TX5) (N := 11) (C := RX5) rfl in_X5 7 (by decide) (by decide) q438 (fun _ h9 => h9) (v := .int (zI μ s0 7)) rfl dX5_goesIn_16 ?_
  refine lv_iconst (v := (nI 1)) hx hb dX5_goesIn_19 rfl ?_
  refine lv_iadd hx hb dX5_goesIn_20 ?_
  obtain ⟨μ1, eμ1, hp⟩ := zpI_e hp
  refine g_putI S hB (hB.ty ht_s0 rfl) rfl (T := TX5) (N := 11) (C := RX5) rfl in_X5 7 (by decide) (by decide) (x := ((zI μ s0 7) + (nI 1))) tyX5 tyX5_ok nmX5 q438 (fun _ h9 => h9) rfl (ty := .int) (by decide +kernel) rfl rfl (fun _ _ => rfl) dX5_goesIn_21 (fun H locs hB => ?_)
  rw [← eμ1] at hB
  refine lv_aload_n hx hb dX5_goesIn_24 rfl (lv_at hl 0 rfl) ?_
  refine g_get S hB (hB.ty ht_s0 rfl) rfl (T := TX5) (N := 11) (C := RX5) rfl in_X5 6 (by decide) (by decide) q436 (fun _ h9 => h9) (v := .int (zI μ1 s0 6)) rfl dX5_goesIn_25 ?_
  refine lv_if_ne (tgt := 35) hx hb dX5_goesIn_28 rfl (fun c0 => ?_) (fun c0 => ?_)
  · have hp := zif hp c0
    exact zret_v X hB hp dX5_goesIn_35
  · have hp := zit hp c0
    refine lv_aload_n hx hb dX5_goesIn_31 rfl (lv_at hl 0 rfl) ?_
    refine z_callv (va_runV (As := []) (rest := []) S (mX5_next l Γ z s0 μ1 _ hp) (cwV 0 hts (lw_V q470 q472 qs1 q133 q473) rfl rfl rfl hX5_next ⟨Nat.le_of_ble_eq_true rfl, Nat.le_of_ble_eq_true rfl⟩) (hB.preV (hB.ty ht_s0 rfl) rfl rfl) rfl rfl hl.1 rfl (lv_room (Nat.le_of_ble_eq_true rfl)) dX5_goesIn_32 ⟨Nat.le_refl _, Nat.le_refl _⟩) hB (fun μ2 H locs hp hB => ?_)
    exact zret_v X hB hp dX5_goesIn_35
def pX5_goesIn (z : Nat) (s0 : Nat) (μ : zM) (Q : zM → Prop) : Prop := zty μ s0 = some (.inl 5) ∧ (if (zI μ s0 7) = (nI 6) then (pX5_wrong z s0 (nI 4) μ fun μ1 => pX5_goesIn_14 z s0 Q μ1) else pX5_goesIn_14 z s0 Q μ)
theorem tX5_goesIn {z : Nat} {s0 : Nat} {μ : zM} {Q : zM → Prop} (h : pX5_goesIn z s0 μ Q) : zty μ s0 = some (.inl 5) := h.1
theorem hX5_goesIn : yX5_goesIn.cls = "SunkTower$Reader" ∧ yX5_goesIn.cls ≠ "java/lang/invoke/MethodHandle" ∧ yX5_goesIn.cls ≠ "java/lang/invoke/VarHandle" ∧ (parseMethodDescriptor yX5_goesIn.desc).map (fun d => d.parameters.length) = some 0 := by decide +kernel
set_option maxHeartbeats 4000000 in
set_option maxRecDepth 100000 in
theorem mX5_goesIn (l : Launch) (Γ : zG) (z : Nat) (s0 : Nat) (μ : zM) (Q : zM → Prop) (hp : pX5_goesIn z s0 μ Q) : Met l yX5_goesIn (ws_ yX5_goesIn cX5_goesIn 1 none) ({ frames := 5, cells := 0, slots := 0, locals := 111 } : Room) (va_Pc [.ref s0] (zPre Γ (cSh z) μ)) (va_Qv Q (zPost Γ (cSh z) μ) (zA μ)) 0 0 (zA μ) := by
  refine zstart (by decide) (Nat.le_of_ble_eq_true rfl) ?_
  intro p e s m below meth c ls X hnm hB hl
  have X : zCx p m c cX5_goesIn 1 s [.ref s0].toArray RX5 meth none := X
  have S := X.1
  obtain ⟨hx, hb, hml, hown, hts⟩ := X.1
  have hl : lv_has ls 1 [(0, .ref s0)] := hl
  obtain ⟨ht_s0, hp⟩ := hp
  refine lv_aload_n hx hb dX5_goesIn_0 rfl (lv_at hl 0 rfl) ?_
  refine g_get S hB (hB.ty ht_s0 rfl) rfl (T := TX5) (N := 11) (C := RX5) rfl in_X5 7 (by decide) (by decide) q438 (fun _ h9 => h9) (v := .int (zI μ s0 7)) rfl dX5_goesIn_1 ?_
  refine lv_bipush (v := (nI 6)) hx hb dX5_goesIn_4 rfl ?_
  refine lv_icmp_ne (tgt := 14) hx hb dX5_goesIn_6 rfl (fun c0 => ?_) (fun c0 => ?_)
  · have hp := zif hp c0
    exact wX5_goesIn_14 X ht_s0 z μ _ _ _ hp hB (lv_sub hl [0] rfl)
  · have hp := zit hp c0
    refine lv_aload_n hx hb dX5_goesIn_9 rfl (lv_at hl 0 rfl) ?_
    refine lv_iconst (v := (nI 4)) hx hb dX5_goesIn_10 rfl ?_
    refine z_callv (va_runV (As := [.int (nI 4)]) (rest := []) S (mX5_wrong l Γ z s0 (nI 4) μ _ hp) (cwV 1 hts (lw_V q616 q618 qs9 q133 q619) rfl rfl rfl hX5_wrong ⟨Nat.le_of_ble_eq_true rfl, Nat.le_of_ble_eq_true rfl⟩) (hB.preV (hB.ty ht_s0 rfl) rfl rfl) rfl rfl hl.1 rfl (lv_room (Nat.le_of_ble_eq_true rfl)) dX5_goesIn_11 ⟨Nat.le_refl _, Nat.le_refl _⟩) hB (fun μ1 H locs hp hB => ?_)
    exact wX5_goesIn_14 X ht_s0 z μ1 _ _ _ hp hB (lv_sub hl [0] rfl)
def pX5_mustWord (z : Nat) (s0 : Nat) (x1 : Nat) (μ : zM) (Q : zM → Prop) : Prop := zty μ s0 = some (.inl 5) ∧ (pX5_takes z s0 x1 μ fun r2 μ1 => (if r2 = 0 then (pX5_wrong z s0 (nI 2) μ1 fun μ3 => Q μ3) else Q μ1))
theorem tX5_mustWord {z : Nat} {s0 : Nat} {x1 : Nat} {μ : zM} {Q : zM → Prop} (h : pX5_mustWord z s0 x1 μ Q) : zty μ s0 = some (.inl 5) := h.1
theorem hX5_mustWord : yX5_mustWord.cls = "SunkTower$Reader" ∧ yX5_mustWord.cls ≠ "java/lang/invoke/MethodHandle" ∧ yX5_mustWord.cls ≠ "java/lang/invoke/VarHandle" ∧ (parseMethodDescriptor yX5_mustWord.desc).map (fun d => d.parameters.length) = some 1 := by decide +kernel
set_option maxHeartbeats 4000000 in
set_option maxRecDepth 100000 in
theorem mX5_mustWord (l : Launch) (Γ : zG) (z : Nat) (s0 : Nat) (x1 : Nat) (μ : zM) (Q : zM → Prop) (hp : pX5_mustWord z s0 x1 μ Q) : Met l yX5_mustWord (ws_ yX5_mustWord cX5_mustWord 2 none) ({ frames := 6, cells := 0, slots := 0, locals := 132 } : Room) (va_Pc [.ref s0, .ref (Γ.2.2.1 x1)] (zPre Γ (cSh z) μ)) (va_Qv Q (zPost Γ (cSh z) μ) (zA μ)) 0 0 (zA μ) := by
  refine zstart (by decide) (Nat.le_of_ble_eq_true rfl) ?_
  intro p e s m below meth c ls X hnm hB hl
  have X : zCx p m c cX5_mustWord 2 s [.ref s0, .ref (Γ.2.2.1 x1)].toArray RX5 meth none := X
  have S := X.1
  obtain ⟨hx, hb, hml, hown, hts⟩ := X.1
  have hl : lv_has ls 2 [(0, .ref s0), (1, .ref (Γ.2.2.1 x1))] := hl
  obtain ⟨ht_s0, hp⟩ := hp
  refine lv_aload_n hx hb dX5_mustWord_0 rfl (lv_at hl 0 rfl) ?_
  refine lv_aload_n hx hb dX5_mustWord_1 rfl (lv_at hl 1 rfl) ?_
  refine z_calli (va_runV (As := [.ref (Γ.2.2.1 x1)]) (rest := []) S (mX5_takes l Γ z s0 x1 μ _ hp) (cwV 1 hts (lw_V q634 q636 qs13 q133 q637) rfl rfl rfl hX5_takes ⟨Nat.le_of_ble_eq_true rfl, Nat.le_of_ble_eq_true rfl⟩) (hB.preV (hB.ty ht_s0 rfl) rfl rfl) rfl rfl hl.1 rfl (lv_room (Nat.le_of_ble_eq_true rfl)) dX5_mustWord_2 ⟨Nat.le_refl _, Nat.le_refl _⟩) hB (fun r2 μ1 H locs hp hB => ?_)
  refine lv_if_ne (tgt := 13) hx hb dX5_mustWord_5 rfl (fun c0 => ?_) (fun c0 => ?_)
  · have hp := zif hp c0
    exact zret_v X hB hp dX5_mustWord_13
  · have hp := zit hp c0
    refine lv_aload_n hx hb dX5_mustWord_8 rfl (lv_at hl 0 rfl) ?_
    refine lv_iconst (v := (nI 2)) hx hb dX5_mustWord_9 rfl ?_
    refine z_callv (va_runV (As := [.int (nI 2)]) (rest := []) S (mX5_wrong l Γ z s0 (nI 2) μ1 _ hp) (cwV 1 hts (lw_V q616 q618 qs9 q133 q619) rfl rfl rfl hX5_wrong ⟨Nat.le_of_ble_eq_true rfl, Nat.le_of_ble_eq_true rfl⟩) (hB.preV (hB.ty ht_s0 rfl) rfl rfl) rfl rfl hl.1 rfl (lv_room (Nat.le_of_ble_eq_true rfl)) dX5_mustWord_10 ⟨Nat.le_refl _, Nat.le_refl _⟩) hB (fun μ3 H locs hp hB => ?_)
    exact zret_v X hB hp dX5_mustWord_13
def pX0_sinks (z : Nat) (μ : zM) (Q : Int32 → zM → Prop) : Prop := (pX2_inches z (z + 7) μ fun r2 μ1 => Q r2 μ1)
theorem hX0_sinks : yX0_sinks.cls = "SunkTower" ∧ yX0_sinks.cls ≠ "java/lang/invoke/MethodHandle" ∧ yX0_sinks.cls ≠ "java/lang/invoke/VarHandle" ∧ (parseMethodDescriptor yX0_sinks.desc).map (fun d => d.parameters.length) = some 0 := by decide +kernel
set_option maxHeartbeats 4000000 in
set_option maxRecDepth 100000 in
theorem mX0_sinks (l : Launch) (Γ : zG) (z : Nat) (μ : zM) (Q : Int32 → zM → Prop) (hp : pX0_sinks z μ Q) : Met l yX0_sinks (ws_ yX0_sinks cX0_sinks 1 (some .int)) ({ frames := 463, cells := 0, slots := 0, locals := 12493 } : Room) (va_Pc [.ref z] (zPre Γ (cSh z) μ)) (va_Qi Q (zPost Γ (cSh z) μ) (zA μ)) 0 0 (zA μ) := by
  refine zstart (by decide) (Nat.le_of_ble_eq_true rfl) ?_
  intro p e s m below meth c ls X hnm hB hl
  have X : zCx p m c cX0_sinks 1 s [.ref z].toArray RX0 meth (some .int) := X
  have S := X.1
  obtain ⟨hx, hb, hml, hown, hts⟩ := X.1
  have hl : lv_has ls 1 [(0, .ref z)] := hl
  unfold pX0_sinks at hp
  refine lv_aload_n hx hb dX0_sinks_0 rfl (lv_at hl 0 rfl) ?_
  refine g_getr S hB (cT hB) rfl (T := TX0) (N := 33) (C := RX0) rfl in_X0 1 (by decide) (by decide) q305 (fun _ h9 => h9) (fun _ => rfl) (cA hB 0 rfl).1 dX0_sinks_1 ?_
  refine z_calli (va_runV (As := []) (rest := []) S (mX2_inches l Γ z (z + 7) μ _ hp) (cwV 0 hts (lw_V q784 q785 q786 q129 q787) rfl rfl rfl hX2_inches ⟨Nat.le_of_ble_eq_true rfl, Nat.le_of_ble_eq_true rfl⟩) (hB.preV (tX2_inches hp) rfl rfl) rfl rfl hl.1 rfl (lv_room (Nat.le_of_ble_eq_true rfl)) dX0_sinks_4 ⟨Nat.le_refl _, Nat.le_refl _⟩) hB (fun r2 μ1 H locs hp hB => ?_)
  exact zret_i X hB hp dX0_sinks_7
def pX0_pays (z : Nat) (x1 : Int32) (μ : zM) (Q : Int32 → zM → Prop) : Prop := (pX0_isStorey z x1 μ fun r2 μ1 => (if r2 = 0 then Q (-90000002 : Int32) μ1 else (pX2_pays z (z + 7) x1 μ1 fun r4 μ3 => Q r4 μ3)))
theorem hX0_pays : yX0_pays.cls = "SunkTower" ∧ yX0_pays.cls ≠ "java/lang/invoke/MethodHandle" ∧ yX0_pays.cls ≠ "java/lang/invoke/VarHandle" ∧ (parseMethodDescriptor yX0_pays.desc).map (fun d => d.parameters.length) = some 1 := by decide +kernel
set_option maxHeartbeats 4000000 in
set_option maxRecDepth 100000 in
theorem mX0_pays (l : Launch) (Γ : zG) (z : Nat) (x1 : Int32) (μ : zM) (Q : Int32 → zM → Prop) (hp : pX0_pays z x1 μ Q) : Met l yX0_pays (ws_ yX0_pays cX0_pays 2 (some .int)) ({ frames := 463, cells := 0, slots := 0, locals := 12491 } : Room) (va_Pc [.ref z, .int x1] (zPre Γ (cSh z) μ)) (va_Qi Q (zPost Γ (cSh z) μ) (zA μ)) 0 0 (zA μ) := by
  refine zstart (by decide) (Nat.le_of_ble_eq_true rfl) ?_
  intro p e s m below meth c ls X hnm hB hl
  have X : zCx p m c cX0_pays 2 s [.ref z, .int x1].toArray RX0 meth (some .int) := X
  have S := X.1
  obtain ⟨hx, hb, hml, hown, hts⟩ := X.1
  have hl : lv_has ls 2 [(0, .ref z), (1, .int x1)] := hl
  unfold pX0_pays at hp
  refine lv_aload_n hx hb dX0_pays_0 rfl (lv_at hl 0 rfl) ?_
  refine lv_iload_n hx hb dX0_pays_1 rfl (lv_at hl 1 rfl) ?_
  refine z_calli (va_runV (As := [.int x1]) (rest := []) S (mX0_isStorey l Γ z x1 μ _ hp) (cwV 1 hts (lw_V q748 q750 qs26 q127 q751) rfl rfl rfl hX0_isStorey ⟨Nat.le_of_ble_eq_true rfl, Nat.le_of_ble_eq_true rfl⟩) (hB.preV (cT hB) rfl rfl) rfl rfl hl.1 rfl (lv_room (Nat.le_of_ble_eq_true rfl)) dX0_pays_2 ⟨Nat.le_refl _, Nat.le_refl _⟩) hB (fun r2 μ1 H locs hp hB => ?_)
  refine lv_if_eq (tgt := 19) hx hb dX0_pays_5 rfl (fun c0 => ?_) (fun c0 => ?_)
  · have hp := zit hp c0
    refine lv_ldc (v := (-90000002 : Int32)) hx hb hown (hts _ q840) dX0_pays_19 ?_
    exact zret_i X hB hp dX0_pays_21
  · have hp := zif hp c0
    refine lv_aload_n hx hb dX0_pays_8 rfl (lv_at hl 0 rfl) ?_
    refine g_getr S hB (cT hB) rfl (T := TX0) (N := 33) (C := RX0) rfl in_X0 1 (by decide) (by decide) q305 (fun _ h9 => h9) (fun _ => rfl) (cA hB 0 rfl).1 dX0_pays_9 ?_
    refine lv_iload_n hx hb dX0_pays_12 rfl (lv_at hl 1 rfl) ?_
    refine z_calli (va_runV (As := [.int x1]) (rest := []) S (mX2_pays l Γ z (z + 7) x1 μ1 _ hp) (cwV 1 hts (lw_V q825 q826 q827 q129 q828) rfl rfl rfl hX2_pays ⟨Nat.le_of_ble_eq_true rfl, Nat.le_of_ble_eq_true rfl⟩) (hB.preV (tX2_pays hp) rfl rfl) rfl rfl hl.1 rfl (lv_room (Nat.le_of_ble_eq_true rfl)) dX0_pays_13 ⟨Nat.le_refl _, Nat.le_refl _⟩) hB (fun r4 μ3 H locs hp hB => ?_)
    refine lv_goto (tgt := 21) hx hb dX0_pays_16 rfl ?_
    exact zret_i X hB hp dX0_pays_21
def pX0_worth (z : Nat) (x1 : Int32) (x2 : Int32) (μ : zM) (Q : Int32 → zM → Prop) : Prop := (pX0_isTenant z x1 μ fun r2 μ1 => (if r2 = 0 then Q (-90000002 : Int32) μ1 else (pX0_isStorey z x2 μ1 fun r4 μ3 => (if r4 = 0 then Q (-90000002 : Int32) μ3 else (pX2_worth z (z + 7) x1 x2 μ3 fun r6 μ5 => Q r6 μ5)))))
theorem hX0_worth : yX0_worth.cls = "SunkTower" ∧ yX0_worth.cls ≠ "java/lang/invoke/MethodHandle" ∧ yX0_worth.cls ≠ "java/lang/invoke/VarHandle" ∧ (parseMethodDescriptor yX0_worth.desc).map (fun d => d.parameters.length) = some 2 := by decide +kernel
set_option maxHeartbeats 4000000 in
set_option maxRecDepth 100000 in
theorem mX0_worth (l : Launch) (Γ : zG) (z : Nat) (x1 : Int32) (x2 : Int32) (μ : zM) (Q : Int32 → zM → Prop) (hp : pX0_worth z x1 x2 μ Q) : Met l yX0_worth (ws_ yX0_worth cX0_worth 3 (some .int)) ({ frames := 463, cells := 0, slots := 0, locals := 12495 } : Room) (va_Pc [.ref z, .int x1, .int x2] (zPre Γ (cSh z) μ)) (va_Qi Q (zPost Γ (cSh z) μ) (zA μ)) 0 0 (zA μ) := by
  refine zstart (by decide) (Nat.le_of_ble_eq_true rfl) ?_
  intro p e s m below meth c ls X hnm hB hl
  have X : zCx p m c cX0_worth 3 s [.ref z, .int x1, .int x2].toArray RX0 meth (some .int) := X
  have S := X.1
  obtain ⟨hx, hb, hml, hown, hts⟩ := X.1
  have hl : lv_has ls 3 [(0, .ref z), (1, .int x1), (2, .int x2)] := hl
  unfold pX0_worth at hp
  refine lv_aload_n hx hb dX0_worth_0 rfl (lv_at hl 0 rfl) ?_
  refine lv_iload_n hx hb dX0_worth_1 rfl (lv_at hl 1 rfl) ?_
  refine z_calli (va_runV (As := [.int x1]) (rest := []) S (mX0_isTenant l Γ z x1 μ _ hp) (cwV 1 hts (lw_V q768 q770 qs27 q127 q771) rfl rfl rfl hX0_isTenant ⟨Nat.le_of_ble_eq_true rfl, Nat.le_of_ble_eq_true rfl⟩) (hB.preV (cT hB) rfl rfl) rfl rfl hl.1 rfl (lv_room (Nat.le_of_ble_eq_true rfl)) dX0_worth_2 ⟨Nat.le_refl _, Nat.le_refl _⟩) hB (fun r2 μ1 H locs hp hB => ?_)
  refine lv_if_eq (tgt := 28) hx hb dX0_worth_5 rfl (fun c0 => ?_) (fun c0 => ?_)
  · have hp := zit hp c0
    refine lv_ldc (v := (-90000002 : Int32)) hx hb hown (hts _ q840) dX0_worth_28 ?_
    exact zret_i X hB hp dX0_worth_30
  · have hp := zif hp c0
    refine lv_aload_n hx hb dX0_worth_8 rfl (lv_at hl 0 rfl) ?_
    refine lv_iload_n hx hb dX0_worth_9 rfl (lv_at hl 2 rfl) ?_
    refine z_calli (va_runV (As := [.int x2]) (rest := []) S (mX0_isStorey l Γ z x2 μ1 _ hp) (cwV 1 hts (lw_V q748 q750 qs26 q127 q751) rfl rfl rfl hX0_isStorey ⟨Nat.le_of_ble_eq_true rfl, Nat.le_of_ble_eq_true rfl⟩) (hB.preV (cT hB) rfl rfl) rfl rfl hl.1 rfl (lv_room (Nat.le_of_ble_eq_true rfl)) dX0_worth_10 ⟨Nat.le_refl _, Nat.le_refl _⟩) hB (fun r4 μ3 H locs hp hB => ?_)
    refine lv_if_eq (tgt := 28) hx hb dX0_worth_13 rfl (fun c0 => ?_) (fun c0 => ?_)
    · have hp := zit hp c0
      refine lv_ldc (v := (-90000002 : Int32)) hx hb hown (hts _ q840) dX0_worth_28 ?_
      exact zret_i X hB hp dX0_worth_30
    · have hp := zif hp c0
      refine lv_aload_n hx hb dX0_worth_16 rfl (lv_at hl 0 rfl) ?_
      refine g_getr S hB (cT hB) rfl (T := TX0) (N := 33) (C := RX0) rfl in_X0 1 (by decide) (by decide) q305 (fun _ h9 => h9) (fun _ => rfl) (cA hB 0 rfl).1 dX0_worth_17 ?_
      refine lv_iload_n hx hb dX0_worth_20 rfl (lv_at hl 1 rfl) ?_
      refine lv_iload_n hx hb dX0_worth_21 rfl (lv_at hl 2 rfl) ?_
      refine z_calli (va_runV (As := [.int x1, .int x2]) (rest := []) S (mX2_worth l Γ z (z + 7) x1 x2 μ3 _ hp) (cwV 2 hts (lw_V q845 q846 q847 q129 q848) rfl rfl rfl hX2_worth ⟨Nat.le_of_ble_eq_true rfl, Nat.le_of_ble_eq_true rfl⟩) (hB.preV (tX2_worth hp) rfl rfl) rfl rfl hl.1 rfl (lv_room (Nat.le_of_ble_eq_true rfl)) dX0_worth_22 ⟨Nat.le_refl _, Nat.le_refl _⟩) hB (fun r6 μ5 H locs hp hB => ?_)
      refine lv_goto (tgt := 30) hx hb dX0_worth_25 rfl ?_
      exact zret_i X hB hp dX0_worth_30
def pX0_pointsAt_6 (z : Nat) (x1 : Nat) (x2 : Int32) (x3 : Int32) (Q : Int32 → zM → Prop) : Nat → Int32 → Int32 → zM → Prop
  | 0, _, _, _ => False
  | n + 1, x4, x5, μ => (zde (zR μ z 0) fun b1 => (zty μ b1 = some (.inl 1) ∧ (if (zI μ b1 6) ≤ x5 then Q x4 μ else (pX0_has z x3 x5 μ fun r4 μ3 => (if r4 = 0 then pX0_pointsAt_6 z x1 x2 x3 Q n x4 (x5 + (nI 1)) μ3 else (vp_in x5 6 ∧ (pX2_worth z x1 x2 (zI μ3 (x1 + 1) x5.toNatClampNeg) μ3 fun r6 μ5 => (vp_in x4 6 ∧ (pX2_worth z x1 x2 (zI μ5 (x1 + 1) x4.toNatClampNeg) μ5 fun r8 μ7 => (if 0 < (r6 - r8) then pX0_pointsAt_6 z x1 x2 x3 Q n x5 (x5 + (nI 1)) μ7 else (if (r6 - r8) = 0 then (vp_in x5 6 ∧ (vp_in x4 6 ∧ (if (zI μ7 (x1 + 1) x5.toNatClampNeg) ≤ (zI μ7 (x1 + 1) x4.toNatClampNeg) then pX0_pointsAt_6 z x1 x2 x3 Q n x4 (x5 + (nI 1)) μ7 else pX0_pointsAt_6 z x1 x2 x3 Q n x5 (x5 + (nI 1)) μ7))) else pX0_pointsAt_6 z x1 x2 x3 Q n x4 (x5 + (nI 1)) μ7)))))))))))
set_option maxHeartbeats 4000000 in
set_option maxRecDepth 100000 in
theorem wX0_pointsAt_6 {p : Program} {l : Launch} {e : Env} {s : State} {m : MethodId} {args : Array Value} {below : List Frame} {meth : Method} {c : Code} {Γ : zG} {μ0 : zM} {Q : Int32 → zM → Prop} (X : zCx p m c cX0_pointsAt 7 s args RX0 meth (some .int)) {x1 : Nat} (ht_x1 : zty μ0 x1 = some (.inl 2)) (z : Nat) (x2 : Int32) (x3 : Int32) : ∀ (n : Nat) (x4 : Int32) (x5 : Int32) (μ : zM) (H : Heap) (locs : List Loc) (ls : Array Slot), pX0_pointsAt_6 z x1 x2 x3 Q n x4 x5 μ → zB Γ (cSh z) (zA μ0) μ0 s μ H locs → lv_has ls 7 [(0, .ref z), (1, .ref x1), (2, .int x2), (3, .int x3), (4, .int x4), (5, .int x5)] → W p l e ({ frames := 463, cells := 0, slots := 0, locals := 12495 } : Room) s m args below meth c H locs 0 0 (MQ below (va_Qi Q (zPost Γ (cSh z) μ0) (zA μ0)) args s 0 0 (zA μ0)) (F0 m 6 ls []) := by
  have S := X.1
  obtain ⟨hx, hb, hml, hown, hts⟩ := X.1
  intro n
  induction n with
  | zero =>
    intro x4 x5 μ H locs ls hp
    exact hp.elim
  | succ n ih =>
    intro x4 x5 μ H locs ls hp hB hl
    unfold pX0_pointsAt_6 at hp
    refine lv_iload hx hb dX0_pointsAt_6 (lv_at hl 5 rfl) ?_
    refine lv_aload_n hx hb dX0_pointsAt_8 rfl (lv_at hl 0 rfl) ?_
    refine g_get S hB (cT hB) rfl (T := TX0) (N := 33) (C := RX0) rfl in_X0 0 (by decide) (by decide) q304 (fun _ h9 => h9) (v := va_rf (zR μ z 0)) rfl dX0_pointsAt_9 ?_
    obtain ⟨b1, eb, hp⟩ := hp
    refine W.eq (g2 := F0 m 12 ls [.ref b1, .int x5]) (by rw [eb]; rfl) ?_
    obtain ⟨ht2, hp⟩ := hp
    refine g_getN S hB ht2 rfl (T := TX1) (N := 16) (C := RX1) rfl in_X1 6 (by decide) (by decide) (zNFw hB 1 rfl) (fun _ h9 => h9) (v := .int (zI μ b1 6)) rfl dX0_pointsAt_12 ?_
    refine lv_icmp_ge (tgt := 94) hx hb dX0_pointsAt_15 rfl (fun c0 => ?_) (fun c0 => ?_)
    · have hp := zit hp c0
      refine lv_iload hx hb dX0_pointsAt_94 (lv_at hl 4 rfl) ?_
      exact zret_i X hB hp dX0_pointsAt_96
    · have hp := zif hp c0
      refine lv_iload_n hx hb dX0_pointsAt_18 rfl (lv_at hl 3 rfl) ?_
      refine lv_iload hx hb dX0_pointsAt_19 (lv_at hl 5 rfl) ?_
      refine z_calli (va_runS (As := [.int x3, .int x5]) (rest := []) S (mX0_has l Γ z x3 x5 μ _ hp) (va_cwS 2 hts (lw_S q921 q922 q127 q923) rfl rfl rfl hX0_has ⟨Nat.le_of_ble_eq_true rfl, Nat.le_of_ble_eq_true rfl⟩) hB.preS rfl rfl hl.1 rfl (lv_room (Nat.le_of_ble_eq_true rfl)) dX0_pointsAt_21 ⟨Nat.le_refl _, Nat.le_refl _⟩) hB (fun r4 μ3 H locs hp hB => ?_)
      refine lv_if_ne (tgt := 30) hx hb dX0_pointsAt_24 rfl (fun c0 => ?_) (fun c0 => ?_)
      · have hp := zif hp c0
        refine lv_aload_n hx hb dX0_pointsAt_30 rfl (lv_at hl 1 rfl) ?_
        refine lv_iload_n hx hb dX0_pointsAt_31 rfl (lv_at hl 2 rfl) ?_
        refine lv_aload_n hx hb dX0_pointsAt_32 rfl (lv_at hl 1 rfl) ?_
        refine g_getrN S hB (hB.ty ht_x1 rfl) rfl (T := TX2) (N := 8) (C := RX2) rfl in_X2 0 (by decide) (by decide) (zNFw hB 5 rfl) (fun _ h9 => h9) (fun _ => rfl) (cS2 hB (hB.ty ht_x1 rfl) 0 rfl).1 dX0_pointsAt_33 ?_
        refine lv_iload hx hb dX0_pointsAt_36 (lv_at hl 5 rfl) ?_
        obtain ⟨hi, hp⟩ := hp
        refine g_iald S hB (cS2 hB (hB.ty ht_x1 rfl) 0 rfl).2 hi dX0_pointsAt_38 ?_
        refine z_calli (va_runV (As := [.int x2, .int (zI μ3 (x1 + 1) x5.toNatClampNeg)]) (rest := []) S (mX2_worth l Γ z x1 x2 (zI μ3 (x1 + 1) x5.toNatClampNeg) μ3 _ hp) (cwV 2 hts (lw_V q845 q846 q847 q129 q848) rfl rfl rfl hX2_worth ⟨Nat.le_of_ble_eq_true rfl, Nat.le_of_ble_eq_true rfl⟩) (hB.preV (tX2_worth hp) rfl rfl) rfl rfl hl.1 rfl (lv_room (Nat.le_of_ble_eq_true rfl)) dX0_pointsAt_39 ⟨Nat.le_refl _, Nat.le_refl _⟩) hB (fun r6 μ5 H locs hp hB => ?_)
        refine lv_aload_n hx hb dX0_pointsAt_42 rfl (lv_at hl 1 rfl) ?_
        refine lv_iload_n hx hb dX0_pointsAt_43 rfl (lv_at hl 2 rfl) ?_
        refine lv_aload_n hx hb dX0_pointsAt_44 rfl (lv_at hl 1 rfl) ?_
        refine g_getrN S hB (hB.ty ht_x1 rfl) rfl (T := TX2) (N := 8) (C := RX2) rfl in_X2 0 (by decide) (by decide) (zNFw hB 5 rfl) (fun _ h9 => h9) (fun _ => rfl) (cS2 hB (hB.ty ht_x1 rfl) 0 rfl).1 dX0_pointsAt_45 ?_
        refine lv_iload hx hb dX0_pointsAt_48 (lv_at hl 4 rfl) ?_
        obtain ⟨hi, hp⟩ := hp
        refine g_iald S hB (cS2 hB (hB.ty ht_x1 rfl) 0 rfl).2 hi dX0_pointsAt_50 ?_
        refine z_calli (va_runV (As := [.int x2, .int (zI μ5 (x1 + 1) x4.toNatClampNeg)]) (rest := [.int r6]) S (mX2_worth l Γ z x1 x2 (zI μ5 (x1 + 1) x4.toNatClampNeg) μ5 _ hp) (cwV 2 hts (lw_V q845 q846 q847 q129 q848) rfl rfl rfl hX2_worth ⟨Nat.le_of_ble_eq_true rfl, Nat.le_of_ble_eq_true rfl⟩) (hB.preV (tX2_worth hp) rfl rfl) rfl rfl hl.1 rfl (lv_room (Nat.le_of_ble_eq_true rfl)) dX0_pointsAt_51 ⟨Nat.le_refl _, Nat.le_refl _⟩) hB (fun r8 μ7 H locs hp hB => ?_)
        refine lv_isub hx hb dX0_pointsAt_54 ?_
        refine lv_istore (lv' := [(6, .int (r6 - r8)), (0, .ref z), (1, .ref x1), (2, .int x2), (3, .int x3), (4, .int x4), (5, .int x5)]) hx hb dX0_pointsAt_55 hl (by decide) rfl (fun ls hl => ?_)
        refine lv_iload hx hb dX0_pointsAt_57 (lv_at hl 0 rfl) ?_
        refine lv_if_gt (tgt := 84) hx hb dX0_pointsAt_59 rfl (fun c0 => ?_) (fun c0 => ?_)
        · have hp := zit hp c0
          refine lv_iload hx hb dX0_pointsAt_84 (lv_at hl 6 rfl) ?_
          refine lv_istore (lv' := [(4, .int x5), (6, .int (r6 - r8)), (0, .ref z), (1, .ref x1), (2, .int x2), (3, .int x3), (5, .int x5)]) hx hb dX0_pointsAt_86 hl (by decide) rfl (fun ls hl => ?_)
          refine lv_iinc (v := (x5 + (nI 1))) (lv' := [(5, .int (x5 + (nI 1))), (4, .int x5), (6, .int (r6 - r8)), (0, .ref z), (1, .ref x1), (2, .int x2), (3, .int x3)]) hx hb dX0_pointsAt_88 hl (k := 6) rfl rfl (by decide) rfl (fun ls hl => ?_)
          refine lv_goto (tgt := 6) hx hb dX0_pointsAt_91 rfl ?_
          exact ih x5 (x5 + (nI 1)) μ7 _ _ _ hp hB (lv_sub hl [3, 4, 5, 6, 1, 0] rfl)
        · have hp := zif hp c0
          refine lv_iload hx hb dX0_pointsAt_62 (lv_at hl 0 rfl) ?_
          refine lv_if_ne (tgt := 88) hx hb dX0_pointsAt_64 rfl (fun c0 => ?_) (fun c0 => ?_)
          · have hp := zif hp c0
            refine lv_iinc (v := (x5 + (nI 1))) (lv' := [(5, .int (x5 + (nI 1))), (6, .int (r6 - r8)), (0, .ref z), (1, .ref x1), (2, .int x2), (3, .int x3), (4, .int x4)]) hx hb dX0_pointsAt_88 hl (k := 6) rfl rfl (by decide) rfl (fun ls hl => ?_)
            refine lv_goto (tgt := 6) hx hb dX0_pointsAt_91 rfl ?_
            exact ih x4 (x5 + (nI 1)) μ7 _ _ _ hp hB (lv_sub hl [2, 3, 4, 5, 6, 0] rfl)
          · have hp := zit hp c0
            refine lv_aload_n hx hb dX0_pointsAt_67 rfl (lv_at hl 2 rfl) ?_
            refine g_getrN S hB (hB.ty ht_x1 rfl) rfl (T := TX2) (N := 8) (C := RX2) rfl in_X2 0 (by decide) (by decide) (zNFw hB 5 rfl) (fun _ h9 => h9) (fun _ => rfl) (cS2 hB (hB.ty ht_x1 rfl) 0 rfl).1 dX0_pointsAt_68 ?_
            refine lv_iload hx hb dX0_pointsAt_71 (lv_at hl 6 rfl) ?_
            obtain ⟨hi, hp⟩ := hp
            refine g_iald S hB (cS2 hB (hB.ty ht_x1 rfl) 0 rfl).2 hi dX0_pointsAt_73 ?_
            refine lv_aload_n hx hb dX0_pointsAt_74 rfl (lv_at hl 2 rfl) ?_
            refine g_getrN S hB (hB.ty ht_x1 rfl) rfl (T := TX2) (N := 8) (C := RX2) rfl in_X2 0 (by decide) (by decide) (zNFw hB 5 rfl) (fun _ h9 => h9) (fun _ => rfl) (cS2 hB (hB.ty ht_x1 rfl) 0 rfl).1 dX0_pointsAt_75 ?_
            refine lv_iload hx hb dX0_pointsAt_78 (lv_at hl 5 rfl) ?_
            obtain ⟨hi, hp⟩ := hp
            refine g_iald S hB (cS2 hB (hB.ty ht_x1 rfl) 0 rfl).2 hi dX0_pointsAt_80 ?_
            refine lv_icmp_le (tgt := 88) hx hb dX0_pointsAt_81 rfl (fun c0 => ?_) (fun c0 => ?_)
            · have hp := zit hp c0
              refine lv_iinc (v := (x5 + (nI 1))) (lv' := [(5, .int (x5 + (nI 1))), (6, .int (r6 - r8)), (0, .ref z), (1, .ref x1), (2, .int x2), (3, .int x3), (4, .int x4)]) hx hb dX0_pointsAt_88 hl (k := 6) rfl rfl (by decide) rfl (fun ls hl => ?_)
              refine lv_goto (tgt := 6) hx hb dX0_pointsAt_91 rfl ?_
              exact ih x4 (x5 + (nI 1)) μ7 _ _ _ hp hB (lv_sub hl [2, 3, 4, 5, 6, 0] rfl)
            · have hp := zif hp c0
              refine lv_iload hx hb dX0_pointsAt_84 (lv_at hl 6 rfl) ?_
              refine lv_istore (lv' := [(4, .int x5), (6, .int (r6 - r8)), (0, .ref z), (1, .ref x1), (2, .int x2), (3, .int x3), (5, .int x5)]) hx hb dX0_pointsAt_86 hl (by decide) rfl (fun ls hl => ?_)
              refine lv_iinc (v := (x5 + (nI 1))) (lv' := [(5, .int (x5 + (nI 1))), (4, .int x5), (6, .int (r6 - r8)), (0, .ref z), (1, .ref x1), (2, .int x2), (3, .int x3)]) hx hb dX0_pointsAt_88 hl (k := 6) rfl rfl (by decide) rfl (fun ls hl => ?_)
              refine lv_goto (tgt := 6) hx hb dX0_pointsAt_91 rfl ?_
              exact ih x5 (x5 + (nI 1)) μ7 _ _ _ hp hB (lv_sub hl [3, 4, 5, 6, 1, 0] rfl)
      · have hp := zit hp c0
        refine lv_goto (tgt := 88) hx hb dX0_pointsAt_27 rfl ?_
        refine lv_iinc (v := (x5 + (nI 1))) (lv' := [(5, .int (x5 + (nI 1))), (0, .ref z), (1, .ref x1), (2, .int x2), (3, .int x3), (4, .int x4)]) hx hb dX0_pointsAt_88 hl (k := 5) rfl rfl (by decide) rfl (fun ls hl => ?_)
        refine lv_goto (tgt := 6) hx hb dX0_pointsAt_91 rfl ?_
        exact ih x4 (x5 + (nI 1)) μ3 _ _ _ hp hB (lv_sub hl [1, 2, 3, 4, 5, 0] rfl)
def pX0_pointsAt (z : Nat) (x1 : Nat) (x2 : Int32) (x3 : Int32) (μ : zM) (Q : Int32 → zM → Prop) : Prop := zty μ x1 = some (.inl 2) ∧ ∃ k1, pX0_pointsAt_6 z x1 x2 x3 Q k1 x2 (nI 0) μ
theorem hX0_pointsAt : yX0_pointsAt.cls = "SunkTower" ∧ yX0_pointsAt.cls ≠ "java/lang/invoke/MethodHandle" ∧ yX0_pointsAt.cls ≠ "java/lang/invoke/VarHandle" ∧ (parseMethodDescriptor yX0_pointsAt.desc).map (fun d => d.parameters.length) = some 3 := by decide +kernel
set_option maxHeartbeats 4000000 in
set_option maxRecDepth 100000 in
theorem mX0_pointsAt (l : Launch) (Γ : zG) (z : Nat) (x1 : Nat) (x2 : Int32) (x3 : Int32) (μ : zM) (Q : Int32 → zM → Prop) (hp : pX0_pointsAt z x1 x2 x3 μ Q) : Met l yX0_pointsAt (ws_ yX0_pointsAt cX0_pointsAt 7 (some .int)) ({ frames := 463, cells := 0, slots := 0, locals := 12495 } : Room) (va_Pc [.ref z, .ref x1, .int x2, .int x3] (zPre Γ (cSh z) μ)) (va_Qi Q (zPost Γ (cSh z) μ) (zA μ)) 0 0 (zA μ) := by
  refine zstart (by decide) (Nat.le_of_ble_eq_true rfl) ?_
  intro p e s m below meth c ls X hnm hB hl
  have X : zCx p m c cX0_pointsAt 7 s [.ref z, .ref x1, .int x2, .int x3].toArray RX0 meth (some .int) := X
  have S := X.1
  obtain ⟨hx, hb, hml, hown, hts⟩ := X.1
  have hl : lv_has ls 7 [(0, .ref z), (1, .ref x1), (2, .int x2), (3, .int x3)] := hl
  obtain ⟨ht_x1, hp⟩ := hp
  refine lv_iload_n hx hb dX0_pointsAt_0 rfl (lv_at hl 2 rfl) ?_
  refine lv_istore (lv' := [(4, .int x2), (0, .ref z), (1, .ref x1), (2, .int x2), (3, .int x3)]) hx hb dX0_pointsAt_1 hl (by decide) rfl (fun ls hl => ?_)
  refine lv_iconst (v := (nI 0)) hx hb dX0_pointsAt_3 rfl ?_
  refine lv_istore (lv' := [(5, .int (nI 0)), (4, .int x2), (0, .ref z), (1, .ref x1), (2, .int x2), (3, .int x3)]) hx hb dX0_pointsAt_4 hl (by decide) rfl (fun ls hl => ?_)
  obtain ⟨n1, hp⟩ := hp
  exact wX0_pointsAt_6 X ht_x1 z x2 x3 n1 x2 (nI 0) μ _ _ _ hp hB (lv_sub hl [2, 3, 4, 5, 1, 0] rfl)
def pX0_envies_15 (z : Nat) (x1 : Int32) (Q : Int32 → zM → Prop) : Nat → Int32 → Int32 → zM → Prop
  | 0, _, _, _ => False
  | n + 1, x2, x3, μ => (zde (zR μ z 0) fun b1 => (zty μ b1 = some (.inl 1) ∧ (if (zI μ b1 6) ≤ x3 then Q x2 μ else (if x3 = x1 then pX0_envies_15 z x1 Q n x2 (x3 + (nI 1)) μ else (vp_in x1 6 ∧ (if (zI μ ((z + 7) + 1) x1.toNatClampNeg) = (-1 : Int32) then pX0_envies_15 z x1 Q n x2 (x3 + (nI 1)) μ else (vp_in x3 6 ∧ (if (zI μ ((z + 7) + 1) x3.toNatClampNeg) = (-1 : Int32) then pX0_envies_15 z x1 Q n x2 (x3 + (nI 1)) μ else (vp_in x3 6 ∧ (pX2_worth z (z + 7) x1 (zI μ ((z + 7) + 1) x3.toNatClampNeg) μ fun r4 μ3 => (vp_in x1 6 ∧ (pX2_worth z (z + 7) x1 (zI μ3 ((z + 7) + 1) x1.toNatClampNeg) μ3 fun r6 μ5 => (if r4 ≤ r6 then pX0_envies_15 z x1 Q n x2 (x3 + (nI 1)) μ5 else pX0_envies_15 z x1 Q n (x2 ||| ((nI 1) <<< (x3 &&& 31))) (x3 + (nI 1)) μ5)))))))))))))
set_option maxHeartbeats 4000000 in
set_option maxRecDepth 100000 in
theorem wX0_envies_15 {p : Program} {l : Launch} {e : Env} {s : State} {m : MethodId} {args : Array Value} {below : List Frame} {meth : Method} {c : Code} {Γ : zG} {μ0 : zM} {Q : Int32 → zM → Prop} (X : zCx p m c cX0_envies 4 s args RX0 meth (some .int)) (z : Nat) (x1 : Int32) : ∀ (n : Nat) (x2 : Int32) (x3 : Int32) (μ : zM) (H : Heap) (locs : List Loc) (ls : Array Slot), pX0_envies_15 z x1 Q n x2 x3 μ → zB Γ (cSh z) (zA μ0) μ0 s μ H locs → lv_has ls 4 [(0, .ref z), (1, .int x1), (2, .int x2), (3, .int x3)] → W p l e ({ frames := 463, cells := 0, slots := 0, locals := 12495 } : Room) s m args below meth c H locs 0 0 (MQ below (va_Qi Q (zPost Γ (cSh z) μ0) (zA μ0)) args s 0 0 (zA μ0)) (F0 m 15 ls []) := by
  have S := X.1
  obtain ⟨hx, hb, hml, hown, hts⟩ := X.1
  intro n
  induction n with
  | zero =>
    intro x2 x3 μ H locs ls hp
    exact hp.elim
  | succ n ih =>
    intro x2 x3 μ H locs ls hp hB hl
    unfold pX0_envies_15 at hp
    refine lv_iload_n hx hb dX0_envies_15 rfl (lv_at hl 3 rfl) ?_
    refine lv_aload_n hx hb dX0_envies_16 rfl (lv_at hl 0 rfl) ?_
    refine g_get S hB (cT hB) rfl (T := TX0) (N := 33) (C := RX0) rfl in_X0 0 (by decide) (by decide) q304 (fun _ h9 => h9) (v := va_rf (zR μ z 0)) rfl dX0_envies_17 ?_
    obtain ⟨b1, eb, hp⟩ := hp
    refine W.eq (g2 := F0 m 20 ls [.ref b1, .int x3]) (by rw [eb]; rfl) ?_
    obtain ⟨ht2, hp⟩ := hp
    refine g_getN S hB ht2 rfl (T := TX1) (N := 16) (C := RX1) rfl in_X1 6 (by decide) (by decide) (zNFw hB 1 rfl) (fun _ h9 => h9) (v := .int (zI μ b1 6)) rfl dX0_envies_20 ?_
    refine lv_icmp_ge (tgt := 106) hx hb dX0_envies_23 rfl (fun c0 => ?_) (fun c0 => ?_)
    · have hp := zit hp c0
      refine lv_iload_n hx hb dX0_envies_106 rfl (lv_at hl 2 rfl) ?_
      exact zret_i X hB hp dX0_envies_107
    · have hp := zif hp c0
      refine lv_iload_n hx hb dX0_envies_26 rfl (lv_at hl 3 rfl) ?_
      refine lv_iload_n hx hb dX0_envies_27 rfl (lv_at hl 1 rfl) ?_
      refine lv_icmp_eq (tgt := 100) hx hb dX0_envies_28 rfl (fun c0 => ?_) (fun c0 => ?_)
      · have hp := zit hp c0
        refine lv_iinc (v := (x3 + (nI 1))) (lv' := [(3, .int (x3 + (nI 1))), (0, .ref z), (1, .int x1), (2, .int x2)]) hx hb dX0_envies_100 hl (k := 3) rfl rfl (by decide) rfl (fun ls hl => ?_)
        refine lv_goto (tgt := 15) hx hb dX0_envies_103 rfl ?_
        exact ih x2 (x3 + (nI 1)) μ _ _ _ hp hB (lv_sub hl [1, 2, 3, 0] rfl)
      · have hp := zif hp c0
        refine lv_aload_n hx hb dX0_envies_31 rfl (lv_at hl 0 rfl) ?_
        refine g_getr S hB (cT hB) rfl (T := TX0) (N := 33) (C := RX0) rfl in_X0 1 (by decide) (by decide) q305 (fun _ h9 => h9) (fun _ => rfl) (cA hB 0 rfl).1 dX0_envies_32 ?_
        refine g_getrN S hB (cA hB 0 rfl).2 rfl (T := TX2) (N := 8) (C := RX2) rfl in_X2 0 (by decide) (by decide) (zNFw hB 5 rfl) (fun _ h9 => h9) (fun _ => rfl) (cS2 hB (cA hB 0 rfl).2 0 rfl).1 dX0_envies_35 ?_
        refine lv_iload_n hx hb dX0_envies_38 rfl (lv_at hl 1 rfl) ?_
        obtain ⟨hi, hp⟩ := hp
        refine g_iald S hB (cS2 hB (cA hB 0 rfl).2 0 rfl).2 hi dX0_envies_39 ?_
        refine lv_iconst (v := (-1 : Int32)) hx hb dX0_envies_40 rfl ?_
        refine lv_icmp_eq (tgt := 100) hx hb dX0_envies_41 rfl (fun c0 => ?_) (fun c0 => ?_)
        · have hp := zit hp c0
          refine lv_iinc (v := (x3 + (nI 1))) (lv' := [(3, .int (x3 + (nI 1))), (0, .ref z), (1, .int x1), (2, .int x2)]) hx hb dX0_envies_100 hl (k := 3) rfl rfl (by decide) rfl (fun ls hl => ?_)
          refine lv_goto (tgt := 15) hx hb dX0_envies_103 rfl ?_
          exact ih x2 (x3 + (nI 1)) μ _ _ _ hp hB (lv_sub hl [1, 2, 3, 0] rfl)
        · have hp := zif hp c0
          refine lv_aload_n hx hb dX0_envies_44 rfl (lv_at hl 0 rfl) ?_
          refine g_getr S hB (cT hB) rfl (T := TX0) (N := 33) (C := RX0) rfl in_X0 1 (by decide) (by decide) q305 (fun _ h9 => h9) (fun _ => rfl) (cA hB 0 rfl).1 dX0_envies_45 ?_
          refine g_getrN S hB (cA hB 0 rfl).2 rfl (T := TX2) (N := 8) (C := RX2) rfl in_X2 0 (by decide) (by decide) (zNFw hB 5 rfl) (fun _ h9 => h9) (fun _ => rfl) (cS2 hB (cA hB 0 rfl).2 0 rfl).1 dX0_envies_48 ?_
          refine lv_iload_n hx hb dX0_envies_51 rfl (lv_at hl 3 rfl) ?_
          obtain ⟨hi, hp⟩ := hp
          refine g_iald S hB (cS2 hB (cA hB 0 rfl).2 0 rfl).2 hi dX0_envies_52 ?_
          refine lv_iconst (v := (-1 : Int32)) hx hb dX0_envies_53 rfl ?_
          refine lv_icmp_eq (tgt := 100) hx hb dX0_envies_54 rfl (fun c0 => ?_) (fun c0 => ?_)
          · have hp := zit hp c0
            refine lv_iinc (v := (x3 + (nI 1))) (lv' := [(3, .int (x3 + (nI 1))), (0, .ref z), (1, .int x1), (2, .int x2)]) hx hb dX0_envies_100 hl (k := 3) rfl rfl (by decide) rfl (fun ls hl => ?_)
            refine lv_goto (tgt := 15) hx hb dX0_envies_103 rfl ?_
            exact ih x2 (x3 + (nI 1)) μ _ _ _ hp hB (lv_sub hl [1, 2, 3, 0] rfl)
          · have hp := zif hp c0
            refine lv_aload_n hx hb dX0_envies_57 rfl (lv_at hl 0 rfl) ?_
            refine g_getr S hB (cT hB) rfl (T := TX0) (N := 33) (C := RX0) rfl in_X0 1 (by decide) (by decide) q305 (fun _ h9 => h9) (fun _ => rfl) (cA hB 0 rfl).1 dX0_envies_58 ?_
            refine lv_iload_n hx hb dX0_envies_61 rfl (lv_at hl 1 rfl) ?_
            refine lv_aload_n hx hb dX0_envies_62 rfl (lv_at hl 0 rfl) ?_
            refine g_getr S hB (cT hB) rfl (T := TX0) (N := 33) (C := RX0) rfl in_X0 1 (by decide) (by decide) q305 (fun _ h9 => h9) (fun _ => rfl) (cA hB 0 rfl).1 dX0_envies_63 ?_
            refine g_getrN S hB (cA hB 0 rfl).2 rfl (T := TX2) (N := 8) (C := RX2) rfl in_X2 0 (by decide) (by decide) (zNFw hB 5 rfl) (fun _ h9 => h9) (fun _ => rfl) (cS2 hB (cA hB 0 rfl).2 0 rfl).1 dX0_envies_66 ?_
            refine lv_iload_n hx hb dX0_envies_69 rfl (lv_at hl 3 rfl) ?_
            obtain ⟨hi, hp⟩ := hp
            refine g_iald S hB (cS2 hB (cA hB 0 rfl).2 0 rfl).2 hi dX0_envies_70 ?_
            refine z_calli (va_runV (As := [.int x1, .int (zI μ ((z + 7) + 1) x3.toNatClampNeg)]) (rest := []) S (mX2_worth l Γ z (z + 7) x1 (zI μ ((z + 7) + 1) x3.toNatClampNeg) μ _ hp) (cwV 2 hts (lw_V q845 q846 q847 q129 q848) rfl rfl rfl hX2_worth ⟨Nat.le_of_ble_eq_true rfl, Nat.le_of_ble_eq_true rfl⟩) (hB.preV (tX2_worth hp) rfl rfl) rfl rfl hl.1 rfl (lv_room (Nat.le_of_ble_eq_true rfl)) dX0_envies_71 ⟨Nat.le_refl _, Nat.le_refl _⟩) hB (fun r4 μ3 H locs hp hB => ?_)
            refine lv_aload_n hx hb dX0_envies_74 rfl (lv_at hl 0 rfl) ?_
            refine g_getr S hB (cT hB) rfl (T := TX0) (N := 33) (C := RX0) rfl in_X0 1 (by decide) (by decide) q305 (fun _ h9 => h9) (fun _ => rfl) (cA hB 0 rfl).1 dX0_envies_75 ?_
            refine lv_iload_n hx hb dX0_envies_78 rfl (lv_at hl 1 rfl) ?_
            refine lv_aload_n hx hb dX0_envies_79 rfl (lv_at hl 0 rfl) ?_
            refine g_getr S hB (cT hB) rfl (T := TX0) (N := 33) (C := RX0) rfl in_X0 1 (by decide) (by decide) q305 (fun _ h9 => h9) (fun _ => rfl) (cA hB 0 rfl).1 dX0_envies_80 ?_
            refine g_getrN S hB (cA hB 0 rfl).2 rfl (T := TX2) (N := 8) (C := RX2) rfl in_X2 0 (by decide) (by decide) (zNFw hB 5 rfl) (fun _ h9 => h9) (fun _ => rfl) (cS2 hB (cA hB 0 rfl).2 0 rfl).1 dX0_envies_83 ?_
            refine lv_iload_n hx hb dX0_envies_86 rfl (lv_at hl 1 rfl) ?_
            obtain ⟨hi, hp⟩ := hp
            refine g_iald S hB (cS2 hB (cA hB 0 rfl).2 0 rfl).2 hi dX0_envies_87 ?_
            refine z_calli (va_runV (As := [.int x1, .int (zI μ3 ((z + 7) + 1) x1.toNatClampNeg)]) (rest := [.int r4]) S (mX2_worth l Γ z (z + 7) x1 (zI μ3 ((z + 7) + 1) x1.toNatClampNeg) μ3 _ hp) (cwV 2 hts (lw_V q845 q846 q847 q129 q848) rfl rfl rfl hX2_worth ⟨Nat.le_of_ble_eq_true rfl, Nat.le_of_ble_eq_true rfl⟩) (hB.preV (tX2_worth hp) rfl rfl) rfl rfl hl.1 rfl (lv_room (Nat.le_of_ble_eq_true rfl)) dX0_envies_88 ⟨Nat.le_refl _, Nat.le_refl _⟩) hB (fun r6 μ5 H locs hp hB => ?_)
            refine lv_icmp_le (tgt := 100) hx hb dX0_envies_91 rfl (fun c0 => ?_) (fun c0 => ?_)
            · have hp := zit hp c0
              refine lv_iinc (v := (x3 + (nI 1))) (lv' := [(3, .int (x3 + (nI 1))), (0, .ref z), (1, .int x1), (2, .int x2)]) hx hb dX0_envies_100 hl (k := 3) rfl rfl (by decide) rfl (fun ls hl => ?_)
              refine lv_goto (tgt := 15) hx hb dX0_envies_103 rfl ?_
              exact ih x2 (x3 + (nI 1)) μ5 _ _ _ hp hB (lv_sub hl [1, 2, 3, 0] rfl)
            · have hp := zif hp c0
              refine lv_iload_n hx hb dX0_envies_94 rfl (lv_at hl 2 rfl) ?_
              refine lv_iconst (v := (nI 1)) hx hb dX0_envies_95 rfl ?_
              refine lv_iload_n hx hb dX0_envies_96 rfl (lv_at hl 3 rfl) ?_
              refine lv_ishl hx hb dX0_envies_97 ?_
              refine lv_ior hx hb dX0_envies_98 ?_
              refine lv_istore_n (lv' := [(2, .int (x2 ||| ((nI 1) <<< (x3 &&& 31)))), (0, .ref z), (1, .int x1), (3, .int x3)]) hx hb dX0_envies_99 rfl hl (by decide) rfl (fun ls hl => ?_)
              refine lv_iinc (v := (x3 + (nI 1))) (lv' := [(3, .int (x3 + (nI 1))), (2, .int (x2 ||| ((nI 1) <<< (x3 &&& 31)))), (0, .ref z), (1, .int x1)]) hx hb dX0_envies_100 hl (k := 3) rfl rfl (by decide) rfl (fun ls hl => ?_)
              refine lv_goto (tgt := 15) hx hb dX0_envies_103 rfl ?_
              exact ih (x2 ||| ((nI 1) <<< (x3 &&& 31))) (x3 + (nI 1)) μ5 _ _ _ hp hB (lv_sub hl [2, 3, 1, 0] rfl)
def pX0_envies (z : Nat) (x1 : Int32) (μ : zM) (Q : Int32 → zM → Prop) : Prop := (pX0_isTenant z x1 μ fun r2 μ1 => (if r2 = 0 then Q (-2 : Int32) μ1 else ∃ k1, pX0_envies_15 z x1 Q k1 (nI 0) (nI 0) μ1))
theorem hX0_envies : yX0_envies.cls = "SunkTower" ∧ yX0_envies.cls ≠ "java/lang/invoke/MethodHandle" ∧ yX0_envies.cls ≠ "java/lang/invoke/VarHandle" ∧ (parseMethodDescriptor yX0_envies.desc).map (fun d => d.parameters.length) = some 1 := by decide +kernel
set_option maxHeartbeats 4000000 in
set_option maxRecDepth 100000 in
theorem mX0_envies (l : Launch) (Γ : zG) (z : Nat) (x1 : Int32) (μ : zM) (Q : Int32 → zM → Prop) (hp : pX0_envies z x1 μ Q) : Met l yX0_envies (ws_ yX0_envies cX0_envies 4 (some .int)) ({ frames := 463, cells := 0, slots := 0, locals := 12495 } : Room) (va_Pc [.ref z, .int x1] (zPre Γ (cSh z) μ)) (va_Qi Q (zPost Γ (cSh z) μ) (zA μ)) 0 0 (zA μ) := by
  refine zstart (by decide) (Nat.le_of_ble_eq_true rfl) ?_
  intro p e s m below meth c ls X hnm hB hl
  have X : zCx p m c cX0_envies 4 s [.ref z, .int x1].toArray RX0 meth (some .int) := X
  have S := X.1
  obtain ⟨hx, hb, hml, hown, hts⟩ := X.1
  have hl : lv_has ls 4 [(0, .ref z), (1, .int x1)] := hl
  unfold pX0_envies at hp
  refine lv_aload_n hx hb dX0_envies_0 rfl (lv_at hl 0 rfl) ?_
  refine lv_iload_n hx hb dX0_envies_1 rfl (lv_at hl 1 rfl) ?_
  refine z_calli (va_runV (As := [.int x1]) (rest := []) S (mX0_isTenant l Γ z x1 μ _ hp) (cwV 1 hts (lw_V q768 q770 qs27 q127 q771) rfl rfl rfl hX0_isTenant ⟨Nat.le_of_ble_eq_true rfl, Nat.le_of_ble_eq_true rfl⟩) (hB.preV (cT hB) rfl rfl) rfl rfl hl.1 rfl (lv_room (Nat.le_of_ble_eq_true rfl)) dX0_envies_2 ⟨Nat.le_refl _, Nat.le_refl _⟩) hB (fun r2 μ1 H locs hp hB => ?_)
  refine lv_if_ne (tgt := 11) hx hb dX0_envies_5 rfl (fun c0 => ?_) (fun c0 => ?_)
  · have hp := zif hp c0
    refine lv_iconst (v := (nI 0)) hx hb dX0_envies_11 rfl ?_
    refine lv_istore_n (lv' := [(2, .int (nI 0)), (0, .ref z), (1, .int x1)]) hx hb dX0_envies_12 rfl hl (by decide) rfl (fun ls hl => ?_)
    refine lv_iconst (v := (nI 0)) hx hb dX0_envies_13 rfl ?_
    refine lv_istore_n (lv' := [(3, .int (nI 0)), (2, .int (nI 0)), (0, .ref z), (1, .int x1)]) hx hb dX0_envies_14 rfl hl (by decide) rfl (fun ls hl => ?_)
    obtain ⟨n1, hp⟩ := hp
    exact wX0_envies_15 X z x1 n1 (nI 0) (nI 0) μ1 _ _ _ hp hB (lv_sub hl [2, 3, 1, 0] rfl)
  · have hp := zit hp c0
    refine lv_bipush (v := (-2 : Int32)) hx hb dX0_envies_8 rfl ?_
    exact zret_i X hB hp dX0_envies_10
def pX0_firstSunk_14 (z : Nat) (x1 : Int32) (Q : Int32 → zM → Prop) : Nat → Int32 → zM → Prop
  | 0, _, _ => False
  | n + 1, x2, μ => (if (nI 600) < x2 then Q (-1 : Int32) μ else (if (zI μ (z + 11) 4) < x1 then (pX2_sinks z (z + 11) μ fun r2 μ1 => pX0_firstSunk_14 z x1 Q n (x2 + (nI 1)) μ1) else Q x2 μ))
set_option maxHeartbeats 4000000 in
set_option maxRecDepth 100000 in
theorem wX0_firstSunk_14 {p : Program} {l : Launch} {e : Env} {s : State} {m : MethodId} {args : Array Value} {below : List Frame} {meth : Method} {c : Code} {Γ : zG} {μ0 : zM} {Q : Int32 → zM → Prop} (X : zCx p m c cX0_firstSunk 3 s args RX0 meth (some .int)) (z : Nat) (x1 : Int32) : ∀ (n : Nat) (x2 : Int32) (μ : zM) (H : Heap) (locs : List Loc) (ls : Array Slot), pX0_firstSunk_14 z x1 Q n x2 μ → zB Γ (cSh z) (zA μ0) μ0 s μ H locs → lv_has ls 3 [(0, .ref z), (1, .int x1), (2, .int x2)] → W p l e ({ frames := 464, cells := 0, slots := 0, locals := 12514 } : Room) s m args below meth c H locs 0 0 (MQ below (va_Qi Q (zPost Γ (cSh z) μ0) (zA μ0)) args s 0 0 (zA μ0)) (F0 m 14 ls []) := by
  have S := X.1
  obtain ⟨hx, hb, hml, hown, hts⟩ := X.1
  intro n
  induction n with
  | zero =>
    intro x2 μ H locs ls hp
    exact hp.elim
  | succ n ih =>
    intro x2 μ H locs ls hp hB hl
    unfold pX0_firstSunk_14 at hp
    refine lv_iload_n hx hb dX0_firstSunk_14 rfl (lv_at hl 2 rfl) ?_
    refine lv_sipush (v := (nI 600)) hx hb dX0_firstSunk_15 rfl ?_
    refine lv_icmp_gt (tgt := 48) hx hb dX0_firstSunk_18 rfl (fun c0 => ?_) (fun c0 => ?_)
    · have hp := zit hp c0
      refine lv_iconst (v := (-1 : Int32)) hx hb dX0_firstSunk_48 rfl ?_
      exact zret_i X hB hp dX0_firstSunk_49
    · have hp := zif hp c0
      refine lv_aload_n hx hb dX0_firstSunk_21 rfl (lv_at hl 0 rfl) ?_
      refine g_getr S hB (cT hB) rfl (T := TX0) (N := 33) (C := RX0) rfl in_X0 2 (by decide) (by decide) q306 (fun _ h9 => h9) (fun _ => rfl) (cA hB 1 rfl).1 dX0_firstSunk_22 ?_
      refine g_getN S hB (cA hB 1 rfl).2 rfl (T := TX2) (N := 8) (C := RX2) rfl in_X2 4 (by decide) (by decide) (zNFw hB 9 rfl) (fun _ h9 => h9) (v := .int (zI μ (z + 11) 4)) rfl dX0_firstSunk_25 ?_
      refine lv_iload_n hx hb dX0_firstSunk_28 rfl (lv_at hl 1 rfl) ?_
      refine lv_icmp_lt (tgt := 34) hx hb dX0_firstSunk_29 rfl (fun c0 => ?_) (fun c0 => ?_)
      · have hp := zit hp c0
        refine lv_aload_n hx hb dX0_firstSunk_34 rfl (lv_at hl 0 rfl) ?_
        refine g_getr S hB (cT hB) rfl (T := TX0) (N := 33) (C := RX0) rfl in_X0 2 (by decide) (by decide) q306 (fun _ h9 => h9) (fun _ => rfl) (cA hB 1 rfl).1 dX0_firstSunk_35 ?_
        refine z_calli (va_runV (As := []) (rest := []) S (mX2_sinks l Γ z (z + 11) μ _ hp) (cwV 0 hts (lw_V q1049 q872 q873 q129 q874) rfl rfl rfl hX2_sinks ⟨Nat.le_of_ble_eq_true rfl, Nat.le_of_ble_eq_true rfl⟩) (hB.preV (tX2_sinks hp) rfl rfl) rfl rfl hl.1 rfl (lv_room (Nat.le_of_ble_eq_true rfl)) dX0_firstSunk_38 ⟨Nat.le_refl _, Nat.le_refl _⟩) hB (fun r2 μ1 H locs hp hB => ?_)
        refine lv_pop hx hb dX0_firstSunk_41 rfl ?_
        refine lv_iinc (v := (x2 + (nI 1))) (lv' := [(2, .int (x2 + (nI 1))), (0, .ref z), (1, .int x1)]) hx hb dX0_firstSunk_42 hl (k := 2) rfl rfl (by decide) rfl (fun ls hl => ?_)
        refine lv_goto (tgt := 14) hx hb dX0_firstSunk_45 rfl ?_
        exact ih (x2 + (nI 1)) μ1 _ _ _ hp hB (lv_sub hl [1, 2, 0] rfl)
      · have hp := zif hp c0
        refine lv_iload_n hx hb dX0_firstSunk_32 rfl (lv_at hl 2 rfl) ?_
        exact zret_i X hB hp dX0_firstSunk_33
def pX0_firstSunk (z : Nat) (x1 : Int32) (μ : zM) (Q : Int32 → zM → Prop) : Prop := (pX2_be z (z + 11) (z + 7) μ fun r2 μ1 => ∃ k1, pX0_firstSunk_14 z x1 Q k1 (nI 0) μ1)
theorem hX0_firstSunk : yX0_firstSunk.cls = "SunkTower" ∧ yX0_firstSunk.cls ≠ "java/lang/invoke/MethodHandle" ∧ yX0_firstSunk.cls ≠ "java/lang/invoke/VarHandle" ∧ (parseMethodDescriptor yX0_firstSunk.desc).map (fun d => d.parameters.length) = some 1 := by decide +kernel
set_option maxHeartbeats 4000000 in
set_option maxRecDepth 100000 in
theorem mX0_firstSunk (l : Launch) (Γ : zG) (z : Nat) (x1 : Int32) (μ : zM) (Q : Int32 → zM → Prop) (hp : pX0_firstSunk z x1 μ Q) : Met l yX0_firstSunk (ws_ yX0_firstSunk cX0_firstSunk 3 (some .int)) ({ frames := 464, cells := 0, slots := 0, locals := 12514 } : Room) (va_Pc [.ref z, .int x1] (zPre Γ (cSh z) μ)) (va_Qi Q (zPost Γ (cSh z) μ) (zA μ)) 0 0 (zA μ) := by
  refine zstart (by decide) (Nat.le_of_ble_eq_true rfl) ?_
  intro p e s m below meth c ls X hnm hB hl
  have X : zCx p m c cX0_firstSunk 3 s [.ref z, .int x1].toArray RX0 meth (some .int) := X
  have S := X.1
  obtain ⟨hx, hb, hml, hown, hts⟩ := X.1
  have hl : lv_has ls 3 [(0, .ref z), (1, .int x1)] := hl
  unfold pX0_firstSunk at hp
  refine lv_aload_n hx hb dX0_firstSunk_0 rfl (lv_at hl 0 rfl) ?_
  refine g_getr S hB (cT hB) rfl (T := TX0) (N := 33) (C := RX0) rfl in_X0 2 (by decide) (by decide) q306 (fun _ h9 => h9) (fun _ => rfl) (cA hB 1 rfl).1 dX0_firstSunk_1 ?_
  refine lv_aload_n hx hb dX0_firstSunk_4 rfl (lv_at hl 0 rfl) ?_
  refine g_getr S hB (cT hB) rfl (T := TX0) (N := 33) (C := RX0) rfl in_X0 1 (by decide) (by decide) q305 (fun _ h9 => h9) (fun _ => rfl) (cA hB 0 rfl).1 dX0_firstSunk_5 ?_
  refine z_callq (va_runV (As := [.ref (z + 7)]) (rest := []) S (mX2_be l Γ z (z + 11) (z + 7) μ _ hp) (cwV 1 hts (lw_V q862 q863 q864 q129 q865) rfl rfl rfl hX2_be ⟨Nat.le_of_ble_eq_true rfl, Nat.le_of_ble_eq_true rfl⟩) (hB.preV (tX2_be hp) rfl rfl) rfl rfl hl.1 rfl (lv_room (Nat.le_of_ble_eq_true rfl)) dX0_firstSunk_8 ⟨Nat.le_refl _, Nat.le_refl _⟩) hB (fun r2 μ1 H locs hp hB => ?_)
  refine lv_pop hx hb dX0_firstSunk_11 (va_rf_c _) ?_
  refine lv_iconst (v := (nI 0)) hx hb dX0_firstSunk_12 rfl ?_
  refine lv_istore_n (lv' := [(2, .int (nI 0)), (0, .ref z), (1, .int x1)]) hx hb dX0_firstSunk_13 rfl hl (by decide) rfl (fun ls hl => ?_)
  obtain ⟨n1, hp⟩ := hp
  exact wX0_firstSunk_14 X z x1 n1 (nI 0) μ1 _ _ _ hp hB (lv_sub hl [1, 2, 0] rfl)
def pX0_sunkBy (z : Nat) (x1 : Int32) (μ : zM) (Q : Int32 → zM → Prop) : Prop := (if 0 ≤ x1 then (pX0_firstSunk z x1 μ fun r2 μ1 => Q r2 μ1) else Q (-3 : Int32) μ)
theorem hX0_sunkBy : yX0_sunkBy.cls = "SunkTower" ∧ yX0_sunkBy.cls ≠ "java/lang/invoke/MethodHandle" ∧ yX0_sunkBy.cls ≠ "java/lang/invoke/VarHandle" ∧ (parseMethodDescriptor yX0_sunkBy.desc).map (fun d => d.parameters.length) = some 1 := by decide +kernel
set_option maxHeartbeats 4000000 in
set_option maxRecDepth 100000 in
theorem mX0_sunkBy (l : Launch) (Γ : zG) (z : Nat) (x1 : Int32) (μ : zM) (Q : Int32 → zM → Prop) (hp : pX0_sunkBy z x1 μ Q) : Met l yX0_sunkBy (ws_ yX0_sunkBy cX0_sunkBy 2 (some .int)) ({ frames := 465, cells := 0, slots := 0, locals := 12536 } : Room) (va_Pc [.ref z, .int x1] (zPre Γ (cSh z) μ)) (va_Qi Q (zPost Γ (cSh z) μ) (zA μ)) 0 0 (zA μ) := by
  refine zstart (by decide) (Nat.le_of_ble_eq_true rfl) ?_
  intro p e s m below meth c ls X hnm hB hl
  have X : zCx p m c cX0_sunkBy 2 s [.ref z, .int x1].toArray RX0 meth (some .int) := X
  have S := X.1
  obtain ⟨hx, hb, hml, hown, hts⟩ := X.1
  have hl : lv_has ls 2 [(0, .ref z), (1, .int x1)] := hl
  unfold pX0_sunkBy at hp
  refine lv_iload_n hx hb dX0_sunkBy_0 rfl (lv_at hl 1 rfl) ?_
  refine lv_if_ge (tgt := 9) hx hb dX0_sunkBy_1 rfl (fun c0 => ?_) (fun c0 => ?_)
  · have hp := zit hp c0
    refine lv_aload_n hx hb dX0_sunkBy_9 rfl (lv_at hl 0 rfl) ?_
    refine lv_iload_n hx hb dX0_sunkBy_10 rfl (lv_at hl 1 rfl) ?_
    refine z_calli (va_runV (As := [.int x1]) (rest := []) S (mX0_firstSunk l Γ z x1 μ _ hp) (cwV 1 hts (lw_V q1045 q1047 qs37 q127 q1048) rfl rfl rfl hX0_firstSunk ⟨Nat.le_of_ble_eq_true rfl, Nat.le_of_ble_eq_true rfl⟩) (hB.preV (cT hB) rfl rfl) rfl rfl hl.1 rfl (lv_room (Nat.le_of_ble_eq_true rfl)) dX0_sunkBy_11 ⟨Nat.le_refl _, Nat.le_refl _⟩) hB (fun r2 μ1 H locs hp hB => ?_)
    exact zret_i X hB hp dX0_sunkBy_14
  · have hp := zif hp c0
    refine lv_bipush (v := (-3 : Int32)) hx hb dX0_sunkBy_4 rfl ?_
    refine lv_goto (tgt := 14) hx hb dX0_sunkBy_6 rfl ?_
    exact zret_i X hB hp dX0_sunkBy_14
def pX0_fastest_18 (z : Nat) (Q : Int32 → zM → Prop) : Nat → Int32 → Int32 → Int32 → zM → Prop
  | 0, _, _, _, _ => False
  | n + 1, x1, x2, x3, μ => (if (nI 600) < x3 then Q x1 μ else (pX2_sinks z (z + 11) μ fun r2 μ1 => (if x2 < r2 then pX0_fastest_18 z Q n x3 r2 (x3 + (nI 1)) μ1 else pX0_fastest_18 z Q n x1 x2 (x3 + (nI 1)) μ1)))
set_option maxHeartbeats 4000000 in
set_option maxRecDepth 100000 in
theorem wX0_fastest_18 {p : Program} {l : Launch} {e : Env} {s : State} {m : MethodId} {args : Array Value} {below : List Frame} {meth : Method} {c : Code} {Γ : zG} {μ0 : zM} {Q : Int32 → zM → Prop} (X : zCx p m c cX0_fastest 5 s args RX0 meth (some .int)) (z : Nat) : ∀ (n : Nat) (x1 : Int32) (x2 : Int32) (x3 : Int32) (μ : zM) (H : Heap) (locs : List Loc) (ls : Array Slot), pX0_fastest_18 z Q n x1 x2 x3 μ → zB Γ (cSh z) (zA μ0) μ0 s μ H locs → lv_has ls 5 [(0, .ref z), (1, .int x1), (2, .int x2), (3, .int x3)] → W p l e ({ frames := 464, cells := 0, slots := 0, locals := 12514 } : Room) s m args below meth c H locs 0 0 (MQ below (va_Qi Q (zPost Γ (cSh z) μ0) (zA μ0)) args s 0 0 (zA μ0)) (F0 m 18 ls []) := by
  have S := X.1
  obtain ⟨hx, hb, hml, hown, hts⟩ := X.1
  intro n
  induction n with
  | zero =>
    intro x1 x2 x3 μ H locs ls hp
    exact hp.elim
  | succ n ih =>
    intro x1 x2 x3 μ H locs ls hp hB hl
    unfold pX0_fastest_18 at hp
    refine lv_iload_n hx hb dX0_fastest_18 rfl (lv_at hl 3 rfl) ?_
    refine lv_sipush (v := (nI 600)) hx hb dX0_fastest_19 rfl ?_
    refine lv_icmp_gt (tgt := 54) hx hb dX0_fastest_22 rfl (fun c0 => ?_) (fun c0 => ?_)
    · have hp := zit hp c0
      refine lv_iload_n hx hb dX0_fastest_54 rfl (lv_at hl 1 rfl) ?_
      exact zret_i X hB hp dX0_fastest_55
    · have hp := zif hp c0
      refine lv_aload_n hx hb dX0_fastest_25 rfl (lv_at hl 0 rfl) ?_
      refine g_getr S hB (cT hB) rfl (T := TX0) (N := 33) (C := RX0) rfl in_X0 2 (by decide) (by decide) q306 (fun _ h9 => h9) (fun _ => rfl) (cA hB 1 rfl).1 dX0_fastest_26 ?_
      refine z_calli (va_runV (As := []) (rest := []) S (mX2_sinks l Γ z (z + 11) μ _ hp) (cwV 0 hts (lw_V q1049 q872 q873 q129 q874) rfl rfl rfl hX2_sinks ⟨Nat.le_of_ble_eq_true rfl, Nat.le_of_ble_eq_true rfl⟩) (hB.preV (tX2_sinks hp) rfl rfl) rfl rfl hl.1 rfl (lv_room (Nat.le_of_ble_eq_true rfl)) dX0_fastest_29 ⟨Nat.le_refl _, Nat.le_refl _⟩) hB (fun r2 μ1 H locs hp hB => ?_)
      refine lv_istore (lv' := [(4, .int r2), (0, .ref z), (1, .int x1), (2, .int x2), (3, .int x3)]) hx hb dX0_fastest_32 hl (by decide) rfl (fun ls hl => ?_)
      refine lv_iload hx hb dX0_fastest_34 (lv_at hl 0 rfl) ?_
      refine lv_iload_n hx hb dX0_fastest_36 rfl (lv_at hl 3 rfl) ?_
      refine lv_icmp_gt (tgt := 43) hx hb dX0_fastest_37 rfl (fun c0 => ?_) (fun c0 => ?_)
      · have hp := zit hp c0
        refine lv_iload_n hx hb dX0_fastest_43 rfl (lv_at hl 4 rfl) ?_
        refine lv_istore_n (lv' := [(1, .int x3), (4, .int r2), (0, .ref z), (2, .int x2), (3, .int x3)]) hx hb dX0_fastest_44 rfl hl (by decide) rfl (fun ls hl => ?_)
        refine lv_iload hx hb dX0_fastest_45 (lv_at hl 1 rfl) ?_
        refine lv_istore_n (lv' := [(2, .int r2), (1, .int x3), (4, .int r2), (0, .ref z), (3, .int x3)]) hx hb dX0_fastest_47 rfl hl (by decide) rfl (fun ls hl => ?_)
        refine lv_iinc (v := (x3 + (nI 1))) (lv' := [(3, .int (x3 + (nI 1))), (2, .int r2), (1, .int x3), (4, .int r2), (0, .ref z)]) hx hb dX0_fastest_48 hl (k := 4) rfl rfl (by decide) rfl (fun ls hl => ?_)
        refine lv_goto (tgt := 18) hx hb dX0_fastest_51 rfl ?_
        exact ih x3 r2 (x3 + (nI 1)) μ1 _ _ _ hp hB (lv_sub hl [4, 2, 1, 0] rfl)
      · have hp := zif hp c0
        refine lv_goto (tgt := 48) hx hb dX0_fastest_40 rfl ?_
        refine lv_iinc (v := (x3 + (nI 1))) (lv' := [(3, .int (x3 + (nI 1))), (4, .int r2), (0, .ref z), (1, .int x1), (2, .int x2)]) hx hb dX0_fastest_48 hl (k := 4) rfl rfl (by decide) rfl (fun ls hl => ?_)
        refine lv_goto (tgt := 18) hx hb dX0_fastest_51 rfl ?_
        exact ih x1 x2 (x3 + (nI 1)) μ1 _ _ _ hp hB (lv_sub hl [2, 3, 4, 0] rfl)
def pX0_fastest (z : Nat) (μ : zM) (Q : Int32 → zM → Prop) : Prop := (pX2_be z (z + 11) (z + 7) μ fun r2 μ1 => ∃ k1, pX0_fastest_18 z Q k1 (nI 0) (-1 : Int32) (nI 0) μ1)
theorem hX0_fastest : yX0_fastest.cls = "SunkTower" ∧ yX0_fastest.cls ≠ "java/lang/invoke/MethodHandle" ∧ yX0_fastest.cls ≠ "java/lang/invoke/VarHandle" ∧ (parseMethodDescriptor yX0_fastest.desc).map (fun d => d.parameters.length) = some 0 := by decide +kernel
set_option maxHeartbeats 4000000 in
set_option maxRecDepth 100000 in
theorem mX0_fastest (l : Launch) (Γ : zG) (z : Nat) (μ : zM) (Q : Int32 → zM → Prop) (hp : pX0_fastest z μ Q) : Met l yX0_fastest (ws_ yX0_fastest cX0_fastest 5 (some .int)) ({ frames := 464, cells := 0, slots := 0, locals := 12514 } : Room) (va_Pc [.ref z] (zPre Γ (cSh z) μ)) (va_Qi Q (zPost Γ (cSh z) μ) (zA μ)) 0 0 (zA μ) := by
  refine zstart (by decide) (Nat.le_of_ble_eq_true rfl) ?_
  intro p e s m below meth c ls X hnm hB hl
  have X : zCx p m c cX0_fastest 5 s [.ref z].toArray RX0 meth (some .int) := X
  have S := X.1
  obtain ⟨hx, hb, hml, hown, hts⟩ := X.1
  have hl : lv_has ls 5 [(0, .ref z)] := hl
  unfold pX0_fastest at hp
  refine lv_aload_n hx hb dX0_fastest_0 rfl (lv_at hl 0 rfl) ?_
  refine g_getr S hB (cT hB) rfl (T := TX0) (N := 33) (C := RX0) rfl in_X0 2 (by decide) (by decide) q306 (fun _ h9 => h9) (fun _ => rfl) (cA hB 1 rfl).1 dX0_fastest_1 ?_
  refine lv_aload_n hx hb dX0_fastest_4 rfl (lv_at hl 0 rfl) ?_
  refine g_getr S hB (cT hB) rfl (T := TX0) (N := 33) (C := RX0) rfl in_X0 1 (by decide) (by decide) q305 (fun _ h9 => h9) (fun _ => rfl) (cA hB 0 rfl).1 dX0_fastest_5 ?_
  refine z_callq (va_runV (As := [.ref (z + 7)]) (rest := []) S (mX2_be l Γ z (z + 11) (z + 7) μ _ hp) (cwV 1 hts (lw_V q862 q863 q864 q129 q865) rfl rfl rfl hX2_be ⟨Nat.le_of_ble_eq_true rfl, Nat.le_of_ble_eq_true rfl⟩) (hB.preV (tX2_be hp) rfl rfl) rfl rfl hl.1 rfl (lv_room (Nat.le_of_ble_eq_true rfl)) dX0_fastest_8 ⟨Nat.le_refl _, Nat.le_refl _⟩) hB (fun r2 μ1 H locs hp hB => ?_)
  refine lv_pop hx hb dX0_fastest_11 (va_rf_c _) ?_
  refine lv_iconst (v := (nI 0)) hx hb dX0_fastest_12 rfl ?_
  refine lv_istore_n (lv' := [(1, .int (nI 0)), (0, .ref z)]) hx hb dX0_fastest_13 rfl hl (by decide) rfl (fun ls hl => ?_)
  refine lv_iconst (v := (-1 : Int32)) hx hb dX0_fastest_14 rfl ?_
  refine lv_istore_n (lv' := [(2, .int (-1 : Int32)), (1, .int (nI 0)), (0, .ref z)]) hx hb dX0_fastest_15 rfl hl (by decide) rfl (fun ls hl => ?_)
  refine lv_iconst (v := (nI 0)) hx hb dX0_fastest_16 rfl ?_
  refine lv_istore_n (lv' := [(3, .int (nI 0)), (2, .int (-1 : Int32)), (1, .int (nI 0)), (0, .ref z)]) hx hb dX0_fastest_17 rfl hl (by decide) rfl (fun ls hl => ?_)
  obtain ⟨n1, hp⟩ := hp
  exact wX0_fastest_18 X z n1 (nI 0) (-1 : Int32) (nI 0) μ1 _ _ _ hp hB (lv_sub hl [3, 2, 1, 0] rfl)
def pX0_paid_33 (z : Nat) (x1 : Int32) (Q : Int64 → zM → Prop) : Nat → Int64 → Int32 → zM → Prop
  | 0, _, _, _ => False
  | n + 1, x2, x4, μ => (if x1 ≤ x4 then Q x2 μ else (pX2_paysAll z (z + 11) (nI 1) μ fun r2 μ1 => (pX2_sinks z (z + 11) μ1 fun r4 μ3 => pX0_paid_33 z x1 Q n (x2 + (r2.toInt64)) (x4 + (nI 1)) μ3)))
set_option maxHeartbeats 4000000 in
set_option maxRecDepth 100000 in
theorem wX0_paid_33 {p : Program} {l : Launch} {e : Env} {s : State} {m : MethodId} {args : Array Value} {below : List Frame} {meth : Method} {c : Code} {Γ : zG} {μ0 : zM} {Q : Int64 → zM → Prop} (X : zCx p m c cX0_paid 5 s args RX0 meth (some .long)) (z : Nat) (x1 : Int32) : ∀ (n : Nat) (x2 : Int64) (x4 : Int32) (μ : zM) (H : Heap) (locs : List Loc) (ls : Array Slot), pX0_paid_33 z x1 Q n x2 x4 μ → zB Γ (cSh z) (zA μ0) μ0 s μ H locs → lv_has ls 5 [(0, .ref z), (1, .int x1), (2, .long x2), (4, .int x4)] → W p l e ({ frames := 464, cells := 0, slots := 0, locals := 12514 } : Room) s m args below meth c H locs 0 0 (MQ below (va_Ql Q (zPost Γ (cSh z) μ0) (zA μ0)) args s 0 0 (zA μ0)) (F0 m 33 ls []) := by
  have S := X.1
  obtain ⟨hx, hb, hml, hown, hts⟩ := X.1
  intro n
  induction n with
  | zero =>
    intro x2 x4 μ H locs ls hp
    exact hp.elim
  | succ n ih =>
    intro x2 x4 μ H locs ls hp hB hl
    unfold pX0_paid_33 at hp
    refine lv_iload hx hb dX0_paid_33 (lv_at hl 3 rfl) ?_
    refine lv_iload_n hx hb dX0_paid_35 rfl (lv_at hl 1 rfl) ?_
    refine lv_icmp_ge (tgt := 65) hx hb dX0_paid_36 rfl (fun c0 => ?_) (fun c0 => ?_)
    · have hp := zit hp c0
      refine lv_lload_n hx hb dX0_paid_65 rfl (lv_at hl 2 rfl) ?_
      exact zret_l X hB hp dX0_paid_66
    · have hp := zif hp c0
      refine lv_lload_n hx hb dX0_paid_39 rfl (lv_at hl 2 rfl) ?_
      refine lv_aload_n hx hb dX0_paid_40 rfl (lv_at hl 0 rfl) ?_
      refine g_getr S hB (cT hB) rfl (T := TX0) (N := 33) (C := RX0) rfl in_X0 2 (by decide) (by decide) q306 (fun _ h9 => h9) (fun _ => rfl) (cA hB 1 rfl).1 dX0_paid_41 ?_
      refine lv_iconst (v := (nI 1)) hx hb dX0_paid_44 rfl ?_
      refine z_calli (va_runV (As := [.int (nI 1)]) (rest := [.long x2]) S (mX2_paysAll l Γ z (z + 11) (nI 1) μ _ hp) (cwV 1 hts (lw_V q1063 q1064 q1065 q129 q1066) rfl rfl rfl hX2_paysAll ⟨Nat.le_of_ble_eq_true rfl, Nat.le_of_ble_eq_true rfl⟩) (hB.preV (tX2_paysAll hp) rfl rfl) rfl rfl hl.1 rfl (lv_room (Nat.le_of_ble_eq_true rfl)) dX0_paid_45 ⟨Nat.le_refl _, Nat.le_refl _⟩) hB (fun r2 μ1 H locs hp hB => ?_)
      refine lv_i2l hx hb dX0_paid_48 rfl ?_
      refine lv_ladd hx hb dX0_paid_49 ?_
      refine lv_lstore_n (lv' := [(2, .long (x2 + (r2.toInt64))), (0, .ref z), (1, .int x1), (4, .int x4)]) hx hb dX0_paid_50 rfl hl (by decide) rfl (fun ls hl => ?_)
      refine lv_aload_n hx hb dX0_paid_51 rfl (lv_at hl 1 rfl) ?_
      refine g_getr S hB (cT hB) rfl (T := TX0) (N := 33) (C := RX0) rfl in_X0 2 (by decide) (by decide) q306 (fun _ h9 => h9) (fun _ => rfl) (cA hB 1 rfl).1 dX0_paid_52 ?_
      refine z_calli (va_runV (As := []) (rest := []) S (mX2_sinks l Γ z (z + 11) μ1 _ hp) (cwV 0 hts (lw_V q1049 q872 q873 q129 q874) rfl rfl rfl hX2_sinks ⟨Nat.le_of_ble_eq_true rfl, Nat.le_of_ble_eq_true rfl⟩) (hB.preV (tX2_sinks hp) rfl rfl) rfl rfl hl.1 rfl (lv_room (Nat.le_of_ble_eq_true rfl)) dX0_paid_55 ⟨Nat.le_refl _, Nat.le_refl _⟩) hB (fun r4 μ3 H locs hp hB => ?_)
      refine lv_pop hx hb dX0_paid_58 rfl ?_
      refine lv_iinc (v := (x4 + (nI 1))) (lv' := [(4, .int (x4 + (nI 1))), (2, .long (x2 + (r2.toInt64))), (0, .ref z), (1, .int x1)]) hx hb dX0_paid_59 hl (k := 3) rfl rfl (by decide) rfl (fun ls hl => ?_)
      refine lv_goto (tgt := 33) hx hb dX0_paid_62 rfl ?_
      exact ih (x2 + (r2.toInt64)) (x4 + (nI 1)) μ3 _ _ _ hp hB (lv_sub hl [2, 3, 1, 0] rfl)
def pX0_paid (z : Nat) (x1 : Int32) (μ : zM) (Q : Int64 → zM → Prop) : Prop := (pX0_in z (x1.toInt64) (1 : Int64) (600 : Int64) μ fun r2 μ1 => (if r2 = 0 then Q (-90000000003 : Int64) μ1 else (pX2_be z (z + 11) (z + 7) μ1 fun r4 μ3 => ∃ k1, pX0_paid_33 z x1 Q k1 (0 : Int64) (nI 0) μ3)))
theorem hX0_paid : yX0_paid.cls = "SunkTower" ∧ yX0_paid.cls ≠ "java/lang/invoke/MethodHandle" ∧ yX0_paid.cls ≠ "java/lang/invoke/VarHandle" ∧ (parseMethodDescriptor yX0_paid.desc).map (fun d => d.parameters.length) = some 1 := by decide +kernel
set_option maxHeartbeats 4000000 in
set_option maxRecDepth 100000 in
theorem mX0_paid (l : Launch) (Γ : zG) (z : Nat) (x1 : Int32) (μ : zM) (Q : Int64 → zM → Prop) (hp : pX0_paid z x1 μ Q) : Met l yX0_paid (ws_ yX0_paid cX0_paid 5 (some .long)) ({ frames := 464, cells := 0, slots := 0, locals := 12514 } : Room) (va_Pc [.ref z, .int x1] (zPre Γ (cSh z) μ)) (va_Ql Q (zPost Γ (cSh z) μ) (zA μ)) 0 0 (zA μ) := by
  refine zstart (by decide) (Nat.le_of_ble_eq_true rfl) ?_
  intro p e s m below meth c ls X hnm hB hl
  have X : zCx p m c cX0_paid 5 s [.ref z, .int x1].toArray RX0 meth (some .long) := X
  have S := X.1
  obtain ⟨hx, hb, hml, hown, hts⟩ := X.1
  have hl : lv_has ls 5 [(0, .ref z), (1, .int x1)] := hl
  unfold pX0_paid at hp
  refine lv_iload_n hx hb dX0_paid_0 rfl (lv_at hl 1 rfl) ?_
  refine lv_i2l hx hb dX0_paid_1 rfl ?_
  refine lv_lconst (v := (1 : Int64)) hx hb dX0_paid_2 rfl ?_
  refine lv_ldc2 (v := (600 : Int64)) hx hb hown (hts _ q1026) dX0_paid_3 ?_
  refine z_calli (va_runS (As := [.long (x1.toInt64), .long (1 : Int64), .long (600 : Int64)]) (rest := []) S (mX0_in l Γ z (x1.toInt64) (1 : Int64) (600 : Int64) μ _ hp) (va_cwS 3 hts (lw_S q418 q419 q127 q420) rfl rfl rfl hX0_in ⟨Nat.le_of_ble_eq_true rfl, Nat.le_of_ble_eq_true rfl⟩) hB.preS rfl rfl hl.1 rfl (lv_room (Nat.le_of_ble_eq_true rfl)) dX0_paid_6 ⟨Nat.le_refl _, Nat.le_refl _⟩) hB (fun r2 μ1 H locs hp hB => ?_)
  refine lv_if_ne (tgt := 16) hx hb dX0_paid_9 rfl (fun c0 => ?_) (fun c0 => ?_)
  · have hp := zif hp c0
    refine lv_aload_n hx hb dX0_paid_16 rfl (lv_at hl 0 rfl) ?_
    refine g_getr S hB (cT hB) rfl (T := TX0) (N := 33) (C := RX0) rfl in_X0 2 (by decide) (by decide) q306 (fun _ h9 => h9) (fun _ => rfl) (cA hB 1 rfl).1 dX0_paid_17 ?_
    refine lv_aload_n hx hb dX0_paid_20 rfl (lv_at hl 0 rfl) ?_
    refine g_getr S hB (cT hB) rfl (T := TX0) (N := 33) (C := RX0) rfl in_X0 1 (by decide) (by decide) q305 (fun _ h9 => h9) (fun _ => rfl) (cA hB 0 rfl).1 dX0_paid_21 ?_
    refine z_callq (va_runV (As := [.ref (z + 7)]) (rest := []) S (mX2_be l Γ z (z + 11) (z + 7) μ1 _ hp) (cwV 1 hts (lw_V q862 q863 q864 q129 q865) rfl rfl rfl hX2_be ⟨Nat.le_of_ble_eq_true rfl, Nat.le_of_ble_eq_true rfl⟩) (hB.preV (tX2_be hp) rfl rfl) rfl rfl hl.1 rfl (lv_room (Nat.le_of_ble_eq_true rfl)) dX0_paid_24 ⟨Nat.le_refl _, Nat.le_refl _⟩) hB (fun r4 μ3 H locs hp hB => ?_)
    refine lv_pop hx hb dX0_paid_27 (va_rf_c _) ?_
    refine lv_lconst (v := (0 : Int64)) hx hb dX0_paid_28 rfl ?_
    refine lv_lstore_n (lv' := [(2, .long (0 : Int64)), (0, .ref z), (1, .int x1)]) hx hb dX0_paid_29 rfl hl (by decide) rfl (fun ls hl => ?_)
    refine lv_iconst (v := (nI 0)) hx hb dX0_paid_30 rfl ?_
    refine lv_istore (lv' := [(4, .int (nI 0)), (2, .long (0 : Int64)), (0, .ref z), (1, .int x1)]) hx hb dX0_paid_31 hl (by decide) rfl (fun ls hl => ?_)
    obtain ⟨n1, hp⟩ := hp
    exact wX0_paid_33 X z x1 n1 (0 : Int64) (nI 0) μ3 _ _ _ hp hB (lv_sub hl [2, 3, 1, 0] rfl)
  · have hp := zit hp c0
    refine lv_ldc2 (v := (-90000000003 : Int64)) hx hb hown (hts _ q1062) dX0_paid_12 ?_
    exact zret_l X hB hp dX0_paid_15
def pX0_gain_50 (z : Nat) (x2 : Int32) (Q : Int64 → zM → Prop) (y4 : Int32) (y3 : Int32) (y2 : Int32) (y1 : Nat) (μ : zM) : Prop := (pX1_worth z y1 y2 y3 y4 x2 (zI μ (z + 11) 4) (zI μ (z + 11) 5) μ fun r2 μ1 => (pX2_pays z (z + 11) x2 μ1 fun r4 μ3 => Q ((r2.toInt64) - (r4.toInt64)) μ3))
set_option maxHeartbeats 4000000 in
set_option maxRecDepth 100000 in
theorem wX0_gain_50 {p : Program} {l : Launch} {e : Env} {s : State} {m : MethodId} {args : Array Value} {below : List Frame} {meth : Method} {c : Code} {Γ : zG} {μ0 : zM} {Q : Int64 → zM → Prop} (X : zCx p m c cX0_gain 3 s args RX0 meth (some .long)) (z : Nat) (x2 : Int32) : ∀ (y4 : Int32) (y3 : Int32) (y2 : Int32) (y1 : Nat) (μ : zM) (H : Heap) (locs : List Loc) (ls : Array Slot), pX0_gain_50 z x2 Q y4 y3 y2 y1 μ → zB Γ (cSh z) (zA μ0) μ0 s μ H locs → lv_has ls 3 [(0, .ref z), (2, .int x2)] → W p l e ({ frames := 463, cells := 0, slots := 0, locals := 12491 } : Room) s m args below meth c H locs 0 0 (MQ below (va_Ql Q (zPost Γ (cSh z) μ0) (zA μ0)) args s 0 0 (zA μ0)) (F0 m 50 ls [.int y4, .int y3, .int y2, .ref y1]) := by
  have S := X.1
  obtain ⟨hx, hb, hml, hown, hts⟩ := X.1
  intro y4 y3 y2 y1 μ H locs ls hp hB hl
  unfold pX0_gain_50 at hp
  refine lv_iload_n hx hb dX0_gain_50 rfl (lv_at hl 1 rfl) ?_
  refine lv_aload_n hx hb dX0_gain_51 rfl (lv_at hl 0 rfl) ?_
  refine g_getr S hB (cT hB) rfl (T := TX0) (N := 33) (C := RX0) rfl in_X0 2 (by decide) (by decide) q306 (fun _ h9 => h9) (fun _ => rfl) (cA hB 1 rfl).1 dX0_gain_52 ?_
  refine g_getN S hB (cA hB 1 rfl).2 rfl (T := TX2) (N := 8) (C := RX2) rfl in_X2 4 (by decide) (by decide) (zNFw hB 9 rfl) (fun _ h9 => h9) (v := .int (zI μ (z + 11) 4)) rfl dX0_gain_55 ?_
  refine lv_aload_n hx hb dX0_gain_58 rfl (lv_at hl 0 rfl) ?_
  refine g_getr S hB (cT hB) rfl (T := TX0) (N := 33) (C := RX0) rfl in_X0 2 (by decide) (by decide) q306 (fun _ h9 => h9) (fun _ => rfl) (cA hB 1 rfl).1 dX0_gain_59 ?_
  refine g_getN S hB (cA hB 1 rfl).2 rfl (T := TX2) (N := 8) (C := RX2) rfl in_X2 5 (by decide) (by decide) (zNFw hB 10 rfl) (fun _ h9 => h9) (v := .int (zI μ (z + 11) 5)) rfl dX0_gain_62 ?_
  refine z_calli (va_runV (As := [.int y2, .int y3, .int y4, .int x2, .int (zI μ (z + 11) 4), .int (zI μ (z + 11) 5)]) (rest := []) S (mX1_worth l Γ z y1 y2 y3 y4 x2 (zI μ (z + 11) 4) (zI μ (z + 11) 5) μ _ hp) (cwV 6 hts (lw_V q1104 q850 q851 q128 q852) rfl rfl rfl hX1_worth ⟨Nat.le_of_ble_eq_true rfl, Nat.le_of_ble_eq_true rfl⟩) (hB.preV (tX1_worth hp) rfl rfl) rfl rfl hl.1 rfl (lv_room (Nat.le_of_ble_eq_true rfl)) dX0_gain_65 ⟨Nat.le_refl _, Nat.le_refl _⟩) hB (fun r2 μ1 H locs hp hB => ?_)
  refine lv_i2l hx hb dX0_gain_68 rfl ?_
  refine lv_aload_n hx hb dX0_gain_69 rfl (lv_at hl 0 rfl) ?_
  refine g_getr S hB (cT hB) rfl (T := TX0) (N := 33) (C := RX0) rfl in_X0 2 (by decide) (by decide) q306 (fun _ h9 => h9) (fun _ => rfl) (cA hB 1 rfl).1 dX0_gain_70 ?_
  refine lv_iload_n hx hb dX0_gain_73 rfl (lv_at hl 1 rfl) ?_
  refine z_calli (va_runV (As := [.int x2]) (rest := [.long (r2.toInt64)]) S (mX2_pays l Γ z (z + 11) x2 μ1 _ hp) (cwV 1 hts (lw_V q825 q826 q827 q129 q828) rfl rfl rfl hX2_pays ⟨Nat.le_of_ble_eq_true rfl, Nat.le_of_ble_eq_true rfl⟩) (hB.preV (tX2_pays hp) rfl rfl) rfl rfl hl.1 rfl (lv_room (Nat.le_of_ble_eq_true rfl)) dX0_gain_74 ⟨Nat.le_refl _, Nat.le_refl _⟩) hB (fun r4 μ3 H locs hp hB => ?_)
  refine lv_i2l hx hb dX0_gain_77 rfl ?_
  refine lv_lsub hx hb dX0_gain_78 ?_
  exact zret_l X hB hp dX0_gain_79
def pX0_gain (z : Nat) (x1 : Int32) (x2 : Int32) (μ : zM) (Q : Int64 → zM → Prop) : Prop := (if x2 = (nI 8) then Q (0 : Int64) μ else (zde (zR μ z 0) fun b1 => (zde (zR μ z 0) fun b2 => (zty μ b2 = some (.inl 1) ∧ (vp_in x1 6 ∧ (vp_in x1 6 ∧ (vp_in x1 6 ∧ (if (zI μ ((z + 7) + 1) x1.toNatClampNeg) = x2 then pX0_gain_50 z x2 Q (nI 1) (zI μ ((z + 7) + 2) x1.toNatClampNeg) (zI μ (b2 + 3) x1.toNatClampNeg) b1 μ else pX0_gain_50 z x2 Q (nI 0) (zI μ ((z + 7) + 2) x1.toNatClampNeg) (zI μ (b2 + 3) x1.toNatClampNeg) b1 μ))))))))
theorem hX0_gain : yX0_gain.cls = "SunkTower" ∧ yX0_gain.cls ≠ "java/lang/invoke/MethodHandle" ∧ yX0_gain.cls ≠ "java/lang/invoke/VarHandle" ∧ (parseMethodDescriptor yX0_gain.desc).map (fun d => d.parameters.length) = some 2 := by decide +kernel
set_option maxHeartbeats 4000000 in
set_option maxRecDepth 100000 in
theorem mX0_gain (l : Launch) (Γ : zG) (z : Nat) (x1 : Int32) (x2 : Int32) (μ : zM) (Q : Int64 → zM → Prop) (hp : pX0_gain z x1 x2 μ Q) : Met l yX0_gain (ws_ yX0_gain cX0_gain 3 (some .long)) ({ frames := 463, cells := 0, slots := 0, locals := 12491 } : Room) (va_Pc [.ref z, .int x1, .int x2] (zPre Γ (cSh z) μ)) (va_Ql Q (zPost Γ (cSh z) μ) (zA μ)) 0 0 (zA μ) := by
  refine zstart (by decide) (Nat.le_of_ble_eq_true rfl) ?_
  intro p e s m below meth c ls X hnm hB hl
  have X : zCx p m c cX0_gain 3 s [.ref z, .int x1, .int x2].toArray RX0 meth (some .long) := X
  have S := X.1
  obtain ⟨hx, hb, hml, hown, hts⟩ := X.1
  have hl : lv_has ls 3 [(0, .ref z), (1, .int x1), (2, .int x2)] := hl
  unfold pX0_gain at hp
  refine lv_iload_n hx hb dX0_gain_0 rfl (lv_at hl 2 rfl) ?_
  refine lv_bipush (v := (nI 8)) hx hb dX0_gain_1 rfl ?_
  refine lv_icmp_ne (tgt := 10) hx hb dX0_gain_3 rfl (fun c0 => ?_) (fun c0 => ?_)
  · have hp := zif hp c0
    refine lv_aload_n hx hb dX0_gain_10 rfl (lv_at hl 0 rfl) ?_
    refine g_get S hB (cT hB) rfl (T := TX0) (N := 33) (C := RX0) rfl in_X0 0 (by decide) (by decide) q304 (fun _ h9 => h9) (v := va_rf (zR μ z 0)) rfl dX0_gain_11 ?_
    obtain ⟨b1, eb, hp⟩ := hp
    refine W.eq (g2 := F0 m 14 ls [.ref b1]) (by rw [eb]; rfl) ?_
    refine lv_aload_n hx hb dX0_gain_14 rfl (lv_at hl 0 rfl) ?_
    refine g_get S hB (cT hB) rfl (T := TX0) (N := 33) (C := RX0) rfl in_X0 0 (by decide) (by decide) q304 (fun _ h9 => h9) (v := va_rf (zR μ z 0)) rfl dX0_gain_15 ?_
    obtain ⟨b2, eb, hp⟩ := hp
    refine W.eq (g2 := F0 m 18 ls [.ref b2, .ref b1]) (by rw [eb]; rfl) ?_
    obtain ⟨ht3, hp⟩ := hp
    refine g_getrN S hB ht3 rfl (T := TX1) (N := 16) (C := RX1) rfl in_X1 2 (by decide) (by decide) (zNFw hB 0 rfl) (fun _ h9 => h9) (fun _ => rfl) (cS1 hB ht3 2 rfl).1 dX0_gain_18 ?_
    refine lv_iload_n hx hb dX0_gain_21 rfl (lv_at hl 1 rfl) ?_
    obtain ⟨hi, hp⟩ := hp
    refine g_iald S hB (cS1 hB ht3 2 rfl).2 hi dX0_gain_22 ?_
    refine lv_aload_n hx hb dX0_gain_23 rfl (lv_at hl 0 rfl) ?_
    refine g_getr S hB (cT hB) rfl (T := TX0) (N := 33) (C := RX0) rfl in_X0 1 (by decide) (by decide) q305 (fun _ h9 => h9) (fun _ => rfl) (cA hB 0 rfl).1 dX0_gain_24 ?_
    refine g_getrN S hB (cA hB 0 rfl).2 rfl (T := TX2) (N := 8) (C := RX2) rfl in_X2 1 (by decide) (by decide) (zNFw hB 6 rfl) (fun _ h9 => h9) (fun _ => rfl) (cS2 hB (cA hB 0 rfl).2 1 rfl).1 dX0_gain_27 ?_
    refine lv_iload_n hx hb dX0_gain_30 rfl (lv_at hl 1 rfl) ?_
    obtain ⟨hi, hp⟩ := hp
    refine g_iald S hB (cS2 hB (cA hB 0 rfl).2 1 rfl).2 hi dX0_gain_31 ?_
    refine lv_aload_n hx hb dX0_gain_32 rfl (lv_at hl 0 rfl) ?_
    refine g_getr S hB (cT hB) rfl (T := TX0) (N := 33) (C := RX0) rfl in_X0 1 (by decide) (by decide) q305 (fun _ h9 => h9) (fun _ => rfl) (cA hB 0 rfl).1 dX0_gain_33 ?_
    refine g_getrN S hB (cA hB 0 rfl).2 rfl (T := TX2) (N := 8) (C := RX2) rfl in_X2 0 (by decide) (by decide) (zNFw hB 5 rfl) (fun _ h9 => h9) (fun _ => rfl) (cS2 hB (cA hB 0 rfl).2 0 rfl).1 dX0_gain_36 ?_
    refine lv_iload_n hx hb dX0_gain_39 rfl (lv_at hl 1 rfl) ?_
    obtain ⟨hi, hp⟩ := hp
    refine g_iald S hB (cS2 hB (cA hB 0 rfl).2 0 rfl).2 hi dX0_gain_40 ?_
    refine lv_iload_n hx hb dX0_gain_41 rfl (lv_at hl 2 rfl) ?_
    refine lv_icmp_ne (tgt := 49) hx hb dX0_gain_42 rfl (fun c0 => ?_) (fun c0 => ?_)
    · have hp := zif hp c0
      refine lv_iconst (v := (nI 0)) hx hb dX0_gain_49 rfl ?_
      exact wX0_gain_50 X z x2 (nI 0) (zI μ ((z + 7) + 2) x1.toNatClampNeg) (zI μ (b2 + 3) x1.toNatClampNeg) b1 μ _ _ _ hp hB (lv_sub hl [0, 2] rfl)
    · have hp := zit hp c0
      refine lv_iconst (v := (nI 1)) hx hb dX0_gain_45 rfl ?_
      refine lv_goto (tgt := 50) hx hb dX0_gain_46 rfl ?_
      exact wX0_gain_50 X z x2 (nI 1) (zI μ ((z + 7) + 2) x1.toNatClampNeg) (zI μ (b2 + 3) x1.toNatClampNeg) b1 μ _ _ _ hp hB (lv_sub hl [0, 2] rfl)
  · have hp := zit hp c0
    refine lv_lconst (v := (0 : Int64)) hx hb dX0_gain_6 rfl ?_
    refine lv_goto (tgt := 79) hx hb dX0_gain_7 rfl ?_
    exact zret_l X hB hp dX0_gain_79
def pX0_best_129 (z : Nat) (x1 : Int32) (K60 : Int32 → Int64 → Int32 → zM → Prop) (Q : Int32 → zM → Prop) (x5 : Int32) (μ : zM) : Prop := (pX0_gain z x1 x5 μ fun r2 μ1 => K60 x5 r2 (x5 + (nI 1)) μ1)
set_option maxHeartbeats 4000000 in
set_option maxRecDepth 100000 in
theorem wX0_best_129 {p : Program} {l : Launch} {e : Env} {s : State} {m : MethodId} {args : Array Value} {below : List Frame} {meth : Method} {c : Code} {Γ : zG} {μ0 : zM} {Q : Int32 → zM → Prop} {K60 : Int32 → Int64 → Int32 → zM → Prop} (X : zCx p m c cX0_best 6 s args RX0 meth (some .int)) (z : Nat) (x1 : Int32) (hK60 : ∀ (x2 : Int32) (x3 : Int64) (x5 : Int32) (μ : zM) (H : Heap) (locs : List Loc) (ls : Array Slot), K60 x2 x3 x5 μ → zB Γ (cSh z) (zA μ0) μ0 s μ H locs → lv_has ls 6 [(0, .ref z), (1, .int x1), (2, .int x2), (3, .long x3), (5, .int x5)] → W p l e ({ frames := 464, cells := 0, slots := 0, locals := 12513 } : Room) s m args below meth c H locs 0 0 (MQ below (va_Qi Q (zPost Γ (cSh z) μ0) (zA μ0)) args s 0 0 (zA μ0)) (F0 m 60 ls [])) : ∀ (x5 : Int32) (μ : zM) (H : Heap) (locs : List Loc) (ls : Array Slot), pX0_best_129 z x1 K60 Q x5 μ → zB Γ (cSh z) (zA μ0) μ0 s μ H locs → lv_has ls 6 [(0, .ref z), (1, .int x1), (5, .int x5)] → W p l e ({ frames := 464, cells := 0, slots := 0, locals := 12513 } : Room) s m args below meth c H locs 0 0 (MQ below (va_Qi Q (zPost Γ (cSh z) μ0) (zA μ0)) args s 0 0 (zA μ0)) (F0 m 129 ls []) := by
  have S := X.1
  obtain ⟨hx, hb, hml, hown, hts⟩ := X.1
  intro x5 μ H locs ls hp hB hl
  unfold pX0_best_129 at hp
  refine lv_iload hx hb dX0_best_129 (lv_at hl 2 rfl) ?_
  refine lv_istore_n (lv' := [(2, .int x5), (0, .ref z), (1, .int x1), (5, .int x5)]) hx hb dX0_best_131 rfl hl (by decide) rfl (fun ls hl => ?_)
  refine lv_aload_n hx hb dX0_best_132 rfl (lv_at hl 1 rfl) ?_
  refine lv_iload_n hx hb dX0_best_133 rfl (lv_at hl 2 rfl) ?_
  refine lv_iload hx hb dX0_best_134 (lv_at hl 3 rfl) ?_
  refine z_calll (va_runV (As := [.int x1, .int x5]) (rest := []) S (mX0_gain l Γ z x1 x5 μ _ hp) (cwV 2 hts (lw_V q1100 q1102 qs41 q127 q1103) rfl rfl rfl hX0_gain ⟨Nat.le_of_ble_eq_true rfl, Nat.le_of_ble_eq_true rfl⟩) (hB.preV (cT hB) rfl rfl) rfl rfl hl.1 rfl (lv_room (Nat.le_of_ble_eq_true rfl)) dX0_best_136 ⟨Nat.le_refl _, Nat.le_refl _⟩) hB (fun r2 μ1 H locs hp hB => ?_)
  refine lv_lstore_n (lv' := [(3, .long r2), (2, .int x5), (0, .ref z), (1, .int x1), (5, .int x5)]) hx hb dX0_best_139 rfl hl (by decide) rfl (fun ls hl => ?_)
  refine lv_iinc (v := (x5 + (nI 1))) (lv' := [(5, .int (x5 + (nI 1))), (3, .long r2), (2, .int x5), (0, .ref z), (1, .int x1)]) hx hb dX0_best_140 hl (k := 4) rfl rfl (by decide) rfl (fun ls hl => ?_)
  refine lv_goto (tgt := 60) hx hb dX0_best_143 rfl ?_
  exact hK60 x5 r2 (x5 + (nI 1)) μ1 _ _ _ hp hB (lv_sub hl [3, 4, 2, 1, 0] rfl)
def pX0_best_60 (z : Nat) (x1 : Int32) (Q : Int32 → zM → Prop) : Nat → Int32 → Int64 → Int32 → zM → Prop
  | 0, _, _, _, _ => False
  | n + 1, x2, x3, x5, μ => (if (zI μ (z + 7) 3) ≤ x5 then Q x2 μ else (pX2_who z (z + 7) x5 μ fun r2 μ1 => (if r2 = (-1 : Int32) then (pX2_isBuried z (z + 7) x5 μ1 fun r4 μ3 => (if r4 = 0 then (pX0_gain z x1 x5 μ3 fun r6 μ5 => (if (lg_cmp r6 x3) < 0 then pX0_best_60 z x1 Q n x2 x3 (x5 + (nI 1)) μ5 else (if x2 = (-1 : Int32) then (pX0_gain z x1 x5 μ5 fun r8 μ7 => (if (lg_cmp r8 x3) = 0 then pX0_best_60 z x1 Q n x2 x3 (x5 + (nI 1)) μ7 else pX0_best_129 z x1 (fun v0 v1 v2 ν => pX0_best_60 z x1 Q n v0 v1 v2 ν) Q x5 μ7)) else pX0_best_129 z x1 (fun v0 v1 v2 ν => pX0_best_60 z x1 Q n v0 v1 v2 ν) Q x5 μ5))) else pX0_best_60 z x1 Q n x2 x3 (x5 + (nI 1)) μ3)) else pX0_best_60 z x1 Q n x2 x3 (x5 + (nI 1)) μ1)))
set_option maxHeartbeats 4000000 in
set_option maxRecDepth 100000 in
theorem wX0_best_60 {p : Program} {l : Launch} {e : Env} {s : State} {m : MethodId} {args : Array Value} {below : List Frame} {meth : Method} {c : Code} {Γ : zG} {μ0 : zM} {Q : Int32 → zM → Prop} (X : zCx p m c cX0_best 6 s args RX0 meth (some .int)) (z : Nat) (x1 : Int32) : ∀ (n : Nat) (x2 : Int32) (x3 : Int64) (x5 : Int32) (μ : zM) (H : Heap) (locs : List Loc) (ls : Array Slot), pX0_best_60 z x1 Q n x2 x3 x5 μ → zB Γ (cSh z) (zA μ0) μ0 s μ H locs → lv_has ls 6 [(0, .ref z), (1, .int x1), (2, .int x2), (3, .long x3), (5, .int x5)] → W p l e ({ frames := 464, cells := 0, slots := 0, locals := 12513 } : Room) s m args below meth c H locs 0 0 (MQ below (va_Qi Q (zPost Γ (cSh z) μ0) (zA μ0)) args s 0 0 (zA μ0)) (F0 m 60 ls []) := by
  have S := X.1
  obtain ⟨hx, hb, hml, hown, hts⟩ := X.1
  intro n
  induction n with
  | zero =>
    intro x2 x3 x5 μ H locs ls hp
    exact hp.elim
  | succ n ih =>
    intro x2 x3 x5 μ H locs ls hp hB hl
    unfold pX0_best_60 at hp
    refine lv_iload hx hb dX0_best_60 (lv_at hl 4 rfl) ?_
    refine lv_aload_n hx hb dX0_best_62 rfl (lv_at hl 0 rfl) ?_
    refine g_getr S hB (cT hB) rfl (T := TX0) (N := 33) (C := RX0) rfl in_X0 1 (by decide) (by decide) q305 (fun _ h9 => h9) (fun _ => rfl) (cA hB 0 rfl).1 dX0_best_63 ?_
    refine g_getN S hB (cA hB 0 rfl).2 rfl (T := TX2) (N := 8) (C := RX2) rfl in_X2 3 (by decide) (by decide) (zNFw hB 8 rfl) (fun _ h9 => h9) (v := .int (zI μ (z + 7) 3)) rfl dX0_best_66 ?_
    refine lv_icmp_ge (tgt := 146) hx hb dX0_best_69 rfl (fun c0 => ?_) (fun c0 => ?_)
    · have hp := zit hp c0
      refine lv_iload_n hx hb dX0_best_146 rfl (lv_at hl 2 rfl) ?_
      exact zret_i X hB hp dX0_best_147
    · have hp := zif hp c0
      refine lv_aload_n hx hb dX0_best_72 rfl (lv_at hl 0 rfl) ?_
      refine g_getr S hB (cT hB) rfl (T := TX0) (N := 33) (C := RX0) rfl in_X0 1 (by decide) (by decide) q305 (fun _ h9 => h9) (fun _ => rfl) (cA hB 0 rfl).1 dX0_best_73 ?_
      refine lv_iload hx hb dX0_best_76 (lv_at hl 4 rfl) ?_
      refine z_calli (va_runV (As := [.int x5]) (rest := []) S (mX2_who l Γ z (z + 7) x5 μ _ hp) (cwV 1 hts (lw_V q753 q754 q755 q129 q756) rfl rfl rfl hX2_who ⟨Nat.le_of_ble_eq_true rfl, Nat.le_of_ble_eq_true rfl⟩) (hB.preV (tX2_who hp) rfl rfl) rfl rfl hl.1 rfl (lv_room (Nat.le_of_ble_eq_true rfl)) dX0_best_78 ⟨Nat.le_refl _, Nat.le_refl _⟩) hB (fun r2 μ1 H locs hp hB => ?_)
      refine lv_iconst (v := (-1 : Int32)) hx hb dX0_best_81 rfl ?_
      refine lv_icmp_ne (tgt := 140) hx hb dX0_best_82 rfl (fun c0 => ?_) (fun c0 => ?_)
      · have hp := zif hp c0
        refine lv_iinc (v := (x5 + (nI 1))) (lv' := [(5, .int (x5 + (nI 1))), (0, .ref z), (1, .int x1), (2, .int x2), (3, .long x3)]) hx hb dX0_best_140 hl (k := 4) rfl rfl (by decide) rfl (fun ls hl => ?_)
        refine lv_goto (tgt := 60) hx hb dX0_best_143 rfl ?_
        exact ih x2 x3 (x5 + (nI 1)) μ1 _ _ _ hp hB (lv_sub hl [1, 2, 3, 4, 0] rfl)
      · have hp := zit hp c0
        refine lv_aload_n hx hb dX0_best_85 rfl (lv_at hl 0 rfl) ?_
        refine g_getr S hB (cT hB) rfl (T := TX0) (N := 33) (C := RX0) rfl in_X0 1 (by decide) (by decide) q305 (fun _ h9 => h9) (fun _ => rfl) (cA hB 0 rfl).1 dX0_best_86 ?_
        refine lv_iload hx hb dX0_best_89 (lv_at hl 4 rfl) ?_
        refine z_calli (va_runV (As := [.int x5]) (rest := []) S (mX2_isBuried l Γ z (z + 7) x5 μ1 _ hp) (cwV 1 hts (lw_V q757 q758 q759 q129 q760) rfl rfl rfl hX2_isBuried ⟨Nat.le_of_ble_eq_true rfl, Nat.le_of_ble_eq_true rfl⟩) (hB.preV (tX2_isBuried hp) rfl rfl) rfl rfl hl.1 rfl (lv_room (Nat.le_of_ble_eq_true rfl)) dX0_best_91 ⟨Nat.le_refl _, Nat.le_refl _⟩) hB (fun r4 μ3 H locs hp hB => ?_)
        refine lv_if_ne (tgt := 140) hx hb dX0_best_94 rfl (fun c0 => ?_) (fun c0 => ?_)
        · have hp := zif hp c0
          refine lv_iinc (v := (x5 + (nI 1))) (lv' := [(5, .int (x5 + (nI 1))), (0, .ref z), (1, .int x1), (2, .int x2), (3, .long x3)]) hx hb dX0_best_140 hl (k := 4) rfl rfl (by decide) rfl (fun ls hl => ?_)
          refine lv_goto (tgt := 60) hx hb dX0_best_143 rfl ?_
          exact ih x2 x3 (x5 + (nI 1)) μ3 _ _ _ hp hB (lv_sub hl [1, 2, 3, 4, 0] rfl)
        · have hp := zit hp c0
          refine lv_aload_n hx hb dX0_best_97 rfl (lv_at hl 0 rfl) ?_
          refine lv_iload_n hx hb dX0_best_98 rfl (lv_at hl 1 rfl) ?_
          refine lv_iload hx hb dX0_best_99 (lv_at hl 4 rfl) ?_
          refine z_calll (va_runV (As := [.int x1, .int x5]) (rest := []) S (mX0_gain l Γ z x1 x5 μ3 _ hp) (cwV 2 hts (lw_V q1100 q1102 qs41 q127 q1103) rfl rfl rfl hX0_gain ⟨Nat.le_of_ble_eq_true rfl, Nat.le_of_ble_eq_true rfl⟩) (hB.preV (cT hB) rfl rfl) rfl rfl hl.1 rfl (lv_room (Nat.le_of_ble_eq_true rfl)) dX0_best_101 ⟨Nat.le_refl _, Nat.le_refl _⟩) hB (fun r6 μ5 H locs hp hB => ?_)
          refine lv_lload_n hx hb dX0_best_104 rfl (lv_at hl 3 rfl) ?_
          refine W.lcmp hx hb dX0_best_105 ?_
          refine lv_if_lt (tgt := 140) hx hb dX0_best_106 rfl (fun c0 => ?_) (fun c0 => ?_)
          · have hp := zit hp c0
            refine lv_iinc (v := (x5 + (nI 1))) (lv' := [(5, .int (x5 + (nI 1))), (0, .ref z), (1, .int x1), (2, .int x2), (3, .long x3)]) hx hb dX0_best_140 hl (k := 4) rfl rfl (by decide) rfl (fun ls hl => ?_)
            refine lv_goto (tgt := 60) hx hb dX0_best_143 rfl ?_
            exact ih x2 x3 (x5 + (nI 1)) μ5 _ _ _ hp hB (lv_sub hl [1, 2, 3, 4, 0] rfl)
          · have hp := zif hp c0
            refine lv_iload_n hx hb dX0_best_109 rfl (lv_at hl 2 rfl) ?_
            refine lv_iconst (v := (-1 : Int32)) hx hb dX0_best_110 rfl ?_
            refine lv_icmp_ne (tgt := 129) hx hb dX0_best_111 rfl (fun c0 => ?_) (fun c0 => ?_)
            · have hp := zif hp c0
              exact wX0_best_129 X z x1 (fun v0 v1 v2 ν H2 L2 ls2 h2 b2 l2 => ih v0 v1 v2 ν H2 L2 ls2 h2 b2 l2) x5 μ5 _ _ _ hp hB (lv_sub hl [0, 1, 4] rfl)
            · have hp := zit hp c0
              refine lv_aload_n hx hb dX0_best_114 rfl (lv_at hl 0 rfl) ?_
              refine lv_iload_n hx hb dX0_best_115 rfl (lv_at hl 1 rfl) ?_
              refine lv_iload hx hb dX0_best_116 (lv_at hl 4 rfl) ?_
              refine z_calll (va_runV (As := [.int x1, .int x5]) (rest := []) S (mX0_gain l Γ z x1 x5 μ5 _ hp) (cwV 2 hts (lw_V q1100 q1102 qs41 q127 q1103) rfl rfl rfl hX0_gain ⟨Nat.le_of_ble_eq_true rfl, Nat.le_of_ble_eq_true rfl⟩) (hB.preV (cT hB) rfl rfl) rfl rfl hl.1 rfl (lv_room (Nat.le_of_ble_eq_true rfl)) dX0_best_118 ⟨Nat.le_refl _, Nat.le_refl _⟩) hB (fun r8 μ7 H locs hp hB => ?_)
              refine lv_lload_n hx hb dX0_best_121 rfl (lv_at hl 3 rfl) ?_
              refine W.lcmp hx hb dX0_best_122 ?_
              refine lv_if_ne (tgt := 129) hx hb dX0_best_123 rfl (fun c0 => ?_) (fun c0 => ?_)
              · have hp := zif hp c0
                exact wX0_best_129 X z x1 (fun v0 v1 v2 ν H2 L2 ls2 h2 b2 l2 => ih v0 v1 v2 ν H2 L2 ls2 h2 b2 l2) x5 μ7 _ _ _ hp hB (lv_sub hl [0, 1, 4] rfl)
              · have hp := zit hp c0
                refine lv_goto (tgt := 140) hx hb dX0_best_126 rfl ?_
                refine lv_iinc (v := (x5 + (nI 1))) (lv' := [(5, .int (x5 + (nI 1))), (0, .ref z), (1, .int x1), (2, .int x2), (3, .long x3)]) hx hb dX0_best_140 hl (k := 4) rfl rfl (by decide) rfl (fun ls hl => ?_)
                refine lv_goto (tgt := 60) hx hb dX0_best_143 rfl ?_
                exact ih x2 x3 (x5 + (nI 1)) μ7 _ _ _ hp hB (lv_sub hl [1, 2, 3, 4, 0] rfl)
def pX0_best (z : Nat) (x1 : Int32) (μ : zM) (Q : Int32 → zM → Prop) : Prop := (pX0_isTenant z x1 μ fun r2 μ1 => (if r2 = 0 then Q (-2 : Int32) μ1 else (pX2_be z (z + 11) (z + 7) μ1 fun r4 μ3 => (vp_in x1 6 ∧ (if (zI μ3 ((z + 7) + 1) x1.toNatClampNeg) = (-1 : Int32) then ∃ k1, pX0_best_60 z x1 Q k1 (-1 : Int32) (0 : Int64) (nI 0) μ3 else (vp_in x1 6 ∧ (pX0_gain z x1 (zI μ3 ((z + 7) + 1) x1.toNatClampNeg) μ3 fun r6 μ5 => ∃ k1, pX0_best_60 z x1 Q k1 (-1 : Int32) r6 (nI 0) μ5)))))))
theorem hX0_best : yX0_best.cls = "SunkTower" ∧ yX0_best.cls ≠ "java/lang/invoke/MethodHandle" ∧ yX0_best.cls ≠ "java/lang/invoke/VarHandle" ∧ (parseMethodDescriptor yX0_best.desc).map (fun d => d.parameters.length) = some 1 := by decide +kernel
set_option maxHeartbeats 4000000 in
set_option maxRecDepth 100000 in
theorem mX0_best (l : Launch) (Γ : zG) (z : Nat) (x1 : Int32) (μ : zM) (Q : Int32 → zM → Prop) (hp : pX0_best z x1 μ Q) : Met l yX0_best (ws_ yX0_best cX0_best 6 (some .int)) ({ frames := 464, cells := 0, slots := 0, locals := 12513 } : Room) (va_Pc [.ref z, .int x1] (zPre Γ (cSh z) μ)) (va_Qi Q (zPost Γ (cSh z) μ) (zA μ)) 0 0 (zA μ) := by
  refine zstart (by decide) (Nat.le_of_ble_eq_true rfl) ?_
  intro p e s m below meth c ls X hnm hB hl
  have X : zCx p m c cX0_best 6 s [.ref z, .int x1].toArray RX0 meth (some .int) := X
  have S := X.1
  obtain ⟨hx, hb, hml, hown, hts⟩ := X.1
  have hl : lv_has ls 6 [(0, .ref z), (1, .int x1)] := hl
  unfold pX0_best at hp
  refine lv_aload_n hx hb dX0_best_0 rfl (lv_at hl 0 rfl) ?_
  refine lv_iload_n hx hb dX0_best_1 rfl (lv_at hl 1 rfl) ?_
  refine z_calli (va_runV (As := [.int x1]) (rest := []) S (mX0_isTenant l Γ z x1 μ _ hp) (cwV 1 hts (lw_V q768 q770 qs27 q127 q771) rfl rfl rfl hX0_isTenant ⟨Nat.le_of_ble_eq_true rfl, Nat.le_of_ble_eq_true rfl⟩) (hB.preV (cT hB) rfl rfl) rfl rfl hl.1 rfl (lv_room (Nat.le_of_ble_eq_true rfl)) dX0_best_2 ⟨Nat.le_refl _, Nat.le_refl _⟩) hB (fun r2 μ1 H locs hp hB => ?_)
  refine lv_if_ne (tgt := 11) hx hb dX0_best_5 rfl (fun c0 => ?_) (fun c0 => ?_)
  · have hp := zif hp c0
    refine lv_aload_n hx hb dX0_best_11 rfl (lv_at hl 0 rfl) ?_
    refine g_getr S hB (cT hB) rfl (T := TX0) (N := 33) (C := RX0) rfl in_X0 2 (by decide) (by decide) q306 (fun _ h9 => h9) (fun _ => rfl) (cA hB 1 rfl).1 dX0_best_12 ?_
    refine lv_aload_n hx hb dX0_best_15 rfl (lv_at hl 0 rfl) ?_
    refine g_getr S hB (cT hB) rfl (T := TX0) (N := 33) (C := RX0) rfl in_X0 1 (by decide) (by decide) q305 (fun _ h9 => h9) (fun _ => rfl) (cA hB 0 rfl).1 dX0_best_16 ?_
    refine z_callq (va_runV (As := [.ref (z + 7)]) (rest := []) S (mX2_be l Γ z (z + 11) (z + 7) μ1 _ hp) (cwV 1 hts (lw_V q862 q863 q864 q129 q865) rfl rfl rfl hX2_be ⟨Nat.le_of_ble_eq_true rfl, Nat.le_of_ble_eq_true rfl⟩) (hB.preV (tX2_be hp) rfl rfl) rfl rfl hl.1 rfl (lv_room (Nat.le_of_ble_eq_true rfl)) dX0_best_19 ⟨Nat.le_refl _, Nat.le_refl _⟩) hB (fun r4 μ3 H locs hp hB => ?_)
    refine lv_pop hx hb dX0_best_22 (va_rf_c _) ?_
    refine lv_iconst (v := (-1 : Int32)) hx hb dX0_best_23 rfl ?_
    refine lv_istore_n (lv' := [(2, .int (-1 : Int32)), (0, .ref z), (1, .int x1)]) hx hb dX0_best_24 rfl hl (by decide) rfl (fun ls hl => ?_)
    refine lv_aload_n hx hb dX0_best_25 rfl (lv_at hl 1 rfl) ?_
    refine g_getr S hB (cT hB) rfl (T := TX0) (N := 33) (C := RX0) rfl in_X0 1 (by decide) (by decide) q305 (fun _ h9 => h9) (fun _ => rfl) (cA hB 0 rfl).1 dX0_best_26 ?_
    refine g_getrN S hB (cA hB 0 rfl).2 rfl (T := TX2) (N := 8) (C := RX2) rfl in_X2 0 (by decide) (by decide) (zNFw hB 5 rfl) (fun _ h9 => h9) (fun _ => rfl) (cS2 hB (cA hB 0 rfl).2 0 rfl).1 dX0_best_29 ?_
    refine lv_iload_n hx hb dX0_best_32 rfl (lv_at hl 2 rfl) ?_
    obtain ⟨hi, hp⟩ := hp
    refine g_iald S hB (cS2 hB (cA hB 0 rfl).2 0 rfl).2 hi dX0_best_33 ?_
    refine lv_iconst (v := (-1 : Int32)) hx hb dX0_best_34 rfl ?_
    refine lv_icmp_ne (tgt := 42) hx hb dX0_best_35 rfl (fun c0 => ?_) (fun c0 => ?_)
    · have hp := zif hp c0
      refine lv_aload_n hx hb dX0_best_42 rfl (lv_at hl 1 rfl) ?_
      refine lv_iload_n hx hb dX0_best_43 rfl (lv_at hl 2 rfl) ?_
      refine lv_aload_n hx hb dX0_best_44 rfl (lv_at hl 1 rfl) ?_
      refine g_getr S hB (cT hB) rfl (T := TX0) (N := 33) (C := RX0) rfl in_X0 1 (by decide) (by decide) q305 (fun _ h9 => h9) (fun _ => rfl) (cA hB 0 rfl).1 dX0_best_45 ?_
      refine g_getrN S hB (cA hB 0 rfl).2 rfl (T := TX2) (N := 8) (C := RX2) rfl in_X2 0 (by decide) (by decide) (zNFw hB 5 rfl) (fun _ h9 => h9) (fun _ => rfl) (cS2 hB (cA hB 0 rfl).2 0 rfl).1 dX0_best_48 ?_
      refine lv_iload_n hx hb dX0_best_51 rfl (lv_at hl 2 rfl) ?_
      obtain ⟨hi, hp⟩ := hp
      refine g_iald S hB (cS2 hB (cA hB 0 rfl).2 0 rfl).2 hi dX0_best_52 ?_
      refine z_calll (va_runV (As := [.int x1, .int (zI μ3 ((z + 7) + 1) x1.toNatClampNeg)]) (rest := []) S (mX0_gain l Γ z x1 (zI μ3 ((z + 7) + 1) x1.toNatClampNeg) μ3 _ hp) (cwV 2 hts (lw_V q1100 q1102 qs41 q127 q1103) rfl rfl rfl hX0_gain ⟨Nat.le_of_ble_eq_true rfl, Nat.le_of_ble_eq_true rfl⟩) (hB.preV (cT hB) rfl rfl) rfl rfl hl.1 rfl (lv_room (Nat.le_of_ble_eq_true rfl)) dX0_best_53 ⟨Nat.le_refl _, Nat.le_refl _⟩) hB (fun r6 μ5 H locs hp hB => ?_)
      refine lv_lstore_n (lv' := [(3, .long r6), (2, .int (-1 : Int32)), (0, .ref z), (1, .int x1)]) hx hb dX0_best_56 rfl hl (by decide) rfl (fun ls hl => ?_)
      refine lv_iconst (v := (nI 0)) hx hb dX0_best_57 rfl ?_
      refine lv_istore (lv' := [(5, .int (nI 0)), (3, .long r6), (2, .int (-1 : Int32)), (0, .ref z), (1, .int x1)]) hx hb dX0_best_58 hl (by decide) rfl (fun ls hl => ?_)
      obtain ⟨n1, hp⟩ := hp
      exact wX0_best_60 X z x1 n1 (-1 : Int32) r6 (nI 0) μ5 _ _ _ hp hB (lv_sub hl [3, 4, 2, 1, 0] rfl)
    · have hp := zit hp c0
      refine lv_lconst (v := (0 : Int64)) hx hb dX0_best_38 rfl ?_
      refine lv_goto (tgt := 56) hx hb dX0_best_39 rfl ?_
      refine lv_lstore_n (lv' := [(3, .long (0 : Int64)), (2, .int (-1 : Int32)), (0, .ref z), (1, .int x1)]) hx hb dX0_best_56 rfl hl (by decide) rfl (fun ls hl => ?_)
      refine lv_iconst (v := (nI 0)) hx hb dX0_best_57 rfl ?_
      refine lv_istore (lv' := [(5, .int (nI 0)), (3, .long (0 : Int64)), (2, .int (-1 : Int32)), (0, .ref z), (1, .int x1)]) hx hb dX0_best_58 hl (by decide) rfl (fun ls hl => ?_)
      obtain ⟨n1, hp⟩ := hp
      exact wX0_best_60 X z x1 n1 (-1 : Int32) (0 : Int64) (nI 0) μ3 _ _ _ hp hB (lv_sub hl [3, 4, 2, 1, 0] rfl)
  · have hp := zit hp c0
    refine lv_bipush (v := (-2 : Int32)) hx hb dX0_best_8 rfl ?_
    exact zret_i X hB hp dX0_best_10
def pX0_leftOf_65 (z : Nat) (x1 : Int32) (x2 : Int32) (K20 : Int64 → Int32 → Int32 → zM → Prop) (Q : Int64 → zM → Prop) (x3 : Int64) (x5 : Int32) (x6 : Int32) (μ : zM) : Prop := (pX2_paysAll z (z + 11) (nI 0) μ fun r2 μ1 => (pX2_sinks z (z + 11) μ1 fun r4 μ3 => K20 (x3 + (r2.toInt64)) x5 (x6 + (nI 1)) μ3))
set_option maxHeartbeats 4000000 in
set_option maxRecDepth 100000 in
theorem wX0_leftOf_65 {p : Program} {l : Launch} {e : Env} {s : State} {m : MethodId} {args : Array Value} {below : List Frame} {meth : Method} {c : Code} {Γ : zG} {μ0 : zM} {Q : Int64 → zM → Prop} {K20 : Int64 → Int32 → Int32 → zM → Prop} (X : zCx p m c cX0_leftOf 7 s args RX0 meth (some .long)) (z : Nat) (x1 : Int32) (x2 : Int32) (hK20 : ∀ (x3 : Int64) (x5 : Int32) (x6 : Int32) (μ : zM) (H : Heap) (locs : List Loc) (ls : Array Slot), K20 x3 x5 x6 μ → zB Γ (cSh z) (zA μ0) μ0 s μ H locs → lv_has ls 7 [(0, .ref z), (1, .int x1), (2, .int x2), (3, .long x3), (5, .int x5), (6, .int x6)] → W p l e ({ frames := 464, cells := 0, slots := 0, locals := 12514 } : Room) s m args below meth c H locs 0 0 (MQ below (va_Ql Q (zPost Γ (cSh z) μ0) (zA μ0)) args s 0 0 (zA μ0)) (F0 m 20 ls [])) : ∀ (x3 : Int64) (x5 : Int32) (x6 : Int32) (μ : zM) (H : Heap) (locs : List Loc) (ls : Array Slot), pX0_leftOf_65 z x1 x2 K20 Q x3 x5 x6 μ → zB Γ (cSh z) (zA μ0) μ0 s μ H locs → lv_has ls 7 [(0, .ref z), (1, .int x1), (2, .int x2), (3, .long x3), (5, .int x5), (6, .int x6)] → W p l e ({ frames := 464, cells := 0, slots := 0, locals := 12514 } : Room) s m args below meth c H locs 0 0 (MQ below (va_Ql Q (zPost Γ (cSh z) μ0) (zA μ0)) args s 0 0 (zA μ0)) (F0 m 65 ls []) := by
  have S := X.1
  obtain ⟨hx, hb, hml, hown, hts⟩ := X.1
  intro x3 x5 x6 μ H locs ls hp hB hl
  unfold pX0_leftOf_65 at hp
  refine lv_lload_n hx hb dX0_leftOf_65 rfl (lv_at hl 3 rfl) ?_
  refine lv_aload_n hx hb dX0_leftOf_66 rfl (lv_at hl 0 rfl) ?_
  refine g_getr S hB (cT hB) rfl (T := TX0) (N := 33) (C := RX0) rfl in_X0 2 (by decide) (by decide) q306 (fun _ h9 => h9) (fun _ => rfl) (cA hB 1 rfl).1 dX0_leftOf_67 ?_
  refine lv_iconst (v := (nI 0)) hx hb dX0_leftOf_70 rfl ?_
  refine z_calli (va_runV (As := [.int (nI 0)]) (rest := [.long x3]) S (mX2_paysAll l Γ z (z + 11) (nI 0) μ _ hp) (cwV 1 hts (lw_V q1063 q1064 q1065 q129 q1066) rfl rfl rfl hX2_paysAll ⟨Nat.le_of_ble_eq_true rfl, Nat.le_of_ble_eq_true rfl⟩) (hB.preV (tX2_paysAll hp) rfl rfl) rfl rfl hl.1 rfl (lv_room (Nat.le_of_ble_eq_true rfl)) dX0_leftOf_71 ⟨Nat.le_refl _, Nat.le_refl _⟩) hB (fun r2 μ1 H locs hp hB => ?_)
  refine lv_i2l hx hb dX0_leftOf_74 rfl ?_
  refine lv_ladd hx hb dX0_leftOf_75 ?_
  refine lv_lstore_n (lv' := [(3, .long (x3 + (r2.toInt64))), (0, .ref z), (1, .int x1), (2, .int x2), (5, .int x5), (6, .int x6)]) hx hb dX0_leftOf_76 rfl hl (by decide) rfl (fun ls hl => ?_)
  refine lv_aload_n hx hb dX0_leftOf_77 rfl (lv_at hl 1 rfl) ?_
  refine g_getr S hB (cT hB) rfl (T := TX0) (N := 33) (C := RX0) rfl in_X0 2 (by decide) (by decide) q306 (fun _ h9 => h9) (fun _ => rfl) (cA hB 1 rfl).1 dX0_leftOf_78 ?_
  refine z_calli (va_runV (As := []) (rest := []) S (mX2_sinks l Γ z (z + 11) μ1 _ hp) (cwV 0 hts (lw_V q1049 q872 q873 q129 q874) rfl rfl rfl hX2_sinks ⟨Nat.le_of_ble_eq_true rfl, Nat.le_of_ble_eq_true rfl⟩) (hB.preV (tX2_sinks hp) rfl rfl) rfl rfl hl.1 rfl (lv_room (Nat.le_of_ble_eq_true rfl)) dX0_leftOf_81 ⟨Nat.le_refl _, Nat.le_refl _⟩) hB (fun r4 μ3 H locs hp hB => ?_)
  refine lv_pop hx hb dX0_leftOf_84 rfl ?_
  refine lv_iinc (v := (x6 + (nI 1))) (lv' := [(6, .int (x6 + (nI 1))), (3, .long (x3 + (r2.toInt64))), (0, .ref z), (1, .int x1), (2, .int x2), (5, .int x5)]) hx hb dX0_leftOf_85 hl (k := 5) rfl rfl (by decide) rfl (fun ls hl => ?_)
  refine lv_goto (tgt := 20) hx hb dX0_leftOf_88 rfl ?_
  exact hK20 (x3 + (r2.toInt64)) x5 (x6 + (nI 1)) μ3 _ _ _ hp hB (lv_sub hl [2, 3, 4, 1, 5, 0] rfl)
def pX0_leftOf_20 (z : Nat) (x1 : Int32) (x2 : Int32) (Q : Int64 → zM → Prop) : Nat → Int64 → Int32 → Int32 → zM → Prop
  | 0, _, _, _, _ => False
  | n + 1, x3, x5, x6, μ => (if x2 ≤ x6 then Q x3 μ else (if x1 ≤ x5 then pX0_leftOf_65 z x1 x2 (fun v0 v1 v2 ν => pX0_leftOf_20 z x1 x2 Q n v0 v1 v2 ν) Q x3 x5 x6 μ else (vp_in x5 3 ∧ (if (zI μ (z + 63) x5.toNatClampNeg) = x6 then (pX2_builds z (z + 11) μ fun μ1 => (zde (zR μ1 z 0) fun b2 => (zty μ1 b2 = some (.inl 1) ∧ pX0_leftOf_65 z x1 x2 (fun v0 v1 v2 ν => pX0_leftOf_20 z x1 x2 Q n v0 v1 v2 ν) Q (x3 - ((zI μ1 b2 10).toInt64)) (x5 + (nI 1)) x6 μ1))) else pX0_leftOf_65 z x1 x2 (fun v0 v1 v2 ν => pX0_leftOf_20 z x1 x2 Q n v0 v1 v2 ν) Q x3 x5 x6 μ))))
set_option maxHeartbeats 4000000 in
set_option maxRecDepth 100000 in
theorem wX0_leftOf_20 {p : Program} {l : Launch} {e : Env} {s : State} {m : MethodId} {args : Array Value} {below : List Frame} {meth : Method} {c : Code} {Γ : zG} {μ0 : zM} {Q : Int64 → zM → Prop} (X : zCx p m c cX0_leftOf 7 s args RX0 meth (some .long)) (z : Nat) (x1 : Int32) (x2 : Int32) : ∀ (n : Nat) (x3 : Int64) (x5 : Int32) (x6 : Int32) (μ : zM) (H : Heap) (locs : List Loc) (ls : Array Slot), pX0_leftOf_20 z x1 x2 Q n x3 x5 x6 μ → zB Γ (cSh z) (zA μ0) μ0 s μ H locs → lv_has ls 7 [(0, .ref z), (1, .int x1), (2, .int x2), (3, .long x3), (5, .int x5), (6, .int x6)] → W p l e ({ frames := 464, cells := 0, slots := 0, locals := 12514 } : Room) s m args below meth c H locs 0 0 (MQ below (va_Ql Q (zPost Γ (cSh z) μ0) (zA μ0)) args s 0 0 (zA μ0)) (F0 m 20 ls []) := by
  have S := X.1
  obtain ⟨hx, hb, hml, hown, hts⟩ := X.1
  intro n
  induction n with
  | zero =>
    intro x3 x5 x6 μ H locs ls hp
    exact hp.elim
  | succ n ih =>
    intro x3 x5 x6 μ H locs ls hp hB hl
    unfold pX0_leftOf_20 at hp
    refine lv_iload hx hb dX0_leftOf_20 (lv_at hl 5 rfl) ?_
    refine lv_iload_n hx hb dX0_leftOf_22 rfl (lv_at hl 2 rfl) ?_
    refine lv_icmp_ge (tgt := 91) hx hb dX0_leftOf_23 rfl (fun c0 => ?_) (fun c0 => ?_)
    · have hp := zit hp c0
      refine lv_lload_n hx hb dX0_leftOf_91 rfl (lv_at hl 3 rfl) ?_
      exact zret_l X hB hp dX0_leftOf_92
    · have hp := zif hp c0
      refine lv_iload hx hb dX0_leftOf_26 (lv_at hl 4 rfl) ?_
      refine lv_iload_n hx hb dX0_leftOf_28 rfl (lv_at hl 1 rfl) ?_
      refine lv_icmp_ge (tgt := 65) hx hb dX0_leftOf_29 rfl (fun c0 => ?_) (fun c0 => ?_)
      · have hp := zit hp c0
        exact wX0_leftOf_65 X z x1 x2 (fun v0 v1 v2 ν H2 L2 ls2 h2 b2 l2 => ih v0 v1 v2 ν H2 L2 ls2 h2 b2 l2) x3 x5 x6 μ _ _ _ hp hB (lv_sub hl [0, 1, 2, 3, 4, 5] rfl)
      · have hp := zif hp c0
        refine lv_aload_n hx hb dX0_leftOf_32 rfl (lv_at hl 0 rfl) ?_
        refine g_getr S hB (cT hB) rfl (T := TX0) (N := 33) (C := RX0) rfl in_X0 20 (by decide) (by decide) q326 (fun _ h9 => h9) (fun _ => rfl) (cA hB 10 rfl).1 dX0_leftOf_33 ?_
        refine lv_iload hx hb dX0_leftOf_36 (lv_at hl 4 rfl) ?_
        obtain ⟨hi, hp⟩ := hp
        refine g_iald S hB (cA hB 10 rfl).2 hi dX0_leftOf_38 ?_
        refine lv_iload hx hb dX0_leftOf_39 (lv_at hl 5 rfl) ?_
        refine lv_icmp_ne (tgt := 65) hx hb dX0_leftOf_41 rfl (fun c0 => ?_) (fun c0 => ?_)
        · have hp := zif hp c0
          exact wX0_leftOf_65 X z x1 x2 (fun v0 v1 v2 ν H2 L2 ls2 h2 b2 l2 => ih v0 v1 v2 ν H2 L2 ls2 h2 b2 l2) x3 x5 x6 μ _ _ _ hp hB (lv_sub hl [0, 1, 2, 3, 4, 5] rfl)
        · have hp := zit hp c0
          refine lv_aload_n hx hb dX0_leftOf_44 rfl (lv_at hl 0 rfl) ?_
          refine g_getr S hB (cT hB) rfl (T := TX0) (N := 33) (C := RX0) rfl in_X0 2 (by decide) (by decide) q306 (fun _ h9 => h9) (fun _ => rfl) (cA hB 1 rfl).1 dX0_leftOf_45 ?_
          refine z_callv (va_runV (As := []) (rest := []) S (mX2_builds l Γ z (z + 11) μ _ hp) (cwV 0 hts (lw_V q881 q882 q883 q129 q884) rfl rfl rfl hX2_builds ⟨Nat.le_of_ble_eq_true rfl, Nat.le_of_ble_eq_true rfl⟩) (hB.preV (tX2_builds hp) rfl rfl) rfl rfl hl.1 rfl (lv_room (Nat.le_of_ble_eq_true rfl)) dX0_leftOf_48 ⟨Nat.le_refl _, Nat.le_refl _⟩) hB (fun μ1 H locs hp hB => ?_)
          refine lv_iinc (v := (x5 + (nI 1))) (lv' := [(5, .int (x5 + (nI 1))), (0, .ref z), (1, .int x1), (2, .int x2), (3, .long x3), (6, .int x6)]) hx hb dX0_leftOf_51 hl (k := 4) rfl rfl (by decide) rfl (fun ls hl => ?_)
          refine lv_lload_n hx hb dX0_leftOf_54 rfl (lv_at hl 4 rfl) ?_
          refine lv_aload_n hx hb dX0_leftOf_55 rfl (lv_at hl 1 rfl) ?_
          refine g_get S hB (cT hB) rfl (T := TX0) (N := 33) (C := RX0) rfl in_X0 0 (by decide) (by decide) q304 (fun _ h9 => h9) (v := va_rf (zR μ1 z 0)) rfl dX0_leftOf_56 ?_
          obtain ⟨b2, eb, hp⟩ := hp
          refine W.eq (g2 := F0 m 59 ls [.ref b2, .long x3]) (by rw [eb]; rfl) ?_
          obtain ⟨ht3, hp⟩ := hp
          refine g_getN S hB ht3 rfl (T := TX1) (N := 16) (C := RX1) rfl in_X1 10 (by decide) (by decide) (zNFw hB 2 rfl) (fun _ h9 => h9) (v := .int (zI μ1 b2 10)) rfl dX0_leftOf_59 ?_
          refine lv_i2l hx hb dX0_leftOf_62 rfl ?_
          refine lv_lsub hx hb dX0_leftOf_63 ?_
          refine lv_lstore_n (lv' := [(3, .long (x3 - ((zI μ1 b2 10).toInt64))), (5, .int (x5 + (nI 1))), (0, .ref z), (1, .int x1), (2, .int x2), (6, .int x6)]) hx hb dX0_leftOf_64 rfl hl (by decide) rfl (fun ls hl => ?_)
          exact wX0_leftOf_65 X z x1 x2 (fun v0 v1 v2 ν H2 L2 ls2 h2 b2 l2 => ih v0 v1 v2 ν H2 L2 ls2 h2 b2 l2) (x3 - ((zI μ1 b2 10).toInt64)) (x5 + (nI 1)) x6 μ1 _ _ _ hp hB (lv_sub hl [2, 3, 4, 0, 1, 5] rfl)
def pX0_leftOf (z : Nat) (x1 : Int32) (x2 : Int32) (μ : zM) (Q : Int64 → zM → Prop) : Prop := (pX2_be z (z + 11) (z + 7) μ fun r2 μ1 => ∃ k1, pX0_leftOf_20 z x1 x2 Q k1 (0 : Int64) (nI 0) (nI 0) μ1)
theorem hX0_leftOf : yX0_leftOf.cls = "SunkTower" ∧ yX0_leftOf.cls ≠ "java/lang/invoke/MethodHandle" ∧ yX0_leftOf.cls ≠ "java/lang/invoke/VarHandle" ∧ (parseMethodDescriptor yX0_leftOf.desc).map (fun d => d.parameters.length) = some 2 := by decide +kernel
set_option maxHeartbeats 4000000 in
set_option maxRecDepth 100000 in
theorem mX0_leftOf (l : Launch) (Γ : zG) (z : Nat) (x1 : Int32) (x2 : Int32) (μ : zM) (Q : Int64 → zM → Prop) (hp : pX0_leftOf z x1 x2 μ Q) : Met l yX0_leftOf (ws_ yX0_leftOf cX0_leftOf 7 (some .long)) ({ frames := 464, cells := 0, slots := 0, locals := 12514 } : Room) (va_Pc [.ref z, .int x1, .int x2] (zPre Γ (cSh z) μ)) (va_Ql Q (zPost Γ (cSh z) μ) (zA μ)) 0 0 (zA μ) := by
  refine zstart (by decide) (Nat.le_of_ble_eq_true rfl) ?_
  intro p e s m below meth c ls X hnm hB hl
  have X : zCx p m c cX0_leftOf 7 s [.ref z, .int x1, .int x2].toArray RX0 meth (some .long) := X
  have S := X.1
  obtain ⟨hx, hb, hml, hown, hts⟩ := X.1
  have hl : lv_has ls 7 [(0, .ref z), (1, .int x1), (2, .int x2)] := hl
  unfold pX0_leftOf at hp
  refine lv_aload_n hx hb dX0_leftOf_0 rfl (lv_at hl 0 rfl) ?_
  refine g_getr S hB (cT hB) rfl (T := TX0) (N := 33) (C := RX0) rfl in_X0 2 (by decide) (by decide) q306 (fun _ h9 => h9) (fun _ => rfl) (cA hB 1 rfl).1 dX0_leftOf_1 ?_
  refine lv_aload_n hx hb dX0_leftOf_4 rfl (lv_at hl 0 rfl) ?_
  refine g_getr S hB (cT hB) rfl (T := TX0) (N := 33) (C := RX0) rfl in_X0 1 (by decide) (by decide) q305 (fun _ h9 => h9) (fun _ => rfl) (cA hB 0 rfl).1 dX0_leftOf_5 ?_
  refine z_callq (va_runV (As := [.ref (z + 7)]) (rest := []) S (mX2_be l Γ z (z + 11) (z + 7) μ _ hp) (cwV 1 hts (lw_V q862 q863 q864 q129 q865) rfl rfl rfl hX2_be ⟨Nat.le_of_ble_eq_true rfl, Nat.le_of_ble_eq_true rfl⟩) (hB.preV (tX2_be hp) rfl rfl) rfl rfl hl.1 rfl (lv_room (Nat.le_of_ble_eq_true rfl)) dX0_leftOf_8 ⟨Nat.le_refl _, Nat.le_refl _⟩) hB (fun r2 μ1 H locs hp hB => ?_)
  refine lv_pop hx hb dX0_leftOf_11 (va_rf_c _) ?_
  refine lv_lconst (v := (0 : Int64)) hx hb dX0_leftOf_12 rfl ?_
  refine lv_lstore_n (lv' := [(3, .long (0 : Int64)), (0, .ref z), (1, .int x1), (2, .int x2)]) hx hb dX0_leftOf_13 rfl hl (by decide) rfl (fun ls hl => ?_)
  refine lv_iconst (v := (nI 0)) hx hb dX0_leftOf_14 rfl ?_
  refine lv_istore (lv' := [(5, .int (nI 0)), (3, .long (0 : Int64)), (0, .ref z), (1, .int x1), (2, .int x2)]) hx hb dX0_leftOf_15 hl (by decide) rfl (fun ls hl => ?_)
  refine lv_iconst (v := (nI 0)) hx hb dX0_leftOf_17 rfl ?_
  refine lv_istore (lv' := [(6, .int (nI 0)), (5, .int (nI 0)), (3, .long (0 : Int64)), (0, .ref z), (1, .int x1), (2, .int x2)]) hx hb dX0_leftOf_18 hl (by decide) rfl (fun ls hl => ?_)
  obtain ⟨n1, hp⟩ := hp
  exact wX0_leftOf_20 X z x1 x2 n1 (0 : Int64) (nI 0) (nI 0) μ1 _ _ _ hp hB (lv_sub hl [3, 4, 5, 2, 1, 0] rfl)
def pX0_laysSunk_13 (z : Nat) (Q : zM → Prop) : Nat → Int32 → zM → Prop
  | 0, _, _ => False
  | n + 1, x2, μ => (if (nI 60) < x2 then Q μ else (vp_in x2 61 ∧ zpI μ (z + 65) x2.toNatClampNeg (zI μ (z + 11) 4) fun μ1 => (pX2_sinks z (z + 11) μ1 fun r3 μ2 => pX0_laysSunk_13 z Q n (x2 + (nI 1)) μ2)))
set_option maxHeartbeats 4000000 in
set_option maxRecDepth 100000 in
theorem wX0_laysSunk_13 {p : Program} {l : Launch} {e : Env} {s : State} {m : MethodId} {args : Array Value} {below : List Frame} {meth : Method} {c : Code} {Γ : zG} {μ0 : zM} {Q : zM → Prop} (X : zCx p m c cX0_laysSunk 3 s args RX0 meth none) (z : Nat) : ∀ (n : Nat) (x2 : Int32) (μ : zM) (H : Heap) (locs : List Loc) (ls : Array Slot), pX0_laysSunk_13 z Q n x2 μ → zB Γ (cSh z) (zA μ0) μ0 s μ H locs → lv_has ls 3 [(0, .ref z), (2, .int x2)] → W p l e ({ frames := 464, cells := 0, slots := 0, locals := 12514 } : Room) s m args below meth c H locs 0 0 (MQ below (va_Qv Q (zPost Γ (cSh z) μ0) (zA μ0)) args s 0 0 (zA μ0)) (F0 m 13 ls []) := by
  have S := X.1
  obtain ⟨hx, hb, hml, hown, hts⟩ := X.1
  intro n
  induction n with
  | zero =>
    intro x2 μ H locs ls hp
    exact hp.elim
  | succ n ih =>
    intro x2 μ H locs ls hp hB hl
    unfold pX0_laysSunk_13 at hp
    refine lv_iload_n hx hb dX0_laysSunk_13 rfl (lv_at hl 1 rfl) ?_
    refine lv_bipush (v := (nI 60)) hx hb dX0_laysSunk_14 rfl ?_
    refine lv_icmp_gt (tgt := 46) hx hb dX0_laysSunk_16 rfl (fun c0 => ?_) (fun c0 => ?_)
    · have hp := zit hp c0
      exact zret_v X hB hp dX0_laysSunk_46
    · have hp := zif hp c0
      refine lv_aload_n hx hb dX0_laysSunk_19 rfl (lv_at hl 0 rfl) ?_
      refine g_getr S hB (cT hB) rfl (T := TX0) (N := 33) (C := RX0) rfl in_X0 25 (by decide) (by decide) q331 (fun _ h9 => h9) (fun _ => rfl) (cA hB 12 rfl).1 dX0_laysSunk_20 ?_
      refine lv_iload_n hx hb dX0_laysSunk_23 rfl (lv_at hl 1 rfl) ?_
      refine lv_aload_n hx hb dX0_laysSunk_24 rfl (lv_at hl 0 rfl) ?_
      refine g_getr S hB (cT hB) rfl (T := TX0) (N := 33) (C := RX0) rfl in_X0 2 (by decide) (by decide) q306 (fun _ h9 => h9) (fun _ => rfl) (cA hB 1 rfl).1 dX0_laysSunk_25 ?_
      refine g_getN S hB (cA hB 1 rfl).2 rfl (T := TX2) (N := 8) (C := RX2) rfl in_X2 4 (by decide) (by decide) (zNFw hB 9 rfl) (fun _ h9 => h9) (v := .int (zI μ (z + 11) 4)) rfl dX0_laysSunk_28 ?_
      obtain ⟨hi, hp⟩ := hp
      obtain ⟨μ1, eμ1, hp⟩ := zpI_e hp
      refine g_iast S hB (cA hB 12 rfl).2 hi dX0_laysSunk_31 (fun H locs hB => ?_)
      rw [← eμ1] at hB
      refine lv_aload_n hx hb dX0_laysSunk_32 rfl (lv_at hl 0 rfl) ?_
      refine g_getr S hB (cT hB) rfl (T := TX0) (N := 33) (C := RX0) rfl in_X0 2 (by decide) (by decide) q306 (fun _ h9 => h9) (fun _ => rfl) (cA hB 1 rfl).1 dX0_laysSunk_33 ?_
      refine z_calli (va_runV (As := []) (rest := []) S (mX2_sinks l Γ z (z + 11) μ1 _ hp) (cwV 0 hts (lw_V q1049 q872 q873 q129 q874) rfl rfl rfl hX2_sinks ⟨Nat.le_of_ble_eq_true rfl, Nat.le_of_ble_eq_true rfl⟩) (hB.preV (tX2_sinks hp) rfl rfl) rfl rfl hl.1 rfl (lv_room (Nat.le_of_ble_eq_true rfl)) dX0_laysSunk_36 ⟨Nat.le_refl _, Nat.le_refl _⟩) hB (fun r3 μ2 H locs hp hB => ?_)
      refine lv_pop hx hb dX0_laysSunk_39 rfl ?_
      refine lv_iinc (v := (x2 + (nI 1))) (lv' := [(2, .int (x2 + (nI 1))), (0, .ref z)]) hx hb dX0_laysSunk_40 hl (k := 1) rfl rfl (by decide) rfl (fun ls hl => ?_)
      refine lv_goto (tgt := 13) hx hb dX0_laysSunk_43 rfl ?_
      exact ih (x2 + (nI 1)) μ2 _ _ _ hp hB (lv_sub hl [1, 0] rfl)
def pX0_laysSunk (z : Nat) (x1 : Int32) (μ : zM) (Q : zM → Prop) : Prop := (pX2_begins z (z + 11) μ fun r2 μ1 => (zde r2 fun b3 => (zty μ1 b3 = some (.inl 2) ∧ (zpI μ1 b3 6 x1 fun μ5 => ∃ k1, pX0_laysSunk_13 z Q k1 (nI 0) μ5))))
theorem hX0_laysSunk : yX0_laysSunk.cls = "SunkTower" ∧ yX0_laysSunk.cls ≠ "java/lang/invoke/MethodHandle" ∧ yX0_laysSunk.cls ≠ "java/lang/invoke/VarHandle" ∧ (parseMethodDescriptor yX0_laysSunk.desc).map (fun d => d.parameters.length) = some 1 := by decide +kernel
set_option maxHeartbeats 4000000 in
set_option maxRecDepth 100000 in
theorem mX0_laysSunk (l : Launch) (Γ : zG) (z : Nat) (x1 : Int32) (μ : zM) (Q : zM → Prop) (hp : pX0_laysSunk z x1 μ Q) : Met l yX0_laysSunk (ws_ yX0_laysSunk cX0_laysSunk 3 none) ({ frames := 464, cells := 0, slots := 0, locals := 12514 } : Room) (va_Pc [.ref z, .int x1] (zPre Γ (cSh z) μ)) (va_Qv Q (zPost Γ (cSh z) μ) (zA μ)) 0 0 (zA μ) := by
  refine zstart (by decide) (Nat.le_of_ble_eq_true rfl) ?_
  intro p e s m below meth c ls X hnm hB hl
  have X : zCx p m c cX0_laysSunk 3 s [.ref z, .int x1].toArray RX0 meth none := X
  have S := X.1
  obtain ⟨hx, hb, hml, hown, hts⟩ := X.1
  have hl : lv_has ls 3 [(0, .ref z), (1, .int x1)] := hl
  unfold pX0_laysSunk at hp
  refine lv_aload_n hx hb dX0_laysSunk_0 rfl (lv_at hl 0 rfl) ?_
  refine g_getr S hB (cT hB) rfl (T := TX0) (N := 33) (C := RX0) rfl in_X0 2 (by decide) (by decide) q306 (fun _ h9 => h9) (fun _ => rfl) (cA hB 1 rfl).1 dX0_laysSunk_1 ?_
  refine z_callq (va_runV (As := []) (rest := []) S (mX2_begins l Γ z (z + 11) μ _ hp) (cwV 0 hts (lw_V q296 q297 q298 q129 q299) rfl rfl rfl hX2_begins ⟨Nat.le_of_ble_eq_true rfl, Nat.le_of_ble_eq_true rfl⟩) (hB.preV (tX2_begins hp) rfl rfl) rfl rfl hl.1 rfl (lv_room (Nat.le_of_ble_eq_true rfl)) dX0_laysSunk_4 ⟨Nat.le_refl _, Nat.le_refl _⟩) hB (fun r2 μ1 H locs hp hB => ?_)
  refine lv_iload_n hx hb dX0_laysSunk_7 rfl (lv_at hl 1 rfl) ?_
  obtain ⟨b3, eb, hp⟩ := hp
  refine W.eq (g2 := F0 m 8 ls [.int x1, .ref b3]) (by rw [eb]; rfl) ?_
  obtain ⟨ht4, hp⟩ := hp
  obtain ⟨μ5, eμ5, hp⟩ := zpI_e hp
  refine g_putIN S hB ht4 rfl (T := TX2) (N := 8) (C := RX2) rfl in_X2 6 (by decide) (by decide) (x := x1) tyX2 tyX2_ok nmX2 (zNFw hB 11 rfl) (fun _ h9 => h9) rfl (ty := .int) (by decide +kernel) rfl rfl (fun _ _ => rfl) dX0_laysSunk_8 (fun H locs hB => ?_)
  rw [← eμ5] at hB
  refine lv_iconst (v := (nI 0)) hx hb dX0_laysSunk_11 rfl ?_
  refine lv_istore_n (lv' := [(2, .int (nI 0)), (0, .ref z), (1, .int x1)]) hx hb dX0_laysSunk_12 rfl hl (by decide) rfl (fun ls hl => ?_)
  obtain ⟨n1, hp⟩ := hp
  exact wX0_laysSunk_13 X z n1 (nI 0) μ5 _ _ _ hp hB (lv_sub hl [1, 0] rfl)
def pX0_fitsAny_2 (z : Nat) (x1 : Nat) (x2 : Int32) (Q : Int32 → zM → Prop) : Nat → Int32 → zM → Prop
  | 0, _, _ => False
  | n + 1, x3, μ => (if (nI 999) < x3 then Q (nI 0) μ else (pX0_laysSunk z x3 μ fun μ1 => (pX0_fitsMark z x1 x2 μ1 fun r3 μ2 => (if r3 = 0 then pX0_fitsAny_2 z x1 x2 Q n (x3 + (nI 1)) μ2 else Q (nI 1) μ2))))
set_option maxHeartbeats 4000000 in
set_option maxRecDepth 100000 in
theorem wX0_fitsAny_2 {p : Program} {l : Launch} {e : Env} {s : State} {m : MethodId} {args : Array Value} {below : List Frame} {meth : Method} {c : Code} {Γ : zG} {μ0 : zM} {Q : Int32 → zM → Prop} (X : zCx p m c cX0_fitsAny 4 s args RX0 meth (some .boolean)) {x1 : Nat} (ht_x1 : zty μ0 x1 = some (.inl 3)) (z : Nat) (x2 : Int32) : ∀ (n : Nat) (x3 : Int32) (μ : zM) (H : Heap) (locs : List Loc) (ls : Array Slot), pX0_fitsAny_2 z x1 x2 Q n x3 μ → zB Γ (cSh z) (zA μ0) μ0 s μ H locs → lv_has ls 4 [(0, .ref z), (1, .ref x1), (2, .int x2), (3, .int x3)] → W p l e ({ frames := 465, cells := 0, slots := 0, locals := 12536 } : Room) s m args below meth c H locs 0 0 (MQ below (va_Qi Q (zPost Γ (cSh z) μ0) (zA μ0)) args s 0 0 (zA μ0)) (F0 m 2 ls []) := by
  have S := X.1
  obtain ⟨hx, hb, hml, hown, hts⟩ := X.1
  intro n
  induction n with
  | zero =>
    intro x3 μ H locs ls hp
    exact hp.elim
  | succ n ih =>
    intro x3 μ H locs ls hp hB hl
    unfold pX0_fitsAny_2 at hp
    refine lv_iload_n hx hb dX0_fitsAny_2 rfl (lv_at hl 3 rfl) ?_
    refine lv_sipush (v := (nI 999)) hx hb dX0_fitsAny_3 rfl ?_
    refine lv_icmp_gt (tgt := 31) hx hb dX0_fitsAny_6 rfl (fun c0 => ?_) (fun c0 => ?_)
    · have hp := zit hp c0
      refine lv_iconst (v := (nI 0)) hx hb dX0_fitsAny_31 rfl ?_
      exact zret_z X hB rfl hp dX0_fitsAny_32
    · have hp := zif hp c0
      refine lv_aload_n hx hb dX0_fitsAny_9 rfl (lv_at hl 0 rfl) ?_
      refine lv_iload_n hx hb dX0_fitsAny_10 rfl (lv_at hl 3 rfl) ?_
      refine z_callv (va_runV (As := [.int x3]) (rest := []) S (mX0_laysSunk l Γ z x3 μ _ hp) (cwV 1 hts (lw_V q1181 q1183 qs52 q127 q1184) rfl rfl rfl hX0_laysSunk ⟨Nat.le_of_ble_eq_true rfl, Nat.le_of_ble_eq_true rfl⟩) (hB.preV (cT hB) rfl rfl) rfl rfl hl.1 rfl (lv_room (Nat.le_of_ble_eq_true rfl)) dX0_fitsAny_11 ⟨Nat.le_refl _, Nat.le_refl _⟩) hB (fun μ1 H locs hp hB => ?_)
      refine lv_aload_n hx hb dX0_fitsAny_14 rfl (lv_at hl 0 rfl) ?_
      refine lv_aload_n hx hb dX0_fitsAny_15 rfl (lv_at hl 1 rfl) ?_
      refine lv_iload_n hx hb dX0_fitsAny_16 rfl (lv_at hl 2 rfl) ?_
      refine z_calli (va_runV (As := [.ref x1, .int x2]) (rest := []) S (mX0_fitsMark l Γ z x1 x2 μ1 _ hp) (cwV 2 hts (lw_V q1185 q1187 qs53 q127 q1188) rfl rfl rfl hX0_fitsMark ⟨Nat.le_of_ble_eq_true rfl, Nat.le_of_ble_eq_true rfl⟩) (hB.preV (cT hB) rfl rfl) rfl rfl hl.1 rfl (lv_room (Nat.le_of_ble_eq_true rfl)) dX0_fitsAny_17 ⟨Nat.le_refl _, Nat.le_refl _⟩) hB (fun r3 μ2 H locs hp hB => ?_)
      refine lv_if_eq (tgt := 25) hx hb dX0_fitsAny_20 rfl (fun c0 => ?_) (fun c0 => ?_)
      · have hp := zit hp c0
        refine lv_iinc (v := (x3 + (nI 1))) (lv' := [(3, .int (x3 + (nI 1))), (0, .ref z), (1, .ref x1), (2, .int x2)]) hx hb dX0_fitsAny_25 hl (k := 3) rfl rfl (by decide) rfl (fun ls hl => ?_)
        refine lv_goto (tgt := 2) hx hb dX0_fitsAny_28 rfl ?_
        exact ih (x3 + (nI 1)) μ2 _ _ _ hp hB (lv_sub hl [1, 2, 3, 0] rfl)
      · have hp := zif hp c0
        refine lv_iconst (v := (nI 1)) hx hb dX0_fitsAny_23 rfl ?_
        exact zret_z X hB rfl hp dX0_fitsAny_24
def pX0_fitsAny (z : Nat) (x1 : Nat) (x2 : Int32) (μ : zM) (Q : Int32 → zM → Prop) : Prop := zty μ x1 = some (.inl 3) ∧ ∃ k1, pX0_fitsAny_2 z x1 x2 Q k1 (nI 0) μ
theorem hX0_fitsAny : yX0_fitsAny.cls = "SunkTower" ∧ yX0_fitsAny.cls ≠ "java/lang/invoke/MethodHandle" ∧ yX0_fitsAny.cls ≠ "java/lang/invoke/VarHandle" ∧ (parseMethodDescriptor yX0_fitsAny.desc).map (fun d => d.parameters.length) = some 2 := by decide +kernel
set_option maxHeartbeats 4000000 in
set_option maxRecDepth 100000 in
theorem mX0_fitsAny (l : Launch) (Γ : zG) (z : Nat) (x1 : Nat) (x2 : Int32) (μ : zM) (Q : Int32 → zM → Prop) (hp : pX0_fitsAny z x1 x2 μ Q) : Met l yX0_fitsAny (ws_ yX0_fitsAny cX0_fitsAny 4 (some .boolean)) ({ frames := 465, cells := 0, slots := 0, locals := 12536 } : Room) (va_Pc [.ref z, .ref x1, .int x2] (zPre Γ (cSh z) μ)) (va_Qi Q (zPost Γ (cSh z) μ) (zA μ)) 0 0 (zA μ) := by
  refine zstart (by decide) (Nat.le_of_ble_eq_true rfl) ?_
  intro p e s m below meth c ls X hnm hB hl
  have X : zCx p m c cX0_fitsAny 4 s [.ref z, .ref x1, .int x2].toArray RX0 meth (some .boolean) := X
  have S := X.1
  obtain ⟨hx, hb, hml, hown, hts⟩ := X.1
  have hl : lv_has ls 4 [(0, .ref z), (1, .ref x1), (2, .int x2)] := hl
  obtain ⟨ht_x1, hp⟩ := hp
  refine lv_iconst (v := (nI 0)) hx hb dX0_fitsAny_0 rfl ?_
  refine lv_istore_n (lv' := [(3, .int (nI 0)), (0, .ref z), (1, .ref x1), (2, .int x2)]) hx hb dX0_fitsAny_1 rfl hl (by decide) rfl (fun ls hl => ?_)
  obtain ⟨n1, hp⟩ := hp
  exact wX0_fitsAny_2 X ht_x1 z x2 n1 (nI 0) μ _ _ _ hp hB (lv_sub hl [1, 2, 3, 0] rfl)
def pX0_lists_39 (z : Nat) (x1 : Int32) (Q : Int32 → zM → Prop) : Nat → Int32 → zM → Prop
  | 0, _, _ => False
  | n + 1, x2, μ => (vp_in x1 4 ∧ (zde (zR μ (z + 70) x1.toNatClampNeg) fun b1 => (pX3_many z b1 μ fun r3 μ2 => (if r3 ≤ x2 then (vp_in x1 4 ∧ (zde (zR μ2 (z + 70) x1.toNatClampNeg) fun b4 => (pX3_many z b4 μ2 fun r6 μ5 => Q r6 μ5))) else (vp_in x1 4 ∧ (zde (zR μ2 (z + 70) x1.toNatClampNeg) fun b7 => (pX3_puts z b7 x2 ((zI μ2 (z + 11) 4).toInt64) μ2 fun μ8 => (pX2_sinks z (z + 11) μ8 fun r10 μ9 => pX0_lists_39 z x1 Q n (x2 + (nI 1)) μ9))))))))
set_option maxHeartbeats 4000000 in
set_option maxRecDepth 100000 in
theorem wX0_lists_39 {p : Program} {l : Launch} {e : Env} {s : State} {m : MethodId} {args : Array Value} {below : List Frame} {meth : Method} {c : Code} {Γ : zG} {μ0 : zM} {Q : Int32 → zM → Prop} (X : zCx p m c cX0_lists 3 s args RX0 meth (some .int)) (z : Nat) (x1 : Int32) : ∀ (n : Nat) (x2 : Int32) (μ : zM) (H : Heap) (locs : List Loc) (ls : Array Slot), pX0_lists_39 z x1 Q n x2 μ → zB Γ (cSh z) (zA μ0) μ0 s μ H locs → lv_has ls 3 [(0, .ref z), (1, .int x1), (2, .int x2)] → W p l e ({ frames := 464, cells := 0, slots := 0, locals := 12514 } : Room) s m args below meth c H locs 0 0 (MQ below (va_Qi Q (zPost Γ (cSh z) μ0) (zA μ0)) args s 0 0 (zA μ0)) (F0 m 39 ls []) := by
  have S := X.1
  obtain ⟨hx, hb, hml, hown, hts⟩ := X.1
  intro n
  induction n with
  | zero =>
    intro x2 μ H locs ls hp
    exact hp.elim
  | succ n ih =>
    intro x2 μ H locs ls hp hB hl
    unfold pX0_lists_39 at hp
    refine lv_iload_n hx hb dX0_lists_39 rfl (lv_at hl 2 rfl) ?_
    refine lv_aload_n hx hb dX0_lists_40 rfl (lv_at hl 0 rfl) ?_
    refine g_getr S hB (cT hB) rfl (T := TX0) (N := 33) (C := RX0) rfl in_X0 30 (by decide) (by decide) q336 (fun _ h9 => h9) (fun _ => rfl) (cA hB 17 rfl).1 dX0_lists_41 ?_
    refine lv_iload_n hx hb dX0_lists_44 rfl (lv_at hl 1 rfl) ?_
    obtain ⟨hi, hp⟩ := hp
    refine g_aald S hB (t0 := 6) (cA hB 17 rfl).2 rfl rfl hi dX0_lists_45 ?_
    obtain ⟨b1, eb, hp⟩ := hp
    refine W.eq (g2 := F0 m 46 ls [.ref b1, .int x2]) (by rw [eb]; rfl) ?_
    refine z_calli (va_runV (As := []) (rest := [.int x2]) S (mX3_many l Γ z b1 μ _ hp) (cwV 0 hts (lw_V q954 q955 q956 q130 q957) rfl rfl rfl hX3_many ⟨Nat.le_of_ble_eq_true rfl, Nat.le_of_ble_eq_true rfl⟩) (hB.preV (tX3_many hp) rfl rfl) rfl rfl hl.1 rfl (lv_room (Nat.le_of_ble_eq_true rfl)) dX0_lists_46 ⟨Nat.le_refl _, Nat.le_refl _⟩) hB (fun r3 μ2 H locs hp hB => ?_)
    refine lv_icmp_ge (tgt := 84) hx hb dX0_lists_49 rfl (fun c0 => ?_) (fun c0 => ?_)
    · have hp := zit hp c0
      refine lv_aload_n hx hb dX0_lists_84 rfl (lv_at hl 0 rfl) ?_
      refine g_getr S hB (cT hB) rfl (T := TX0) (N := 33) (C := RX0) rfl in_X0 30 (by decide) (by decide) q336 (fun _ h9 => h9) (fun _ => rfl) (cA hB 17 rfl).1 dX0_lists_85 ?_
      refine lv_iload_n hx hb dX0_lists_88 rfl (lv_at hl 1 rfl) ?_
      obtain ⟨hi, hp⟩ := hp
      refine g_aald S hB (t0 := 6) (cA hB 17 rfl).2 rfl rfl hi dX0_lists_89 ?_
      obtain ⟨b4, eb, hp⟩ := hp
      refine W.eq (g2 := F0 m 90 ls [.ref b4]) (by rw [eb]; rfl) ?_
      refine z_calli (va_runV (As := []) (rest := []) S (mX3_many l Γ z b4 μ2 _ hp) (cwV 0 hts (lw_V q954 q955 q956 q130 q957) rfl rfl rfl hX3_many ⟨Nat.le_of_ble_eq_true rfl, Nat.le_of_ble_eq_true rfl⟩) (hB.preV (tX3_many hp) rfl rfl) rfl rfl hl.1 rfl (lv_room (Nat.le_of_ble_eq_true rfl)) dX0_lists_90 ⟨Nat.le_refl _, Nat.le_refl _⟩) hB (fun r6 μ5 H locs hp hB => ?_)
      exact zret_i X hB hp dX0_lists_93
    · have hp := zif hp c0
      refine lv_aload_n hx hb dX0_lists_52 rfl (lv_at hl 0 rfl) ?_
      refine g_getr S hB (cT hB) rfl (T := TX0) (N := 33) (C := RX0) rfl in_X0 30 (by decide) (by decide) q336 (fun _ h9 => h9) (fun _ => rfl) (cA hB 17 rfl).1 dX0_lists_53 ?_
      refine lv_iload_n hx hb dX0_lists_56 rfl (lv_at hl 1 rfl) ?_
      obtain ⟨hi, hp⟩ := hp
      refine g_aald S hB (t0 := 6) (cA hB 17 rfl).2 rfl rfl hi dX0_lists_57 ?_
      obtain ⟨b7, eb, hp⟩ := hp
      refine W.eq (g2 := F0 m 58 ls [.ref b7]) (by rw [eb]; rfl) ?_
      refine lv_iload_n hx hb dX0_lists_58 rfl (lv_at hl 2 rfl) ?_
      refine lv_aload_n hx hb dX0_lists_59 rfl (lv_at hl 0 rfl) ?_
      refine g_getr S hB (cT hB) rfl (T := TX0) (N := 33) (C := RX0) rfl in_X0 2 (by decide) (by decide) q306 (fun _ h9 => h9) (fun _ => rfl) (cA hB 1 rfl).1 dX0_lists_60 ?_
      refine g_getN S hB (cA hB 1 rfl).2 rfl (T := TX2) (N := 8) (C := RX2) rfl in_X2 4 (by decide) (by decide) (zNFw hB 9 rfl) (fun _ h9 => h9) (v := .int (zI μ2 (z + 11) 4)) rfl dX0_lists_63 ?_
      refine lv_i2l hx hb dX0_lists_66 rfl ?_
      refine z_callv (va_runV (As := [.int x2, .long ((zI μ2 (z + 11) 4).toInt64)]) (rest := []) S (mX3_puts l Γ z b7 x2 ((zI μ2 (z + 11) 4).toInt64) μ2 _ hp) (cwV 2 hts (lw_V q1355 q1356 q1357 q130 q1358) rfl rfl rfl hX3_puts ⟨Nat.le_of_ble_eq_true rfl, Nat.le_of_ble_eq_true rfl⟩) (hB.preV (tX3_puts hp) rfl rfl) rfl rfl hl.1 rfl (lv_room (Nat.le_of_ble_eq_true rfl)) dX0_lists_67 ⟨Nat.le_refl _, Nat.le_refl _⟩) hB (fun μ8 H locs hp hB => ?_)
      refine lv_aload_n hx hb dX0_lists_70 rfl (lv_at hl 0 rfl) ?_
      refine g_getr S hB (cT hB) rfl (T := TX0) (N := 33) (C := RX0) rfl in_X0 2 (by decide) (by decide) q306 (fun _ h9 => h9) (fun _ => rfl) (cA hB 1 rfl).1 dX0_lists_71 ?_
      refine z_calli (va_runV (As := []) (rest := []) S (mX2_sinks l Γ z (z + 11) μ8 _ hp) (cwV 0 hts (lw_V q1049 q872 q873 q129 q874) rfl rfl rfl hX2_sinks ⟨Nat.le_of_ble_eq_true rfl, Nat.le_of_ble_eq_true rfl⟩) (hB.preV (tX2_sinks hp) rfl rfl) rfl rfl hl.1 rfl (lv_room (Nat.le_of_ble_eq_true rfl)) dX0_lists_74 ⟨Nat.le_refl _, Nat.le_refl _⟩) hB (fun r10 μ9 H locs hp hB => ?_)
      refine lv_pop hx hb dX0_lists_77 rfl ?_
      refine lv_iinc (v := (x2 + (nI 1))) (lv' := [(2, .int (x2 + (nI 1))), (0, .ref z), (1, .int x1)]) hx hb dX0_lists_78 hl (k := 2) rfl rfl (by decide) rfl (fun ls hl => ?_)
      refine lv_goto (tgt := 39) hx hb dX0_lists_81 rfl ?_
      exact ih (x2 + (nI 1)) μ9 _ _ _ hp hB (lv_sub hl [1, 2, 0] rfl)
def pX0_lists (z : Nat) (x1 : Int32) (μ : zM) (Q : Int32 → zM → Prop) : Prop := (pX0_isTray z x1 μ fun r2 μ1 => (if r2 = 0 then Q (-2 : Int32) μ1 else (vp_in x1 4 ∧ (zde (zR μ1 (z + 70) x1.toNatClampNeg) fun b3 => (zty μ1 b3 = some (.inl 3) ∧ (if (zR μ1 b3 0) = none then Q (-6 : Int32) μ1 else (pX2_be z (z + 11) (z + 7) μ1 fun r7 μ6 => ∃ k1, pX0_lists_39 z x1 Q k1 (nI 0) μ6)))))))
theorem hX0_lists : yX0_lists.cls = "SunkTower" ∧ yX0_lists.cls ≠ "java/lang/invoke/MethodHandle" ∧ yX0_lists.cls ≠ "java/lang/invoke/VarHandle" ∧ (parseMethodDescriptor yX0_lists.desc).map (fun d => d.parameters.length) = some 1 := by decide +kernel
set_option maxHeartbeats 4000000 in
set_option maxRecDepth 100000 in
theorem mX0_lists (l : Launch) (Γ : zG) (z : Nat) (x1 : Int32) (μ : zM) (Q : Int32 → zM → Prop) (hp : pX0_lists z x1 μ Q) : Met l yX0_lists (ws_ yX0_lists cX0_lists 3 (some .int)) ({ frames := 464, cells := 0, slots := 0, locals := 12514 } : Room) (va_Pc [.ref z, .int x1] (zPre Γ (cSh z) μ)) (va_Qi Q (zPost Γ (cSh z) μ) (zA μ)) 0 0 (zA μ) := by
  refine zstart (by decide) (Nat.le_of_ble_eq_true rfl) ?_
  intro p e s m below meth c ls X hnm hB hl
  have X : zCx p m c cX0_lists 3 s [.ref z, .int x1].toArray RX0 meth (some .int) := X
  have S := X.1
  obtain ⟨hx, hb, hml, hown, hts⟩ := X.1
  have hl : lv_has ls 3 [(0, .ref z), (1, .int x1)] := hl
  unfold pX0_lists at hp
  refine lv_iload_n hx hb dX0_lists_0 rfl (lv_at hl 1 rfl) ?_
  refine z_calli (va_runS (As := [.int x1]) (rest := []) S (mX0_isTray l Γ z x1 μ _ hp) (va_cwS 1 hts (lw_S q946 q947 q127 q948) rfl rfl rfl hX0_isTray ⟨Nat.le_of_ble_eq_true rfl, Nat.le_of_ble_eq_true rfl⟩) hB.preS rfl rfl hl.1 rfl (lv_room (Nat.le_of_ble_eq_true rfl)) dX0_lists_1 ⟨Nat.le_refl _, Nat.le_refl _⟩) hB (fun r2 μ1 H locs hp hB => ?_)
  refine lv_if_ne (tgt := 10) hx hb dX0_lists_4 rfl (fun c0 => ?_) (fun c0 => ?_)
  · have hp := zif hp c0
    refine lv_aload_n hx hb dX0_lists_10 rfl (lv_at hl 0 rfl) ?_
    refine g_getr S hB (cT hB) rfl (T := TX0) (N := 33) (C := RX0) rfl in_X0 30 (by decide) (by decide) q336 (fun _ h9 => h9) (fun _ => rfl) (cA hB 17 rfl).1 dX0_lists_11 ?_
    refine lv_iload_n hx hb dX0_lists_14 rfl (lv_at hl 1 rfl) ?_
    obtain ⟨hi, hp⟩ := hp
    refine g_aald S hB (t0 := 6) (cA hB 17 rfl).2 rfl rfl hi dX0_lists_15 ?_
    obtain ⟨b3, eb, hp⟩ := hp
    refine W.eq (g2 := F0 m 16 ls [.ref b3]) (by rw [eb]; rfl) ?_
    obtain ⟨ht4, hp⟩ := hp
    refine g_getN S hB ht4 rfl (T := TX3) (N := 1) (C := RX3) rfl in_X3 0 (by decide) (by decide) (zNFw hB 12 rfl) (fun _ h9 => h9) (v := va_rf (zR μ1 b3 0)) rfl dX0_lists_16 ?_
    refine g_ifnonnull (tgt := 25) hx hb dX0_lists_19 rfl (fun c0 => ?_) (fun c0 => ?_)
    · have hp := zit hp c0
      refine lv_bipush (v := (-6 : Int32)) hx hb dX0_lists_22 rfl ?_
      exact zret_i X hB hp dX0_lists_24
    · have hp := zif hp c0
      refine lv_aload_n hx hb dX0_lists_25 rfl (lv_at hl 0 rfl) ?_
      refine g_getr S hB (cT hB) rfl (T := TX0) (N := 33) (C := RX0) rfl in_X0 2 (by decide) (by decide) q306 (fun _ h9 => h9) (fun _ => rfl) (cA hB 1 rfl).1 dX0_lists_26 ?_
      refine lv_aload_n hx hb dX0_lists_29 rfl (lv_at hl 0 rfl) ?_
      refine g_getr S hB (cT hB) rfl (T := TX0) (N := 33) (C := RX0) rfl in_X0 1 (by decide) (by decide) q305 (fun _ h9 => h9) (fun _ => rfl) (cA hB 0 rfl).1 dX0_lists_30 ?_
      refine z_callq (va_runV (As := [.ref (z + 7)]) (rest := []) S (mX2_be l Γ z (z + 11) (z + 7) μ1 _ hp) (cwV 1 hts (lw_V q862 q863 q864 q129 q865) rfl rfl rfl hX2_be ⟨Nat.le_of_ble_eq_true rfl, Nat.le_of_ble_eq_true rfl⟩) (hB.preV (tX2_be hp) rfl rfl) rfl rfl hl.1 rfl (lv_room (Nat.le_of_ble_eq_true rfl)) dX0_lists_33 ⟨Nat.le_refl _, Nat.le_refl _⟩) hB (fun r7 μ6 H locs hp hB => ?_)
      refine lv_pop hx hb dX0_lists_36 (va_rf_c _) ?_
      refine lv_iconst (v := (nI 0)) hx hb dX0_lists_37 rfl ?_
      refine lv_istore_n (lv' := [(2, .int (nI 0)), (0, .ref z), (1, .int x1)]) hx hb dX0_lists_38 rfl hl (by decide) rfl (fun ls hl => ?_)
      obtain ⟨n1, hp⟩ := hp
      exact wX0_lists_39 X z x1 n1 (nI 0) μ6 _ _ _ hp hB (lv_sub hl [1, 2, 0] rfl)
  · have hp := zit hp c0
    refine lv_bipush (v := (-2 : Int32)) hx hb dX0_lists_7 rfl ?_
    exact zret_i X hB hp dX0_lists_9
def pX2_goesOn_7 (z : Nat) (s0 : Nat) (x1 : Int32) (Q : Int32 → zM → Prop) : Nat → Int32 → Int32 → zM → Prop
  | 0, _, _, _ => False
  | n + 1, x2, x3, μ => (if x1 ≤ x3 then Q ((zI μ s0 4) - x2) μ else (pX2_sinks z s0 μ fun r2 μ1 => pX2_goesOn_7 z s0 x1 Q n x2 (x3 + (nI 1)) μ1))
set_option maxHeartbeats 4000000 in
set_option maxRecDepth 100000 in
theorem wX2_goesOn_7 {p : Program} {l : Launch} {e : Env} {s : State} {m : MethodId} {args : Array Value} {below : List Frame} {meth : Method} {c : Code} {Γ : zG} {μ0 : zM} {Q : Int32 → zM → Prop} (X : zCx p m c cX2_goesOn 4 s args RX2 meth (some .int)) {s0 : Nat} (ht_s0 : zty μ0 s0 = some (.inl 2)) (z : Nat) (x1 : Int32) : ∀ (n : Nat) (x2 : Int32) (x3 : Int32) (μ : zM) (H : Heap) (locs : List Loc) (ls : Array Slot), pX2_goesOn_7 z s0 x1 Q n x2 x3 μ → zB Γ (cSh z) (zA μ0) μ0 s μ H locs → lv_has ls 4 [(0, .ref s0), (1, .int x1), (2, .int x2), (3, .int x3)] → W p l e ({ frames := 464, cells := 0, slots := 0, locals := 12514 } : Room) s m args below meth c H locs 0 0 (MQ below (va_Qi Q (zPost Γ (cSh z) μ0) (zA μ0)) args s 0 0 (zA μ0)) (F0 m 7 ls []) := by
  have S := X.1
  obtain ⟨hx, hb, hml, hown, hts⟩ := X.1
  intro n
  induction n with
  | zero =>
    intro x2 x3 μ H locs ls hp
    exact hp.elim
  | succ n ih =>
    intro x2 x3 μ H locs ls hp hB hl
    unfold pX2_goesOn_7 at hp
    refine lv_iload_n hx hb dX2_goesOn_7 rfl (lv_at hl 3 rfl) ?_
    refine lv_iload_n hx hb dX2_goesOn_8 rfl (lv_at hl 1 rfl) ?_
    refine lv_icmp_ge (tgt := 23) hx hb dX2_goesOn_9 rfl (fun c0 => ?_) (fun c0 => ?_)
    · have hp := zit hp c0
      refine lv_aload_n hx hb dX2_goesOn_23 rfl (lv_at hl 0 rfl) ?_
      refine g_get S hB (hB.ty ht_s0 rfl) rfl (T := TX2) (N := 8) (C := RX2) rfl in_X2 4 (by decide) (by decide) q254 (fun _ h9 => h9) (v := .int (zI μ s0 4)) rfl dX2_goesOn_24 ?_
      refine lv_iload_n hx hb dX2_goesOn_27 rfl (lv_at hl 2 rfl) ?_
      refine lv_isub hx hb dX2_goesOn_28 ?_
      exact zret_i X hB hp dX2_goesOn_29
    · have hp := zif hp c0
      refine lv_aload_n hx hb dX2_goesOn_12 rfl (lv_at hl 0 rfl) ?_
      refine z_calli (va_runV (As := []) (rest := []) S (mX2_sinks l Γ z s0 μ _ hp) (cwV 0 hts (lw_V q871 q872 q873 q129 q874) rfl rfl rfl hX2_sinks ⟨Nat.le_of_ble_eq_true rfl, Nat.le_of_ble_eq_true rfl⟩) (hB.preV (hB.ty ht_s0 rfl) rfl rfl) rfl rfl hl.1 rfl (lv_room (Nat.le_of_ble_eq_true rfl)) dX2_goesOn_13 ⟨Nat.le_refl _, Nat.le_refl _⟩) hB (fun r2 μ1 H locs hp hB => ?_)
      refine lv_pop hx hb dX2_goesOn_16 rfl ?_
      refine lv_iinc (v := (x3 + (nI 1))) (lv' := [(3, .int (x3 + (nI 1))), (0, .ref s0), (1, .int x1), (2, .int x2)]) hx hb dX2_goesOn_17 hl (k := 3) rfl rfl (by decide) rfl (fun ls hl => ?_)
      refine lv_goto (tgt := 7) hx hb dX2_goesOn_20 rfl ?_
      exact ih x2 (x3 + (nI 1)) μ1 _ _ _ hp hB (lv_sub hl [1, 2, 3, 0] rfl)
def pX2_goesOn (z : Nat) (s0 : Nat) (x1 : Int32) (μ : zM) (Q : Int32 → zM → Prop) : Prop := zty μ s0 = some (.inl 2) ∧ ∃ k1, pX2_goesOn_7 z s0 x1 Q k1 (zI μ s0 4) (nI 0) μ
theorem tX2_goesOn {z : Nat} {s0 : Nat} {x1 : Int32} {μ : zM} {Q : Int32 → zM → Prop} (h : pX2_goesOn z s0 x1 μ Q) : zty μ s0 = some (.inl 2) := h.1
theorem hX2_goesOn : yX2_goesOn.cls = "SunkTower$State" ∧ yX2_goesOn.cls ≠ "java/lang/invoke/MethodHandle" ∧ yX2_goesOn.cls ≠ "java/lang/invoke/VarHandle" ∧ (parseMethodDescriptor yX2_goesOn.desc).map (fun d => d.parameters.length) = some 1 := by decide +kernel
set_option maxHeartbeats 4000000 in
set_option maxRecDepth 100000 in
theorem mX2_goesOn (l : Launch) (Γ : zG) (z : Nat) (s0 : Nat) (x1 : Int32) (μ : zM) (Q : Int32 → zM → Prop) (hp : pX2_goesOn z s0 x1 μ Q) : Met l yX2_goesOn (ws_ yX2_goesOn cX2_goesOn 4 (some .int)) ({ frames := 464, cells := 0, slots := 0, locals := 12514 } : Room) (va_Pc [.ref s0, .int x1] (zPre Γ (cSh z) μ)) (va_Qi Q (zPost Γ (cSh z) μ) (zA μ)) 0 0 (zA μ) := by
  refine zstart (by decide) (Nat.le_of_ble_eq_true rfl) ?_
  intro p e s m below meth c ls X hnm hB hl
  have X : zCx p m c cX2_goesOn 4 s [.ref s0, .int x1].toArray RX2 meth (some .int) := X
  have S := X.1
  obtain ⟨hx, hb, hml, hown, hts⟩ := X.1
  have hl : lv_has ls 4 [(0, .ref s0), (1, .int x1)] := hl
  obtain ⟨ht_s0, hp⟩ := hp
  refine lv_aload_n hx hb dX2_goesOn_0 rfl (lv_at hl 0 rfl) ?_
  refine g_get S hB (hB.ty ht_s0 rfl) rfl (T := TX2) (N := 8) (C := RX2) rfl in_X2 4 (by decide) (by decide) q254 (fun _ h9 => h9) (v := .int (zI μ s0 4)) rfl dX2_goesOn_1 ?_
  refine lv_istore_n (lv' := [(2, .int (zI μ s0 4)), (0, .ref s0), (1, .int x1)]) hx hb dX2_goesOn_4 rfl hl (by decide) rfl (fun ls hl => ?_)
  refine lv_iconst (v := (nI 0)) hx hb dX2_goesOn_5 rfl ?_
  refine lv_istore_n (lv' := [(3, .int (nI 0)), (2, .int (zI μ s0 4)), (0, .ref s0), (1, .int x1)]) hx hb dX2_goesOn_6 rfl hl (by decide) rfl (fun ls hl => ?_)
  obtain ⟨n1, hp⟩ := hp
  exact wX2_goesOn_7 X ht_s0 z x1 n1 (zI μ s0 4) (nI 0) μ _ _ _ hp hB (lv_sub hl [2, 3, 1, 0] rfl)
def pX5_storey (z : Nat) (s0 : Nat) (μ : zM) (Q : zM → Prop) : Prop := zty μ s0 = some (.inl 5) ∧ (pX5_begins z s0 (zI μ (s0 + 1) 5) (nI 8) μ fun r2 μ1 => (if r2 = 0 then Q μ1 else (pX5_number z s0 (nI 0) (nI 999) μ1 fun r4 μ3 => (if (zI μ3 s0 6) = 0 then (vp_in (zI μ3 (s0 + 1) 5) 8 ∧ zpI μ3 ((s0 + 1) + 1) (zI μ3 (s0 + 1) 5).toNatClampNeg r4 fun μ5 => (zpI μ5 (s0 + 1) 5 ((zI μ5 (s0 + 1) 5) + (nI 1)) fun μ6 => Q μ6)) else Q μ3))))
theorem tX5_storey {z : Nat} {s0 : Nat} {μ : zM} {Q : zM → Prop} (h : pX5_storey z s0 μ Q) : zty μ s0 = some (.inl 5) := h.1
theorem hX5_storey : yX5_storey.cls = "SunkTower$Reader" ∧ yX5_storey.cls ≠ "java/lang/invoke/MethodHandle" ∧ yX5_storey.cls ≠ "java/lang/invoke/VarHandle" ∧ (parseMethodDescriptor yX5_storey.desc).map (fun d => d.parameters.length) = some 0 := by decide +kernel
set_option maxHeartbeats 4000000 in
set_option maxRecDepth 100000 in
theorem mX5_storey (l : Launch) (Γ : zG) (z : Nat) (s0 : Nat) (μ : zM) (Q : zM → Prop) (hp : pX5_storey z s0 μ Q) : Met l yX5_storey (ws_ yX5_storey cX5_storey 2 none) ({ frames := 6, cells := 0, slots := 0, locals := 134 } : Room) (va_Pc [.ref s0] (zPre Γ (cSh z) μ)) (va_Qv Q (zPost Γ (cSh z) μ) (zA μ)) 0 0 (zA μ) := by
  refine zstart (by decide) (Nat.le_of_ble_eq_true rfl) ?_
  intro p e s m below meth c ls X hnm hB hl
  have X : zCx p m c cX5_storey 2 s [.ref s0].toArray RX5 meth none := X
  have S := X.1
  obtain ⟨hx, hb, hml, hown, hts⟩ := X.1
  have hl : lv_has ls 2 [(0, .ref s0)] := hl
  obtain ⟨ht_s0, hp⟩ := hp
  refine lv_aload_n hx hb dX5_storey_0 rfl (lv_at hl 0 rfl) ?_
  refine lv_aload_n hx hb dX5_storey_1 rfl (lv_at hl 0 rfl) ?_
  refine g_getr S hB (hB.ty ht_s0 rfl) rfl (T := TX5) (N := 11) (C := RX5) rfl in_X5 1 (by decide) (by decide) q430 (fun _ h9 => h9) (fun _ => rfl) (cS5 hB (hB.ty ht_s0 rfl) 0 rfl).1 dX5_storey_2 ?_
  refine g_getN S hB (cS5 hB (hB.ty ht_s0 rfl) 0 rfl).2 rfl (T := TX1) (N := 16) (C := RX1) rfl in_X1 5 (by decide) (by decide) (zNFw hB 31 rfl) (fun _ h9 => h9) (v := .int (zI μ (s0 + 1) 5)) rfl dX5_storey_5 ?_
  refine lv_bipush (v := (nI 8)) hx hb dX5_storey_8 rfl ?_
  refine z_calli (va_runV (As := [.int (zI μ (s0 + 1) 5), .int (nI 8)]) (rest := []) S (mX5_begins l Γ z s0 (zI μ (s0 + 1) 5) (nI 8) μ _ hp) (cwV 2 hts (lw_V q612 q614 qs8 q133 q615) rfl rfl rfl hX5_begins ⟨Nat.le_of_ble_eq_true rfl, Nat.le_of_ble_eq_true rfl⟩) (hB.preV (hB.ty ht_s0 rfl) rfl rfl) rfl rfl hl.1 rfl (lv_room (Nat.le_of_ble_eq_true rfl)) dX5_storey_10 ⟨Nat.le_refl _, Nat.le_refl _⟩) hB (fun r2 μ1 H locs hp hB => ?_)
  refine lv_if_ne (tgt := 17) hx hb dX5_storey_13 rfl (fun c0 => ?_) (fun c0 => ?_)
  · have hp := zif hp c0
    refine lv_aload_n hx hb dX5_storey_17 rfl (lv_at hl 0 rfl) ?_
    refine lv_iconst (v := (nI 0)) hx hb dX5_storey_18 rfl ?_
    refine lv_sipush (v := (nI 999)) hx hb dX5_storey_19 rfl ?_
    refine z_calli (va_runV (As := [.int (nI 0), .int (nI 999)]) (rest := []) S (mX5_number l Γ z s0 (nI 0) (nI 999) μ1 _ hp) (cwV 2 hts (lw_V q620 q622 qs10 q133 q623) rfl rfl rfl hX5_number ⟨Nat.le_of_ble_eq_true rfl, Nat.le_of_ble_eq_true rfl⟩) (hB.preV (hB.ty ht_s0 rfl) rfl rfl) rfl rfl hl.1 rfl (lv_room (Nat.le_of_ble_eq_true rfl)) dX5_storey_22 ⟨Nat.le_refl _, Nat.le_refl _⟩) hB (fun r4 μ3 H locs hp hB => ?_)
    refine lv_istore_n (lv' := [(1, .int r4), (0, .ref s0)]) hx hb dX5_storey_25 rfl hl (by decide) rfl (fun ls hl => ?_)
    refine lv_aload_n hx hb dX5_storey_26 rfl (lv_at hl 1 rfl) ?_
    refine g_get S hB (hB.ty ht_s0 rfl) rfl (T := TX5) (N := 11) (C := RX5) rfl in_X5 6 (by decide) (by decide) q436 (fun _ h9 => h9) (v := .int (zI μ3 s0 6)) rfl dX5_storey_27 ?_
    refine lv_if_eq (tgt := 34) hx hb dX5_storey_30 rfl (fun c0 => ?_) (fun c0 => ?_)
    · have hp := zit hp c0
      refine lv_aload_n hx hb dX5_storey_34 rfl (lv_at hl 1 rfl) ?_
      refine g_getr S hB (hB.ty ht_s0 rfl) rfl (T := TX5) (N := 11) (C := RX5) rfl in_X5 1 (by decide) (by decide) q430 (fun _ h9 => h9) (fun _ => rfl) (cS5 hB (hB.ty ht_s0 rfl) 0 rfl).1 dX5_storey_35 ?_
      refine g_getrN S hB (cS5 hB (hB.ty ht_s0 rfl) 0 rfl).2 rfl (T := TX1) (N := 16) (C := RX1) rfl in_X1 0 (by decide) (by decide) (zNFw hB 27 rfl) (fun _ h9 => h9) (fun _ => rfl) (cS1 hB (cS5 hB (hB.ty ht_s0 rfl) 0 rfl).2 0 rfl).1 dX5_storey_38 ?_
      refine lv_aload_n hx hb dX5_storey_41 rfl (lv_at hl 1 rfl) ?_
      refine g_getr S hB (hB.ty ht_s0 rfl) rfl (T := TX5) (N := 11) (C := RX5) rfl in_X5 1 (by decide) (by decide) q430 (fun _ h9 => h9) (fun _ => rfl) (cS5 hB (hB.ty ht_s0 rfl) 0 rfl).1 dX5_storey_42 ?_
      refine g_getN S hB (cS5 hB (hB.ty ht_s0 rfl) 0 rfl).2 rfl (T := TX1) (N := 16) (C := RX1) rfl in_X1 5 (by decide) (by decide) (zNFw hB 31 rfl) (fun _ h9 => h9) (v := .int (zI μ3 (s0 + 1) 5)) rfl dX5_storey_45 ?_
      refine lv_iload_n hx hb dX5_storey_48 rfl (lv_at hl 0 rfl) ?_
      obtain ⟨hi, hp⟩ := hp
      obtain ⟨μ5, eμ5, hp⟩ := zpI_e hp
      refine g_iast S hB (cS1 hB (cS5 hB (hB.ty ht_s0 rfl) 0 rfl).2 0 rfl).2 hi dX5_storey_49 (fun H locs hB => ?_)
      rw [← eμ5] at hB
      refine lv_aload_n hx hb dX5_storey_50 rfl (lv_at hl 1 rfl) ?_
      refine g_getr S hB (hB.ty ht_s0 rfl) rfl (T := TX5) (N := 11) (C := RX5) rfl in_X5 1 (by decide) (by decide) q430 (fun _ h9 => h9) (fun _ => rfl) (cS5 hB (hB.ty ht_s0 rfl) 0 rfl).1 dX5_storey_51 ?_
      refine lv_dup hx hb dX5_storey_54 rfl ?_
      refine g_getN S hB (cS5 hB (hB.ty ht_s0 rfl) 0 rfl).2 rfl (T := TX1) (N := 16) (C := RX1) rfl in_X1 5 (by decide) (by decide) (zNFw hB 31 rfl) (fun _ h9 => h9) (v := .int (zI μ5 (s0 + 1) 5)) rfl dX5_storey_55 ?_
      refine lv_iconst (v := (nI 1)) hx hb dX5_storey_58 rfl ?_
      refine lv_iadd hx hb dX5_storey_59 ?_
      obtain ⟨μ6, eμ6, hp⟩ := zpI_e hp
      refine g_putIN S hB (cS5 hB (hB.ty ht_s0 rfl) 0 rfl).2 rfl (T := TX1) (N := 16) (C := RX1) rfl in_X1 5 (by decide) (by decide) (x := ((zI μ5 (s0 + 1) 5) + (nI 1))) tyX1 tyX1_ok nmX1 (zNFw hB 31 rfl) (fun _ h9 => h9) rfl (ty := .int) (by decide +kernel) rfl rfl (fun _ _ => rfl) dX5_storey_60 (fun H locs hB => ?_)
      rw [← eμ6] at hB
      exact zret_v X hB hp dX5_storey_63
    · have hp := zif hp c0
      exact zret_v X hB hp dX5_storey_33
  · have hp := zit hp c0
    exact zret_v X hB hp dX5_storey_16
def pX5_flag (z : Nat) (s0 : Nat) (x1 : Int32) (μ : zM) (Q : Int32 → zM → Prop) : Prop := zty μ s0 = some (.inl 5) ∧ (pX5_takes z s0 4 μ fun r2 μ1 => (if r2 = 0 then (pX5_takes z s0 5 μ1 fun r4 μ3 => (if r4 = 0 then Q (nI 0) μ3 else (pX5_emptyStorey z s0 x1 μ3 fun r6 μ5 => (vp_in x1 6 ∧ zpI μ5 ((s0 + 1) + 4) x1.toNatClampNeg r6 fun μ7 => Q (nI 1) μ7)))) else (pX5_number z s0 (nI 0) (nI 99) μ1 fun r9 μ8 => (vp_in x1 6 ∧ zpI μ8 ((s0 + 1) + 3) x1.toNatClampNeg r9 fun μ10 => Q (nI 1) μ10))))
theorem tX5_flag {z : Nat} {s0 : Nat} {x1 : Int32} {μ : zM} {Q : Int32 → zM → Prop} (h : pX5_flag z s0 x1 μ Q) : zty μ s0 = some (.inl 5) := h.1
theorem hX5_flag : yX5_flag.cls = "SunkTower$Reader" ∧ yX5_flag.cls ≠ "java/lang/invoke/MethodHandle" ∧ yX5_flag.cls ≠ "java/lang/invoke/VarHandle" ∧ (parseMethodDescriptor yX5_flag.desc).map (fun d => d.parameters.length) = some 1 := by decide +kernel
set_option maxHeartbeats 4000000 in
set_option maxRecDepth 100000 in
theorem mX5_flag (l : Launch) (Γ : zG) (z : Nat) (s0 : Nat) (x1 : Int32) (μ : zM) (Q : Int32 → zM → Prop) (hp : pX5_flag z s0 x1 μ Q) : Met l yX5_flag (ws_ yX5_flag cX5_flag 2 (some .boolean)) ({ frames := 7, cells := 0, slots := 0, locals := 156 } : Room) (va_Pc [.ref s0, .int x1] (zPre Γ (cSh z) μ)) (va_Qi Q (zPost Γ (cSh z) μ) (zA μ)) 0 0 (zA μ) := by
  refine zstart (by decide) (Nat.le_of_ble_eq_true rfl) ?_
  intro p e s m below meth c ls X hnm hB hl
  have X : zCx p m c cX5_flag 2 s [.ref s0, .int x1].toArray RX5 meth (some .boolean) := X
  have S := X.1
  obtain ⟨hx, hb, hml, hown, hts⟩ := X.1
  have hl : lv_has ls 2 [(0, .ref s0), (1, .int x1)] := hl
  obtain ⟨ht_s0, hp⟩ := hp
  refine lv_aload_n hx hb dX5_flag_0 rfl (lv_at hl 0 rfl) ?_
  refine g_ldcs S hB (i := 5) rfl dX5_flag_1 ?_
  refine z_calli (va_runV (As := [.ref (Γ.2.2.1 4)]) (rest := []) S (mX5_takes l Γ z s0 4 μ _ hp) (cwV 1 hts (lw_V q634 q636 qs13 q133 q637) rfl rfl rfl hX5_takes ⟨Nat.le_of_ble_eq_true rfl, Nat.le_of_ble_eq_true rfl⟩) (hB.preV (hB.ty ht_s0 rfl) rfl rfl) rfl rfl hl.1 rfl (lv_room (Nat.le_of_ble_eq_true rfl)) dX5_flag_3 ⟨Nat.le_refl _, Nat.le_refl _⟩) hB (fun r2 μ1 H locs hp hB => ?_)
  refine lv_if_eq (tgt := 28) hx hb dX5_flag_6 rfl (fun c0 => ?_) (fun c0 => ?_)
  · have hp := zit hp c0
    refine lv_aload_n hx hb dX5_flag_28 rfl (lv_at hl 0 rfl) ?_
    refine g_ldcs S hB (i := 6) rfl dX5_flag_29 ?_
    refine z_calli (va_runV (As := [.ref (Γ.2.2.1 5)]) (rest := []) S (mX5_takes l Γ z s0 5 μ1 _ hp) (cwV 1 hts (lw_V q634 q636 qs13 q133 q637) rfl rfl rfl hX5_takes ⟨Nat.le_of_ble_eq_true rfl, Nat.le_of_ble_eq_true rfl⟩) (hB.preV (hB.ty ht_s0 rfl) rfl rfl) rfl rfl hl.1 rfl (lv_room (Nat.le_of_ble_eq_true rfl)) dX5_flag_31 ⟨Nat.le_refl _, Nat.le_refl _⟩) hB (fun r4 μ3 H locs hp hB => ?_)
    refine lv_if_eq (tgt := 54) hx hb dX5_flag_34 rfl (fun c0 => ?_) (fun c0 => ?_)
    · have hp := zit hp c0
      refine lv_iconst (v := (nI 0)) hx hb dX5_flag_54 rfl ?_
      exact zret_z X hB rfl hp dX5_flag_55
    · have hp := zif hp c0
      refine lv_aload_n hx hb dX5_flag_37 rfl (lv_at hl 0 rfl) ?_
      refine g_getr S hB (hB.ty ht_s0 rfl) rfl (T := TX5) (N := 11) (C := RX5) rfl in_X5 1 (by decide) (by decide) q430 (fun _ h9 => h9) (fun _ => rfl) (cS5 hB (hB.ty ht_s0 rfl) 0 rfl).1 dX5_flag_38 ?_
      refine g_getrN S hB (cS5 hB (hB.ty ht_s0 rfl) 0 rfl).2 rfl (T := TX1) (N := 16) (C := RX1) rfl in_X1 3 (by decide) (by decide) (zNFw hB 30 rfl) (fun _ h9 => h9) (fun _ => rfl) (cS1 hB (cS5 hB (hB.ty ht_s0 rfl) 0 rfl).2 3 rfl).1 dX5_flag_41 ?_
      refine lv_iload_n hx hb dX5_flag_44 rfl (lv_at hl 1 rfl) ?_
      refine lv_aload_n hx hb dX5_flag_45 rfl (lv_at hl 0 rfl) ?_
      refine lv_iload_n hx hb dX5_flag_46 rfl (lv_at hl 1 rfl) ?_
      refine z_calli (va_runV (As := [.int x1]) (rest := [.int x1, .ref ((s0 + 1) + 4)]) S (mX5_emptyStorey l Γ z s0 x1 μ3 _ hp) (cwV 1 hts (lw_V q639 q641 qs14 q133 q642) rfl rfl rfl hX5_emptyStorey ⟨Nat.le_of_ble_eq_true rfl, Nat.le_of_ble_eq_true rfl⟩) (hB.preV (hB.ty ht_s0 rfl) rfl rfl) rfl rfl hl.1 rfl (lv_room (Nat.le_of_ble_eq_true rfl)) dX5_flag_47 ⟨Nat.le_refl _, Nat.le_refl _⟩) hB (fun r6 μ5 H locs hp hB => ?_)
      obtain ⟨hi, hp⟩ := hp
      obtain ⟨μ7, eμ7, hp⟩ := zpI_e hp
      refine g_iast S hB (cS1 hB (cS5 hB (hB.ty ht_s0 rfl) 0 rfl).2 3 rfl).2 hi dX5_flag_50 (fun H locs hB => ?_)
      rw [← eμ7] at hB
      refine lv_goto (tgt := 56) hx hb dX5_flag_51 rfl ?_
      refine lv_iconst (v := (nI 1)) hx hb dX5_flag_56 rfl ?_
      exact zret_z X hB rfl hp dX5_flag_57
  · have hp := zif hp c0
    refine lv_aload_n hx hb dX5_flag_9 rfl (lv_at hl 0 rfl) ?_
    refine g_getr S hB (hB.ty ht_s0 rfl) rfl (T := TX5) (N := 11) (C := RX5) rfl in_X5 1 (by decide) (by decide) q430 (fun _ h9 => h9) (fun _ => rfl) (cS5 hB (hB.ty ht_s0 rfl) 0 rfl).1 dX5_flag_10 ?_
    refine g_getrN S hB (cS5 hB (hB.ty ht_s0 rfl) 0 rfl).2 rfl (T := TX1) (N := 16) (C := RX1) rfl in_X1 2 (by decide) (by decide) (zNFw hB 29 rfl) (fun _ h9 => h9) (fun _ => rfl) (cS1 hB (cS5 hB (hB.ty ht_s0 rfl) 0 rfl).2 2 rfl).1 dX5_flag_13 ?_
    refine lv_iload_n hx hb dX5_flag_16 rfl (lv_at hl 1 rfl) ?_
    refine lv_aload_n hx hb dX5_flag_17 rfl (lv_at hl 0 rfl) ?_
    refine lv_iconst (v := (nI 0)) hx hb dX5_flag_18 rfl ?_
    refine lv_bipush (v := (nI 99)) hx hb dX5_flag_19 rfl ?_
    refine z_calli (va_runV (As := [.int (nI 0), .int (nI 99)]) (rest := [.int x1, .ref ((s0 + 1) + 3)]) S (mX5_number l Γ z s0 (nI 0) (nI 99) μ1 _ hp) (cwV 2 hts (lw_V q620 q622 qs10 q133 q623) rfl rfl rfl hX5_number ⟨Nat.le_of_ble_eq_true rfl, Nat.le_of_ble_eq_true rfl⟩) (hB.preV (hB.ty ht_s0 rfl) rfl rfl) rfl rfl hl.1 rfl (lv_room (Nat.le_of_ble_eq_true rfl)) dX5_flag_21 ⟨Nat.le_refl _, Nat.le_refl _⟩) hB (fun r9 μ8 H locs hp hB => ?_)
    obtain ⟨hi, hp⟩ := hp
    obtain ⟨μ10, eμ10, hp⟩ := zpI_e hp
    refine g_iast S hB (cS1 hB (cS5 hB (hB.ty ht_s0 rfl) 0 rfl).2 2 rfl).2 hi dX5_flag_24 (fun H locs hB => ?_)
    rw [← eμ10] at hB
    refine lv_goto (tgt := 56) hx hb dX5_flag_25 rfl ?_
    refine lv_iconst (v := (nI 1)) hx hb dX5_flag_56 rfl ?_
    exact zret_z X hB rfl hp dX5_flag_57
def pX5_build (z : Nat) (s0 : Nat) (μ : zM) (Q : zM → Prop) : Prop := zty μ s0 = some (.inl 5) ∧ (pX5_mustWord z s0 18 μ fun μ1 => (pX5_number z s0 (nI 0) (nI 999) μ1 fun r3 μ2 => (pX5_mustWord z s0 19 μ2 fun μ4 => (pX5_number z s0 (nI 0) (nI 999) μ4 fun r6 μ5 => (if (zI μ5 s0 6) = 0 then (zpI μ5 (s0 + 1) 9 r3 fun μ7 => (zpI μ7 (s0 + 1) 10 r6 fun μ8 => Q μ8)) else Q μ5)))))
theorem tX5_build {z : Nat} {s0 : Nat} {μ : zM} {Q : zM → Prop} (h : pX5_build z s0 μ Q) : zty μ s0 = some (.inl 5) := h.1
theorem hX5_build : yX5_build.cls = "SunkTower$Reader" ∧ yX5_build.cls ≠ "java/lang/invoke/MethodHandle" ∧ yX5_build.cls ≠ "java/lang/invoke/VarHandle" ∧ (parseMethodDescriptor yX5_build.desc).map (fun d => d.parameters.length) = some 0 := by decide +kernel
set_option maxHeartbeats 4000000 in
set_option maxRecDepth 100000 in
theorem mX5_build (l : Launch) (Γ : zG) (z : Nat) (s0 : Nat) (μ : zM) (Q : zM → Prop) (hp : pX5_build z s0 μ Q) : Met l yX5_build (ws_ yX5_build cX5_build 3 none) ({ frames := 7, cells := 0, slots := 0, locals := 153 } : Room) (va_Pc [.ref s0] (zPre Γ (cSh z) μ)) (va_Qv Q (zPost Γ (cSh z) μ) (zA μ)) 0 0 (zA μ) := by
  refine zstart (by decide) (Nat.le_of_ble_eq_true rfl) ?_
  intro p e s m below meth c ls X hnm hB hl
  have X : zCx p m c cX5_build 3 s [.ref s0].toArray RX5 meth none := X
  have S := X.1
  obtain ⟨hx, hb, hml, hown, hts⟩ := X.1
  have hl : lv_has ls 3 [(0, .ref s0)] := hl
  obtain ⟨ht_s0, hp⟩ := hp
  refine lv_aload_n hx hb dX5_build_0 rfl (lv_at hl 0 rfl) ?_
  refine g_ldcs S hB (i := 19) rfl dX5_build_1 ?_
  refine z_callv (va_runV (As := [.ref (Γ.2.2.1 18)]) (rest := []) S (mX5_mustWord l Γ z s0 18 μ _ hp) (cwV 1 hts (lw_V q735 q737 qs25 q133 q738) rfl rfl rfl hX5_mustWord ⟨Nat.le_of_ble_eq_true rfl, Nat.le_of_ble_eq_true rfl⟩) (hB.preV (hB.ty ht_s0 rfl) rfl rfl) rfl rfl hl.1 rfl (lv_room (Nat.le_of_ble_eq_true rfl)) dX5_build_3 ⟨Nat.le_refl _, Nat.le_refl _⟩) hB (fun μ1 H locs hp hB => ?_)
  refine lv_aload_n hx hb dX5_build_6 rfl (lv_at hl 0 rfl) ?_
  refine lv_iconst (v := (nI 0)) hx hb dX5_build_7 rfl ?_
  refine lv_sipush (v := (nI 999)) hx hb dX5_build_8 rfl ?_
  refine z_calli (va_runV (As := [.int (nI 0), .int (nI 999)]) (rest := []) S (mX5_number l Γ z s0 (nI 0) (nI 999) μ1 _ hp) (cwV 2 hts (lw_V q620 q622 qs10 q133 q623) rfl rfl rfl hX5_number ⟨Nat.le_of_ble_eq_true rfl, Nat.le_of_ble_eq_true rfl⟩) (hB.preV (hB.ty ht_s0 rfl) rfl rfl) rfl rfl hl.1 rfl (lv_room (Nat.le_of_ble_eq_true rfl)) dX5_build_11 ⟨Nat.le_refl _, Nat.le_refl _⟩) hB (fun r3 μ2 H locs hp hB => ?_)
  refine lv_istore_n (lv' := [(1, .int r3), (0, .ref s0)]) hx hb dX5_build_14 rfl hl (by decide) rfl (fun ls hl => ?_)
  refine lv_aload_n hx hb dX5_build_15 rfl (lv_at hl 1 rfl) ?_
  refine g_ldcs S hB (i := 20) rfl dX5_build_16 ?_
  refine z_callv (va_runV (As := [.ref (Γ.2.2.1 19)]) (rest := []) S (mX5_mustWord l Γ z s0 19 μ2 _ hp) (cwV 1 hts (lw_V q735 q737 qs25 q133 q738) rfl rfl rfl hX5_mustWord ⟨Nat.le_of_ble_eq_true rfl, Nat.le_of_ble_eq_true rfl⟩) (hB.preV (hB.ty ht_s0 rfl) rfl rfl) rfl rfl hl.1 rfl (lv_room (Nat.le_of_ble_eq_true rfl)) dX5_build_18 ⟨Nat.le_refl _, Nat.le_refl _⟩) hB (fun μ4 H locs hp hB => ?_)
  refine lv_aload_n hx hb dX5_build_21 rfl (lv_at hl 1 rfl) ?_
  refine lv_iconst (v := (nI 0)) hx hb dX5_build_22 rfl ?_
  refine lv_sipush (v := (nI 999)) hx hb dX5_build_23 rfl ?_
  refine z_calli (va_runV (As := [.int (nI 0), .int (nI 999)]) (rest := []) S (mX5_number l Γ z s0 (nI 0) (nI 999) μ4 _ hp) (cwV 2 hts (lw_V q620 q622 qs10 q133 q623) rfl rfl rfl hX5_number ⟨Nat.le_of_ble_eq_true rfl, Nat.le_of_ble_eq_true rfl⟩) (hB.preV (hB.ty ht_s0 rfl) rfl rfl) rfl rfl hl.1 rfl (lv_room (Nat.le_of_ble_eq_true rfl)) dX5_build_26 ⟨Nat.le_refl _, Nat.le_refl _⟩) hB (fun r6 μ5 H locs hp hB => ?_)
  refine lv_istore_n (lv' := [(2, .int r6), (1, .int r3), (0, .ref s0)]) hx hb dX5_build_29 rfl hl (by decide) rfl (fun ls hl => ?_)
  refine lv_aload_n hx hb dX5_build_30 rfl (lv_at hl 2 rfl) ?_
  refine g_get S hB (hB.ty ht_s0 rfl) rfl (T := TX5) (N := 11) (C := RX5) rfl in_X5 6 (by decide) (by decide) q436 (fun _ h9 => h9) (v := .int (zI μ5 s0 6)) rfl dX5_build_31 ?_
  refine lv_if_eq (tgt := 38) hx hb dX5_build_34 rfl (fun c0 => ?_) (fun c0 => ?_)
  · have hp := zit hp c0
    refine lv_aload_n hx hb dX5_build_38 rfl (lv_at hl 2 rfl) ?_
    refine g_getr S hB (hB.ty ht_s0 rfl) rfl (T := TX5) (N := 11) (C := RX5) rfl in_X5 1 (by decide) (by decide) q430 (fun _ h9 => h9) (fun _ => rfl) (cS5 hB (hB.ty ht_s0 rfl) 0 rfl).1 dX5_build_39 ?_
    refine lv_iload_n hx hb dX5_build_42 rfl (lv_at hl 1 rfl) ?_
    obtain ⟨μ7, eμ7, hp⟩ := zpI_e hp
    refine g_putIN S hB (cS5 hB (hB.ty ht_s0 rfl) 0 rfl).2 rfl (T := TX1) (N := 16) (C := RX1) rfl in_X1 9 (by decide) (by decide) (x := r3) tyX1 tyX1_ok nmX1 (zNFw hB 35 rfl) (fun _ h9 => h9) rfl (ty := .int) (by decide +kernel) rfl rfl (fun _ _ => rfl) dX5_build_43 (fun H locs hB => ?_)
    rw [← eμ7] at hB
    refine lv_aload_n hx hb dX5_build_46 rfl (lv_at hl 2 rfl) ?_
    refine g_getr S hB (hB.ty ht_s0 rfl) rfl (T := TX5) (N := 11) (C := RX5) rfl in_X5 1 (by decide) (by decide) q430 (fun _ h9 => h9) (fun _ => rfl) (cS5 hB (hB.ty ht_s0 rfl) 0 rfl).1 dX5_build_47 ?_
    refine lv_iload_n hx hb dX5_build_50 rfl (lv_at hl 0 rfl) ?_
    obtain ⟨μ8, eμ8, hp⟩ := zpI_e hp
    refine g_putIN S hB (cS5 hB (hB.ty ht_s0 rfl) 0 rfl).2 rfl (T := TX1) (N := 16) (C := RX1) rfl in_X1 10 (by decide) (by decide) (x := r6) tyX1 tyX1_ok nmX1 (zNFw hB 36 rfl) (fun _ h9 => h9) rfl (ty := .int) (by decide +kernel) rfl rfl (fun _ _ => rfl) dX5_build_51 (fun H locs hB => ?_)
    rw [← eμ8] at hB
    exact zret_v X hB hp dX5_build_54
  · have hp := zif hp c0
    exact zret_v X hB hp dX5_build_37
def pX0_months (z : Nat) (x1 : Int32) (μ : zM) (Q : Int32 → zM → Prop) : Prop := (pX0_in z (x1.toInt64) (1 : Int64) (99 : Int64) μ fun r2 μ1 => (if r2 = 0 then Q (-3 : Int32) μ1 else (pX0_keeps z μ1 fun μ3 => (pX2_goesOn z (z + 7) x1 μ3 fun r5 μ4 => Q r5 μ4))))
theorem hX0_months : yX0_months.cls = "SunkTower" ∧ yX0_months.cls ≠ "java/lang/invoke/MethodHandle" ∧ yX0_months.cls ≠ "java/lang/invoke/VarHandle" ∧ (parseMethodDescriptor yX0_months.desc).map (fun d => d.parameters.length) = some 1 := by decide +kernel
set_option maxHeartbeats 4000000 in
set_option maxRecDepth 100000 in
theorem mX0_months (l : Launch) (Γ : zG) (z : Nat) (x1 : Int32) (μ : zM) (Q : Int32 → zM → Prop) (hp : pX0_months z x1 μ Q) : Met l yX0_months (ws_ yX0_months cX0_months 2 (some .int)) ({ frames := 465, cells := 0, slots := 0, locals := 12537 } : Room) (va_Pc [.ref z, .int x1] (zPre Γ (cSh z) μ)) (va_Qi Q (zPost Γ (cSh z) μ) (zA μ)) 0 0 (zA μ) := by
  refine zstart (by decide) (Nat.le_of_ble_eq_true rfl) ?_
  intro p e s m below meth c ls X hnm hB hl
  have X : zCx p m c cX0_months 2 s [.ref z, .int x1].toArray RX0 meth (some .int) := X
  have S := X.1
  obtain ⟨hx, hb, hml, hown, hts⟩ := X.1
  have hl : lv_has ls 2 [(0, .ref z), (1, .int x1)] := hl
  unfold pX0_months at hp
  refine lv_iload_n hx hb dX0_months_0 rfl (lv_at hl 1 rfl) ?_
  refine lv_i2l hx hb dX0_months_1 rfl ?_
  refine lv_lconst (v := (1 : Int64)) hx hb dX0_months_2 rfl ?_
  refine lv_ldc2 (v := (99 : Int64)) hx hb hown (hts _ q857) dX0_months_3 ?_
  refine z_calli (va_runS (As := [.long (x1.toInt64), .long (1 : Int64), .long (99 : Int64)]) (rest := []) S (mX0_in l Γ z (x1.toInt64) (1 : Int64) (99 : Int64) μ _ hp) (va_cwS 3 hts (lw_S q418 q419 q127 q420) rfl rfl rfl hX0_in ⟨Nat.le_of_ble_eq_true rfl, Nat.le_of_ble_eq_true rfl⟩) hB.preS rfl rfl hl.1 rfl (lv_room (Nat.le_of_ble_eq_true rfl)) dX0_months_6 ⟨Nat.le_refl _, Nat.le_refl _⟩) hB (fun r2 μ1 H locs hp hB => ?_)
  refine lv_if_ne (tgt := 15) hx hb dX0_months_9 rfl (fun c0 => ?_) (fun c0 => ?_)
  · have hp := zif hp c0
    refine lv_aload_n hx hb dX0_months_15 rfl (lv_at hl 0 rfl) ?_
    refine z_callv (va_runV (As := []) (rest := []) S (mX0_keeps l Γ z μ1 _ hp) (cwV 0 hts (lw_V q858 q860 qs29 q127 q861) rfl rfl rfl hX0_keeps ⟨Nat.le_of_ble_eq_true rfl, Nat.le_of_ble_eq_true rfl⟩) (hB.preV (cT hB) rfl rfl) rfl rfl hl.1 rfl (lv_room (Nat.le_of_ble_eq_true rfl)) dX0_months_16 ⟨Nat.le_refl _, Nat.le_refl _⟩) hB (fun μ3 H locs hp hB => ?_)
    refine lv_aload_n hx hb dX0_months_19 rfl (lv_at hl 0 rfl) ?_
    refine g_getr S hB (cT hB) rfl (T := TX0) (N := 33) (C := RX0) rfl in_X0 1 (by decide) (by decide) q305 (fun _ h9 => h9) (fun _ => rfl) (cA hB 0 rfl).1 dX0_months_20 ?_
    refine lv_iload_n hx hb dX0_months_23 rfl (lv_at hl 1 rfl) ?_
    refine z_calli (va_runV (As := [.int x1]) (rest := []) S (mX2_goesOn l Γ z (z + 7) x1 μ3 _ hp) (cwV 1 hts (lw_V q867 q868 q869 q129 q870) rfl rfl rfl hX2_goesOn ⟨Nat.le_of_ble_eq_true rfl, Nat.le_of_ble_eq_true rfl⟩) (hB.preV (tX2_goesOn hp) rfl rfl) rfl rfl hl.1 rfl (lv_room (Nat.le_of_ble_eq_true rfl)) dX0_months_24 ⟨Nat.le_refl _, Nat.le_refl _⟩) hB (fun r5 μ4 H locs hp hB => ?_)
    exact zret_i X hB hp dX0_months_27
  · have hp := zit hp c0
    refine lv_bipush (v := (-3 : Int32)) hx hb dX0_months_12 rfl ?_
    exact zret_i X hB hp dX0_months_14
def pX0_laysRings_99 (z : Nat) (x1 : Nat) (K58 : Int32 → zM → Prop) (K64 : Int32 → Int32 → zM → Prop) (Q : zM → Prop) (x2 : Int32) (x3 : Int32) (y3 : Int32) (y2 : Int32) (μ : zM) : Prop := (vp_in y2 6 ∧ zpI μ (z + 58) y2.toNatClampNeg y3 fun μ1 => K64 x2 (x3 + (nI 1)) μ1)
set_option maxHeartbeats 4000000 in
set_option maxRecDepth 100000 in
theorem wX0_laysRings_99 {p : Program} {l : Launch} {e : Env} {s : State} {m : MethodId} {args : Array Value} {below : List Frame} {meth : Method} {c : Code} {Γ : zG} {μ0 : zM} {Q : zM → Prop} {K58 : Int32 → zM → Prop} {K64 : Int32 → Int32 → zM → Prop} (X : zCx p m c cX0_laysRings 4 s args RX0 meth none) {x1 : Nat} (ht_x1 : zty μ0 x1 = some (.inl 2)) (z : Nat) (hK58 : ∀ (x2 : Int32) (μ : zM) (H : Heap) (locs : List Loc) (ls : Array Slot), K58 x2 μ → zB Γ (cSh z) (zA μ0) μ0 s μ H locs → lv_has ls 4 [(0, .ref z), (1, .ref x1), (2, .int x2)] → W p l e ({ frames := 464, cells := 0, slots := 0, locals := 12521 } : Room) s m args below meth c H locs 0 0 (MQ below (va_Qv Q (zPost Γ (cSh z) μ0) (zA μ0)) args s 0 0 (zA μ0)) (F0 m 58 ls [])) (hK64 : ∀ (x2 : Int32) (x3 : Int32) (μ : zM) (H : Heap) (locs : List Loc) (ls : Array Slot), K64 x2 x3 μ → zB Γ (cSh z) (zA μ0) μ0 s μ H locs → lv_has ls 4 [(0, .ref z), (1, .ref x1), (2, .int x2), (3, .int x3)] → W p l e ({ frames := 464, cells := 0, slots := 0, locals := 12521 } : Room) s m args below meth c H locs 0 0 (MQ below (va_Qv Q (zPost Γ (cSh z) μ0) (zA μ0)) args s 0 0 (zA μ0)) (F0 m 64 ls [])) : ∀ (x2 : Int32) (x3 : Int32) (y3 : Int32) (y2 : Int32) (μ : zM) (H : Heap) (locs : List Loc) (ls : Array Slot), pX0_laysRings_99 z x1 K58 K64 Q x2 x3 y3 y2 μ → zB Γ (cSh z) (zA μ0) μ0 s μ H locs → lv_has ls 4 [(0, .ref z), (1, .ref x1), (2, .int x2), (3, .int x3)] → W p l e ({ frames := 464, cells := 0, slots := 0, locals := 12521 } : Room) s m args below meth c H locs 0 0 (MQ below (va_Qv Q (zPost Γ (cSh z) μ0) (zA μ0)) args s 0 0 (zA μ0)) (F0 m 99 ls [.int y3, .int y2, .ref (z + 58)]) := by
  have S := X.1
  obtain ⟨hx, hb, hml, hown, hts⟩ := X.1
  intro x2 x3 y3 y2 μ H locs ls hp hB hl
  unfold pX0_laysRings_99 at hp
  obtain ⟨hi, hp⟩ := hp
  obtain ⟨μ1, eμ1, hp⟩ := zpI_e hp
  refine g_iast S hB (cA hB 5 rfl).2 hi dX0_laysRings_99 (fun H locs hB => ?_)
  rw [← eμ1] at hB
  refine lv_iinc (v := (x3 + (nI 1))) (lv' := [(3, .int (x3 + (nI 1))), (0, .ref z), (1, .ref x1), (2, .int x2)]) hx hb dX0_laysRings_100 hl (k := 3) rfl rfl (by decide) rfl (fun ls hl => ?_)
  refine lv_goto (tgt := 64) hx hb dX0_laysRings_103 rfl ?_
  exact hK64 x2 (x3 + (nI 1)) μ1 _ _ _ hp hB (lv_sub hl [1, 2, 3, 0] rfl)
def pX0_laysRings_64 (z : Nat) (x1 : Nat) (K58 : Int32 → zM → Prop) (Q : zM → Prop) : Nat → Int32 → Int32 → zM → Prop
  | 0, _, _, _ => False
  | n + 1, x2, x3, μ => (zde (zR μ z 0) fun b1 => (zty μ b1 = some (.inl 1) ∧ (if (zI μ b1 6) ≤ x3 then (pX0_comeRound z x1 x2 μ fun r4 μ3 => K58 (x2 &&& (r4 ^^^ (-1 : Int32))) μ3) else (pX0_has z x2 x3 μ fun r6 μ5 => (if r6 = 0 then pX0_laysRings_99 z x1 K58 (fun v0 v1 ν => pX0_laysRings_64 z x1 K58 Q n v0 v1 ν) Q x2 x3 (-1 : Int32) x3 μ5 else (pX0_pointsAt z x1 x3 x2 μ5 fun r8 μ7 => pX0_laysRings_99 z x1 K58 (fun v0 v1 ν => pX0_laysRings_64 z x1 K58 Q n v0 v1 ν) Q x2 x3 r8 x3 μ7))))))
set_option maxHeartbeats 4000000 in
set_option maxRecDepth 100000 in
theorem wX0_laysRings_64 {p : Program} {l : Launch} {e : Env} {s : State} {m : MethodId} {args : Array Value} {below : List Frame} {meth : Method} {c : Code} {Γ : zG} {μ0 : zM} {Q : zM → Prop} {K58 : Int32 → zM → Prop} (X : zCx p m c cX0_laysRings 4 s args RX0 meth none) {x1 : Nat} (ht_x1 : zty μ0 x1 = some (.inl 2)) (z : Nat) (hK58 : ∀ (x2 : Int32) (μ : zM) (H : Heap) (locs : List Loc) (ls : Array Slot), K58 x2 μ → zB Γ (cSh z) (zA μ0) μ0 s μ H locs → lv_has ls 4 [(0, .ref z), (1, .ref x1), (2, .int x2)] → W p l e ({ frames := 464, cells := 0, slots := 0, locals := 12521 } : Room) s m args below meth c H locs 0 0 (MQ below (va_Qv Q (zPost Γ (cSh z) μ0) (zA μ0)) args s 0 0 (zA μ0)) (F0 m 58 ls [])) : ∀ (n : Nat) (x2 : Int32) (x3 : Int32) (μ : zM) (H : Heap) (locs : List Loc) (ls : Array Slot), pX0_laysRings_64 z x1 K58 Q n x2 x3 μ → zB Γ (cSh z) (zA μ0) μ0 s μ H locs → lv_has ls 4 [(0, .ref z), (1, .ref x1), (2, .int x2), (3, .int x3)] → W p l e ({ frames := 464, cells := 0, slots := 0, locals := 12521 } : Room) s m args below meth c H locs 0 0 (MQ below (va_Qv Q (zPost Γ (cSh z) μ0) (zA μ0)) args s 0 0 (zA μ0)) (F0 m 64 ls []) := by
  have S := X.1
  obtain ⟨hx, hb, hml, hown, hts⟩ := X.1
  intro n
  induction n with
  | zero =>
    intro x2 x3 μ H locs ls hp
    exact hp.elim
  | succ n ih =>
    intro x2 x3 μ H locs ls hp hB hl
    unfold pX0_laysRings_64 at hp
    refine lv_iload_n hx hb dX0_laysRings_64 rfl (lv_at hl 3 rfl) ?_
    refine lv_aload_n hx hb dX0_laysRings_65 rfl (lv_at hl 0 rfl) ?_
    refine g_get S hB (cT hB) rfl (T := TX0) (N := 33) (C := RX0) rfl in_X0 0 (by decide) (by decide) q304 (fun _ h9 => h9) (v := va_rf (zR μ z 0)) rfl dX0_laysRings_66 ?_
    obtain ⟨b1, eb, hp⟩ := hp
    refine W.eq (g2 := F0 m 69 ls [.ref b1, .int x3]) (by rw [eb]; rfl) ?_
    obtain ⟨ht2, hp⟩ := hp
    refine g_getN S hB ht2 rfl (T := TX1) (N := 16) (C := RX1) rfl in_X1 6 (by decide) (by decide) (zNFw hB 1 rfl) (fun _ h9 => h9) (v := .int (zI μ b1 6)) rfl dX0_laysRings_69 ?_
    refine lv_icmp_ge (tgt := 106) hx hb dX0_laysRings_72 rfl (fun c0 => ?_) (fun c0 => ?_)
    · have hp := zit hp c0
      refine lv_iload_n hx hb dX0_laysRings_106 rfl (lv_at hl 2 rfl) ?_
      refine lv_aload_n hx hb dX0_laysRings_107 rfl (lv_at hl 0 rfl) ?_
      refine lv_aload_n hx hb dX0_laysRings_108 rfl (lv_at hl 1 rfl) ?_
      refine lv_iload_n hx hb dX0_laysRings_109 rfl (lv_at hl 2 rfl) ?_
      refine z_calli (va_runV (As := [.ref x1, .int x2]) (rest := [.int x2]) S (mX0_comeRound l Γ z x1 x2 μ _ hp) (cwV 2 hts (lw_V q928 q930 qs32 q127 q931) rfl rfl rfl hX0_comeRound ⟨Nat.le_of_ble_eq_true rfl, Nat.le_of_ble_eq_true rfl⟩) (hB.preV (cT hB) rfl rfl) rfl rfl hl.1 rfl (lv_room (Nat.le_of_ble_eq_true rfl)) dX0_laysRings_110 ⟨Nat.le_refl _, Nat.le_refl _⟩) hB (fun r4 μ3 H locs hp hB => ?_)
      refine lv_iconst (v := (-1 : Int32)) hx hb dX0_laysRings_113 rfl ?_
      refine lv_ixor hx hb dX0_laysRings_114 ?_
      refine lv_iand hx hb dX0_laysRings_115 ?_
      refine lv_istore_n (lv' := [(2, .int (x2 &&& (r4 ^^^ (-1 : Int32)))), (0, .ref z), (1, .ref x1), (3, .int x3)]) hx hb dX0_laysRings_116 rfl hl (by decide) rfl (fun ls hl => ?_)
      refine lv_goto (tgt := 58) hx hb dX0_laysRings_117 rfl ?_
      exact hK58 (x2 &&& (r4 ^^^ (-1 : Int32))) μ3 _ _ _ hp hB (lv_sub hl [1, 2, 0] rfl)
    · have hp := zif hp c0
      refine lv_aload_n hx hb dX0_laysRings_75 rfl (lv_at hl 0 rfl) ?_
      refine g_getr S hB (cT hB) rfl (T := TX0) (N := 33) (C := RX0) rfl in_X0 12 (by decide) (by decide) q318 (fun _ h9 => h9) (fun _ => rfl) (cA hB 5 rfl).1 dX0_laysRings_76 ?_
      refine lv_iload_n hx hb dX0_laysRings_79 rfl (lv_at hl 3 rfl) ?_
      refine lv_iload_n hx hb dX0_laysRings_80 rfl (lv_at hl 2 rfl) ?_
      refine lv_iload_n hx hb dX0_laysRings_81 rfl (lv_at hl 3 rfl) ?_
      refine z_calli (va_runS (As := [.int x2, .int x3]) (rest := [.int x3, .ref (z + 58)]) S (mX0_has l Γ z x2 x3 μ _ hp) (va_cwS 2 hts (lw_S q921 q922 q127 q923) rfl rfl rfl hX0_has ⟨Nat.le_of_ble_eq_true rfl, Nat.le_of_ble_eq_true rfl⟩) hB.preS rfl rfl hl.1 rfl (lv_room (Nat.le_of_ble_eq_true rfl)) dX0_laysRings_82 ⟨Nat.le_refl _, Nat.le_refl _⟩) hB (fun r6 μ5 H locs hp hB => ?_)
      refine lv_if_eq (tgt := 98) hx hb dX0_laysRings_85 rfl (fun c0 => ?_) (fun c0 => ?_)
      · have hp := zit hp c0
        refine lv_iconst (v := (-1 : Int32)) hx hb dX0_laysRings_98 rfl ?_
        exact wX0_laysRings_99 X ht_x1 z hK58 (fun v0 v1 ν H2 L2 ls2 h2 b2 l2 => ih v0 v1 ν H2 L2 ls2 h2 b2 l2) x2 x3 (-1 : Int32) x3 μ5 _ _ _ hp hB (lv_sub hl [0, 1, 2, 3] rfl)
      · have hp := zif hp c0
        refine lv_aload_n hx hb dX0_laysRings_88 rfl (lv_at hl 0 rfl) ?_
        refine lv_aload_n hx hb dX0_laysRings_89 rfl (lv_at hl 1 rfl) ?_
        refine lv_iload_n hx hb dX0_laysRings_90 rfl (lv_at hl 3 rfl) ?_
        refine lv_iload_n hx hb dX0_laysRings_91 rfl (lv_at hl 2 rfl) ?_
        refine z_calli (va_runV (As := [.ref x1, .int x3, .int x2]) (rest := [.int x3, .ref (z + 58)]) S (mX0_pointsAt l Γ z x1 x3 x2 μ5 _ hp) (cwV 3 hts (lw_V q924 q926 qs31 q127 q927) rfl rfl rfl hX0_pointsAt ⟨Nat.le_of_ble_eq_true rfl, Nat.le_of_ble_eq_true rfl⟩) (hB.preV (cT hB) rfl rfl) rfl rfl hl.1 rfl (lv_room (Nat.le_of_ble_eq_true rfl)) dX0_laysRings_92 ⟨Nat.le_refl _, Nat.le_refl _⟩) hB (fun r8 μ7 H locs hp hB => ?_)
        refine lv_goto (tgt := 99) hx hb dX0_laysRings_95 rfl ?_
        exact wX0_laysRings_99 X ht_x1 z hK58 (fun v0 v1 ν H2 L2 ls2 h2 b2 l2 => ih v0 v1 ν H2 L2 ls2 h2 b2 l2) x2 x3 r8 x3 μ7 _ _ _ hp hB (lv_sub hl [0, 1, 2, 3] rfl)
def pX0_laysRings_58 (z : Nat) (x1 : Nat) (Q : zM → Prop) : Nat → Int32 → zM → Prop
  | 0, _, _ => False
  | n + 1, x2, μ => (if x2 = 0 then Q μ else ∃ k1, pX0_laysRings_64 z x1 (fun v0 ν => pX0_laysRings_58 z x1 Q n v0 ν) Q k1 x2 (nI 0) μ)
set_option maxHeartbeats 4000000 in
set_option maxRecDepth 100000 in
theorem wX0_laysRings_58 {p : Program} {l : Launch} {e : Env} {s : State} {m : MethodId} {args : Array Value} {below : List Frame} {meth : Method} {c : Code} {Γ : zG} {μ0 : zM} {Q : zM → Prop} (X : zCx p m c cX0_laysRings 4 s args RX0 meth none) {x1 : Nat} (ht_x1 : zty μ0 x1 = some (.inl 2)) (z : Nat) : ∀ (n : Nat) (x2 : Int32) (μ : zM) (H : Heap) (locs : List Loc) (ls : Array Slot), pX0_laysRings_58 z x1 Q n x2 μ → zB Γ (cSh z) (zA μ0) μ0 s μ H locs → lv_has ls 4 [(0, .ref z), (1, .ref x1), (2, .int x2)] → W p l e ({ frames := 464, cells := 0, slots := 0, locals := 12521 } : Room) s m args below meth c H locs 0 0 (MQ below (va_Qv Q (zPost Γ (cSh z) μ0) (zA μ0)) args s 0 0 (zA μ0)) (F0 m 58 ls []) := by
  have S := X.1
  obtain ⟨hx, hb, hml, hown, hts⟩ := X.1
  intro n
  induction n with
  | zero =>
    intro x2 μ H locs ls hp
    exact hp.elim
  | succ n ih =>
    intro x2 μ H locs ls hp hB hl
    unfold pX0_laysRings_58 at hp
    refine lv_iload_n hx hb dX0_laysRings_58 rfl (lv_at hl 2 rfl) ?_
    refine lv_if_eq (tgt := 120) hx hb dX0_laysRings_59 rfl (fun c0 => ?_) (fun c0 => ?_)
    · have hp := zit hp c0
      exact zret_v X hB hp dX0_laysRings_120
    · have hp := zif hp c0
      refine lv_iconst (v := (nI 0)) hx hb dX0_laysRings_62 rfl ?_
      refine lv_istore_n (lv' := [(3, .int (nI 0)), (0, .ref z), (1, .ref x1), (2, .int x2)]) hx hb dX0_laysRings_63 rfl hl (by decide) rfl (fun ls hl => ?_)
      obtain ⟨n1, hp⟩ := hp
      exact wX0_laysRings_64 X ht_x1 z (fun v0 ν H2 L2 ls2 h2 b2 l2 => ih v0 ν H2 L2 ls2 h2 b2 l2) n1 x2 (nI 0) μ _ _ _ hp hB (lv_sub hl [1, 2, 3, 0] rfl)
def pX0_laysRings_9 (z : Nat) (x1 : Nat) (Q : zM → Prop) : Nat → Int32 → Int32 → zM → Prop
  | 0, _, _, _ => False
  | n + 1, x2, x3, μ => (zde (zR μ z 0) fun b1 => (zty μ b1 = some (.inl 1) ∧ (if (zI μ b1 6) ≤ x3 then ∃ k1, pX0_laysRings_58 z x1 Q k1 x2 μ else (vp_in x3 6 ∧ (vp_in x3 6 ∧ zpI μ (z + 57) x3.toNatClampNeg (zI μ (x1 + 1) x3.toNatClampNeg) fun μ3 => (vp_in x3 6 ∧ (if (zI μ3 (x1 + 1) x3.toNatClampNeg) = (-1 : Int32) then pX0_laysRings_9 z x1 Q n (x2 ||| (nI 0)) (x3 + (nI 1)) μ3 else pX0_laysRings_9 z x1 Q n (x2 ||| ((nI 1) <<< (x3 &&& 31))) (x3 + (nI 1)) μ3)))))))
set_option maxHeartbeats 4000000 in
set_option maxRecDepth 100000 in
theorem wX0_laysRings_9 {p : Program} {l : Launch} {e : Env} {s : State} {m : MethodId} {args : Array Value} {below : List Frame} {meth : Method} {c : Code} {Γ : zG} {μ0 : zM} {Q : zM → Prop} (X : zCx p m c cX0_laysRings 4 s args RX0 meth none) {x1 : Nat} (ht_x1 : zty μ0 x1 = some (.inl 2)) (z : Nat) : ∀ (n : Nat) (x2 : Int32) (x3 : Int32) (μ : zM) (H : Heap) (locs : List Loc) (ls : Array Slot), pX0_laysRings_9 z x1 Q n x2 x3 μ → zB Γ (cSh z) (zA μ0) μ0 s μ H locs → lv_has ls 4 [(0, .ref z), (1, .ref x1), (2, .int x2), (3, .int x3)] → W p l e ({ frames := 464, cells := 0, slots := 0, locals := 12521 } : Room) s m args below meth c H locs 0 0 (MQ below (va_Qv Q (zPost Γ (cSh z) μ0) (zA μ0)) args s 0 0 (zA μ0)) (F0 m 9 ls []) := by
  have S := X.1
  obtain ⟨hx, hb, hml, hown, hts⟩ := X.1
  intro n
  induction n with
  | zero =>
    intro x2 x3 μ H locs ls hp
    exact hp.elim
  | succ n ih =>
    intro x2 x3 μ H locs ls hp hB hl
    unfold pX0_laysRings_9 at hp
    refine lv_iload_n hx hb dX0_laysRings_9 rfl (lv_at hl 3 rfl) ?_
    refine lv_aload_n hx hb dX0_laysRings_10 rfl (lv_at hl 0 rfl) ?_
    refine g_get S hB (cT hB) rfl (T := TX0) (N := 33) (C := RX0) rfl in_X0 0 (by decide) (by decide) q304 (fun _ h9 => h9) (v := va_rf (zR μ z 0)) rfl dX0_laysRings_11 ?_
    obtain ⟨b1, eb, hp⟩ := hp
    refine W.eq (g2 := F0 m 14 ls [.ref b1, .int x3]) (by rw [eb]; rfl) ?_
    obtain ⟨ht2, hp⟩ := hp
    refine g_getN S hB ht2 rfl (T := TX1) (N := 16) (C := RX1) rfl in_X1 6 (by decide) (by decide) (zNFw hB 1 rfl) (fun _ h9 => h9) (v := .int (zI μ b1 6)) rfl dX0_laysRings_14 ?_
    refine lv_icmp_ge (tgt := 58) hx hb dX0_laysRings_17 rfl (fun c0 => ?_) (fun c0 => ?_)
    · have hp := zit hp c0
      obtain ⟨n1, hp⟩ := hp
      exact wX0_laysRings_58 X ht_x1 z n1 x2 μ _ _ _ hp hB (lv_sub hl [0, 1, 2] rfl)
    · have hp := zif hp c0
      refine lv_aload_n hx hb dX0_laysRings_20 rfl (lv_at hl 0 rfl) ?_
      refine g_getr S hB (cT hB) rfl (T := TX0) (N := 33) (C := RX0) rfl in_X0 11 (by decide) (by decide) q316 (fun _ h9 => h9) (fun _ => rfl) (cA hB 4 rfl).1 dX0_laysRings_21 ?_
      refine lv_iload_n hx hb dX0_laysRings_24 rfl (lv_at hl 3 rfl) ?_
      refine lv_aload_n hx hb dX0_laysRings_25 rfl (lv_at hl 1 rfl) ?_
      refine g_getrN S hB (hB.ty ht_x1 rfl) rfl (T := TX2) (N := 8) (C := RX2) rfl in_X2 0 (by decide) (by decide) (zNFw hB 5 rfl) (fun _ h9 => h9) (fun _ => rfl) (cS2 hB (hB.ty ht_x1 rfl) 0 rfl).1 dX0_laysRings_26 ?_
      refine lv_iload_n hx hb dX0_laysRings_29 rfl (lv_at hl 3 rfl) ?_
      obtain ⟨hi, hp⟩ := hp
      refine g_iald S hB (cS2 hB (hB.ty ht_x1 rfl) 0 rfl).2 hi dX0_laysRings_30 ?_
      obtain ⟨hi, hp⟩ := hp
      obtain ⟨μ3, eμ3, hp⟩ := zpI_e hp
      refine g_iast S hB (cA hB 4 rfl).2 hi dX0_laysRings_31 (fun H locs hB => ?_)
      rw [← eμ3] at hB
      refine lv_iload_n hx hb dX0_laysRings_32 rfl (lv_at hl 2 rfl) ?_
      refine lv_aload_n hx hb dX0_laysRings_33 rfl (lv_at hl 1 rfl) ?_
      refine g_getrN S hB (hB.ty ht_x1 rfl) rfl (T := TX2) (N := 8) (C := RX2) rfl in_X2 0 (by decide) (by decide) (zNFw hB 5 rfl) (fun _ h9 => h9) (fun _ => rfl) (cS2 hB (hB.ty ht_x1 rfl) 0 rfl).1 dX0_laysRings_34 ?_
      refine lv_iload_n hx hb dX0_laysRings_37 rfl (lv_at hl 3 rfl) ?_
      obtain ⟨hi, hp⟩ := hp
      refine g_iald S hB (cS2 hB (hB.ty ht_x1 rfl) 0 rfl).2 hi dX0_laysRings_38 ?_
      refine lv_iconst (v := (-1 : Int32)) hx hb dX0_laysRings_39 rfl ?_
      refine lv_icmp_ne (tgt := 47) hx hb dX0_laysRings_40 rfl (fun c0 => ?_) (fun c0 => ?_)
      · have hp := zif hp c0
        refine lv_iconst (v := (nI 1)) hx hb dX0_laysRings_47 rfl ?_
        refine lv_iload_n hx hb dX0_laysRings_48 rfl (lv_at hl 3 rfl) ?_
        refine lv_ishl hx hb dX0_laysRings_49 ?_
        refine lv_ior hx hb dX0_laysRings_50 ?_
        refine lv_istore_n (lv' := [(2, .int (x2 ||| ((nI 1) <<< (x3 &&& 31)))), (0, .ref z), (1, .ref x1), (3, .int x3)]) hx hb dX0_laysRings_51 rfl hl (by decide) rfl (fun ls hl => ?_)
        refine lv_iinc (v := (x3 + (nI 1))) (lv' := [(3, .int (x3 + (nI 1))), (2, .int (x2 ||| ((nI 1) <<< (x3 &&& 31)))), (0, .ref z), (1, .ref x1)]) hx hb dX0_laysRings_52 hl (k := 3) rfl rfl (by decide) rfl (fun ls hl => ?_)
        refine lv_goto (tgt := 9) hx hb dX0_laysRings_55 rfl ?_
        exact ih (x2 ||| ((nI 1) <<< (x3 &&& 31))) (x3 + (nI 1)) μ3 _ _ _ hp hB (lv_sub hl [2, 3, 1, 0] rfl)
      · have hp := zit hp c0
        refine lv_iconst (v := (nI 0)) hx hb dX0_laysRings_43 rfl ?_
        refine lv_goto (tgt := 50) hx hb dX0_laysRings_44 rfl ?_
        refine lv_ior hx hb dX0_laysRings_50 ?_
        refine lv_istore_n (lv' := [(2, .int (x2 ||| (nI 0))), (0, .ref z), (1, .ref x1), (3, .int x3)]) hx hb dX0_laysRings_51 rfl hl (by decide) rfl (fun ls hl => ?_)
        refine lv_iinc (v := (x3 + (nI 1))) (lv' := [(3, .int (x3 + (nI 1))), (2, .int (x2 ||| (nI 0))), (0, .ref z), (1, .ref x1)]) hx hb dX0_laysRings_52 hl (k := 3) rfl rfl (by decide) rfl (fun ls hl => ?_)
        refine lv_goto (tgt := 9) hx hb dX0_laysRings_55 rfl ?_
        exact ih (x2 ||| (nI 0)) (x3 + (nI 1)) μ3 _ _ _ hp hB (lv_sub hl [2, 3, 1, 0] rfl)
def pX0_laysRings (z : Nat) (x1 : Nat) (μ : zM) (Q : zM → Prop) : Prop := zty μ x1 = some (.inl 2) ∧ (zpI μ z 13 (nI 0) fun μ1 => ∃ k1, pX0_laysRings_9 z x1 Q k1 (nI 0) (nI 0) μ1)
theorem hX0_laysRings : yX0_laysRings.cls = "SunkTower" ∧ yX0_laysRings.cls ≠ "java/lang/invoke/MethodHandle" ∧ yX0_laysRings.cls ≠ "java/lang/invoke/VarHandle" ∧ (parseMethodDescriptor yX0_laysRings.desc).map (fun d => d.parameters.length) = some 1 := by decide +kernel
set_option maxHeartbeats 4000000 in
set_option maxRecDepth 100000 in
theorem mX0_laysRings (l : Launch) (Γ : zG) (z : Nat) (x1 : Nat) (μ : zM) (Q : zM → Prop) (hp : pX0_laysRings z x1 μ Q) : Met l yX0_laysRings (ws_ yX0_laysRings cX0_laysRings 4 none) ({ frames := 464, cells := 0, slots := 0, locals := 12521 } : Room) (va_Pc [.ref z, .ref x1] (zPre Γ (cSh z) μ)) (va_Qv Q (zPost Γ (cSh z) μ) (zA μ)) 0 0 (zA μ) := by
  refine zstart (by decide) (Nat.le_of_ble_eq_true rfl) ?_
  intro p e s m below meth c ls X hnm hB hl
  have X : zCx p m c cX0_laysRings 4 s [.ref z, .ref x1].toArray RX0 meth none := X
  have S := X.1
  obtain ⟨hx, hb, hml, hown, hts⟩ := X.1
  have hl : lv_has ls 4 [(0, .ref z), (1, .ref x1)] := hl
  obtain ⟨ht_x1, hp⟩ := hp
  refine lv_iconst (v := (nI 0)) hx hb dX0_laysRings_0 rfl ?_
  refine lv_istore_n (lv' := [(2, .int (nI 0)), (0, .ref z), (1, .ref x1)]) hx hb dX0_laysRings_1 rfl hl (by decide) rfl (fun ls hl => ?_)
  refine lv_aload_n hx hb dX0_laysRings_2 rfl (lv_at hl 1 rfl) ?_
  refine lv_iconst (v := (nI 0)) hx hb dX0_laysRings_3 rfl ?_
  obtain ⟨μ1, eμ1, hp⟩ := zpI_e hp
  refine g_putI S hB (cT hB) rfl (T := TX0) (N := 33) (C := RX0) rfl in_X0 13 (by decide) (by decide) (x := (nI 0)) tyX0 tyX0_ok nmX0 q319 (fun _ h9 => h9) rfl (ty := .int) (by decide +kernel) rfl rfl (fun _ _ => rfl) dX0_laysRings_4 (fun H locs hB => ?_)
  rw [← eμ1] at hB
  refine lv_iconst (v := (nI 0)) hx hb dX0_laysRings_7 rfl ?_
  refine lv_istore_n (lv' := [(3, .int (nI 0)), (2, .int (nI 0)), (0, .ref z), (1, .ref x1)]) hx hb dX0_laysRings_8 rfl hl (by decide) rfl (fun ls hl => ?_)
  obtain ⟨n1, hp⟩ := hp
  exact wX0_laysRings_9 X ht_x1 z n1 (nI 0) (nI 0) μ1 _ _ _ hp hB (lv_sub hl [2, 3, 1, 0] rfl)
def pX0_byRings (z : Nat) (x1 : Int32) (μ : zM) (Q : Int32 → zM → Prop) : Prop := (pX0_isTenant z x1 μ fun r2 μ1 => (if r2 = 0 then Q (-2 : Int32) μ1 else (pX0_laysRings z (z + 7) μ1 fun μ3 => (vp_in x1 6 ∧ Q (zI μ3 (z + 57) x1.toNatClampNeg) μ3))))
theorem hX0_byRings : yX0_byRings.cls = "SunkTower" ∧ yX0_byRings.cls ≠ "java/lang/invoke/MethodHandle" ∧ yX0_byRings.cls ≠ "java/lang/invoke/VarHandle" ∧ (parseMethodDescriptor yX0_byRings.desc).map (fun d => d.parameters.length) = some 1 := by decide +kernel
set_option maxHeartbeats 4000000 in
set_option maxRecDepth 100000 in
theorem mX0_byRings (l : Launch) (Γ : zG) (z : Nat) (x1 : Int32) (μ : zM) (Q : Int32 → zM → Prop) (hp : pX0_byRings z x1 μ Q) : Met l yX0_byRings (ws_ yX0_byRings cX0_byRings 2 (some .int)) ({ frames := 465, cells := 0, slots := 0, locals := 12544 } : Room) (va_Pc [.ref z, .int x1] (zPre Γ (cSh z) μ)) (va_Qi Q (zPost Γ (cSh z) μ) (zA μ)) 0 0 (zA μ) := by
  refine zstart (by decide) (Nat.le_of_ble_eq_true rfl) ?_
  intro p e s m below meth c ls X hnm hB hl
  have X : zCx p m c cX0_byRings 2 s [.ref z, .int x1].toArray RX0 meth (some .int) := X
  have S := X.1
  obtain ⟨hx, hb, hml, hown, hts⟩ := X.1
  have hl : lv_has ls 2 [(0, .ref z), (1, .int x1)] := hl
  unfold pX0_byRings at hp
  refine lv_aload_n hx hb dX0_byRings_0 rfl (lv_at hl 0 rfl) ?_
  refine lv_iload_n hx hb dX0_byRings_1 rfl (lv_at hl 1 rfl) ?_
  refine z_calli (va_runV (As := [.int x1]) (rest := []) S (mX0_isTenant l Γ z x1 μ _ hp) (cwV 1 hts (lw_V q768 q770 qs27 q127 q771) rfl rfl rfl hX0_isTenant ⟨Nat.le_of_ble_eq_true rfl, Nat.le_of_ble_eq_true rfl⟩) (hB.preV (cT hB) rfl rfl) rfl rfl hl.1 rfl (lv_room (Nat.le_of_ble_eq_true rfl)) dX0_byRings_2 ⟨Nat.le_refl _, Nat.le_refl _⟩) hB (fun r2 μ1 H locs hp hB => ?_)
  refine lv_if_ne (tgt := 11) hx hb dX0_byRings_5 rfl (fun c0 => ?_) (fun c0 => ?_)
  · have hp := zif hp c0
    refine lv_aload_n hx hb dX0_byRings_11 rfl (lv_at hl 0 rfl) ?_
    refine lv_aload_n hx hb dX0_byRings_12 rfl (lv_at hl 0 rfl) ?_
    refine g_getr S hB (cT hB) rfl (T := TX0) (N := 33) (C := RX0) rfl in_X0 1 (by decide) (by decide) q305 (fun _ h9 => h9) (fun _ => rfl) (cA hB 0 rfl).1 dX0_byRings_13 ?_
    refine z_callv (va_runV (As := [.ref (z + 7)]) (rest := []) S (mX0_laysRings l Γ z (z + 7) μ1 _ hp) (cwV 1 hts (lw_V q1013 q919 qs30 q127 q920) rfl rfl rfl hX0_laysRings ⟨Nat.le_of_ble_eq_true rfl, Nat.le_of_ble_eq_true rfl⟩) (hB.preV (cT hB) rfl rfl) rfl rfl hl.1 rfl (lv_room (Nat.le_of_ble_eq_true rfl)) dX0_byRings_16 ⟨Nat.le_refl _, Nat.le_refl _⟩) hB (fun μ3 H locs hp hB => ?_)
    refine lv_aload_n hx hb dX0_byRings_19 rfl (lv_at hl 0 rfl) ?_
    refine g_getr S hB (cT hB) rfl (T := TX0) (N := 33) (C := RX0) rfl in_X0 11 (by decide) (by decide) q316 (fun _ h9 => h9) (fun _ => rfl) (cA hB 4 rfl).1 dX0_byRings_20 ?_
    refine lv_iload_n hx hb dX0_byRings_23 rfl (lv_at hl 1 rfl) ?_
    obtain ⟨hi, hp⟩ := hp
    refine g_iald S hB (cA hB 4 rfl).2 hi dX0_byRings_24 ?_
    exact zret_i X hB hp dX0_byRings_25
  · have hp := zit hp c0
    refine lv_bipush (v := (-2 : Int32)) hx hb dX0_byRings_8 rfl ?_
    exact zret_i X hB hp dX0_byRings_10
def pX0_ringsMany (z : Nat) (μ : zM) (Q : Int32 → zM → Prop) : Prop := (pX0_laysRings z (z + 7) μ fun μ1 => Q (zI μ1 z 13) μ1)
theorem hX0_ringsMany : yX0_ringsMany.cls = "SunkTower" ∧ yX0_ringsMany.cls ≠ "java/lang/invoke/MethodHandle" ∧ yX0_ringsMany.cls ≠ "java/lang/invoke/VarHandle" ∧ (parseMethodDescriptor yX0_ringsMany.desc).map (fun d => d.parameters.length) = some 0 := by decide +kernel
set_option maxHeartbeats 4000000 in
set_option maxRecDepth 100000 in
theorem mX0_ringsMany (l : Launch) (Γ : zG) (z : Nat) (μ : zM) (Q : Int32 → zM → Prop) (hp : pX0_ringsMany z μ Q) : Met l yX0_ringsMany (ws_ yX0_ringsMany cX0_ringsMany 1 (some .int)) ({ frames := 465, cells := 0, slots := 0, locals := 12544 } : Room) (va_Pc [.ref z] (zPre Γ (cSh z) μ)) (va_Qi Q (zPost Γ (cSh z) μ) (zA μ)) 0 0 (zA μ) := by
  refine zstart (by decide) (Nat.le_of_ble_eq_true rfl) ?_
  intro p e s m below meth c ls X hnm hB hl
  have X : zCx p m c cX0_ringsMany 1 s [.ref z].toArray RX0 meth (some .int) := X
  have S := X.1
  obtain ⟨hx, hb, hml, hown, hts⟩ := X.1
  have hl : lv_has ls 1 [(0, .ref z)] := hl
  unfold pX0_ringsMany at hp
  refine lv_aload_n hx hb dX0_ringsMany_0 rfl (lv_at hl 0 rfl) ?_
  refine lv_aload_n hx hb dX0_ringsMany_1 rfl (lv_at hl 0 rfl) ?_
  refine g_getr S hB (cT hB) rfl (T := TX0) (N := 33) (C := RX0) rfl in_X0 1 (by decide) (by decide) q305 (fun _ h9 => h9) (fun _ => rfl) (cA hB 0 rfl).1 dX0_ringsMany_2 ?_
  refine z_callv (va_runV (As := [.ref (z + 7)]) (rest := []) S (mX0_laysRings l Γ z (z + 7) μ _ hp) (cwV 1 hts (lw_V q1013 q919 qs30 q127 q920) rfl rfl rfl hX0_laysRings ⟨Nat.le_of_ble_eq_true rfl, Nat.le_of_ble_eq_true rfl⟩) (hB.preV (cT hB) rfl rfl) rfl rfl hl.1 rfl (lv_room (Nat.le_of_ble_eq_true rfl)) dX0_ringsMany_5 ⟨Nat.le_refl _, Nat.le_refl _⟩) hB (fun μ1 H locs hp hB => ?_)
  refine lv_aload_n hx hb dX0_ringsMany_8 rfl (lv_at hl 0 rfl) ?_
  refine g_get S hB (cT hB) rfl (T := TX0) (N := 33) (C := RX0) rfl in_X0 13 (by decide) (by decide) q319 (fun _ h9 => h9) (v := .int (zI μ1 z 13)) rfl dX0_ringsMany_9 ?_
  exact zret_i X hB hp dX0_ringsMany_12
def pX0_sunkIn (z : Nat) (x1 : Int32) (μ : zM) (Q : Int32 → zM → Prop) : Prop := (pX0_isAhead z x1 μ fun r2 μ1 => (if r2 = 0 then Q (-3 : Int32) μ1 else (pX2_be z (z + 11) (z + 7) μ1 fun r4 μ3 => (zde r4 fun b5 => (pX2_goesOn z b5 x1 μ3 fun r7 μ6 => Q (zI μ6 (z + 11) 4) μ6)))))
theorem hX0_sunkIn : yX0_sunkIn.cls = "SunkTower" ∧ yX0_sunkIn.cls ≠ "java/lang/invoke/MethodHandle" ∧ yX0_sunkIn.cls ≠ "java/lang/invoke/VarHandle" ∧ (parseMethodDescriptor yX0_sunkIn.desc).map (fun d => d.parameters.length) = some 1 := by decide +kernel
set_option maxHeartbeats 4000000 in
set_option maxRecDepth 100000 in
theorem mX0_sunkIn (l : Launch) (Γ : zG) (z : Nat) (x1 : Int32) (μ : zM) (Q : Int32 → zM → Prop) (hp : pX0_sunkIn z x1 μ Q) : Met l yX0_sunkIn (ws_ yX0_sunkIn cX0_sunkIn 2 (some .int)) ({ frames := 465, cells := 0, slots := 0, locals := 12537 } : Room) (va_Pc [.ref z, .int x1] (zPre Γ (cSh z) μ)) (va_Qi Q (zPost Γ (cSh z) μ) (zA μ)) 0 0 (zA μ) := by
  refine zstart (by decide) (Nat.le_of_ble_eq_true rfl) ?_
  intro p e s m below meth c ls X hnm hB hl
  have X : zCx p m c cX0_sunkIn 2 s [.ref z, .int x1].toArray RX0 meth (some .int) := X
  have S := X.1
  obtain ⟨hx, hb, hml, hown, hts⟩ := X.1
  have hl : lv_has ls 2 [(0, .ref z), (1, .int x1)] := hl
  unfold pX0_sunkIn at hp
  refine lv_aload_n hx hb dX0_sunkIn_0 rfl (lv_at hl 0 rfl) ?_
  refine lv_iload_n hx hb dX0_sunkIn_1 rfl (lv_at hl 1 rfl) ?_
  refine z_calli (va_runV (As := [.int x1]) (rest := []) S (mX0_isAhead l Γ z x1 μ _ hp) (cwV 1 hts (lw_V q1022 q1024 qs36 q127 q1025) rfl rfl rfl hX0_isAhead ⟨Nat.le_of_ble_eq_true rfl, Nat.le_of_ble_eq_true rfl⟩) (hB.preV (cT hB) rfl rfl) rfl rfl hl.1 rfl (lv_room (Nat.le_of_ble_eq_true rfl)) dX0_sunkIn_2 ⟨Nat.le_refl _, Nat.le_refl _⟩) hB (fun r2 μ1 H locs hp hB => ?_)
  refine lv_if_ne (tgt := 11) hx hb dX0_sunkIn_5 rfl (fun c0 => ?_) (fun c0 => ?_)
  · have hp := zif hp c0
    refine lv_aload_n hx hb dX0_sunkIn_11 rfl (lv_at hl 0 rfl) ?_
    refine g_getr S hB (cT hB) rfl (T := TX0) (N := 33) (C := RX0) rfl in_X0 2 (by decide) (by decide) q306 (fun _ h9 => h9) (fun _ => rfl) (cA hB 1 rfl).1 dX0_sunkIn_12 ?_
    refine lv_aload_n hx hb dX0_sunkIn_15 rfl (lv_at hl 0 rfl) ?_
    refine g_getr S hB (cT hB) rfl (T := TX0) (N := 33) (C := RX0) rfl in_X0 1 (by decide) (by decide) q305 (fun _ h9 => h9) (fun _ => rfl) (cA hB 0 rfl).1 dX0_sunkIn_16 ?_
    refine z_callq (va_runV (As := [.ref (z + 7)]) (rest := []) S (mX2_be l Γ z (z + 11) (z + 7) μ1 _ hp) (cwV 1 hts (lw_V q862 q863 q864 q129 q865) rfl rfl rfl hX2_be ⟨Nat.le_of_ble_eq_true rfl, Nat.le_of_ble_eq_true rfl⟩) (hB.preV (tX2_be hp) rfl rfl) rfl rfl hl.1 rfl (lv_room (Nat.le_of_ble_eq_true rfl)) dX0_sunkIn_19 ⟨Nat.le_refl _, Nat.le_refl _⟩) hB (fun r4 μ3 H locs hp hB => ?_)
    refine lv_iload_n hx hb dX0_sunkIn_22 rfl (lv_at hl 1 rfl) ?_
    obtain ⟨b5, eb, hp⟩ := hp
    refine W.eq (g2 := F0 m 23 ls [.int x1, .ref b5]) (by rw [eb]; rfl) ?_
    refine z_calli (va_runV (As := [.int x1]) (rest := []) S (mX2_goesOn l Γ z b5 x1 μ3 _ hp) (cwV 1 hts (lw_V q867 q868 q869 q129 q870) rfl rfl rfl hX2_goesOn ⟨Nat.le_of_ble_eq_true rfl, Nat.le_of_ble_eq_true rfl⟩) (hB.preV (tX2_goesOn hp) rfl rfl) rfl rfl hl.1 rfl (lv_room (Nat.le_of_ble_eq_true rfl)) dX0_sunkIn_23 ⟨Nat.le_refl _, Nat.le_refl _⟩) hB (fun r7 μ6 H locs hp hB => ?_)
    refine lv_pop hx hb dX0_sunkIn_26 rfl ?_
    refine lv_aload_n hx hb dX0_sunkIn_27 rfl (lv_at hl 0 rfl) ?_
    refine g_getr S hB (cT hB) rfl (T := TX0) (N := 33) (C := RX0) rfl in_X0 2 (by decide) (by decide) q306 (fun _ h9 => h9) (fun _ => rfl) (cA hB 1 rfl).1 dX0_sunkIn_28 ?_
    refine g_getN S hB (cA hB 1 rfl).2 rfl (T := TX2) (N := 8) (C := RX2) rfl in_X2 4 (by decide) (by decide) (zNFw hB 9 rfl) (fun _ h9 => h9) (v := .int (zI μ6 (z + 11) 4)) rfl dX0_sunkIn_31 ?_
    exact zret_i X hB hp dX0_sunkIn_34
  · have hp := zit hp c0
    refine lv_bipush (v := (-3 : Int32)) hx hb dX0_sunkIn_8 rfl ?_
    exact zret_i X hB hp dX0_sunkIn_10
def pX0_heightIn (z : Nat) (x1 : Int32) (x2 : Int32) (μ : zM) (Q : Int32 → zM → Prop) : Prop := (pX0_isStorey z x1 μ fun r2 μ1 => (if r2 = 0 then Q (-90000002 : Int32) μ1 else (pX0_isAhead z x2 μ1 fun r4 μ3 => (if r4 = 0 then Q (-90000003 : Int32) μ3 else (pX2_be z (z + 11) (z + 7) μ3 fun r6 μ5 => (zde r6 fun b7 => (pX2_goesOn z b7 x2 μ5 fun r9 μ8 => (pJ2_floorDiv (((nI 144) * x1) - (zI μ8 (z + 11) 4)) (nI 12) μ8 fun r11 μ10 => Q r11 μ10))))))))
theorem hX0_heightIn : yX0_heightIn.cls = "SunkTower" ∧ yX0_heightIn.cls ≠ "java/lang/invoke/MethodHandle" ∧ yX0_heightIn.cls ≠ "java/lang/invoke/VarHandle" ∧ (parseMethodDescriptor yX0_heightIn.desc).map (fun d => d.parameters.length) = some 2 := by decide +kernel
set_option maxHeartbeats 4000000 in
set_option maxRecDepth 100000 in
theorem mX0_heightIn (l : Launch) (Γ : zG) (z : Nat) (x1 : Int32) (x2 : Int32) (μ : zM) (Q : Int32 → zM → Prop) (hp : pX0_heightIn z x1 x2 μ Q) : Met l yX0_heightIn (ws_ yX0_heightIn cX0_heightIn 3 (some .int)) ({ frames := 465, cells := 0, slots := 0, locals := 12537 } : Room) (va_Pc [.ref z, .int x1, .int x2] (zPre Γ (cSh z) μ)) (va_Qi Q (zPost Γ (cSh z) μ) (zA μ)) 0 0 (zA μ) := by
  refine zstart (by decide) (Nat.le_of_ble_eq_true rfl) ?_
  intro p e s m below meth c ls X hnm hB hl
  have X : zCx p m c cX0_heightIn 3 s [.ref z, .int x1, .int x2].toArray RX0 meth (some .int) := X
  have S := X.1
  obtain ⟨hx, hb, hml, hown, hts⟩ := X.1
  have hl : lv_has ls 3 [(0, .ref z), (1, .int x1), (2, .int x2)] := hl
  unfold pX0_heightIn at hp
  refine lv_aload_n hx hb dX0_heightIn_0 rfl (lv_at hl 0 rfl) ?_
  refine lv_iload_n hx hb dX0_heightIn_1 rfl (lv_at hl 1 rfl) ?_
  refine z_calli (va_runV (As := [.int x1]) (rest := []) S (mX0_isStorey l Γ z x1 μ _ hp) (cwV 1 hts (lw_V q748 q750 qs26 q127 q751) rfl rfl rfl hX0_isStorey ⟨Nat.le_of_ble_eq_true rfl, Nat.le_of_ble_eq_true rfl⟩) (hB.preV (cT hB) rfl rfl) rfl rfl hl.1 rfl (lv_room (Nat.le_of_ble_eq_true rfl)) dX0_heightIn_2 ⟨Nat.le_refl _, Nat.le_refl _⟩) hB (fun r2 μ1 H locs hp hB => ?_)
  refine lv_if_ne (tgt := 11) hx hb dX0_heightIn_5 rfl (fun c0 => ?_) (fun c0 => ?_)
  · have hp := zif hp c0
    refine lv_aload_n hx hb dX0_heightIn_11 rfl (lv_at hl 0 rfl) ?_
    refine lv_iload_n hx hb dX0_heightIn_12 rfl (lv_at hl 2 rfl) ?_
    refine z_calli (va_runV (As := [.int x2]) (rest := []) S (mX0_isAhead l Γ z x2 μ1 _ hp) (cwV 1 hts (lw_V q1022 q1024 qs36 q127 q1025) rfl rfl rfl hX0_isAhead ⟨Nat.le_of_ble_eq_true rfl, Nat.le_of_ble_eq_true rfl⟩) (hB.preV (cT hB) rfl rfl) rfl rfl hl.1 rfl (lv_room (Nat.le_of_ble_eq_true rfl)) dX0_heightIn_13 ⟨Nat.le_refl _, Nat.le_refl _⟩) hB (fun r4 μ3 H locs hp hB => ?_)
    refine lv_if_ne (tgt := 23) hx hb dX0_heightIn_16 rfl (fun c0 => ?_) (fun c0 => ?_)
    · have hp := zif hp c0
      refine lv_aload_n hx hb dX0_heightIn_23 rfl (lv_at hl 0 rfl) ?_
      refine g_getr S hB (cT hB) rfl (T := TX0) (N := 33) (C := RX0) rfl in_X0 2 (by decide) (by decide) q306 (fun _ h9 => h9) (fun _ => rfl) (cA hB 1 rfl).1 dX0_heightIn_24 ?_
      refine lv_aload_n hx hb dX0_heightIn_27 rfl (lv_at hl 0 rfl) ?_
      refine g_getr S hB (cT hB) rfl (T := TX0) (N := 33) (C := RX0) rfl in_X0 1 (by decide) (by decide) q305 (fun _ h9 => h9) (fun _ => rfl) (cA hB 0 rfl).1 dX0_heightIn_28 ?_
      refine z_callq (va_runV (As := [.ref (z + 7)]) (rest := []) S (mX2_be l Γ z (z + 11) (z + 7) μ3 _ hp) (cwV 1 hts (lw_V q862 q863 q864 q129 q865) rfl rfl rfl hX2_be ⟨Nat.le_of_ble_eq_true rfl, Nat.le_of_ble_eq_true rfl⟩) (hB.preV (tX2_be hp) rfl rfl) rfl rfl hl.1 rfl (lv_room (Nat.le_of_ble_eq_true rfl)) dX0_heightIn_31 ⟨Nat.le_refl _, Nat.le_refl _⟩) hB (fun r6 μ5 H locs hp hB => ?_)
      refine lv_iload_n hx hb dX0_heightIn_34 rfl (lv_at hl 2 rfl) ?_
      obtain ⟨b7, eb, hp⟩ := hp
      refine W.eq (g2 := F0 m 35 ls [.int x2, .ref b7]) (by rw [eb]; rfl) ?_
      refine z_calli (va_runV (As := [.int x2]) (rest := []) S (mX2_goesOn l Γ z b7 x2 μ5 _ hp) (cwV 1 hts (lw_V q867 q868 q869 q129 q870) rfl rfl rfl hX2_goesOn ⟨Nat.le_of_ble_eq_true rfl, Nat.le_of_ble_eq_true rfl⟩) (hB.preV (tX2_goesOn hp) rfl rfl) rfl rfl hl.1 rfl (lv_room (Nat.le_of_ble_eq_true rfl)) dX0_heightIn_35 ⟨Nat.le_refl _, Nat.le_refl _⟩) hB (fun r9 μ8 H locs hp hB => ?_)
      refine lv_pop hx hb dX0_heightIn_38 rfl ?_
      refine lv_sipush (v := (nI 144)) hx hb dX0_heightIn_39 rfl ?_
      refine lv_iload_n hx hb dX0_heightIn_42 rfl (lv_at hl 1 rfl) ?_
      refine lv_imul hx hb dX0_heightIn_43 ?_
      refine lv_aload_n hx hb dX0_heightIn_44 rfl (lv_at hl 0 rfl) ?_
      refine g_getr S hB (cT hB) rfl (T := TX0) (N := 33) (C := RX0) rfl in_X0 2 (by decide) (by decide) q306 (fun _ h9 => h9) (fun _ => rfl) (cA hB 1 rfl).1 dX0_heightIn_45 ?_
      refine g_getN S hB (cA hB 1 rfl).2 rfl (T := TX2) (N := 8) (C := RX2) rfl in_X2 4 (by decide) (by decide) (zNFw hB 9 rfl) (fun _ h9 => h9) (v := .int (zI μ8 (z + 11) 4)) rfl dX0_heightIn_48 ?_
      refine lv_isub hx hb dX0_heightIn_51 ?_
      refine lv_bipush (v := (nI 12)) hx hb dX0_heightIn_52 rfl ?_
      refine z_calli (va_runS (As := [.int (((nI 144) * x1) - (zI μ8 (z + 11) 4)), .int (nI 12)]) (rest := []) S (mJ2_floorDiv l Γ (cSh z) (((nI 144) * x1) - (zI μ8 (z + 11) 4)) (nI 12) μ8 _ hp) (va_cwS 2 hts (lw_S q1032 q838 q136 q839) rfl rfl rfl hJ2_floorDiv ⟨Nat.le_of_ble_eq_true rfl, Nat.le_of_ble_eq_true rfl⟩) hB.preS rfl rfl hl.1 rfl (lv_room (Nat.le_of_ble_eq_true rfl)) dX0_heightIn_54 ⟨Nat.le_refl _, Nat.le_refl _⟩) hB (fun r11 μ10 H locs hp hB => ?_)
      exact zret_i X hB hp dX0_heightIn_57
    · have hp := zit hp c0
      refine lv_ldcw (v := (-90000003 : Int32)) hx hb hown (hts _ q1031) dX0_heightIn_19 ?_
      exact zret_i X hB hp dX0_heightIn_22
  · have hp := zit hp c0
    refine lv_ldc (v := (-90000002 : Int32)) hx hb hown (hts _ q840) dX0_heightIn_8 ?_
    exact zret_i X hB hp dX0_heightIn_10
def pX0_doorIn (z : Nat) (x1 : Int32) (μ : zM) (Q : Int32 → zM → Prop) : Prop := (pX0_isAhead z x1 μ fun r2 μ1 => (if r2 = 0 then Q (-3 : Int32) μ1 else (pX2_be z (z + 11) (z + 7) μ1 fun r4 μ3 => (zde r4 fun b5 => (pX2_goesOn z b5 x1 μ3 fun r7 μ6 => (pX2_door z (z + 11) μ6 fun r9 μ8 => Q r9 μ8))))))
theorem hX0_doorIn : yX0_doorIn.cls = "SunkTower" ∧ yX0_doorIn.cls ≠ "java/lang/invoke/MethodHandle" ∧ yX0_doorIn.cls ≠ "java/lang/invoke/VarHandle" ∧ (parseMethodDescriptor yX0_doorIn.desc).map (fun d => d.parameters.length) = some 1 := by decide +kernel
set_option maxHeartbeats 4000000 in
set_option maxRecDepth 100000 in
theorem mX0_doorIn (l : Launch) (Γ : zG) (z : Nat) (x1 : Int32) (μ : zM) (Q : Int32 → zM → Prop) (hp : pX0_doorIn z x1 μ Q) : Met l yX0_doorIn (ws_ yX0_doorIn cX0_doorIn 2 (some .int)) ({ frames := 465, cells := 0, slots := 0, locals := 12537 } : Room) (va_Pc [.ref z, .int x1] (zPre Γ (cSh z) μ)) (va_Qi Q (zPost Γ (cSh z) μ) (zA μ)) 0 0 (zA μ) := by
  refine zstart (by decide) (Nat.le_of_ble_eq_true rfl) ?_
  intro p e s m below meth c ls X hnm hB hl
  have X : zCx p m c cX0_doorIn 2 s [.ref z, .int x1].toArray RX0 meth (some .int) := X
  have S := X.1
  obtain ⟨hx, hb, hml, hown, hts⟩ := X.1
  have hl : lv_has ls 2 [(0, .ref z), (1, .int x1)] := hl
  unfold pX0_doorIn at hp
  refine lv_aload_n hx hb dX0_doorIn_0 rfl (lv_at hl 0 rfl) ?_
  refine lv_iload_n hx hb dX0_doorIn_1 rfl (lv_at hl 1 rfl) ?_
  refine z_calli (va_runV (As := [.int x1]) (rest := []) S (mX0_isAhead l Γ z x1 μ _ hp) (cwV 1 hts (lw_V q1022 q1024 qs36 q127 q1025) rfl rfl rfl hX0_isAhead ⟨Nat.le_of_ble_eq_true rfl, Nat.le_of_ble_eq_true rfl⟩) (hB.preV (cT hB) rfl rfl) rfl rfl hl.1 rfl (lv_room (Nat.le_of_ble_eq_true rfl)) dX0_doorIn_2 ⟨Nat.le_refl _, Nat.le_refl _⟩) hB (fun r2 μ1 H locs hp hB => ?_)
  refine lv_if_ne (tgt := 11) hx hb dX0_doorIn_5 rfl (fun c0 => ?_) (fun c0 => ?_)
  · have hp := zif hp c0
    refine lv_aload_n hx hb dX0_doorIn_11 rfl (lv_at hl 0 rfl) ?_
    refine g_getr S hB (cT hB) rfl (T := TX0) (N := 33) (C := RX0) rfl in_X0 2 (by decide) (by decide) q306 (fun _ h9 => h9) (fun _ => rfl) (cA hB 1 rfl).1 dX0_doorIn_12 ?_
    refine lv_aload_n hx hb dX0_doorIn_15 rfl (lv_at hl 0 rfl) ?_
    refine g_getr S hB (cT hB) rfl (T := TX0) (N := 33) (C := RX0) rfl in_X0 1 (by decide) (by decide) q305 (fun _ h9 => h9) (fun _ => rfl) (cA hB 0 rfl).1 dX0_doorIn_16 ?_
    refine z_callq (va_runV (As := [.ref (z + 7)]) (rest := []) S (mX2_be l Γ z (z + 11) (z + 7) μ1 _ hp) (cwV 1 hts (lw_V q862 q863 q864 q129 q865) rfl rfl rfl hX2_be ⟨Nat.le_of_ble_eq_true rfl, Nat.le_of_ble_eq_true rfl⟩) (hB.preV (tX2_be hp) rfl rfl) rfl rfl hl.1 rfl (lv_room (Nat.le_of_ble_eq_true rfl)) dX0_doorIn_19 ⟨Nat.le_refl _, Nat.le_refl _⟩) hB (fun r4 μ3 H locs hp hB => ?_)
    refine lv_iload_n hx hb dX0_doorIn_22 rfl (lv_at hl 1 rfl) ?_
    obtain ⟨b5, eb, hp⟩ := hp
    refine W.eq (g2 := F0 m 23 ls [.int x1, .ref b5]) (by rw [eb]; rfl) ?_
    refine z_calli (va_runV (As := [.int x1]) (rest := []) S (mX2_goesOn l Γ z b5 x1 μ3 _ hp) (cwV 1 hts (lw_V q867 q868 q869 q129 q870) rfl rfl rfl hX2_goesOn ⟨Nat.le_of_ble_eq_true rfl, Nat.le_of_ble_eq_true rfl⟩) (hB.preV (tX2_goesOn hp) rfl rfl) rfl rfl hl.1 rfl (lv_room (Nat.le_of_ble_eq_true rfl)) dX0_doorIn_23 ⟨Nat.le_refl _, Nat.le_refl _⟩) hB (fun r7 μ6 H locs hp hB => ?_)
    refine lv_pop hx hb dX0_doorIn_26 rfl ?_
    refine lv_aload_n hx hb dX0_doorIn_27 rfl (lv_at hl 0 rfl) ?_
    refine g_getr S hB (cT hB) rfl (T := TX0) (N := 33) (C := RX0) rfl in_X0 2 (by decide) (by decide) q306 (fun _ h9 => h9) (fun _ => rfl) (cA hB 1 rfl).1 dX0_doorIn_28 ?_
    refine z_calli (va_runV (As := []) (rest := []) S (mX2_door l Γ z (z + 11) μ6 _ hp) (cwV 0 hts (lw_V q1037 q1038 q1039 q129 q1040) rfl rfl rfl hX2_door ⟨Nat.le_of_ble_eq_true rfl, Nat.le_of_ble_eq_true rfl⟩) (hB.preV (tX2_door hp) rfl rfl) rfl rfl hl.1 rfl (lv_room (Nat.le_of_ble_eq_true rfl)) dX0_doorIn_31 ⟨Nat.le_refl _, Nat.le_refl _⟩) hB (fun r9 μ8 H locs hp hB => ?_)
    exact zret_i X hB hp dX0_doorIn_34
  · have hp := zit hp c0
    refine lv_bipush (v := (-3 : Int32)) hx hb dX0_doorIn_8 rfl ?_
    exact zret_i X hB hp dX0_doorIn_10
def pX0_buriedIn (z : Nat) (x1 : Int32) (μ : zM) (Q : Int32 → zM → Prop) : Prop := (pX0_isStorey z x1 μ fun r2 μ1 => (if r2 = 0 then Q (-2 : Int32) μ1 else (pX0_firstSunk z ((nI 144) * (x1 + (nI 1))) μ1 fun r4 μ3 => Q r4 μ3)))
theorem hX0_buriedIn : yX0_buriedIn.cls = "SunkTower" ∧ yX0_buriedIn.cls ≠ "java/lang/invoke/MethodHandle" ∧ yX0_buriedIn.cls ≠ "java/lang/invoke/VarHandle" ∧ (parseMethodDescriptor yX0_buriedIn.desc).map (fun d => d.parameters.length) = some 1 := by decide +kernel
set_option maxHeartbeats 4000000 in
set_option maxRecDepth 100000 in
theorem mX0_buriedIn (l : Launch) (Γ : zG) (z : Nat) (x1 : Int32) (μ : zM) (Q : Int32 → zM → Prop) (hp : pX0_buriedIn z x1 μ Q) : Met l yX0_buriedIn (ws_ yX0_buriedIn cX0_buriedIn 2 (some .int)) ({ frames := 465, cells := 0, slots := 0, locals := 12536 } : Room) (va_Pc [.ref z, .int x1] (zPre Γ (cSh z) μ)) (va_Qi Q (zPost Γ (cSh z) μ) (zA μ)) 0 0 (zA μ) := by
  refine zstart (by decide) (Nat.le_of_ble_eq_true rfl) ?_
  intro p e s m below meth c ls X hnm hB hl
  have X : zCx p m c cX0_buriedIn 2 s [.ref z, .int x1].toArray RX0 meth (some .int) := X
  have S := X.1
  obtain ⟨hx, hb, hml, hown, hts⟩ := X.1
  have hl : lv_has ls 2 [(0, .ref z), (1, .int x1)] := hl
  unfold pX0_buriedIn at hp
  refine lv_aload_n hx hb dX0_buriedIn_0 rfl (lv_at hl 0 rfl) ?_
  refine lv_iload_n hx hb dX0_buriedIn_1 rfl (lv_at hl 1 rfl) ?_
  refine z_calli (va_runV (As := [.int x1]) (rest := []) S (mX0_isStorey l Γ z x1 μ _ hp) (cwV 1 hts (lw_V q748 q750 qs26 q127 q751) rfl rfl rfl hX0_isStorey ⟨Nat.le_of_ble_eq_true rfl, Nat.le_of_ble_eq_true rfl⟩) (hB.preV (cT hB) rfl rfl) rfl rfl hl.1 rfl (lv_room (Nat.le_of_ble_eq_true rfl)) dX0_buriedIn_2 ⟨Nat.le_refl _, Nat.le_refl _⟩) hB (fun r2 μ1 H locs hp hB => ?_)
  refine lv_if_eq (tgt := 22) hx hb dX0_buriedIn_5 rfl (fun c0 => ?_) (fun c0 => ?_)
  · have hp := zit hp c0
    refine lv_bipush (v := (-2 : Int32)) hx hb dX0_buriedIn_22 rfl ?_
    exact zret_i X hB hp dX0_buriedIn_24
  · have hp := zif hp c0
    refine lv_aload_n hx hb dX0_buriedIn_8 rfl (lv_at hl 0 rfl) ?_
    refine lv_sipush (v := (nI 144)) hx hb dX0_buriedIn_9 rfl ?_
    refine lv_iload_n hx hb dX0_buriedIn_12 rfl (lv_at hl 1 rfl) ?_
    refine lv_iconst (v := (nI 1)) hx hb dX0_buriedIn_13 rfl ?_
    refine lv_iadd hx hb dX0_buriedIn_14 ?_
    refine lv_imul hx hb dX0_buriedIn_15 ?_
    refine z_calli (va_runV (As := [.int ((nI 144) * (x1 + (nI 1)))]) (rest := []) S (mX0_firstSunk l Γ z ((nI 144) * (x1 + (nI 1))) μ1 _ hp) (cwV 1 hts (lw_V q1045 q1047 qs37 q127 q1048) rfl rfl rfl hX0_firstSunk ⟨Nat.le_of_ble_eq_true rfl, Nat.le_of_ble_eq_true rfl⟩) (hB.preV (cT hB) rfl rfl) rfl rfl hl.1 rfl (lv_room (Nat.le_of_ble_eq_true rfl)) dX0_buriedIn_16 ⟨Nat.le_refl _, Nat.le_refl _⟩) hB (fun r4 μ3 H locs hp hB => ?_)
    refine lv_goto (tgt := 24) hx hb dX0_buriedIn_19 rfl ?_
    exact zret_i X hB hp dX0_buriedIn_24
def pX0_shareOf (z : Nat) (x1 : Int32) (x2 : Int32) (μ : zM) (Q : Int32 → zM → Prop) : Prop := (pX2_be z (z + 11) (z + 7) μ fun r2 μ1 => (zde r2 fun b3 => (pX2_goesOn z b3 x2 μ1 fun r5 μ4 => (pX2_be z (z + 11) (z + 7) μ4 fun r7 μ6 => (zde r7 fun b8 => (zty μ6 b8 = some (.inl 2) ∧ (vp_in x1 6 ∧ zpI μ6 (b8 + 2) x1.toNatClampNeg (nI 0) fun μ10 => (pX2_goesOn z (z + 11) x2 μ10 fun r12 μ11 => Q (r5 - r12) μ11))))))))
theorem hX0_shareOf : yX0_shareOf.cls = "SunkTower" ∧ yX0_shareOf.cls ≠ "java/lang/invoke/MethodHandle" ∧ yX0_shareOf.cls ≠ "java/lang/invoke/VarHandle" ∧ (parseMethodDescriptor yX0_shareOf.desc).map (fun d => d.parameters.length) = some 2 := by decide +kernel
set_option maxHeartbeats 4000000 in
set_option maxRecDepth 100000 in
theorem mX0_shareOf (l : Launch) (Γ : zG) (z : Nat) (x1 : Int32) (x2 : Int32) (μ : zM) (Q : Int32 → zM → Prop) (hp : pX0_shareOf z x1 x2 μ Q) : Met l yX0_shareOf (ws_ yX0_shareOf cX0_shareOf 4 (some .int)) ({ frames := 465, cells := 0, slots := 0, locals := 12537 } : Room) (va_Pc [.ref z, .int x1, .int x2] (zPre Γ (cSh z) μ)) (va_Qi Q (zPost Γ (cSh z) μ) (zA μ)) 0 0 (zA μ) := by
  refine zstart (by decide) (Nat.le_of_ble_eq_true rfl) ?_
  intro p e s m below meth c ls X hnm hB hl
  have X : zCx p m c cX0_shareOf 4 s [.ref z, .int x1, .int x2].toArray RX0 meth (some .int) := X
  have S := X.1
  obtain ⟨hx, hb, hml, hown, hts⟩ := X.1
  have hl : lv_has ls 4 [(0, .ref z), (1, .int x1), (2, .int x2)] := hl
  unfold pX0_shareOf at hp
  refine lv_aload_n hx hb dX0_shareOf_0 rfl (lv_at hl 0 rfl) ?_
  refine g_getr S hB (cT hB) rfl (T := TX0) (N := 33) (C := RX0) rfl in_X0 2 (by decide) (by decide) q306 (fun _ h9 => h9) (fun _ => rfl) (cA hB 1 rfl).1 dX0_shareOf_1 ?_
  refine lv_aload_n hx hb dX0_shareOf_4 rfl (lv_at hl 0 rfl) ?_
  refine g_getr S hB (cT hB) rfl (T := TX0) (N := 33) (C := RX0) rfl in_X0 1 (by decide) (by decide) q305 (fun _ h9 => h9) (fun _ => rfl) (cA hB 0 rfl).1 dX0_shareOf_5 ?_
  refine z_callq (va_runV (As := [.ref (z + 7)]) (rest := []) S (mX2_be l Γ z (z + 11) (z + 7) μ _ hp) (cwV 1 hts (lw_V q862 q863 q864 q129 q865) rfl rfl rfl hX2_be ⟨Nat.le_of_ble_eq_true rfl, Nat.le_of_ble_eq_true rfl⟩) (hB.preV (tX2_be hp) rfl rfl) rfl rfl hl.1 rfl (lv_room (Nat.le_of_ble_eq_true rfl)) dX0_shareOf_8 ⟨Nat.le_refl _, Nat.le_refl _⟩) hB (fun r2 μ1 H locs hp hB => ?_)
  refine lv_iload_n hx hb dX0_shareOf_11 rfl (lv_at hl 2 rfl) ?_
  obtain ⟨b3, eb, hp⟩ := hp
  refine W.eq (g2 := F0 m 12 ls [.int x2, .ref b3]) (by rw [eb]; rfl) ?_
  refine z_calli (va_runV (As := [.int x2]) (rest := []) S (mX2_goesOn l Γ z b3 x2 μ1 _ hp) (cwV 1 hts (lw_V q867 q868 q869 q129 q870) rfl rfl rfl hX2_goesOn ⟨Nat.le_of_ble_eq_true rfl, Nat.le_of_ble_eq_true rfl⟩) (hB.preV (tX2_goesOn hp) rfl rfl) rfl rfl hl.1 rfl (lv_room (Nat.le_of_ble_eq_true rfl)) dX0_shareOf_12 ⟨Nat.le_refl _, Nat.le_refl _⟩) hB (fun r5 μ4 H locs hp hB => ?_)
  refine lv_istore_n (lv' := [(3, .int r5), (0, .ref z), (1, .int x1), (2, .int x2)]) hx hb dX0_shareOf_15 rfl hl (by decide) rfl (fun ls hl => ?_)
  refine lv_aload_n hx hb dX0_shareOf_16 rfl (lv_at hl 1 rfl) ?_
  refine g_getr S hB (cT hB) rfl (T := TX0) (N := 33) (C := RX0) rfl in_X0 2 (by decide) (by decide) q306 (fun _ h9 => h9) (fun _ => rfl) (cA hB 1 rfl).1 dX0_shareOf_17 ?_
  refine lv_aload_n hx hb dX0_shareOf_20 rfl (lv_at hl 1 rfl) ?_
  refine g_getr S hB (cT hB) rfl (T := TX0) (N := 33) (C := RX0) rfl in_X0 1 (by decide) (by decide) q305 (fun _ h9 => h9) (fun _ => rfl) (cA hB 0 rfl).1 dX0_shareOf_21 ?_
  refine z_callq (va_runV (As := [.ref (z + 7)]) (rest := []) S (mX2_be l Γ z (z + 11) (z + 7) μ4 _ hp) (cwV 1 hts (lw_V q862 q863 q864 q129 q865) rfl rfl rfl hX2_be ⟨Nat.le_of_ble_eq_true rfl, Nat.le_of_ble_eq_true rfl⟩) (hB.preV (tX2_be hp) rfl rfl) rfl rfl hl.1 rfl (lv_room (Nat.le_of_ble_eq_true rfl)) dX0_shareOf_24 ⟨Nat.le_refl _, Nat.le_refl _⟩) hB (fun r7 μ6 H locs hp hB => ?_)
  obtain ⟨b8, eb, hp⟩ := hp
  refine W.eq (g2 := F0 m 27 ls [.ref b8]) (by rw [eb]; rfl) ?_
  obtain ⟨ht9, hp⟩ := hp
  refine g_getrN S hB ht9 rfl (T := TX2) (N := 8) (C := RX2) rfl in_X2 1 (by decide) (by decide) (zNFw hB 6 rfl) (fun _ h9 => h9) (fun _ => rfl) (cS2 hB ht9 1 rfl).1 dX0_shareOf_27 ?_
  refine lv_iload_n hx hb dX0_shareOf_30 rfl (lv_at hl 2 rfl) ?_
  refine lv_iconst (v := (nI 0)) hx hb dX0_shareOf_31 rfl ?_
  obtain ⟨hi, hp⟩ := hp
  obtain ⟨μ10, eμ10, hp⟩ := zpI_e hp
  refine g_iast S hB (cS2 hB ht9 1 rfl).2 hi dX0_shareOf_32 (fun H locs hB => ?_)
  rw [← eμ10] at hB
  refine lv_iload_n hx hb dX0_shareOf_33 rfl (lv_at hl 0 rfl) ?_
  refine lv_aload_n hx hb dX0_shareOf_34 rfl (lv_at hl 1 rfl) ?_
  refine g_getr S hB (cT hB) rfl (T := TX0) (N := 33) (C := RX0) rfl in_X0 2 (by decide) (by decide) q306 (fun _ h9 => h9) (fun _ => rfl) (cA hB 1 rfl).1 dX0_shareOf_35 ?_
  refine lv_iload_n hx hb dX0_shareOf_38 rfl (lv_at hl 3 rfl) ?_
  refine z_calli (va_runV (As := [.int x2]) (rest := [.int r5]) S (mX2_goesOn l Γ z (z + 11) x2 μ10 _ hp) (cwV 1 hts (lw_V q867 q868 q869 q129 q870) rfl rfl rfl hX2_goesOn ⟨Nat.le_of_ble_eq_true rfl, Nat.le_of_ble_eq_true rfl⟩) (hB.preV (tX2_goesOn hp) rfl rfl) rfl rfl hl.1 rfl (lv_room (Nat.le_of_ble_eq_true rfl)) dX0_shareOf_39 ⟨Nat.le_refl _, Nat.le_refl _⟩) hB (fun r12 μ11 H locs hp hB => ?_)
  refine lv_isub hx hb dX0_shareOf_42 ?_
  exact zret_i X hB hp dX0_shareOf_43
def pX0_heaviest_22 (z : Nat) (x1 : Int32) (Q : Int32 → zM → Prop) : Nat → Int32 → Int32 → Int32 → zM → Prop
  | 0, _, _, _, _ => False
  | n + 1, x2, x3, x4, μ => (zde (zR μ z 0) fun b1 => (zty μ b1 = some (.inl 1) ∧ (if (zI μ b1 6) ≤ x4 then Q x2 μ else (pX0_shareOf z x4 x1 μ fun r4 μ3 => (if x3 < r4 then pX0_heaviest_22 z x1 Q n x4 r4 (x4 + (nI 1)) μ3 else pX0_heaviest_22 z x1 Q n x2 x3 (x4 + (nI 1)) μ3)))))
set_option maxHeartbeats 4000000 in
set_option maxRecDepth 100000 in
theorem wX0_heaviest_22 {p : Program} {l : Launch} {e : Env} {s : State} {m : MethodId} {args : Array Value} {below : List Frame} {meth : Method} {c : Code} {Γ : zG} {μ0 : zM} {Q : Int32 → zM → Prop} (X : zCx p m c cX0_heaviest 6 s args RX0 meth (some .int)) (z : Nat) (x1 : Int32) : ∀ (n : Nat) (x2 : Int32) (x3 : Int32) (x4 : Int32) (μ : zM) (H : Heap) (locs : List Loc) (ls : Array Slot), pX0_heaviest_22 z x1 Q n x2 x3 x4 μ → zB Γ (cSh z) (zA μ0) μ0 s μ H locs → lv_has ls 6 [(0, .ref z), (1, .int x1), (2, .int x2), (3, .int x3), (4, .int x4)] → W p l e ({ frames := 466, cells := 0, slots := 0, locals := 12560 } : Room) s m args below meth c H locs 0 0 (MQ below (va_Qi Q (zPost Γ (cSh z) μ0) (zA μ0)) args s 0 0 (zA μ0)) (F0 m 22 ls []) := by
  have S := X.1
  obtain ⟨hx, hb, hml, hown, hts⟩ := X.1
  intro n
  induction n with
  | zero =>
    intro x2 x3 x4 μ H locs ls hp
    exact hp.elim
  | succ n ih =>
    intro x2 x3 x4 μ H locs ls hp hB hl
    unfold pX0_heaviest_22 at hp
    refine lv_iload hx hb dX0_heaviest_22 (lv_at hl 4 rfl) ?_
    refine lv_aload_n hx hb dX0_heaviest_24 rfl (lv_at hl 0 rfl) ?_
    refine g_get S hB (cT hB) rfl (T := TX0) (N := 33) (C := RX0) rfl in_X0 0 (by decide) (by decide) q304 (fun _ h9 => h9) (v := va_rf (zR μ z 0)) rfl dX0_heaviest_25 ?_
    obtain ⟨b1, eb, hp⟩ := hp
    refine W.eq (g2 := F0 m 28 ls [.ref b1, .int x4]) (by rw [eb]; rfl) ?_
    obtain ⟨ht2, hp⟩ := hp
    refine g_getN S hB ht2 rfl (T := TX1) (N := 16) (C := RX1) rfl in_X1 6 (by decide) (by decide) (zNFw hB 1 rfl) (fun _ h9 => h9) (v := .int (zI μ b1 6)) rfl dX0_heaviest_28 ?_
    refine lv_icmp_ge (tgt := 64) hx hb dX0_heaviest_31 rfl (fun c0 => ?_) (fun c0 => ?_)
    · have hp := zit hp c0
      refine lv_iload_n hx hb dX0_heaviest_64 rfl (lv_at hl 2 rfl) ?_
      exact zret_i X hB hp dX0_heaviest_65
    · have hp := zif hp c0
      refine lv_aload_n hx hb dX0_heaviest_34 rfl (lv_at hl 0 rfl) ?_
      refine lv_iload hx hb dX0_heaviest_35 (lv_at hl 4 rfl) ?_
      refine lv_iload_n hx hb dX0_heaviest_37 rfl (lv_at hl 1 rfl) ?_
      refine z_calli (va_runV (As := [.int x4, .int x1]) (rest := []) S (mX0_shareOf l Γ z x4 x1 μ _ hp) (cwV 2 hts (lw_V q1072 q1074 qs38 q127 q1075) rfl rfl rfl hX0_shareOf ⟨Nat.le_of_ble_eq_true rfl, Nat.le_of_ble_eq_true rfl⟩) (hB.preV (cT hB) rfl rfl) rfl rfl hl.1 rfl (lv_room (Nat.le_of_ble_eq_true rfl)) dX0_heaviest_38 ⟨Nat.le_refl _, Nat.le_refl _⟩) hB (fun r4 μ3 H locs hp hB => ?_)
      refine lv_istore (lv' := [(5, .int r4), (0, .ref z), (1, .int x1), (2, .int x2), (3, .int x3), (4, .int x4)]) hx hb dX0_heaviest_41 hl (by decide) rfl (fun ls hl => ?_)
      refine lv_iload hx hb dX0_heaviest_43 (lv_at hl 0 rfl) ?_
      refine lv_iload_n hx hb dX0_heaviest_45 rfl (lv_at hl 4 rfl) ?_
      refine lv_icmp_gt (tgt := 52) hx hb dX0_heaviest_46 rfl (fun c0 => ?_) (fun c0 => ?_)
      · have hp := zit hp c0
        refine lv_iload hx hb dX0_heaviest_52 (lv_at hl 5 rfl) ?_
        refine lv_istore_n (lv' := [(2, .int x4), (5, .int r4), (0, .ref z), (1, .int x1), (3, .int x3), (4, .int x4)]) hx hb dX0_heaviest_54 rfl hl (by decide) rfl (fun ls hl => ?_)
        refine lv_iload hx hb dX0_heaviest_55 (lv_at hl 1 rfl) ?_
        refine lv_istore_n (lv' := [(3, .int r4), (2, .int x4), (5, .int r4), (0, .ref z), (1, .int x1), (4, .int x4)]) hx hb dX0_heaviest_57 rfl hl (by decide) rfl (fun ls hl => ?_)
        refine lv_iinc (v := (x4 + (nI 1))) (lv' := [(4, .int (x4 + (nI 1))), (3, .int r4), (2, .int x4), (5, .int r4), (0, .ref z), (1, .int x1)]) hx hb dX0_heaviest_58 hl (k := 5) rfl rfl (by decide) rfl (fun ls hl => ?_)
        refine lv_goto (tgt := 22) hx hb dX0_heaviest_61 rfl ?_
        exact ih x4 r4 (x4 + (nI 1)) μ3 _ _ _ hp hB (lv_sub hl [4, 5, 2, 1, 0] rfl)
      · have hp := zif hp c0
        refine lv_goto (tgt := 58) hx hb dX0_heaviest_49 rfl ?_
        refine lv_iinc (v := (x4 + (nI 1))) (lv' := [(4, .int (x4 + (nI 1))), (5, .int r4), (0, .ref z), (1, .int x1), (2, .int x2), (3, .int x3)]) hx hb dX0_heaviest_58 hl (k := 5) rfl rfl (by decide) rfl (fun ls hl => ?_)
        refine lv_goto (tgt := 22) hx hb dX0_heaviest_61 rfl ?_
        exact ih x2 x3 (x4 + (nI 1)) μ3 _ _ _ hp hB (lv_sub hl [2, 3, 4, 5, 0] rfl)
def pX0_heaviest (z : Nat) (x1 : Int32) (μ : zM) (Q : Int32 → zM → Prop) : Prop := (pX0_in z (x1.toInt64) (1 : Int64) (600 : Int64) μ fun r2 μ1 => (if r2 = 0 then Q (-3 : Int32) μ1 else ∃ k1, pX0_heaviest_22 z x1 Q k1 (-1 : Int32) (nI 0) (nI 0) μ1))
theorem hX0_heaviest : yX0_heaviest.cls = "SunkTower" ∧ yX0_heaviest.cls ≠ "java/lang/invoke/MethodHandle" ∧ yX0_heaviest.cls ≠ "java/lang/invoke/VarHandle" ∧ (parseMethodDescriptor yX0_heaviest.desc).map (fun d => d.parameters.length) = some 1 := by decide +kernel
set_option maxHeartbeats 4000000 in
set_option maxRecDepth 100000 in
theorem mX0_heaviest (l : Launch) (Γ : zG) (z : Nat) (x1 : Int32) (μ : zM) (Q : Int32 → zM → Prop) (hp : pX0_heaviest z x1 μ Q) : Met l yX0_heaviest (ws_ yX0_heaviest cX0_heaviest 6 (some .int)) ({ frames := 466, cells := 0, slots := 0, locals := 12560 } : Room) (va_Pc [.ref z, .int x1] (zPre Γ (cSh z) μ)) (va_Qi Q (zPost Γ (cSh z) μ) (zA μ)) 0 0 (zA μ) := by
  refine zstart (by decide) (Nat.le_of_ble_eq_true rfl) ?_
  intro p e s m below meth c ls X hnm hB hl
  have X : zCx p m c cX0_heaviest 6 s [.ref z, .int x1].toArray RX0 meth (some .int) := X
  have S := X.1
  obtain ⟨hx, hb, hml, hown, hts⟩ := X.1
  have hl : lv_has ls 6 [(0, .ref z), (1, .int x1)] := hl
  unfold pX0_heaviest at hp
  refine lv_iload_n hx hb dX0_heaviest_0 rfl (lv_at hl 1 rfl) ?_
  refine lv_i2l hx hb dX0_heaviest_1 rfl ?_
  refine lv_lconst (v := (1 : Int64)) hx hb dX0_heaviest_2 rfl ?_
  refine lv_ldc2 (v := (600 : Int64)) hx hb hown (hts _ q1026) dX0_heaviest_3 ?_
  refine z_calli (va_runS (As := [.long (x1.toInt64), .long (1 : Int64), .long (600 : Int64)]) (rest := []) S (mX0_in l Γ z (x1.toInt64) (1 : Int64) (600 : Int64) μ _ hp) (va_cwS 3 hts (lw_S q418 q419 q127 q420) rfl rfl rfl hX0_in ⟨Nat.le_of_ble_eq_true rfl, Nat.le_of_ble_eq_true rfl⟩) hB.preS rfl rfl hl.1 rfl (lv_room (Nat.le_of_ble_eq_true rfl)) dX0_heaviest_6 ⟨Nat.le_refl _, Nat.le_refl _⟩) hB (fun r2 μ1 H locs hp hB => ?_)
  refine lv_if_ne (tgt := 15) hx hb dX0_heaviest_9 rfl (fun c0 => ?_) (fun c0 => ?_)
  · have hp := zif hp c0
    refine lv_iconst (v := (-1 : Int32)) hx hb dX0_heaviest_15 rfl ?_
    refine lv_istore_n (lv' := [(2, .int (-1 : Int32)), (0, .ref z), (1, .int x1)]) hx hb dX0_heaviest_16 rfl hl (by decide) rfl (fun ls hl => ?_)
    refine lv_iconst (v := (nI 0)) hx hb dX0_heaviest_17 rfl ?_
    refine lv_istore_n (lv' := [(3, .int (nI 0)), (2, .int (-1 : Int32)), (0, .ref z), (1, .int x1)]) hx hb dX0_heaviest_18 rfl hl (by decide) rfl (fun ls hl => ?_)
    refine lv_iconst (v := (nI 0)) hx hb dX0_heaviest_19 rfl ?_
    refine lv_istore (lv' := [(4, .int (nI 0)), (3, .int (nI 0)), (2, .int (-1 : Int32)), (0, .ref z), (1, .int x1)]) hx hb dX0_heaviest_20 hl (by decide) rfl (fun ls hl => ?_)
    obtain ⟨n1, hp⟩ := hp
    exact wX0_heaviest_22 X z x1 n1 (-1 : Int32) (nI 0) (nI 0) μ1 _ _ _ hp hB (lv_sub hl [3, 4, 2, 1, 0] rfl)
  · have hp := zit hp c0
    refine lv_bipush (v := (-3 : Int32)) hx hb dX0_heaviest_12 rfl ?_
    exact zret_i X hB hp dX0_heaviest_14
def pX0_bears_23 (z : Nat) (x1 : Int32) (x2 : Int32) (Q : Int32 → zM → Prop) : Nat → Int32 → zM → Prop
  | 0, _, _ => False
  | n + 1, x3, μ => (if x3 < 0 then Q (-1 : Int32) μ else (pX2_be z (z + 11) (z + 7) μ fun r2 μ1 => (zde r2 fun b3 => (zty μ1 b3 = some (.inl 2) ∧ (zpI μ1 b3 6 x3 fun μ5 => (pX2_goesOn z (z + 11) x2 μ5 fun r7 μ6 => (if x1 < r7 then pX0_bears_23 z x1 x2 Q n (x3 - (nI 1)) μ6 else Q x3 μ6)))))))
set_option maxHeartbeats 4000000 in
set_option maxRecDepth 100000 in
theorem wX0_bears_23 {p : Program} {l : Launch} {e : Env} {s : State} {m : MethodId} {args : Array Value} {below : List Frame} {meth : Method} {c : Code} {Γ : zG} {μ0 : zM} {Q : Int32 → zM → Prop} (X : zCx p m c cX0_bears 4 s args RX0 meth (some .int)) (z : Nat) (x1 : Int32) (x2 : Int32) : ∀ (n : Nat) (x3 : Int32) (μ : zM) (H : Heap) (locs : List Loc) (ls : Array Slot), pX0_bears_23 z x1 x2 Q n x3 μ → zB Γ (cSh z) (zA μ0) μ0 s μ H locs → lv_has ls 4 [(0, .ref z), (1, .int x1), (2, .int x2), (3, .int x3)] → W p l e ({ frames := 465, cells := 0, slots := 0, locals := 12537 } : Room) s m args below meth c H locs 0 0 (MQ below (va_Qi Q (zPost Γ (cSh z) μ0) (zA μ0)) args s 0 0 (zA μ0)) (F0 m 23 ls []) := by
  have S := X.1
  obtain ⟨hx, hb, hml, hown, hts⟩ := X.1
  intro n
  induction n with
  | zero =>
    intro x3 μ H locs ls hp
    exact hp.elim
  | succ n ih =>
    intro x3 μ H locs ls hp hB hl
    unfold pX0_bears_23 at hp
    refine lv_iload_n hx hb dX0_bears_23 rfl (lv_at hl 3 rfl) ?_
    refine lv_if_lt (tgt := 62) hx hb dX0_bears_24 rfl (fun c0 => ?_) (fun c0 => ?_)
    · have hp := zit hp c0
      refine lv_iconst (v := (-1 : Int32)) hx hb dX0_bears_62 rfl ?_
      exact zret_i X hB hp dX0_bears_63
    · have hp := zif hp c0
      refine lv_aload_n hx hb dX0_bears_27 rfl (lv_at hl 0 rfl) ?_
      refine g_getr S hB (cT hB) rfl (T := TX0) (N := 33) (C := RX0) rfl in_X0 2 (by decide) (by decide) q306 (fun _ h9 => h9) (fun _ => rfl) (cA hB 1 rfl).1 dX0_bears_28 ?_
      refine lv_aload_n hx hb dX0_bears_31 rfl (lv_at hl 0 rfl) ?_
      refine g_getr S hB (cT hB) rfl (T := TX0) (N := 33) (C := RX0) rfl in_X0 1 (by decide) (by decide) q305 (fun _ h9 => h9) (fun _ => rfl) (cA hB 0 rfl).1 dX0_bears_32 ?_
      refine z_callq (va_runV (As := [.ref (z + 7)]) (rest := []) S (mX2_be l Γ z (z + 11) (z + 7) μ _ hp) (cwV 1 hts (lw_V q862 q863 q864 q129 q865) rfl rfl rfl hX2_be ⟨Nat.le_of_ble_eq_true rfl, Nat.le_of_ble_eq_true rfl⟩) (hB.preV (tX2_be hp) rfl rfl) rfl rfl hl.1 rfl (lv_room (Nat.le_of_ble_eq_true rfl)) dX0_bears_35 ⟨Nat.le_refl _, Nat.le_refl _⟩) hB (fun r2 μ1 H locs hp hB => ?_)
      refine lv_iload_n hx hb dX0_bears_38 rfl (lv_at hl 3 rfl) ?_
      obtain ⟨b3, eb, hp⟩ := hp
      refine W.eq (g2 := F0 m 39 ls [.int x3, .ref b3]) (by rw [eb]; rfl) ?_
      obtain ⟨ht4, hp⟩ := hp
      obtain ⟨μ5, eμ5, hp⟩ := zpI_e hp
      refine g_putIN S hB ht4 rfl (T := TX2) (N := 8) (C := RX2) rfl in_X2 6 (by decide) (by decide) (x := x3) tyX2 tyX2_ok nmX2 (zNFw hB 11 rfl) (fun _ h9 => h9) rfl (ty := .int) (by decide +kernel) rfl rfl (fun _ _ => rfl) dX0_bears_39 (fun H locs hB => ?_)
      rw [← eμ5] at hB
      refine lv_aload_n hx hb dX0_bears_42 rfl (lv_at hl 0 rfl) ?_
      refine g_getr S hB (cT hB) rfl (T := TX0) (N := 33) (C := RX0) rfl in_X0 2 (by decide) (by decide) q306 (fun _ h9 => h9) (fun _ => rfl) (cA hB 1 rfl).1 dX0_bears_43 ?_
      refine lv_iload_n hx hb dX0_bears_46 rfl (lv_at hl 2 rfl) ?_
      refine z_calli (va_runV (As := [.int x2]) (rest := []) S (mX2_goesOn l Γ z (z + 11) x2 μ5 _ hp) (cwV 1 hts (lw_V q867 q868 q869 q129 q870) rfl rfl rfl hX2_goesOn ⟨Nat.le_of_ble_eq_true rfl, Nat.le_of_ble_eq_true rfl⟩) (hB.preV (tX2_goesOn hp) rfl rfl) rfl rfl hl.1 rfl (lv_room (Nat.le_of_ble_eq_true rfl)) dX0_bears_47 ⟨Nat.le_refl _, Nat.le_refl _⟩) hB (fun r7 μ6 H locs hp hB => ?_)
      refine lv_iload_n hx hb dX0_bears_50 rfl (lv_at hl 1 rfl) ?_
      refine lv_icmp_gt (tgt := 56) hx hb dX0_bears_51 rfl (fun c0 => ?_) (fun c0 => ?_)
      · have hp := zit hp c0
        refine lv_iinc (v := (x3 - (nI 1))) (lv' := [(3, .int (x3 - (nI 1))), (0, .ref z), (1, .int x1), (2, .int x2)]) hx hb dX0_bears_56 hl (k := 3) rfl (by rw [Int32.sub_eq_add_neg]; rfl) (by decide) rfl (fun ls hl => ?_)
        refine lv_goto (tgt := 23) hx hb dX0_bears_59 rfl ?_
        exact ih (x3 - (nI 1)) μ6 _ _ _ hp hB (lv_sub hl [1, 2, 3, 0] rfl)
      · have hp := zif hp c0
        refine lv_iload_n hx hb dX0_bears_54 rfl (lv_at hl 3 rfl) ?_
        exact zret_i X hB hp dX0_bears_55
def pX0_bears (z : Nat) (x1 : Int32) (x2 : Int32) (μ : zM) (Q : Int32 → zM → Prop) : Prop := (if x1 < 0 then Q (-3 : Int32) μ else (pX0_in z (x2.toInt64) (1 : Int64) (60 : Int64) μ fun r2 μ1 => (if r2 = 0 then Q (-3 : Int32) μ1 else ∃ k1, pX0_bears_23 z x1 x2 Q k1 (nI 999) μ1)))
theorem hX0_bears : yX0_bears.cls = "SunkTower" ∧ yX0_bears.cls ≠ "java/lang/invoke/MethodHandle" ∧ yX0_bears.cls ≠ "java/lang/invoke/VarHandle" ∧ (parseMethodDescriptor yX0_bears.desc).map (fun d => d.parameters.length) = some 2 := by decide +kernel
set_option maxHeartbeats 4000000 in
set_option maxRecDepth 100000 in
theorem mX0_bears (l : Launch) (Γ : zG) (z : Nat) (x1 : Int32) (x2 : Int32) (μ : zM) (Q : Int32 → zM → Prop) (hp : pX0_bears z x1 x2 μ Q) : Met l yX0_bears (ws_ yX0_bears cX0_bears 4 (some .int)) ({ frames := 465, cells := 0, slots := 0, locals := 12537 } : Room) (va_Pc [.ref z, .int x1, .int x2] (zPre Γ (cSh z) μ)) (va_Qi Q (zPost Γ (cSh z) μ) (zA μ)) 0 0 (zA μ) := by
  refine zstart (by decide) (Nat.le_of_ble_eq_true rfl) ?_
  intro p e s m below meth c ls X hnm hB hl
  have X : zCx p m c cX0_bears 4 s [.ref z, .int x1, .int x2].toArray RX0 meth (some .int) := X
  have S := X.1
  obtain ⟨hx, hb, hml, hown, hts⟩ := X.1
  have hl : lv_has ls 4 [(0, .ref z), (1, .int x1), (2, .int x2)] := hl
  unfold pX0_bears at hp
  refine lv_iload_n hx hb dX0_bears_0 rfl (lv_at hl 1 rfl) ?_
  refine lv_if_lt (tgt := 16) hx hb dX0_bears_1 rfl (fun c0 => ?_) (fun c0 => ?_)
  · have hp := zit hp c0
    refine lv_bipush (v := (-3 : Int32)) hx hb dX0_bears_16 rfl ?_
    exact zret_i X hB hp dX0_bears_18
  · have hp := zif hp c0
    refine lv_iload_n hx hb dX0_bears_4 rfl (lv_at hl 2 rfl) ?_
    refine lv_i2l hx hb dX0_bears_5 rfl ?_
    refine lv_lconst (v := (1 : Int64)) hx hb dX0_bears_6 rfl ?_
    refine lv_ldc2 (v := (60 : Int64)) hx hb hown (hts _ q1084) dX0_bears_7 ?_
    refine z_calli (va_runS (As := [.long (x2.toInt64), .long (1 : Int64), .long (60 : Int64)]) (rest := []) S (mX0_in l Γ z (x2.toInt64) (1 : Int64) (60 : Int64) μ _ hp) (va_cwS 3 hts (lw_S q418 q419 q127 q420) rfl rfl rfl hX0_in ⟨Nat.le_of_ble_eq_true rfl, Nat.le_of_ble_eq_true rfl⟩) hB.preS rfl rfl hl.1 rfl (lv_room (Nat.le_of_ble_eq_true rfl)) dX0_bears_10 ⟨Nat.le_refl _, Nat.le_refl _⟩) hB (fun r2 μ1 H locs hp hB => ?_)
    refine lv_if_ne (tgt := 19) hx hb dX0_bears_13 rfl (fun c0 => ?_) (fun c0 => ?_)
    · have hp := zif hp c0
      refine lv_sipush (v := (nI 999)) hx hb dX0_bears_19 rfl ?_
      refine lv_istore_n (lv' := [(3, .int (nI 999)), (0, .ref z), (1, .int x1), (2, .int x2)]) hx hb dX0_bears_22 rfl hl (by decide) rfl (fun ls hl => ?_)
      obtain ⟨n1, hp⟩ := hp
      exact wX0_bears_23 X z x1 x2 n1 (nI 999) μ1 _ _ _ hp hB (lv_sub hl [1, 2, 3, 0] rfl)
    · have hp := zit hp c0
      refine lv_bipush (v := (-3 : Int32)) hx hb dX0_bears_16 rfl ?_
      exact zret_i X hB hp dX0_bears_18
def pX0_laysStays_55 (z : Nat) (x1 : Int32) (x2 : Int32) (K7 : Int32 → zM → Prop) (Q : zM → Prop) (x3 : Int32) (y3 : Int32) (y2 : Int32) (μ : zM) : Prop := (zpI μ z 18 (y2 ||| y3) fun μ1 => K7 (x3 + (nI 1)) μ1)
set_option maxHeartbeats 4000000 in
set_option maxRecDepth 100000 in
theorem wX0_laysStays_55 {p : Program} {l : Launch} {e : Env} {s : State} {m : MethodId} {args : Array Value} {below : List Frame} {meth : Method} {c : Code} {Γ : zG} {μ0 : zM} {Q : zM → Prop} {K7 : Int32 → zM → Prop} (X : zCx p m c cX0_laysStays 6 s args RX0 meth none) (z : Nat) (x1 : Int32) (x2 : Int32) (hK7 : ∀ (x3 : Int32) (μ : zM) (H : Heap) (locs : List Loc) (ls : Array Slot), K7 x3 μ → zB Γ (cSh z) (zA μ0) μ0 s μ H locs → lv_has ls 6 [(0, .ref z), (1, .int x1), (2, .int x2), (3, .int x3)] → W p l e ({ frames := 464, cells := 0, slots := 0, locals := 12514 } : Room) s m args below meth c H locs 0 0 (MQ below (va_Qv Q (zPost Γ (cSh z) μ0) (zA μ0)) args s 0 0 (zA μ0)) (F0 m 7 ls [])) : ∀ (x3 : Int32) (y3 : Int32) (y2 : Int32) (μ : zM) (H : Heap) (locs : List Loc) (ls : Array Slot), pX0_laysStays_55 z x1 x2 K7 Q x3 y3 y2 μ → zB Γ (cSh z) (zA μ0) μ0 s μ H locs → lv_has ls 6 [(0, .ref z), (1, .int x1), (2, .int x2), (3, .int x3)] → W p l e ({ frames := 464, cells := 0, slots := 0, locals := 12514 } : Room) s m args below meth c H locs 0 0 (MQ below (va_Qv Q (zPost Γ (cSh z) μ0) (zA μ0)) args s 0 0 (zA μ0)) (F0 m 55 ls [.int y3, .int y2, .ref z]) := by
  have S := X.1
  obtain ⟨hx, hb, hml, hown, hts⟩ := X.1
  intro x3 y3 y2 μ H locs ls hp hB hl
  unfold pX0_laysStays_55 at hp
  refine lv_ior hx hb dX0_laysStays_55 ?_
  obtain ⟨μ1, eμ1, hp⟩ := zpI_e hp
  refine g_putI S hB (cT hB) rfl (T := TX0) (N := 33) (C := RX0) rfl in_X0 18 (by decide) (by decide) (x := (y2 ||| y3)) tyX0 tyX0_ok nmX0 q324 (fun _ h9 => h9) rfl (ty := .int) (by decide +kernel) rfl rfl (fun _ _ => rfl) dX0_laysStays_56 (fun H locs hB => ?_)
  rw [← eμ1] at hB
  refine lv_iinc (v := (x3 + (nI 1))) (lv' := [(3, .int (x3 + (nI 1))), (0, .ref z), (1, .int x1), (2, .int x2)]) hx hb dX0_laysStays_59 hl (k := 3) rfl rfl (by decide) rfl (fun ls hl => ?_)
  refine lv_goto (tgt := 7) hx hb dX0_laysStays_62 rfl ?_
  exact hK7 (x3 + (nI 1)) μ1 _ _ _ hp hB (lv_sub hl [1, 2, 3, 0] rfl)
def pX0_laysStays_48 (z : Nat) (x1 : Int32) (x2 : Int32) (K7 : Int32 → zM → Prop) (Q : zM → Prop) (x3 : Int32) (y2 : Int32) (μ : zM) : Prop := pX0_laysStays_55 z x1 x2 K7 Q x3 ((nI 1) <<< (x3 &&& 31)) y2 μ
set_option maxHeartbeats 4000000 in
set_option maxRecDepth 100000 in
theorem wX0_laysStays_48 {p : Program} {l : Launch} {e : Env} {s : State} {m : MethodId} {args : Array Value} {below : List Frame} {meth : Method} {c : Code} {Γ : zG} {μ0 : zM} {Q : zM → Prop} {K7 : Int32 → zM → Prop} (X : zCx p m c cX0_laysStays 6 s args RX0 meth none) (z : Nat) (x1 : Int32) (x2 : Int32) (hK7 : ∀ (x3 : Int32) (μ : zM) (H : Heap) (locs : List Loc) (ls : Array Slot), K7 x3 μ → zB Γ (cSh z) (zA μ0) μ0 s μ H locs → lv_has ls 6 [(0, .ref z), (1, .int x1), (2, .int x2), (3, .int x3)] → W p l e ({ frames := 464, cells := 0, slots := 0, locals := 12514 } : Room) s m args below meth c H locs 0 0 (MQ below (va_Qv Q (zPost Γ (cSh z) μ0) (zA μ0)) args s 0 0 (zA μ0)) (F0 m 7 ls [])) : ∀ (x3 : Int32) (y2 : Int32) (μ : zM) (H : Heap) (locs : List Loc) (ls : Array Slot), pX0_laysStays_48 z x1 x2 K7 Q x3 y2 μ → zB Γ (cSh z) (zA μ0) μ0 s μ H locs → lv_has ls 6 [(0, .ref z), (1, .int x1), (2, .int x2), (3, .int x3)] → W p l e ({ frames := 464, cells := 0, slots := 0, locals := 12514 } : Room) s m args below meth c H locs 0 0 (MQ below (va_Qv Q (zPost Γ (cSh z) μ0) (zA μ0)) args s 0 0 (zA μ0)) (F0 m 48 ls [.int y2, .ref z]) := by
  have S := X.1
  obtain ⟨hx, hb, hml, hown, hts⟩ := X.1
  intro x3 y2 μ H locs ls hp hB hl
  unfold pX0_laysStays_48 at hp
  refine lv_iconst (v := (nI 1)) hx hb dX0_laysStays_48 rfl ?_
  refine lv_iload_n hx hb dX0_laysStays_49 rfl (lv_at hl 3 rfl) ?_
  refine lv_ishl hx hb dX0_laysStays_50 ?_
  refine lv_goto (tgt := 55) hx hb dX0_laysStays_51 rfl ?_
  exact wX0_laysStays_55 X z x1 x2 hK7 x3 ((nI 1) <<< (x3 &&& 31)) y2 μ _ _ _ hp hB (lv_sub hl [0, 1, 2, 3] rfl)
def pX0_laysStays_159 (z : Nat) (x1 : Int32) (x2 : Int32) (K106 : Int32 → Int32 → zM → Prop) (Q : zM → Prop) : Nat → Int32 → Int32 → Int32 → zM → Prop
  | 0, _, _, _, _ => False
  | n + 1, x3, x4, x5, μ => (if (zI μ (z + 7) 3) ≤ x5 then (pX2_sinks z (z + 11) μ fun r2 μ1 => K106 x3 (x4 + (nI 1)) μ1) else (pX0_has z (zI μ z 18) x5 μ fun r4 μ3 => (if r4 = 0 then pX0_laysStays_159 z x1 x2 K106 Q n x3 x4 (x5 + (nI 1)) μ3 else (vp_in (((nI 9) * x3) + x5) 54 ∧ (pX0_gain z x1 x5 μ3 fun r6 μ5 => (vp_in (((nI 9) * x3) + x5) 54 ∧ zpJ μ5 (z + 59) (((nI 9) * x3) + x5).toNatClampNeg ((zJ μ3 (z + 59) (((nI 9) * x3) + x5).toNatClampNeg) + r6) fun μ7 => pX0_laysStays_159 z x1 x2 K106 Q n x3 x4 (x5 + (nI 1)) μ7))))))
set_option maxHeartbeats 4000000 in
set_option maxRecDepth 100000 in
theorem wX0_laysStays_159 {p : Program} {l : Launch} {e : Env} {s : State} {m : MethodId} {args : Array Value} {below : List Frame} {meth : Method} {c : Code} {Γ : zG} {μ0 : zM} {Q : zM → Prop} {K106 : Int32 → Int32 → zM → Prop} (X : zCx p m c cX0_laysStays 6 s args RX0 meth none) (z : Nat) (x1 : Int32) (x2 : Int32) (hK106 : ∀ (x3 : Int32) (x4 : Int32) (μ : zM) (H : Heap) (locs : List Loc) (ls : Array Slot), K106 x3 x4 μ → zB Γ (cSh z) (zA μ0) μ0 s μ H locs → lv_has ls 6 [(0, .ref z), (1, .int x1), (2, .int x2), (3, .int x3), (4, .int x4)] → W p l e ({ frames := 464, cells := 0, slots := 0, locals := 12514 } : Room) s m args below meth c H locs 0 0 (MQ below (va_Qv Q (zPost Γ (cSh z) μ0) (zA μ0)) args s 0 0 (zA μ0)) (F0 m 106 ls [])) : ∀ (n : Nat) (x3 : Int32) (x4 : Int32) (x5 : Int32) (μ : zM) (H : Heap) (locs : List Loc) (ls : Array Slot), pX0_laysStays_159 z x1 x2 K106 Q n x3 x4 x5 μ → zB Γ (cSh z) (zA μ0) μ0 s μ H locs → lv_has ls 6 [(0, .ref z), (1, .int x1), (2, .int x2), (3, .int x3), (4, .int x4), (5, .int x5)] → W p l e ({ frames := 464, cells := 0, slots := 0, locals := 12514 } : Room) s m args below meth c H locs 0 0 (MQ below (va_Qv Q (zPost Γ (cSh z) μ0) (zA μ0)) args s 0 0 (zA μ0)) (F0 m 159 ls []) := by
  have S := X.1
  obtain ⟨hx, hb, hml, hown, hts⟩ := X.1
  intro n
  induction n with
  | zero =>
    intro x3 x4 x5 μ H locs ls hp
    exact hp.elim
  | succ n ih =>
    intro x3 x4 x5 μ H locs ls hp hB hl
    unfold pX0_laysStays_159 at hp
    refine lv_iload hx hb dX0_laysStays_159 (lv_at hl 5 rfl) ?_
    refine lv_aload_n hx hb dX0_laysStays_161 rfl (lv_at hl 0 rfl) ?_
    refine g_getr S hB (cT hB) rfl (T := TX0) (N := 33) (C := RX0) rfl in_X0 1 (by decide) (by decide) q305 (fun _ h9 => h9) (fun _ => rfl) (cA hB 0 rfl).1 dX0_laysStays_162 ?_
    refine g_getN S hB (cA hB 0 rfl).2 rfl (T := TX2) (N := 8) (C := RX2) rfl in_X2 3 (by decide) (by decide) (zNFw hB 8 rfl) (fun _ h9 => h9) (v := .int (zI μ (z + 7) 3)) rfl dX0_laysStays_165 ?_
    refine lv_icmp_ge (tgt := 211) hx hb dX0_laysStays_168 rfl (fun c0 => ?_) (fun c0 => ?_)
    · have hp := zit hp c0
      refine lv_aload_n hx hb dX0_laysStays_211 rfl (lv_at hl 0 rfl) ?_
      refine g_getr S hB (cT hB) rfl (T := TX0) (N := 33) (C := RX0) rfl in_X0 2 (by decide) (by decide) q306 (fun _ h9 => h9) (fun _ => rfl) (cA hB 1 rfl).1 dX0_laysStays_212 ?_
      refine z_calli (va_runV (As := []) (rest := []) S (mX2_sinks l Γ z (z + 11) μ _ hp) (cwV 0 hts (lw_V q1049 q872 q873 q129 q874) rfl rfl rfl hX2_sinks ⟨Nat.le_of_ble_eq_true rfl, Nat.le_of_ble_eq_true rfl⟩) (hB.preV (tX2_sinks hp) rfl rfl) rfl rfl hl.1 rfl (lv_room (Nat.le_of_ble_eq_true rfl)) dX0_laysStays_215 ⟨Nat.le_refl _, Nat.le_refl _⟩) hB (fun r2 μ1 H locs hp hB => ?_)
      refine lv_pop hx hb dX0_laysStays_218 rfl ?_
      refine lv_iinc (v := (x4 + (nI 1))) (lv' := [(4, .int (x4 + (nI 1))), (0, .ref z), (1, .int x1), (2, .int x2), (3, .int x3), (5, .int x5)]) hx hb dX0_laysStays_219 hl (k := 4) rfl rfl (by decide) rfl (fun ls hl => ?_)
      refine lv_goto (tgt := 106) hx hb dX0_laysStays_222 rfl ?_
      exact hK106 x3 (x4 + (nI 1)) μ1 _ _ _ hp hB (lv_sub hl [1, 2, 3, 4, 0] rfl)
    · have hp := zif hp c0
      refine lv_aload_n hx hb dX0_laysStays_171 rfl (lv_at hl 0 rfl) ?_
      refine g_get S hB (cT hB) rfl (T := TX0) (N := 33) (C := RX0) rfl in_X0 18 (by decide) (by decide) q324 (fun _ h9 => h9) (v := .int (zI μ z 18)) rfl dX0_laysStays_172 ?_
      refine lv_iload hx hb dX0_laysStays_175 (lv_at hl 5 rfl) ?_
      refine z_calli (va_runS (As := [.int (zI μ z 18), .int x5]) (rest := []) S (mX0_has l Γ z (zI μ z 18) x5 μ _ hp) (va_cwS 2 hts (lw_S q921 q922 q127 q923) rfl rfl rfl hX0_has ⟨Nat.le_of_ble_eq_true rfl, Nat.le_of_ble_eq_true rfl⟩) hB.preS rfl rfl hl.1 rfl (lv_room (Nat.le_of_ble_eq_true rfl)) dX0_laysStays_177 ⟨Nat.le_refl _, Nat.le_refl _⟩) hB (fun r4 μ3 H locs hp hB => ?_)
      refine lv_if_eq (tgt := 205) hx hb dX0_laysStays_180 rfl (fun c0 => ?_) (fun c0 => ?_)
      · have hp := zit hp c0
        refine lv_iinc (v := (x5 + (nI 1))) (lv' := [(5, .int (x5 + (nI 1))), (0, .ref z), (1, .int x1), (2, .int x2), (3, .int x3), (4, .int x4)]) hx hb dX0_laysStays_205 hl (k := 5) rfl rfl (by decide) rfl (fun ls hl => ?_)
        refine lv_goto (tgt := 159) hx hb dX0_laysStays_208 rfl ?_
        exact ih x3 x4 (x5 + (nI 1)) μ3 _ _ _ hp hB (lv_sub hl [1, 2, 3, 4, 5, 0] rfl)
      · have hp := zif hp c0
        refine lv_aload_n hx hb dX0_laysStays_183 rfl (lv_at hl 0 rfl) ?_
        refine g_getr S hB (cT hB) rfl (T := TX0) (N := 33) (C := RX0) rfl in_X0 14 (by decide) (by decide) q320 (fun _ h9 => h9) (fun _ => rfl) (cA hB 6 rfl).1 dX0_laysStays_184 ?_
        refine lv_bipush (v := (nI 9)) hx hb dX0_laysStays_187 rfl ?_
        refine lv_iload_n hx hb dX0_laysStays_189 rfl (lv_at hl 3 rfl) ?_
        refine lv_imul hx hb dX0_laysStays_190 ?_
        refine lv_iload hx hb dX0_laysStays_191 (lv_at hl 5 rfl) ?_
        refine lv_iadd hx hb dX0_laysStays_193 ?_
        refine lv_dup2_11 hx hb dX0_laysStays_194 rfl rfl ?_
        obtain ⟨hi, hp⟩ := hp
        refine g_lald S hB (cA hB 6 rfl).2 hi dX0_laysStays_195 ?_
        refine lv_aload_n hx hb dX0_laysStays_196 rfl (lv_at hl 0 rfl) ?_
        refine lv_iload_n hx hb dX0_laysStays_197 rfl (lv_at hl 1 rfl) ?_
        refine lv_iload hx hb dX0_laysStays_198 (lv_at hl 5 rfl) ?_
        refine z_calll (va_runV (As := [.int x1, .int x5]) (rest := [.long (zJ μ3 (z + 59) (((nI 9) * x3) + x5).toNatClampNeg), .int (((nI 9) * x3) + x5), .ref (z + 59)]) S (mX0_gain l Γ z x1 x5 μ3 _ hp) (cwV 2 hts (lw_V q1100 q1102 qs41 q127 q1103) rfl rfl rfl hX0_gain ⟨Nat.le_of_ble_eq_true rfl, Nat.le_of_ble_eq_true rfl⟩) (hB.preV (cT hB) rfl rfl) rfl rfl hl.1 rfl (lv_room (Nat.le_of_ble_eq_true rfl)) dX0_laysStays_200 ⟨Nat.le_refl _, Nat.le_refl _⟩) hB (fun r6 μ5 H locs hp hB => ?_)
        refine lv_ladd hx hb dX0_laysStays_203 ?_
        obtain ⟨hi, hp⟩ := hp
        obtain ⟨μ7, eμ7, hp⟩ := zpJ_e hp
        refine g_last S hB (cA hB 6 rfl).2 hi dX0_laysStays_204 (fun H locs hB => ?_)
        rw [← eμ7] at hB
        refine lv_iinc (v := (x5 + (nI 1))) (lv' := [(5, .int (x5 + (nI 1))), (0, .ref z), (1, .int x1), (2, .int x2), (3, .int x3), (4, .int x4)]) hx hb dX0_laysStays_205 hl (k := 5) rfl rfl (by decide) rfl (fun ls hl => ?_)
        refine lv_goto (tgt := 159) hx hb dX0_laysStays_208 rfl ?_
        exact ih x3 x4 (x5 + (nI 1)) μ7 _ _ _ hp hB (lv_sub hl [1, 2, 3, 4, 5, 0] rfl)
def pX0_laysStays_106 (z : Nat) (x1 : Int32) (x2 : Int32) (Q : zM → Prop) : Nat → Int32 → Int32 → zM → Prop
  | 0, _, _, _ => False
  | n + 1, x3, x4, μ => (if ((nI 12) * x2) ≤ x4 then Q μ else (if ((zI μ (z + 11) 5) - (zI μ (z + 11) 5) / (nI 12) * (nI 12)) = (nI 4) then (pX2_buried z (z + 11) μ fun r2 μ1 => (vp_in x3 5 ∧ zpI μ1 (z + 61) x3.toNatClampNeg ((zI μ z 18) &&& ((((nI 1) <<< (r2 &&& 31)) - (nI 1)) ^^^ (-1 : Int32))) fun μ3 => ∃ k1, pX0_laysStays_159 z x1 x2 (fun v0 v1 ν => pX0_laysStays_106 z x1 x2 Q n v0 v1 ν) Q k1 (x3 + (nI 1)) x4 (nI 0) μ3)) else ∃ k1, pX0_laysStays_159 z x1 x2 (fun v0 v1 ν => pX0_laysStays_106 z x1 x2 Q n v0 v1 ν) Q k1 x3 x4 (nI 0) μ))
set_option maxHeartbeats 4000000 in
set_option maxRecDepth 100000 in
theorem wX0_laysStays_106 {p : Program} {l : Launch} {e : Env} {s : State} {m : MethodId} {args : Array Value} {below : List Frame} {meth : Method} {c : Code} {Γ : zG} {μ0 : zM} {Q : zM → Prop} (X : zCx p m c cX0_laysStays 6 s args RX0 meth none) (z : Nat) (x1 : Int32) (x2 : Int32) : ∀ (n : Nat) (x3 : Int32) (x4 : Int32) (μ : zM) (H : Heap) (locs : List Loc) (ls : Array Slot), pX0_laysStays_106 z x1 x2 Q n x3 x4 μ → zB Γ (cSh z) (zA μ0) μ0 s μ H locs → lv_has ls 6 [(0, .ref z), (1, .int x1), (2, .int x2), (3, .int x3), (4, .int x4)] → W p l e ({ frames := 464, cells := 0, slots := 0, locals := 12514 } : Room) s m args below meth c H locs 0 0 (MQ below (va_Qv Q (zPost Γ (cSh z) μ0) (zA μ0)) args s 0 0 (zA μ0)) (F0 m 106 ls []) := by
  have S := X.1
  obtain ⟨hx, hb, hml, hown, hts⟩ := X.1
  intro n
  induction n with
  | zero =>
    intro x3 x4 μ H locs ls hp
    exact hp.elim
  | succ n ih =>
    intro x3 x4 μ H locs ls hp hB hl
    unfold pX0_laysStays_106 at hp
    refine lv_iload hx hb dX0_laysStays_106 (lv_at hl 4 rfl) ?_
    refine lv_bipush (v := (nI 12)) hx hb dX0_laysStays_108 rfl ?_
    refine lv_iload_n hx hb dX0_laysStays_110 rfl (lv_at hl 2 rfl) ?_
    refine lv_imul hx hb dX0_laysStays_111 ?_
    refine lv_icmp_ge (tgt := 225) hx hb dX0_laysStays_112 rfl (fun c0 => ?_) (fun c0 => ?_)
    · have hp := zit hp c0
      exact zret_v X hB hp dX0_laysStays_225
    · have hp := zif hp c0
      refine lv_aload_n hx hb dX0_laysStays_115 rfl (lv_at hl 0 rfl) ?_
      refine g_getr S hB (cT hB) rfl (T := TX0) (N := 33) (C := RX0) rfl in_X0 2 (by decide) (by decide) q306 (fun _ h9 => h9) (fun _ => rfl) (cA hB 1 rfl).1 dX0_laysStays_116 ?_
      refine g_getN S hB (cA hB 1 rfl).2 rfl (T := TX2) (N := 8) (C := RX2) rfl in_X2 5 (by decide) (by decide) (zNFw hB 10 rfl) (fun _ h9 => h9) (v := .int (zI μ (z + 11) 5)) rfl dX0_laysStays_119 ?_
      refine lv_bipush (v := (nI 12)) hx hb dX0_laysStays_122 rfl ?_
      refine lv_irem hx hb dX0_laysStays_124 (by decide) ?_
      refine lv_iconst (v := (nI 4)) hx hb dX0_laysStays_125 rfl ?_
      refine lv_icmp_ne (tgt := 156) hx hb dX0_laysStays_126 rfl (fun c0 => ?_) (fun c0 => ?_)
      · have hp := zif hp c0
        refine lv_iconst (v := (nI 0)) hx hb dX0_laysStays_156 rfl ?_
        refine lv_istore (lv' := [(5, .int (nI 0)), (0, .ref z), (1, .int x1), (2, .int x2), (3, .int x3), (4, .int x4)]) hx hb dX0_laysStays_157 hl (by decide) rfl (fun ls hl => ?_)
        obtain ⟨n1, hp⟩ := hp
        exact wX0_laysStays_159 X z x1 x2 (fun v0 v1 ν H2 L2 ls2 h2 b2 l2 => ih v0 v1 ν H2 L2 ls2 h2 b2 l2) n1 x3 x4 (nI 0) μ _ _ _ hp hB (lv_sub hl [1, 2, 3, 4, 5, 0] rfl)
      · have hp := zit hp c0
        refine lv_aload_n hx hb dX0_laysStays_129 rfl (lv_at hl 0 rfl) ?_
        refine g_getr S hB (cT hB) rfl (T := TX0) (N := 33) (C := RX0) rfl in_X0 16 (by decide) (by decide) q322 (fun _ h9 => h9) (fun _ => rfl) (cA hB 8 rfl).1 dX0_laysStays_130 ?_
        refine lv_iload_n hx hb dX0_laysStays_133 rfl (lv_at hl 3 rfl) ?_
        refine lv_aload_n hx hb dX0_laysStays_134 rfl (lv_at hl 0 rfl) ?_
        refine g_get S hB (cT hB) rfl (T := TX0) (N := 33) (C := RX0) rfl in_X0 18 (by decide) (by decide) q324 (fun _ h9 => h9) (v := .int (zI μ z 18)) rfl dX0_laysStays_135 ?_
        refine lv_iconst (v := (nI 1)) hx hb dX0_laysStays_138 rfl ?_
        refine lv_aload_n hx hb dX0_laysStays_139 rfl (lv_at hl 0 rfl) ?_
        refine g_getr S hB (cT hB) rfl (T := TX0) (N := 33) (C := RX0) rfl in_X0 2 (by decide) (by decide) q306 (fun _ h9 => h9) (fun _ => rfl) (cA hB 1 rfl).1 dX0_laysStays_140 ?_
        refine z_calli (va_runV (As := []) (rest := [.int (nI 1), .int (zI μ z 18), .int x3, .ref (z + 61)]) S (mX2_buried l Γ z (z + 11) μ _ hp) (cwV 0 hts (lw_V q1099 q790 q791 q129 q792) rfl rfl rfl hX2_buried ⟨Nat.le_of_ble_eq_true rfl, Nat.le_of_ble_eq_true rfl⟩) (hB.preV (tX2_buried hp) rfl rfl) rfl rfl hl.1 rfl (lv_room (Nat.le_of_ble_eq_true rfl)) dX0_laysStays_143 ⟨Nat.le_refl _, Nat.le_refl _⟩) hB (fun r2 μ1 H locs hp hB => ?_)
        refine lv_ishl hx hb dX0_laysStays_146 ?_
        refine lv_iconst (v := (nI 1)) hx hb dX0_laysStays_147 rfl ?_
        refine lv_isub hx hb dX0_laysStays_148 ?_
        refine lv_iconst (v := (-1 : Int32)) hx hb dX0_laysStays_149 rfl ?_
        refine lv_ixor hx hb dX0_laysStays_150 ?_
        refine lv_iand hx hb dX0_laysStays_151 ?_
        obtain ⟨hi, hp⟩ := hp
        obtain ⟨μ3, eμ3, hp⟩ := zpI_e hp
        refine g_iast S hB (cA hB 8 rfl).2 hi dX0_laysStays_152 (fun H locs hB => ?_)
        rw [← eμ3] at hB
        refine lv_iinc (v := (x3 + (nI 1))) (lv' := [(3, .int (x3 + (nI 1))), (0, .ref z), (1, .int x1), (2, .int x2), (4, .int x4)]) hx hb dX0_laysStays_153 hl (k := 3) rfl rfl (by decide) rfl (fun ls hl => ?_)
        refine lv_iconst (v := (nI 0)) hx hb dX0_laysStays_156 rfl ?_
        refine lv_istore (lv' := [(5, .int (nI 0)), (3, .int (x3 + (nI 1))), (0, .ref z), (1, .int x1), (2, .int x2), (4, .int x4)]) hx hb dX0_laysStays_157 hl (by decide) rfl (fun ls hl => ?_)
        obtain ⟨n1, hp⟩ := hp
        exact wX0_laysStays_159 X z x1 x2 (fun v0 v1 ν H2 L2 ls2 h2 b2 l2 => ih v0 v1 ν H2 L2 ls2 h2 b2 l2) n1 (x3 + (nI 1)) x4 (nI 0) μ3 _ _ _ hp hB (lv_sub hl [2, 3, 4, 1, 5, 0] rfl)
def pX0_laysStays_67 (z : Nat) (x1 : Int32) (x2 : Int32) (Q : zM → Prop) : Nat → Int32 → zM → Prop
  | 0, _, _ => False
  | n + 1, x3, μ => (if (nI 54) ≤ x3 then (pX2_be z (z + 11) (z + 7) μ fun r2 μ1 => ∃ k1, pX0_laysStays_106 z x1 x2 Q k1 (nI 0) (nI 0) μ1) else (vp_in x3 54 ∧ zpJ μ (z + 59) x3.toNatClampNeg (0 : Int64) fun μ3 => pX0_laysStays_67 z x1 x2 Q n (x3 + (nI 1)) μ3))
set_option maxHeartbeats 4000000 in
set_option maxRecDepth 100000 in
theorem wX0_laysStays_67 {p : Program} {l : Launch} {e : Env} {s : State} {m : MethodId} {args : Array Value} {below : List Frame} {meth : Method} {c : Code} {Γ : zG} {μ0 : zM} {Q : zM → Prop} (X : zCx p m c cX0_laysStays 6 s args RX0 meth none) (z : Nat) (x1 : Int32) (x2 : Int32) : ∀ (n : Nat) (x3 : Int32) (μ : zM) (H : Heap) (locs : List Loc) (ls : Array Slot), pX0_laysStays_67 z x1 x2 Q n x3 μ → zB Γ (cSh z) (zA μ0) μ0 s μ H locs → lv_has ls 6 [(0, .ref z), (1, .int x1), (2, .int x2), (3, .int x3)] → W p l e ({ frames := 464, cells := 0, slots := 0, locals := 12514 } : Room) s m args below meth c H locs 0 0 (MQ below (va_Qv Q (zPost Γ (cSh z) μ0) (zA μ0)) args s 0 0 (zA μ0)) (F0 m 67 ls []) := by
  have S := X.1
  obtain ⟨hx, hb, hml, hown, hts⟩ := X.1
  intro n
  induction n with
  | zero =>
    intro x3 μ H locs ls hp
    exact hp.elim
  | succ n ih =>
    intro x3 μ H locs ls hp hB hl
    unfold pX0_laysStays_67 at hp
    refine lv_iload_n hx hb dX0_laysStays_67 rfl (lv_at hl 3 rfl) ?_
    refine lv_aload_n hx hb dX0_laysStays_68 rfl (lv_at hl 0 rfl) ?_
    refine g_getr S hB (cT hB) rfl (T := TX0) (N := 33) (C := RX0) rfl in_X0 14 (by decide) (by decide) q320 (fun _ h9 => h9) (fun _ => rfl) (cA hB 6 rfl).1 dX0_laysStays_69 ?_
    refine g_alen S hB (cA hB 6 rfl).2 rfl dX0_laysStays_72 ?_
    refine lv_icmp_ge (tgt := 89) hx hb dX0_laysStays_73 rfl (fun c0 => ?_) (fun c0 => ?_)
    · have hp := zit hp c0
      refine lv_aload_n hx hb dX0_laysStays_89 rfl (lv_at hl 0 rfl) ?_
      refine g_getr S hB (cT hB) rfl (T := TX0) (N := 33) (C := RX0) rfl in_X0 2 (by decide) (by decide) q306 (fun _ h9 => h9) (fun _ => rfl) (cA hB 1 rfl).1 dX0_laysStays_90 ?_
      refine lv_aload_n hx hb dX0_laysStays_93 rfl (lv_at hl 0 rfl) ?_
      refine g_getr S hB (cT hB) rfl (T := TX0) (N := 33) (C := RX0) rfl in_X0 1 (by decide) (by decide) q305 (fun _ h9 => h9) (fun _ => rfl) (cA hB 0 rfl).1 dX0_laysStays_94 ?_
      refine z_callq (va_runV (As := [.ref (z + 7)]) (rest := []) S (mX2_be l Γ z (z + 11) (z + 7) μ _ hp) (cwV 1 hts (lw_V q862 q863 q864 q129 q865) rfl rfl rfl hX2_be ⟨Nat.le_of_ble_eq_true rfl, Nat.le_of_ble_eq_true rfl⟩) (hB.preV (tX2_be hp) rfl rfl) rfl rfl hl.1 rfl (lv_room (Nat.le_of_ble_eq_true rfl)) dX0_laysStays_97 ⟨Nat.le_refl _, Nat.le_refl _⟩) hB (fun r2 μ1 H locs hp hB => ?_)
      refine lv_pop hx hb dX0_laysStays_100 (va_rf_c _) ?_
      refine lv_iconst (v := (nI 0)) hx hb dX0_laysStays_101 rfl ?_
      refine lv_istore_n (lv' := [(3, .int (nI 0)), (0, .ref z), (1, .int x1), (2, .int x2)]) hx hb dX0_laysStays_102 rfl hl (by decide) rfl (fun ls hl => ?_)
      refine lv_iconst (v := (nI 0)) hx hb dX0_laysStays_103 rfl ?_
      refine lv_istore (lv' := [(4, .int (nI 0)), (3, .int (nI 0)), (0, .ref z), (1, .int x1), (2, .int x2)]) hx hb dX0_laysStays_104 hl (by decide) rfl (fun ls hl => ?_)
      obtain ⟨n1, hp⟩ := hp
      exact wX0_laysStays_106 X z x1 x2 n1 (nI 0) (nI 0) μ1 _ _ _ hp hB (lv_sub hl [2, 3, 4, 1, 0] rfl)
    · have hp := zif hp c0
      refine lv_aload_n hx hb dX0_laysStays_76 rfl (lv_at hl 0 rfl) ?_
      refine g_getr S hB (cT hB) rfl (T := TX0) (N := 33) (C := RX0) rfl in_X0 14 (by decide) (by decide) q320 (fun _ h9 => h9) (fun _ => rfl) (cA hB 6 rfl).1 dX0_laysStays_77 ?_
      refine lv_iload_n hx hb dX0_laysStays_80 rfl (lv_at hl 3 rfl) ?_
      refine lv_lconst (v := (0 : Int64)) hx hb dX0_laysStays_81 rfl ?_
      obtain ⟨hi, hp⟩ := hp
      obtain ⟨μ3, eμ3, hp⟩ := zpJ_e hp
      refine g_last S hB (cA hB 6 rfl).2 hi dX0_laysStays_82 (fun H locs hB => ?_)
      rw [← eμ3] at hB
      refine lv_iinc (v := (x3 + (nI 1))) (lv' := [(3, .int (x3 + (nI 1))), (0, .ref z), (1, .int x1), (2, .int x2)]) hx hb dX0_laysStays_83 hl (k := 3) rfl rfl (by decide) rfl (fun ls hl => ?_)
      refine lv_goto (tgt := 67) hx hb dX0_laysStays_86 rfl ?_
      exact ih (x3 + (nI 1)) μ3 _ _ _ hp hB (lv_sub hl [1, 2, 3, 0] rfl)
def pX0_laysStays_7 (z : Nat) (x1 : Int32) (x2 : Int32) (Q : zM → Prop) : Nat → Int32 → zM → Prop
  | 0, _, _ => False
  | n + 1, x3, μ => (if (zI μ (z + 7) 3) ≤ x3 then ∃ k1, pX0_laysStays_67 z x1 x2 Q k1 (nI 0) μ else (pX2_who z (z + 7) x3 μ fun r2 μ1 => (if r2 = (-1 : Int32) then pX0_laysStays_48 z x1 x2 (fun v0 ν => pX0_laysStays_7 z x1 x2 Q n v0 ν) Q x3 (zI μ z 18) μ1 else (vp_in x1 6 ∧ (if (zI μ1 ((z + 7) + 1) x1.toNatClampNeg) = x3 then pX0_laysStays_48 z x1 x2 (fun v0 ν => pX0_laysStays_7 z x1 x2 Q n v0 ν) Q x3 (zI μ z 18) μ1 else pX0_laysStays_55 z x1 x2 (fun v0 ν => pX0_laysStays_7 z x1 x2 Q n v0 ν) Q x3 (nI 0) (zI μ z 18) μ1)))))
set_option maxHeartbeats 4000000 in
set_option maxRecDepth 100000 in
theorem wX0_laysStays_7 {p : Program} {l : Launch} {e : Env} {s : State} {m : MethodId} {args : Array Value} {below : List Frame} {meth : Method} {c : Code} {Γ : zG} {μ0 : zM} {Q : zM → Prop} (X : zCx p m c cX0_laysStays 6 s args RX0 meth none) (z : Nat) (x1 : Int32) (x2 : Int32) : ∀ (n : Nat) (x3 : Int32) (μ : zM) (H : Heap) (locs : List Loc) (ls : Array Slot), pX0_laysStays_7 z x1 x2 Q n x3 μ → zB Γ (cSh z) (zA μ0) μ0 s μ H locs → lv_has ls 6 [(0, .ref z), (1, .int x1), (2, .int x2), (3, .int x3)] → W p l e ({ frames := 464, cells := 0, slots := 0, locals := 12514 } : Room) s m args below meth c H locs 0 0 (MQ below (va_Qv Q (zPost Γ (cSh z) μ0) (zA μ0)) args s 0 0 (zA μ0)) (F0 m 7 ls []) := by
  have S := X.1
  obtain ⟨hx, hb, hml, hown, hts⟩ := X.1
  intro n
  induction n with
  | zero =>
    intro x3 μ H locs ls hp
    exact hp.elim
  | succ n ih =>
    intro x3 μ H locs ls hp hB hl
    unfold pX0_laysStays_7 at hp
    refine lv_iload_n hx hb dX0_laysStays_7 rfl (lv_at hl 3 rfl) ?_
    refine lv_aload_n hx hb dX0_laysStays_8 rfl (lv_at hl 0 rfl) ?_
    refine g_getr S hB (cT hB) rfl (T := TX0) (N := 33) (C := RX0) rfl in_X0 1 (by decide) (by decide) q305 (fun _ h9 => h9) (fun _ => rfl) (cA hB 0 rfl).1 dX0_laysStays_9 ?_
    refine g_getN S hB (cA hB 0 rfl).2 rfl (T := TX2) (N := 8) (C := RX2) rfl in_X2 3 (by decide) (by decide) (zNFw hB 8 rfl) (fun _ h9 => h9) (v := .int (zI μ (z + 7) 3)) rfl dX0_laysStays_12 ?_
    refine lv_icmp_ge (tgt := 65) hx hb dX0_laysStays_15 rfl (fun c0 => ?_) (fun c0 => ?_)
    · have hp := zit hp c0
      refine lv_iconst (v := (nI 0)) hx hb dX0_laysStays_65 rfl ?_
      refine lv_istore_n (lv' := [(3, .int (nI 0)), (0, .ref z), (1, .int x1), (2, .int x2)]) hx hb dX0_laysStays_66 rfl hl (by decide) rfl (fun ls hl => ?_)
      obtain ⟨n1, hp⟩ := hp
      exact wX0_laysStays_67 X z x1 x2 n1 (nI 0) μ _ _ _ hp hB (lv_sub hl [1, 2, 3, 0] rfl)
    · have hp := zif hp c0
      refine lv_aload_n hx hb dX0_laysStays_18 rfl (lv_at hl 0 rfl) ?_
      refine lv_dup hx hb dX0_laysStays_19 rfl ?_
      refine g_get S hB (cT hB) rfl (T := TX0) (N := 33) (C := RX0) rfl in_X0 18 (by decide) (by decide) q324 (fun _ h9 => h9) (v := .int (zI μ z 18)) rfl dX0_laysStays_20 ?_
      refine lv_aload_n hx hb dX0_laysStays_23 rfl (lv_at hl 0 rfl) ?_
      refine g_getr S hB (cT hB) rfl (T := TX0) (N := 33) (C := RX0) rfl in_X0 1 (by decide) (by decide) q305 (fun _ h9 => h9) (fun _ => rfl) (cA hB 0 rfl).1 dX0_laysStays_24 ?_
      refine lv_iload_n hx hb dX0_laysStays_27 rfl (lv_at hl 3 rfl) ?_
      refine z_calli (va_runV (As := [.int x3]) (rest := [.int (zI μ z 18), .ref z]) S (mX2_who l Γ z (z + 7) x3 μ _ hp) (cwV 1 hts (lw_V q753 q754 q755 q129 q756) rfl rfl rfl hX2_who ⟨Nat.le_of_ble_eq_true rfl, Nat.le_of_ble_eq_true rfl⟩) (hB.preV (tX2_who hp) rfl rfl) rfl rfl hl.1 rfl (lv_room (Nat.le_of_ble_eq_true rfl)) dX0_laysStays_28 ⟨Nat.le_refl _, Nat.le_refl _⟩) hB (fun r2 μ1 H locs hp hB => ?_)
      refine lv_iconst (v := (-1 : Int32)) hx hb dX0_laysStays_31 rfl ?_
      refine lv_icmp_eq (tgt := 48) hx hb dX0_laysStays_32 rfl (fun c0 => ?_) (fun c0 => ?_)
      · have hp := zit hp c0
        exact wX0_laysStays_48 X z x1 x2 (fun v0 ν H2 L2 ls2 h2 b2 l2 => ih v0 ν H2 L2 ls2 h2 b2 l2) x3 (zI μ z 18) μ1 _ _ _ hp hB (lv_sub hl [0, 1, 2, 3] rfl)
      · have hp := zif hp c0
        refine lv_aload_n hx hb dX0_laysStays_35 rfl (lv_at hl 0 rfl) ?_
        refine g_getr S hB (cT hB) rfl (T := TX0) (N := 33) (C := RX0) rfl in_X0 1 (by decide) (by decide) q305 (fun _ h9 => h9) (fun _ => rfl) (cA hB 0 rfl).1 dX0_laysStays_36 ?_
        refine g_getrN S hB (cA hB 0 rfl).2 rfl (T := TX2) (N := 8) (C := RX2) rfl in_X2 0 (by decide) (by decide) (zNFw hB 5 rfl) (fun _ h9 => h9) (fun _ => rfl) (cS2 hB (cA hB 0 rfl).2 0 rfl).1 dX0_laysStays_39 ?_
        refine lv_iload_n hx hb dX0_laysStays_42 rfl (lv_at hl 1 rfl) ?_
        obtain ⟨hi, hp⟩ := hp
        refine g_iald S hB (cS2 hB (cA hB 0 rfl).2 0 rfl).2 hi dX0_laysStays_43 ?_
        refine lv_iload_n hx hb dX0_laysStays_44 rfl (lv_at hl 3 rfl) ?_
        refine lv_icmp_ne (tgt := 54) hx hb dX0_laysStays_45 rfl (fun c0 => ?_) (fun c0 => ?_)
        · have hp := zif hp c0
          refine lv_iconst (v := (nI 0)) hx hb dX0_laysStays_54 rfl ?_
          exact wX0_laysStays_55 X z x1 x2 (fun v0 ν H2 L2 ls2 h2 b2 l2 => ih v0 ν H2 L2 ls2 h2 b2 l2) x3 (nI 0) (zI μ z 18) μ1 _ _ _ hp hB (lv_sub hl [0, 1, 2, 3] rfl)
        · have hp := zit hp c0
          exact wX0_laysStays_48 X z x1 x2 (fun v0 ν H2 L2 ls2 h2 b2 l2 => ih v0 ν H2 L2 ls2 h2 b2 l2) x3 (zI μ z 18) μ1 _ _ _ hp hB (lv_sub hl [0, 1, 2, 3] rfl)
def pX0_laysStays (z : Nat) (x1 : Int32) (x2 : Int32) (μ : zM) (Q : zM → Prop) : Prop := (zpI μ z 18 (nI 0) fun μ1 => ∃ k1, pX0_laysStays_7 z x1 x2 Q k1 (nI 0) μ1)
theorem hX0_laysStays : yX0_laysStays.cls = "SunkTower" ∧ yX0_laysStays.cls ≠ "java/lang/invoke/MethodHandle" ∧ yX0_laysStays.cls ≠ "java/lang/invoke/VarHandle" ∧ (parseMethodDescriptor yX0_laysStays.desc).map (fun d => d.parameters.length) = some 2 := by decide +kernel
set_option maxHeartbeats 4000000 in
set_option maxRecDepth 100000 in
theorem mX0_laysStays (l : Launch) (Γ : zG) (z : Nat) (x1 : Int32) (x2 : Int32) (μ : zM) (Q : zM → Prop) (hp : pX0_laysStays z x1 x2 μ Q) : Met l yX0_laysStays (ws_ yX0_laysStays cX0_laysStays 6 none) ({ frames := 464, cells := 0, slots := 0, locals := 12514 } : Room) (va_Pc [.ref z, .int x1, .int x2] (zPre Γ (cSh z) μ)) (va_Qv Q (zPost Γ (cSh z) μ) (zA μ)) 0 0 (zA μ) := by
  refine zstart (by decide) (Nat.le_of_ble_eq_true rfl) ?_
  intro p e s m below meth c ls X hnm hB hl
  have X : zCx p m c cX0_laysStays 6 s [.ref z, .int x1, .int x2].toArray RX0 meth none := X
  have S := X.1
  obtain ⟨hx, hb, hml, hown, hts⟩ := X.1
  have hl : lv_has ls 6 [(0, .ref z), (1, .int x1), (2, .int x2)] := hl
  unfold pX0_laysStays at hp
  refine lv_aload_n hx hb dX0_laysStays_0 rfl (lv_at hl 0 rfl) ?_
  refine lv_iconst (v := (nI 0)) hx hb dX0_laysStays_1 rfl ?_
  obtain ⟨μ1, eμ1, hp⟩ := zpI_e hp
  refine g_putI S hB (cT hB) rfl (T := TX0) (N := 33) (C := RX0) rfl in_X0 18 (by decide) (by decide) (x := (nI 0)) tyX0 tyX0_ok nmX0 q324 (fun _ h9 => h9) rfl (ty := .int) (by decide +kernel) rfl rfl (fun _ _ => rfl) dX0_laysStays_2 (fun H locs hB => ?_)
  rw [← eμ1] at hB
  refine lv_iconst (v := (nI 0)) hx hb dX0_laysStays_5 rfl ?_
  refine lv_istore_n (lv' := [(3, .int (nI 0)), (0, .ref z), (1, .int x1), (2, .int x2)]) hx hb dX0_laysStays_6 rfl hl (by decide) rfl (fun ls hl => ?_)
  obtain ⟨n1, hp⟩ := hp
  exact wX0_laysStays_7 X z x1 x2 n1 (nI 0) μ1 _ _ _ hp hB (lv_sub hl [1, 2, 3, 0] rfl)
def pX0_tries_58 (z : Nat) (x1 : Int32) (Q : zM → Prop) (x3 : Int64) (μ : zM) : Prop := (zpJ μ z 24 x3 fun μ1 => (zpI μ1 z 22 x1 fun μ2 => (zcr (nI 0) (nI 0) (nI 3) 3 3 ∧ zpC μ2 (z + 63) (z + 64) (nI 0).toNatClampNeg (nI 0).toNatClampNeg (nI 3).toNatClampNeg fun μ3 => Q μ3)))
set_option maxHeartbeats 4000000 in
set_option maxRecDepth 100000 in
theorem wX0_tries_58 {p : Program} {l : Launch} {e : Env} {s : State} {m : MethodId} {args : Array Value} {below : List Frame} {meth : Method} {c : Code} {Γ : zG} {μ0 : zM} {Q : zM → Prop} (X : zCx p m c cX0_tries 5 s args RX0 meth none) (z : Nat) (x1 : Int32) : ∀ (x3 : Int64) (μ : zM) (H : Heap) (locs : List Loc) (ls : Array Slot), pX0_tries_58 z x1 Q x3 μ → zB Γ (cSh z) (zA μ0) μ0 s μ H locs → lv_has ls 5 [(0, .ref z), (1, .int x1), (3, .long x3)] → W p l e ({ frames := 465, cells := 0, slots := 0, locals := 12540 } : Room) s m args below meth c H locs 0 0 (MQ below (va_Qv Q (zPost Γ (cSh z) μ0) (zA μ0)) args s 0 0 (zA μ0)) (F0 m 58 ls []) := by
  have S := X.1
  obtain ⟨hx, hb, hml, hown, hts⟩ := X.1
  intro x3 μ H locs ls hp hB hl
  unfold pX0_tries_58 at hp
  refine lv_aload_n hx hb dX0_tries_58 rfl (lv_at hl 0 rfl) ?_
  refine lv_lload_n hx hb dX0_tries_59 rfl (lv_at hl 2 rfl) ?_
  obtain ⟨μ1, eμ1, hp⟩ := zpJ_e hp
  refine g_putJ S hB (cT hB) rfl (T := TX0) (N := 33) (C := RX0) rfl in_X0 24 (by decide) (by decide) (x := x3) tyX0 tyX0_ok nmX0 q330 (fun _ h9 => h9) rfl (ty := .long) (by decide +kernel) rfl rfl (fun _ _ => rfl) dX0_tries_60 (fun H locs hB => ?_)
  rw [← eμ1] at hB
  refine lv_aload_n hx hb dX0_tries_63 rfl (lv_at hl 0 rfl) ?_
  refine lv_iload_n hx hb dX0_tries_64 rfl (lv_at hl 1 rfl) ?_
  obtain ⟨μ2, eμ2, hp⟩ := zpI_e hp
  refine g_putI S hB (cT hB) rfl (T := TX0) (N := 33) (C := RX0) rfl in_X0 22 (by decide) (by decide) (x := x1) tyX0 tyX0_ok nmX0 q328 (fun _ h9 => h9) rfl (ty := .int) (by decide +kernel) rfl rfl (fun _ _ => rfl) dX0_tries_65 (fun H locs hB => ?_)
  rw [← eμ2] at hB
  refine lv_aload_n hx hb dX0_tries_68 rfl (lv_at hl 0 rfl) ?_
  refine g_getr S hB (cT hB) rfl (T := TX0) (N := 33) (C := RX0) rfl in_X0 20 (by decide) (by decide) q326 (fun _ h9 => h9) (fun _ => rfl) (cA hB 10 rfl).1 dX0_tries_69 ?_
  refine lv_iconst (v := (nI 0)) hx hb dX0_tries_72 rfl ?_
  refine lv_aload_n hx hb dX0_tries_73 rfl (lv_at hl 0 rfl) ?_
  refine g_getr S hB (cT hB) rfl (T := TX0) (N := 33) (C := RX0) rfl in_X0 21 (by decide) (by decide) q327 (fun _ h9 => h9) (fun _ => rfl) (cA hB 11 rfl).1 dX0_tries_74 ?_
  refine lv_iconst (v := (nI 0)) hx hb dX0_tries_77 rfl ?_
  refine lv_iconst (v := (nI 3)) hx hb dX0_tries_78 rfl ?_
  obtain ⟨hi, hp⟩ := hp
  obtain ⟨μ3, eμ3, hp⟩ := zpC_e hp
  refine g_copyi S hB (hml.trans hl.1.symm) (cA hB 10 rfl).2 (cA hB 11 rfl).2 hi (hts _ q1161) (hts _ q302) (hts _ q301) (hts _ q131) (Nat.le_of_ble_eq_true rfl) (Nat.le_of_ble_eq_true rfl) dX0_tries_79 (fun H locs hB => ?_)
  rw [← eμ3] at hB
  exact zret_v X hB hp dX0_tries_82
def pX0_tries_37 (z : Nat) (x1 : Int32) (Q : zM → Prop) (x3 : Int64) (y2 : Int32) (μ : zM) : Prop := (zpI μ z 23 y2 fun μ1 => (if (lg_cmp x3 (zJ μ1 z 24)) = 0 then (if x1 < (zI μ1 z 22) then pX0_tries_58 z x1 Q x3 μ1 else Q μ1) else pX0_tries_58 z x1 Q x3 μ1))
set_option maxHeartbeats 4000000 in
set_option maxRecDepth 100000 in
theorem wX0_tries_37 {p : Program} {l : Launch} {e : Env} {s : State} {m : MethodId} {args : Array Value} {below : List Frame} {meth : Method} {c : Code} {Γ : zG} {μ0 : zM} {Q : zM → Prop} (X : zCx p m c cX0_tries 5 s args RX0 meth none) (z : Nat) (x1 : Int32) : ∀ (x3 : Int64) (y2 : Int32) (μ : zM) (H : Heap) (locs : List Loc) (ls : Array Slot), pX0_tries_37 z x1 Q x3 y2 μ → zB Γ (cSh z) (zA μ0) μ0 s μ H locs → lv_has ls 5 [(0, .ref z), (1, .int x1), (3, .long x3)] → W p l e ({ frames := 465, cells := 0, slots := 0, locals := 12540 } : Room) s m args below meth c H locs 0 0 (MQ below (va_Qv Q (zPost Γ (cSh z) μ0) (zA μ0)) args s 0 0 (zA μ0)) (F0 m 37 ls [.int y2, .ref z]) := by
  have S := X.1
  obtain ⟨hx, hb, hml, hown, hts⟩ := X.1
  intro x3 y2 μ H locs ls hp hB hl
  unfold pX0_tries_37 at hp
  obtain ⟨μ1, eμ1, hp⟩ := zpI_e hp
  refine g_putI S hB (cT hB) rfl (T := TX0) (N := 33) (C := RX0) rfl in_X0 23 (by decide) (by decide) (x := y2) tyX0 tyX0_ok nmX0 q329 (fun _ h9 => h9) rfl (ty := .int) (by decide +kernel) rfl rfl (fun _ _ => rfl) dX0_tries_37 (fun H locs hB => ?_)
  rw [← eμ1] at hB
  refine lv_lload_n hx hb dX0_tries_40 rfl (lv_at hl 2 rfl) ?_
  refine lv_aload_n hx hb dX0_tries_41 rfl (lv_at hl 0 rfl) ?_
  refine g_get S hB (cT hB) rfl (T := TX0) (N := 33) (C := RX0) rfl in_X0 24 (by decide) (by decide) q330 (fun _ h9 => h9) (v := .long (zJ μ1 z 24)) rfl dX0_tries_42 ?_
  refine W.lcmp hx hb dX0_tries_45 ?_
  refine lv_if_ne (tgt := 58) hx hb dX0_tries_46 rfl (fun c0 => ?_) (fun c0 => ?_)
  · have hp := zif hp c0
    exact wX0_tries_58 X z x1 x3 μ1 _ _ _ hp hB (lv_sub hl [0, 1, 2] rfl)
  · have hp := zit hp c0
    refine lv_aload_n hx hb dX0_tries_49 rfl (lv_at hl 0 rfl) ?_
    refine g_get S hB (cT hB) rfl (T := TX0) (N := 33) (C := RX0) rfl in_X0 22 (by decide) (by decide) q328 (fun _ h9 => h9) (v := .int (zI μ1 z 22)) rfl dX0_tries_50 ?_
    refine lv_iload_n hx hb dX0_tries_53 rfl (lv_at hl 1 rfl) ?_
    refine lv_icmp_gt (tgt := 58) hx hb dX0_tries_54 rfl (fun c0 => ?_) (fun c0 => ?_)
    · have hp := zit hp c0
      exact wX0_tries_58 X z x1 x3 μ1 _ _ _ hp hB (lv_sub hl [0, 1, 2] rfl)
    · have hp := zif hp c0
      exact zret_v X hB hp dX0_tries_57
def pX0_tries (z : Nat) (x1 : Int32) (x2 : Int32) (μ : zM) (Q : zM → Prop) : Prop := (pX0_leftOf z x1 x2 μ fun r2 μ1 => (if 0 ≤ (lg_cmp r2 (zJ μ1 z 24)) then (if (lg_cmp r2 (zJ μ1 z 24)) = 0 then pX0_tries_37 z x1 Q r2 ((zI μ1 z 23) + (nI 1)) μ1 else pX0_tries_37 z x1 Q r2 (nI 1) μ1) else Q μ1))
theorem hX0_tries : yX0_tries.cls = "SunkTower" ∧ yX0_tries.cls ≠ "java/lang/invoke/MethodHandle" ∧ yX0_tries.cls ≠ "java/lang/invoke/VarHandle" ∧ (parseMethodDescriptor yX0_tries.desc).map (fun d => d.parameters.length) = some 2 := by decide +kernel
set_option maxHeartbeats 4000000 in
set_option maxRecDepth 100000 in
theorem mX0_tries (l : Launch) (Γ : zG) (z : Nat) (x1 : Int32) (x2 : Int32) (μ : zM) (Q : zM → Prop) (hp : pX0_tries z x1 x2 μ Q) : Met l yX0_tries (ws_ yX0_tries cX0_tries 5 none) ({ frames := 465, cells := 0, slots := 0, locals := 12540 } : Room) (va_Pc [.ref z, .int x1, .int x2] (zPre Γ (cSh z) μ)) (va_Qv Q (zPost Γ (cSh z) μ) (zA μ)) 0 0 (zA μ) := by
  refine zstart (by decide) (Nat.le_of_ble_eq_true rfl) ?_
  intro p e s m below meth c ls X hnm hB hl
  have X : zCx p m c cX0_tries 5 s [.ref z, .int x1, .int x2].toArray RX0 meth none := X
  have S := X.1
  obtain ⟨hx, hb, hml, hown, hts⟩ := X.1
  have hl : lv_has ls 5 [(0, .ref z), (1, .int x1), (2, .int x2)] := hl
  unfold pX0_tries at hp
  refine lv_aload_n hx hb dX0_tries_0 rfl (lv_at hl 0 rfl) ?_
  refine lv_iload_n hx hb dX0_tries_1 rfl (lv_at hl 1 rfl) ?_
  refine lv_iload_n hx hb dX0_tries_2 rfl (lv_at hl 2 rfl) ?_
  refine z_calll (va_runV (As := [.int x1, .int x2]) (rest := []) S (mX0_leftOf l Γ z x1 x2 μ _ hp) (cwV 2 hts (lw_V q1157 q1159 qs49 q127 q1160) rfl rfl rfl hX0_leftOf ⟨Nat.le_of_ble_eq_true rfl, Nat.le_of_ble_eq_true rfl⟩) (hB.preV (cT hB) rfl rfl) rfl rfl hl.1 rfl (lv_room (Nat.le_of_ble_eq_true rfl)) dX0_tries_3 ⟨Nat.le_refl _, Nat.le_refl _⟩) hB (fun r2 μ1 H locs hp hB => ?_)
  refine lv_lstore_n (lv' := [(3, .long r2), (0, .ref z), (1, .int x1), (2, .int x2)]) hx hb dX0_tries_6 rfl hl (by decide) rfl (fun ls hl => ?_)
  refine lv_lload_n hx hb dX0_tries_7 rfl (lv_at hl 0 rfl) ?_
  refine lv_aload_n hx hb dX0_tries_8 rfl (lv_at hl 1 rfl) ?_
  refine g_get S hB (cT hB) rfl (T := TX0) (N := 33) (C := RX0) rfl in_X0 24 (by decide) (by decide) q330 (fun _ h9 => h9) (v := .long (zJ μ1 z 24)) rfl dX0_tries_9 ?_
  refine W.lcmp hx hb dX0_tries_12 ?_
  refine lv_if_ge (tgt := 17) hx hb dX0_tries_13 rfl (fun c0 => ?_) (fun c0 => ?_)
  · have hp := zit hp c0
    refine lv_aload_n hx hb dX0_tries_17 rfl (lv_at hl 1 rfl) ?_
    refine lv_lload_n hx hb dX0_tries_18 rfl (lv_at hl 0 rfl) ?_
    refine lv_aload_n hx hb dX0_tries_19 rfl (lv_at hl 1 rfl) ?_
    refine g_get S hB (cT hB) rfl (T := TX0) (N := 33) (C := RX0) rfl in_X0 24 (by decide) (by decide) q330 (fun _ h9 => h9) (v := .long (zJ μ1 z 24)) rfl dX0_tries_20 ?_
    refine W.lcmp hx hb dX0_tries_23 ?_
    refine lv_if_ne (tgt := 36) hx hb dX0_tries_24 rfl (fun c0 => ?_) (fun c0 => ?_)
    · have hp := zif hp c0
      refine lv_iconst (v := (nI 1)) hx hb dX0_tries_36 rfl ?_
      exact wX0_tries_37 X z x1 r2 (nI 1) μ1 _ _ _ hp hB (lv_sub hl [1, 2, 0] rfl)
    · have hp := zit hp c0
      refine lv_aload_n hx hb dX0_tries_27 rfl (lv_at hl 1 rfl) ?_
      refine g_get S hB (cT hB) rfl (T := TX0) (N := 33) (C := RX0) rfl in_X0 23 (by decide) (by decide) q329 (fun _ h9 => h9) (v := .int (zI μ1 z 23)) rfl dX0_tries_28 ?_
      refine lv_iconst (v := (nI 1)) hx hb dX0_tries_31 rfl ?_
      refine lv_iadd hx hb dX0_tries_32 ?_
      refine lv_goto (tgt := 37) hx hb dX0_tries_33 rfl ?_
      exact wX0_tries_37 X z x1 r2 ((zI μ1 z 23) + (nI 1)) μ1 _ _ _ hp hB (lv_sub hl [1, 2, 0] rfl)
  · have hp := zif hp c0
    exact zret_v X hB hp dX0_tries_16
def pX0_laysHidden_22 (z : Nat) (x1 : Nat) (K4 : Int32 → Int32 → zM → Prop) (Q : Int32 → zM → Prop) : Nat → Int32 → Int32 → Int32 → Int32 → zM → Prop
  | 0, _, _, _, _, _ => False
  | n + 1, x2, x3, x4, x5, μ => (pX3_many z x1 μ fun r2 μ1 => (if (r2 / (nI 2)) ≤ x5 then (if x4 = 0 then K4 x2 (x3 + (nI 1)) μ1 else (vp_in x2 1000 ∧ zpI μ1 (z + 66) x2.toNatClampNeg x3 fun μ3 => K4 (x2 + (nI 1)) (x3 + (nI 1)) μ3)) else (if x4 = 0 then pX0_laysHidden_22 z x1 K4 Q n x2 x3 (nI 0) (x5 + (nI 1)) μ1 else (pX0_fitsMark z x1 x5 μ1 fun r5 μ4 => (if r5 = 0 then pX0_laysHidden_22 z x1 K4 Q n x2 x3 (nI 0) (x5 + (nI 1)) μ4 else pX0_laysHidden_22 z x1 K4 Q n x2 x3 (nI 1) (x5 + (nI 1)) μ4)))))
set_option maxHeartbeats 4000000 in
set_option maxRecDepth 100000 in
theorem wX0_laysHidden_22 {p : Program} {l : Launch} {e : Env} {s : State} {m : MethodId} {args : Array Value} {below : List Frame} {meth : Method} {c : Code} {Γ : zG} {μ0 : zM} {Q : Int32 → zM → Prop} {K4 : Int32 → Int32 → zM → Prop} (X : zCx p m c cX0_laysHidden 6 s args RX0 meth (some .int)) {x1 : Nat} (ht_x1 : zty μ0 x1 = some (.inl 3)) (z : Nat) (hK4 : ∀ (x2 : Int32) (x3 : Int32) (μ : zM) (H : Heap) (locs : List Loc) (ls : Array Slot), K4 x2 x3 μ → zB Γ (cSh z) (zA μ0) μ0 s μ H locs → lv_has ls 6 [(0, .ref z), (1, .ref x1), (2, .int x2), (3, .int x3)] → W p l e ({ frames := 465, cells := 0, slots := 0, locals := 12536 } : Room) s m args below meth c H locs 0 0 (MQ below (va_Qi Q (zPost Γ (cSh z) μ0) (zA μ0)) args s 0 0 (zA μ0)) (F0 m 4 ls [])) : ∀ (n : Nat) (x2 : Int32) (x3 : Int32) (x4 : Int32) (x5 : Int32) (μ : zM) (H : Heap) (locs : List Loc) (ls : Array Slot), pX0_laysHidden_22 z x1 K4 Q n x2 x3 x4 x5 μ → zB Γ (cSh z) (zA μ0) μ0 s μ H locs → lv_has ls 6 [(0, .ref z), (1, .ref x1), (2, .int x2), (3, .int x3), (4, .int x4), (5, .int x5)] → W p l e ({ frames := 465, cells := 0, slots := 0, locals := 12536 } : Room) s m args below meth c H locs 0 0 (MQ below (va_Qi Q (zPost Γ (cSh z) μ0) (zA μ0)) args s 0 0 (zA μ0)) (F0 m 22 ls []) := by
  have S := X.1
  obtain ⟨hx, hb, hml, hown, hts⟩ := X.1
  intro n
  induction n with
  | zero =>
    intro x2 x3 x4 x5 μ H locs ls hp
    exact hp.elim
  | succ n ih =>
    intro x2 x3 x4 x5 μ H locs ls hp hB hl
    unfold pX0_laysHidden_22 at hp
    refine lv_iload hx hb dX0_laysHidden_22 (lv_at hl 5 rfl) ?_
    refine lv_aload_n hx hb dX0_laysHidden_24 rfl (lv_at hl 1 rfl) ?_
    refine z_calli (va_runV (As := []) (rest := [.int x5]) S (mX3_many l Γ z x1 μ _ hp) (cwV 0 hts (lw_V q954 q955 q956 q130 q957) rfl rfl rfl hX3_many ⟨Nat.le_of_ble_eq_true rfl, Nat.le_of_ble_eq_true rfl⟩) (hB.preV (tX3_many hp) rfl rfl) rfl rfl hl.1 rfl (lv_room (Nat.le_of_ble_eq_true rfl)) dX0_laysHidden_25 ⟨Nat.le_refl _, Nat.le_refl _⟩) hB (fun r2 μ1 H locs hp hB => ?_)
    refine lv_iconst (v := (nI 2)) hx hb dX0_laysHidden_28 rfl ?_
    refine lv_idiv hx hb dX0_laysHidden_29 (by decide) ?_
    refine lv_icmp_ge (tgt := 61) hx hb dX0_laysHidden_30 rfl (fun c0 => ?_) (fun c0 => ?_)
    · have hp := zit hp c0
      refine lv_iload hx hb dX0_laysHidden_61 (lv_at hl 4 rfl) ?_
      refine lv_if_ne (tgt := 69) hx hb dX0_laysHidden_63 rfl (fun c0 => ?_) (fun c0 => ?_)
      · have hp := zif hp c0
        refine lv_aload_n hx hb dX0_laysHidden_69 rfl (lv_at hl 0 rfl) ?_
        refine g_getr S hB (cT hB) rfl (T := TX0) (N := 33) (C := RX0) rfl in_X0 26 (by decide) (by decide) q332 (fun _ h9 => h9) (fun _ => rfl) (cA hB 13 rfl).1 dX0_laysHidden_70 ?_
        refine lv_iload_n hx hb dX0_laysHidden_73 rfl (lv_at hl 2 rfl) ?_
        refine lv_iload_n hx hb dX0_laysHidden_74 rfl (lv_at hl 3 rfl) ?_
        obtain ⟨hi, hp⟩ := hp
        obtain ⟨μ3, eμ3, hp⟩ := zpI_e hp
        refine g_iast S hB (cA hB 13 rfl).2 hi dX0_laysHidden_75 (fun H locs hB => ?_)
        rw [← eμ3] at hB
        refine lv_iinc (v := (x2 + (nI 1))) (lv' := [(2, .int (x2 + (nI 1))), (0, .ref z), (1, .ref x1), (3, .int x3), (4, .int x4), (5, .int x5)]) hx hb dX0_laysHidden_76 hl (k := 2) rfl rfl (by decide) rfl (fun ls hl => ?_)
        refine lv_iinc (v := (x3 + (nI 1))) (lv' := [(3, .int (x3 + (nI 1))), (2, .int (x2 + (nI 1))), (0, .ref z), (1, .ref x1), (4, .int x4), (5, .int x5)]) hx hb dX0_laysHidden_79 hl (k := 3) rfl rfl (by decide) rfl (fun ls hl => ?_)
        refine lv_goto (tgt := 4) hx hb dX0_laysHidden_82 rfl ?_
        exact hK4 (x2 + (nI 1)) (x3 + (nI 1)) μ3 _ _ _ hp hB (lv_sub hl [2, 3, 1, 0] rfl)
      · have hp := zit hp c0
        refine lv_goto (tgt := 79) hx hb dX0_laysHidden_66 rfl ?_
        refine lv_iinc (v := (x3 + (nI 1))) (lv' := [(3, .int (x3 + (nI 1))), (0, .ref z), (1, .ref x1), (2, .int x2), (4, .int x4), (5, .int x5)]) hx hb dX0_laysHidden_79 hl (k := 3) rfl rfl (by decide) rfl (fun ls hl => ?_)
        refine lv_goto (tgt := 4) hx hb dX0_laysHidden_82 rfl ?_
        exact hK4 x2 (x3 + (nI 1)) μ1 _ _ _ hp hB (lv_sub hl [1, 2, 3, 0] rfl)
    · have hp := zif hp c0
      refine lv_iload hx hb dX0_laysHidden_33 (lv_at hl 4 rfl) ?_
      refine lv_if_eq (tgt := 52) hx hb dX0_laysHidden_35 rfl (fun c0 => ?_) (fun c0 => ?_)
      · have hp := zit hp c0
        refine lv_iconst (v := (nI 0)) hx hb dX0_laysHidden_52 rfl ?_
        refine lv_istore (lv' := [(4, .int (nI 0)), (0, .ref z), (1, .ref x1), (2, .int x2), (3, .int x3), (5, .int x5)]) hx hb dX0_laysHidden_53 hl (by decide) rfl (fun ls hl => ?_)
        refine lv_iinc (v := (x5 + (nI 1))) (lv' := [(5, .int (x5 + (nI 1))), (4, .int (nI 0)), (0, .ref z), (1, .ref x1), (2, .int x2), (3, .int x3)]) hx hb dX0_laysHidden_55 hl (k := 5) rfl rfl (by decide) rfl (fun ls hl => ?_)
        refine lv_goto (tgt := 22) hx hb dX0_laysHidden_58 rfl ?_
        exact ih x2 x3 (nI 0) (x5 + (nI 1)) μ1 _ _ _ hp hB (lv_sub hl [2, 3, 4, 5, 1, 0] rfl)
      · have hp := zif hp c0
        refine lv_aload_n hx hb dX0_laysHidden_38 rfl (lv_at hl 0 rfl) ?_
        refine lv_aload_n hx hb dX0_laysHidden_39 rfl (lv_at hl 1 rfl) ?_
        refine lv_iload hx hb dX0_laysHidden_40 (lv_at hl 5 rfl) ?_
        refine z_calli (va_runV (As := [.ref x1, .int x5]) (rest := []) S (mX0_fitsMark l Γ z x1 x5 μ1 _ hp) (cwV 2 hts (lw_V q1185 q1187 qs53 q127 q1188) rfl rfl rfl hX0_fitsMark ⟨Nat.le_of_ble_eq_true rfl, Nat.le_of_ble_eq_true rfl⟩) (hB.preV (cT hB) rfl rfl) rfl rfl hl.1 rfl (lv_room (Nat.le_of_ble_eq_true rfl)) dX0_laysHidden_42 ⟨Nat.le_refl _, Nat.le_refl _⟩) hB (fun r5 μ4 H locs hp hB => ?_)
        refine lv_if_eq (tgt := 52) hx hb dX0_laysHidden_45 rfl (fun c0 => ?_) (fun c0 => ?_)
        · have hp := zit hp c0
          refine lv_iconst (v := (nI 0)) hx hb dX0_laysHidden_52 rfl ?_
          refine lv_istore (lv' := [(4, .int (nI 0)), (0, .ref z), (1, .ref x1), (2, .int x2), (3, .int x3), (5, .int x5)]) hx hb dX0_laysHidden_53 hl (by decide) rfl (fun ls hl => ?_)
          refine lv_iinc (v := (x5 + (nI 1))) (lv' := [(5, .int (x5 + (nI 1))), (4, .int (nI 0)), (0, .ref z), (1, .ref x1), (2, .int x2), (3, .int x3)]) hx hb dX0_laysHidden_55 hl (k := 5) rfl rfl (by decide) rfl (fun ls hl => ?_)
          refine lv_goto (tgt := 22) hx hb dX0_laysHidden_58 rfl ?_
          exact ih x2 x3 (nI 0) (x5 + (nI 1)) μ4 _ _ _ hp hB (lv_sub hl [2, 3, 4, 5, 1, 0] rfl)
        · have hp := zif hp c0
          refine lv_iconst (v := (nI 1)) hx hb dX0_laysHidden_48 rfl ?_
          refine lv_goto (tgt := 53) hx hb dX0_laysHidden_49 rfl ?_
          refine lv_istore (lv' := [(4, .int (nI 1)), (0, .ref z), (1, .ref x1), (2, .int x2), (3, .int x3), (5, .int x5)]) hx hb dX0_laysHidden_53 hl (by decide) rfl (fun ls hl => ?_)
          refine lv_iinc (v := (x5 + (nI 1))) (lv' := [(5, .int (x5 + (nI 1))), (4, .int (nI 1)), (0, .ref z), (1, .ref x1), (2, .int x2), (3, .int x3)]) hx hb dX0_laysHidden_55 hl (k := 5) rfl rfl (by decide) rfl (fun ls hl => ?_)
          refine lv_goto (tgt := 22) hx hb dX0_laysHidden_58 rfl ?_
          exact ih x2 x3 (nI 1) (x5 + (nI 1)) μ4 _ _ _ hp hB (lv_sub hl [2, 3, 4, 5, 1, 0] rfl)
def pX0_laysHidden_4 (z : Nat) (x1 : Nat) (Q : Int32 → zM → Prop) : Nat → Int32 → Int32 → zM → Prop
  | 0, _, _, _ => False
  | n + 1, x2, x3, μ => (if (nI 999) < x3 then Q x2 μ else (pX0_laysSunk z x3 μ fun μ1 => ∃ k1, pX0_laysHidden_22 z x1 (fun v0 v1 ν => pX0_laysHidden_4 z x1 Q n v0 v1 ν) Q k1 x2 x3 (nI 1) (nI 0) μ1))
set_option maxHeartbeats 4000000 in
set_option maxRecDepth 100000 in
theorem wX0_laysHidden_4 {p : Program} {l : Launch} {e : Env} {s : State} {m : MethodId} {args : Array Value} {below : List Frame} {meth : Method} {c : Code} {Γ : zG} {μ0 : zM} {Q : Int32 → zM → Prop} (X : zCx p m c cX0_laysHidden 6 s args RX0 meth (some .int)) {x1 : Nat} (ht_x1 : zty μ0 x1 = some (.inl 3)) (z : Nat) : ∀ (n : Nat) (x2 : Int32) (x3 : Int32) (μ : zM) (H : Heap) (locs : List Loc) (ls : Array Slot), pX0_laysHidden_4 z x1 Q n x2 x3 μ → zB Γ (cSh z) (zA μ0) μ0 s μ H locs → lv_has ls 6 [(0, .ref z), (1, .ref x1), (2, .int x2), (3, .int x3)] → W p l e ({ frames := 465, cells := 0, slots := 0, locals := 12536 } : Room) s m args below meth c H locs 0 0 (MQ below (va_Qi Q (zPost Γ (cSh z) μ0) (zA μ0)) args s 0 0 (zA μ0)) (F0 m 4 ls []) := by
  have S := X.1
  obtain ⟨hx, hb, hml, hown, hts⟩ := X.1
  intro n
  induction n with
  | zero =>
    intro x2 x3 μ H locs ls hp
    exact hp.elim
  | succ n ih =>
    intro x2 x3 μ H locs ls hp hB hl
    unfold pX0_laysHidden_4 at hp
    refine lv_iload_n hx hb dX0_laysHidden_4 rfl (lv_at hl 3 rfl) ?_
    refine lv_sipush (v := (nI 999)) hx hb dX0_laysHidden_5 rfl ?_
    refine lv_icmp_gt (tgt := 85) hx hb dX0_laysHidden_8 rfl (fun c0 => ?_) (fun c0 => ?_)
    · have hp := zit hp c0
      refine lv_iload_n hx hb dX0_laysHidden_85 rfl (lv_at hl 2 rfl) ?_
      exact zret_i X hB hp dX0_laysHidden_86
    · have hp := zif hp c0
      refine lv_aload_n hx hb dX0_laysHidden_11 rfl (lv_at hl 0 rfl) ?_
      refine lv_iload_n hx hb dX0_laysHidden_12 rfl (lv_at hl 3 rfl) ?_
      refine z_callv (va_runV (As := [.int x3]) (rest := []) S (mX0_laysSunk l Γ z x3 μ _ hp) (cwV 1 hts (lw_V q1181 q1183 qs52 q127 q1184) rfl rfl rfl hX0_laysSunk ⟨Nat.le_of_ble_eq_true rfl, Nat.le_of_ble_eq_true rfl⟩) (hB.preV (cT hB) rfl rfl) rfl rfl hl.1 rfl (lv_room (Nat.le_of_ble_eq_true rfl)) dX0_laysHidden_13 ⟨Nat.le_refl _, Nat.le_refl _⟩) hB (fun μ1 H locs hp hB => ?_)
      refine lv_iconst (v := (nI 1)) hx hb dX0_laysHidden_16 rfl ?_
      refine lv_istore (lv' := [(4, .int (nI 1)), (0, .ref z), (1, .ref x1), (2, .int x2), (3, .int x3)]) hx hb dX0_laysHidden_17 hl (by decide) rfl (fun ls hl => ?_)
      refine lv_iconst (v := (nI 0)) hx hb dX0_laysHidden_19 rfl ?_
      refine lv_istore (lv' := [(5, .int (nI 0)), (4, .int (nI 1)), (0, .ref z), (1, .ref x1), (2, .int x2), (3, .int x3)]) hx hb dX0_laysHidden_20 hl (by decide) rfl (fun ls hl => ?_)
      obtain ⟨n1, hp⟩ := hp
      exact wX0_laysHidden_22 X ht_x1 z (fun v0 v1 ν H2 L2 ls2 h2 b2 l2 => ih v0 v1 ν H2 L2 ls2 h2 b2 l2) n1 x2 x3 (nI 1) (nI 0) μ1 _ _ _ hp hB (lv_sub hl [2, 3, 4, 5, 1, 0] rfl)
def pX0_laysHidden (z : Nat) (x1 : Nat) (μ : zM) (Q : Int32 → zM → Prop) : Prop := zty μ x1 = some (.inl 3) ∧ ∃ k1, pX0_laysHidden_4 z x1 Q k1 (nI 0) (nI 0) μ
theorem hX0_laysHidden : yX0_laysHidden.cls = "SunkTower" ∧ yX0_laysHidden.cls ≠ "java/lang/invoke/MethodHandle" ∧ yX0_laysHidden.cls ≠ "java/lang/invoke/VarHandle" ∧ (parseMethodDescriptor yX0_laysHidden.desc).map (fun d => d.parameters.length) = some 1 := by decide +kernel
set_option maxHeartbeats 4000000 in
set_option maxRecDepth 100000 in
theorem mX0_laysHidden (l : Launch) (Γ : zG) (z : Nat) (x1 : Nat) (μ : zM) (Q : Int32 → zM → Prop) (hp : pX0_laysHidden z x1 μ Q) : Met l yX0_laysHidden (ws_ yX0_laysHidden cX0_laysHidden 6 (some .int)) ({ frames := 465, cells := 0, slots := 0, locals := 12536 } : Room) (va_Pc [.ref z, .ref x1] (zPre Γ (cSh z) μ)) (va_Qi Q (zPost Γ (cSh z) μ) (zA μ)) 0 0 (zA μ) := by
  refine zstart (by decide) (Nat.le_of_ble_eq_true rfl) ?_
  intro p e s m below meth c ls X hnm hB hl
  have X : zCx p m c cX0_laysHidden 6 s [.ref z, .ref x1].toArray RX0 meth (some .int) := X
  have S := X.1
  obtain ⟨hx, hb, hml, hown, hts⟩ := X.1
  have hl : lv_has ls 6 [(0, .ref z), (1, .ref x1)] := hl
  obtain ⟨ht_x1, hp⟩ := hp
  refine lv_iconst (v := (nI 0)) hx hb dX0_laysHidden_0 rfl ?_
  refine lv_istore_n (lv' := [(2, .int (nI 0)), (0, .ref z), (1, .ref x1)]) hx hb dX0_laysHidden_1 rfl hl (by decide) rfl (fun ls hl => ?_)
  refine lv_iconst (v := (nI 0)) hx hb dX0_laysHidden_2 rfl ?_
  refine lv_istore_n (lv' := [(3, .int (nI 0)), (2, .int (nI 0)), (0, .ref z), (1, .ref x1)]) hx hb dX0_laysHidden_3 rfl hl (by decide) rfl (fun ls hl => ?_)
  obtain ⟨n1, hp⟩ := hp
  exact wX0_laysHidden_4 X ht_x1 z n1 (nI 0) (nI 0) μ _ _ _ hp hB (lv_sub hl [2, 3, 1, 0] rfl)
def pX0_hidden_17 (z : Nat) (x1 : Int32) (x2 : Int32) (Q : Int32 → zM → Prop) (x3 : Int32) (μ : zM) : Prop := (if x3 = 0 then (vp_in x1 4 ∧ (zde (zR μ (z + 70) x1.toNatClampNeg) fun b1 => (pX0_laysHidden z b1 μ fun r3 μ2 => (if r3 ≤ x2 then Q (-1 : Int32) μ2 else (vp_in x2 1000 ∧ Q (zI μ2 (z + 66) x2.toNatClampNeg) μ2))))) else Q x3 μ)
set_option maxHeartbeats 4000000 in
set_option maxRecDepth 100000 in
theorem wX0_hidden_17 {p : Program} {l : Launch} {e : Env} {s : State} {m : MethodId} {args : Array Value} {below : List Frame} {meth : Method} {c : Code} {Γ : zG} {μ0 : zM} {Q : Int32 → zM → Prop} (X : zCx p m c cX0_hidden 4 s args RX0 meth (some .int)) (z : Nat) (x1 : Int32) (x2 : Int32) : ∀ (x3 : Int32) (μ : zM) (H : Heap) (locs : List Loc) (ls : Array Slot), pX0_hidden_17 z x1 x2 Q x3 μ → zB Γ (cSh z) (zA μ0) μ0 s μ H locs → lv_has ls 4 [(0, .ref z), (1, .int x1), (2, .int x2), (3, .int x3)] → W p l e ({ frames := 466, cells := 0, slots := 0, locals := 12561 } : Room) s m args below meth c H locs 0 0 (MQ below (va_Qi Q (zPost Γ (cSh z) μ0) (zA μ0)) args s 0 0 (zA μ0)) (F0 m 17 ls []) := by
  have S := X.1
  obtain ⟨hx, hb, hml, hown, hts⟩ := X.1
  intro x3 μ H locs ls hp hB hl
  unfold pX0_hidden_17 at hp
  refine lv_iload_n hx hb dX0_hidden_17 rfl (lv_at hl 3 rfl) ?_
  refine lv_if_eq (tgt := 23) hx hb dX0_hidden_18 rfl (fun c0 => ?_) (fun c0 => ?_)
  · have hp := zit hp c0
    refine lv_iload_n hx hb dX0_hidden_23 rfl (lv_at hl 2 rfl) ?_
    refine lv_aload_n hx hb dX0_hidden_24 rfl (lv_at hl 0 rfl) ?_
    refine lv_aload_n hx hb dX0_hidden_25 rfl (lv_at hl 0 rfl) ?_
    refine g_getr S hB (cT hB) rfl (T := TX0) (N := 33) (C := RX0) rfl in_X0 30 (by decide) (by decide) q336 (fun _ h9 => h9) (fun _ => rfl) (cA hB 17 rfl).1 dX0_hidden_26 ?_
    refine lv_iload_n hx hb dX0_hidden_29 rfl (lv_at hl 1 rfl) ?_
    obtain ⟨hi, hp⟩ := hp
    refine g_aald S hB (t0 := 6) (cA hB 17 rfl).2 rfl rfl hi dX0_hidden_30 ?_
    obtain ⟨b1, eb, hp⟩ := hp
    refine W.eq (g2 := F0 m 31 ls [.ref b1, .ref z, .int x2]) (by rw [eb]; rfl) ?_
    refine z_calli (va_runV (As := [.ref b1]) (rest := [.int x2]) S (mX0_laysHidden l Γ z b1 μ _ hp) (cwV 1 hts (lw_V q1177 q1179 qs51 q127 q1180) rfl rfl rfl hX0_laysHidden ⟨Nat.le_of_ble_eq_true rfl, Nat.le_of_ble_eq_true rfl⟩) (hB.preV (cT hB) rfl rfl) rfl rfl hl.1 rfl (lv_room (Nat.le_of_ble_eq_true rfl)) dX0_hidden_31 ⟨Nat.le_refl _, Nat.le_refl _⟩) hB (fun r3 μ2 H locs hp hB => ?_)
    refine lv_icmp_ge (tgt := 46) hx hb dX0_hidden_34 rfl (fun c0 => ?_) (fun c0 => ?_)
    · have hp := zit hp c0
      refine lv_iconst (v := (-1 : Int32)) hx hb dX0_hidden_46 rfl ?_
      exact zret_i X hB hp dX0_hidden_47
    · have hp := zif hp c0
      refine lv_aload_n hx hb dX0_hidden_37 rfl (lv_at hl 0 rfl) ?_
      refine g_getr S hB (cT hB) rfl (T := TX0) (N := 33) (C := RX0) rfl in_X0 26 (by decide) (by decide) q332 (fun _ h9 => h9) (fun _ => rfl) (cA hB 13 rfl).1 dX0_hidden_38 ?_
      refine lv_iload_n hx hb dX0_hidden_41 rfl (lv_at hl 2 rfl) ?_
      obtain ⟨hi, hp⟩ := hp
      refine g_iald S hB (cA hB 13 rfl).2 hi dX0_hidden_42 ?_
      refine lv_goto (tgt := 47) hx hb dX0_hidden_43 rfl ?_
      exact zret_i X hB hp dX0_hidden_47
  · have hp := zif hp c0
    refine lv_iload_n hx hb dX0_hidden_21 rfl (lv_at hl 3 rfl) ?_
    exact zret_i X hB hp dX0_hidden_22
def pX0_hidden (z : Nat) (x1 : Int32) (x2 : Int32) (μ : zM) (Q : Int32 → zM → Prop) : Prop := (pX0_marksFault z x1 μ fun r2 μ1 => (if r2 = 0 then (if 0 ≤ x2 then pX0_hidden_17 z x1 x2 Q r2 μ1 else pX0_hidden_17 z x1 x2 Q (-3 : Int32) μ1) else pX0_hidden_17 z x1 x2 Q r2 μ1))
theorem hX0_hidden : yX0_hidden.cls = "SunkTower" ∧ yX0_hidden.cls ≠ "java/lang/invoke/MethodHandle" ∧ yX0_hidden.cls ≠ "java/lang/invoke/VarHandle" ∧ (parseMethodDescriptor yX0_hidden.desc).map (fun d => d.parameters.length) = some 2 := by decide +kernel
set_option maxHeartbeats 4000000 in
set_option maxRecDepth 100000 in
theorem mX0_hidden (l : Launch) (Γ : zG) (z : Nat) (x1 : Int32) (x2 : Int32) (μ : zM) (Q : Int32 → zM → Prop) (hp : pX0_hidden z x1 x2 μ Q) : Met l yX0_hidden (ws_ yX0_hidden cX0_hidden 4 (some .int)) ({ frames := 466, cells := 0, slots := 0, locals := 12561 } : Room) (va_Pc [.ref z, .int x1, .int x2] (zPre Γ (cSh z) μ)) (va_Qi Q (zPost Γ (cSh z) μ) (zA μ)) 0 0 (zA μ) := by
  refine zstart (by decide) (Nat.le_of_ble_eq_true rfl) ?_
  intro p e s m below meth c ls X hnm hB hl
  have X : zCx p m c cX0_hidden 4 s [.ref z, .int x1, .int x2].toArray RX0 meth (some .int) := X
  have S := X.1
  obtain ⟨hx, hb, hml, hown, hts⟩ := X.1
  have hl : lv_has ls 4 [(0, .ref z), (1, .int x1), (2, .int x2)] := hl
  unfold pX0_hidden at hp
  refine lv_aload_n hx hb dX0_hidden_0 rfl (lv_at hl 0 rfl) ?_
  refine lv_iload_n hx hb dX0_hidden_1 rfl (lv_at hl 1 rfl) ?_
  refine z_calli (va_runV (As := [.int x1]) (rest := []) S (mX0_marksFault l Γ z x1 μ _ hp) (cwV 1 hts (lw_V q1171 q1173 qs50 q127 q1174) rfl rfl rfl hX0_marksFault ⟨Nat.le_of_ble_eq_true rfl, Nat.le_of_ble_eq_true rfl⟩) (hB.preV (cT hB) rfl rfl) rfl rfl hl.1 rfl (lv_room (Nat.le_of_ble_eq_true rfl)) dX0_hidden_2 ⟨Nat.le_refl _, Nat.le_refl _⟩) hB (fun r2 μ1 H locs hp hB => ?_)
  refine lv_istore_n (lv' := [(3, .int r2), (0, .ref z), (1, .int x1), (2, .int x2)]) hx hb dX0_hidden_5 rfl hl (by decide) rfl (fun ls hl => ?_)
  refine lv_iload_n hx hb dX0_hidden_6 rfl (lv_at hl 0 rfl) ?_
  refine lv_if_ne (tgt := 17) hx hb dX0_hidden_7 rfl (fun c0 => ?_) (fun c0 => ?_)
  · have hp := zif hp c0
    exact wX0_hidden_17 X z x1 x2 r2 μ1 _ _ _ hp hB (lv_sub hl [1, 2, 3, 0] rfl)
  · have hp := zit hp c0
    refine lv_iload_n hx hb dX0_hidden_10 rfl (lv_at hl 3 rfl) ?_
    refine lv_if_ge (tgt := 17) hx hb dX0_hidden_11 rfl (fun c0 => ?_) (fun c0 => ?_)
    · have hp := zit hp c0
      exact wX0_hidden_17 X z x1 x2 r2 μ1 _ _ _ hp hB (lv_sub hl [1, 2, 3, 0] rfl)
    · have hp := zif hp c0
      refine lv_bipush (v := (-3 : Int32)) hx hb dX0_hidden_14 rfl ?_
      refine lv_istore_n (lv' := [(3, .int (-3 : Int32)), (0, .ref z), (1, .int x1), (2, .int x2)]) hx hb dX0_hidden_16 rfl hl (by decide) rfl (fun ls hl => ?_)
      exact wX0_hidden_17 X z x1 x2 (-3 : Int32) μ1 _ _ _ hp hB (lv_sub hl [1, 2, 3, 0] rfl)
def pX0_look_84 (z : Nat) (Q : Int32 → zM → Prop) : Nat → Int32 → Int32 → Int32 → zM → Prop
  | 0, _, _, _, _ => False
  | n + 1, x3, x4, x5, μ => (if (nI 60) < x5 then Q x4 μ else (if x3 ≤ 0 then Q x4 μ else (if x4 = (-1 : Int32) then pX0_look_84 z Q n x3 x5 (x5 + (nI 1)) μ else (vp_in x5 61 ∧ (vp_in x4 61 ∧ (if (zI μ (z + 68) x4.toNatClampNeg) ≤ (zI μ (z + 68) x5.toNatClampNeg) then pX0_look_84 z Q n x3 x4 (x5 + (nI 1)) μ else pX0_look_84 z Q n x3 x5 (x5 + (nI 1)) μ))))))
set_option maxHeartbeats 4000000 in
set_option maxRecDepth 100000 in
theorem wX0_look_84 {p : Program} {l : Launch} {e : Env} {s : State} {m : MethodId} {args : Array Value} {below : List Frame} {meth : Method} {c : Code} {Γ : zG} {μ0 : zM} {Q : Int32 → zM → Prop} (X : zCx p m c cX0_look 6 s args RX0 meth (some .int)) (z : Nat) : ∀ (n : Nat) (x3 : Int32) (x4 : Int32) (x5 : Int32) (μ : zM) (H : Heap) (locs : List Loc) (ls : Array Slot), pX0_look_84 z Q n x3 x4 x5 μ → zB Γ (cSh z) (zA μ0) μ0 s μ H locs → lv_has ls 6 [(0, .ref z), (3, .int x3), (4, .int x4), (5, .int x5)] → W p l e ({ frames := 466, cells := 0, slots := 0, locals := 12561 } : Room) s m args below meth c H locs 0 0 (MQ below (va_Qi Q (zPost Γ (cSh z) μ0) (zA μ0)) args s 0 0 (zA μ0)) (F0 m 84 ls []) := by
  have S := X.1
  obtain ⟨hx, hb, hml, hown, hts⟩ := X.1
  intro n
  induction n with
  | zero =>
    intro x3 x4 x5 μ H locs ls hp
    exact hp.elim
  | succ n ih =>
    intro x3 x4 x5 μ H locs ls hp hB hl
    unfold pX0_look_84 at hp
    refine lv_iload hx hb dX0_look_84 (lv_at hl 3 rfl) ?_
    refine lv_bipush (v := (nI 60)) hx hb dX0_look_86 rfl ?_
    refine lv_icmp_gt (tgt := 128) hx hb dX0_look_88 rfl (fun c0 => ?_) (fun c0 => ?_)
    · have hp := zit hp c0
      refine lv_iload hx hb dX0_look_128 (lv_at hl 2 rfl) ?_
      exact zret_i X hB hp dX0_look_130
    · have hp := zif hp c0
      refine lv_iload_n hx hb dX0_look_91 rfl (lv_at hl 1 rfl) ?_
      refine lv_if_le (tgt := 128) hx hb dX0_look_92 rfl (fun c0 => ?_) (fun c0 => ?_)
      · have hp := zit hp c0
        refine lv_iload hx hb dX0_look_128 (lv_at hl 2 rfl) ?_
        exact zret_i X hB hp dX0_look_130
      · have hp := zif hp c0
        refine lv_iload hx hb dX0_look_95 (lv_at hl 2 rfl) ?_
        refine lv_iconst (v := (-1 : Int32)) hx hb dX0_look_97 rfl ?_
        refine lv_icmp_eq (tgt := 118) hx hb dX0_look_98 rfl (fun c0 => ?_) (fun c0 => ?_)
        · have hp := zit hp c0
          refine lv_iload hx hb dX0_look_118 (lv_at hl 3 rfl) ?_
          refine lv_istore (lv' := [(4, .int x5), (0, .ref z), (3, .int x3), (5, .int x5)]) hx hb dX0_look_120 hl (by decide) rfl (fun ls hl => ?_)
          refine lv_iinc (v := (x5 + (nI 1))) (lv' := [(5, .int (x5 + (nI 1))), (4, .int x5), (0, .ref z), (3, .int x3)]) hx hb dX0_look_122 hl (k := 3) rfl rfl (by decide) rfl (fun ls hl => ?_)
          refine lv_goto (tgt := 84) hx hb dX0_look_125 rfl ?_
          exact ih x3 x5 (x5 + (nI 1)) μ _ _ _ hp hB (lv_sub hl [2, 3, 1, 0] rfl)
        · have hp := zif hp c0
          refine lv_aload_n hx hb dX0_look_101 rfl (lv_at hl 0 rfl) ?_
          refine g_getr S hB (cT hB) rfl (T := TX0) (N := 33) (C := RX0) rfl in_X0 28 (by decide) (by decide) q334 (fun _ h9 => h9) (fun _ => rfl) (cA hB 15 rfl).1 dX0_look_102 ?_
          refine lv_iload hx hb dX0_look_105 (lv_at hl 3 rfl) ?_
          obtain ⟨hi, hp⟩ := hp
          refine g_iald S hB (cA hB 15 rfl).2 hi dX0_look_107 ?_
          refine lv_aload_n hx hb dX0_look_108 rfl (lv_at hl 0 rfl) ?_
          refine g_getr S hB (cT hB) rfl (T := TX0) (N := 33) (C := RX0) rfl in_X0 28 (by decide) (by decide) q334 (fun _ h9 => h9) (fun _ => rfl) (cA hB 15 rfl).1 dX0_look_109 ?_
          refine lv_iload hx hb dX0_look_112 (lv_at hl 2 rfl) ?_
          obtain ⟨hi, hp⟩ := hp
          refine g_iald S hB (cA hB 15 rfl).2 hi dX0_look_114 ?_
          refine lv_icmp_ge (tgt := 122) hx hb dX0_look_115 rfl (fun c0 => ?_) (fun c0 => ?_)
          · have hp := zit hp c0
            refine lv_iinc (v := (x5 + (nI 1))) (lv' := [(5, .int (x5 + (nI 1))), (0, .ref z), (3, .int x3), (4, .int x4)]) hx hb dX0_look_122 hl (k := 3) rfl rfl (by decide) rfl (fun ls hl => ?_)
            refine lv_goto (tgt := 84) hx hb dX0_look_125 rfl ?_
            exact ih x3 x4 (x5 + (nI 1)) μ _ _ _ hp hB (lv_sub hl [1, 2, 3, 0] rfl)
          · have hp := zif hp c0
            refine lv_iload hx hb dX0_look_118 (lv_at hl 3 rfl) ?_
            refine lv_istore (lv' := [(4, .int x5), (0, .ref z), (3, .int x3), (5, .int x5)]) hx hb dX0_look_120 hl (by decide) rfl (fun ls hl => ?_)
            refine lv_iinc (v := (x5 + (nI 1))) (lv' := [(5, .int (x5 + (nI 1))), (4, .int x5), (0, .ref z), (3, .int x3)]) hx hb dX0_look_122 hl (k := 3) rfl rfl (by decide) rfl (fun ls hl => ?_)
            refine lv_goto (tgt := 84) hx hb dX0_look_125 rfl ?_
            exact ih x3 x5 (x5 + (nI 1)) μ _ _ _ hp hB (lv_sub hl [2, 3, 1, 0] rfl)
def pX0_look_26 (z : Nat) (Q : Int32 → zM → Prop) : Nat → Int32 → Int32 → zM → Prop
  | 0, _, _, _ => False
  | n + 1, x3, x4, μ => (if x3 ≤ x4 then (pX0_laysAlike z x3 μ fun μ1 => ∃ k1, pX0_look_84 z Q k1 x3 (-1 : Int32) (nI 1) μ1) else (vp_in x4 1000 ∧ (pX0_laysSunk z (zI μ (z + 66) x4.toNatClampNeg) μ fun μ2 => (vp_in x4 1000 ∧ (zcr (nI 0) ((nI 61) * (zI μ2 (z + 66) x4.toNatClampNeg)) (nI 61) 61 61061 ∧ zpC μ2 (z + 65) (z + 69) (nI 0).toNatClampNeg ((nI 61) * (zI μ2 (z + 66) x4.toNatClampNeg)).toNatClampNeg (nI 61).toNatClampNeg fun μ3 => pX0_look_26 z Q n x3 (x4 + (nI 1)) μ3)))))
set_option maxHeartbeats 4000000 in
set_option maxRecDepth 100000 in
theorem wX0_look_26 {p : Program} {l : Launch} {e : Env} {s : State} {m : MethodId} {args : Array Value} {below : List Frame} {meth : Method} {c : Code} {Γ : zG} {μ0 : zM} {Q : Int32 → zM → Prop} (X : zCx p m c cX0_look 6 s args RX0 meth (some .int)) (z : Nat) : ∀ (n : Nat) (x3 : Int32) (x4 : Int32) (μ : zM) (H : Heap) (locs : List Loc) (ls : Array Slot), pX0_look_26 z Q n x3 x4 μ → zB Γ (cSh z) (zA μ0) μ0 s μ H locs → lv_has ls 6 [(0, .ref z), (3, .int x3), (4, .int x4)] → W p l e ({ frames := 466, cells := 0, slots := 0, locals := 12561 } : Room) s m args below meth c H locs 0 0 (MQ below (va_Qi Q (zPost Γ (cSh z) μ0) (zA μ0)) args s 0 0 (zA μ0)) (F0 m 26 ls []) := by
  have S := X.1
  obtain ⟨hx, hb, hml, hown, hts⟩ := X.1
  intro n
  induction n with
  | zero =>
    intro x3 x4 μ H locs ls hp
    exact hp.elim
  | succ n ih =>
    intro x3 x4 μ H locs ls hp hB hl
    unfold pX0_look_26 at hp
    refine lv_iload hx hb dX0_look_26 (lv_at hl 2 rfl) ?_
    refine lv_iload_n hx hb dX0_look_28 rfl (lv_at hl 1 rfl) ?_
    refine lv_icmp_ge (tgt := 73) hx hb dX0_look_29 rfl (fun c0 => ?_) (fun c0 => ?_)
    · have hp := zit hp c0
      refine lv_aload_n hx hb dX0_look_73 rfl (lv_at hl 0 rfl) ?_
      refine lv_iload_n hx hb dX0_look_74 rfl (lv_at hl 1 rfl) ?_
      refine z_callv (va_runV (As := [.int x3]) (rest := []) S (mX0_laysAlike l Γ z x3 μ _ hp) (cwV 1 hts (lw_V q1197 q1199 qs54 q127 q1200) rfl rfl rfl hX0_laysAlike ⟨Nat.le_of_ble_eq_true rfl, Nat.le_of_ble_eq_true rfl⟩) (hB.preV (cT hB) rfl rfl) rfl rfl hl.1 rfl (lv_room (Nat.le_of_ble_eq_true rfl)) dX0_look_75 ⟨Nat.le_refl _, Nat.le_refl _⟩) hB (fun μ1 H locs hp hB => ?_)
      refine lv_iconst (v := (-1 : Int32)) hx hb dX0_look_78 rfl ?_
      refine lv_istore (lv' := [(4, .int (-1 : Int32)), (0, .ref z), (3, .int x3)]) hx hb dX0_look_79 hl (by decide) rfl (fun ls hl => ?_)
      refine lv_iconst (v := (nI 1)) hx hb dX0_look_81 rfl ?_
      refine lv_istore (lv' := [(5, .int (nI 1)), (4, .int (-1 : Int32)), (0, .ref z), (3, .int x3)]) hx hb dX0_look_82 hl (by decide) rfl (fun ls hl => ?_)
      obtain ⟨n1, hp⟩ := hp
      exact wX0_look_84 X z n1 x3 (-1 : Int32) (nI 1) μ1 _ _ _ hp hB (lv_sub hl [2, 3, 1, 0] rfl)
    · have hp := zif hp c0
      refine lv_aload_n hx hb dX0_look_32 rfl (lv_at hl 0 rfl) ?_
      refine lv_aload_n hx hb dX0_look_33 rfl (lv_at hl 0 rfl) ?_
      refine g_getr S hB (cT hB) rfl (T := TX0) (N := 33) (C := RX0) rfl in_X0 26 (by decide) (by decide) q332 (fun _ h9 => h9) (fun _ => rfl) (cA hB 13 rfl).1 dX0_look_34 ?_
      refine lv_iload hx hb dX0_look_37 (lv_at hl 2 rfl) ?_
      obtain ⟨hi, hp⟩ := hp
      refine g_iald S hB (cA hB 13 rfl).2 hi dX0_look_39 ?_
      refine z_callv (va_runV (As := [.int (zI μ (z + 66) x4.toNatClampNeg)]) (rest := []) S (mX0_laysSunk l Γ z (zI μ (z + 66) x4.toNatClampNeg) μ _ hp) (cwV 1 hts (lw_V q1181 q1183 qs52 q127 q1184) rfl rfl rfl hX0_laysSunk ⟨Nat.le_of_ble_eq_true rfl, Nat.le_of_ble_eq_true rfl⟩) (hB.preV (cT hB) rfl rfl) rfl rfl hl.1 rfl (lv_room (Nat.le_of_ble_eq_true rfl)) dX0_look_40 ⟨Nat.le_refl _, Nat.le_refl _⟩) hB (fun μ2 H locs hp hB => ?_)
      refine lv_aload_n hx hb dX0_look_43 rfl (lv_at hl 0 rfl) ?_
      refine g_getr S hB (cT hB) rfl (T := TX0) (N := 33) (C := RX0) rfl in_X0 25 (by decide) (by decide) q331 (fun _ h9 => h9) (fun _ => rfl) (cA hB 12 rfl).1 dX0_look_44 ?_
      refine lv_iconst (v := (nI 0)) hx hb dX0_look_47 rfl ?_
      refine lv_aload_n hx hb dX0_look_48 rfl (lv_at hl 0 rfl) ?_
      refine g_getr S hB (cT hB) rfl (T := TX0) (N := 33) (C := RX0) rfl in_X0 29 (by decide) (by decide) q335 (fun _ h9 => h9) (fun _ => rfl) (cA hB 16 rfl).1 dX0_look_49 ?_
      refine lv_bipush (v := (nI 61)) hx hb dX0_look_52 rfl ?_
      refine lv_aload_n hx hb dX0_look_54 rfl (lv_at hl 0 rfl) ?_
      refine g_getr S hB (cT hB) rfl (T := TX0) (N := 33) (C := RX0) rfl in_X0 26 (by decide) (by decide) q332 (fun _ h9 => h9) (fun _ => rfl) (cA hB 13 rfl).1 dX0_look_55 ?_
      refine lv_iload hx hb dX0_look_58 (lv_at hl 2 rfl) ?_
      obtain ⟨hi, hp⟩ := hp
      refine g_iald S hB (cA hB 13 rfl).2 hi dX0_look_60 ?_
      refine lv_imul hx hb dX0_look_61 ?_
      refine lv_bipush (v := (nI 61)) hx hb dX0_look_62 rfl ?_
      obtain ⟨hi, hp⟩ := hp
      obtain ⟨μ3, eμ3, hp⟩ := zpC_e hp
      refine g_copyi S hB (hml.trans hl.1.symm) (cA hB 12 rfl).2 (cA hB 16 rfl).2 hi (hts _ q1161) (hts _ q302) (hts _ q301) (hts _ q131) (Nat.le_of_ble_eq_true rfl) (Nat.le_of_ble_eq_true rfl) dX0_look_64 (fun H locs hB => ?_)
      rw [← eμ3] at hB
      refine lv_iinc (v := (x4 + (nI 1))) (lv' := [(4, .int (x4 + (nI 1))), (0, .ref z), (3, .int x3)]) hx hb dX0_look_67 hl (k := 2) rfl rfl (by decide) rfl (fun ls hl => ?_)
      refine lv_goto (tgt := 26) hx hb dX0_look_70 rfl ?_
      exact ih x3 (x4 + (nI 1)) μ3 _ _ _ hp hB (lv_sub hl [1, 2, 0] rfl)
def pX0_look (z : Nat) (x1 : Int32) (μ : zM) (Q : Int32 → zM → Prop) : Prop := (pX0_marksFault z x1 μ fun r2 μ1 => (if r2 = 0 then (vp_in x1 4 ∧ (zde (zR μ1 (z + 70) x1.toNatClampNeg) fun b3 => (pX0_laysHidden z b3 μ1 fun r5 μ4 => ∃ k1, pX0_look_26 z Q k1 r5 (nI 0) μ4))) else Q r2 μ1))
theorem hX0_look : yX0_look.cls = "SunkTower" ∧ yX0_look.cls ≠ "java/lang/invoke/MethodHandle" ∧ yX0_look.cls ≠ "java/lang/invoke/VarHandle" ∧ (parseMethodDescriptor yX0_look.desc).map (fun d => d.parameters.length) = some 1 := by decide +kernel
set_option maxHeartbeats 4000000 in
set_option maxRecDepth 100000 in
theorem mX0_look (l : Launch) (Γ : zG) (z : Nat) (x1 : Int32) (μ : zM) (Q : Int32 → zM → Prop) (hp : pX0_look z x1 μ Q) : Met l yX0_look (ws_ yX0_look cX0_look 6 (some .int)) ({ frames := 466, cells := 0, slots := 0, locals := 12561 } : Room) (va_Pc [.ref z, .int x1] (zPre Γ (cSh z) μ)) (va_Qi Q (zPost Γ (cSh z) μ) (zA μ)) 0 0 (zA μ) := by
  refine zstart (by decide) (Nat.le_of_ble_eq_true rfl) ?_
  intro p e s m below meth c ls X hnm hB hl
  have X : zCx p m c cX0_look 6 s [.ref z, .int x1].toArray RX0 meth (some .int) := X
  have S := X.1
  obtain ⟨hx, hb, hml, hown, hts⟩ := X.1
  have hl : lv_has ls 6 [(0, .ref z), (1, .int x1)] := hl
  unfold pX0_look at hp
  refine lv_aload_n hx hb dX0_look_0 rfl (lv_at hl 0 rfl) ?_
  refine lv_iload_n hx hb dX0_look_1 rfl (lv_at hl 1 rfl) ?_
  refine z_calli (va_runV (As := [.int x1]) (rest := []) S (mX0_marksFault l Γ z x1 μ _ hp) (cwV 1 hts (lw_V q1171 q1173 qs50 q127 q1174) rfl rfl rfl hX0_marksFault ⟨Nat.le_of_ble_eq_true rfl, Nat.le_of_ble_eq_true rfl⟩) (hB.preV (cT hB) rfl rfl) rfl rfl hl.1 rfl (lv_room (Nat.le_of_ble_eq_true rfl)) dX0_look_2 ⟨Nat.le_refl _, Nat.le_refl _⟩) hB (fun r2 μ1 H locs hp hB => ?_)
  refine lv_istore_n (lv' := [(2, .int r2), (0, .ref z), (1, .int x1)]) hx hb dX0_look_5 rfl hl (by decide) rfl (fun ls hl => ?_)
  refine lv_iload_n hx hb dX0_look_6 rfl (lv_at hl 0 rfl) ?_
  refine lv_if_eq (tgt := 12) hx hb dX0_look_7 rfl (fun c0 => ?_) (fun c0 => ?_)
  · have hp := zit hp c0
    refine lv_aload_n hx hb dX0_look_12 rfl (lv_at hl 1 rfl) ?_
    refine lv_aload_n hx hb dX0_look_13 rfl (lv_at hl 1 rfl) ?_
    refine g_getr S hB (cT hB) rfl (T := TX0) (N := 33) (C := RX0) rfl in_X0 30 (by decide) (by decide) q336 (fun _ h9 => h9) (fun _ => rfl) (cA hB 17 rfl).1 dX0_look_14 ?_
    refine lv_iload_n hx hb dX0_look_17 rfl (lv_at hl 2 rfl) ?_
    obtain ⟨hi, hp⟩ := hp
    refine g_aald S hB (t0 := 6) (cA hB 17 rfl).2 rfl rfl hi dX0_look_18 ?_
    obtain ⟨b3, eb, hp⟩ := hp
    refine W.eq (g2 := F0 m 19 ls [.ref b3, .ref z]) (by rw [eb]; rfl) ?_
    refine z_calli (va_runV (As := [.ref b3]) (rest := []) S (mX0_laysHidden l Γ z b3 μ1 _ hp) (cwV 1 hts (lw_V q1177 q1179 qs51 q127 q1180) rfl rfl rfl hX0_laysHidden ⟨Nat.le_of_ble_eq_true rfl, Nat.le_of_ble_eq_true rfl⟩) (hB.preV (cT hB) rfl rfl) rfl rfl hl.1 rfl (lv_room (Nat.le_of_ble_eq_true rfl)) dX0_look_19 ⟨Nat.le_refl _, Nat.le_refl _⟩) hB (fun r5 μ4 H locs hp hB => ?_)
    refine lv_istore_n (lv' := [(3, .int r5), (2, .int r2), (0, .ref z), (1, .int x1)]) hx hb dX0_look_22 rfl hl (by decide) rfl (fun ls hl => ?_)
    refine lv_iconst (v := (nI 0)) hx hb dX0_look_23 rfl ?_
    refine lv_istore (lv' := [(4, .int (nI 0)), (3, .int r5), (2, .int r2), (0, .ref z), (1, .int x1)]) hx hb dX0_look_24 hl (by decide) rfl (fun ls hl => ?_)
    obtain ⟨n1, hp⟩ := hp
    exact wX0_look_26 X z n1 r5 (nI 0) μ4 _ _ _ hp hB (lv_sub hl [3, 1, 0] rfl)
  · have hp := zif hp c0
    refine lv_iload_n hx hb dX0_look_10 rfl (lv_at hl 0 rfl) ?_
    exact zret_i X hB hp dX0_look_11
def pX0_falseMark_22 (z : Nat) (Q : Int32 → zM → Prop) : Nat → Nat → Int32 → zM → Prop
  | 0, _, _, _ => False
  | n + 1, x3, x4, μ => (pX3_many z x3 μ fun r2 μ1 => (if (r2 / (nI 2)) ≤ x4 then Q (-1 : Int32) μ1 else (pX0_fitsAny z x3 x4 μ1 fun r4 μ3 => (if r4 = 0 then Q x4 μ3 else pX0_falseMark_22 z Q n x3 (x4 + (nI 1)) μ3))))
set_option maxHeartbeats 4000000 in
set_option maxRecDepth 100000 in
theorem wX0_falseMark_22 {p : Program} {l : Launch} {e : Env} {s : State} {m : MethodId} {args : Array Value} {below : List Frame} {meth : Method} {c : Code} {Γ : zG} {μ0 : zM} {Q : Int32 → zM → Prop} (X : zCx p m c cX0_falseMark 5 s args RX0 meth (some .int)) (z : Nat) : ∀ (n : Nat) (x3 : Nat) (x4 : Int32) (μ : zM) (H : Heap) (locs : List Loc) (ls : Array Slot), pX0_falseMark_22 z Q n x3 x4 μ → zB Γ (cSh z) (zA μ0) μ0 s μ H locs → lv_has ls 5 [(0, .ref z), (3, .ref x3), (4, .int x4)] → W p l e ({ frames := 466, cells := 0, slots := 0, locals := 12559 } : Room) s m args below meth c H locs 0 0 (MQ below (va_Qi Q (zPost Γ (cSh z) μ0) (zA μ0)) args s 0 0 (zA μ0)) (F0 m 22 ls []) := by
  have S := X.1
  obtain ⟨hx, hb, hml, hown, hts⟩ := X.1
  intro n
  induction n with
  | zero =>
    intro x3 x4 μ H locs ls hp
    exact hp.elim
  | succ n ih =>
    intro x3 x4 μ H locs ls hp hB hl
    unfold pX0_falseMark_22 at hp
    refine lv_iload hx hb dX0_falseMark_22 (lv_at hl 2 rfl) ?_
    refine lv_aload_n hx hb dX0_falseMark_24 rfl (lv_at hl 1 rfl) ?_
    refine z_calli (va_runV (As := []) (rest := [.int x4]) S (mX3_many l Γ z x3 μ _ hp) (cwV 0 hts (lw_V q954 q955 q956 q130 q957) rfl rfl rfl hX3_many ⟨Nat.le_of_ble_eq_true rfl, Nat.le_of_ble_eq_true rfl⟩) (hB.preV (tX3_many hp) rfl rfl) rfl rfl hl.1 rfl (lv_room (Nat.le_of_ble_eq_true rfl)) dX0_falseMark_25 ⟨Nat.le_refl _, Nat.le_refl _⟩) hB (fun r2 μ1 H locs hp hB => ?_)
    refine lv_iconst (v := (nI 2)) hx hb dX0_falseMark_28 rfl ?_
    refine lv_idiv hx hb dX0_falseMark_29 (by decide) ?_
    refine lv_icmp_ge (tgt := 52) hx hb dX0_falseMark_30 rfl (fun c0 => ?_) (fun c0 => ?_)
    · have hp := zit hp c0
      refine lv_iconst (v := (-1 : Int32)) hx hb dX0_falseMark_52 rfl ?_
      exact zret_i X hB hp dX0_falseMark_53
    · have hp := zif hp c0
      refine lv_aload_n hx hb dX0_falseMark_33 rfl (lv_at hl 0 rfl) ?_
      refine lv_aload_n hx hb dX0_falseMark_34 rfl (lv_at hl 1 rfl) ?_
      refine lv_iload hx hb dX0_falseMark_35 (lv_at hl 2 rfl) ?_
      refine z_calli (va_runV (As := [.ref x3, .int x4]) (rest := []) S (mX0_fitsAny l Γ z x3 x4 μ1 _ hp) (cwV 2 hts (lw_V q1210 q1212 qs56 q127 q1213) rfl rfl rfl hX0_fitsAny ⟨Nat.le_of_ble_eq_true rfl, Nat.le_of_ble_eq_true rfl⟩) (hB.preV (cT hB) rfl rfl) rfl rfl hl.1 rfl (lv_room (Nat.le_of_ble_eq_true rfl)) dX0_falseMark_37 ⟨Nat.le_refl _, Nat.le_refl _⟩) hB (fun r4 μ3 H locs hp hB => ?_)
      refine lv_if_ne (tgt := 46) hx hb dX0_falseMark_40 rfl (fun c0 => ?_) (fun c0 => ?_)
      · have hp := zif hp c0
        refine lv_iinc (v := (x4 + (nI 1))) (lv' := [(4, .int (x4 + (nI 1))), (0, .ref z), (3, .ref x3)]) hx hb dX0_falseMark_46 hl (k := 2) rfl rfl (by decide) rfl (fun ls hl => ?_)
        refine lv_goto (tgt := 22) hx hb dX0_falseMark_49 rfl ?_
        exact ih x3 (x4 + (nI 1)) μ3 _ _ _ hp hB (lv_sub hl [1, 2, 0] rfl)
      · have hp := zit hp c0
        refine lv_iload hx hb dX0_falseMark_43 (lv_at hl 2 rfl) ?_
        exact zret_i X hB hp dX0_falseMark_45
def pX0_falseMark (z : Nat) (x1 : Int32) (μ : zM) (Q : Int32 → zM → Prop) : Prop := (pX0_marksFault z x1 μ fun r2 μ1 => (if r2 = 0 then (vp_in x1 4 ∧ (zde (zR μ1 (z + 70) x1.toNatClampNeg) fun b3 => ∃ k1, pX0_falseMark_22 z Q k1 b3 (nI 0) μ1)) else Q r2 μ1))
theorem hX0_falseMark : yX0_falseMark.cls = "SunkTower" ∧ yX0_falseMark.cls ≠ "java/lang/invoke/MethodHandle" ∧ yX0_falseMark.cls ≠ "java/lang/invoke/VarHandle" ∧ (parseMethodDescriptor yX0_falseMark.desc).map (fun d => d.parameters.length) = some 1 := by decide +kernel
set_option maxHeartbeats 4000000 in
set_option maxRecDepth 100000 in
theorem mX0_falseMark (l : Launch) (Γ : zG) (z : Nat) (x1 : Int32) (μ : zM) (Q : Int32 → zM → Prop) (hp : pX0_falseMark z x1 μ Q) : Met l yX0_falseMark (ws_ yX0_falseMark cX0_falseMark 5 (some .int)) ({ frames := 466, cells := 0, slots := 0, locals := 12559 } : Room) (va_Pc [.ref z, .int x1] (zPre Γ (cSh z) μ)) (va_Qi Q (zPost Γ (cSh z) μ) (zA μ)) 0 0 (zA μ) := by
  refine zstart (by decide) (Nat.le_of_ble_eq_true rfl) ?_
  intro p e s m below meth c ls X hnm hB hl
  have X : zCx p m c cX0_falseMark 5 s [.ref z, .int x1].toArray RX0 meth (some .int) := X
  have S := X.1
  obtain ⟨hx, hb, hml, hown, hts⟩ := X.1
  have hl : lv_has ls 5 [(0, .ref z), (1, .int x1)] := hl
  unfold pX0_falseMark at hp
  refine lv_aload_n hx hb dX0_falseMark_0 rfl (lv_at hl 0 rfl) ?_
  refine lv_iload_n hx hb dX0_falseMark_1 rfl (lv_at hl 1 rfl) ?_
  refine z_calli (va_runV (As := [.int x1]) (rest := []) S (mX0_marksFault l Γ z x1 μ _ hp) (cwV 1 hts (lw_V q1171 q1173 qs50 q127 q1174) rfl rfl rfl hX0_marksFault ⟨Nat.le_of_ble_eq_true rfl, Nat.le_of_ble_eq_true rfl⟩) (hB.preV (cT hB) rfl rfl) rfl rfl hl.1 rfl (lv_room (Nat.le_of_ble_eq_true rfl)) dX0_falseMark_2 ⟨Nat.le_refl _, Nat.le_refl _⟩) hB (fun r2 μ1 H locs hp hB => ?_)
  refine lv_istore_n (lv' := [(2, .int r2), (0, .ref z), (1, .int x1)]) hx hb dX0_falseMark_5 rfl hl (by decide) rfl (fun ls hl => ?_)
  refine lv_iload_n hx hb dX0_falseMark_6 rfl (lv_at hl 0 rfl) ?_
  refine lv_if_eq (tgt := 12) hx hb dX0_falseMark_7 rfl (fun c0 => ?_) (fun c0 => ?_)
  · have hp := zit hp c0
    refine lv_aload_n hx hb dX0_falseMark_12 rfl (lv_at hl 1 rfl) ?_
    refine g_getr S hB (cT hB) rfl (T := TX0) (N := 33) (C := RX0) rfl in_X0 30 (by decide) (by decide) q336 (fun _ h9 => h9) (fun _ => rfl) (cA hB 17 rfl).1 dX0_falseMark_13 ?_
    refine lv_iload_n hx hb dX0_falseMark_16 rfl (lv_at hl 2 rfl) ?_
    obtain ⟨hi, hp⟩ := hp
    refine g_aald S hB (t0 := 6) (cA hB 17 rfl).2 rfl rfl hi dX0_falseMark_17 ?_
    obtain ⟨b3, eb, hp⟩ := hp
    refine W.eq (g2 := F0 m 18 ls [.ref b3]) (by rw [eb]; rfl) ?_
    refine lv_astore_n (lv' := [(3, .ref b3), (2, .int r2), (0, .ref z), (1, .int x1)]) hx hb dX0_falseMark_18 rfl hl (by decide) rfl (fun ls hl => ?_)
    refine lv_iconst (v := (nI 0)) hx hb dX0_falseMark_19 rfl ?_
    refine lv_istore (lv' := [(4, .int (nI 0)), (3, .ref b3), (2, .int r2), (0, .ref z), (1, .int x1)]) hx hb dX0_falseMark_20 hl (by decide) rfl (fun ls hl => ?_)
    obtain ⟨n1, hp⟩ := hp
    exact wX0_falseMark_22 X z n1 b3 (nI 0) μ1 _ _ _ hp hB (lv_sub hl [3, 1, 0] rfl)
  · have hp := zif hp c0
    refine lv_iload_n hx hb dX0_falseMark_10 rfl (lv_at hl 0 rfl) ?_
    exact zret_i X hB hp dX0_falseMark_11
def pX2_round_12 (z : Nat) (s0 : Nat) (Q : Int32 → zM → Prop) : Nat → Int32 → Int32 → zM → Prop
  | 0, _, _, _ => False
  | n + 1, x1, x2, μ => (zde (zR μ z 0) fun b1 => (zty μ b1 = some (.inl 1) ∧ (if (zI μ b1 6) ≤ x2 then (zde (zR μ z 0) fun b3 => (zty μ b3 = some (.inl 1) ∧ (zcr (nI 0) (nI 0) (zI μ b3 6) 6 6 ∧ zpC μ (z + 57) (s0 + 1) (nI 0).toNatClampNeg (nI 0).toNatClampNeg (zI μ b3 6).toNatClampNeg fun μ5 => Q x1 μ5))) else (vp_in x2 6 ∧ (vp_in x2 6 ∧ (if (zI μ (s0 + 1) x2.toNatClampNeg) = (zI μ (z + 57) x2.toNatClampNeg) then pX2_round_12 z s0 Q n (x1 + (nI 0)) (x2 + (nI 1)) μ else pX2_round_12 z s0 Q n (x1 + (nI 1)) (x2 + (nI 1)) μ))))))
set_option maxHeartbeats 4000000 in
set_option maxRecDepth 100000 in
theorem wX2_round_12 {p : Program} {l : Launch} {e : Env} {s : State} {m : MethodId} {args : Array Value} {below : List Frame} {meth : Method} {c : Code} {Γ : zG} {μ0 : zM} {Q : Int32 → zM → Prop} (X : zCx p m c cX2_round 3 s args RX2 meth (some .int)) {s0 : Nat} (ht_s0 : zty μ0 s0 = some (.inl 2)) (z : Nat) : ∀ (n : Nat) (x1 : Int32) (x2 : Int32) (μ : zM) (H : Heap) (locs : List Loc) (ls : Array Slot), pX2_round_12 z s0 Q n x1 x2 μ → zB Γ (cSh z) (zA μ0) μ0 s μ H locs → lv_has ls 3 [(0, .ref s0), (1, .int x1), (2, .int x2)] → W p l e ({ frames := 465, cells := 0, slots := 0, locals := 12544 } : Room) s m args below meth c H locs 0 0 (MQ below (va_Qi Q (zPost Γ (cSh z) μ0) (zA μ0)) args s 0 0 (zA μ0)) (F0 m 12 ls []) := by
  have S := X.1
  obtain ⟨hx, hb, hml, hown, hts⟩ := X.1
  intro n
  induction n with
  | zero =>
    intro x1 x2 μ H locs ls hp
    exact hp.elim
  | succ n ih =>
    intro x1 x2 μ H locs ls hp hB hl
    unfold pX2_round_12 at hp
    refine lv_iload_n hx hb dX2_round_12 rfl (lv_at hl 2 rfl) ?_
    refine lv_aload_n hx hb dX2_round_13 rfl (lv_at hl 0 rfl) ?_
    refine g_getr S hB (hB.ty ht_s0 rfl) rfl (T := TX2) (N := 8) (C := RX2) rfl in_X2 7 (by decide) (by decide) q260 (fun _ h9 => h9) (fun _ => rfl) (cZ2 hB (hB.ty ht_s0 rfl)) dX2_round_14 ?_
    refine g_getN S hB (cT hB) rfl (T := TX0) (N := 33) (C := RX0) rfl in_X0 0 (by decide) (by decide) (zNFw hB 25 rfl) (fun _ h9 => h9) (v := va_rf (zR μ z 0)) rfl dX2_round_17 ?_
    obtain ⟨b1, eb, hp⟩ := hp
    refine W.eq (g2 := F0 m 20 ls [.ref b1, .int x2]) (by rw [eb]; rfl) ?_
    obtain ⟨ht2, hp⟩ := hp
    refine g_getN S hB ht2 rfl (T := TX1) (N := 16) (C := RX1) rfl in_X1 6 (by decide) (by decide) (zNFw hB 21 rfl) (fun _ h9 => h9) (v := .int (zI μ b1 6)) rfl dX2_round_20 ?_
    refine lv_icmp_ge (tgt := 58) hx hb dX2_round_23 rfl (fun c0 => ?_) (fun c0 => ?_)
    · have hp := zit hp c0
      refine lv_aload_n hx hb dX2_round_58 rfl (lv_at hl 0 rfl) ?_
      refine g_getr S hB (hB.ty ht_s0 rfl) rfl (T := TX2) (N := 8) (C := RX2) rfl in_X2 7 (by decide) (by decide) q260 (fun _ h9 => h9) (fun _ => rfl) (cZ2 hB (hB.ty ht_s0 rfl)) dX2_round_59 ?_
      refine g_getrN S hB (cT hB) rfl (T := TX0) (N := 33) (C := RX0) rfl in_X0 11 (by decide) (by decide) (zNFw hB 26 rfl) (fun _ h9 => h9) (fun _ => rfl) (cA hB 4 rfl).1 dX2_round_62 ?_
      refine lv_iconst (v := (nI 0)) hx hb dX2_round_65 rfl ?_
      refine lv_aload_n hx hb dX2_round_66 rfl (lv_at hl 0 rfl) ?_
      refine g_getr S hB (hB.ty ht_s0 rfl) rfl (T := TX2) (N := 8) (C := RX2) rfl in_X2 0 (by decide) (by decide) q246 (fun _ h9 => h9) (fun _ => rfl) (cS2 hB (hB.ty ht_s0 rfl) 0 rfl).1 dX2_round_67 ?_
      refine lv_iconst (v := (nI 0)) hx hb dX2_round_70 rfl ?_
      refine lv_aload_n hx hb dX2_round_71 rfl (lv_at hl 0 rfl) ?_
      refine g_getr S hB (hB.ty ht_s0 rfl) rfl (T := TX2) (N := 8) (C := RX2) rfl in_X2 7 (by decide) (by decide) q260 (fun _ h9 => h9) (fun _ => rfl) (cZ2 hB (hB.ty ht_s0 rfl)) dX2_round_72 ?_
      refine g_getN S hB (cT hB) rfl (T := TX0) (N := 33) (C := RX0) rfl in_X0 0 (by decide) (by decide) (zNFw hB 25 rfl) (fun _ h9 => h9) (v := va_rf (zR μ z 0)) rfl dX2_round_75 ?_
      obtain ⟨b3, eb, hp⟩ := hp
      refine W.eq (g2 := F0 m 78 ls [.ref b3, .int (nI 0), .ref (s0 + 1), .int (nI 0), .ref (z + 57)]) (by rw [eb]; rfl) ?_
      obtain ⟨ht4, hp⟩ := hp
      refine g_getN S hB ht4 rfl (T := TX1) (N := 16) (C := RX1) rfl in_X1 6 (by decide) (by decide) (zNFw hB 21 rfl) (fun _ h9 => h9) (v := .int (zI μ b3 6)) rfl dX2_round_78 ?_
      obtain ⟨hi, hp⟩ := hp
      obtain ⟨μ5, eμ5, hp⟩ := zpC_e hp
      refine g_copyi S hB (hml.trans hl.1.symm) (cA hB 4 rfl).2 (cS2 hB (hB.ty ht_s0 rfl) 0 rfl).2 hi (hts _ q300) (hts _ q302) (hts _ q301) (hts _ q131) (Nat.le_of_ble_eq_true rfl) (Nat.le_of_ble_eq_true rfl) dX2_round_81 (fun H locs hB => ?_)
      rw [← eμ5] at hB
      refine lv_iload_n hx hb dX2_round_84 rfl (lv_at hl 1 rfl) ?_
      exact zret_i X hB hp dX2_round_85
    · have hp := zif hp c0
      refine lv_iload_n hx hb dX2_round_26 rfl (lv_at hl 1 rfl) ?_
      refine lv_aload_n hx hb dX2_round_27 rfl (lv_at hl 0 rfl) ?_
      refine g_getr S hB (hB.ty ht_s0 rfl) rfl (T := TX2) (N := 8) (C := RX2) rfl in_X2 0 (by decide) (by decide) q246 (fun _ h9 => h9) (fun _ => rfl) (cS2 hB (hB.ty ht_s0 rfl) 0 rfl).1 dX2_round_28 ?_
      refine lv_iload_n hx hb dX2_round_31 rfl (lv_at hl 2 rfl) ?_
      obtain ⟨hi, hp⟩ := hp
      refine g_iald S hB (cS2 hB (hB.ty ht_s0 rfl) 0 rfl).2 hi dX2_round_32 ?_
      refine lv_aload_n hx hb dX2_round_33 rfl (lv_at hl 0 rfl) ?_
      refine g_getr S hB (hB.ty ht_s0 rfl) rfl (T := TX2) (N := 8) (C := RX2) rfl in_X2 7 (by decide) (by decide) q260 (fun _ h9 => h9) (fun _ => rfl) (cZ2 hB (hB.ty ht_s0 rfl)) dX2_round_34 ?_
      refine g_getrN S hB (cT hB) rfl (T := TX0) (N := 33) (C := RX0) rfl in_X0 11 (by decide) (by decide) (zNFw hB 26 rfl) (fun _ h9 => h9) (fun _ => rfl) (cA hB 4 rfl).1 dX2_round_37 ?_
      refine lv_iload_n hx hb dX2_round_40 rfl (lv_at hl 2 rfl) ?_
      obtain ⟨hi, hp⟩ := hp
      refine g_iald S hB (cA hB 4 rfl).2 hi dX2_round_41 ?_
      refine lv_icmp_ne (tgt := 49) hx hb dX2_round_42 rfl (fun c0 => ?_) (fun c0 => ?_)
      · have hp := zif hp c0
        refine lv_iconst (v := (nI 1)) hx hb dX2_round_49 rfl ?_
        refine lv_iadd hx hb dX2_round_50 ?_
        refine lv_istore_n (lv' := [(1, .int (x1 + (nI 1))), (0, .ref s0), (2, .int x2)]) hx hb dX2_round_51 rfl hl (by decide) rfl (fun ls hl => ?_)
        refine lv_iinc (v := (x2 + (nI 1))) (lv' := [(2, .int (x2 + (nI 1))), (1, .int (x1 + (nI 1))), (0, .ref s0)]) hx hb dX2_round_52 hl (k := 2) rfl rfl (by decide) rfl (fun ls hl => ?_)
        refine lv_goto (tgt := 12) hx hb dX2_round_55 rfl ?_
        exact ih (x1 + (nI 1)) (x2 + (nI 1)) μ _ _ _ hp hB (lv_sub hl [2, 1, 0] rfl)
      · have hp := zit hp c0
        refine lv_iconst (v := (nI 0)) hx hb dX2_round_45 rfl ?_
        refine lv_goto (tgt := 50) hx hb dX2_round_46 rfl ?_
        refine lv_iadd hx hb dX2_round_50 ?_
        refine lv_istore_n (lv' := [(1, .int (x1 + (nI 0))), (0, .ref s0), (2, .int x2)]) hx hb dX2_round_51 rfl hl (by decide) rfl (fun ls hl => ?_)
        refine lv_iinc (v := (x2 + (nI 1))) (lv' := [(2, .int (x2 + (nI 1))), (1, .int (x1 + (nI 0))), (0, .ref s0)]) hx hb dX2_round_52 hl (k := 2) rfl rfl (by decide) rfl (fun ls hl => ?_)
        refine lv_goto (tgt := 12) hx hb dX2_round_55 rfl ?_
        exact ih (x1 + (nI 0)) (x2 + (nI 1)) μ _ _ _ hp hB (lv_sub hl [2, 1, 0] rfl)
def pX2_round (z : Nat) (s0 : Nat) (μ : zM) (Q : Int32 → zM → Prop) : Prop := zty μ s0 = some (.inl 2) ∧ (pX0_laysRings z s0 μ fun μ1 => ∃ k1, pX2_round_12 z s0 Q k1 (nI 0) (nI 0) μ1)
theorem tX2_round {z : Nat} {s0 : Nat} {μ : zM} {Q : Int32 → zM → Prop} (h : pX2_round z s0 μ Q) : zty μ s0 = some (.inl 2) := h.1
theorem hX2_round : yX2_round.cls = "SunkTower$State" ∧ yX2_round.cls ≠ "java/lang/invoke/MethodHandle" ∧ yX2_round.cls ≠ "java/lang/invoke/VarHandle" ∧ (parseMethodDescriptor yX2_round.desc).map (fun d => d.parameters.length) = some 0 := by decide +kernel
set_option maxHeartbeats 4000000 in
set_option maxRecDepth 100000 in
theorem mX2_round (l : Launch) (Γ : zG) (z : Nat) (s0 : Nat) (μ : zM) (Q : Int32 → zM → Prop) (hp : pX2_round z s0 μ Q) : Met l yX2_round (ws_ yX2_round cX2_round 3 (some .int)) ({ frames := 465, cells := 0, slots := 0, locals := 12544 } : Room) (va_Pc [.ref s0] (zPre Γ (cSh z) μ)) (va_Qi Q (zPost Γ (cSh z) μ) (zA μ)) 0 0 (zA μ) := by
  refine zstart (by decide) (Nat.le_of_ble_eq_true rfl) ?_
  intro p e s m below meth c ls X hnm hB hl
  have X : zCx p m c cX2_round 3 s [.ref s0].toArray RX2 meth (some .int) := X
  have S := X.1
  obtain ⟨hx, hb, hml, hown, hts⟩ := X.1
  have hl : lv_has ls 3 [(0, .ref s0)] := hl
  obtain ⟨ht_s0, hp⟩ := hp
  refine lv_aload_n hx hb dX2_round_0 rfl (lv_at hl 0 rfl) ?_
  refine g_getr S hB (hB.ty ht_s0 rfl) rfl (T := TX2) (N := 8) (C := RX2) rfl in_X2 7 (by decide) (by decide) q260 (fun _ h9 => h9) (fun _ => rfl) (cZ2 hB (hB.ty ht_s0 rfl)) dX2_round_1 ?_
  refine lv_aload_n hx hb dX2_round_4 rfl (lv_at hl 0 rfl) ?_
  refine z_callv (va_runVN (As := [.ref s0]) (rest := []) S (mX0_laysRings l Γ z s0 μ _ hp) ⟨va_cnB 1 hts (lw_meth q920) rfl rfl rfl (zNMw hB 3 rfl) (hts _ q127) hX0_laysRings.2 ⟨Nat.le_of_ble_eq_true rfl, Nat.le_of_ble_eq_true rfl⟩, hts _ q919, hts _ qs30⟩ (hB.preV (cT hB) rfl rfl) rfl rfl hl.1 rfl (lv_room (Nat.le_of_ble_eq_true rfl)) dX2_round_5 ⟨Nat.le_refl _, Nat.le_refl _⟩) hB (fun μ1 H locs hp hB => ?_)
  refine lv_iconst (v := (nI 0)) hx hb dX2_round_8 rfl ?_
  refine lv_istore_n (lv' := [(1, .int (nI 0)), (0, .ref s0)]) hx hb dX2_round_9 rfl hl (by decide) rfl (fun ls hl => ?_)
  refine lv_iconst (v := (nI 0)) hx hb dX2_round_10 rfl ?_
  refine lv_istore_n (lv' := [(2, .int (nI 0)), (1, .int (nI 0)), (0, .ref s0)]) hx hb dX2_round_11 rfl hl (by decide) rfl (fun ls hl => ?_)
  obtain ⟨n1, hp⟩ := hp
  exact wX2_round_12 X ht_s0 z n1 (nI 0) (nI 0) μ1 _ _ _ hp hB (lv_sub hl [2, 1, 0] rfl)
def pX2_does (z : Nat) (s0 : Nat) (x1 : Int32) (μ : zM) (Q : zM → Prop) : Prop := zty μ s0 = some (.inl 2) ∧ (if x1 = (-1 : Int32) then (pX2_sinks z s0 μ fun r8 μ7 => Q μ7) else (if x1 < (nI 10000) then (if x1 = (nI 3000) then (pX2_round z s0 μ fun r5 μ4 => Q μ4) else (if x1 = (nI 2000) then (pX2_builds z s0 μ fun μ3 => Q μ3) else (if x1 < (nI 1000) then (vp_in (x1 / (nI 100)) 6 ∧ zpI μ (s0 + 1) (x1 / (nI 100)).toNatClampNeg (x1 - x1 / (nI 100) * (nI 100)) fun μ1 => Q μ1) else (vp_in (x1 - (nI 1000)) 6 ∧ zpI μ (s0 + 1) (x1 - (nI 1000)).toNatClampNeg (-1 : Int32) fun μ2 => Q μ2)))) else (vp_in ((x1 - (nI 10000)) / (nI 1000)) 6 ∧ zpI μ (s0 + 2) ((x1 - (nI 10000)) / (nI 1000)).toNatClampNeg (x1 - x1 / (nI 1000) * (nI 1000)) fun μ6 => Q μ6)))
theorem tX2_does {z : Nat} {s0 : Nat} {x1 : Int32} {μ : zM} {Q : zM → Prop} (h : pX2_does z s0 x1 μ Q) : zty μ s0 = some (.inl 2) := h.1
theorem hX2_does : yX2_does.cls = "SunkTower$State" ∧ yX2_does.cls ≠ "java/lang/invoke/MethodHandle" ∧ yX2_does.cls ≠ "java/lang/invoke/VarHandle" ∧ (parseMethodDescriptor yX2_does.desc).map (fun d => d.parameters.length) = some 1 := by decide +kernel
set_option maxHeartbeats 4000000 in
set_option maxRecDepth 100000 in
theorem mX2_does (l : Launch) (Γ : zG) (z : Nat) (s0 : Nat) (x1 : Int32) (μ : zM) (Q : zM → Prop) (hp : pX2_does z s0 x1 μ Q) : Met l yX2_does (ws_ yX2_does cX2_does 2 none) ({ frames := 466, cells := 0, slots := 0, locals := 12566 } : Room) (va_Pc [.ref s0, .int x1] (zPre Γ (cSh z) μ)) (va_Qv Q (zPost Γ (cSh z) μ) (zA μ)) 0 0 (zA μ) := by
  refine zstart (by decide) (Nat.le_of_ble_eq_true rfl) ?_
  intro p e s m below meth c ls X hnm hB hl
  have X : zCx p m c cX2_does 2 s [.ref s0, .int x1].toArray RX2 meth none := X
  have S := X.1
  obtain ⟨hx, hb, hml, hown, hts⟩ := X.1
  have hl : lv_has ls 2 [(0, .ref s0), (1, .int x1)] := hl
  obtain ⟨ht_s0, hp⟩ := hp
  refine lv_iload_n hx hb dX2_does_0 rfl (lv_at hl 1 rfl) ?_
  refine lv_iconst (v := (-1 : Int32)) hx hb dX2_does_1 rfl ?_
  refine lv_icmp_ne (tgt := 13) hx hb dX2_does_2 rfl (fun c0 => ?_) (fun c0 => ?_)
  · have hp := zif hp c0
    refine lv_iload_n hx hb dX2_does_13 rfl (lv_at hl 1 rfl) ?_
    refine lv_sipush (v := (nI 10000)) hx hb dX2_does_14 rfl ?_
    refine lv_icmp_lt (tgt := 42) hx hb dX2_does_17 rfl (fun c0 => ?_) (fun c0 => ?_)
    · have hp := zit hp c0
      refine lv_iload_n hx hb dX2_does_42 rfl (lv_at hl 1 rfl) ?_
      refine lv_sipush (v := (nI 3000)) hx hb dX2_does_43 rfl ?_
      refine lv_icmp_ne (tgt := 57) hx hb dX2_does_46 rfl (fun c0 => ?_) (fun c0 => ?_)
      · have hp := zif hp c0
        refine lv_iload_n hx hb dX2_does_57 rfl (lv_at hl 1 rfl) ?_
        refine lv_sipush (v := (nI 2000)) hx hb dX2_does_58 rfl ?_
        refine lv_icmp_ne (tgt := 71) hx hb dX2_does_61 rfl (fun c0 => ?_) (fun c0 => ?_)
        · have hp := zif hp c0
          refine lv_iload_n hx hb dX2_does_71 rfl (lv_at hl 1 rfl) ?_
          refine lv_sipush (v := (nI 1000)) hx hb dX2_does_72 rfl ?_
          refine lv_icmp_lt (tgt := 92) hx hb dX2_does_75 rfl (fun c0 => ?_) (fun c0 => ?_)
          · have hp := zit hp c0
            refine lv_aload_n hx hb dX2_does_92 rfl (lv_at hl 0 rfl) ?_
            refine g_getr S hB (hB.ty ht_s0 rfl) rfl (T := TX2) (N := 8) (C := RX2) rfl in_X2 0 (by decide) (by decide) q246 (fun _ h9 => h9) (fun _ => rfl) (cS2 hB (hB.ty ht_s0 rfl) 0 rfl).1 dX2_does_93 ?_
            refine lv_iload_n hx hb dX2_does_96 rfl (lv_at hl 1 rfl) ?_
            refine lv_bipush (v := (nI 100)) hx hb dX2_does_97 rfl ?_
            refine lv_idiv hx hb dX2_does_99 (by decide) ?_
            refine lv_iload_n hx hb dX2_does_100 rfl (lv_at hl 1 rfl) ?_
            refine lv_bipush (v := (nI 100)) hx hb dX2_does_101 rfl ?_
            refine lv_irem hx hb dX2_does_103 (by decide) ?_
            obtain ⟨hi, hp⟩ := hp
            obtain ⟨μ1, eμ1, hp⟩ := zpI_e hp
            refine g_iast S hB (cS2 hB (hB.ty ht_s0 rfl) 0 rfl).2 hi dX2_does_104 (fun H locs hB => ?_)
            rw [← eμ1] at hB
            exact zret_v X hB hp dX2_does_105
          · have hp := zif hp c0
            refine lv_aload_n hx hb dX2_does_78 rfl (lv_at hl 0 rfl) ?_
            refine g_getr S hB (hB.ty ht_s0 rfl) rfl (T := TX2) (N := 8) (C := RX2) rfl in_X2 0 (by decide) (by decide) q246 (fun _ h9 => h9) (fun _ => rfl) (cS2 hB (hB.ty ht_s0 rfl) 0 rfl).1 dX2_does_79 ?_
            refine lv_iload_n hx hb dX2_does_82 rfl (lv_at hl 1 rfl) ?_
            refine lv_sipush (v := (nI 1000)) hx hb dX2_does_83 rfl ?_
            refine lv_isub hx hb dX2_does_86 ?_
            refine lv_iconst (v := (-1 : Int32)) hx hb dX2_does_87 rfl ?_
            obtain ⟨hi, hp⟩ := hp
            obtain ⟨μ2, eμ2, hp⟩ := zpI_e hp
            refine g_iast S hB (cS2 hB (hB.ty ht_s0 rfl) 0 rfl).2 hi dX2_does_88 (fun H locs hB => ?_)
            rw [← eμ2] at hB
            refine lv_goto (tgt := 105) hx hb dX2_does_89 rfl ?_
            exact zret_v X hB hp dX2_does_105
        · have hp := zit hp c0
          refine lv_aload_n hx hb dX2_does_64 rfl (lv_at hl 0 rfl) ?_
          refine z_callv (va_runV (As := []) (rest := []) S (mX2_builds l Γ z s0 μ _ hp) (cwV 0 hts (lw_V q986 q882 q883 q129 q884) rfl rfl rfl hX2_builds ⟨Nat.le_of_ble_eq_true rfl, Nat.le_of_ble_eq_true rfl⟩) (hB.preV (hB.ty ht_s0 rfl) rfl rfl) rfl rfl hl.1 rfl (lv_room (Nat.le_of_ble_eq_true rfl)) dX2_does_65 ⟨Nat.le_refl _, Nat.le_refl _⟩) hB (fun μ3 H locs hp hB => ?_)
          refine lv_goto (tgt := 105) hx hb dX2_does_68 rfl ?_
          exact zret_v X hB hp dX2_does_105
      · have hp := zit hp c0
        refine lv_aload_n hx hb dX2_does_49 rfl (lv_at hl 0 rfl) ?_
        refine z_calli (va_runV (As := []) (rest := []) S (mX2_round l Γ z s0 μ _ hp) (cwV 0 hts (lw_V q985 q914 q915 q129 q916) rfl rfl rfl hX2_round ⟨Nat.le_of_ble_eq_true rfl, Nat.le_of_ble_eq_true rfl⟩) (hB.preV (hB.ty ht_s0 rfl) rfl rfl) rfl rfl hl.1 rfl (lv_room (Nat.le_of_ble_eq_true rfl)) dX2_does_50 ⟨Nat.le_refl _, Nat.le_refl _⟩) hB (fun r5 μ4 H locs hp hB => ?_)
        refine lv_pop hx hb dX2_does_53 rfl ?_
        refine lv_goto (tgt := 105) hx hb dX2_does_54 rfl ?_
        exact zret_v X hB hp dX2_does_105
    · have hp := zif hp c0
      refine lv_aload_n hx hb dX2_does_20 rfl (lv_at hl 0 rfl) ?_
      refine g_getr S hB (hB.ty ht_s0 rfl) rfl (T := TX2) (N := 8) (C := RX2) rfl in_X2 1 (by decide) (by decide) q248 (fun _ h9 => h9) (fun _ => rfl) (cS2 hB (hB.ty ht_s0 rfl) 1 rfl).1 dX2_does_21 ?_
      refine lv_iload_n hx hb dX2_does_24 rfl (lv_at hl 1 rfl) ?_
      refine lv_sipush (v := (nI 10000)) hx hb dX2_does_25 rfl ?_
      refine lv_isub hx hb dX2_does_28 ?_
      refine lv_sipush (v := (nI 1000)) hx hb dX2_does_29 rfl ?_
      refine lv_idiv hx hb dX2_does_32 (by decide) ?_
      refine lv_iload_n hx hb dX2_does_33 rfl (lv_at hl 1 rfl) ?_
      refine lv_sipush (v := (nI 1000)) hx hb dX2_does_34 rfl ?_
      refine lv_irem hx hb dX2_does_37 (by decide) ?_
      obtain ⟨hi, hp⟩ := hp
      obtain ⟨μ6, eμ6, hp⟩ := zpI_e hp
      refine g_iast S hB (cS2 hB (hB.ty ht_s0 rfl) 1 rfl).2 hi dX2_does_38 (fun H locs hB => ?_)
      rw [← eμ6] at hB
      refine lv_goto (tgt := 105) hx hb dX2_does_39 rfl ?_
      exact zret_v X hB hp dX2_does_105
  · have hp := zit hp c0
    refine lv_aload_n hx hb dX2_does_5 rfl (lv_at hl 0 rfl) ?_
    refine z_calli (va_runV (As := []) (rest := []) S (mX2_sinks l Γ z s0 μ _ hp) (cwV 0 hts (lw_V q871 q872 q873 q129 q874) rfl rfl rfl hX2_sinks ⟨Nat.le_of_ble_eq_true rfl, Nat.le_of_ble_eq_true rfl⟩) (hB.preV (hB.ty ht_s0 rfl) rfl rfl) rfl rfl hl.1 rfl (lv_room (Nat.le_of_ble_eq_true rfl)) dX2_does_6 ⟨Nat.le_refl _, Nat.le_refl _⟩) hB (fun r8 μ7 H locs hp hB => ?_)
    refine lv_pop hx hb dX2_does_9 rfl ?_
    refine lv_goto (tgt := 105) hx hb dX2_does_10 rfl ?_
    exact zret_v X hB hp dX2_does_105
def pX5_tenant_42 (z : Nat) (s0 : Nat) (Q : zM → Prop) : Nat → Int32 → zM → Prop
  | 0, _, _ => False
  | n + 1, x1, μ => (pX5_flag z s0 x1 μ fun r2 μ1 => (if r2 = 0 then (if (zI μ1 s0 6) = 0 then (zpI μ1 (s0 + 1) 6 ((zI μ1 (s0 + 1) 6) + (nI 1)) fun μ3 => Q μ3) else Q μ1) else (if (zI μ1 s0 6) = 0 then pX5_tenant_42 z s0 Q n x1 μ1 else Q μ1)))
set_option maxHeartbeats 4000000 in
set_option maxRecDepth 100000 in
theorem wX5_tenant_42 {p : Program} {l : Launch} {e : Env} {s : State} {m : MethodId} {args : Array Value} {below : List Frame} {meth : Method} {c : Code} {Γ : zG} {μ0 : zM} {Q : zM → Prop} (X : zCx p m c cX5_tenant 2 s args RX5 meth none) {s0 : Nat} (ht_s0 : zty μ0 s0 = some (.inl 5)) (z : Nat) : ∀ (n : Nat) (x1 : Int32) (μ : zM) (H : Heap) (locs : List Loc) (ls : Array Slot), pX5_tenant_42 z s0 Q n x1 μ → zB Γ (cSh z) (zA μ0) μ0 s μ H locs → lv_has ls 2 [(0, .ref s0), (1, .int x1)] → W p l e ({ frames := 8, cells := 0, slots := 0, locals := 177 } : Room) s m args below meth c H locs 0 0 (MQ below (va_Qv Q (zPost Γ (cSh z) μ0) (zA μ0)) args s 0 0 (zA μ0)) (F0 m 42 ls []) := by
  have S := X.1
  obtain ⟨hx, hb, hml, hown, hts⟩ := X.1
  intro n
  induction n with
  | zero =>
    intro x1 μ H locs ls hp
    exact hp.elim
  | succ n ih =>
    intro x1 μ H locs ls hp hB hl
    unfold pX5_tenant_42 at hp
    refine lv_aload_n hx hb dX5_tenant_42 rfl (lv_at hl 0 rfl) ?_
    refine lv_iload_n hx hb dX5_tenant_43 rfl (lv_at hl 1 rfl) ?_
    refine z_calli (va_runV (As := [.int x1]) (rest := []) S (mX5_flag l Γ z s0 x1 μ _ hp) (cwV 1 hts (lw_V q629 q631 qs12 q133 q632) rfl rfl rfl hX5_flag ⟨Nat.le_of_ble_eq_true rfl, Nat.le_of_ble_eq_true rfl⟩) (hB.preV (hB.ty ht_s0 rfl) rfl rfl) rfl rfl hl.1 rfl (lv_room (Nat.le_of_ble_eq_true rfl)) dX5_tenant_44 ⟨Nat.le_refl _, Nat.le_refl _⟩) hB (fun r2 μ1 H locs hp hB => ?_)
    refine lv_if_eq (tgt := 58) hx hb dX5_tenant_47 rfl (fun c0 => ?_) (fun c0 => ?_)
    · have hp := zit hp c0
      refine lv_aload_n hx hb dX5_tenant_58 rfl (lv_at hl 0 rfl) ?_
      refine g_get S hB (hB.ty ht_s0 rfl) rfl (T := TX5) (N := 11) (C := RX5) rfl in_X5 6 (by decide) (by decide) q436 (fun _ h9 => h9) (v := .int (zI μ1 s0 6)) rfl dX5_tenant_59 ?_
      refine lv_if_ne (tgt := 78) hx hb dX5_tenant_62 rfl (fun c0 => ?_) (fun c0 => ?_)
      · have hp := zif hp c0
        exact zret_v X hB hp dX5_tenant_78
      · have hp := zit hp c0
        refine lv_aload_n hx hb dX5_tenant_65 rfl (lv_at hl 0 rfl) ?_
        refine g_getr S hB (hB.ty ht_s0 rfl) rfl (T := TX5) (N := 11) (C := RX5) rfl in_X5 1 (by decide) (by decide) q430 (fun _ h9 => h9) (fun _ => rfl) (cS5 hB (hB.ty ht_s0 rfl) 0 rfl).1 dX5_tenant_66 ?_
        refine lv_dup hx hb dX5_tenant_69 rfl ?_
        refine g_getN S hB (cS5 hB (hB.ty ht_s0 rfl) 0 rfl).2 rfl (T := TX1) (N := 16) (C := RX1) rfl in_X1 6 (by decide) (by decide) (zNFw hB 32 rfl) (fun _ h9 => h9) (v := .int (zI μ1 (s0 + 1) 6)) rfl dX5_tenant_70 ?_
        refine lv_iconst (v := (nI 1)) hx hb dX5_tenant_73 rfl ?_
        refine lv_iadd hx hb dX5_tenant_74 ?_
        obtain ⟨μ3, eμ3, hp⟩ := zpI_e hp
        refine g_putIN S hB (cS5 hB (hB.ty ht_s0 rfl) 0 rfl).2 rfl (T := TX1) (N := 16) (C := RX1) rfl in_X1 6 (by decide) (by decide) (x := ((zI μ1 (s0 + 1) 6) + (nI 1))) tyX1 tyX1_ok nmX1 (zNFw hB 32 rfl) (fun _ h9 => h9) rfl (ty := .int) (by decide +kernel) rfl rfl (fun _ _ => rfl) dX5_tenant_75 (fun H locs hB => ?_)
        rw [← eμ3] at hB
        exact zret_v X hB hp dX5_tenant_78
    · have hp := zif hp c0
      refine lv_aload_n hx hb dX5_tenant_50 rfl (lv_at hl 0 rfl) ?_
      refine g_get S hB (hB.ty ht_s0 rfl) rfl (T := TX5) (N := 11) (C := RX5) rfl in_X5 6 (by decide) (by decide) q436 (fun _ h9 => h9) (v := .int (zI μ1 s0 6)) rfl dX5_tenant_51 ?_
      refine lv_if_eq (tgt := 42) hx hb dX5_tenant_54 rfl (fun c0 => ?_) (fun c0 => ?_)
      · have hp := zit hp c0
        exact ih x1 μ1 _ _ _ hp hB (lv_sub hl [0, 1] rfl)
      · have hp := zif hp c0
        exact zret_v X hB hp dX5_tenant_57
def pX5_tenant (z : Nat) (s0 : Nat) (μ : zM) (Q : zM → Prop) : Prop := zty μ s0 = some (.inl 5) ∧ (pX5_begins z s0 (zI μ (s0 + 1) 6) (nI 6) μ fun r2 μ1 => (if r2 = 0 then Q μ1 else (pX5_number z s0 (nI 0) (nI 999) μ1 fun r4 μ3 => (vp_in (zI μ1 (s0 + 1) 6) 6 ∧ zpI μ3 ((s0 + 1) + 2) (zI μ1 (s0 + 1) 6).toNatClampNeg r4 fun μ5 => ∃ k1, pX5_tenant_42 z s0 Q k1 (zI μ1 (s0 + 1) 6) μ5))))
theorem tX5_tenant {z : Nat} {s0 : Nat} {μ : zM} {Q : zM → Prop} (h : pX5_tenant z s0 μ Q) : zty μ s0 = some (.inl 5) := h.1
theorem hX5_tenant : yX5_tenant.cls = "SunkTower$Reader" ∧ yX5_tenant.cls ≠ "java/lang/invoke/MethodHandle" ∧ yX5_tenant.cls ≠ "java/lang/invoke/VarHandle" ∧ (parseMethodDescriptor yX5_tenant.desc).map (fun d => d.parameters.length) = some 0 := by decide +kernel
set_option maxHeartbeats 4000000 in
set_option maxRecDepth 100000 in
theorem mX5_tenant (l : Launch) (Γ : zG) (z : Nat) (s0 : Nat) (μ : zM) (Q : zM → Prop) (hp : pX5_tenant z s0 μ Q) : Met l yX5_tenant (ws_ yX5_tenant cX5_tenant 2 none) ({ frames := 8, cells := 0, slots := 0, locals := 177 } : Room) (va_Pc [.ref s0] (zPre Γ (cSh z) μ)) (va_Qv Q (zPost Γ (cSh z) μ) (zA μ)) 0 0 (zA μ) := by
  refine zstart (by decide) (Nat.le_of_ble_eq_true rfl) ?_
  intro p e s m below meth c ls X hnm hB hl
  have X : zCx p m c cX5_tenant 2 s [.ref s0].toArray RX5 meth none := X
  have S := X.1
  obtain ⟨hx, hb, hml, hown, hts⟩ := X.1
  have hl : lv_has ls 2 [(0, .ref s0)] := hl
  obtain ⟨ht_s0, hp⟩ := hp
  refine lv_aload_n hx hb dX5_tenant_0 rfl (lv_at hl 0 rfl) ?_
  refine lv_aload_n hx hb dX5_tenant_1 rfl (lv_at hl 0 rfl) ?_
  refine g_getr S hB (hB.ty ht_s0 rfl) rfl (T := TX5) (N := 11) (C := RX5) rfl in_X5 1 (by decide) (by decide) q430 (fun _ h9 => h9) (fun _ => rfl) (cS5 hB (hB.ty ht_s0 rfl) 0 rfl).1 dX5_tenant_2 ?_
  refine g_getN S hB (cS5 hB (hB.ty ht_s0 rfl) 0 rfl).2 rfl (T := TX1) (N := 16) (C := RX1) rfl in_X1 6 (by decide) (by decide) (zNFw hB 32 rfl) (fun _ h9 => h9) (v := .int (zI μ (s0 + 1) 6)) rfl dX5_tenant_5 ?_
  refine lv_bipush (v := (nI 6)) hx hb dX5_tenant_8 rfl ?_
  refine z_calli (va_runV (As := [.int (zI μ (s0 + 1) 6), .int (nI 6)]) (rest := []) S (mX5_begins l Γ z s0 (zI μ (s0 + 1) 6) (nI 6) μ _ hp) (cwV 2 hts (lw_V q612 q614 qs8 q133 q615) rfl rfl rfl hX5_begins ⟨Nat.le_of_ble_eq_true rfl, Nat.le_of_ble_eq_true rfl⟩) (hB.preV (hB.ty ht_s0 rfl) rfl rfl) rfl rfl hl.1 rfl (lv_room (Nat.le_of_ble_eq_true rfl)) dX5_tenant_10 ⟨Nat.le_refl _, Nat.le_refl _⟩) hB (fun r2 μ1 H locs hp hB => ?_)
  refine lv_if_ne (tgt := 17) hx hb dX5_tenant_13 rfl (fun c0 => ?_) (fun c0 => ?_)
  · have hp := zif hp c0
    refine lv_aload_n hx hb dX5_tenant_17 rfl (lv_at hl 0 rfl) ?_
    refine g_getr S hB (hB.ty ht_s0 rfl) rfl (T := TX5) (N := 11) (C := RX5) rfl in_X5 1 (by decide) (by decide) q430 (fun _ h9 => h9) (fun _ => rfl) (cS5 hB (hB.ty ht_s0 rfl) 0 rfl).1 dX5_tenant_18 ?_
    refine g_getN S hB (cS5 hB (hB.ty ht_s0 rfl) 0 rfl).2 rfl (T := TX1) (N := 16) (C := RX1) rfl in_X1 6 (by decide) (by decide) (zNFw hB 32 rfl) (fun _ h9 => h9) (v := .int (zI μ1 (s0 + 1) 6)) rfl dX5_tenant_21 ?_
    refine lv_istore_n (lv' := [(1, .int (zI μ1 (s0 + 1) 6)), (0, .ref s0)]) hx hb dX5_tenant_24 rfl hl (by decide) rfl (fun ls hl => ?_)
    refine lv_aload_n hx hb dX5_tenant_25 rfl (lv_at hl 1 rfl) ?_
    refine g_getr S hB (hB.ty ht_s0 rfl) rfl (T := TX5) (N := 11) (C := RX5) rfl in_X5 1 (by decide) (by decide) q430 (fun _ h9 => h9) (fun _ => rfl) (cS5 hB (hB.ty ht_s0 rfl) 0 rfl).1 dX5_tenant_26 ?_
    refine g_getrN S hB (cS5 hB (hB.ty ht_s0 rfl) 0 rfl).2 rfl (T := TX1) (N := 16) (C := RX1) rfl in_X1 1 (by decide) (by decide) (zNFw hB 28 rfl) (fun _ h9 => h9) (fun _ => rfl) (cS1 hB (cS5 hB (hB.ty ht_s0 rfl) 0 rfl).2 1 rfl).1 dX5_tenant_29 ?_
    refine lv_iload_n hx hb dX5_tenant_32 rfl (lv_at hl 0 rfl) ?_
    refine lv_aload_n hx hb dX5_tenant_33 rfl (lv_at hl 1 rfl) ?_
    refine lv_iconst (v := (nI 0)) hx hb dX5_tenant_34 rfl ?_
    refine lv_sipush (v := (nI 999)) hx hb dX5_tenant_35 rfl ?_
    refine z_calli (va_runV (As := [.int (nI 0), .int (nI 999)]) (rest := [.int (zI μ1 (s0 + 1) 6), .ref ((s0 + 1) + 2)]) S (mX5_number l Γ z s0 (nI 0) (nI 999) μ1 _ hp) (cwV 2 hts (lw_V q620 q622 qs10 q133 q623) rfl rfl rfl hX5_number ⟨Nat.le_of_ble_eq_true rfl, Nat.le_of_ble_eq_true rfl⟩) (hB.preV (hB.ty ht_s0 rfl) rfl rfl) rfl rfl hl.1 rfl (lv_room (Nat.le_of_ble_eq_true rfl)) dX5_tenant_38 ⟨Nat.le_refl _, Nat.le_refl _⟩) hB (fun r4 μ3 H locs hp hB => ?_)
    obtain ⟨hi, hp⟩ := hp
    obtain ⟨μ5, eμ5, hp⟩ := zpI_e hp
    refine g_iast S hB (cS1 hB (cS5 hB (hB.ty ht_s0 rfl) 0 rfl).2 1 rfl).2 hi dX5_tenant_41 (fun H locs hB => ?_)
    rw [← eμ5] at hB
    obtain ⟨n1, hp⟩ := hp
    exact wX5_tenant_42 X ht_s0 z n1 (zI μ1 (s0 + 1) 6) μ5 _ _ _ hp hB (lv_sub hl [1, 0] rfl)
  · have hp := zit hp c0
    exact zret_v X hB hp dX5_tenant_16
def pX0_rings (z : Nat) (μ : zM) (Q : Int32 → zM → Prop) : Prop := (pX2_be z (z + 11) (z + 7) μ fun r2 μ1 => (pX2_round z (z + 11) μ1 fun r4 μ3 => (if r4 = 0 then Q (nI 0) μ3 else (pX0_keeps z μ3 fun μ5 => (pX2_be z (z + 7) (z + 11) μ5 fun r7 μ6 => Q r4 μ6)))))
theorem hX0_rings : yX0_rings.cls = "SunkTower" ∧ yX0_rings.cls ≠ "java/lang/invoke/MethodHandle" ∧ yX0_rings.cls ≠ "java/lang/invoke/VarHandle" ∧ (parseMethodDescriptor yX0_rings.desc).map (fun d => d.parameters.length) = some 0 := by decide +kernel
set_option maxHeartbeats 4000000 in
set_option maxRecDepth 100000 in
theorem mX0_rings (l : Launch) (Γ : zG) (z : Nat) (μ : zM) (Q : Int32 → zM → Prop) (hp : pX0_rings z μ Q) : Met l yX0_rings (ws_ yX0_rings cX0_rings 2 (some .int)) ({ frames := 466, cells := 0, slots := 0, locals := 12566 } : Room) (va_Pc [.ref z] (zPre Γ (cSh z) μ)) (va_Qi Q (zPost Γ (cSh z) μ) (zA μ)) 0 0 (zA μ) := by
  refine zstart (by decide) (Nat.le_of_ble_eq_true rfl) ?_
  intro p e s m below meth c ls X hnm hB hl
  have X : zCx p m c cX0_rings 2 s [.ref z].toArray RX0 meth (some .int) := X
  have S := X.1
  obtain ⟨hx, hb, hml, hown, hts⟩ := X.1
  have hl : lv_has ls 2 [(0, .ref z)] := hl
  unfold pX0_rings at hp
  refine lv_aload_n hx hb dX0_rings_0 rfl (lv_at hl 0 rfl) ?_
  refine g_getr S hB (cT hB) rfl (T := TX0) (N := 33) (C := RX0) rfl in_X0 2 (by decide) (by decide) q306 (fun _ h9 => h9) (fun _ => rfl) (cA hB 1 rfl).1 dX0_rings_1 ?_
  refine lv_aload_n hx hb dX0_rings_4 rfl (lv_at hl 0 rfl) ?_
  refine g_getr S hB (cT hB) rfl (T := TX0) (N := 33) (C := RX0) rfl in_X0 1 (by decide) (by decide) q305 (fun _ h9 => h9) (fun _ => rfl) (cA hB 0 rfl).1 dX0_rings_5 ?_
  refine z_callq (va_runV (As := [.ref (z + 7)]) (rest := []) S (mX2_be l Γ z (z + 11) (z + 7) μ _ hp) (cwV 1 hts (lw_V q862 q863 q864 q129 q865) rfl rfl rfl hX2_be ⟨Nat.le_of_ble_eq_true rfl, Nat.le_of_ble_eq_true rfl⟩) (hB.preV (tX2_be hp) rfl rfl) rfl rfl hl.1 rfl (lv_room (Nat.le_of_ble_eq_true rfl)) dX0_rings_8 ⟨Nat.le_refl _, Nat.le_refl _⟩) hB (fun r2 μ1 H locs hp hB => ?_)
  refine lv_pop hx hb dX0_rings_11 (va_rf_c _) ?_
  refine lv_aload_n hx hb dX0_rings_12 rfl (lv_at hl 0 rfl) ?_
  refine g_getr S hB (cT hB) rfl (T := TX0) (N := 33) (C := RX0) rfl in_X0 2 (by decide) (by decide) q306 (fun _ h9 => h9) (fun _ => rfl) (cA hB 1 rfl).1 dX0_rings_13 ?_
  refine z_calli (va_runV (As := []) (rest := []) S (mX2_round l Γ z (z + 11) μ1 _ hp) (cwV 0 hts (lw_V q913 q914 q915 q129 q916) rfl rfl rfl hX2_round ⟨Nat.le_of_ble_eq_true rfl, Nat.le_of_ble_eq_true rfl⟩) (hB.preV (tX2_round hp) rfl rfl) rfl rfl hl.1 rfl (lv_room (Nat.le_of_ble_eq_true rfl)) dX0_rings_16 ⟨Nat.le_refl _, Nat.le_refl _⟩) hB (fun r4 μ3 H locs hp hB => ?_)
  refine lv_istore_n (lv' := [(1, .int r4), (0, .ref z)]) hx hb dX0_rings_19 rfl hl (by decide) rfl (fun ls hl => ?_)
  refine lv_iload_n hx hb dX0_rings_20 rfl (lv_at hl 0 rfl) ?_
  refine lv_if_ne (tgt := 26) hx hb dX0_rings_21 rfl (fun c0 => ?_) (fun c0 => ?_)
  · have hp := zif hp c0
    refine lv_aload_n hx hb dX0_rings_26 rfl (lv_at hl 1 rfl) ?_
    refine z_callv (va_runV (As := []) (rest := []) S (mX0_keeps l Γ z μ3 _ hp) (cwV 0 hts (lw_V q858 q860 qs29 q127 q861) rfl rfl rfl hX0_keeps ⟨Nat.le_of_ble_eq_true rfl, Nat.le_of_ble_eq_true rfl⟩) (hB.preV (cT hB) rfl rfl) rfl rfl hl.1 rfl (lv_room (Nat.le_of_ble_eq_true rfl)) dX0_rings_27 ⟨Nat.le_refl _, Nat.le_refl _⟩) hB (fun μ5 H locs hp hB => ?_)
    refine lv_aload_n hx hb dX0_rings_30 rfl (lv_at hl 1 rfl) ?_
    refine g_getr S hB (cT hB) rfl (T := TX0) (N := 33) (C := RX0) rfl in_X0 1 (by decide) (by decide) q305 (fun _ h9 => h9) (fun _ => rfl) (cA hB 0 rfl).1 dX0_rings_31 ?_
    refine lv_aload_n hx hb dX0_rings_34 rfl (lv_at hl 1 rfl) ?_
    refine g_getr S hB (cT hB) rfl (T := TX0) (N := 33) (C := RX0) rfl in_X0 2 (by decide) (by decide) q306 (fun _ h9 => h9) (fun _ => rfl) (cA hB 1 rfl).1 dX0_rings_35 ?_
    refine z_callq (va_runV (As := [.ref (z + 11)]) (rest := []) S (mX2_be l Γ z (z + 7) (z + 11) μ5 _ hp) (cwV 1 hts (lw_V q862 q863 q864 q129 q865) rfl rfl rfl hX2_be ⟨Nat.le_of_ble_eq_true rfl, Nat.le_of_ble_eq_true rfl⟩) (hB.preV (tX2_be hp) rfl rfl) rfl rfl hl.1 rfl (lv_room (Nat.le_of_ble_eq_true rfl)) dX0_rings_38 ⟨Nat.le_refl _, Nat.le_refl _⟩) hB (fun r7 μ6 H locs hp hB => ?_)
    refine lv_pop hx hb dX0_rings_41 (va_rf_c _) ?_
    refine lv_iload_n hx hb dX0_rings_42 rfl (lv_at hl 0 rfl) ?_
    exact zret_i X hB hp dX0_rings_43
  · have hp := zit hp c0
    refine lv_iconst (v := (nI 0)) hx hb dX0_rings_24 rfl ?_
    exact zret_i X hB hp dX0_rings_25
def pX0_goes_14 (z : Nat) (x1 : Nat) (Q : Int32 → zM → Prop) : Nat → Int32 → zM → Prop
  | 0, _, _ => False
  | n + 1, x2, μ => (pX3_many z x1 μ fun r2 μ1 => (if r2 ≤ x2 then Q x2 μ1 else (pX3_number z x1 x2 μ1 fun r4 μ3 => (pX2_why z (z + 11) r4 μ3 fun r6 μ5 => (if r6 = 0 then (pX3_number z x1 x2 μ5 fun r8 μ7 => (pX2_does z (z + 11) (r8.toInt32) μ7 fun μ9 => pX0_goes_14 z x1 Q n (x2 + (nI 1)) μ9)) else Q x2 μ5)))))
set_option maxHeartbeats 4000000 in
set_option maxRecDepth 100000 in
theorem wX0_goes_14 {p : Program} {l : Launch} {e : Env} {s : State} {m : MethodId} {args : Array Value} {below : List Frame} {meth : Method} {c : Code} {Γ : zG} {μ0 : zM} {Q : Int32 → zM → Prop} (X : zCx p m c cX0_goes 3 s args RX0 meth (some .int)) {x1 : Nat} (ht_x1 : zty μ0 x1 = some (.inl 3)) (z : Nat) : ∀ (n : Nat) (x2 : Int32) (μ : zM) (H : Heap) (locs : List Loc) (ls : Array Slot), pX0_goes_14 z x1 Q n x2 μ → zB Γ (cSh z) (zA μ0) μ0 s μ H locs → lv_has ls 3 [(0, .ref z), (1, .ref x1), (2, .int x2)] → W p l e ({ frames := 467, cells := 0, slots := 0, locals := 12587 } : Room) s m args below meth c H locs 0 0 (MQ below (va_Qi Q (zPost Γ (cSh z) μ0) (zA μ0)) args s 0 0 (zA μ0)) (F0 m 14 ls []) := by
  have S := X.1
  obtain ⟨hx, hb, hml, hown, hts⟩ := X.1
  intro n
  induction n with
  | zero =>
    intro x2 μ H locs ls hp
    exact hp.elim
  | succ n ih =>
    intro x2 μ H locs ls hp hB hl
    unfold pX0_goes_14 at hp
    refine lv_iload_n hx hb dX0_goes_14 rfl (lv_at hl 2 rfl) ?_
    refine lv_aload_n hx hb dX0_goes_15 rfl (lv_at hl 1 rfl) ?_
    refine z_calli (va_runV (As := []) (rest := [.int x2]) S (mX3_many l Γ z x1 μ _ hp) (cwV 0 hts (lw_V q954 q955 q956 q130 q957) rfl rfl rfl hX3_many ⟨Nat.le_of_ble_eq_true rfl, Nat.le_of_ble_eq_true rfl⟩) (hB.preV (tX3_many hp) rfl rfl) rfl rfl hl.1 rfl (lv_room (Nat.le_of_ble_eq_true rfl)) dX0_goes_16 ⟨Nat.le_refl _, Nat.le_refl _⟩) hB (fun r2 μ1 H locs hp hB => ?_)
    refine lv_icmp_ge (tgt := 56) hx hb dX0_goes_19 rfl (fun c0 => ?_) (fun c0 => ?_)
    · have hp := zit hp c0
      refine lv_iload_n hx hb dX0_goes_56 rfl (lv_at hl 2 rfl) ?_
      exact zret_i X hB hp dX0_goes_57
    · have hp := zif hp c0
      refine lv_aload_n hx hb dX0_goes_22 rfl (lv_at hl 0 rfl) ?_
      refine g_getr S hB (cT hB) rfl (T := TX0) (N := 33) (C := RX0) rfl in_X0 2 (by decide) (by decide) q306 (fun _ h9 => h9) (fun _ => rfl) (cA hB 1 rfl).1 dX0_goes_23 ?_
      refine lv_aload_n hx hb dX0_goes_26 rfl (lv_at hl 1 rfl) ?_
      refine lv_iload_n hx hb dX0_goes_27 rfl (lv_at hl 2 rfl) ?_
      refine z_calll (va_runV (As := [.int x2]) (rest := [.ref (z + 11)]) S (mX3_number l Γ z x1 x2 μ1 _ hp) (cwV 1 hts (lw_V q962 q963 q964 q130 q965) rfl rfl rfl hX3_number ⟨Nat.le_of_ble_eq_true rfl, Nat.le_of_ble_eq_true rfl⟩) (hB.preV (tX3_number hp) rfl rfl) rfl rfl hl.1 rfl (lv_room (Nat.le_of_ble_eq_true rfl)) dX0_goes_28 ⟨Nat.le_refl _, Nat.le_refl _⟩) hB (fun r4 μ3 H locs hp hB => ?_)
      refine z_calli (va_runV (As := [.long r4]) (rest := []) S (mX2_why l Γ z (z + 11) r4 μ3 _ hp) (cwV 1 hts (lw_V q966 q967 q968 q129 q969) rfl rfl rfl hX2_why ⟨Nat.le_of_ble_eq_true rfl, Nat.le_of_ble_eq_true rfl⟩) (hB.preV (tX2_why hp) rfl rfl) rfl rfl hl.1 rfl (lv_room (Nat.le_of_ble_eq_true rfl)) dX0_goes_31 ⟨Nat.le_refl _, Nat.le_refl _⟩) hB (fun r6 μ5 H locs hp hB => ?_)
      refine lv_if_ne (tgt := 56) hx hb dX0_goes_34 rfl (fun c0 => ?_) (fun c0 => ?_)
      · have hp := zif hp c0
        refine lv_iload_n hx hb dX0_goes_56 rfl (lv_at hl 2 rfl) ?_
        exact zret_i X hB hp dX0_goes_57
      · have hp := zit hp c0
        refine lv_aload_n hx hb dX0_goes_37 rfl (lv_at hl 0 rfl) ?_
        refine g_getr S hB (cT hB) rfl (T := TX0) (N := 33) (C := RX0) rfl in_X0 2 (by decide) (by decide) q306 (fun _ h9 => h9) (fun _ => rfl) (cA hB 1 rfl).1 dX0_goes_38 ?_
        refine lv_aload_n hx hb dX0_goes_41 rfl (lv_at hl 1 rfl) ?_
        refine lv_iload_n hx hb dX0_goes_42 rfl (lv_at hl 2 rfl) ?_
        refine z_calll (va_runV (As := [.int x2]) (rest := [.ref (z + 11)]) S (mX3_number l Γ z x1 x2 μ5 _ hp) (cwV 1 hts (lw_V q962 q963 q964 q130 q965) rfl rfl rfl hX3_number ⟨Nat.le_of_ble_eq_true rfl, Nat.le_of_ble_eq_true rfl⟩) (hB.preV (tX3_number hp) rfl rfl) rfl rfl hl.1 rfl (lv_room (Nat.le_of_ble_eq_true rfl)) dX0_goes_43 ⟨Nat.le_refl _, Nat.le_refl _⟩) hB (fun r8 μ7 H locs hp hB => ?_)
        refine lv_l2i hx hb dX0_goes_46 rfl ?_
        refine z_callv (va_runV (As := [.int (r8.toInt32)]) (rest := []) S (mX2_does l Γ z (z + 11) (r8.toInt32) μ7 _ hp) (cwV 1 hts (lw_V q981 q982 q983 q129 q984) rfl rfl rfl hX2_does ⟨Nat.le_of_ble_eq_true rfl, Nat.le_of_ble_eq_true rfl⟩) (hB.preV (tX2_does hp) rfl rfl) rfl rfl hl.1 rfl (lv_room (Nat.le_of_ble_eq_true rfl)) dX0_goes_47 ⟨Nat.le_refl _, Nat.le_refl _⟩) hB (fun μ9 H locs hp hB => ?_)
        refine lv_iinc (v := (x2 + (nI 1))) (lv' := [(2, .int (x2 + (nI 1))), (0, .ref z), (1, .ref x1)]) hx hb dX0_goes_50 hl (k := 2) rfl rfl (by decide) rfl (fun ls hl => ?_)
        refine lv_goto (tgt := 14) hx hb dX0_goes_53 rfl ?_
        exact ih (x2 + (nI 1)) μ9 _ _ _ hp hB (lv_sub hl [1, 2, 0] rfl)
def pX0_goes (z : Nat) (x1 : Nat) (μ : zM) (Q : Int32 → zM → Prop) : Prop := zty μ x1 = some (.inl 3) ∧ (pX2_be z (z + 11) (z + 7) μ fun r2 μ1 => ∃ k1, pX0_goes_14 z x1 Q k1 (nI 0) μ1)
theorem hX0_goes : yX0_goes.cls = "SunkTower" ∧ yX0_goes.cls ≠ "java/lang/invoke/MethodHandle" ∧ yX0_goes.cls ≠ "java/lang/invoke/VarHandle" ∧ (parseMethodDescriptor yX0_goes.desc).map (fun d => d.parameters.length) = some 1 := by decide +kernel
set_option maxHeartbeats 4000000 in
set_option maxRecDepth 100000 in
theorem mX0_goes (l : Launch) (Γ : zG) (z : Nat) (x1 : Nat) (μ : zM) (Q : Int32 → zM → Prop) (hp : pX0_goes z x1 μ Q) : Met l yX0_goes (ws_ yX0_goes cX0_goes 3 (some .int)) ({ frames := 467, cells := 0, slots := 0, locals := 12587 } : Room) (va_Pc [.ref z, .ref x1] (zPre Γ (cSh z) μ)) (va_Qi Q (zPost Γ (cSh z) μ) (zA μ)) 0 0 (zA μ) := by
  refine zstart (by decide) (Nat.le_of_ble_eq_true rfl) ?_
  intro p e s m below meth c ls X hnm hB hl
  have X : zCx p m c cX0_goes 3 s [.ref z, .ref x1].toArray RX0 meth (some .int) := X
  have S := X.1
  obtain ⟨hx, hb, hml, hown, hts⟩ := X.1
  have hl : lv_has ls 3 [(0, .ref z), (1, .ref x1)] := hl
  obtain ⟨ht_x1, hp⟩ := hp
  refine lv_aload_n hx hb dX0_goes_0 rfl (lv_at hl 0 rfl) ?_
  refine g_getr S hB (cT hB) rfl (T := TX0) (N := 33) (C := RX0) rfl in_X0 2 (by decide) (by decide) q306 (fun _ h9 => h9) (fun _ => rfl) (cA hB 1 rfl).1 dX0_goes_1 ?_
  refine lv_aload_n hx hb dX0_goes_4 rfl (lv_at hl 0 rfl) ?_
  refine g_getr S hB (cT hB) rfl (T := TX0) (N := 33) (C := RX0) rfl in_X0 1 (by decide) (by decide) q305 (fun _ h9 => h9) (fun _ => rfl) (cA hB 0 rfl).1 dX0_goes_5 ?_
  refine z_callq (va_runV (As := [.ref (z + 7)]) (rest := []) S (mX2_be l Γ z (z + 11) (z + 7) μ _ hp) (cwV 1 hts (lw_V q862 q863 q864 q129 q865) rfl rfl rfl hX2_be ⟨Nat.le_of_ble_eq_true rfl, Nat.le_of_ble_eq_true rfl⟩) (hB.preV (tX2_be hp) rfl rfl) rfl rfl hl.1 rfl (lv_room (Nat.le_of_ble_eq_true rfl)) dX0_goes_8 ⟨Nat.le_refl _, Nat.le_refl _⟩) hB (fun r2 μ1 H locs hp hB => ?_)
  refine lv_pop hx hb dX0_goes_11 (va_rf_c _) ?_
  refine lv_iconst (v := (nI 0)) hx hb dX0_goes_12 rfl ?_
  refine lv_istore_n (lv' := [(2, .int (nI 0)), (0, .ref z), (1, .ref x1)]) hx hb dX0_goes_13 rfl hl (by decide) rfl (fun ls hl => ?_)
  obtain ⟨n1, hp⟩ := hp
  exact wX0_goes_14 X ht_x1 z n1 (nI 0) μ1 _ _ _ hp hB (lv_sub hl [1, 2, 0] rfl)
def pX0_perform (z : Nat) (x1 : Int32) (μ : zM) (Q : Int32 → zM → Prop) : Prop := (pX0_isTray z x1 μ fun r2 μ1 => (if r2 = 0 then Q (-2 : Int32) μ1 else (vp_in x1 4 ∧ (zde (zR μ1 (z + 70) x1.toNatClampNeg) fun b3 => (zty μ1 b3 = some (.inl 3) ∧ (if (zR μ1 b3 0) = none then Q (-6 : Int32) μ1 else (vp_in x1 4 ∧ (zde (zR μ1 (z + 70) x1.toNatClampNeg) fun b6 => (pX0_goes z b6 μ1 fun r8 μ7 => (if r8 = 0 then Q (nI 0) μ7 else (pX0_keeps z μ7 fun μ9 => (pX2_be z (z + 7) (z + 11) μ9 fun r11 μ10 => Q r8 μ10))))))))))))
theorem hX0_perform : yX0_perform.cls = "SunkTower" ∧ yX0_perform.cls ≠ "java/lang/invoke/MethodHandle" ∧ yX0_perform.cls ≠ "java/lang/invoke/VarHandle" ∧ (parseMethodDescriptor yX0_perform.desc).map (fun d => d.parameters.length) = some 1 := by decide +kernel
set_option maxHeartbeats 4000000 in
set_option maxRecDepth 100000 in
theorem mX0_perform (l : Launch) (Γ : zG) (z : Nat) (x1 : Int32) (μ : zM) (Q : Int32 → zM → Prop) (hp : pX0_perform z x1 μ Q) : Met l yX0_perform (ws_ yX0_perform cX0_perform 3 (some .int)) ({ frames := 468, cells := 0, slots := 0, locals := 12609 } : Room) (va_Pc [.ref z, .int x1] (zPre Γ (cSh z) μ)) (va_Qi Q (zPost Γ (cSh z) μ) (zA μ)) 0 0 (zA μ) := by
  refine zstart (by decide) (Nat.le_of_ble_eq_true rfl) ?_
  intro p e s m below meth c ls X hnm hB hl
  have X : zCx p m c cX0_perform 3 s [.ref z, .int x1].toArray RX0 meth (some .int) := X
  have S := X.1
  obtain ⟨hx, hb, hml, hown, hts⟩ := X.1
  have hl : lv_has ls 3 [(0, .ref z), (1, .int x1)] := hl
  unfold pX0_perform at hp
  refine lv_iload_n hx hb dX0_perform_0 rfl (lv_at hl 1 rfl) ?_
  refine z_calli (va_runS (As := [.int x1]) (rest := []) S (mX0_isTray l Γ z x1 μ _ hp) (va_cwS 1 hts (lw_S q946 q947 q127 q948) rfl rfl rfl hX0_isTray ⟨Nat.le_of_ble_eq_true rfl, Nat.le_of_ble_eq_true rfl⟩) hB.preS rfl rfl hl.1 rfl (lv_room (Nat.le_of_ble_eq_true rfl)) dX0_perform_1 ⟨Nat.le_refl _, Nat.le_refl _⟩) hB (fun r2 μ1 H locs hp hB => ?_)
  refine lv_if_ne (tgt := 10) hx hb dX0_perform_4 rfl (fun c0 => ?_) (fun c0 => ?_)
  · have hp := zif hp c0
    refine lv_aload_n hx hb dX0_perform_10 rfl (lv_at hl 0 rfl) ?_
    refine g_getr S hB (cT hB) rfl (T := TX0) (N := 33) (C := RX0) rfl in_X0 30 (by decide) (by decide) q336 (fun _ h9 => h9) (fun _ => rfl) (cA hB 17 rfl).1 dX0_perform_11 ?_
    refine lv_iload_n hx hb dX0_perform_14 rfl (lv_at hl 1 rfl) ?_
    obtain ⟨hi, hp⟩ := hp
    refine g_aald S hB (t0 := 6) (cA hB 17 rfl).2 rfl rfl hi dX0_perform_15 ?_
    obtain ⟨b3, eb, hp⟩ := hp
    refine W.eq (g2 := F0 m 16 ls [.ref b3]) (by rw [eb]; rfl) ?_
    obtain ⟨ht4, hp⟩ := hp
    refine g_getN S hB ht4 rfl (T := TX3) (N := 1) (C := RX3) rfl in_X3 0 (by decide) (by decide) (zNFw hB 12 rfl) (fun _ h9 => h9) (v := va_rf (zR μ1 b3 0)) rfl dX0_perform_16 ?_
    refine g_ifnonnull (tgt := 25) hx hb dX0_perform_19 rfl (fun c0 => ?_) (fun c0 => ?_)
    · have hp := zit hp c0
      refine lv_bipush (v := (-6 : Int32)) hx hb dX0_perform_22 rfl ?_
      exact zret_i X hB hp dX0_perform_24
    · have hp := zif hp c0
      refine lv_aload_n hx hb dX0_perform_25 rfl (lv_at hl 0 rfl) ?_
      refine lv_aload_n hx hb dX0_perform_26 rfl (lv_at hl 0 rfl) ?_
      refine g_getr S hB (cT hB) rfl (T := TX0) (N := 33) (C := RX0) rfl in_X0 30 (by decide) (by decide) q336 (fun _ h9 => h9) (fun _ => rfl) (cA hB 17 rfl).1 dX0_perform_27 ?_
      refine lv_iload_n hx hb dX0_perform_30 rfl (lv_at hl 1 rfl) ?_
      obtain ⟨hi, hp⟩ := hp
      refine g_aald S hB (t0 := 6) (cA hB 17 rfl).2 rfl rfl hi dX0_perform_31 ?_
      obtain ⟨b6, eb, hp⟩ := hp
      refine W.eq (g2 := F0 m 32 ls [.ref b6, .ref z]) (by rw [eb]; rfl) ?_
      refine z_calli (va_runV (As := [.ref b6]) (rest := []) S (mX0_goes l Γ z b6 μ1 _ hp) (cwV 1 hts (lw_V q950 q952 qs33 q127 q953) rfl rfl rfl hX0_goes ⟨Nat.le_of_ble_eq_true rfl, Nat.le_of_ble_eq_true rfl⟩) (hB.preV (cT hB) rfl rfl) rfl rfl hl.1 rfl (lv_room (Nat.le_of_ble_eq_true rfl)) dX0_perform_32 ⟨Nat.le_refl _, Nat.le_refl _⟩) hB (fun r8 μ7 H locs hp hB => ?_)
      refine lv_istore_n (lv' := [(2, .int r8), (0, .ref z), (1, .int x1)]) hx hb dX0_perform_35 rfl hl (by decide) rfl (fun ls hl => ?_)
      refine lv_iload_n hx hb dX0_perform_36 rfl (lv_at hl 0 rfl) ?_
      refine lv_if_ne (tgt := 42) hx hb dX0_perform_37 rfl (fun c0 => ?_) (fun c0 => ?_)
      · have hp := zif hp c0
        refine lv_aload_n hx hb dX0_perform_42 rfl (lv_at hl 1 rfl) ?_
        refine z_callv (va_runV (As := []) (rest := []) S (mX0_keeps l Γ z μ7 _ hp) (cwV 0 hts (lw_V q858 q860 qs29 q127 q861) rfl rfl rfl hX0_keeps ⟨Nat.le_of_ble_eq_true rfl, Nat.le_of_ble_eq_true rfl⟩) (hB.preV (cT hB) rfl rfl) rfl rfl hl.1 rfl (lv_room (Nat.le_of_ble_eq_true rfl)) dX0_perform_43 ⟨Nat.le_refl _, Nat.le_refl _⟩) hB (fun μ9 H locs hp hB => ?_)
        refine lv_aload_n hx hb dX0_perform_46 rfl (lv_at hl 1 rfl) ?_
        refine g_getr S hB (cT hB) rfl (T := TX0) (N := 33) (C := RX0) rfl in_X0 1 (by decide) (by decide) q305 (fun _ h9 => h9) (fun _ => rfl) (cA hB 0 rfl).1 dX0_perform_47 ?_
        refine lv_aload_n hx hb dX0_perform_50 rfl (lv_at hl 1 rfl) ?_
        refine g_getr S hB (cT hB) rfl (T := TX0) (N := 33) (C := RX0) rfl in_X0 2 (by decide) (by decide) q306 (fun _ h9 => h9) (fun _ => rfl) (cA hB 1 rfl).1 dX0_perform_51 ?_
        refine z_callq (va_runV (As := [.ref (z + 11)]) (rest := []) S (mX2_be l Γ z (z + 7) (z + 11) μ9 _ hp) (cwV 1 hts (lw_V q862 q863 q864 q129 q865) rfl rfl rfl hX2_be ⟨Nat.le_of_ble_eq_true rfl, Nat.le_of_ble_eq_true rfl⟩) (hB.preV (tX2_be hp) rfl rfl) rfl rfl hl.1 rfl (lv_room (Nat.le_of_ble_eq_true rfl)) dX0_perform_54 ⟨Nat.le_refl _, Nat.le_refl _⟩) hB (fun r11 μ10 H locs hp hB => ?_)
        refine lv_pop hx hb dX0_perform_57 (va_rf_c _) ?_
        refine lv_iload_n hx hb dX0_perform_58 rfl (lv_at hl 0 rfl) ?_
        exact zret_i X hB hp dX0_perform_59
      · have hp := zit hp c0
        refine lv_iconst (v := (nI 0)) hx hb dX0_perform_40 rfl ?_
        exact zret_i X hB hp dX0_perform_41
  · have hp := zit hp c0
    refine lv_bipush (v := (-2 : Int32)) hx hb dX0_perform_7 rfl ?_
    exact zret_i X hB hp dX0_perform_9
def pX0_years_60 (z : Nat) (x2 : Int32) (Q : Int32 → zM → Prop) : Nat → Int32 → Int32 → zM → Prop
  | 0, _, _, _ => False
  | n + 1, x3, x4, μ => (if x2 ≤ x4 then (if x3 = 0 then Q (nI 0) μ else (pX0_keeps z μ fun μ1 => (pX2_be z (z + 7) (z + 11) μ1 fun r3 μ2 => Q x3 μ2))) else (pX0_told z μ fun r5 μ4 => (pX2_why z (z + 11) (r5.toInt64) μ4 fun r7 μ6 => (if r7 = 0 then (pX2_does z (z + 11) r5 μ6 fun μ8 => pX0_years_60 z x2 Q n (x3 + (nI 1)) (x4 + (nI 1)) μ8) else pX0_years_60 z x2 Q n x3 (x4 + (nI 1)) μ6))))
set_option maxHeartbeats 4000000 in
set_option maxRecDepth 100000 in
theorem wX0_years_60 {p : Program} {l : Launch} {e : Env} {s : State} {m : MethodId} {args : Array Value} {below : List Frame} {meth : Method} {c : Code} {Γ : zG} {μ0 : zM} {Q : Int32 → zM → Prop} (X : zCx p m c cX0_years 6 s args RX0 meth (some .int)) (z : Nat) (x2 : Int32) : ∀ (n : Nat) (x3 : Int32) (x4 : Int32) (μ : zM) (H : Heap) (locs : List Loc) (ls : Array Slot), pX0_years_60 z x2 Q n x3 x4 μ → zB Γ (cSh z) (zA μ0) μ0 s μ H locs → lv_has ls 6 [(0, .ref z), (2, .int x2), (3, .int x3), (4, .int x4)] → W p l e ({ frames := 467, cells := 0, slots := 0, locals := 12587 } : Room) s m args below meth c H locs 0 0 (MQ below (va_Qi Q (zPost Γ (cSh z) μ0) (zA μ0)) args s 0 0 (zA μ0)) (F0 m 60 ls []) := by
  have S := X.1
  obtain ⟨hx, hb, hml, hown, hts⟩ := X.1
  intro n
  induction n with
  | zero =>
    intro x3 x4 μ H locs ls hp
    exact hp.elim
  | succ n ih =>
    intro x3 x4 μ H locs ls hp hB hl
    unfold pX0_years_60 at hp
    refine lv_iload hx hb dX0_years_60 (lv_at hl 3 rfl) ?_
    refine lv_iload_n hx hb dX0_years_62 rfl (lv_at hl 1 rfl) ?_
    refine lv_icmp_ge (tgt := 106) hx hb dX0_years_63 rfl (fun c0 => ?_) (fun c0 => ?_)
    · have hp := zit hp c0
      refine lv_iload_n hx hb dX0_years_106 rfl (lv_at hl 2 rfl) ?_
      refine lv_if_ne (tgt := 112) hx hb dX0_years_107 rfl (fun c0 => ?_) (fun c0 => ?_)
      · have hp := zif hp c0
        refine lv_aload_n hx hb dX0_years_112 rfl (lv_at hl 0 rfl) ?_
        refine z_callv (va_runV (As := []) (rest := []) S (mX0_keeps l Γ z μ _ hp) (cwV 0 hts (lw_V q858 q860 qs29 q127 q861) rfl rfl rfl hX0_keeps ⟨Nat.le_of_ble_eq_true rfl, Nat.le_of_ble_eq_true rfl⟩) (hB.preV (cT hB) rfl rfl) rfl rfl hl.1 rfl (lv_room (Nat.le_of_ble_eq_true rfl)) dX0_years_113 ⟨Nat.le_refl _, Nat.le_refl _⟩) hB (fun μ1 H locs hp hB => ?_)
        refine lv_aload_n hx hb dX0_years_116 rfl (lv_at hl 0 rfl) ?_
        refine g_getr S hB (cT hB) rfl (T := TX0) (N := 33) (C := RX0) rfl in_X0 1 (by decide) (by decide) q305 (fun _ h9 => h9) (fun _ => rfl) (cA hB 0 rfl).1 dX0_years_117 ?_
        refine lv_aload_n hx hb dX0_years_120 rfl (lv_at hl 0 rfl) ?_
        refine g_getr S hB (cT hB) rfl (T := TX0) (N := 33) (C := RX0) rfl in_X0 2 (by decide) (by decide) q306 (fun _ h9 => h9) (fun _ => rfl) (cA hB 1 rfl).1 dX0_years_121 ?_
        refine z_callq (va_runV (As := [.ref (z + 11)]) (rest := []) S (mX2_be l Γ z (z + 7) (z + 11) μ1 _ hp) (cwV 1 hts (lw_V q862 q863 q864 q129 q865) rfl rfl rfl hX2_be ⟨Nat.le_of_ble_eq_true rfl, Nat.le_of_ble_eq_true rfl⟩) (hB.preV (tX2_be hp) rfl rfl) rfl rfl hl.1 rfl (lv_room (Nat.le_of_ble_eq_true rfl)) dX0_years_124 ⟨Nat.le_refl _, Nat.le_refl _⟩) hB (fun r3 μ2 H locs hp hB => ?_)
        refine lv_pop hx hb dX0_years_127 (va_rf_c _) ?_
        refine lv_iload_n hx hb dX0_years_128 rfl (lv_at hl 2 rfl) ?_
        exact zret_i X hB hp dX0_years_129
      · have hp := zit hp c0
        refine lv_iconst (v := (nI 0)) hx hb dX0_years_110 rfl ?_
        exact zret_i X hB hp dX0_years_111
    · have hp := zif hp c0
      refine lv_aload_n hx hb dX0_years_66 rfl (lv_at hl 0 rfl) ?_
      refine z_calli (va_runV (As := []) (rest := []) S (mX0_told l Γ z μ _ hp) (cwV 0 hts (lw_V q996 q998 qs34 q127 q999) rfl rfl rfl hX0_told ⟨Nat.le_of_ble_eq_true rfl, Nat.le_of_ble_eq_true rfl⟩) (hB.preV (cT hB) rfl rfl) rfl rfl hl.1 rfl (lv_room (Nat.le_of_ble_eq_true rfl)) dX0_years_67 ⟨Nat.le_refl _, Nat.le_refl _⟩) hB (fun r5 μ4 H locs hp hB => ?_)
      refine lv_istore (lv' := [(5, .int r5), (0, .ref z), (2, .int x2), (3, .int x3), (4, .int x4)]) hx hb dX0_years_70 hl (by decide) rfl (fun ls hl => ?_)
      refine lv_aload_n hx hb dX0_years_72 rfl (lv_at hl 1 rfl) ?_
      refine g_getr S hB (cT hB) rfl (T := TX0) (N := 33) (C := RX0) rfl in_X0 2 (by decide) (by decide) q306 (fun _ h9 => h9) (fun _ => rfl) (cA hB 1 rfl).1 dX0_years_73 ?_
      refine lv_iload hx hb dX0_years_76 (lv_at hl 0 rfl) ?_
      refine lv_i2l hx hb dX0_years_78 rfl ?_
      refine z_calli (va_runV (As := [.long (r5.toInt64)]) (rest := []) S (mX2_why l Γ z (z + 11) (r5.toInt64) μ4 _ hp) (cwV 1 hts (lw_V q966 q967 q968 q129 q969) rfl rfl rfl hX2_why ⟨Nat.le_of_ble_eq_true rfl, Nat.le_of_ble_eq_true rfl⟩) (hB.preV (tX2_why hp) rfl rfl) rfl rfl hl.1 rfl (lv_room (Nat.le_of_ble_eq_true rfl)) dX0_years_79 ⟨Nat.le_refl _, Nat.le_refl _⟩) hB (fun r7 μ6 H locs hp hB => ?_)
      refine lv_if_eq (tgt := 88) hx hb dX0_years_82 rfl (fun c0 => ?_) (fun c0 => ?_)
      · have hp := zit hp c0
        refine lv_aload_n hx hb dX0_years_88 rfl (lv_at hl 1 rfl) ?_
        refine g_getr S hB (cT hB) rfl (T := TX0) (N := 33) (C := RX0) rfl in_X0 2 (by decide) (by decide) q306 (fun _ h9 => h9) (fun _ => rfl) (cA hB 1 rfl).1 dX0_years_89 ?_
        refine lv_iload hx hb dX0_years_92 (lv_at hl 0 rfl) ?_
        refine z_callv (va_runV (As := [.int r5]) (rest := []) S (mX2_does l Γ z (z + 11) r5 μ6 _ hp) (cwV 1 hts (lw_V q981 q982 q983 q129 q984) rfl rfl rfl hX2_does ⟨Nat.le_of_ble_eq_true rfl, Nat.le_of_ble_eq_true rfl⟩) (hB.preV (tX2_does hp) rfl rfl) rfl rfl hl.1 rfl (lv_room (Nat.le_of_ble_eq_true rfl)) dX0_years_94 ⟨Nat.le_refl _, Nat.le_refl _⟩) hB (fun μ8 H locs hp hB => ?_)
        refine lv_iinc (v := (x3 + (nI 1))) (lv' := [(3, .int (x3 + (nI 1))), (5, .int r5), (0, .ref z), (2, .int x2), (4, .int x4)]) hx hb dX0_years_97 hl (k := 3) rfl rfl (by decide) rfl (fun ls hl => ?_)
        refine lv_iinc (v := (x4 + (nI 1))) (lv' := [(4, .int (x4 + (nI 1))), (3, .int (x3 + (nI 1))), (5, .int r5), (0, .ref z), (2, .int x2)]) hx hb dX0_years_100 hl (k := 4) rfl rfl (by decide) rfl (fun ls hl => ?_)
        refine lv_goto (tgt := 60) hx hb dX0_years_103 rfl ?_
        exact ih (x3 + (nI 1)) (x4 + (nI 1)) μ8 _ _ _ hp hB (lv_sub hl [3, 4, 1, 0] rfl)
      · have hp := zif hp c0
        refine lv_goto (tgt := 100) hx hb dX0_years_85 rfl ?_
        refine lv_iinc (v := (x4 + (nI 1))) (lv' := [(4, .int (x4 + (nI 1))), (5, .int r5), (0, .ref z), (2, .int x2), (3, .int x3)]) hx hb dX0_years_100 hl (k := 4) rfl rfl (by decide) rfl (fun ls hl => ?_)
        refine lv_goto (tgt := 60) hx hb dX0_years_103 rfl ?_
        exact ih x3 (x4 + (nI 1)) μ6 _ _ _ hp hB (lv_sub hl [2, 3, 4, 0] rfl)
def pX0_years (z : Nat) (x1 : Int32) (x2 : Int32) (μ : zM) (Q : Int32 → zM → Prop) : Prop := (pX0_in z (x2.toInt64) (1 : Int64) (30 : Int64) μ fun r2 μ1 => (if r2 = 0 then Q (-3 : Int32) μ1 else (if (zI μ1 (z + 7) 3) = 0 then Q (-5 : Int32) μ1 else (zde (zR μ1 z 0) fun b3 => (zty μ1 b3 = some (.inl 1) ∧ (if (zI μ1 b3 6) = 0 then Q (-5 : Int32) μ1 else (pX2_be z (z + 11) (z + 7) μ1 fun r6 μ5 => (zpI μ5 z 10 x1 fun μ7 => ∃ k1, pX0_years_60 z x2 Q k1 (nI 0) (nI 0) μ7))))))))
theorem hX0_years : yX0_years.cls = "SunkTower" ∧ yX0_years.cls ≠ "java/lang/invoke/MethodHandle" ∧ yX0_years.cls ≠ "java/lang/invoke/VarHandle" ∧ (parseMethodDescriptor yX0_years.desc).map (fun d => d.parameters.length) = some 2 := by decide +kernel
set_option maxHeartbeats 4000000 in
set_option maxRecDepth 100000 in
theorem mX0_years (l : Launch) (Γ : zG) (z : Nat) (x1 : Int32) (x2 : Int32) (μ : zM) (Q : Int32 → zM → Prop) (hp : pX0_years z x1 x2 μ Q) : Met l yX0_years (ws_ yX0_years cX0_years 6 (some .int)) ({ frames := 467, cells := 0, slots := 0, locals := 12587 } : Room) (va_Pc [.ref z, .int x1, .int x2] (zPre Γ (cSh z) μ)) (va_Qi Q (zPost Γ (cSh z) μ) (zA μ)) 0 0 (zA μ) := by
  refine zstart (by decide) (Nat.le_of_ble_eq_true rfl) ?_
  intro p e s m below meth c ls X hnm hB hl
  have X : zCx p m c cX0_years 6 s [.ref z, .int x1, .int x2].toArray RX0 meth (some .int) := X
  have S := X.1
  obtain ⟨hx, hb, hml, hown, hts⟩ := X.1
  have hl : lv_has ls 6 [(0, .ref z), (1, .int x1), (2, .int x2)] := hl
  unfold pX0_years at hp
  refine lv_iload_n hx hb dX0_years_0 rfl (lv_at hl 2 rfl) ?_
  refine lv_i2l hx hb dX0_years_1 rfl ?_
  refine lv_lconst (v := (1 : Int64)) hx hb dX0_years_2 rfl ?_
  refine lv_ldc2 (v := (30 : Int64)) hx hb hown (hts _ q995) dX0_years_3 ?_
  refine z_calli (va_runS (As := [.long (x2.toInt64), .long (1 : Int64), .long (30 : Int64)]) (rest := []) S (mX0_in l Γ z (x2.toInt64) (1 : Int64) (30 : Int64) μ _ hp) (va_cwS 3 hts (lw_S q418 q419 q127 q420) rfl rfl rfl hX0_in ⟨Nat.le_of_ble_eq_true rfl, Nat.le_of_ble_eq_true rfl⟩) hB.preS rfl rfl hl.1 rfl (lv_room (Nat.le_of_ble_eq_true rfl)) dX0_years_6 ⟨Nat.le_refl _, Nat.le_refl _⟩) hB (fun r2 μ1 H locs hp hB => ?_)
  refine lv_if_ne (tgt := 15) hx hb dX0_years_9 rfl (fun c0 => ?_) (fun c0 => ?_)
  · have hp := zif hp c0
    refine lv_aload_n hx hb dX0_years_15 rfl (lv_at hl 0 rfl) ?_
    refine g_getr S hB (cT hB) rfl (T := TX0) (N := 33) (C := RX0) rfl in_X0 1 (by decide) (by decide) q305 (fun _ h9 => h9) (fun _ => rfl) (cA hB 0 rfl).1 dX0_years_16 ?_
    refine g_getN S hB (cA hB 0 rfl).2 rfl (T := TX2) (N := 8) (C := RX2) rfl in_X2 3 (by decide) (by decide) (zNFw hB 8 rfl) (fun _ h9 => h9) (v := .int (zI μ1 (z + 7) 3)) rfl dX0_years_19 ?_
    refine lv_if_eq (tgt := 35) hx hb dX0_years_22 rfl (fun c0 => ?_) (fun c0 => ?_)
    · have hp := zit hp c0
      refine lv_bipush (v := (-5 : Int32)) hx hb dX0_years_35 rfl ?_
      exact zret_i X hB hp dX0_years_37
    · have hp := zif hp c0
      refine lv_aload_n hx hb dX0_years_25 rfl (lv_at hl 0 rfl) ?_
      refine g_get S hB (cT hB) rfl (T := TX0) (N := 33) (C := RX0) rfl in_X0 0 (by decide) (by decide) q304 (fun _ h9 => h9) (v := va_rf (zR μ1 z 0)) rfl dX0_years_26 ?_
      obtain ⟨b3, eb, hp⟩ := hp
      refine W.eq (g2 := F0 m 29 ls [.ref b3]) (by rw [eb]; rfl) ?_
      obtain ⟨ht4, hp⟩ := hp
      refine g_getN S hB ht4 rfl (T := TX1) (N := 16) (C := RX1) rfl in_X1 6 (by decide) (by decide) (zNFw hB 1 rfl) (fun _ h9 => h9) (v := .int (zI μ1 b3 6)) rfl dX0_years_29 ?_
      refine lv_if_ne (tgt := 38) hx hb dX0_years_32 rfl (fun c0 => ?_) (fun c0 => ?_)
      · have hp := zif hp c0
        refine lv_aload_n hx hb dX0_years_38 rfl (lv_at hl 0 rfl) ?_
        refine g_getr S hB (cT hB) rfl (T := TX0) (N := 33) (C := RX0) rfl in_X0 2 (by decide) (by decide) q306 (fun _ h9 => h9) (fun _ => rfl) (cA hB 1 rfl).1 dX0_years_39 ?_
        refine lv_aload_n hx hb dX0_years_42 rfl (lv_at hl 0 rfl) ?_
        refine g_getr S hB (cT hB) rfl (T := TX0) (N := 33) (C := RX0) rfl in_X0 1 (by decide) (by decide) q305 (fun _ h9 => h9) (fun _ => rfl) (cA hB 0 rfl).1 dX0_years_43 ?_
        refine z_callq (va_runV (As := [.ref (z + 7)]) (rest := []) S (mX2_be l Γ z (z + 11) (z + 7) μ1 _ hp) (cwV 1 hts (lw_V q862 q863 q864 q129 q865) rfl rfl rfl hX2_be ⟨Nat.le_of_ble_eq_true rfl, Nat.le_of_ble_eq_true rfl⟩) (hB.preV (tX2_be hp) rfl rfl) rfl rfl hl.1 rfl (lv_room (Nat.le_of_ble_eq_true rfl)) dX0_years_46 ⟨Nat.le_refl _, Nat.le_refl _⟩) hB (fun r6 μ5 H locs hp hB => ?_)
        refine lv_pop hx hb dX0_years_49 (va_rf_c _) ?_
        refine lv_aload_n hx hb dX0_years_50 rfl (lv_at hl 0 rfl) ?_
        refine lv_iload_n hx hb dX0_years_51 rfl (lv_at hl 1 rfl) ?_
        obtain ⟨μ7, eμ7, hp⟩ := zpI_e hp
        refine g_putI S hB (cT hB) rfl (T := TX0) (N := 33) (C := RX0) rfl in_X0 10 (by decide) (by decide) (x := x1) tyX0 tyX0_ok nmX0 q315 (fun _ h9 => h9) rfl (ty := .int) (by decide +kernel) rfl rfl (fun _ _ => rfl) dX0_years_52 (fun H locs hB => ?_)
        rw [← eμ7] at hB
        refine lv_iconst (v := (nI 0)) hx hb dX0_years_55 rfl ?_
        refine lv_istore_n (lv' := [(3, .int (nI 0)), (0, .ref z), (1, .int x1), (2, .int x2)]) hx hb dX0_years_56 rfl hl (by decide) rfl (fun ls hl => ?_)
        refine lv_iconst (v := (nI 0)) hx hb dX0_years_57 rfl ?_
        refine lv_istore (lv' := [(4, .int (nI 0)), (3, .int (nI 0)), (0, .ref z), (1, .int x1), (2, .int x2)]) hx hb dX0_years_58 hl (by decide) rfl (fun ls hl => ?_)
        obtain ⟨n1, hp⟩ := hp
        exact wX0_years_60 X z x2 n1 (nI 0) (nI 0) μ7 _ _ _ hp hB (lv_sub hl [2, 4, 1, 0] rfl)
      · have hp := zit hp c0
        refine lv_bipush (v := (-5 : Int32)) hx hb dX0_years_35 rfl ?_
        exact zret_i X hB hp dX0_years_37
  · have hp := zit hp c0
    refine lv_bipush (v := (-3 : Int32)) hx hb dX0_years_12 rfl ?_
    exact zret_i X hB hp dX0_years_14
def pX0_share (z : Nat) (x1 : Int32) (x2 : Int32) (μ : zM) (Q : Int32 → zM → Prop) : Prop := (pX0_isTenant z x1 μ fun r2 μ1 => (if r2 = 0 then Q (-90000002 : Int32) μ1 else (pX0_in z (x2.toInt64) (1 : Int64) (600 : Int64) μ1 fun r4 μ3 => (if r4 = 0 then Q (-90000003 : Int32) μ3 else (pX0_shareOf z x1 x2 μ3 fun r6 μ5 => Q r6 μ5)))))
theorem hX0_share : yX0_share.cls = "SunkTower" ∧ yX0_share.cls ≠ "java/lang/invoke/MethodHandle" ∧ yX0_share.cls ≠ "java/lang/invoke/VarHandle" ∧ (parseMethodDescriptor yX0_share.desc).map (fun d => d.parameters.length) = some 2 := by decide +kernel
set_option maxHeartbeats 4000000 in
set_option maxRecDepth 100000 in
theorem mX0_share (l : Launch) (Γ : zG) (z : Nat) (x1 : Int32) (x2 : Int32) (μ : zM) (Q : Int32 → zM → Prop) (hp : pX0_share z x1 x2 μ Q) : Met l yX0_share (ws_ yX0_share cX0_share 3 (some .int)) ({ frames := 466, cells := 0, slots := 0, locals := 12560 } : Room) (va_Pc [.ref z, .int x1, .int x2] (zPre Γ (cSh z) μ)) (va_Qi Q (zPost Γ (cSh z) μ) (zA μ)) 0 0 (zA μ) := by
  refine zstart (by decide) (Nat.le_of_ble_eq_true rfl) ?_
  intro p e s m below meth c ls X hnm hB hl
  have X : zCx p m c cX0_share 3 s [.ref z, .int x1, .int x2].toArray RX0 meth (some .int) := X
  have S := X.1
  obtain ⟨hx, hb, hml, hown, hts⟩ := X.1
  have hl : lv_has ls 3 [(0, .ref z), (1, .int x1), (2, .int x2)] := hl
  unfold pX0_share at hp
  refine lv_aload_n hx hb dX0_share_0 rfl (lv_at hl 0 rfl) ?_
  refine lv_iload_n hx hb dX0_share_1 rfl (lv_at hl 1 rfl) ?_
  refine z_calli (va_runV (As := [.int x1]) (rest := []) S (mX0_isTenant l Γ z x1 μ _ hp) (cwV 1 hts (lw_V q768 q770 qs27 q127 q771) rfl rfl rfl hX0_isTenant ⟨Nat.le_of_ble_eq_true rfl, Nat.le_of_ble_eq_true rfl⟩) (hB.preV (cT hB) rfl rfl) rfl rfl hl.1 rfl (lv_room (Nat.le_of_ble_eq_true rfl)) dX0_share_2 ⟨Nat.le_refl _, Nat.le_refl _⟩) hB (fun r2 μ1 H locs hp hB => ?_)
  refine lv_if_ne (tgt := 11) hx hb dX0_share_5 rfl (fun c0 => ?_) (fun c0 => ?_)
  · have hp := zif hp c0
    refine lv_iload_n hx hb dX0_share_11 rfl (lv_at hl 2 rfl) ?_
    refine lv_i2l hx hb dX0_share_12 rfl ?_
    refine lv_lconst (v := (1 : Int64)) hx hb dX0_share_13 rfl ?_
    refine lv_ldc2 (v := (600 : Int64)) hx hb hown (hts _ q1026) dX0_share_14 ?_
    refine z_calli (va_runS (As := [.long (x2.toInt64), .long (1 : Int64), .long (600 : Int64)]) (rest := []) S (mX0_in l Γ z (x2.toInt64) (1 : Int64) (600 : Int64) μ1 _ hp) (va_cwS 3 hts (lw_S q418 q419 q127 q420) rfl rfl rfl hX0_in ⟨Nat.le_of_ble_eq_true rfl, Nat.le_of_ble_eq_true rfl⟩) hB.preS rfl rfl hl.1 rfl (lv_room (Nat.le_of_ble_eq_true rfl)) dX0_share_17 ⟨Nat.le_refl _, Nat.le_refl _⟩) hB (fun r4 μ3 H locs hp hB => ?_)
    refine lv_if_eq (tgt := 32) hx hb dX0_share_20 rfl (fun c0 => ?_) (fun c0 => ?_)
    · have hp := zit hp c0
      refine lv_ldcw (v := (-90000003 : Int32)) hx hb hown (hts _ q1031) dX0_share_32 ?_
      exact zret_i X hB hp dX0_share_35
    · have hp := zif hp c0
      refine lv_aload_n hx hb dX0_share_23 rfl (lv_at hl 0 rfl) ?_
      refine lv_iload_n hx hb dX0_share_24 rfl (lv_at hl 1 rfl) ?_
      refine lv_iload_n hx hb dX0_share_25 rfl (lv_at hl 2 rfl) ?_
      refine z_calli (va_runV (As := [.int x1, .int x2]) (rest := []) S (mX0_shareOf l Γ z x1 x2 μ3 _ hp) (cwV 2 hts (lw_V q1072 q1074 qs38 q127 q1075) rfl rfl rfl hX0_shareOf ⟨Nat.le_of_ble_eq_true rfl, Nat.le_of_ble_eq_true rfl⟩) (hB.preV (cT hB) rfl rfl) rfl rfl hl.1 rfl (lv_room (Nat.le_of_ble_eq_true rfl)) dX0_share_26 ⟨Nat.le_refl _, Nat.le_refl _⟩) hB (fun r6 μ5 H locs hp hB => ?_)
      refine lv_goto (tgt := 35) hx hb dX0_share_29 rfl ?_
      exact zret_i X hB hp dX0_share_35
  · have hp := zit hp c0
    refine lv_ldc (v := (-90000002 : Int32)) hx hb hown (hts _ q840) dX0_share_8 ?_
    exact zret_i X hB hp dX0_share_10
def pX0_laysMoves_43 (z : Nat) (x1 : Int32) (x2 : Int32) (K36 : Int32 → zM → Prop) (Q : Int64 → zM → Prop) : Nat → Int32 → Int32 → zM → Prop
  | 0, _, _, _ => False
  | n + 1, x3, x4, μ => (if (nI 9) ≤ x4 then K36 (x3 - (nI 1)) μ else (pX0_mostFrom z x3 x4 μ fun r2 μ1 => (vp_in (((nI 9) * x3) + x4) 54 ∧ zpJ μ1 (z + 60) (((nI 9) * x3) + x4).toNatClampNeg r2 fun μ3 => pX0_laysMoves_43 z x1 x2 K36 Q n x3 (x4 + (nI 1)) μ3)))
set_option maxHeartbeats 4000000 in
set_option maxRecDepth 100000 in
theorem wX0_laysMoves_43 {p : Program} {l : Launch} {e : Env} {s : State} {m : MethodId} {args : Array Value} {below : List Frame} {meth : Method} {c : Code} {Γ : zG} {μ0 : zM} {Q : Int64 → zM → Prop} {K36 : Int32 → zM → Prop} (X : zCx p m c cX0_laysMoves 8 s args RX0 meth (some .long)) (z : Nat) (x1 : Int32) (x2 : Int32) (hK36 : ∀ (x3 : Int32) (μ : zM) (H : Heap) (locs : List Loc) (ls : Array Slot), K36 x3 μ → zB Γ (cSh z) (zA μ0) μ0 s μ H locs → lv_has ls 8 [(0, .ref z), (1, .int x1), (2, .int x2), (3, .int x3)] → W p l e ({ frames := 465, cells := 0, slots := 0, locals := 12539 } : Room) s m args below meth c H locs 0 0 (MQ below (va_Ql Q (zPost Γ (cSh z) μ0) (zA μ0)) args s 0 0 (zA μ0)) (F0 m 36 ls [])) : ∀ (n : Nat) (x3 : Int32) (x4 : Int32) (μ : zM) (H : Heap) (locs : List Loc) (ls : Array Slot), pX0_laysMoves_43 z x1 x2 K36 Q n x3 x4 μ → zB Γ (cSh z) (zA μ0) μ0 s μ H locs → lv_has ls 8 [(0, .ref z), (1, .int x1), (2, .int x2), (3, .int x3), (4, .int x4)] → W p l e ({ frames := 465, cells := 0, slots := 0, locals := 12539 } : Room) s m args below meth c H locs 0 0 (MQ below (va_Ql Q (zPost Γ (cSh z) μ0) (zA μ0)) args s 0 0 (zA μ0)) (F0 m 43 ls []) := by
  have S := X.1
  obtain ⟨hx, hb, hml, hown, hts⟩ := X.1
  intro n
  induction n with
  | zero =>
    intro x3 x4 μ H locs ls hp
    exact hp.elim
  | succ n ih =>
    intro x3 x4 μ H locs ls hp hB hl
    unfold pX0_laysMoves_43 at hp
    refine lv_iload hx hb dX0_laysMoves_43 (lv_at hl 4 rfl) ?_
    refine lv_bipush (v := (nI 9)) hx hb dX0_laysMoves_45 rfl ?_
    refine lv_icmp_ge (tgt := 75) hx hb dX0_laysMoves_47 rfl (fun c0 => ?_) (fun c0 => ?_)
    · have hp := zit hp c0
      refine lv_iinc (v := (x3 - (nI 1))) (lv' := [(3, .int (x3 - (nI 1))), (0, .ref z), (1, .int x1), (2, .int x2), (4, .int x4)]) hx hb dX0_laysMoves_75 hl (k := 3) rfl (by rw [Int32.sub_eq_add_neg]; rfl) (by decide) rfl (fun ls hl => ?_)
      refine lv_goto (tgt := 36) hx hb dX0_laysMoves_78 rfl ?_
      exact hK36 (x3 - (nI 1)) μ _ _ _ hp hB (lv_sub hl [1, 2, 3, 0] rfl)
    · have hp := zif hp c0
      refine lv_aload_n hx hb dX0_laysMoves_50 rfl (lv_at hl 0 rfl) ?_
      refine g_getr S hB (cT hB) rfl (T := TX0) (N := 33) (C := RX0) rfl in_X0 15 (by decide) (by decide) q321 (fun _ h9 => h9) (fun _ => rfl) (cA hB 7 rfl).1 dX0_laysMoves_51 ?_
      refine lv_bipush (v := (nI 9)) hx hb dX0_laysMoves_54 rfl ?_
      refine lv_iload_n hx hb dX0_laysMoves_56 rfl (lv_at hl 3 rfl) ?_
      refine lv_imul hx hb dX0_laysMoves_57 ?_
      refine lv_iload hx hb dX0_laysMoves_58 (lv_at hl 4 rfl) ?_
      refine lv_iadd hx hb dX0_laysMoves_60 ?_
      refine lv_aload_n hx hb dX0_laysMoves_61 rfl (lv_at hl 0 rfl) ?_
      refine lv_iload_n hx hb dX0_laysMoves_62 rfl (lv_at hl 3 rfl) ?_
      refine lv_iload hx hb dX0_laysMoves_63 (lv_at hl 4 rfl) ?_
      refine z_calll (va_runV (As := [.int x3, .int x4]) (rest := [.int (((nI 9) * x3) + x4), .ref (z + 60)]) S (mX0_mostFrom l Γ z x3 x4 μ _ hp) (cwV 2 hts (lw_V q1105 q1107 qs42 q127 q1108) rfl rfl rfl hX0_mostFrom ⟨Nat.le_of_ble_eq_true rfl, Nat.le_of_ble_eq_true rfl⟩) (hB.preV (cT hB) rfl rfl) rfl rfl hl.1 rfl (lv_room (Nat.le_of_ble_eq_true rfl)) dX0_laysMoves_65 ⟨Nat.le_refl _, Nat.le_refl _⟩) hB (fun r2 μ1 H locs hp hB => ?_)
      obtain ⟨hi, hp⟩ := hp
      obtain ⟨μ3, eμ3, hp⟩ := zpJ_e hp
      refine g_last S hB (cA hB 7 rfl).2 hi dX0_laysMoves_68 (fun H locs hB => ?_)
      rw [← eμ3] at hB
      refine lv_iinc (v := (x4 + (nI 1))) (lv' := [(4, .int (x4 + (nI 1))), (0, .ref z), (1, .int x1), (2, .int x2), (3, .int x3)]) hx hb dX0_laysMoves_69 hl (k := 4) rfl rfl (by decide) rfl (fun ls hl => ?_)
      refine lv_goto (tgt := 43) hx hb dX0_laysMoves_72 rfl ?_
      exact ih x3 (x4 + (nI 1)) μ3 _ _ _ hp hB (lv_sub hl [1, 2, 3, 4, 0] rfl)
def pX0_laysMoves_190 (z : Nat) (x2 : Int32) (K132 : Int32 → Int64 → Int32 → zM → Prop) (Q : Int64 → zM → Prop) (x4 : Int64) (x6 : Int32) (x7 : Int32) (y3 : Int32) (y2 : Int32) (μ : zM) : Prop := (zpI μ z 19 (y2 + y3) fun μ1 => (vp_in x6 5 ∧ zpI μ1 (z + 62) x6.toNatClampNeg x7 fun μ2 => K132 x7 x4 (x6 + (nI 1)) μ2))
set_option maxHeartbeats 4000000 in
set_option maxRecDepth 100000 in
theorem wX0_laysMoves_190 {p : Program} {l : Launch} {e : Env} {s : State} {m : MethodId} {args : Array Value} {below : List Frame} {meth : Method} {c : Code} {Γ : zG} {μ0 : zM} {Q : Int64 → zM → Prop} {K132 : Int32 → Int64 → Int32 → zM → Prop} (X : zCx p m c cX0_laysMoves 8 s args RX0 meth (some .long)) (z : Nat) (x2 : Int32) (hK132 : ∀ (x3 : Int32) (x4 : Int64) (x6 : Int32) (μ : zM) (H : Heap) (locs : List Loc) (ls : Array Slot), K132 x3 x4 x6 μ → zB Γ (cSh z) (zA μ0) μ0 s μ H locs → lv_has ls 8 [(0, .ref z), (2, .int x2), (3, .int x3), (4, .long x4), (6, .int x6)] → W p l e ({ frames := 465, cells := 0, slots := 0, locals := 12539 } : Room) s m args below meth c H locs 0 0 (MQ below (va_Ql Q (zPost Γ (cSh z) μ0) (zA μ0)) args s 0 0 (zA μ0)) (F0 m 132 ls [])) : ∀ (x4 : Int64) (x6 : Int32) (x7 : Int32) (y3 : Int32) (y2 : Int32) (μ : zM) (H : Heap) (locs : List Loc) (ls : Array Slot), pX0_laysMoves_190 z x2 K132 Q x4 x6 x7 y3 y2 μ → zB Γ (cSh z) (zA μ0) μ0 s μ H locs → lv_has ls 8 [(0, .ref z), (2, .int x2), (4, .long x4), (6, .int x6), (7, .int x7)] → W p l e ({ frames := 465, cells := 0, slots := 0, locals := 12539 } : Room) s m args below meth c H locs 0 0 (MQ below (va_Ql Q (zPost Γ (cSh z) μ0) (zA μ0)) args s 0 0 (zA μ0)) (F0 m 190 ls [.int y3, .int y2, .ref z]) := by
  have S := X.1
  obtain ⟨hx, hb, hml, hown, hts⟩ := X.1
  intro x4 x6 x7 y3 y2 μ H locs ls hp hB hl
  unfold pX0_laysMoves_190 at hp
  refine lv_iadd hx hb dX0_laysMoves_190 ?_
  obtain ⟨μ1, eμ1, hp⟩ := zpI_e hp
  refine g_putI S hB (cT hB) rfl (T := TX0) (N := 33) (C := RX0) rfl in_X0 19 (by decide) (by decide) (x := (y2 + y3)) tyX0 tyX0_ok nmX0 q325 (fun _ h9 => h9) rfl (ty := .int) (by decide +kernel) rfl rfl (fun _ _ => rfl) dX0_laysMoves_191 (fun H locs hB => ?_)
  rw [← eμ1] at hB
  refine lv_aload_n hx hb dX0_laysMoves_194 rfl (lv_at hl 0 rfl) ?_
  refine g_getr S hB (cT hB) rfl (T := TX0) (N := 33) (C := RX0) rfl in_X0 17 (by decide) (by decide) q323 (fun _ h9 => h9) (fun _ => rfl) (cA hB 9 rfl).1 dX0_laysMoves_195 ?_
  refine lv_iload hx hb dX0_laysMoves_198 (lv_at hl 3 rfl) ?_
  refine lv_iload hx hb dX0_laysMoves_200 (lv_at hl 4 rfl) ?_
  obtain ⟨hi, hp⟩ := hp
  obtain ⟨μ2, eμ2, hp⟩ := zpI_e hp
  refine g_iast S hB (cA hB 9 rfl).2 hi dX0_laysMoves_202 (fun H locs hB => ?_)
  rw [← eμ2] at hB
  refine lv_iload hx hb dX0_laysMoves_203 (lv_at hl 4 rfl) ?_
  refine lv_istore_n (lv' := [(3, .int x7), (0, .ref z), (2, .int x2), (4, .long x4), (6, .int x6), (7, .int x7)]) hx hb dX0_laysMoves_205 rfl hl (by decide) rfl (fun ls hl => ?_)
  refine lv_iinc (v := (x6 + (nI 1))) (lv' := [(6, .int (x6 + (nI 1))), (3, .int x7), (0, .ref z), (2, .int x2), (4, .long x4), (7, .int x7)]) hx hb dX0_laysMoves_206 hl (k := 4) rfl rfl (by decide) rfl (fun ls hl => ?_)
  refine lv_goto (tgt := 132) hx hb dX0_laysMoves_209 rfl ?_
  exact hK132 x7 x4 (x6 + (nI 1)) μ2 _ _ _ hp hB (lv_sub hl [2, 3, 1, 4, 0] rfl)
def pX0_laysMoves_142 (z : Nat) (x2 : Int32) (K132 : Int32 → Int64 → Int32 → zM → Prop) (Q : Int64 → zM → Prop) : Nat → Int32 → Int64 → Int32 → Int32 → zM → Prop
  | 0, _, _, _, _, _ => False
  | n + 1, x3, x4, x6, x7, μ => (pX0_isFirst z x6 x3 x7 μ fun r2 μ1 => (if r2 = 0 then (if x7 = (nI 8) then pX0_laysMoves_142 z x2 K132 Q n x3 x4 x6 (nI 0) μ1 else pX0_laysMoves_142 z x2 K132 Q n x3 x4 x6 (x7 + (nI 1)) μ1) else (if x7 = x3 then pX0_laysMoves_190 z x2 K132 Q x4 x6 x7 (nI 0) (zI μ1 z 19) μ1 else pX0_laysMoves_190 z x2 K132 Q x4 x6 x7 (nI 1) (zI μ1 z 19) μ1)))
set_option maxHeartbeats 4000000 in
set_option maxRecDepth 100000 in
theorem wX0_laysMoves_142 {p : Program} {l : Launch} {e : Env} {s : State} {m : MethodId} {args : Array Value} {below : List Frame} {meth : Method} {c : Code} {Γ : zG} {μ0 : zM} {Q : Int64 → zM → Prop} {K132 : Int32 → Int64 → Int32 → zM → Prop} (X : zCx p m c cX0_laysMoves 8 s args RX0 meth (some .long)) (z : Nat) (x2 : Int32) (hK132 : ∀ (x3 : Int32) (x4 : Int64) (x6 : Int32) (μ : zM) (H : Heap) (locs : List Loc) (ls : Array Slot), K132 x3 x4 x6 μ → zB Γ (cSh z) (zA μ0) μ0 s μ H locs → lv_has ls 8 [(0, .ref z), (2, .int x2), (3, .int x3), (4, .long x4), (6, .int x6)] → W p l e ({ frames := 465, cells := 0, slots := 0, locals := 12539 } : Room) s m args below meth c H locs 0 0 (MQ below (va_Ql Q (zPost Γ (cSh z) μ0) (zA μ0)) args s 0 0 (zA μ0)) (F0 m 132 ls [])) : ∀ (n : Nat) (x3 : Int32) (x4 : Int64) (x6 : Int32) (x7 : Int32) (μ : zM) (H : Heap) (locs : List Loc) (ls : Array Slot), pX0_laysMoves_142 z x2 K132 Q n x3 x4 x6 x7 μ → zB Γ (cSh z) (zA μ0) μ0 s μ H locs → lv_has ls 8 [(0, .ref z), (2, .int x2), (3, .int x3), (4, .long x4), (6, .int x6), (7, .int x7)] → W p l e ({ frames := 465, cells := 0, slots := 0, locals := 12539 } : Room) s m args below meth c H locs 0 0 (MQ below (va_Ql Q (zPost Γ (cSh z) μ0) (zA μ0)) args s 0 0 (zA μ0)) (F0 m 142 ls []) := by
  have S := X.1
  obtain ⟨hx, hb, hml, hown, hts⟩ := X.1
  intro n
  induction n with
  | zero =>
    intro x3 x4 x6 x7 μ H locs ls hp
    exact hp.elim
  | succ n ih =>
    intro x3 x4 x6 x7 μ H locs ls hp hB hl
    unfold pX0_laysMoves_142 at hp
    refine lv_aload_n hx hb dX0_laysMoves_142 rfl (lv_at hl 0 rfl) ?_
    refine lv_iload hx hb dX0_laysMoves_143 (lv_at hl 4 rfl) ?_
    refine lv_iload_n hx hb dX0_laysMoves_145 rfl (lv_at hl 2 rfl) ?_
    refine lv_iload hx hb dX0_laysMoves_146 (lv_at hl 5 rfl) ?_
    refine z_calli (va_runV (As := [.int x6, .int x3, .int x7]) (rest := []) S (mX0_isFirst l Γ z x6 x3 x7 μ _ hp) (cwV 3 hts (lw_V q1119 q1121 qs45 q127 q1122) rfl rfl rfl hX0_isFirst ⟨Nat.le_of_ble_eq_true rfl, Nat.le_of_ble_eq_true rfl⟩) (hB.preV (cT hB) rfl rfl) rfl rfl hl.1 rfl (lv_room (Nat.le_of_ble_eq_true rfl)) dX0_laysMoves_148 ⟨Nat.le_refl _, Nat.le_refl _⟩) hB (fun r2 μ1 H locs hp hB => ?_)
    refine lv_if_ne (tgt := 174) hx hb dX0_laysMoves_151 rfl (fun c0 => ?_) (fun c0 => ?_)
    · have hp := zif hp c0
      refine lv_aload_n hx hb dX0_laysMoves_174 rfl (lv_at hl 0 rfl) ?_
      refine lv_dup hx hb dX0_laysMoves_175 rfl ?_
      refine g_get S hB (cT hB) rfl (T := TX0) (N := 33) (C := RX0) rfl in_X0 19 (by decide) (by decide) q325 (fun _ h9 => h9) (v := .int (zI μ1 z 19)) rfl dX0_laysMoves_176 ?_
      refine lv_iload hx hb dX0_laysMoves_179 (lv_at hl 5 rfl) ?_
      refine lv_iload_n hx hb dX0_laysMoves_181 rfl (lv_at hl 2 rfl) ?_
      refine lv_icmp_ne (tgt := 189) hx hb dX0_laysMoves_182 rfl (fun c0 => ?_) (fun c0 => ?_)
      · have hp := zif hp c0
        refine lv_iconst (v := (nI 1)) hx hb dX0_laysMoves_189 rfl ?_
        exact wX0_laysMoves_190 X z x2 hK132 x4 x6 x7 (nI 1) (zI μ1 z 19) μ1 _ _ _ hp hB (lv_sub hl [0, 1, 3, 4, 5] rfl)
      · have hp := zit hp c0
        refine lv_iconst (v := (nI 0)) hx hb dX0_laysMoves_185 rfl ?_
        refine lv_goto (tgt := 190) hx hb dX0_laysMoves_186 rfl ?_
        exact wX0_laysMoves_190 X z x2 hK132 x4 x6 x7 (nI 0) (zI μ1 z 19) μ1 _ _ _ hp hB (lv_sub hl [0, 1, 3, 4, 5] rfl)
    · have hp := zit hp c0
      refine lv_iload hx hb dX0_laysMoves_154 (lv_at hl 5 rfl) ?_
      refine lv_bipush (v := (nI 8)) hx hb dX0_laysMoves_156 rfl ?_
      refine lv_icmp_ne (tgt := 165) hx hb dX0_laysMoves_158 rfl (fun c0 => ?_) (fun c0 => ?_)
      · have hp := zif hp c0
        refine lv_iload hx hb dX0_laysMoves_165 (lv_at hl 5 rfl) ?_
        refine lv_iconst (v := (nI 1)) hx hb dX0_laysMoves_167 rfl ?_
        refine lv_iadd hx hb dX0_laysMoves_168 ?_
        refine lv_istore (lv' := [(7, .int (x7 + (nI 1))), (0, .ref z), (2, .int x2), (3, .int x3), (4, .long x4), (6, .int x6)]) hx hb dX0_laysMoves_169 hl (by decide) rfl (fun ls hl => ?_)
        refine lv_goto (tgt := 142) hx hb dX0_laysMoves_171 rfl ?_
        exact ih x3 x4 x6 (x7 + (nI 1)) μ1 _ _ _ hp hB (lv_sub hl [1, 2, 3, 4, 5, 0] rfl)
      · have hp := zit hp c0
        refine lv_iconst (v := (nI 0)) hx hb dX0_laysMoves_161 rfl ?_
        refine lv_goto (tgt := 169) hx hb dX0_laysMoves_162 rfl ?_
        refine lv_istore (lv' := [(7, .int (nI 0)), (0, .ref z), (2, .int x2), (3, .int x3), (4, .long x4), (6, .int x6)]) hx hb dX0_laysMoves_169 hl (by decide) rfl (fun ls hl => ?_)
        refine lv_goto (tgt := 142) hx hb dX0_laysMoves_171 rfl ?_
        exact ih x3 x4 x6 (nI 0) μ1 _ _ _ hp hB (lv_sub hl [1, 2, 3, 4, 5, 0] rfl)
def pX0_laysMoves_132 (z : Nat) (x2 : Int32) (Q : Int64 → zM → Prop) : Nat → Int32 → Int64 → Int32 → zM → Prop
  | 0, _, _, _, _ => False
  | n + 1, x3, x4, x6, μ => (if x2 ≤ x6 then Q x4 μ else ∃ k1, pX0_laysMoves_142 z x2 (fun v0 v1 v2 ν => pX0_laysMoves_132 z x2 Q n v0 v1 v2 ν) Q k1 x3 x4 x6 (nI 8) μ)
set_option maxHeartbeats 4000000 in
set_option maxRecDepth 100000 in
theorem wX0_laysMoves_132 {p : Program} {l : Launch} {e : Env} {s : State} {m : MethodId} {args : Array Value} {below : List Frame} {meth : Method} {c : Code} {Γ : zG} {μ0 : zM} {Q : Int64 → zM → Prop} (X : zCx p m c cX0_laysMoves 8 s args RX0 meth (some .long)) (z : Nat) (x2 : Int32) : ∀ (n : Nat) (x3 : Int32) (x4 : Int64) (x6 : Int32) (μ : zM) (H : Heap) (locs : List Loc) (ls : Array Slot), pX0_laysMoves_132 z x2 Q n x3 x4 x6 μ → zB Γ (cSh z) (zA μ0) μ0 s μ H locs → lv_has ls 8 [(0, .ref z), (2, .int x2), (3, .int x3), (4, .long x4), (6, .int x6)] → W p l e ({ frames := 465, cells := 0, slots := 0, locals := 12539 } : Room) s m args below meth c H locs 0 0 (MQ below (va_Ql Q (zPost Γ (cSh z) μ0) (zA μ0)) args s 0 0 (zA μ0)) (F0 m 132 ls []) := by
  have S := X.1
  obtain ⟨hx, hb, hml, hown, hts⟩ := X.1
  intro n
  induction n with
  | zero =>
    intro x3 x4 x6 μ H locs ls hp
    exact hp.elim
  | succ n ih =>
    intro x3 x4 x6 μ H locs ls hp hB hl
    unfold pX0_laysMoves_132 at hp
    refine lv_iload hx hb dX0_laysMoves_132 (lv_at hl 4 rfl) ?_
    refine lv_iload_n hx hb dX0_laysMoves_134 rfl (lv_at hl 1 rfl) ?_
    refine lv_icmp_ge (tgt := 212) hx hb dX0_laysMoves_135 rfl (fun c0 => ?_) (fun c0 => ?_)
    · have hp := zit hp c0
      refine lv_lload hx hb dX0_laysMoves_212 (lv_at hl 3 rfl) ?_
      exact zret_l X hB hp dX0_laysMoves_214
    · have hp := zif hp c0
      refine lv_bipush (v := (nI 8)) hx hb dX0_laysMoves_138 rfl ?_
      refine lv_istore (lv' := [(7, .int (nI 8)), (0, .ref z), (2, .int x2), (3, .int x3), (4, .long x4), (6, .int x6)]) hx hb dX0_laysMoves_140 hl (by decide) rfl (fun ls hl => ?_)
      obtain ⟨n1, hp⟩ := hp
      exact wX0_laysMoves_142 X z x2 (fun v0 v1 v2 ν H2 L2 ls2 h2 b2 l2 => ih v0 v1 v2 ν H2 L2 ls2 h2 b2 l2) n1 x3 x4 x6 (nI 8) μ _ _ _ hp hB (lv_sub hl [1, 2, 3, 4, 5, 0] rfl)
def pX0_laysMoves_108 (z : Nat) (x2 : Int32) (Q : Int64 → zM → Prop) (y1 : Int32) (μ : zM) : Prop := (vp_in y1 54 ∧ (vp_in y1 54 ∧ znm ((zJ μ (z + 59) y1.toNatClampNeg) + (zJ μ (z + 60) y1.toNatClampNeg)) fun v1 => (zpI μ z 19 (nI 0) fun μ2 => ∃ k1, pX0_laysMoves_132 z x2 Q k1 y1 v1 (nI 0) μ2)))
set_option maxHeartbeats 4000000 in
set_option maxRecDepth 100000 in
theorem wX0_laysMoves_108 {p : Program} {l : Launch} {e : Env} {s : State} {m : MethodId} {args : Array Value} {below : List Frame} {meth : Method} {c : Code} {Γ : zG} {μ0 : zM} {Q : Int64 → zM → Prop} (X : zCx p m c cX0_laysMoves 8 s args RX0 meth (some .long)) (z : Nat) (x2 : Int32) : ∀ (y1 : Int32) (μ : zM) (H : Heap) (locs : List Loc) (ls : Array Slot), pX0_laysMoves_108 z x2 Q y1 μ → zB Γ (cSh z) (zA μ0) μ0 s μ H locs → lv_has ls 8 [(0, .ref z), (2, .int x2)] → W p l e ({ frames := 465, cells := 0, slots := 0, locals := 12539 } : Room) s m args below meth c H locs 0 0 (MQ below (va_Ql Q (zPost Γ (cSh z) μ0) (zA μ0)) args s 0 0 (zA μ0)) (F0 m 108 ls [.int y1]) := by
  have S := X.1
  obtain ⟨hx, hb, hml, hown, hts⟩ := X.1
  intro y1 μ H locs ls hp hB hl
  unfold pX0_laysMoves_108 at hp
  refine lv_istore_n (lv' := [(3, .int y1), (0, .ref z), (2, .int x2)]) hx hb dX0_laysMoves_108 rfl hl (by decide) rfl (fun ls hl => ?_)
  refine lv_aload_n hx hb dX0_laysMoves_109 rfl (lv_at hl 1 rfl) ?_
  refine g_getr S hB (cT hB) rfl (T := TX0) (N := 33) (C := RX0) rfl in_X0 14 (by decide) (by decide) q320 (fun _ h9 => h9) (fun _ => rfl) (cA hB 6 rfl).1 dX0_laysMoves_110 ?_
  refine lv_iload_n hx hb dX0_laysMoves_113 rfl (lv_at hl 0 rfl) ?_
  obtain ⟨hi, hp⟩ := hp
  refine g_lald S hB (cA hB 6 rfl).2 hi dX0_laysMoves_114 ?_
  refine lv_aload_n hx hb dX0_laysMoves_115 rfl (lv_at hl 1 rfl) ?_
  refine g_getr S hB (cT hB) rfl (T := TX0) (N := 33) (C := RX0) rfl in_X0 15 (by decide) (by decide) q321 (fun _ h9 => h9) (fun _ => rfl) (cA hB 7 rfl).1 dX0_laysMoves_116 ?_
  refine lv_iload_n hx hb dX0_laysMoves_119 rfl (lv_at hl 0 rfl) ?_
  obtain ⟨hi, hp⟩ := hp
  refine g_lald S hB (cA hB 7 rfl).2 hi dX0_laysMoves_120 ?_
  refine lv_ladd hx hb dX0_laysMoves_121 ?_
  obtain ⟨v1, ev1, hp⟩ := znm_e hp
  rw [← ev1]
  refine lv_lstore (lv' := [(4, .long v1), (3, .int y1), (0, .ref z), (2, .int x2)]) hx hb dX0_laysMoves_122 hl (by decide) rfl (fun ls hl => ?_)
  refine lv_aload_n hx hb dX0_laysMoves_124 rfl (lv_at hl 2 rfl) ?_
  refine lv_iconst (v := (nI 0)) hx hb dX0_laysMoves_125 rfl ?_
  obtain ⟨μ2, eμ2, hp⟩ := zpI_e hp
  refine g_putI S hB (cT hB) rfl (T := TX0) (N := 33) (C := RX0) rfl in_X0 19 (by decide) (by decide) (x := (nI 0)) tyX0 tyX0_ok nmX0 q325 (fun _ h9 => h9) rfl (ty := .int) (by decide +kernel) rfl rfl (fun _ _ => rfl) dX0_laysMoves_126 (fun H locs hB => ?_)
  rw [← eμ2] at hB
  refine lv_iconst (v := (nI 0)) hx hb dX0_laysMoves_129 rfl ?_
  refine lv_istore (lv' := [(6, .int (nI 0)), (4, .long v1), (3, .int y1), (0, .ref z), (2, .int x2)]) hx hb dX0_laysMoves_130 hl (by decide) rfl (fun ls hl => ?_)
  obtain ⟨n1, hp⟩ := hp
  exact wX0_laysMoves_132 X z x2 n1 y1 v1 (nI 0) μ2 _ _ _ hp hB (lv_sub hl [3, 4, 2, 1, 0] rfl)
def pX0_laysMoves_36 (z : Nat) (x1 : Int32) (x2 : Int32) (Q : Int64 → zM → Prop) : Nat → Int32 → zM → Prop
  | 0, _, _ => False
  | n + 1, x3, μ => (if x3 < 0 then (vp_in x1 6 ∧ (if (zI μ ((z + 7) + 1) x1.toNatClampNeg) = (-1 : Int32) then pX0_laysMoves_108 z x2 Q (nI 8) μ else (vp_in x1 6 ∧ pX0_laysMoves_108 z x2 Q (zI μ ((z + 7) + 1) x1.toNatClampNeg) μ))) else ∃ k1, pX0_laysMoves_43 z x1 x2 (fun v0 ν => pX0_laysMoves_36 z x1 x2 Q n v0 ν) Q k1 x3 (nI 0) μ)
set_option maxHeartbeats 4000000 in
set_option maxRecDepth 100000 in
theorem wX0_laysMoves_36 {p : Program} {l : Launch} {e : Env} {s : State} {m : MethodId} {args : Array Value} {below : List Frame} {meth : Method} {c : Code} {Γ : zG} {μ0 : zM} {Q : Int64 → zM → Prop} (X : zCx p m c cX0_laysMoves 8 s args RX0 meth (some .long)) (z : Nat) (x1 : Int32) (x2 : Int32) : ∀ (n : Nat) (x3 : Int32) (μ : zM) (H : Heap) (locs : List Loc) (ls : Array Slot), pX0_laysMoves_36 z x1 x2 Q n x3 μ → zB Γ (cSh z) (zA μ0) μ0 s μ H locs → lv_has ls 8 [(0, .ref z), (1, .int x1), (2, .int x2), (3, .int x3)] → W p l e ({ frames := 465, cells := 0, slots := 0, locals := 12539 } : Room) s m args below meth c H locs 0 0 (MQ below (va_Ql Q (zPost Γ (cSh z) μ0) (zA μ0)) args s 0 0 (zA μ0)) (F0 m 36 ls []) := by
  have S := X.1
  obtain ⟨hx, hb, hml, hown, hts⟩ := X.1
  intro n
  induction n with
  | zero =>
    intro x3 μ H locs ls hp
    exact hp.elim
  | succ n ih =>
    intro x3 μ H locs ls hp hB hl
    unfold pX0_laysMoves_36 at hp
    refine lv_iload_n hx hb dX0_laysMoves_36 rfl (lv_at hl 3 rfl) ?_
    refine lv_if_lt (tgt := 81) hx hb dX0_laysMoves_37 rfl (fun c0 => ?_) (fun c0 => ?_)
    · have hp := zit hp c0
      refine lv_aload_n hx hb dX0_laysMoves_81 rfl (lv_at hl 0 rfl) ?_
      refine g_getr S hB (cT hB) rfl (T := TX0) (N := 33) (C := RX0) rfl in_X0 1 (by decide) (by decide) q305 (fun _ h9 => h9) (fun _ => rfl) (cA hB 0 rfl).1 dX0_laysMoves_82 ?_
      refine g_getrN S hB (cA hB 0 rfl).2 rfl (T := TX2) (N := 8) (C := RX2) rfl in_X2 0 (by decide) (by decide) (zNFw hB 5 rfl) (fun _ h9 => h9) (fun _ => rfl) (cS2 hB (cA hB 0 rfl).2 0 rfl).1 dX0_laysMoves_85 ?_
      refine lv_iload_n hx hb dX0_laysMoves_88 rfl (lv_at hl 1 rfl) ?_
      obtain ⟨hi, hp⟩ := hp
      refine g_iald S hB (cS2 hB (cA hB 0 rfl).2 0 rfl).2 hi dX0_laysMoves_89 ?_
      refine lv_iconst (v := (-1 : Int32)) hx hb dX0_laysMoves_90 rfl ?_
      refine lv_icmp_ne (tgt := 99) hx hb dX0_laysMoves_91 rfl (fun c0 => ?_) (fun c0 => ?_)
      · have hp := zif hp c0
        refine lv_aload_n hx hb dX0_laysMoves_99 rfl (lv_at hl 0 rfl) ?_
        refine g_getr S hB (cT hB) rfl (T := TX0) (N := 33) (C := RX0) rfl in_X0 1 (by decide) (by decide) q305 (fun _ h9 => h9) (fun _ => rfl) (cA hB 0 rfl).1 dX0_laysMoves_100 ?_
        refine g_getrN S hB (cA hB 0 rfl).2 rfl (T := TX2) (N := 8) (C := RX2) rfl in_X2 0 (by decide) (by decide) (zNFw hB 5 rfl) (fun _ h9 => h9) (fun _ => rfl) (cS2 hB (cA hB 0 rfl).2 0 rfl).1 dX0_laysMoves_103 ?_
        refine lv_iload_n hx hb dX0_laysMoves_106 rfl (lv_at hl 1 rfl) ?_
        obtain ⟨hi, hp⟩ := hp
        refine g_iald S hB (cS2 hB (cA hB 0 rfl).2 0 rfl).2 hi dX0_laysMoves_107 ?_
        exact wX0_laysMoves_108 X z x2 (zI μ ((z + 7) + 1) x1.toNatClampNeg) μ _ _ _ hp hB (lv_sub hl [0, 2] rfl)
      · have hp := zit hp c0
        refine lv_bipush (v := (nI 8)) hx hb dX0_laysMoves_94 rfl ?_
        refine lv_goto (tgt := 108) hx hb dX0_laysMoves_96 rfl ?_
        exact wX0_laysMoves_108 X z x2 (nI 8) μ _ _ _ hp hB (lv_sub hl [0, 2] rfl)
    · have hp := zif hp c0
      refine lv_iconst (v := (nI 0)) hx hb dX0_laysMoves_40 rfl ?_
      refine lv_istore (lv' := [(4, .int (nI 0)), (0, .ref z), (1, .int x1), (2, .int x2), (3, .int x3)]) hx hb dX0_laysMoves_41 hl (by decide) rfl (fun ls hl => ?_)
      obtain ⟨n1, hp⟩ := hp
      exact wX0_laysMoves_43 X z x1 x2 (fun v0 ν H2 L2 ls2 h2 b2 l2 => ih v0 ν H2 L2 ls2 h2 b2 l2) n1 x3 (nI 0) μ _ _ _ hp hB (lv_sub hl [1, 2, 3, 4, 0] rfl)
def pX0_laysMoves_8 (z : Nat) (x1 : Int32) (x2 : Int32) (Q : Int64 → zM → Prop) : Nat → Int32 → zM → Prop
  | 0, _, _ => False
  | n + 1, x3, μ => (if (nI 9) ≤ x3 then ∃ k1, pX0_laysMoves_36 z x1 x2 Q k1 (x2 - (nI 1)) μ else (vp_in (((nI 9) * x2) + x3) 54 ∧ zpJ μ (z + 60) (((nI 9) * x2) + x3).toNatClampNeg (0 : Int64) fun μ1 => pX0_laysMoves_8 z x1 x2 Q n (x3 + (nI 1)) μ1))
set_option maxHeartbeats 4000000 in
set_option maxRecDepth 100000 in
theorem wX0_laysMoves_8 {p : Program} {l : Launch} {e : Env} {s : State} {m : MethodId} {args : Array Value} {below : List Frame} {meth : Method} {c : Code} {Γ : zG} {μ0 : zM} {Q : Int64 → zM → Prop} (X : zCx p m c cX0_laysMoves 8 s args RX0 meth (some .long)) (z : Nat) (x1 : Int32) (x2 : Int32) : ∀ (n : Nat) (x3 : Int32) (μ : zM) (H : Heap) (locs : List Loc) (ls : Array Slot), pX0_laysMoves_8 z x1 x2 Q n x3 μ → zB Γ (cSh z) (zA μ0) μ0 s μ H locs → lv_has ls 8 [(0, .ref z), (1, .int x1), (2, .int x2), (3, .int x3)] → W p l e ({ frames := 465, cells := 0, slots := 0, locals := 12539 } : Room) s m args below meth c H locs 0 0 (MQ below (va_Ql Q (zPost Γ (cSh z) μ0) (zA μ0)) args s 0 0 (zA μ0)) (F0 m 8 ls []) := by
  have S := X.1
  obtain ⟨hx, hb, hml, hown, hts⟩ := X.1
  intro n
  induction n with
  | zero =>
    intro x3 μ H locs ls hp
    exact hp.elim
  | succ n ih =>
    intro x3 μ H locs ls hp hB hl
    unfold pX0_laysMoves_8 at hp
    refine lv_iload_n hx hb dX0_laysMoves_8 rfl (lv_at hl 3 rfl) ?_
    refine lv_bipush (v := (nI 9)) hx hb dX0_laysMoves_9 rfl ?_
    refine lv_icmp_ge (tgt := 32) hx hb dX0_laysMoves_11 rfl (fun c0 => ?_) (fun c0 => ?_)
    · have hp := zit hp c0
      refine lv_iload_n hx hb dX0_laysMoves_32 rfl (lv_at hl 2 rfl) ?_
      refine lv_iconst (v := (nI 1)) hx hb dX0_laysMoves_33 rfl ?_
      refine lv_isub hx hb dX0_laysMoves_34 ?_
      refine lv_istore_n (lv' := [(3, .int (x2 - (nI 1))), (0, .ref z), (1, .int x1), (2, .int x2)]) hx hb dX0_laysMoves_35 rfl hl (by decide) rfl (fun ls hl => ?_)
      obtain ⟨n1, hp⟩ := hp
      exact wX0_laysMoves_36 X z x1 x2 n1 (x2 - (nI 1)) μ _ _ _ hp hB (lv_sub hl [1, 2, 3, 0] rfl)
    · have hp := zif hp c0
      refine lv_aload_n hx hb dX0_laysMoves_14 rfl (lv_at hl 0 rfl) ?_
      refine g_getr S hB (cT hB) rfl (T := TX0) (N := 33) (C := RX0) rfl in_X0 15 (by decide) (by decide) q321 (fun _ h9 => h9) (fun _ => rfl) (cA hB 7 rfl).1 dX0_laysMoves_15 ?_
      refine lv_bipush (v := (nI 9)) hx hb dX0_laysMoves_18 rfl ?_
      refine lv_iload_n hx hb dX0_laysMoves_20 rfl (lv_at hl 2 rfl) ?_
      refine lv_imul hx hb dX0_laysMoves_21 ?_
      refine lv_iload_n hx hb dX0_laysMoves_22 rfl (lv_at hl 3 rfl) ?_
      refine lv_iadd hx hb dX0_laysMoves_23 ?_
      refine lv_lconst (v := (0 : Int64)) hx hb dX0_laysMoves_24 rfl ?_
      obtain ⟨hi, hp⟩ := hp
      obtain ⟨μ1, eμ1, hp⟩ := zpJ_e hp
      refine g_last S hB (cA hB 7 rfl).2 hi dX0_laysMoves_25 (fun H locs hB => ?_)
      rw [← eμ1] at hB
      refine lv_iinc (v := (x3 + (nI 1))) (lv' := [(3, .int (x3 + (nI 1))), (0, .ref z), (1, .int x1), (2, .int x2)]) hx hb dX0_laysMoves_26 hl (k := 3) rfl rfl (by decide) rfl (fun ls hl => ?_)
      refine lv_goto (tgt := 8) hx hb dX0_laysMoves_29 rfl ?_
      exact ih (x3 + (nI 1)) μ1 _ _ _ hp hB (lv_sub hl [1, 2, 3, 0] rfl)
def pX0_laysMoves (z : Nat) (x1 : Int32) (x2 : Int32) (μ : zM) (Q : Int64 → zM → Prop) : Prop := (pX0_laysStays z x1 x2 μ fun μ1 => ∃ k1, pX0_laysMoves_8 z x1 x2 Q k1 (nI 0) μ1)
theorem hX0_laysMoves : yX0_laysMoves.cls = "SunkTower" ∧ yX0_laysMoves.cls ≠ "java/lang/invoke/MethodHandle" ∧ yX0_laysMoves.cls ≠ "java/lang/invoke/VarHandle" ∧ (parseMethodDescriptor yX0_laysMoves.desc).map (fun d => d.parameters.length) = some 2 := by decide +kernel
set_option maxHeartbeats 4000000 in
set_option maxRecDepth 100000 in
theorem mX0_laysMoves (l : Launch) (Γ : zG) (z : Nat) (x1 : Int32) (x2 : Int32) (μ : zM) (Q : Int64 → zM → Prop) (hp : pX0_laysMoves z x1 x2 μ Q) : Met l yX0_laysMoves (ws_ yX0_laysMoves cX0_laysMoves 8 (some .long)) ({ frames := 465, cells := 0, slots := 0, locals := 12539 } : Room) (va_Pc [.ref z, .int x1, .int x2] (zPre Γ (cSh z) μ)) (va_Ql Q (zPost Γ (cSh z) μ) (zA μ)) 0 0 (zA μ) := by
  refine zstart (by decide) (Nat.le_of_ble_eq_true rfl) ?_
  intro p e s m below meth c ls X hnm hB hl
  have X : zCx p m c cX0_laysMoves 8 s [.ref z, .int x1, .int x2].toArray RX0 meth (some .long) := X
  have S := X.1
  obtain ⟨hx, hb, hml, hown, hts⟩ := X.1
  have hl : lv_has ls 8 [(0, .ref z), (1, .int x1), (2, .int x2)] := hl
  unfold pX0_laysMoves at hp
  refine lv_aload_n hx hb dX0_laysMoves_0 rfl (lv_at hl 0 rfl) ?_
  refine lv_iload_n hx hb dX0_laysMoves_1 rfl (lv_at hl 1 rfl) ?_
  refine lv_iload_n hx hb dX0_laysMoves_2 rfl (lv_at hl 2 rfl) ?_
  refine z_callv (va_runV (As := [.int x1, .int x2]) (rest := []) S (mX0_laysStays l Γ z x1 x2 μ _ hp) (cwV 2 hts (lw_V q1095 q1097 qs40 q127 q1098) rfl rfl rfl hX0_laysStays ⟨Nat.le_of_ble_eq_true rfl, Nat.le_of_ble_eq_true rfl⟩) (hB.preV (cT hB) rfl rfl) rfl rfl hl.1 rfl (lv_room (Nat.le_of_ble_eq_true rfl)) dX0_laysMoves_3 ⟨Nat.le_refl _, Nat.le_refl _⟩) hB (fun μ1 H locs hp hB => ?_)
  refine lv_iconst (v := (nI 0)) hx hb dX0_laysMoves_6 rfl ?_
  refine lv_istore_n (lv' := [(3, .int (nI 0)), (0, .ref z), (1, .int x1), (2, .int x2)]) hx hb dX0_laysMoves_7 rfl hl (by decide) rfl (fun ls hl => ?_)
  obtain ⟨n1, hp⟩ := hp
  exact wX0_laysMoves_8 X z x1 x2 n1 (nI 0) μ1 _ _ _ hp hB (lv_sub hl [1, 2, 3, 0] rfl)
def pX0_goesTo (z : Nat) (x1 : Int32) (x2 : Int32) (x3 : Int32) (μ : zM) (Q : Int32 → zM → Prop) : Prop := (pX0_isTenant z x1 μ fun r2 μ1 => (if r2 = 0 then Q (-2 : Int32) μ1 else (pX0_in z (x2.toInt64) (1 : Int64) (5 : Int64) μ1 fun r4 μ3 => (if r4 = 0 then Q (-3 : Int32) μ3 else (if 0 ≤ x3 then (pX0_laysMoves z x1 x2 μ3 fun r6 μ5 => (if x2 ≤ x3 then Q (-1 : Int32) μ5 else (vp_in x3 5 ∧ (if (nI 8) ≤ (zI μ5 (z + 62) x3.toNatClampNeg) then Q (-1 : Int32) μ5 else (vp_in x3 5 ∧ Q (zI μ5 (z + 62) x3.toNatClampNeg) μ5))))) else Q (-3 : Int32) μ3)))))
theorem hX0_goesTo : yX0_goesTo.cls = "SunkTower" ∧ yX0_goesTo.cls ≠ "java/lang/invoke/MethodHandle" ∧ yX0_goesTo.cls ≠ "java/lang/invoke/VarHandle" ∧ (parseMethodDescriptor yX0_goesTo.desc).map (fun d => d.parameters.length) = some 3 := by decide +kernel
set_option maxHeartbeats 4000000 in
set_option maxRecDepth 100000 in
theorem mX0_goesTo (l : Launch) (Γ : zG) (z : Nat) (x1 : Int32) (x2 : Int32) (x3 : Int32) (μ : zM) (Q : Int32 → zM → Prop) (hp : pX0_goesTo z x1 x2 x3 μ Q) : Met l yX0_goesTo (ws_ yX0_goesTo cX0_goesTo 4 (some .int)) ({ frames := 466, cells := 0, slots := 0, locals := 12566 } : Room) (va_Pc [.ref z, .int x1, .int x2, .int x3] (zPre Γ (cSh z) μ)) (va_Qi Q (zPost Γ (cSh z) μ) (zA μ)) 0 0 (zA μ) := by
  refine zstart (by decide) (Nat.le_of_ble_eq_true rfl) ?_
  intro p e s m below meth c ls X hnm hB hl
  have X : zCx p m c cX0_goesTo 4 s [.ref z, .int x1, .int x2, .int x3].toArray RX0 meth (some .int) := X
  have S := X.1
  obtain ⟨hx, hb, hml, hown, hts⟩ := X.1
  have hl : lv_has ls 4 [(0, .ref z), (1, .int x1), (2, .int x2), (3, .int x3)] := hl
  unfold pX0_goesTo at hp
  refine lv_aload_n hx hb dX0_goesTo_0 rfl (lv_at hl 0 rfl) ?_
  refine lv_iload_n hx hb dX0_goesTo_1 rfl (lv_at hl 1 rfl) ?_
  refine z_calli (va_runV (As := [.int x1]) (rest := []) S (mX0_isTenant l Γ z x1 μ _ hp) (cwV 1 hts (lw_V q768 q770 qs27 q127 q771) rfl rfl rfl hX0_isTenant ⟨Nat.le_of_ble_eq_true rfl, Nat.le_of_ble_eq_true rfl⟩) (hB.preV (cT hB) rfl rfl) rfl rfl hl.1 rfl (lv_room (Nat.le_of_ble_eq_true rfl)) dX0_goesTo_2 ⟨Nat.le_refl _, Nat.le_refl _⟩) hB (fun r2 μ1 H locs hp hB => ?_)
  refine lv_if_ne (tgt := 11) hx hb dX0_goesTo_5 rfl (fun c0 => ?_) (fun c0 => ?_)
  · have hp := zif hp c0
    refine lv_iload_n hx hb dX0_goesTo_11 rfl (lv_at hl 2 rfl) ?_
    refine lv_i2l hx hb dX0_goesTo_12 rfl ?_
    refine lv_lconst (v := (1 : Int64)) hx hb dX0_goesTo_13 rfl ?_
    refine lv_ldc2 (v := (5 : Int64)) hx hb hown (hts _ q1090) dX0_goesTo_14 ?_
    refine z_calli (va_runS (As := [.long (x2.toInt64), .long (1 : Int64), .long (5 : Int64)]) (rest := []) S (mX0_in l Γ z (x2.toInt64) (1 : Int64) (5 : Int64) μ1 _ hp) (va_cwS 3 hts (lw_S q418 q419 q127 q420) rfl rfl rfl hX0_in ⟨Nat.le_of_ble_eq_true rfl, Nat.le_of_ble_eq_true rfl⟩) hB.preS rfl rfl hl.1 rfl (lv_room (Nat.le_of_ble_eq_true rfl)) dX0_goesTo_17 ⟨Nat.le_refl _, Nat.le_refl _⟩) hB (fun r4 μ3 H locs hp hB => ?_)
    refine lv_if_eq (tgt := 27) hx hb dX0_goesTo_20 rfl (fun c0 => ?_) (fun c0 => ?_)
    · have hp := zit hp c0
      refine lv_bipush (v := (-3 : Int32)) hx hb dX0_goesTo_27 rfl ?_
      exact zret_i X hB hp dX0_goesTo_29
    · have hp := zif hp c0
      refine lv_iload_n hx hb dX0_goesTo_23 rfl (lv_at hl 3 rfl) ?_
      refine lv_if_ge (tgt := 30) hx hb dX0_goesTo_24 rfl (fun c0 => ?_) (fun c0 => ?_)
      · have hp := zit hp c0
        refine lv_aload_n hx hb dX0_goesTo_30 rfl (lv_at hl 0 rfl) ?_
        refine lv_iload_n hx hb dX0_goesTo_31 rfl (lv_at hl 1 rfl) ?_
        refine lv_iload_n hx hb dX0_goesTo_32 rfl (lv_at hl 2 rfl) ?_
        refine z_calll (va_runV (As := [.int x1, .int x2]) (rest := []) S (mX0_laysMoves l Γ z x1 x2 μ3 _ hp) (cwV 2 hts (lw_V q1091 q1093 qs39 q127 q1094) rfl rfl rfl hX0_laysMoves ⟨Nat.le_of_ble_eq_true rfl, Nat.le_of_ble_eq_true rfl⟩) (hB.preV (cT hB) rfl rfl) rfl rfl hl.1 rfl (lv_room (Nat.le_of_ble_eq_true rfl)) dX0_goesTo_33 ⟨Nat.le_refl _, Nat.le_refl _⟩) hB (fun r6 μ5 H locs hp hB => ?_)
        refine lv_pop2_2 hx hb dX0_goesTo_36 rfl ?_
        refine lv_iload_n hx hb dX0_goesTo_37 rfl (lv_at hl 3 rfl) ?_
        refine lv_iload_n hx hb dX0_goesTo_38 rfl (lv_at hl 2 rfl) ?_
        refine lv_icmp_ge (tgt := 62) hx hb dX0_goesTo_39 rfl (fun c0 => ?_) (fun c0 => ?_)
        · have hp := zit hp c0
          refine lv_iconst (v := (-1 : Int32)) hx hb dX0_goesTo_62 rfl ?_
          exact zret_i X hB hp dX0_goesTo_63
        · have hp := zif hp c0
          refine lv_aload_n hx hb dX0_goesTo_42 rfl (lv_at hl 0 rfl) ?_
          refine g_getr S hB (cT hB) rfl (T := TX0) (N := 33) (C := RX0) rfl in_X0 17 (by decide) (by decide) q323 (fun _ h9 => h9) (fun _ => rfl) (cA hB 9 rfl).1 dX0_goesTo_43 ?_
          refine lv_iload_n hx hb dX0_goesTo_46 rfl (lv_at hl 3 rfl) ?_
          obtain ⟨hi, hp⟩ := hp
          refine g_iald S hB (cA hB 9 rfl).2 hi dX0_goesTo_47 ?_
          refine lv_bipush (v := (nI 8)) hx hb dX0_goesTo_48 rfl ?_
          refine lv_icmp_ge (tgt := 62) hx hb dX0_goesTo_50 rfl (fun c0 => ?_) (fun c0 => ?_)
          · have hp := zit hp c0
            refine lv_iconst (v := (-1 : Int32)) hx hb dX0_goesTo_62 rfl ?_
            exact zret_i X hB hp dX0_goesTo_63
          · have hp := zif hp c0
            refine lv_aload_n hx hb dX0_goesTo_53 rfl (lv_at hl 0 rfl) ?_
            refine g_getr S hB (cT hB) rfl (T := TX0) (N := 33) (C := RX0) rfl in_X0 17 (by decide) (by decide) q323 (fun _ h9 => h9) (fun _ => rfl) (cA hB 9 rfl).1 dX0_goesTo_54 ?_
            refine lv_iload_n hx hb dX0_goesTo_57 rfl (lv_at hl 3 rfl) ?_
            obtain ⟨hi, hp⟩ := hp
            refine g_iald S hB (cA hB 9 rfl).2 hi dX0_goesTo_58 ?_
            refine lv_goto (tgt := 63) hx hb dX0_goesTo_59 rfl ?_
            exact zret_i X hB hp dX0_goesTo_63
      · have hp := zif hp c0
        refine lv_bipush (v := (-3 : Int32)) hx hb dX0_goesTo_27 rfl ?_
        exact zret_i X hB hp dX0_goesTo_29
  · have hp := zit hp c0
    refine lv_bipush (v := (-2 : Int32)) hx hb dX0_goesTo_8 rfl ?_
    exact zret_i X hB hp dX0_goesTo_10
def pX0_movesMany (z : Nat) (x1 : Int32) (x2 : Int32) (μ : zM) (Q : Int32 → zM → Prop) : Prop := (pX0_isTenant z x1 μ fun r2 μ1 => (if r2 = 0 then Q (-2 : Int32) μ1 else (pX0_in z (x2.toInt64) (1 : Int64) (5 : Int64) μ1 fun r4 μ3 => (if r4 = 0 then Q (-3 : Int32) μ3 else (pX0_laysMoves z x1 x2 μ3 fun r6 μ5 => Q (zI μ5 z 19) μ5)))))
theorem hX0_movesMany : yX0_movesMany.cls = "SunkTower" ∧ yX0_movesMany.cls ≠ "java/lang/invoke/MethodHandle" ∧ yX0_movesMany.cls ≠ "java/lang/invoke/VarHandle" ∧ (parseMethodDescriptor yX0_movesMany.desc).map (fun d => d.parameters.length) = some 2 := by decide +kernel
set_option maxHeartbeats 4000000 in
set_option maxRecDepth 100000 in
theorem mX0_movesMany (l : Launch) (Γ : zG) (z : Nat) (x1 : Int32) (x2 : Int32) (μ : zM) (Q : Int32 → zM → Prop) (hp : pX0_movesMany z x1 x2 μ Q) : Met l yX0_movesMany (ws_ yX0_movesMany cX0_movesMany 3 (some .int)) ({ frames := 466, cells := 0, slots := 0, locals := 12566 } : Room) (va_Pc [.ref z, .int x1, .int x2] (zPre Γ (cSh z) μ)) (va_Qi Q (zPost Γ (cSh z) μ) (zA μ)) 0 0 (zA μ) := by
  refine zstart (by decide) (Nat.le_of_ble_eq_true rfl) ?_
  intro p e s m below meth c ls X hnm hB hl
  have X : zCx p m c cX0_movesMany 3 s [.ref z, .int x1, .int x2].toArray RX0 meth (some .int) := X
  have S := X.1
  obtain ⟨hx, hb, hml, hown, hts⟩ := X.1
  have hl : lv_has ls 3 [(0, .ref z), (1, .int x1), (2, .int x2)] := hl
  unfold pX0_movesMany at hp
  refine lv_aload_n hx hb dX0_movesMany_0 rfl (lv_at hl 0 rfl) ?_
  refine lv_iload_n hx hb dX0_movesMany_1 rfl (lv_at hl 1 rfl) ?_
  refine z_calli (va_runV (As := [.int x1]) (rest := []) S (mX0_isTenant l Γ z x1 μ _ hp) (cwV 1 hts (lw_V q768 q770 qs27 q127 q771) rfl rfl rfl hX0_isTenant ⟨Nat.le_of_ble_eq_true rfl, Nat.le_of_ble_eq_true rfl⟩) (hB.preV (cT hB) rfl rfl) rfl rfl hl.1 rfl (lv_room (Nat.le_of_ble_eq_true rfl)) dX0_movesMany_2 ⟨Nat.le_refl _, Nat.le_refl _⟩) hB (fun r2 μ1 H locs hp hB => ?_)
  refine lv_if_ne (tgt := 11) hx hb dX0_movesMany_5 rfl (fun c0 => ?_) (fun c0 => ?_)
  · have hp := zif hp c0
    refine lv_iload_n hx hb dX0_movesMany_11 rfl (lv_at hl 2 rfl) ?_
    refine lv_i2l hx hb dX0_movesMany_12 rfl ?_
    refine lv_lconst (v := (1 : Int64)) hx hb dX0_movesMany_13 rfl ?_
    refine lv_ldc2 (v := (5 : Int64)) hx hb hown (hts _ q1090) dX0_movesMany_14 ?_
    refine z_calli (va_runS (As := [.long (x2.toInt64), .long (1 : Int64), .long (5 : Int64)]) (rest := []) S (mX0_in l Γ z (x2.toInt64) (1 : Int64) (5 : Int64) μ1 _ hp) (va_cwS 3 hts (lw_S q418 q419 q127 q420) rfl rfl rfl hX0_in ⟨Nat.le_of_ble_eq_true rfl, Nat.le_of_ble_eq_true rfl⟩) hB.preS rfl rfl hl.1 rfl (lv_room (Nat.le_of_ble_eq_true rfl)) dX0_movesMany_17 ⟨Nat.le_refl _, Nat.le_refl _⟩) hB (fun r4 μ3 H locs hp hB => ?_)
    refine lv_if_ne (tgt := 26) hx hb dX0_movesMany_20 rfl (fun c0 => ?_) (fun c0 => ?_)
    · have hp := zif hp c0
      refine lv_aload_n hx hb dX0_movesMany_26 rfl (lv_at hl 0 rfl) ?_
      refine lv_iload_n hx hb dX0_movesMany_27 rfl (lv_at hl 1 rfl) ?_
      refine lv_iload_n hx hb dX0_movesMany_28 rfl (lv_at hl 2 rfl) ?_
      refine z_calll (va_runV (As := [.int x1, .int x2]) (rest := []) S (mX0_laysMoves l Γ z x1 x2 μ3 _ hp) (cwV 2 hts (lw_V q1091 q1093 qs39 q127 q1094) rfl rfl rfl hX0_laysMoves ⟨Nat.le_of_ble_eq_true rfl, Nat.le_of_ble_eq_true rfl⟩) (hB.preV (cT hB) rfl rfl) rfl rfl hl.1 rfl (lv_room (Nat.le_of_ble_eq_true rfl)) dX0_movesMany_29 ⟨Nat.le_refl _, Nat.le_refl _⟩) hB (fun r6 μ5 H locs hp hB => ?_)
      refine lv_pop2_2 hx hb dX0_movesMany_32 rfl ?_
      refine lv_aload_n hx hb dX0_movesMany_33 rfl (lv_at hl 0 rfl) ?_
      refine g_get S hB (cT hB) rfl (T := TX0) (N := 33) (C := RX0) rfl in_X0 19 (by decide) (by decide) q325 (fun _ h9 => h9) (v := .int (zI μ5 z 19)) rfl dX0_movesMany_34 ?_
      exact zret_i X hB hp dX0_movesMany_37
    · have hp := zit hp c0
      refine lv_bipush (v := (-3 : Int32)) hx hb dX0_movesMany_23 rfl ?_
      exact zret_i X hB hp dX0_movesMany_25
  · have hp := zit hp c0
    refine lv_bipush (v := (-2 : Int32)) hx hb dX0_movesMany_8 rfl ?_
    exact zret_i X hB hp dX0_movesMany_10
theorem hX0_goesBuilding : yX0_goesBuilding.cls = "SunkTower" ∧ yX0_goesBuilding.cls ≠ "java/lang/invoke/MethodHandle" ∧ yX0_goesBuilding.cls ≠ "java/lang/invoke/VarHandle" ∧ (parseMethodDescriptor yX0_goesBuilding.desc).map (fun d => d.parameters.length) = some 4 := by decide +kernel
def pX0_goesBuilding_16 (A : Nat → Int32 → Int32 → Int32 → Int32 → zM → (zM → Prop) → Prop) (z : Nat) (x1 : Int32) (x2 : Int32) (x4 : Int32) (Q : zM → Prop) : Nat → Int32 → zM → Prop
  | 0, _, _ => False
  | n + 1, x5, μ => (if x4 ≤ x5 then Q μ else (vp_in x1 3 ∧ zpI μ (z + 63) x1.toNatClampNeg x5 fun μ1 => (A z (x1 + (nI 1)) x2 (x5 + (nI 1)) x4 μ1 fun μ2 => pX0_goesBuilding_16 A z x1 x2 x4 Q n (x5 + (nI 1)) μ2)))
set_option maxHeartbeats 4000000 in
set_option maxRecDepth 100000 in
theorem wX0_goesBuilding_16 {p : Program} {l : Launch} {e : Env} {s : State} {m : MethodId} {args : Array Value} {below : List Frame} {meth : Method} {c : Code} {Γ : zG} {μ0 : zM} {Q : zM → Prop} (X : zCx p m c cX0_goesBuilding 6 s args RX0 meth none) (A : Nat → Int32 → Int32 → Int32 → Int32 → zM → (zM → Prop) → Prop) (fa la : Nat) (hA : ∀ (l : Launch) (Γ : zG) (z : Nat) (x1 : Int32) (x2 : Int32) (x3 : Int32) (x4 : Int32) (μ : zM) (Q : (zM → Prop)), A z x1 x2 x3 x4 μ Q → Met l yX0_goesBuilding (ws_ yX0_goesBuilding cX0_goesBuilding 6 none) { frames := fa, cells := 0, slots := 0, locals := la } (va_Pc [.ref z, .int x1, .int x2, .int x3, .int x4] (zPre Γ (cSh z) μ)) (va_Qv Q (zPost Γ (cSh z) μ) (zA μ)) 0 0 (zA μ)) (z : Nat) (x1 : Int32) (x2 : Int32) (x4 : Int32) : ∀ (n : Nat) (x5 : Int32) (μ : zM) (H : Heap) (locs : List Loc) (ls : Array Slot), pX0_goesBuilding_16 A z x1 x2 x4 Q n x5 μ → zB Γ (cSh z) (zA μ0) μ0 s μ H locs → lv_has ls 6 [(0, .ref z), (1, .int x1), (2, .int x2), (4, .int x4), (5, .int x5)] → W p l e ({ frames := fa + 466, cells := 0, slots := 0, locals := la + 12564 } : Room) s m args below meth c H locs 0 0 (MQ below (va_Qv Q (zPost Γ (cSh z) μ0) (zA μ0)) args s 0 0 (zA μ0)) (F0 m 16 ls []) := by
  have S := X.1
  obtain ⟨hx, hb, hml, hown, hts⟩ := X.1
  intro n
  induction n with
  | zero =>
    intro x5 μ H locs ls hp
    exact hp.elim
  | succ n ih =>
    intro x5 μ H locs ls hp hB hl
    unfold pX0_goesBuilding_16 at hp
    refine lv_iload hx hb dX0_goesBuilding_16 (lv_at hl 4 rfl) ?_
    refine lv_iload hx hb dX0_goesBuilding_18 (lv_at hl 3 rfl) ?_
    refine lv_icmp_ge (tgt := 51) hx hb dX0_goesBuilding_20 rfl (fun c0 => ?_) (fun c0 => ?_)
    · have hp := zit hp c0
      exact zret_v X hB hp dX0_goesBuilding_51
    · have hp := zif hp c0
      refine lv_aload_n hx hb dX0_goesBuilding_23 rfl (lv_at hl 0 rfl) ?_
      refine g_getr S hB (cT hB) rfl (T := TX0) (N := 33) (C := RX0) rfl in_X0 20 (by decide) (by decide) q326 (fun _ h9 => h9) (fun _ => rfl) (cA hB 10 rfl).1 dX0_goesBuilding_24 ?_
      refine lv_iload_n hx hb dX0_goesBuilding_27 rfl (lv_at hl 1 rfl) ?_
      refine lv_iload hx hb dX0_goesBuilding_28 (lv_at hl 4 rfl) ?_
      obtain ⟨hi, hp⟩ := hp
      obtain ⟨μ1, eμ1, hp⟩ := zpI_e hp
      refine g_iast S hB (cA hB 10 rfl).2 hi dX0_goesBuilding_30 (fun H locs hB => ?_)
      rw [← eμ1] at hB
      refine lv_aload_n hx hb dX0_goesBuilding_31 rfl (lv_at hl 0 rfl) ?_
      refine lv_iload_n hx hb dX0_goesBuilding_32 rfl (lv_at hl 1 rfl) ?_
      refine lv_iconst (v := (nI 1)) hx hb dX0_goesBuilding_33 rfl ?_
      refine lv_iadd hx hb dX0_goesBuilding_34 ?_
      refine lv_iload_n hx hb dX0_goesBuilding_35 rfl (lv_at hl 2 rfl) ?_
      refine lv_iload hx hb dX0_goesBuilding_36 (lv_at hl 4 rfl) ?_
      refine lv_iconst (v := (nI 1)) hx hb dX0_goesBuilding_38 rfl ?_
      refine lv_iadd hx hb dX0_goesBuilding_39 ?_
      refine lv_iload hx hb dX0_goesBuilding_40 (lv_at hl 3 rfl) ?_
      refine z_callv (va_runV (As := [.int (x1 + (nI 1)), .int x2, .int (x5 + (nI 1)), .int x4]) (rest := []) S (hA l Γ z (x1 + (nI 1)) x2 (x5 + (nI 1)) x4 μ1 _ hp) (cwV 4 hts (lw_V q1149 q1151 qs47 q127 q1152) rfl rfl rfl hX0_goesBuilding ⟨by dsimp only; omega, by dsimp only; omega⟩) (hB.preV (cT hB) rfl rfl) rfl rfl hl.1 rfl (lv_room (Nat.le_of_ble_eq_true rfl)) dX0_goesBuilding_42 ⟨Nat.le_refl _, Nat.le_refl _⟩) hB (fun μ2 H locs hp hB => ?_)
      refine lv_iinc (v := (x5 + (nI 1))) (lv' := [(5, .int (x5 + (nI 1))), (0, .ref z), (1, .int x1), (2, .int x2), (4, .int x4)]) hx hb dX0_goesBuilding_45 hl (k := 4) rfl rfl (by decide) rfl (fun ls hl => ?_)
      refine lv_goto (tgt := 16) hx hb dX0_goesBuilding_48 rfl ?_
      exact ih (x5 + (nI 1)) μ2 _ _ _ hp hB (lv_sub hl [1, 2, 3, 4, 0] rfl)
def pX0_goesBuilding_of (A : Nat → Int32 → Int32 → Int32 → Int32 → zM → (zM → Prop) → Prop) (z : Nat) (x1 : Int32) (x2 : Int32) (x3 : Int32) (x4 : Int32) (μ : zM) (Q : zM → Prop) : Prop := (if x1 = x2 then (pX0_tries z x2 x4 μ fun μ1 => Q μ1) else ∃ k1, pX0_goesBuilding_16 A z x1 x2 x4 Q k1 x3 μ)
set_option maxHeartbeats 4000000 in
set_option maxRecDepth 100000 in
theorem mX0_goesBuilding_of (A : Nat → Int32 → Int32 → Int32 → Int32 → zM → (zM → Prop) → Prop) (fa la : Nat) (hA : ∀ (l : Launch) (Γ : zG) (z : Nat) (x1 : Int32) (x2 : Int32) (x3 : Int32) (x4 : Int32) (μ : zM) (Q : (zM → Prop)), A z x1 x2 x3 x4 μ Q → Met l yX0_goesBuilding (ws_ yX0_goesBuilding cX0_goesBuilding 6 none) { frames := fa, cells := 0, slots := 0, locals := la } (va_Pc [.ref z, .int x1, .int x2, .int x3, .int x4] (zPre Γ (cSh z) μ)) (va_Qv Q (zPost Γ (cSh z) μ) (zA μ)) 0 0 (zA μ)) (l : Launch) (Γ : zG) (z : Nat) (x1 : Int32) (x2 : Int32) (x3 : Int32) (x4 : Int32) (μ : zM) (Q : zM → Prop) (hp : pX0_goesBuilding_of A z x1 x2 x3 x4 μ Q) : Met l yX0_goesBuilding (ws_ yX0_goesBuilding cX0_goesBuilding 6 none) ({ frames := fa + 466, cells := 0, slots := 0, locals := la + 12564 } : Room) (va_Pc [.ref z, .int x1, .int x2, .int x3, .int x4] (zPre Γ (cSh z) μ)) (va_Qv Q (zPost Γ (cSh z) μ) (zA μ)) 0 0 (zA μ) := by
  refine zstart (by decide) (Nat.le_of_ble_eq_true rfl) ?_
  intro p e s m below meth c ls X hnm hB hl
  have X : zCx p m c cX0_goesBuilding 6 s [.ref z, .int x1, .int x2, .int x3, .int x4].toArray RX0 meth none := X
  have S := X.1
  obtain ⟨hx, hb, hml, hown, hts⟩ := X.1
  have hl : lv_has ls 6 [(0, .ref z), (1, .int x1), (2, .int x2), (3, .int x3), (4, .int x4)] := hl
  unfold pX0_goesBuilding_of at hp
  refine lv_iload_n hx hb dX0_goesBuilding_0 rfl (lv_at hl 1 rfl) ?_
  refine lv_iload_n hx hb dX0_goesBuilding_1 rfl (lv_at hl 2 rfl) ?_
  refine lv_icmp_ne (tgt := 13) hx hb dX0_goesBuilding_2 rfl (fun c0 => ?_) (fun c0 => ?_)
  · have hp := zif hp c0
    refine lv_iload_n hx hb dX0_goesBuilding_13 rfl (lv_at hl 3 rfl) ?_
    refine lv_istore (lv' := [(5, .int x3), (0, .ref z), (1, .int x1), (2, .int x2), (3, .int x3), (4, .int x4)]) hx hb dX0_goesBuilding_14 hl (by decide) rfl (fun ls hl => ?_)
    obtain ⟨n1, hp⟩ := hp
    exact wX0_goesBuilding_16 X A fa la hA z x1 x2 x4 n1 x3 μ _ _ _ hp hB (lv_sub hl [1, 2, 3, 5, 0] rfl)
  · have hp := zit hp c0
    refine lv_aload_n hx hb dX0_goesBuilding_5 rfl (lv_at hl 0 rfl) ?_
    refine lv_iload_n hx hb dX0_goesBuilding_6 rfl (lv_at hl 2 rfl) ?_
    refine lv_iload hx hb dX0_goesBuilding_7 (lv_at hl 4 rfl) ?_
    refine z_callv (va_runV (As := [.int x2, .int x4]) (rest := []) S (mX0_tries l Γ z x2 x4 μ _ hp) (cwV 2 hts (lw_V q1153 q1155 qs48 q127 q1156) rfl rfl rfl hX0_tries ⟨by dsimp only; omega, by dsimp only; omega⟩) (hB.preV (cT hB) rfl rfl) rfl rfl hl.1 rfl (lv_room (Nat.le_of_ble_eq_true rfl)) dX0_goesBuilding_9 ⟨Nat.le_refl _, Nat.le_refl _⟩) hB (fun μ1 H locs hp hB => ?_)
    exact zret_v X hB hp dX0_goesBuilding_12
def pX0_goesBuilding : Nat → Nat → Int32 → Int32 → Int32 → Int32 → zM → (zM → Prop) → Prop
  | 0 => fun _ _ _ _ _ _ _ => False
  | d + 1 => fun z x1 x2 x3 x4 μ Q => pX0_goesBuilding_of (pX0_goesBuilding d) z x1 x2 x3 x4 μ Q
theorem mX0_goesBuilding : ∀ (d : Nat) (l : Launch) (Γ : zG) (z : Nat) (x1 : Int32) (x2 : Int32) (x3 : Int32) (x4 : Int32) (μ : zM) (Q : (zM → Prop)), pX0_goesBuilding d z x1 x2 x3 x4 μ Q → Met l yX0_goesBuilding (ws_ yX0_goesBuilding cX0_goesBuilding 6 none) { frames := 466 * d, cells := 0, slots := 0, locals := 12564 * d } (va_Pc [.ref z, .int x1, .int x2, .int x3, .int x4] (zPre Γ (cSh z) μ)) (va_Qv Q (zPost Γ (cSh z) μ) (zA μ)) 0 0 (zA μ) := by
  intro d
  induction d with
  | zero => intro l Γ z x1 x2 x3 x4 μ Q h; exact h.elim
  | succ d ih => intro l Γ z x1 x2 x3 x4 μ Q h; exact mX0_goesBuilding_of (pX0_goesBuilding d) (466 * d) (12564 * d) ih l Γ z x1 x2 x3 x4 μ Q h
def pX0_marks (z : Nat) (x1 : Int32) (μ : zM) (Q : Int32 → zM → Prop) : Prop := (pX0_marksFault z x1 μ fun r2 μ1 => (if r2 = 0 then (vp_in x1 4 ∧ (zde (zR μ1 (z + 70) x1.toNatClampNeg) fun b3 => (pX0_laysHidden z b3 μ1 fun r5 μ4 => Q r5 μ4))) else Q r2 μ1))
theorem hX0_marks : yX0_marks.cls = "SunkTower" ∧ yX0_marks.cls ≠ "java/lang/invoke/MethodHandle" ∧ yX0_marks.cls ≠ "java/lang/invoke/VarHandle" ∧ (parseMethodDescriptor yX0_marks.desc).map (fun d => d.parameters.length) = some 1 := by decide +kernel
set_option maxHeartbeats 4000000 in
set_option maxRecDepth 100000 in
theorem mX0_marks (l : Launch) (Γ : zG) (z : Nat) (x1 : Int32) (μ : zM) (Q : Int32 → zM → Prop) (hp : pX0_marks z x1 μ Q) : Met l yX0_marks (ws_ yX0_marks cX0_marks 3 (some .int)) ({ frames := 466, cells := 0, slots := 0, locals := 12561 } : Room) (va_Pc [.ref z, .int x1] (zPre Γ (cSh z) μ)) (va_Qi Q (zPost Γ (cSh z) μ) (zA μ)) 0 0 (zA μ) := by
  refine zstart (by decide) (Nat.le_of_ble_eq_true rfl) ?_
  intro p e s m below meth c ls X hnm hB hl
  have X : zCx p m c cX0_marks 3 s [.ref z, .int x1].toArray RX0 meth (some .int) := X
  have S := X.1
  obtain ⟨hx, hb, hml, hown, hts⟩ := X.1
  have hl : lv_has ls 3 [(0, .ref z), (1, .int x1)] := hl
  unfold pX0_marks at hp
  refine lv_aload_n hx hb dX0_marks_0 rfl (lv_at hl 0 rfl) ?_
  refine lv_iload_n hx hb dX0_marks_1 rfl (lv_at hl 1 rfl) ?_
  refine z_calli (va_runV (As := [.int x1]) (rest := []) S (mX0_marksFault l Γ z x1 μ _ hp) (cwV 1 hts (lw_V q1171 q1173 qs50 q127 q1174) rfl rfl rfl hX0_marksFault ⟨Nat.le_of_ble_eq_true rfl, Nat.le_of_ble_eq_true rfl⟩) (hB.preV (cT hB) rfl rfl) rfl rfl hl.1 rfl (lv_room (Nat.le_of_ble_eq_true rfl)) dX0_marks_2 ⟨Nat.le_refl _, Nat.le_refl _⟩) hB (fun r2 μ1 H locs hp hB => ?_)
  refine lv_istore_n (lv' := [(2, .int r2), (0, .ref z), (1, .int x1)]) hx hb dX0_marks_5 rfl hl (by decide) rfl (fun ls hl => ?_)
  refine lv_iload_n hx hb dX0_marks_6 rfl (lv_at hl 0 rfl) ?_
  refine lv_if_eq (tgt := 14) hx hb dX0_marks_7 rfl (fun c0 => ?_) (fun c0 => ?_)
  · have hp := zit hp c0
    refine lv_aload_n hx hb dX0_marks_14 rfl (lv_at hl 1 rfl) ?_
    refine lv_aload_n hx hb dX0_marks_15 rfl (lv_at hl 1 rfl) ?_
    refine g_getr S hB (cT hB) rfl (T := TX0) (N := 33) (C := RX0) rfl in_X0 30 (by decide) (by decide) q336 (fun _ h9 => h9) (fun _ => rfl) (cA hB 17 rfl).1 dX0_marks_16 ?_
    refine lv_iload_n hx hb dX0_marks_19 rfl (lv_at hl 2 rfl) ?_
    obtain ⟨hi, hp⟩ := hp
    refine g_aald S hB (t0 := 6) (cA hB 17 rfl).2 rfl rfl hi dX0_marks_20 ?_
    obtain ⟨b3, eb, hp⟩ := hp
    refine W.eq (g2 := F0 m 21 ls [.ref b3, .ref z]) (by rw [eb]; rfl) ?_
    refine z_calli (va_runV (As := [.ref b3]) (rest := []) S (mX0_laysHidden l Γ z b3 μ1 _ hp) (cwV 1 hts (lw_V q1177 q1179 qs51 q127 q1180) rfl rfl rfl hX0_laysHidden ⟨Nat.le_of_ble_eq_true rfl, Nat.le_of_ble_eq_true rfl⟩) (hB.preV (cT hB) rfl rfl) rfl rfl hl.1 rfl (lv_room (Nat.le_of_ble_eq_true rfl)) dX0_marks_21 ⟨Nat.le_refl _, Nat.le_refl _⟩) hB (fun r5 μ4 H locs hp hB => ?_)
    exact zret_i X hB hp dX0_marks_24
  · have hp := zif hp c0
    refine lv_iload_n hx hb dX0_marks_10 rfl (lv_at hl 0 rfl) ?_
    refine lv_goto (tgt := 24) hx hb dX0_marks_11 rfl ?_
    exact zret_i X hB hp dX0_marks_24
def pX0_judge (z : Nat) (x1 : Int32) (x2 : Int32) (μ : zM) (Q : Int32 → zM → Prop) : Prop := (pX0_isTray z x1 μ fun r2 μ1 => (if r2 = 0 then Q (-2 : Int32) μ1 else (pX0_in z (x2.toInt64) (0 : Int64) (3 : Int64) μ1 fun r4 μ3 => (if r4 = 0 then Q (-2 : Int32) μ3 else (vp_in x1 4 ∧ (zde (zR μ3 (z + 70) x1.toNatClampNeg) fun b5 => (zty μ3 b5 = some (.inl 3) ∧ (if (zR μ3 b5 0) = none then Q (-6 : Int32) μ3 else (pX0_goes z b5 μ3 fun r9 μ8 => (if x2 = (nI 0) then (pX3_many z b5 μ8 fun r11 μ10 => (if r9 = r11 then Q (-1 : Int32) μ10 else Q r9 μ10)) else (if x2 = (nI 1) then (pX3_many z b5 μ8 fun r13 μ12 => (if r9 = r13 then Q (nI 0) μ12 else (pX3_number z b5 r9 μ12 fun r15 μ14 => (pX2_why z (z + 11) r15 μ14 fun r17 μ16 => Q r17 μ16)))) else (if x2 = (nI 2) then Q (zI μ8 (z + 11) 4) μ8 else Q (zI μ8 (z + 11) 5) μ8))))))))))))
theorem hX0_judge : yX0_judge.cls = "SunkTower" ∧ yX0_judge.cls ≠ "java/lang/invoke/MethodHandle" ∧ yX0_judge.cls ≠ "java/lang/invoke/VarHandle" ∧ (parseMethodDescriptor yX0_judge.desc).map (fun d => d.parameters.length) = some 2 := by decide +kernel
set_option maxHeartbeats 4000000 in
set_option maxRecDepth 100000 in
theorem mX0_judge (l : Launch) (Γ : zG) (z : Nat) (x1 : Int32) (x2 : Int32) (μ : zM) (Q : Int32 → zM → Prop) (hp : pX0_judge z x1 x2 μ Q) : Met l yX0_judge (ws_ yX0_judge cX0_judge 5 (some .int)) ({ frames := 468, cells := 0, slots := 0, locals := 12609 } : Room) (va_Pc [.ref z, .int x1, .int x2] (zPre Γ (cSh z) μ)) (va_Qi Q (zPost Γ (cSh z) μ) (zA μ)) 0 0 (zA μ) := by
  refine zstart (by decide) (Nat.le_of_ble_eq_true rfl) ?_
  intro p e s m below meth c ls X hnm hB hl
  have X : zCx p m c cX0_judge 5 s [.ref z, .int x1, .int x2].toArray RX0 meth (some .int) := X
  have S := X.1
  obtain ⟨hx, hb, hml, hown, hts⟩ := X.1
  have hl : lv_has ls 5 [(0, .ref z), (1, .int x1), (2, .int x2)] := hl
  unfold pX0_judge at hp
  refine lv_iload_n hx hb dX0_judge_0 rfl (lv_at hl 1 rfl) ?_
  refine z_calli (va_runS (As := [.int x1]) (rest := []) S (mX0_isTray l Γ z x1 μ _ hp) (va_cwS 1 hts (lw_S q946 q947 q127 q948) rfl rfl rfl hX0_isTray ⟨Nat.le_of_ble_eq_true rfl, Nat.le_of_ble_eq_true rfl⟩) hB.preS rfl rfl hl.1 rfl (lv_room (Nat.le_of_ble_eq_true rfl)) dX0_judge_1 ⟨Nat.le_refl _, Nat.le_refl _⟩) hB (fun r2 μ1 H locs hp hB => ?_)
  refine lv_if_eq (tgt := 19) hx hb dX0_judge_4 rfl (fun c0 => ?_) (fun c0 => ?_)
  · have hp := zit hp c0
    refine lv_bipush (v := (-2 : Int32)) hx hb dX0_judge_19 rfl ?_
    exact zret_i X hB hp dX0_judge_21
  · have hp := zif hp c0
    refine lv_iload_n hx hb dX0_judge_7 rfl (lv_at hl 2 rfl) ?_
    refine lv_i2l hx hb dX0_judge_8 rfl ?_
    refine lv_lconst (v := (0 : Int64)) hx hb dX0_judge_9 rfl ?_
    refine lv_ldc2 (v := (3 : Int64)) hx hb hown (hts _ q949) dX0_judge_10 ?_
    refine z_calli (va_runS (As := [.long (x2.toInt64), .long (0 : Int64), .long (3 : Int64)]) (rest := []) S (mX0_in l Γ z (x2.toInt64) (0 : Int64) (3 : Int64) μ1 _ hp) (va_cwS 3 hts (lw_S q418 q419 q127 q420) rfl rfl rfl hX0_in ⟨Nat.le_of_ble_eq_true rfl, Nat.le_of_ble_eq_true rfl⟩) hB.preS rfl rfl hl.1 rfl (lv_room (Nat.le_of_ble_eq_true rfl)) dX0_judge_13 ⟨Nat.le_refl _, Nat.le_refl _⟩) hB (fun r4 μ3 H locs hp hB => ?_)
    refine lv_if_ne (tgt := 22) hx hb dX0_judge_16 rfl (fun c0 => ?_) (fun c0 => ?_)
    · have hp := zif hp c0
      refine lv_aload_n hx hb dX0_judge_22 rfl (lv_at hl 0 rfl) ?_
      refine g_getr S hB (cT hB) rfl (T := TX0) (N := 33) (C := RX0) rfl in_X0 30 (by decide) (by decide) q336 (fun _ h9 => h9) (fun _ => rfl) (cA hB 17 rfl).1 dX0_judge_23 ?_
      refine lv_iload_n hx hb dX0_judge_26 rfl (lv_at hl 1 rfl) ?_
      obtain ⟨hi, hp⟩ := hp
      refine g_aald S hB (t0 := 6) (cA hB 17 rfl).2 rfl rfl hi dX0_judge_27 ?_
      obtain ⟨b5, eb, hp⟩ := hp
      refine W.eq (g2 := F0 m 28 ls [.ref b5]) (by rw [eb]; rfl) ?_
      refine lv_astore_n (lv' := [(3, .ref b5), (0, .ref z), (1, .int x1), (2, .int x2)]) hx hb dX0_judge_28 rfl hl (by decide) rfl (fun ls hl => ?_)
      refine lv_aload_n hx hb dX0_judge_29 rfl (lv_at hl 0 rfl) ?_
      obtain ⟨ht6, hp⟩ := hp
      refine g_getN S hB ht6 rfl (T := TX3) (N := 1) (C := RX3) rfl in_X3 0 (by decide) (by decide) (zNFw hB 12 rfl) (fun _ h9 => h9) (v := va_rf (zR μ3 b5 0)) rfl dX0_judge_30 ?_
      refine g_ifnonnull (tgt := 39) hx hb dX0_judge_33 rfl (fun c0 => ?_) (fun c0 => ?_)
      · have hp := zit hp c0
        refine lv_bipush (v := (-6 : Int32)) hx hb dX0_judge_36 rfl ?_
        exact zret_i X hB hp dX0_judge_38
      · have hp := zif hp c0
        refine lv_aload_n hx hb dX0_judge_39 rfl (lv_at hl 1 rfl) ?_
        refine lv_aload_n hx hb dX0_judge_40 rfl (lv_at hl 0 rfl) ?_
        refine z_calli (va_runV (As := [.ref b5]) (rest := []) S (mX0_goes l Γ z b5 μ3 _ hp) (cwV 1 hts (lw_V q950 q952 qs33 q127 q953) rfl rfl rfl hX0_goes ⟨Nat.le_of_ble_eq_true rfl, Nat.le_of_ble_eq_true rfl⟩) (hB.preV (cT hB) rfl rfl) rfl rfl hl.1 rfl (lv_room (Nat.le_of_ble_eq_true rfl)) dX0_judge_41 ⟨Nat.le_refl _, Nat.le_refl _⟩) hB (fun r9 μ8 H locs hp hB => ?_)
        refine lv_istore (lv' := [(4, .int r9), (3, .ref b5), (0, .ref z), (1, .int x1), (2, .int x2)]) hx hb dX0_judge_44 hl (by decide) rfl (fun ls hl => ?_)
        refine lv_iload_n hx hb dX0_judge_46 rfl (lv_at hl 4 rfl) ?_
        by_cases c0 : x2 = (nI 0)
        · have hp := zit hp c0
          refine lv_tableIn (tgt := 72) hx hb dX0_judge_47 (by rw [c0]; decide) (by rw [c0]; decide) (by rw [c0]; rfl) rfl ?_
          refine lv_iload hx hb dX0_judge_72 (lv_at hl 0 rfl) ?_
          refine lv_aload_n hx hb dX0_judge_74 rfl (lv_at hl 1 rfl) ?_
          refine z_calli (va_runV (As := []) (rest := [.int r9]) S (mX3_many l Γ z b5 μ8 _ hp) (cwV 0 hts (lw_V q954 q955 q956 q130 q957) rfl rfl rfl hX3_many ⟨Nat.le_of_ble_eq_true rfl, Nat.le_of_ble_eq_true rfl⟩) (hB.preV (tX3_many hp) rfl rfl) rfl rfl hl.1 rfl (lv_room (Nat.le_of_ble_eq_true rfl)) dX0_judge_75 ⟨Nat.le_refl _, Nat.le_refl _⟩) hB (fun r11 μ10 H locs hp hB => ?_)
          refine lv_icmp_ne (tgt := 85) hx hb dX0_judge_78 rfl (fun c0 => ?_) (fun c0 => ?_)
          · have hp := zif hp c0
            refine lv_iload hx hb dX0_judge_85 (lv_at hl 0 rfl) ?_
            exact zret_i X hB hp dX0_judge_87
          · have hp := zit hp c0
            refine lv_iconst (v := (-1 : Int32)) hx hb dX0_judge_81 rfl ?_
            refine lv_goto (tgt := 87) hx hb dX0_judge_82 rfl ?_
            exact zret_i X hB hp dX0_judge_87
        have hp := zif hp c0
        by_cases c1 : x2 = (nI 1)
        · have hp := zit hp c1
          refine lv_tableIn (tgt := 88) hx hb dX0_judge_47 (by rw [c1]; decide) (by rw [c1]; decide) (by rw [c1]; rfl) rfl ?_
          refine lv_iload hx hb dX0_judge_88 (lv_at hl 0 rfl) ?_
          refine lv_aload_n hx hb dX0_judge_90 rfl (lv_at hl 1 rfl) ?_
          refine z_calli (va_runV (As := []) (rest := [.int r9]) S (mX3_many l Γ z b5 μ8 _ hp) (cwV 0 hts (lw_V q954 q955 q956 q130 q957) rfl rfl rfl hX3_many ⟨Nat.le_of_ble_eq_true rfl, Nat.le_of_ble_eq_true rfl⟩) (hB.preV (tX3_many hp) rfl rfl) rfl rfl hl.1 rfl (lv_room (Nat.le_of_ble_eq_true rfl)) dX0_judge_91 ⟨Nat.le_refl _, Nat.le_refl _⟩) hB (fun r13 μ12 H locs hp hB => ?_)
          refine lv_icmp_ne (tgt := 101) hx hb dX0_judge_94 rfl (fun c0 => ?_) (fun c0 => ?_)
          · have hp := zif hp c0
            refine lv_aload_n hx hb dX0_judge_101 rfl (lv_at hl 2 rfl) ?_
            refine g_getr S hB (cT hB) rfl (T := TX0) (N := 33) (C := RX0) rfl in_X0 2 (by decide) (by decide) q306 (fun _ h9 => h9) (fun _ => rfl) (cA hB 1 rfl).1 dX0_judge_102 ?_
            refine lv_aload_n hx hb dX0_judge_105 rfl (lv_at hl 1 rfl) ?_
            refine lv_iload hx hb dX0_judge_106 (lv_at hl 0 rfl) ?_
            refine z_calll (va_runV (As := [.int r9]) (rest := [.ref (z + 11)]) S (mX3_number l Γ z b5 r9 μ12 _ hp) (cwV 1 hts (lw_V q962 q963 q964 q130 q965) rfl rfl rfl hX3_number ⟨Nat.le_of_ble_eq_true rfl, Nat.le_of_ble_eq_true rfl⟩) (hB.preV (tX3_number hp) rfl rfl) rfl rfl hl.1 rfl (lv_room (Nat.le_of_ble_eq_true rfl)) dX0_judge_108 ⟨Nat.le_refl _, Nat.le_refl _⟩) hB (fun r15 μ14 H locs hp hB => ?_)
            refine z_calli (va_runV (As := [.long r15]) (rest := []) S (mX2_why l Γ z (z + 11) r15 μ14 _ hp) (cwV 1 hts (lw_V q966 q967 q968 q129 q969) rfl rfl rfl hX2_why ⟨Nat.le_of_ble_eq_true rfl, Nat.le_of_ble_eq_true rfl⟩) (hB.preV (tX2_why hp) rfl rfl) rfl rfl hl.1 rfl (lv_room (Nat.le_of_ble_eq_true rfl)) dX0_judge_111 ⟨Nat.le_refl _, Nat.le_refl _⟩) hB (fun r17 μ16 H locs hp hB => ?_)
            exact zret_i X hB hp dX0_judge_114
          · have hp := zit hp c0
            refine lv_iconst (v := (nI 0)) hx hb dX0_judge_97 rfl ?_
            refine lv_goto (tgt := 114) hx hb dX0_judge_98 rfl ?_
            exact zret_i X hB hp dX0_judge_114
        have hp := zif hp c1
        by_cases c2 : x2 = (nI 2)
        · have hp := zit hp c2
          refine lv_tableIn (tgt := 115) hx hb dX0_judge_47 (by rw [c2]; decide) (by rw [c2]; decide) (by rw [c2]; rfl) rfl ?_
          refine lv_aload_n hx hb dX0_judge_115 rfl (lv_at hl 2 rfl) ?_
          refine g_getr S hB (cT hB) rfl (T := TX0) (N := 33) (C := RX0) rfl in_X0 2 (by decide) (by decide) q306 (fun _ h9 => h9) (fun _ => rfl) (cA hB 1 rfl).1 dX0_judge_116 ?_
          refine g_getN S hB (cA hB 1 rfl).2 rfl (T := TX2) (N := 8) (C := RX2) rfl in_X2 4 (by decide) (by decide) (zNFw hB 9 rfl) (fun _ h9 => h9) (v := .int (zI μ8 (z + 11) 4)) rfl dX0_judge_119 ?_
          exact zret_i X hB hp dX0_judge_122
        have hp := zif hp c2
        refine lv_tableOut (tgt := 123) hx hb dX0_judge_47 (zswN (x := x2) 0 2 (fun k h1 h2 => by rcases (show k = 0 ∨ k = 1 ∨ k = 2 by omega) with rfl | rfl | rfl <;> assumption) (by decide)) rfl ?_
        refine lv_aload_n hx hb dX0_judge_123 rfl (lv_at hl 2 rfl) ?_
        refine g_getr S hB (cT hB) rfl (T := TX0) (N := 33) (C := RX0) rfl in_X0 2 (by decide) (by decide) q306 (fun _ h9 => h9) (fun _ => rfl) (cA hB 1 rfl).1 dX0_judge_124 ?_
        refine g_getN S hB (cA hB 1 rfl).2 rfl (T := TX2) (N := 8) (C := RX2) rfl in_X2 5 (by decide) (by decide) (zNFw hB 10 rfl) (fun _ h9 => h9) (v := .int (zI μ8 (z + 11) 5)) rfl dX0_judge_127 ?_
        exact zret_i X hB hp dX0_judge_130
    · have hp := zit hp c0
      refine lv_bipush (v := (-2 : Int32)) hx hb dX0_judge_19 rfl ?_
      exact zret_i X hB hp dX0_judge_21
def pX0_stays (z : Nat) (x1 : Int32) (x2 : Int32) (μ : zM) (Q : Int64 → zM → Prop) : Prop := (pX0_isTenant z x1 μ fun r2 μ1 => (if r2 = 0 then Q (-90000000002 : Int64) μ1 else (pX0_in z (x2.toInt64) (1 : Int64) (5 : Int64) μ1 fun r4 μ3 => (if r4 = 0 then Q (-90000000003 : Int64) μ3 else (pX0_laysMoves z x1 x2 μ3 fun r6 μ5 => Q r6 μ5)))))
theorem hX0_stays : yX0_stays.cls = "SunkTower" ∧ yX0_stays.cls ≠ "java/lang/invoke/MethodHandle" ∧ yX0_stays.cls ≠ "java/lang/invoke/VarHandle" ∧ (parseMethodDescriptor yX0_stays.desc).map (fun d => d.parameters.length) = some 2 := by decide +kernel
set_option maxHeartbeats 4000000 in
set_option maxRecDepth 100000 in
theorem mX0_stays (l : Launch) (Γ : zG) (z : Nat) (x1 : Int32) (x2 : Int32) (μ : zM) (Q : Int64 → zM → Prop) (hp : pX0_stays z x1 x2 μ Q) : Met l yX0_stays (ws_ yX0_stays cX0_stays 3 (some .long)) ({ frames := 466, cells := 0, slots := 0, locals := 12566 } : Room) (va_Pc [.ref z, .int x1, .int x2] (zPre Γ (cSh z) μ)) (va_Ql Q (zPost Γ (cSh z) μ) (zA μ)) 0 0 (zA μ) := by
  refine zstart (by decide) (Nat.le_of_ble_eq_true rfl) ?_
  intro p e s m below meth c ls X hnm hB hl
  have X : zCx p m c cX0_stays 3 s [.ref z, .int x1, .int x2].toArray RX0 meth (some .long) := X
  have S := X.1
  obtain ⟨hx, hb, hml, hown, hts⟩ := X.1
  have hl : lv_has ls 3 [(0, .ref z), (1, .int x1), (2, .int x2)] := hl
  unfold pX0_stays at hp
  refine lv_aload_n hx hb dX0_stays_0 rfl (lv_at hl 0 rfl) ?_
  refine lv_iload_n hx hb dX0_stays_1 rfl (lv_at hl 1 rfl) ?_
  refine z_calli (va_runV (As := [.int x1]) (rest := []) S (mX0_isTenant l Γ z x1 μ _ hp) (cwV 1 hts (lw_V q768 q770 qs27 q127 q771) rfl rfl rfl hX0_isTenant ⟨Nat.le_of_ble_eq_true rfl, Nat.le_of_ble_eq_true rfl⟩) (hB.preV (cT hB) rfl rfl) rfl rfl hl.1 rfl (lv_room (Nat.le_of_ble_eq_true rfl)) dX0_stays_2 ⟨Nat.le_refl _, Nat.le_refl _⟩) hB (fun r2 μ1 H locs hp hB => ?_)
  refine lv_if_ne (tgt := 12) hx hb dX0_stays_5 rfl (fun c0 => ?_) (fun c0 => ?_)
  · have hp := zif hp c0
    refine lv_iload_n hx hb dX0_stays_12 rfl (lv_at hl 2 rfl) ?_
    refine lv_i2l hx hb dX0_stays_13 rfl ?_
    refine lv_lconst (v := (1 : Int64)) hx hb dX0_stays_14 rfl ?_
    refine lv_ldc2 (v := (5 : Int64)) hx hb hown (hts _ q1090) dX0_stays_15 ?_
    refine z_calli (va_runS (As := [.long (x2.toInt64), .long (1 : Int64), .long (5 : Int64)]) (rest := []) S (mX0_in l Γ z (x2.toInt64) (1 : Int64) (5 : Int64) μ1 _ hp) (va_cwS 3 hts (lw_S q418 q419 q127 q420) rfl rfl rfl hX0_in ⟨Nat.le_of_ble_eq_true rfl, Nat.le_of_ble_eq_true rfl⟩) hB.preS rfl rfl hl.1 rfl (lv_room (Nat.le_of_ble_eq_true rfl)) dX0_stays_18 ⟨Nat.le_refl _, Nat.le_refl _⟩) hB (fun r4 μ3 H locs hp hB => ?_)
    refine lv_if_eq (tgt := 33) hx hb dX0_stays_21 rfl (fun c0 => ?_) (fun c0 => ?_)
    · have hp := zit hp c0
      refine lv_ldc2 (v := (-90000000003 : Int64)) hx hb hown (hts _ q1062) dX0_stays_33 ?_
      exact zret_l X hB hp dX0_stays_36
    · have hp := zif hp c0
      refine lv_aload_n hx hb dX0_stays_24 rfl (lv_at hl 0 rfl) ?_
      refine lv_iload_n hx hb dX0_stays_25 rfl (lv_at hl 1 rfl) ?_
      refine lv_iload_n hx hb dX0_stays_26 rfl (lv_at hl 2 rfl) ?_
      refine z_calll (va_runV (As := [.int x1, .int x2]) (rest := []) S (mX0_laysMoves l Γ z x1 x2 μ3 _ hp) (cwV 2 hts (lw_V q1091 q1093 qs39 q127 q1094) rfl rfl rfl hX0_laysMoves ⟨Nat.le_of_ble_eq_true rfl, Nat.le_of_ble_eq_true rfl⟩) (hB.preV (cT hB) rfl rfl) rfl rfl hl.1 rfl (lv_room (Nat.le_of_ble_eq_true rfl)) dX0_stays_27 ⟨Nat.le_refl _, Nat.le_refl _⟩) hB (fun r6 μ5 H locs hp hB => ?_)
      refine lv_goto (tgt := 36) hx hb dX0_stays_30 rfl ?_
      exact zret_l X hB hp dX0_stays_36
  · have hp := zit hp c0
    refine lv_ldc2 (v := (-90000000002 : Int64)) hx hb hown (hts _ q1089) dX0_stays_8 ?_
    exact zret_l X hB hp dX0_stays_11
def pX0_laysBuilding_19 (z : Nat) (x1 : Int32) (x2 : Int32) (Q : zM → Prop) : Nat → Int32 → zM → Prop
  | 0, _, _ => False
  | n + 1, x3, μ => (if (if ((nI 8) - (zI μ (z + 7) 3)) < x2 then ((nI 8) - (zI μ (z + 7) 3)) else x2) < x3 then Q μ else (pX0_goesBuilding 4 z (nI 0) x3 (nI 0) x1 μ fun μ1 => pX0_laysBuilding_19 z x1 x2 Q n (x3 + (nI 1)) μ1))
set_option maxHeartbeats 4000000 in
set_option maxRecDepth 100000 in
theorem wX0_laysBuilding_19 {p : Program} {l : Launch} {e : Env} {s : State} {m : MethodId} {args : Array Value} {below : List Frame} {meth : Method} {c : Code} {Γ : zG} {μ0 : zM} {Q : zM → Prop} (X : zCx p m c cX0_laysBuilding 4 s args RX0 meth none) (z : Nat) (x1 : Int32) (x2 : Int32) : ∀ (n : Nat) (x3 : Int32) (μ : zM) (H : Heap) (locs : List Loc) (ls : Array Slot), pX0_laysBuilding_19 z x1 x2 Q n x3 μ → zB Γ (cSh z) (zA μ0) μ0 s μ H locs → lv_has ls 4 [(0, .ref z), (1, .int x1), (2, .int x2), (3, .int x3)] → W p l e ({ frames := 1865, cells := 0, slots := 0, locals := 50281 } : Room) s m args below meth c H locs 0 0 (MQ below (va_Qv Q (zPost Γ (cSh z) μ0) (zA μ0)) args s 0 0 (zA μ0)) (F0 m 19 ls []) := by
  have S := X.1
  obtain ⟨hx, hb, hml, hown, hts⟩ := X.1
  intro n
  induction n with
  | zero =>
    intro x3 μ H locs ls hp
    exact hp.elim
  | succ n ih =>
    intro x3 μ H locs ls hp hB hl
    unfold pX0_laysBuilding_19 at hp
    refine lv_iload_n hx hb dX0_laysBuilding_19 rfl (lv_at hl 3 rfl) ?_
    refine lv_iload_n hx hb dX0_laysBuilding_20 rfl (lv_at hl 2 rfl) ?_
    refine lv_bipush (v := (nI 8)) hx hb dX0_laysBuilding_21 rfl ?_
    refine lv_aload_n hx hb dX0_laysBuilding_23 rfl (lv_at hl 0 rfl) ?_
    refine g_getr S hB (cT hB) rfl (T := TX0) (N := 33) (C := RX0) rfl in_X0 1 (by decide) (by decide) q305 (fun _ h9 => h9) (fun _ => rfl) (cA hB 0 rfl).1 dX0_laysBuilding_24 ?_
    refine g_getN S hB (cA hB 0 rfl).2 rfl (T := TX2) (N := 8) (C := RX2) rfl in_X2 3 (by decide) (by decide) (zNFw hB 8 rfl) (fun _ h9 => h9) (v := .int (zI μ (z + 7) 3)) rfl dX0_laysBuilding_27 ?_
    refine lv_isub hx hb dX0_laysBuilding_30 ?_
    refine va_mmin hx hb (hml.trans hl.1.symm) hown (hts _ q866) (hts _ q524) (hts _ q136) (hts _ q525) (Nat.le_of_ble_eq_true rfl) (Nat.le_of_ble_eq_true rfl) (Nat.le_refl _) (Nat.le_refl _) dX0_laysBuilding_31 ?_
    refine lv_icmp_gt (tgt := 51) hx hb dX0_laysBuilding_34 rfl (fun c0 => ?_) (fun c0 => ?_)
    · have hp := zit hp c0
      exact zret_v X hB hp dX0_laysBuilding_51
    · have hp := zif hp c0
      refine lv_aload_n hx hb dX0_laysBuilding_37 rfl (lv_at hl 0 rfl) ?_
      refine lv_iconst (v := (nI 0)) hx hb dX0_laysBuilding_38 rfl ?_
      refine lv_iload_n hx hb dX0_laysBuilding_39 rfl (lv_at hl 3 rfl) ?_
      refine lv_iconst (v := (nI 0)) hx hb dX0_laysBuilding_40 rfl ?_
      refine lv_iload_n hx hb dX0_laysBuilding_41 rfl (lv_at hl 1 rfl) ?_
      refine z_callv (va_runV (As := [.int (nI 0), .int x3, .int (nI 0), .int x1]) (rest := []) S (mX0_goesBuilding 4 l Γ z (nI 0) x3 (nI 0) x1 μ _ hp) (cwV 4 hts (lw_V q1149 q1151 qs47 q127 q1152) rfl rfl rfl hX0_goesBuilding ⟨Nat.le_of_ble_eq_true rfl, Nat.le_of_ble_eq_true rfl⟩) (hB.preV (cT hB) rfl rfl) rfl rfl hl.1 rfl (lv_room (Nat.le_of_ble_eq_true rfl)) dX0_laysBuilding_42 ⟨Nat.le_refl _, Nat.le_refl _⟩) hB (fun μ1 H locs hp hB => ?_)
      refine lv_iinc (v := (x3 + (nI 1))) (lv' := [(3, .int (x3 + (nI 1))), (0, .ref z), (1, .int x1), (2, .int x2)]) hx hb dX0_laysBuilding_45 hl (k := 3) rfl rfl (by decide) rfl (fun ls hl => ?_)
      refine lv_goto (tgt := 19) hx hb dX0_laysBuilding_48 rfl ?_
      exact ih (x3 + (nI 1)) μ1 _ _ _ hp hB (lv_sub hl [1, 2, 3, 0] rfl)
def pX0_laysBuilding (z : Nat) (x1 : Int32) (x2 : Int32) (μ : zM) (Q : zM → Prop) : Prop := (zpJ μ z 24 (-4000000000000 : Int64) fun μ1 => (zpI μ1 z 22 (nI 0) fun μ2 => (zpI μ2 z 23 (nI 0) fun μ3 => ∃ k1, pX0_laysBuilding_19 z x1 x2 Q k1 (nI 0) μ3)))
theorem hX0_laysBuilding : yX0_laysBuilding.cls = "SunkTower" ∧ yX0_laysBuilding.cls ≠ "java/lang/invoke/MethodHandle" ∧ yX0_laysBuilding.cls ≠ "java/lang/invoke/VarHandle" ∧ (parseMethodDescriptor yX0_laysBuilding.desc).map (fun d => d.parameters.length) = some 2 := by decide +kernel
set_option maxHeartbeats 4000000 in
set_option maxRecDepth 100000 in
theorem mX0_laysBuilding (l : Launch) (Γ : zG) (z : Nat) (x1 : Int32) (x2 : Int32) (μ : zM) (Q : zM → Prop) (hp : pX0_laysBuilding z x1 x2 μ Q) : Met l yX0_laysBuilding (ws_ yX0_laysBuilding cX0_laysBuilding 4 none) ({ frames := 1865, cells := 0, slots := 0, locals := 50281 } : Room) (va_Pc [.ref z, .int x1, .int x2] (zPre Γ (cSh z) μ)) (va_Qv Q (zPost Γ (cSh z) μ) (zA μ)) 0 0 (zA μ) := by
  refine zstart (by decide) (Nat.le_of_ble_eq_true rfl) ?_
  intro p e s m below meth c ls X hnm hB hl
  have X : zCx p m c cX0_laysBuilding 4 s [.ref z, .int x1, .int x2].toArray RX0 meth none := X
  have S := X.1
  obtain ⟨hx, hb, hml, hown, hts⟩ := X.1
  have hl : lv_has ls 4 [(0, .ref z), (1, .int x1), (2, .int x2)] := hl
  unfold pX0_laysBuilding at hp
  refine lv_aload_n hx hb dX0_laysBuilding_0 rfl (lv_at hl 0 rfl) ?_
  refine lv_ldc2 (v := (-4000000000000 : Int64)) hx hb hown (hts _ q1109) dX0_laysBuilding_1 ?_
  obtain ⟨μ1, eμ1, hp⟩ := zpJ_e hp
  refine g_putJ S hB (cT hB) rfl (T := TX0) (N := 33) (C := RX0) rfl in_X0 24 (by decide) (by decide) (x := (-4000000000000 : Int64)) tyX0 tyX0_ok nmX0 q330 (fun _ h9 => h9) rfl (ty := .long) (by decide +kernel) rfl rfl (fun _ _ => rfl) dX0_laysBuilding_4 (fun H locs hB => ?_)
  rw [← eμ1] at hB
  refine lv_aload_n hx hb dX0_laysBuilding_7 rfl (lv_at hl 0 rfl) ?_
  refine lv_iconst (v := (nI 0)) hx hb dX0_laysBuilding_8 rfl ?_
  obtain ⟨μ2, eμ2, hp⟩ := zpI_e hp
  refine g_putI S hB (cT hB) rfl (T := TX0) (N := 33) (C := RX0) rfl in_X0 22 (by decide) (by decide) (x := (nI 0)) tyX0 tyX0_ok nmX0 q328 (fun _ h9 => h9) rfl (ty := .int) (by decide +kernel) rfl rfl (fun _ _ => rfl) dX0_laysBuilding_9 (fun H locs hB => ?_)
  rw [← eμ2] at hB
  refine lv_aload_n hx hb dX0_laysBuilding_12 rfl (lv_at hl 0 rfl) ?_
  refine lv_iconst (v := (nI 0)) hx hb dX0_laysBuilding_13 rfl ?_
  obtain ⟨μ3, eμ3, hp⟩ := zpI_e hp
  refine g_putI S hB (cT hB) rfl (T := TX0) (N := 33) (C := RX0) rfl in_X0 23 (by decide) (by decide) (x := (nI 0)) tyX0 tyX0_ok nmX0 q329 (fun _ h9 => h9) rfl (ty := .int) (by decide +kernel) rfl rfl (fun _ _ => rfl) dX0_laysBuilding_14 (fun H locs hB => ?_)
  rw [← eμ3] at hB
  refine lv_iconst (v := (nI 0)) hx hb dX0_laysBuilding_17 rfl ?_
  refine lv_istore_n (lv' := [(3, .int (nI 0)), (0, .ref z), (1, .int x1), (2, .int x2)]) hx hb dX0_laysBuilding_18 rfl hl (by decide) rfl (fun ls hl => ?_)
  obtain ⟨n1, hp⟩ := hp
  exact wX0_laysBuilding_19 X z x1 x2 n1 (nI 0) μ3 _ _ _ hp hB (lv_sub hl [1, 2, 3, 0] rfl)
def pX0_buildings (z : Nat) (x1 : Int32) (x2 : Int32) (μ : zM) (Q : Int32 → zM → Prop) : Prop := (pX0_isBuilding z x1 x2 μ fun r2 μ1 => (if r2 = 0 then Q (-3 : Int32) μ1 else (pX0_laysBuilding z x1 x2 μ1 fun μ3 => Q (zI μ3 z 23) μ3)))
theorem hX0_buildings : yX0_buildings.cls = "SunkTower" ∧ yX0_buildings.cls ≠ "java/lang/invoke/MethodHandle" ∧ yX0_buildings.cls ≠ "java/lang/invoke/VarHandle" ∧ (parseMethodDescriptor yX0_buildings.desc).map (fun d => d.parameters.length) = some 2 := by decide +kernel
set_option maxHeartbeats 4000000 in
set_option maxRecDepth 100000 in
theorem mX0_buildings (l : Launch) (Γ : zG) (z : Nat) (x1 : Int32) (x2 : Int32) (μ : zM) (Q : Int32 → zM → Prop) (hp : pX0_buildings z x1 x2 μ Q) : Met l yX0_buildings (ws_ yX0_buildings cX0_buildings 3 (some .int)) ({ frames := 1866, cells := 0, slots := 0, locals := 50304 } : Room) (va_Pc [.ref z, .int x1, .int x2] (zPre Γ (cSh z) μ)) (va_Qi Q (zPost Γ (cSh z) μ) (zA μ)) 0 0 (zA μ) := by
  refine zstart (by decide) (Nat.le_of_ble_eq_true rfl) ?_
  intro p e s m below meth c ls X hnm hB hl
  have X : zCx p m c cX0_buildings 3 s [.ref z, .int x1, .int x2].toArray RX0 meth (some .int) := X
  have S := X.1
  obtain ⟨hx, hb, hml, hown, hts⟩ := X.1
  have hl : lv_has ls 3 [(0, .ref z), (1, .int x1), (2, .int x2)] := hl
  unfold pX0_buildings at hp
  refine lv_iload_n hx hb dX0_buildings_0 rfl (lv_at hl 1 rfl) ?_
  refine lv_iload_n hx hb dX0_buildings_1 rfl (lv_at hl 2 rfl) ?_
  refine z_calli (va_runS (As := [.int x1, .int x2]) (rest := []) S (mX0_isBuilding l Γ z x1 x2 μ _ hp) (va_cwS 2 hts (lw_S q1141 q1142 q127 q1143) rfl rfl rfl hX0_isBuilding ⟨Nat.le_of_ble_eq_true rfl, Nat.le_of_ble_eq_true rfl⟩) hB.preS rfl rfl hl.1 rfl (lv_room (Nat.le_of_ble_eq_true rfl)) dX0_buildings_2 ⟨Nat.le_refl _, Nat.le_refl _⟩) hB (fun r2 μ1 H locs hp hB => ?_)
  refine lv_if_ne (tgt := 11) hx hb dX0_buildings_5 rfl (fun c0 => ?_) (fun c0 => ?_)
  · have hp := zif hp c0
    refine lv_aload_n hx hb dX0_buildings_11 rfl (lv_at hl 0 rfl) ?_
    refine lv_iload_n hx hb dX0_buildings_12 rfl (lv_at hl 1 rfl) ?_
    refine lv_iload_n hx hb dX0_buildings_13 rfl (lv_at hl 2 rfl) ?_
    refine z_callv (va_runV (As := [.int x1, .int x2]) (rest := []) S (mX0_laysBuilding l Γ z x1 x2 μ1 _ hp) (cwV 2 hts (lw_V q1145 q1147 qs46 q127 q1148) rfl rfl rfl hX0_laysBuilding ⟨Nat.le_of_ble_eq_true rfl, Nat.le_of_ble_eq_true rfl⟩) (hB.preV (cT hB) rfl rfl) rfl rfl hl.1 rfl (lv_room (Nat.le_of_ble_eq_true rfl)) dX0_buildings_14 ⟨Nat.le_refl _, Nat.le_refl _⟩) hB (fun μ3 H locs hp hB => ?_)
    refine lv_aload_n hx hb dX0_buildings_17 rfl (lv_at hl 0 rfl) ?_
    refine g_get S hB (cT hB) rfl (T := TX0) (N := 33) (C := RX0) rfl in_X0 23 (by decide) (by decide) q329 (fun _ h9 => h9) (v := .int (zI μ3 z 23)) rfl dX0_buildings_18 ?_
    exact zret_i X hB hp dX0_buildings_21
  · have hp := zit hp c0
    refine lv_bipush (v := (-3 : Int32)) hx hb dX0_buildings_8 rfl ?_
    exact zret_i X hB hp dX0_buildings_10
def pX0_building_28 (z : Nat) (x1 : Int32) (x2 : Int32) (x3 : Int32) (Q : Int64 → zM → Prop) (μ : zM) : Prop := (pX0_isBuilding z x1 x2 μ fun r2 μ1 => (if r2 = 0 then Q (-90000000003 : Int64) μ1 else (pX0_laysBuilding z x1 x2 μ1 fun μ3 => (if (nI 2) ≤ x3 then (if (zI μ3 z 22) ≤ (x3 - (nI 10)) then Q (-1 : Int64) μ3 else (vp_in (x3 - (nI 10)) 3 ∧ Q ((zI μ3 (z + 64) (x3 - (nI 10)).toNatClampNeg).toInt64) μ3)) else (if x3 = 0 then Q (zJ μ3 z 24) μ3 else Q ((zI μ3 z 22).toInt64) μ3)))))
set_option maxHeartbeats 4000000 in
set_option maxRecDepth 100000 in
theorem wX0_building_28 {p : Program} {l : Launch} {e : Env} {s : State} {m : MethodId} {args : Array Value} {below : List Frame} {meth : Method} {c : Code} {Γ : zG} {μ0 : zM} {Q : Int64 → zM → Prop} (X : zCx p m c cX0_building 4 s args RX0 meth (some .long)) (z : Nat) (x1 : Int32) (x2 : Int32) (x3 : Int32) : ∀ (μ : zM) (H : Heap) (locs : List Loc) (ls : Array Slot), pX0_building_28 z x1 x2 x3 Q  μ → zB Γ (cSh z) (zA μ0) μ0 s μ H locs → lv_has ls 4 [(0, .ref z), (1, .int x1), (2, .int x2), (3, .int x3)] → W p l e ({ frames := 1866, cells := 0, slots := 0, locals := 50304 } : Room) s m args below meth c H locs 0 0 (MQ below (va_Ql Q (zPost Γ (cSh z) μ0) (zA μ0)) args s 0 0 (zA μ0)) (F0 m 28 ls []) := by
  have S := X.1
  obtain ⟨hx, hb, hml, hown, hts⟩ := X.1
  intro  μ H locs ls hp hB hl
  unfold pX0_building_28 at hp
  refine lv_iload_n hx hb dX0_building_28 rfl (lv_at hl 1 rfl) ?_
  refine lv_iload_n hx hb dX0_building_29 rfl (lv_at hl 2 rfl) ?_
  refine z_calli (va_runS (As := [.int x1, .int x2]) (rest := []) S (mX0_isBuilding l Γ z x1 x2 μ _ hp) (va_cwS 2 hts (lw_S q1141 q1142 q127 q1143) rfl rfl rfl hX0_isBuilding ⟨Nat.le_of_ble_eq_true rfl, Nat.le_of_ble_eq_true rfl⟩) hB.preS rfl rfl hl.1 rfl (lv_room (Nat.le_of_ble_eq_true rfl)) dX0_building_30 ⟨Nat.le_refl _, Nat.le_refl _⟩) hB (fun r2 μ1 H locs hp hB => ?_)
  refine lv_if_ne (tgt := 40) hx hb dX0_building_33 rfl (fun c0 => ?_) (fun c0 => ?_)
  · have hp := zif hp c0
    refine lv_aload_n hx hb dX0_building_40 rfl (lv_at hl 0 rfl) ?_
    refine lv_iload_n hx hb dX0_building_41 rfl (lv_at hl 1 rfl) ?_
    refine lv_iload_n hx hb dX0_building_42 rfl (lv_at hl 2 rfl) ?_
    refine z_callv (va_runV (As := [.int x1, .int x2]) (rest := []) S (mX0_laysBuilding l Γ z x1 x2 μ1 _ hp) (cwV 2 hts (lw_V q1145 q1147 qs46 q127 q1148) rfl rfl rfl hX0_laysBuilding ⟨Nat.le_of_ble_eq_true rfl, Nat.le_of_ble_eq_true rfl⟩) (hB.preV (cT hB) rfl rfl) rfl rfl hl.1 rfl (lv_room (Nat.le_of_ble_eq_true rfl)) dX0_building_43 ⟨Nat.le_refl _, Nat.le_refl _⟩) hB (fun μ3 H locs hp hB => ?_)
    refine lv_iload_n hx hb dX0_building_46 rfl (lv_at hl 3 rfl) ?_
    refine lv_iconst (v := (nI 2)) hx hb dX0_building_47 rfl ?_
    refine lv_icmp_ge (tgt := 68) hx hb dX0_building_48 rfl (fun c0 => ?_) (fun c0 => ?_)
    · have hp := zit hp c0
      refine lv_iload_n hx hb dX0_building_68 rfl (lv_at hl 3 rfl) ?_
      refine lv_bipush (v := (nI 10)) hx hb dX0_building_69 rfl ?_
      refine lv_isub hx hb dX0_building_71 ?_
      refine lv_aload_n hx hb dX0_building_72 rfl (lv_at hl 0 rfl) ?_
      refine g_get S hB (cT hB) rfl (T := TX0) (N := 33) (C := RX0) rfl in_X0 22 (by decide) (by decide) q328 (fun _ h9 => h9) (v := .int (zI μ3 z 22)) rfl dX0_building_73 ?_
      refine lv_icmp_ge (tgt := 92) hx hb dX0_building_76 rfl (fun c0 => ?_) (fun c0 => ?_)
      · have hp := zit hp c0
        refine lv_ldc2 (v := (-1 : Int64)) hx hb hown (hts _ q1162) dX0_building_92 ?_
        exact zret_l X hB hp dX0_building_95
      · have hp := zif hp c0
        refine lv_aload_n hx hb dX0_building_79 rfl (lv_at hl 0 rfl) ?_
        refine g_getr S hB (cT hB) rfl (T := TX0) (N := 33) (C := RX0) rfl in_X0 21 (by decide) (by decide) q327 (fun _ h9 => h9) (fun _ => rfl) (cA hB 11 rfl).1 dX0_building_80 ?_
        refine lv_iload_n hx hb dX0_building_83 rfl (lv_at hl 3 rfl) ?_
        refine lv_bipush (v := (nI 10)) hx hb dX0_building_84 rfl ?_
        refine lv_isub hx hb dX0_building_86 ?_
        obtain ⟨hi, hp⟩ := hp
        refine g_iald S hB (cA hB 11 rfl).2 hi dX0_building_87 ?_
        refine lv_i2l hx hb dX0_building_88 rfl ?_
        refine lv_goto (tgt := 95) hx hb dX0_building_89 rfl ?_
        exact zret_l X hB hp dX0_building_95
    · have hp := zif hp c0
      refine lv_iload_n hx hb dX0_building_51 rfl (lv_at hl 3 rfl) ?_
      refine lv_if_ne (tgt := 62) hx hb dX0_building_52 rfl (fun c0 => ?_) (fun c0 => ?_)
      · have hp := zif hp c0
        refine lv_aload_n hx hb dX0_building_62 rfl (lv_at hl 0 rfl) ?_
        refine g_get S hB (cT hB) rfl (T := TX0) (N := 33) (C := RX0) rfl in_X0 22 (by decide) (by decide) q328 (fun _ h9 => h9) (v := .int (zI μ3 z 22)) rfl dX0_building_63 ?_
        refine lv_i2l hx hb dX0_building_66 rfl ?_
        exact zret_l X hB hp dX0_building_67
      · have hp := zit hp c0
        refine lv_aload_n hx hb dX0_building_55 rfl (lv_at hl 0 rfl) ?_
        refine g_get S hB (cT hB) rfl (T := TX0) (N := 33) (C := RX0) rfl in_X0 24 (by decide) (by decide) q330 (fun _ h9 => h9) (v := .long (zJ μ3 z 24)) rfl dX0_building_56 ?_
        refine lv_goto (tgt := 67) hx hb dX0_building_59 rfl ?_
        exact zret_l X hB hp dX0_building_67
  · have hp := zit hp c0
    refine lv_ldc2 (v := (-90000000003 : Int64)) hx hb hown (hts _ q1062) dX0_building_36 ?_
    exact zret_l X hB hp dX0_building_39
def pX0_building (z : Nat) (x1 : Int32) (x2 : Int32) (x3 : Int32) (μ : zM) (Q : Int64 → zM → Prop) : Prop := (pX0_in z (x3.toInt64) (0 : Int64) (1 : Int64) μ fun r2 μ1 => (if r2 = 0 then (pX0_in z (x3.toInt64) (10 : Int64) (12 : Int64) μ1 fun r4 μ3 => (if r4 = 0 then Q (-90000000002 : Int64) μ3 else pX0_building_28 z x1 x2 x3 Q μ3)) else pX0_building_28 z x1 x2 x3 Q μ1))
theorem hX0_building : yX0_building.cls = "SunkTower" ∧ yX0_building.cls ≠ "java/lang/invoke/MethodHandle" ∧ yX0_building.cls ≠ "java/lang/invoke/VarHandle" ∧ (parseMethodDescriptor yX0_building.desc).map (fun d => d.parameters.length) = some 3 := by decide +kernel
set_option maxHeartbeats 4000000 in
set_option maxRecDepth 100000 in
theorem mX0_building (l : Launch) (Γ : zG) (z : Nat) (x1 : Int32) (x2 : Int32) (x3 : Int32) (μ : zM) (Q : Int64 → zM → Prop) (hp : pX0_building z x1 x2 x3 μ Q) : Met l yX0_building (ws_ yX0_building cX0_building 4 (some .long)) ({ frames := 1866, cells := 0, slots := 0, locals := 50304 } : Room) (va_Pc [.ref z, .int x1, .int x2, .int x3] (zPre Γ (cSh z) μ)) (va_Ql Q (zPost Γ (cSh z) μ) (zA μ)) 0 0 (zA μ) := by
  refine zstart (by decide) (Nat.le_of_ble_eq_true rfl) ?_
  intro p e s m below meth c ls X hnm hB hl
  have X : zCx p m c cX0_building 4 s [.ref z, .int x1, .int x2, .int x3].toArray RX0 meth (some .long) := X
  have S := X.1
  obtain ⟨hx, hb, hml, hown, hts⟩ := X.1
  have hl : lv_has ls 4 [(0, .ref z), (1, .int x1), (2, .int x2), (3, .int x3)] := hl
  unfold pX0_building at hp
  refine lv_iload_n hx hb dX0_building_0 rfl (lv_at hl 3 rfl) ?_
  refine lv_i2l hx hb dX0_building_1 rfl ?_
  refine lv_lconst (v := (0 : Int64)) hx hb dX0_building_2 rfl ?_
  refine lv_lconst (v := (1 : Int64)) hx hb dX0_building_3 rfl ?_
  refine z_calli (va_runS (As := [.long (x3.toInt64), .long (0 : Int64), .long (1 : Int64)]) (rest := []) S (mX0_in l Γ z (x3.toInt64) (0 : Int64) (1 : Int64) μ _ hp) (va_cwS 3 hts (lw_S q418 q419 q127 q420) rfl rfl rfl hX0_in ⟨Nat.le_of_ble_eq_true rfl, Nat.le_of_ble_eq_true rfl⟩) hB.preS rfl rfl hl.1 rfl (lv_room (Nat.le_of_ble_eq_true rfl)) dX0_building_4 ⟨Nat.le_refl _, Nat.le_refl _⟩) hB (fun r2 μ1 H locs hp hB => ?_)
  refine lv_if_ne (tgt := 28) hx hb dX0_building_7 rfl (fun c0 => ?_) (fun c0 => ?_)
  · have hp := zif hp c0
    exact wX0_building_28 X z x1 x2 x3 μ1 _ _ _ hp hB (lv_sub hl [0, 1, 2, 3] rfl)
  · have hp := zit hp c0
    refine lv_iload_n hx hb dX0_building_10 rfl (lv_at hl 3 rfl) ?_
    refine lv_i2l hx hb dX0_building_11 rfl ?_
    refine lv_ldc2 (v := (10 : Int64)) hx hb hown (hts _ q1139) dX0_building_12 ?_
    refine lv_ldc2 (v := (12 : Int64)) hx hb hown (hts _ q1140) dX0_building_15 ?_
    refine z_calli (va_runS (As := [.long (x3.toInt64), .long (10 : Int64), .long (12 : Int64)]) (rest := []) S (mX0_in l Γ z (x3.toInt64) (10 : Int64) (12 : Int64) μ1 _ hp) (va_cwS 3 hts (lw_S q418 q419 q127 q420) rfl rfl rfl hX0_in ⟨Nat.le_of_ble_eq_true rfl, Nat.le_of_ble_eq_true rfl⟩) hB.preS rfl rfl hl.1 rfl (lv_room (Nat.le_of_ble_eq_true rfl)) dX0_building_18 ⟨Nat.le_refl _, Nat.le_refl _⟩) hB (fun r4 μ3 H locs hp hB => ?_)
    refine lv_if_ne (tgt := 28) hx hb dX0_building_21 rfl (fun c0 => ?_) (fun c0 => ?_)
    · have hp := zif hp c0
      exact wX0_building_28 X z x1 x2 x3 μ3 _ _ _ hp hB (lv_sub hl [0, 1, 2, 3] rfl)
    · have hp := zit hp c0
      refine lv_ldc2 (v := (-90000000002 : Int64)) hx hb hown (hts _ q1089) dX0_building_24 ?_
      exact zret_l X hB hp dX0_building_27
