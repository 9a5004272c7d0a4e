def pJ4_checkIndex_9 (x0 : Int32) (x1 : Int32) (x2 : Option Nat) (Q : Int32 → zM → Prop) (μ : zM) : Prop := False
set_option maxHeartbeats 4000000 in
set_option maxRecDepth 100000 in
theorem wJ4_checkIndex_9 {p : Program} {l : Launch} {e : Env} {s : State} {m : MethodId} {args : Array Value} {below : List Frame} {meth : Method} {c : Code} {Γ : zG} {Sh : zSh} {μ0 : zM} {Q : Int32 → zM → Prop} (X : zCx p m c cJ4_checkIndex 3 s args RJ4 meth (some .int)) (x0 : Int32) (x1 : Int32) (x2 : Option Nat) : ∀ (μ : zM) (H : Heap) (locs : List Loc) (ls : Array Slot), pJ4_checkIndex_9 x0 x1 x2 Q  μ → zB Γ Sh (zA μ0) μ0 s μ H locs → lv_has ls 3 [(0, .int x0), (1, .int x1), (2, va_rf x2)] → W p l e ({ frames := 0, cells := 0, slots := 0, locals := 0 } : Room) s m args below meth c H locs 0 0 (MQ below (va_Qi Q (zPost Γ Sh μ0) (zA μ0)) args s 0 0 (zA μ0)) (F0 m 9 ls []) := by
  have S := X.1
  obtain ⟨hx, hb, hml, hown, hts⟩ := X.1
  intro  μ H locs ls hp hB hl
  unfold pJ4_checkIndex_9 at hp
  refine g_aload_nq hx hb dJ4_checkIndex_9 rfl (lv_at hl 2 rfl) ?_
  refine lv_iload_n hx hb dJ4_checkIndex_10 rfl (lv_at hl 0 rfl) ?_
  refine lv_iload_n hx hb dJ4_checkIndex_11 rfl (lv_at hl 1 rfl) ?_
  exact hp.elim
def pJ4_checkIndex (x0 : Int32) (x1 : Int32) (x2 : Option Nat) (μ : zM) (Q : Int32 → zM → Prop) : Prop := (if x0 < 0 then pJ4_checkIndex_9 x0 x1 x2 Q μ else (if x0 < x1 then Q x0 μ else pJ4_checkIndex_9 x0 x1 x2 Q μ))
theorem hJ4_checkIndex : yJ4_checkIndex.cls ≠ "java/lang/invoke/MethodHandle" ∧ yJ4_checkIndex.cls ≠ "java/lang/invoke/VarHandle" ∧ (parseMethodDescriptor yJ4_checkIndex.desc).map (fun d => d.parameters.length) = some 3 := by decide +kernel
set_option maxHeartbeats 4000000 in
set_option maxRecDepth 100000 in
theorem mJ4_checkIndex (l : Launch) (Γ : zG) (Sh : zSh) (x0 : Int32) (x1 : Int32) (x2 : Option Nat) (μ : zM) (Q : Int32 → zM → Prop) (hp : pJ4_checkIndex x0 x1 x2 μ Q) : Met l yJ4_checkIndex (ws_ yJ4_checkIndex cJ4_checkIndex 3 (some .int)) ({ frames := 0, cells := 0, slots := 0, locals := 0 } : Room) (va_Pc [.int x0, .int x1, va_rf x2] (zPre Γ Sh μ)) (va_Qi Q (zPost Γ Sh μ) (zA μ)) 0 0 (zA μ) := by
  refine zstart (by decide) (by cases x2 <;> exact Nat.le_of_ble_eq_true rfl) ?_
  intro p e s m below meth c ls X hnm hB hl
  have X : zCx p m c cJ4_checkIndex 3 s [.int x0, .int x1, va_rf x2].toArray RJ4 meth (some .int) := X
  have S := X.1
  obtain ⟨hx, hb, hml, hown, hts⟩ := X.1
  have hl : lv_has ls 3 [(0, .int x0), (1, .int x1), (2, va_rf x2)] := by cases x2 <;> exact hl
  unfold pJ4_checkIndex at hp
  refine lv_iload_n hx hb dJ4_checkIndex_0 rfl (lv_at hl 0 rfl) ?_
  refine lv_if_lt (tgt := 9) hx hb dJ4_checkIndex_1 rfl (fun c0 => ?_) (fun c0 => ?_)
  · have hp := zit hp c0
    exact wJ4_checkIndex_9 X x0 x1 x2 μ _ _ _ hp hB (lv_sub hl [0, 1, 2] rfl)
  · have hp := zif hp c0
    refine lv_iload_n hx hb dJ4_checkIndex_4 rfl (lv_at hl 0 rfl) ?_
    refine lv_iload_n hx hb dJ4_checkIndex_5 rfl (lv_at hl 1 rfl) ?_
    refine lv_icmp_lt (tgt := 16) hx hb dJ4_checkIndex_6 rfl (fun c0 => ?_) (fun c0 => ?_)
    · have hp := zit hp c0
      refine lv_iload_n hx hb dJ4_checkIndex_16 rfl (lv_at hl 0 rfl) ?_
      exact zret_i X hB hp dJ4_checkIndex_17
    · have hp := zif hp c0
      exact wJ4_checkIndex_9 X x0 x1 x2 μ _ _ _ hp hB (lv_sub hl [0, 1, 2] rfl)
def pJ0_checkIndex (x0 : Int32) (x1 : Int32) (μ : zM) (Q : zM → Prop) : Prop := (∀ q1 : Option Nat, (zde q1 fun b2 => (pJ4_checkIndex x0 x1 b2 μ fun r4 μ3 => Q μ3)))
theorem hJ0_checkIndex : yJ0_checkIndex.cls ≠ "java/lang/invoke/MethodHandle" ∧ yJ0_checkIndex.cls ≠ "java/lang/invoke/VarHandle" ∧ (parseMethodDescriptor yJ0_checkIndex.desc).map (fun d => d.parameters.length) = some 2 := by decide +kernel
set_option maxHeartbeats 4000000 in
set_option maxRecDepth 100000 in
theorem mJ0_checkIndex (l : Launch) (Γ : zG) (Sh : zSh) (x0 : Int32) (x1 : Int32) (μ : zM) (Q : zM → Prop) (hp : pJ0_checkIndex x0 x1 μ Q) : Met l yJ0_checkIndex (ws_ yJ0_checkIndex cJ0_checkIndex 2 none) ({ frames := 1, cells := 0, slots := 0, locals := 22 } : Room) (va_Pc [.int x0, .int x1] (zPre Γ Sh μ)) (va_Qv Q (zPost Γ Sh μ) (zA μ)) 0 0 (zA μ) := by
  refine zstart (by decide) (Nat.le_of_ble_eq_true rfl) ?_
  intro p e s m below meth c ls X hnm hB hl
  have X : zCx p m c cJ0_checkIndex 2 s [.int x0, .int x1].toArray RJ0 meth none := X
  have S := X.1
  obtain ⟨hx, hb, hml, hown, hts⟩ := X.1
  have hl : lv_has ls 2 [(0, .int x0), (1, .int x1)] := hl
  unfold pJ0_checkIndex at hp
  refine lv_iload_n hx hb dJ0_checkIndex_0 rfl (lv_at hl 0 rfl) ?_
  refine lv_iload_n hx hb dJ0_checkIndex_1 rfl (lv_at hl 1 rfl) ?_
  obtain ⟨q1, hZ⟩ := zq_of hB.2.2.2.2.2.2.2.1.2.2.1
  have hp := hp q1
  refine va_gets hx hb hZ hB.2.2.2.1 hown (hts _ q547) (fun _ h9 => h9) dJ0_checkIndex_2 ?_
  obtain ⟨b2, eb, hp⟩ := hp
  refine W.eq (g2 := F0 m 5 ls [.ref b2, .int x1, .int x0]) (by rw [eb]; rfl) ?_
  refine z_calli (va_runS (As := [.int x0, .int x1, .ref b2]) (rest := []) S (mJ4_checkIndex l Γ Sh x0 x1 b2 μ _ hp) (va_cwS 3 hts (lw_S q598 q599 q138 q600) rfl rfl rfl hJ4_checkIndex ⟨Nat.le_of_ble_eq_true rfl, Nat.le_of_ble_eq_true rfl⟩) hB.preS rfl rfl hl.1 rfl (lv_room (Nat.le_of_ble_eq_true rfl)) dJ0_checkIndex_5 ⟨Nat.le_refl _, Nat.le_refl _⟩) hB (fun r4 μ3 H locs hp hB => ?_)
  refine lv_pop hx hb dJ0_checkIndex_8 rfl ?_
  exact zret_v X hB hp dJ0_checkIndex_9
def pJ1_charAt (x0 : Nat) (x1 : Int32) (μ : zM) (Q : Int32 → zM → Prop) : Prop := (x0 < zSn ∧ (pJ0_checkIndex x1 (nI (zSl.getD x0 0)) μ fun μ1 => (x0 < zSn ∧ vp_in x1 (zSl.getD x0 0) ∧ (narrow .char (.int (((((zSb.getD x0 []).getD x1.toNatClampNeg 0) &&& (nI 255)).toUInt32 % 65536).toInt32)) = .int (((((zSb.getD x0 []).getD x1.toNatClampNeg 0) &&& (nI 255)).toUInt32 % 65536).toInt32) ∧ Q (((((zSb.getD x0 []).getD x1.toNatClampNeg 0) &&& (nI 255)).toUInt32 % 65536).toInt32) μ1))))
theorem hJ1_charAt : yJ1_charAt.cls ≠ "java/lang/invoke/MethodHandle" ∧ yJ1_charAt.cls ≠ "java/lang/invoke/VarHandle" ∧ (parseMethodDescriptor yJ1_charAt.desc).map (fun d => d.parameters.length) = some 2 := by decide +kernel
set_option maxHeartbeats 4000000 in
set_option maxRecDepth 100000 in
theorem mJ1_charAt (l : Launch) (Γ : zG) (Sh : zSh) (x0 : Nat) (x1 : Int32) (μ : zM) (Q : Int32 → zM → Prop) (hp : pJ1_charAt x0 x1 μ Q) : Met l yJ1_charAt (ws_ yJ1_charAt cJ1_charAt 2 (some .char)) ({ frames := 2, cells := 0, slots := 0, locals := 43 } : Room) (va_Pc [.ref (Γ.2.2.2 x0), .int x1] (zPre Γ Sh μ)) (va_Qi Q (zPost Γ Sh μ) (zA μ)) 0 0 (zA μ) := by
  refine zstart (by decide) (Nat.le_of_ble_eq_true rfl) ?_
  intro p e s m below meth c ls X hnm hB hl
  have X : zCx p m c cJ1_charAt 2 s [.ref (Γ.2.2.2 x0), .int x1].toArray RJ1 meth (some .char) := X
  have S := X.1
  obtain ⟨hx, hb, hml, hown, hts⟩ := X.1
  have hl : lv_has ls 2 [(0, .ref (Γ.2.2.2 x0)), (1, .int x1)] := hl
  unfold pJ1_charAt at hp
  refine lv_iload_n hx hb dJ1_charAt_0 rfl (lv_at hl 1 rfl) ?_
  refine lv_aload_n hx hb dJ1_charAt_1 rfl (lv_at hl 0 rfl) ?_
  obtain ⟨hw, hp⟩ := hp
  refine va_tlen hx hb (hB.2.2.2.2.2.2.2.1.1.1 _ hw).2.2.2 hB.2.2.2.1 (v := nI (zSl.getD x0 0)) rfl dJ1_charAt_2 ?_
  refine z_callv (va_runS (As := [.int x1, .int (nI (zSl.getD x0 0))]) (rest := []) S (mJ0_checkIndex l Γ Sh x1 (nI (zSl.getD x0 0)) μ _ hp) (va_cwS 2 hts (lw_S q595 q596 q134 q597) rfl rfl rfl hJ0_checkIndex ⟨Nat.le_of_ble_eq_true rfl, Nat.le_of_ble_eq_true rfl⟩) hB.preS rfl rfl hl.1 rfl (lv_room (Nat.le_of_ble_eq_true rfl)) dJ1_charAt_3 ⟨Nat.le_refl _, Nat.le_refl _⟩) hB (fun μ1 H locs hp hB => ?_)
  refine lv_aload_n hx hb dJ1_charAt_6 rfl (lv_at hl 0 rfl) ?_
  refine lv_iload_n hx hb dJ1_charAt_7 rfl (lv_at hl 1 rfl) ?_
  obtain ⟨hw, hi, hp⟩ := hp
  refine va_tb hx hb (hB.2.2.2.2.2.2.2.1.1.1 _ hw).2.2.2 hB.2.2.2.1 hi rfl dJ1_charAt_8 ?_
  refine lv_sipush (v := (nI 255)) hx hb dJ1_charAt_9 rfl ?_
  refine lv_iand hx hb dJ1_charAt_12 ?_
  refine lv_i2c hx hb dJ1_charAt_13 rfl ?_
  exact zret_z X hB hp.1 hp.2 dJ1_charAt_14
def pJ0_isLatin1 (w : Nat) (μ : zM) (Q : Int32 → zM → Prop) : Prop := (if (nI 1) = 0 then Q (nI 0) μ else (w < zSn ∧ (if (nI 0) = 0 then Q (nI 1) μ else Q (nI 0) μ)))
theorem hJ0_isLatin1 : yJ0_isLatin1.cls = "java/lang/String" ∧ yJ0_isLatin1.cls ≠ "java/lang/invoke/MethodHandle" ∧ yJ0_isLatin1.cls ≠ "java/lang/invoke/VarHandle" ∧ (parseMethodDescriptor yJ0_isLatin1.desc).map (fun d => d.parameters.length) = some 0 := by decide +kernel
set_option maxHeartbeats 4000000 in
set_option maxRecDepth 100000 in
theorem mJ0_isLatin1 (l : Launch) (Γ : zG) (Sh : zSh) (w : Nat) (μ : zM) (Q : Int32 → zM → Prop) (hp : pJ0_isLatin1 w μ Q) : Met l yJ0_isLatin1 (ws_ yJ0_isLatin1 cJ0_isLatin1 1 (some .boolean)) ({ frames := 0, cells := 0, slots := 0, locals := 0 } : Room) (va_Pc [.ref (Γ.2.2.1 w)] (zPre Γ Sh μ)) (va_Qi Q (zPost Γ Sh μ) (zA μ)) 0 0 (zA μ) := by
  refine zstart (by decide) (Nat.le_of_ble_eq_true rfl) ?_
  intro p e s m below meth c ls X hnm hB hl
  have X : zCx p m c cJ0_isLatin1 1 s [.ref (Γ.2.2.1 w)].toArray RJ0 meth (some .boolean) := X
  have S := X.1
  obtain ⟨hx, hb, hml, hown, hts⟩ := X.1
  have hl : lv_has ls 1 [(0, .ref (Γ.2.2.1 w))] := hl
  unfold pJ0_isLatin1 at hp
  refine va_gets hx hb hB.2.2.2.2.2.2.2.1.2.1 hB.2.2.2.1 hown (hts _ q504) (fun _ h9 => h9) dJ0_isLatin1_0 ?_
  refine lv_if_eq (tgt := 17) hx hb dJ0_isLatin1_3 rfl (fun c0 => ?_) (fun c0 => ?_)
  · have hp := zit hp c0
    refine lv_iconst (v := (nI 0)) hx hb dJ0_isLatin1_17 rfl ?_
    exact zret_z X hB rfl hp dJ0_isLatin1_18
  · have hp := zif hp c0
    refine lv_aload_n hx hb dJ0_isLatin1_6 rfl (lv_at hl 0 rfl) ?_
    obtain ⟨hw, hp⟩ := hp
    refine vk_getf hx hb (hB.2.2.2.2.2.2.2.1.1.1 _ hw).2.1 hB.2.2.2.1 hown (hts _ q2034) (fun _ h9 => h9) dJ0_isLatin1_7 ?_
    refine lv_if_ne (tgt := 17) hx hb dJ0_isLatin1_10 rfl (fun c0 => ?_) (fun c0 => ?_)
    · have hp := zif hp c0
      refine lv_iconst (v := (nI 0)) hx hb dJ0_isLatin1_17 rfl ?_
      exact zret_z X hB rfl hp dJ0_isLatin1_18
    · have hp := zit hp c0
      refine lv_iconst (v := (nI 1)) hx hb dJ0_isLatin1_13 rfl ?_
      refine lv_goto (tgt := 18) hx hb dJ0_isLatin1_14 rfl ?_
      exact zret_z X hB rfl hp dJ0_isLatin1_18
def pJ0_coder (w : Nat) (μ : zM) (Q : Int32 → zM → Prop) : Prop := (if (nI 1) = 0 then (narrow .byte (.int (nI 1)) = .int (nI 1) ∧ Q (nI 1) μ) else (w < zSn ∧ (narrow .byte (.int (nI 0)) = .int (nI 0) ∧ Q (nI 0) μ)))
theorem hJ0_coder : yJ0_coder.cls = "java/lang/String" ∧ yJ0_coder.cls ≠ "java/lang/invoke/MethodHandle" ∧ yJ0_coder.cls ≠ "java/lang/invoke/VarHandle" ∧ (parseMethodDescriptor yJ0_coder.desc).map (fun d => d.parameters.length) = some 0 := by decide +kernel
set_option maxHeartbeats 4000000 in
set_option maxRecDepth 100000 in
theorem mJ0_coder (l : Launch) (Γ : zG) (Sh : zSh) (w : Nat) (μ : zM) (Q : Int32 → zM → Prop) (hp : pJ0_coder w μ Q) : Met l yJ0_coder (ws_ yJ0_coder cJ0_coder 1 (some .byte)) ({ frames := 0, cells := 0, slots := 0, locals := 0 } : Room) (va_Pc [.ref (Γ.2.2.1 w)] (zPre Γ Sh μ)) (va_Qi Q (zPost Γ Sh μ) (zA μ)) 0 0 (zA μ) := by
  refine zstart (by decide) (Nat.le_of_ble_eq_true rfl) ?_
  intro p e s m below meth c ls X hnm hB hl
  have X : zCx p m c cJ0_coder 1 s [.ref (Γ.2.2.1 w)].toArray RJ0 meth (some .byte) := X
  have S := X.1
  obtain ⟨hx, hb, hml, hown, hts⟩ := X.1
  have hl : lv_has ls 1 [(0, .ref (Γ.2.2.1 w))] := hl
  unfold pJ0_coder at hp
  refine va_gets hx hb hB.2.2.2.2.2.2.2.1.2.1 hB.2.2.2.1 hown (hts _ q504) (fun _ h9 => h9) dJ0_coder_0 ?_
  refine lv_if_eq (tgt := 13) hx hb dJ0_coder_3 rfl (fun c0 => ?_) (fun c0 => ?_)
  · have hp := zit hp c0
    refine lv_iconst (v := (nI 1)) hx hb dJ0_coder_13 rfl ?_
    exact zret_z X hB hp.1 hp.2 dJ0_coder_14
  · have hp := zif hp c0
    refine lv_aload_n hx hb dJ0_coder_6 rfl (lv_at hl 0 rfl) ?_
    obtain ⟨hw, hp⟩ := hp
    refine vk_getf hx hb (hB.2.2.2.2.2.2.2.1.1.1 _ hw).2.1 hB.2.2.2.1 hown (hts _ q2034) (fun _ h9 => h9) dJ0_coder_7 ?_
    refine lv_goto (tgt := 14) hx hb dJ0_coder_10 rfl ?_
    exact zret_z X hB hp.1 hp.2 dJ0_coder_14
def pJ0_length (w : Nat) (μ : zM) (Q : Int32 → zM → Prop) : Prop := (w < zSn ∧ (w < zSn ∧ (w < zSn ∧ (pJ0_coder w μ fun r2 μ1 => Q ((nI (zSl.getD w 0)) >>> (r2 &&& 31)) μ1))))
theorem hJ0_length : yJ0_length.cls = "java/lang/String" ∧ yJ0_length.cls ≠ "java/lang/invoke/MethodHandle" ∧ yJ0_length.cls ≠ "java/lang/invoke/VarHandle" ∧ (parseMethodDescriptor yJ0_length.desc).map (fun d => d.parameters.length) = some 0 := by decide +kernel
set_option maxHeartbeats 4000000 in
set_option maxRecDepth 100000 in
theorem mJ0_length (l : Launch) (Γ : zG) (Sh : zSh) (w : Nat) (μ : zM) (Q : Int32 → zM → Prop) (hp : pJ0_length w μ Q) : Met l yJ0_length (ws_ yJ0_length cJ0_length 1 (some .int)) ({ frames := 1, cells := 0, slots := 0, locals := 20 } : Room) (va_Pc [.ref (Γ.2.2.1 w)] (zPre Γ Sh μ)) (va_Qi Q (zPost Γ Sh μ) (zA μ)) 0 0 (zA μ) := by
  refine zstart (by decide) (Nat.le_of_ble_eq_true rfl) ?_
  intro p e s m below meth c ls X hnm hB hl
  have X : zCx p m c cJ0_length 1 s [.ref (Γ.2.2.1 w)].toArray RJ0 meth (some .int) := X
  have S := X.1
  obtain ⟨hx, hb, hml, hown, hts⟩ := X.1
  have hl : lv_has ls 1 [(0, .ref (Γ.2.2.1 w))] := hl
  unfold pJ0_length at hp
  refine lv_aload_n hx hb dJ0_length_0 rfl (lv_at hl 0 rfl) ?_
  obtain ⟨hw, hp⟩ := hp
  refine vk_getf hx hb (hB.2.2.2.2.2.2.2.1.1.1 _ hw).2.2.1 hB.2.2.2.1 hown (hts _ q2035) (fun _ h9 => h9) dJ0_length_1 ?_
  obtain ⟨hw, hp⟩ := hp
  refine va_tlen hx hb (hB.2.2.2.2.2.2.2.1.1.1 _ hw).2.2.2 hB.2.2.2.1 (v := nI (zSl.getD w 0)) rfl dJ0_length_4 ?_
  refine lv_aload_n hx hb dJ0_length_5 rfl (lv_at hl 0 rfl) ?_
  obtain ⟨hw0, hp⟩ := hp
  refine z_calli (va_runV (As := []) (rest := [.int (nI (zSl.getD w 0))]) S (mJ0_coder l Γ Sh w μ _ hp) (cwV 0 hts (lw_V q510 q511 q512 q134 q513) rfl rfl rfl hJ0_coder ⟨Nat.le_of_ble_eq_true rfl, Nat.le_of_ble_eq_true rfl⟩) (hB.preStr hw0) rfl rfl hl.1 rfl (lv_room (Nat.le_of_ble_eq_true rfl)) dJ0_length_6 ⟨Nat.le_refl _, Nat.le_refl _⟩) hB (fun r2 μ1 H locs hp hB => ?_)
  refine lv_ishr hx hb dJ0_length_9 ?_
  exact zret_i X hB hp dJ0_length_10
def pJ0_charAt (w : Nat) (x1 : Int32) (μ : zM) (Q : Int32 → zM → Prop) : Prop := (w < zSn ∧ (pJ0_isLatin1 w μ fun r2 μ1 => (if r2 = 0 then (w < zSn ∧ False) else (w < zSn ∧ (pJ1_charAt w x1 μ1 fun r4 μ3 => (narrow .char (.int r4) = .int r4 ∧ Q r4 μ3))))))
theorem hJ0_charAt : yJ0_charAt.cls = "java/lang/String" ∧ yJ0_charAt.cls ≠ "java/lang/invoke/MethodHandle" ∧ yJ0_charAt.cls ≠ "java/lang/invoke/VarHandle" ∧ (parseMethodDescriptor yJ0_charAt.desc).map (fun d => d.parameters.length) = some 1 := by decide +kernel
set_option maxHeartbeats 4000000 in
set_option maxRecDepth 100000 in
theorem mJ0_charAt (l : Launch) (Γ : zG) (Sh : zSh) (w : Nat) (x1 : Int32) (μ : zM) (Q : Int32 → zM → Prop) (hp : pJ0_charAt w x1 μ Q) : Met l yJ0_charAt (ws_ yJ0_charAt cJ0_charAt 2 (some .char)) ({ frames := 3, cells := 0, slots := 0, locals := 64 } : Room) (va_Pc [.ref (Γ.2.2.1 w), .int x1] (zPre Γ Sh μ)) (va_Qi Q (zPost Γ Sh μ) (zA μ)) 0 0 (zA μ) := by
  refine zstart (by decide) (Nat.le_of_ble_eq_true rfl) ?_
  intro p e s m below meth c ls X hnm hB hl
  have X : zCx p m c cJ0_charAt 2 s [.ref (Γ.2.2.1 w), .int x1].toArray RJ0 meth (some .char) := X
  have S := X.1
  obtain ⟨hx, hb, hml, hown, hts⟩ := X.1
  have hl : lv_has ls 2 [(0, .ref (Γ.2.2.1 w)), (1, .int x1)] := hl
  unfold pJ0_charAt at hp
  refine lv_aload_n hx hb dJ0_charAt_0 rfl (lv_at hl 0 rfl) ?_
  obtain ⟨hw0, hp⟩ := hp
  refine z_calli (va_runV (As := []) (rest := []) S (mJ0_isLatin1 l Γ Sh w μ _ hp) (cwV 0 hts (lw_V q500 q501 q502 q134 q503) rfl rfl rfl hJ0_isLatin1 ⟨Nat.le_of_ble_eq_true rfl, Nat.le_of_ble_eq_true rfl⟩) (hB.preStr hw0) rfl rfl hl.1 rfl (lv_room (Nat.le_of_ble_eq_true rfl)) dJ0_charAt_1 ⟨Nat.le_refl _, Nat.le_refl _⟩) hB (fun r2 μ1 H locs hp hB => ?_)
  refine lv_if_eq (tgt := 16) hx hb dJ0_charAt_4 rfl (fun c0 => ?_) (fun c0 => ?_)
  · have hp := zit hp c0
    refine lv_aload_n hx hb dJ0_charAt_16 rfl (lv_at hl 0 rfl) ?_
    obtain ⟨hw, hp⟩ := hp
    refine vk_getf hx hb (hB.2.2.2.2.2.2.2.1.1.1 _ hw).2.2.1 hB.2.2.2.1 hown (hts _ q2035) (fun _ h9 => h9) dJ0_charAt_17 ?_
    refine lv_iload_n hx hb dJ0_charAt_20 rfl (lv_at hl 1 rfl) ?_
    exact hp.elim
  · have hp := zif hp c0
    refine lv_aload_n hx hb dJ0_charAt_7 rfl (lv_at hl 0 rfl) ?_
    obtain ⟨hw, hp⟩ := hp
    refine vk_getf hx hb (hB.2.2.2.2.2.2.2.1.1.1 _ hw).2.2.1 hB.2.2.2.1 hown (hts _ q2035) (fun _ h9 => h9) dJ0_charAt_8 ?_
    refine lv_iload_n hx hb dJ0_charAt_11 rfl (lv_at hl 1 rfl) ?_
    refine z_calli (va_runS (As := [.ref (Γ.2.2.2 w), .int x1]) (rest := []) S (mJ1_charAt l Γ Sh w x1 μ1 _ hp) (va_cwS 2 hts (lw_S q592 q593 q135 q594) rfl rfl rfl hJ1_charAt ⟨Nat.le_of_ble_eq_true rfl, Nat.le_of_ble_eq_true rfl⟩) hB.preS rfl rfl hl.1 rfl (lv_room (Nat.le_of_ble_eq_true rfl)) dJ0_charAt_12 ⟨Nat.le_refl _, Nat.le_refl _⟩) hB (fun r4 μ3 H locs hp hB => ?_)
    exact zret_z X hB hp.1 hp.2 dJ0_charAt_15
def pJ1_canEncode (x0 : Int32) (μ : zM) (Q : Int32 → zM → Prop) : Prop := (if x0 < 0 then Q (nI 0) μ else (if (nI 255) < x0 then Q (nI 0) μ else Q (nI 1) μ))
theorem hJ1_canEncode : yJ1_canEncode.cls ≠ "java/lang/invoke/MethodHandle" ∧ yJ1_canEncode.cls ≠ "java/lang/invoke/VarHandle" ∧ (parseMethodDescriptor yJ1_canEncode.desc).map (fun d => d.parameters.length) = some 1 := by decide +kernel
set_option maxHeartbeats 4000000 in
set_option maxRecDepth 100000 in
theorem mJ1_canEncode (l : Launch) (Γ : zG) (Sh : zSh) (x0 : Int32) (μ : zM) (Q : Int32 → zM → Prop) (hp : pJ1_canEncode x0 μ Q) : Met l yJ1_canEncode (ws_ yJ1_canEncode cJ1_canEncode 1 (some .boolean)) ({ frames := 0, cells := 0, slots := 0, locals := 0 } : Room) (va_Pc [.int x0] (zPre Γ Sh μ)) (va_Qi Q (zPost Γ Sh μ) (zA μ)) 0 0 (zA μ) := by
  refine zstart (by decide) (Nat.le_of_ble_eq_true rfl) ?_
  intro p e s m below meth c ls X hnm hB hl
  have X : zCx p m c cJ1_canEncode 1 s [.int x0].toArray RJ1 meth (some .boolean) := X
  have S := X.1
  obtain ⟨hx, hb, hml, hown, hts⟩ := X.1
  have hl : lv_has ls 1 [(0, .int x0)] := hl
  unfold pJ1_canEncode at hp
  refine lv_iload_n hx hb dJ1_canEncode_0 rfl (lv_at hl 0 rfl) ?_
  refine lv_if_lt (tgt := 15) hx hb dJ1_canEncode_1 rfl (fun c0 => ?_) (fun c0 => ?_)
  · have hp := zit hp c0
    refine lv_iconst (v := (nI 0)) hx hb dJ1_canEncode_15 rfl ?_
    exact zret_z X hB rfl hp dJ1_canEncode_16
  · have hp := zif hp c0
    refine lv_iload_n hx hb dJ1_canEncode_4 rfl (lv_at hl 0 rfl) ?_
    refine lv_sipush (v := (nI 255)) hx hb dJ1_canEncode_5 rfl ?_
    refine lv_icmp_gt (tgt := 15) hx hb dJ1_canEncode_8 rfl (fun c0 => ?_) (fun c0 => ?_)
    · have hp := zit hp c0
      refine lv_iconst (v := (nI 0)) hx hb dJ1_canEncode_15 rfl ?_
      exact zret_z X hB rfl hp dJ1_canEncode_16
    · have hp := zif hp c0
      refine lv_iconst (v := (nI 1)) hx hb dJ1_canEncode_11 rfl ?_
      refine lv_goto (tgt := 16) hx hb dJ1_canEncode_12 rfl ?_
      exact zret_z X hB rfl hp dJ1_canEncode_16
def pJ1_indexOfChar_7 (x0 : Nat) (x3 : Int32) (Q : Int32 → zM → Prop) : Nat → Int32 → Int32 → zM → Prop
  | 0, _, _, _ => False
  | n + 1, x4, x5, μ => (if x3 ≤ x5 then Q (-1 : Int32) μ else (x0 < zSn ∧ vp_in x5 (zSl.getD x0 0) ∧ (if ((zSb.getD x0 []).getD x5.toNatClampNeg 0) = x4 then Q x5 μ else pJ1_indexOfChar_7 x0 x3 Q n x4 (x5 + (nI 1)) μ)))
set_option maxHeartbeats 4000000 in
set_option maxRecDepth 100000 in
theorem wJ1_indexOfChar_7 {p : Program} {l : Launch} {e : Env} {s : State} {m : MethodId} {args : Array Value} {below : List Frame} {meth : Method} {c : Code} {Γ : zG} {Sh : zSh} {μ0 : zM} {Q : Int32 → zM → Prop} (X : zCx p m c cJ1_indexOfChar 6 s args RJ1 meth (some .int)) (x0 : Nat) (x3 : Int32) : ∀ (n : Nat) (x4 : Int32) (x5 : Int32) (μ : zM) (H : Heap) (locs : List Loc) (ls : Array Slot), pJ1_indexOfChar_7 x0 x3 Q n x4 x5 μ → zB Γ Sh (zA μ0) μ0 s μ H locs → lv_has ls 6 [(0, .ref (Γ.2.2.2 x0)), (3, .int x3), (4, .int x4), (5, .int x5)] → W p l e ({ frames := 0, cells := 0, slots := 0, locals := 0 } : Room) s m args below meth c H locs 0 0 (MQ below (va_Qi Q (zPost Γ Sh μ0) (zA μ0)) args s 0 0 (zA μ0)) (F0 m 7 ls []) := by
  have S := X.1
  obtain ⟨hx, hb, hml, hown, hts⟩ := X.1
  intro n
  induction n with
  | zero =>
    intro x4 x5 μ H locs ls hp
    exact hp.elim
  | succ n ih =>
    intro x4 x5 μ H locs ls hp hB hl
    unfold pJ1_indexOfChar_7 at hp
    refine lv_iload hx hb dJ1_indexOfChar_7 (lv_at hl 3 rfl) ?_
    refine lv_iload_n hx hb dJ1_indexOfChar_9 rfl (lv_at hl 1 rfl) ?_
    refine lv_icmp_ge (tgt := 31) hx hb dJ1_indexOfChar_10 rfl (fun c0 => ?_) (fun c0 => ?_)
    · have hp := zit hp c0
      refine lv_iconst (v := (-1 : Int32)) hx hb dJ1_indexOfChar_31 rfl ?_
      exact zret_i X hB hp dJ1_indexOfChar_32
    · have hp := zif hp c0
      refine lv_aload_n hx hb dJ1_indexOfChar_13 rfl (lv_at hl 0 rfl) ?_
      refine lv_iload hx hb dJ1_indexOfChar_14 (lv_at hl 3 rfl) ?_
      obtain ⟨hw, hi, hp⟩ := hp
      refine va_tb hx hb (hB.2.2.2.2.2.2.2.1.1.1 _ hw).2.2.2 hB.2.2.2.1 hi rfl dJ1_indexOfChar_16 ?_
      refine lv_iload hx hb dJ1_indexOfChar_17 (lv_at hl 2 rfl) ?_
      refine lv_icmp_ne (tgt := 25) hx hb dJ1_indexOfChar_19 rfl (fun c0 => ?_) (fun c0 => ?_)
      · have hp := zif hp c0
        refine lv_iinc (v := (x5 + (nI 1))) (lv' := [(5, .int (x5 + (nI 1))), (0, .ref (Γ.2.2.2 x0)), (3, .int x3), (4, .int x4)]) hx hb dJ1_indexOfChar_25 hl (k := 3) rfl rfl (by decide) rfl (fun ls hl => ?_)
        refine lv_goto (tgt := 7) hx hb dJ1_indexOfChar_28 rfl ?_
        exact ih x4 (x5 + (nI 1)) μ _ _ _ hp hB (lv_sub hl [1, 2, 3, 0] rfl)
      · have hp := zit hp c0
        refine lv_iload hx hb dJ1_indexOfChar_22 (lv_at hl 3 rfl) ?_
        exact zret_i X hB hp dJ1_indexOfChar_24
def pJ1_indexOfChar (x0 : Nat) (x1 : Int32) (x2 : Int32) (x3 : Int32) (μ : zM) (Q : Int32 → zM → Prop) : Prop := ∃ k1, pJ1_indexOfChar_7 x0 x3 Q k1 (x1.toInt8.toInt32) x2 μ
theorem hJ1_indexOfChar : yJ1_indexOfChar.cls ≠ "java/lang/invoke/MethodHandle" ∧ yJ1_indexOfChar.cls ≠ "java/lang/invoke/VarHandle" ∧ (parseMethodDescriptor yJ1_indexOfChar.desc).map (fun d => d.parameters.length) = some 4 := by decide +kernel
set_option maxHeartbeats 4000000 in
set_option maxRecDepth 100000 in
theorem mJ1_indexOfChar (l : Launch) (Γ : zG) (Sh : zSh) (x0 : Nat) (x1 : Int32) (x2 : Int32) (x3 : Int32) (μ : zM) (Q : Int32 → zM → Prop) (hp : pJ1_indexOfChar x0 x1 x2 x3 μ Q) : Met l yJ1_indexOfChar (ws_ yJ1_indexOfChar cJ1_indexOfChar 6 (some .int)) ({ frames := 0, cells := 0, slots := 0, locals := 0 } : Room) (va_Pc [.ref (Γ.2.2.2 x0), .int x1, .int x2, .int x3] (zPre Γ Sh μ)) (va_Qi Q (zPost Γ Sh μ) (zA μ)) 0 0 (zA μ) := by
  refine zstart (by decide) (Nat.le_of_ble_eq_true rfl) ?_
  intro p e s m below meth c ls X hnm hB hl
  have X : zCx p m c cJ1_indexOfChar 6 s [.ref (Γ.2.2.2 x0), .int x1, .int x2, .int x3].toArray RJ1 meth (some .int) := X
  have S := X.1
  obtain ⟨hx, hb, hml, hown, hts⟩ := X.1
  have hl : lv_has ls 6 [(0, .ref (Γ.2.2.2 x0)), (1, .int x1), (2, .int x2), (3, .int x3)] := hl
  unfold pJ1_indexOfChar at hp
  refine lv_iload_n hx hb dJ1_indexOfChar_0 rfl (lv_at hl 1 rfl) ?_
  refine lv_i2b hx hb dJ1_indexOfChar_1 rfl ?_
  refine lv_istore (lv' := [(4, .int (x1.toInt8.toInt32)), (0, .ref (Γ.2.2.2 x0)), (1, .int x1), (2, .int x2), (3, .int x3)]) hx hb dJ1_indexOfChar_2 hl (by decide) rfl (fun ls hl => ?_)
  refine lv_iload_n hx hb dJ1_indexOfChar_4 rfl (lv_at hl 3 rfl) ?_
  refine lv_istore (lv' := [(5, .int x2), (4, .int (x1.toInt8.toInt32)), (0, .ref (Γ.2.2.2 x0)), (1, .int x1), (2, .int x2), (3, .int x3)]) hx hb dJ1_indexOfChar_5 hl (by decide) rfl (fun ls hl => ?_)
  obtain ⟨n1, hp⟩ := hp
  exact wJ1_indexOfChar_7 X x0 x3 n1 (x1.toInt8.toInt32) x2 μ _ _ _ hp hB (lv_sub hl [2, 5, 1, 0] rfl)
def pJ1_indexOf (x0 : Nat) (x1 : Int32) (x2 : Int32) (x3 : Int32) (μ : zM) (Q : Int32 → zM → Prop) : Prop := (pJ1_canEncode x1 μ fun r2 μ1 => (if r2 = 0 then Q (-1 : Int32) μ1 else (x0 < zSn ∧ znm (if (nI (zSl.getD x0 0)) < x3 then (nI (zSl.getD x0 0)) else x3) fun v3 => (if (if x2 < (nI 0) then (nI 0) else x2) < v3 then (pJ1_indexOfChar x0 x1 (if x2 < (nI 0) then (nI 0) else x2) v3 μ1 fun r5 μ4 => Q r5 μ4) else Q (-1 : Int32) μ1))))
theorem hJ1_indexOf : yJ1_indexOf.cls ≠ "java/lang/invoke/MethodHandle" ∧ yJ1_indexOf.cls ≠ "java/lang/invoke/VarHandle" ∧ (parseMethodDescriptor yJ1_indexOf.desc).map (fun d => d.parameters.length) = some 4 := by decide +kernel
set_option maxHeartbeats 4000000 in
set_option maxRecDepth 100000 in
theorem mJ1_indexOf (l : Launch) (Γ : zG) (Sh : zSh) (x0 : Nat) (x1 : Int32) (x2 : Int32) (x3 : Int32) (μ : zM) (Q : Int32 → zM → Prop) (hp : pJ1_indexOf x0 x1 x2 x3 μ Q) : Met l yJ1_indexOf (ws_ yJ1_indexOf cJ1_indexOf 4 (some .int)) ({ frames := 1, cells := 0, slots := 0, locals := 25 } : Room) (va_Pc [.ref (Γ.2.2.2 x0), .int x1, .int x2, .int x3] (zPre Γ Sh μ)) (va_Qi Q (zPost Γ Sh μ) (zA μ)) 0 0 (zA μ) := by
  refine zstart (by decide) (Nat.le_of_ble_eq_true rfl) ?_
  intro p e s m below meth c ls X hnm hB hl
  have X : zCx p m c cJ1_indexOf 4 s [.ref (Γ.2.2.2 x0), .int x1, .int x2, .int x3].toArray RJ1 meth (some .int) := X
  have S := X.1
  obtain ⟨hx, hb, hml, hown, hts⟩ := X.1
  have hl : lv_has ls 4 [(0, .ref (Γ.2.2.2 x0)), (1, .int x1), (2, .int x2), (3, .int x3)] := hl
  unfold pJ1_indexOf at hp
  refine lv_iload_n hx hb dJ1_indexOf_0 rfl (lv_at hl 1 rfl) ?_
  refine z_calli (va_runS (As := [.int x1]) (rest := []) S (mJ1_canEncode l Γ Sh x1 μ _ hp) (va_cwS 1 hts (lw_S q517 q518 q135 q519) rfl rfl rfl hJ1_canEncode ⟨Nat.le_of_ble_eq_true rfl, Nat.le_of_ble_eq_true rfl⟩) hB.preS rfl rfl hl.1 rfl (lv_room (Nat.le_of_ble_eq_true rfl)) dJ1_indexOf_1 ⟨Nat.le_refl _, Nat.le_refl _⟩) hB (fun r2 μ1 H locs hp hB => ?_)
  refine lv_if_ne (tgt := 9) hx hb dJ1_indexOf_4 rfl (fun c0 => ?_) (fun c0 => ?_)
  · have hp := zif hp c0
    refine lv_iload_n hx hb dJ1_indexOf_9 rfl (lv_at hl 2 rfl) ?_
    refine lv_iconst (v := (nI 0)) hx hb dJ1_indexOf_10 rfl ?_
    refine va_mmax hx hb (hml.trans hl.1.symm) hown (hts _ q520) (hts _ q521) (hts _ q136) (hts _ q522) (Nat.le_of_ble_eq_true rfl) (Nat.le_of_ble_eq_true rfl) (Nat.le_refl _) (Nat.le_refl _) dJ1_indexOf_11 ?_
    refine lv_istore_n (lv' := [(2, .int (if x2 < (nI 0) then (nI 0) else x2)), (0, .ref (Γ.2.2.2 x0)), (1, .int x1), (3, .int x3)]) hx hb dJ1_indexOf_14 rfl hl (by decide) rfl (fun ls hl => ?_)
    refine lv_iload_n hx hb dJ1_indexOf_15 rfl (lv_at hl 3 rfl) ?_
    refine lv_aload_n hx hb dJ1_indexOf_16 rfl (lv_at hl 1 rfl) ?_
    obtain ⟨hw, hp⟩ := hp
    refine va_tlen hx hb (hB.2.2.2.2.2.2.2.1.1.1 _ hw).2.2.2 hB.2.2.2.1 (v := nI (zSl.getD x0 0)) rfl dJ1_indexOf_17 ?_
    refine va_mmin hx hb (hml.trans hl.1.symm) hown (hts _ q523) (hts _ q524) (hts _ q136) (hts _ q525) (Nat.le_of_ble_eq_true rfl) (Nat.le_of_ble_eq_true rfl) (Nat.le_refl _) (Nat.le_refl _) dJ1_indexOf_18 ?_
    obtain ⟨v3, ev3, hp⟩ := znm_e hp
    rw [← ev3]
    refine lv_istore_n (lv' := [(3, .int v3), (2, .int (if x2 < (nI 0) then (nI 0) else x2)), (0, .ref (Γ.2.2.2 x0)), (1, .int x1)]) hx hb dJ1_indexOf_21 rfl hl (by decide) rfl (fun ls hl => ?_)
    refine lv_iload_n hx hb dJ1_indexOf_22 rfl (lv_at hl 1 rfl) ?_
    refine lv_iload_n hx hb dJ1_indexOf_23 rfl (lv_at hl 0 rfl) ?_
    refine lv_icmp_lt (tgt := 29) hx hb dJ1_indexOf_24 rfl (fun c0 => ?_) (fun c0 => ?_)
    · have hp := zit hp c0
      refine lv_aload_n hx hb dJ1_indexOf_29 rfl (lv_at hl 2 rfl) ?_
      refine lv_iload_n hx hb dJ1_indexOf_30 rfl (lv_at hl 3 rfl) ?_
      refine lv_iload_n hx hb dJ1_indexOf_31 rfl (lv_at hl 1 rfl) ?_
      refine lv_iload_n hx hb dJ1_indexOf_32 rfl (lv_at hl 0 rfl) ?_
      refine z_calli (va_runS (As := [.ref (Γ.2.2.2 x0), .int x1, .int (if x2 < (nI 0) then (nI 0) else x2), .int v3]) (rest := []) S (mJ1_indexOfChar l Γ Sh x0 x1 (if x2 < (nI 0) then (nI 0) else x2) v3 μ1 _ hp) (va_cwS 4 hts (lw_S q526 q527 q135 q528) rfl rfl rfl hJ1_indexOfChar ⟨Nat.le_of_ble_eq_true rfl, Nat.le_of_ble_eq_true rfl⟩) hB.preS rfl rfl hl.1 rfl (lv_room (Nat.le_of_ble_eq_true rfl)) dJ1_indexOf_33 ⟨Nat.le_refl _, Nat.le_refl _⟩) hB (fun r5 μ4 H locs hp hB => ?_)
      exact zret_i X hB hp dJ1_indexOf_36
    · have hp := zif hp c0
      refine lv_iconst (v := (-1 : Int32)) hx hb dJ1_indexOf_27 rfl ?_
      exact zret_i X hB hp dJ1_indexOf_28
  · have hp := zit hp c0
    refine lv_iconst (v := (-1 : Int32)) hx hb dJ1_indexOf_7 rfl ?_
    exact zret_i X hB hp dJ1_indexOf_8
def pJ0_indexOf_2 (w : Nat) (x1 : Int32) (x2 : Int32) (μ : zM) (Q : Int32 → zM → Prop) : Prop := (w < zSn ∧ (pJ0_isLatin1 w μ fun r2 μ1 => (if r2 = 0 then (w < zSn ∧ (w < zSn ∧ (pJ0_length w μ1 fun r4 μ3 => False))) else (w < zSn ∧ (w < zSn ∧ (pJ0_length w μ1 fun r6 μ5 => (pJ1_indexOf w x1 x2 r6 μ5 fun r8 μ7 => Q r8 μ7)))))))
theorem hJ0_indexOf_2 : yJ0_indexOf_2.cls = "java/lang/String" ∧ yJ0_indexOf_2.cls ≠ "java/lang/invoke/MethodHandle" ∧ yJ0_indexOf_2.cls ≠ "java/lang/invoke/VarHandle" ∧ (parseMethodDescriptor yJ0_indexOf_2.desc).map (fun d => d.parameters.length) = some 2 := by decide +kernel
set_option maxHeartbeats 4000000 in
set_option maxRecDepth 100000 in
theorem mJ0_indexOf_2 (l : Launch) (Γ : zG) (Sh : zSh) (w : Nat) (x1 : Int32) (x2 : Int32) (μ : zM) (Q : Int32 → zM → Prop) (hp : pJ0_indexOf_2 w x1 x2 μ Q) : Met l yJ0_indexOf_2 (ws_ yJ0_indexOf_2 cJ0_indexOf_2 3 (some .int)) ({ frames := 2, cells := 0, slots := 0, locals := 48 } : Room) (va_Pc [.ref (Γ.2.2.1 w), .int x1, .int x2] (zPre Γ Sh μ)) (va_Qi Q (zPost Γ Sh μ) (zA μ)) 0 0 (zA μ) := by
  refine zstart (by decide) (Nat.le_of_ble_eq_true rfl) ?_
  intro p e s m below meth c ls X hnm hB hl
  have X : zCx p m c cJ0_indexOf_2 3 s [.ref (Γ.2.2.1 w), .int x1, .int x2].toArray RJ0 meth (some .int) := X
  have S := X.1
  obtain ⟨hx, hb, hml, hown, hts⟩ := X.1
  have hl : lv_has ls 3 [(0, .ref (Γ.2.2.1 w)), (1, .int x1), (2, .int x2)] := hl
  unfold pJ0_indexOf_2 at hp
  refine lv_aload_n hx hb dJ0_indexOf_2_0 rfl (lv_at hl 0 rfl) ?_
  obtain ⟨hw0, hp⟩ := hp
  refine z_calli (va_runV (As := []) (rest := []) S (mJ0_isLatin1 l Γ Sh w μ _ hp) (cwV 0 hts (lw_V q500 q501 q502 q134 q503) rfl rfl rfl hJ0_isLatin1 ⟨Nat.le_of_ble_eq_true rfl, Nat.le_of_ble_eq_true rfl⟩) (hB.preStr hw0) rfl rfl hl.1 rfl (lv_room (Nat.le_of_ble_eq_true rfl)) dJ0_indexOf_2_1 ⟨Nat.le_refl _, Nat.le_refl _⟩) hB (fun r2 μ1 H locs hp hB => ?_)
  refine lv_if_eq (tgt := 23) hx hb dJ0_indexOf_2_4 rfl (fun c0 => ?_) (fun c0 => ?_)
  · have hp := zit hp c0
    refine lv_aload_n hx hb dJ0_indexOf_2_23 rfl (lv_at hl 0 rfl) ?_
    obtain ⟨hw, hp⟩ := hp
    refine vk_getf hx hb (hB.2.2.2.2.2.2.2.1.1.1 _ hw).2.2.1 hB.2.2.2.1 hown (hts _ q2035) (fun _ h9 => h9) dJ0_indexOf_2_24 ?_
    refine lv_iload_n hx hb dJ0_indexOf_2_27 rfl (lv_at hl 1 rfl) ?_
    refine lv_iload_n hx hb dJ0_indexOf_2_28 rfl (lv_at hl 2 rfl) ?_
    refine lv_aload_n hx hb dJ0_indexOf_2_29 rfl (lv_at hl 0 rfl) ?_
    obtain ⟨hw0, hp⟩ := hp
    refine z_calli (va_runV (As := []) (rest := [.int x2, .int x1, .ref (Γ.2.2.2 w)]) S (mJ0_length l Γ Sh w μ1 _ hp) (cwV 0 hts (lw_V q506 q507 q508 q134 q509) rfl rfl rfl hJ0_length ⟨Nat.le_of_ble_eq_true rfl, Nat.le_of_ble_eq_true rfl⟩) (hB.preStr hw0) rfl rfl hl.1 rfl (lv_room (Nat.le_of_ble_eq_true rfl)) dJ0_indexOf_2_30 ⟨Nat.le_refl _, Nat.le_refl _⟩) hB (fun r4 μ3 H locs hp hB => ?_)
    exact hp.elim
  · have hp := zif hp c0
    refine lv_aload_n hx hb dJ0_indexOf_2_7 rfl (lv_at hl 0 rfl) ?_
    obtain ⟨hw, hp⟩ := hp
    refine vk_getf hx hb (hB.2.2.2.2.2.2.2.1.1.1 _ hw).2.2.1 hB.2.2.2.1 hown (hts _ q2035) (fun _ h9 => h9) dJ0_indexOf_2_8 ?_
    refine lv_iload_n hx hb dJ0_indexOf_2_11 rfl (lv_at hl 1 rfl) ?_
    refine lv_iload_n hx hb dJ0_indexOf_2_12 rfl (lv_at hl 2 rfl) ?_
    refine lv_aload_n hx hb dJ0_indexOf_2_13 rfl (lv_at hl 0 rfl) ?_
    obtain ⟨hw0, hp⟩ := hp
    refine z_calli (va_runV (As := []) (rest := [.int x2, .int x1, .ref (Γ.2.2.2 w)]) S (mJ0_length l Γ Sh w μ1 _ hp) (cwV 0 hts (lw_V q506 q507 q508 q134 q509) rfl rfl rfl hJ0_length ⟨Nat.le_of_ble_eq_true rfl, Nat.le_of_ble_eq_true rfl⟩) (hB.preStr hw0) rfl rfl hl.1 rfl (lv_room (Nat.le_of_ble_eq_true rfl)) dJ0_indexOf_2_14 ⟨Nat.le_refl _, Nat.le_refl _⟩) hB (fun r6 μ5 H locs hp hB => ?_)
    refine z_calli (va_runS (As := [.ref (Γ.2.2.2 w), .int x1, .int x2, .int r6]) (rest := []) S (mJ1_indexOf l Γ Sh w x1 x2 r6 μ5 _ hp) (va_cwS 4 hts (lw_S q514 q515 q135 q516) rfl rfl rfl hJ1_indexOf ⟨Nat.le_of_ble_eq_true rfl, Nat.le_of_ble_eq_true rfl⟩) hB.preS rfl rfl hl.1 rfl (lv_room (Nat.le_of_ble_eq_true rfl)) dJ0_indexOf_2_17 ⟨Nat.le_refl _, Nat.le_refl _⟩) hB (fun r8 μ7 H locs hp hB => ?_)
    refine lv_goto (tgt := 36) hx hb dJ0_indexOf_2_20 rfl ?_
    exact zret_i X hB hp dJ0_indexOf_2_36
def pJ0_indexOf (w : Nat) (x1 : Int32) (μ : zM) (Q : Int32 → zM → Prop) : Prop := (w < zSn ∧ (pJ0_indexOf_2 w x1 (nI 0) μ fun r2 μ1 => Q r2 μ1))
theorem hJ0_indexOf : yJ0_indexOf.cls = "java/lang/String" ∧ yJ0_indexOf.cls ≠ "java/lang/invoke/MethodHandle" ∧ yJ0_indexOf.cls ≠ "java/lang/invoke/VarHandle" ∧ (parseMethodDescriptor yJ0_indexOf.desc).map (fun d => d.parameters.length) = some 1 := by decide +kernel
set_option maxHeartbeats 4000000 in
set_option maxRecDepth 100000 in
theorem mJ0_indexOf (l : Launch) (Γ : zG) (Sh : zSh) (w : Nat) (x1 : Int32) (μ : zM) (Q : Int32 → zM → Prop) (hp : pJ0_indexOf w x1 μ Q) : Met l yJ0_indexOf (ws_ yJ0_indexOf cJ0_indexOf 2 (some .int)) ({ frames := 3, cells := 0, slots := 0, locals := 70 } : Room) (va_Pc [.ref (Γ.2.2.1 w), .int x1] (zPre Γ Sh μ)) (va_Qi Q (zPost Γ Sh μ) (zA μ)) 0 0 (zA μ) := by
  refine zstart (by decide) (Nat.le_of_ble_eq_true rfl) ?_
  intro p e s m below meth c ls X hnm hB hl
  have X : zCx p m c cJ0_indexOf 2 s [.ref (Γ.2.2.1 w), .int x1].toArray RJ0 meth (some .int) := X
  have S := X.1
  obtain ⟨hx, hb, hml, hown, hts⟩ := X.1
  have hl : lv_has ls 2 [(0, .ref (Γ.2.2.1 w)), (1, .int x1)] := hl
  unfold pJ0_indexOf at hp
  refine lv_aload_n hx hb dJ0_indexOf_0 rfl (lv_at hl 0 rfl) ?_
  refine lv_iload_n hx hb dJ0_indexOf_1 rfl (lv_at hl 1 rfl) ?_
  refine lv_iconst (v := (nI 0)) hx hb dJ0_indexOf_2 rfl ?_
  obtain ⟨hw0, hp⟩ := hp
  refine z_calli (va_runV (As := [.int x1, .int (nI 0)]) (rest := []) S (mJ0_indexOf_2 l Γ Sh w x1 (nI 0) μ _ hp) (cwV 2 hts (lw_V q496 q497 q498 q134 q499) rfl rfl rfl hJ0_indexOf_2 ⟨Nat.le_of_ble_eq_true rfl, Nat.le_of_ble_eq_true rfl⟩) (hB.preStr hw0) rfl rfl hl.1 rfl (lv_room (Nat.le_of_ble_eq_true rfl)) dJ0_indexOf_3 ⟨Nat.le_refl _, Nat.le_refl _⟩) hB (fun r2 μ1 H locs hp hB => ?_)
  exact zret_i X hB hp dJ0_indexOf_6
def pJ6_bitCount (x0 : Int32) (μ : zM) (Q : Int32 → zM → Prop) : Prop := znm (x0 - (((x0.toUInt32 >>> ((nI 1).toUInt32 &&& Int32.toUInt32 31)).toInt32) &&& (nI 1431655765))) fun v1 => znm ((v1 &&& (nI 858993459)) + (((v1.toUInt32 >>> ((nI 2).toUInt32 &&& Int32.toUInt32 31)).toInt32) &&& (nI 858993459))) fun v2 => znm ((v2 + ((v2.toUInt32 >>> ((nI 4).toUInt32 &&& Int32.toUInt32 31)).toInt32)) &&& (nI 252645135)) fun v3 => znm (v3 + ((v3.toUInt32 >>> ((nI 8).toUInt32 &&& Int32.toUInt32 31)).toInt32)) fun v4 => znm (v4 + ((v4.toUInt32 >>> ((nI 16).toUInt32 &&& Int32.toUInt32 31)).toInt32)) fun v5 => Q (v5 &&& (nI 63)) μ
theorem hJ6_bitCount : yJ6_bitCount.cls ≠ "java/lang/invoke/MethodHandle" ∧ yJ6_bitCount.cls ≠ "java/lang/invoke/VarHandle" ∧ (parseMethodDescriptor yJ6_bitCount.desc).map (fun d => d.parameters.length) = some 1 := by decide +kernel
set_option maxHeartbeats 4000000 in
set_option maxRecDepth 100000 in
theorem mJ6_bitCount (l : Launch) (Γ : zG) (Sh : zSh) (x0 : Int32) (μ : zM) (Q : Int32 → zM → Prop) (hp : pJ6_bitCount x0 μ Q) : Met l yJ6_bitCount (ws_ yJ6_bitCount cJ6_bitCount 1 (some .int)) ({ frames := 0, cells := 0, slots := 0, locals := 0 } : Room) (va_Pc [.int x0] (zPre Γ Sh μ)) (va_Qi Q (zPost Γ Sh μ) (zA μ)) 0 0 (zA μ) := by
  refine zstart (by decide) (Nat.le_of_ble_eq_true rfl) ?_
  intro p e s m below meth c ls X hnm hB hl
  have X : zCx p m c cJ6_bitCount 1 s [.int x0].toArray RJ6 meth (some .int) := X
  have S := X.1
  obtain ⟨hx, hb, hml, hown, hts⟩ := X.1
  have hl : lv_has ls 1 [(0, .int x0)] := hl
  unfold pJ6_bitCount at hp
  refine lv_iload_n hx hb dJ6_bitCount_0 rfl (lv_at hl 0 rfl) ?_
  refine lv_iload_n hx hb dJ6_bitCount_1 rfl (lv_at hl 0 rfl) ?_
  refine lv_iconst (v := (nI 1)) hx hb dJ6_bitCount_2 rfl ?_
  refine lv_iushr hx hb dJ6_bitCount_3 rfl ?_
  refine lv_ldcw (v := (nI 1431655765)) hx hb hown (hts _ q935) dJ6_bitCount_4 ?_
  refine lv_iand hx hb dJ6_bitCount_7 ?_
  refine lv_isub hx hb dJ6_bitCount_8 ?_
  obtain ⟨v1, ev1, hp⟩ := znm_e hp
  rw [← ev1]
  refine lv_istore_n (lv' := [(0, .int v1)]) hx hb dJ6_bitCount_9 rfl hl (by decide) rfl (fun ls hl => ?_)
  refine lv_iload_n hx hb dJ6_bitCount_10 rfl (lv_at hl 0 rfl) ?_
  refine lv_ldcw (v := (nI 858993459)) hx hb hown (hts _ q936) dJ6_bitCount_11 ?_
  refine lv_iand hx hb dJ6_bitCount_14 ?_
  refine lv_iload_n hx hb dJ6_bitCount_15 rfl (lv_at hl 0 rfl) ?_
  refine lv_iconst (v := (nI 2)) hx hb dJ6_bitCount_16 rfl ?_
  refine lv_iushr hx hb dJ6_bitCount_17 rfl ?_
  refine lv_ldcw (v := (nI 858993459)) hx hb hown (hts _ q936) dJ6_bitCount_18 ?_
  refine lv_iand hx hb dJ6_bitCount_21 ?_
  refine lv_iadd hx hb dJ6_bitCount_22 ?_
  obtain ⟨v2, ev2, hp⟩ := znm_e hp
  rw [← ev2]
  refine lv_istore_n (lv' := [(0, .int v2)]) hx hb dJ6_bitCount_23 rfl hl (by decide) rfl (fun ls hl => ?_)
  refine lv_iload_n hx hb dJ6_bitCount_24 rfl (lv_at hl 0 rfl) ?_
  refine lv_iload_n hx hb dJ6_bitCount_25 rfl (lv_at hl 0 rfl) ?_
  refine lv_iconst (v := (nI 4)) hx hb dJ6_bitCount_26 rfl ?_
  refine lv_iushr hx hb dJ6_bitCount_27 rfl ?_
  refine lv_iadd hx hb dJ6_bitCount_28 ?_
  refine lv_ldcw (v := (nI 252645135)) hx hb hown (hts _ q937) dJ6_bitCount_29 ?_
  refine lv_iand hx hb dJ6_bitCount_32 ?_
  obtain ⟨v3, ev3, hp⟩ := znm_e hp
  rw [← ev3]
  refine lv_istore_n (lv' := [(0, .int v3)]) hx hb dJ6_bitCount_33 rfl hl (by decide) rfl (fun ls hl => ?_)
  refine lv_iload_n hx hb dJ6_bitCount_34 rfl (lv_at hl 0 rfl) ?_
  refine lv_iload_n hx hb dJ6_bitCount_35 rfl (lv_at hl 0 rfl) ?_
  refine lv_bipush (v := (nI 8)) hx hb dJ6_bitCount_36 rfl ?_
  refine lv_iushr hx hb dJ6_bitCount_38 rfl ?_
  refine lv_iadd hx hb dJ6_bitCount_39 ?_
  obtain ⟨v4, ev4, hp⟩ := znm_e hp
  rw [← ev4]
  refine lv_istore_n (lv' := [(0, .int v4)]) hx hb dJ6_bitCount_40 rfl hl (by decide) rfl (fun ls hl => ?_)
  refine lv_iload_n hx hb dJ6_bitCount_41 rfl (lv_at hl 0 rfl) ?_
  refine lv_iload_n hx hb dJ6_bitCount_42 rfl (lv_at hl 0 rfl) ?_
  refine lv_bipush (v := (nI 16)) hx hb dJ6_bitCount_43 rfl ?_
  refine lv_iushr hx hb dJ6_bitCount_45 rfl ?_
  refine lv_iadd hx hb dJ6_bitCount_46 ?_
  obtain ⟨v5, ev5, hp⟩ := znm_e hp
  rw [← ev5]
  refine lv_istore_n (lv' := [(0, .int v5)]) hx hb dJ6_bitCount_47 rfl hl (by decide) rfl (fun ls hl => ?_)
  refine lv_iload_n hx hb dJ6_bitCount_48 rfl (lv_at hl 0 rfl) ?_
  refine lv_bipush (v := (nI 63)) hx hb dJ6_bitCount_49 rfl ?_
  refine lv_iand hx hb dJ6_bitCount_51 ?_
  exact zret_i X hB hp dJ6_bitCount_52
def pJ2_floorDiv (x0 : Int32) (x1 : Int32) (μ : zM) (Q : Int32 → zM → Prop) : Prop := (¬ x1 = 0 ∧ (if 0 ≤ (x0 ^^^ x1) then Q (x0 / x1) μ else (if ((x0 / x1) * x1) = x0 then Q (x0 / x1) μ else Q ((x0 / x1) - (nI 1)) μ)))
theorem hJ2_floorDiv : yJ2_floorDiv.cls ≠ "java/lang/invoke/MethodHandle" ∧ yJ2_floorDiv.cls ≠ "java/lang/invoke/VarHandle" ∧ (parseMethodDescriptor yJ2_floorDiv.desc).map (fun d => d.parameters.length) = some 2 := by decide +kernel
set_option maxHeartbeats 4000000 in
set_option maxRecDepth 100000 in
theorem mJ2_floorDiv (l : Launch) (Γ : zG) (Sh : zSh) (x0 : Int32) (x1 : Int32) (μ : zM) (Q : Int32 → zM → Prop) (hp : pJ2_floorDiv x0 x1 μ Q) : Met l yJ2_floorDiv (ws_ yJ2_floorDiv cJ2_floorDiv 3 (some .int)) ({ frames := 0, cells := 0, slots := 0, locals := 0 } : Room) (va_Pc [.int x0, .int x1] (zPre Γ Sh μ)) (va_Qi Q (zPost Γ Sh μ) (zA μ)) 0 0 (zA μ) := by
  refine zstartF (by decide +kernel) (Nat.le_of_ble_eq_true rfl) ?_
  intro p e s m below meth c ls X hnm hB hl
  have X : zCx p m c cJ2_floorDiv 3 s [.int x0, .int x1].toArray RJ2 meth (some .int) := X
  have S := X.1
  obtain ⟨hx, hb, hml, hown, hts⟩ := X.1
  have hl : lv_has ls 3 [(0, .int x0), (1, .int x1)] := hl
  unfold pJ2_floorDiv at hp
  refine lv_iload_n hx hb dJ2_floorDiv_0 rfl (lv_at hl 0 rfl) ?_
  refine lv_iload_n hx hb dJ2_floorDiv_1 rfl (lv_at hl 1 rfl) ?_
  obtain ⟨g0, hp⟩ := hp
  refine lv_idiv hx hb dJ2_floorDiv_2 g0 ?_
  refine lv_istore_n (lv' := [(2, .int (x0 / x1)), (0, .int x0), (1, .int x1)]) hx hb dJ2_floorDiv_3 rfl hl (by decide) rfl (fun ls hl => ?_)
  refine lv_iload_n hx hb dJ2_floorDiv_4 rfl (lv_at hl 1 rfl) ?_
  refine lv_iload_n hx hb dJ2_floorDiv_5 rfl (lv_at hl 2 rfl) ?_
  refine lv_ixor hx hb dJ2_floorDiv_6 ?_
  refine lv_if_ge (tgt := 21) hx hb dJ2_floorDiv_7 rfl (fun c0 => ?_) (fun c0 => ?_)
  · have hp := zit hp c0
    refine lv_iload_n hx hb dJ2_floorDiv_21 rfl (lv_at hl 0 rfl) ?_
    exact zret_i X hB hp dJ2_floorDiv_22
  · have hp := zif hp c0
    refine lv_iload_n hx hb dJ2_floorDiv_10 rfl (lv_at hl 0 rfl) ?_
    refine lv_iload_n hx hb dJ2_floorDiv_11 rfl (lv_at hl 2 rfl) ?_
    refine lv_imul hx hb dJ2_floorDiv_12 ?_
    refine lv_iload_n hx hb dJ2_floorDiv_13 rfl (lv_at hl 1 rfl) ?_
    refine lv_icmp_eq (tgt := 21) hx hb dJ2_floorDiv_14 rfl (fun c0 => ?_) (fun c0 => ?_)
    · have hp := zit hp c0
      refine lv_iload_n hx hb dJ2_floorDiv_21 rfl (lv_at hl 0 rfl) ?_
      exact zret_i X hB hp dJ2_floorDiv_22
    · have hp := zif hp c0
      refine lv_iload_n hx hb dJ2_floorDiv_17 rfl (lv_at hl 0 rfl) ?_
      refine lv_iconst (v := (nI 1)) hx hb dJ2_floorDiv_18 rfl ?_
      refine lv_isub hx hb dJ2_floorDiv_19 ?_
      exact zret_i X hB hp dJ2_floorDiv_20
