def pX4_plain_36 (th : Nat) (x0 : Nat) (Q : zM → Prop) : Nat → Int32 → zM → Prop
  | 0, _, _ => False
  | n + 1, x1, μ => (if (nI 6) ≤ x1 then Q μ else (zia μ x0 0 ((nI 35) + x1) ∧ zpI μ x0 ((nI 35) + x1).toNatClampNeg (-1 : Int32) fun μ1 => (zia μ1 x0 0 ((nI 58) + x1) ∧ zpI μ1 x0 ((nI 58) + x1).toNatClampNeg (-1 : Int32) fun μ2 => pX4_plain_36 th x0 Q n (x1 + (nI 1)) μ2)))
set_option maxHeartbeats 4000000 in
set_option maxRecDepth 100000 in
theorem wX4_plain_36 {p : Program} {l : Launch} {e : Env} {s : State} {m : MethodId} {args : Array Value} {below : List Frame} {meth : Method} {c : Code} {Γ : zG} {μ0 : zM} {Q : zM → Prop} (X : zCx p m c cX4_plain 2 s args RX4 meth none) (th : Nat) (x0 : Nat) : ∀ (n : Nat) (x1 : Int32) (μ : zM) (H : Heap) (locs : List Loc) (ls : Array Slot), pX4_plain_36 th x0 Q n x1 μ → zB Γ (tSh th) (zA μ0) μ0 s μ H locs → lv_has ls 2 [(0, .ref x0), (1, .int x1)] → W p l e ({ frames := 0, cells := 0, slots := 0, locals := 0 } : Room) s m args below meth c H locs 0 0 (MQ below (va_Qv Q (zPost Γ (tSh th) μ0) (zA μ0)) args s 0 0 (zA μ0)) (F0 m 36 ls []) := by
  have S := X.1
  obtain ⟨hx, hb, hml, hown, hts⟩ := X.1
  intro n
  induction n with
  | zero =>
    intro x1 μ H locs ls hp
    exact hp.elim
  | succ n ih =>
    intro x1 μ H locs ls hp hB hl
    unfold pX4_plain_36 at hp
    refine lv_iload_n hx hb dX4_plain_36 rfl (lv_at hl 1 rfl) ?_
    refine lv_bipush (v := (nI 6)) hx hb dX4_plain_37 rfl ?_
    refine lv_icmp_ge (tgt := 62) hx hb dX4_plain_39 rfl (fun c0 => ?_) (fun c0 => ?_)
    · have hp := zit hp c0
      exact zret_v X hB hp dX4_plain_62
    · have hp := zif hp c0
      refine lv_aload_n hx hb dX4_plain_42 rfl (lv_at hl 0 rfl) ?_
      refine lv_bipush (v := (nI 35)) hx hb dX4_plain_43 rfl ?_
      refine lv_iload_n hx hb dX4_plain_45 rfl (lv_at hl 1 rfl) ?_
      refine lv_iadd hx hb dX4_plain_46 ?_
      refine lv_iconst (v := (-1 : Int32)) hx hb dX4_plain_47 rfl ?_
      obtain ⟨⟨_, ht, hi⟩, hp⟩ := hp
      obtain ⟨μ1, eμ1, hp⟩ := zpI_e hp
      refine g_iast S hB ht hi dX4_plain_48 (fun H locs hB => ?_)
      rw [← eμ1] at hB
      refine lv_aload_n hx hb dX4_plain_49 rfl (lv_at hl 0 rfl) ?_
      refine lv_bipush (v := (nI 58)) hx hb dX4_plain_50 rfl ?_
      refine lv_iload_n hx hb dX4_plain_52 rfl (lv_at hl 1 rfl) ?_
      refine lv_iadd hx hb dX4_plain_53 ?_
      refine lv_iconst (v := (-1 : Int32)) hx hb dX4_plain_54 rfl ?_
      obtain ⟨⟨_, ht, hi⟩, hp⟩ := hp
      obtain ⟨μ2, eμ2, hp⟩ := zpI_e hp
      refine g_iast S hB ht hi dX4_plain_55 (fun H locs hB => ?_)
      rw [← eμ2] at hB
      refine lv_iinc (v := (x1 + (nI 1))) (lv' := [(1, .int (x1 + (nI 1))), (0, .ref x0)]) hx hb dX4_plain_56 hl (k := 1) rfl rfl (by decide) rfl (fun ls hl => ?_)
      refine lv_goto (tgt := 36) hx hb dX4_plain_59 rfl ?_
      exact ih (x1 + (nI 1)) μ2 _ _ _ hp hB (lv_sub hl [1, 0] rfl)
def pX4_plain_2 (th : Nat) (x0 : Nat) (Q : zM → Prop) : Nat → Int32 → zM → Prop
  | 0, _, _ => False
  | n + 1, x1, μ => (if (nI 1198) ≤ x1 then (zia μ x0 0 (nI 2) ∧ zpI μ x0 (nI 2).toNatClampNeg (nI 100) fun μ1 => (zia μ1 x0 0 (nI 3) ∧ zpI μ1 x0 (nI 3).toNatClampNeg (nI 50) fun μ2 => (zia μ2 x0 0 (nI 4) ∧ zpI μ2 x0 (nI 4).toNatClampNeg (nI 10) fun μ3 => ∃ k1, pX4_plain_36 th x0 Q k1 (nI 0) μ3))) else (zia μ x0 0 x1 ∧ zpI μ x0 x1.toNatClampNeg (nI 0) fun μ4 => pX4_plain_2 th x0 Q n (x1 + (nI 1)) μ4))
set_option maxHeartbeats 4000000 in
set_option maxRecDepth 100000 in
theorem wX4_plain_2 {p : Program} {l : Launch} {e : Env} {s : State} {m : MethodId} {args : Array Value} {below : List Frame} {meth : Method} {c : Code} {Γ : zG} {μ0 : zM} {Q : zM → Prop} (X : zCx p m c cX4_plain 2 s args RX4 meth none) (th : Nat) (x0 : Nat) : ∀ (n : Nat) (x1 : Int32) (μ : zM) (H : Heap) (locs : List Loc) (ls : Array Slot), pX4_plain_2 th x0 Q n x1 μ → zB Γ (tSh th) (zA μ0) μ0 s μ H locs → lv_has ls 2 [(0, .ref x0), (1, .int x1)] → W p l e ({ frames := 0, cells := 0, slots := 0, locals := 0 } : Room) s m args below meth c H locs 0 0 (MQ below (va_Qv Q (zPost Γ (tSh th) μ0) (zA μ0)) args s 0 0 (zA μ0)) (F0 m 2 ls []) := by
  have S := X.1
  obtain ⟨hx, hb, hml, hown, hts⟩ := X.1
  intro n
  induction n with
  | zero =>
    intro x1 μ H locs ls hp
    exact hp.elim
  | succ n ih =>
    intro x1 μ H locs ls hp hB hl
    unfold pX4_plain_2 at hp
    refine lv_iload_n hx hb dX4_plain_2 rfl (lv_at hl 1 rfl) ?_
    refine lv_sipush (v := (nI 1198)) hx hb dX4_plain_3 rfl ?_
    refine lv_icmp_ge (tgt := 19) hx hb dX4_plain_6 rfl (fun c0 => ?_) (fun c0 => ?_)
    · have hp := zit hp c0
      refine lv_aload_n hx hb dX4_plain_19 rfl (lv_at hl 0 rfl) ?_
      refine lv_iconst (v := (nI 2)) hx hb dX4_plain_20 rfl ?_
      refine lv_bipush (v := (nI 100)) hx hb dX4_plain_21 rfl ?_
      obtain ⟨⟨_, ht, hi⟩, hp⟩ := hp
      obtain ⟨μ1, eμ1, hp⟩ := zpI_e hp
      refine g_iast S hB ht hi dX4_plain_23 (fun H locs hB => ?_)
      rw [← eμ1] at hB
      refine lv_aload_n hx hb dX4_plain_24 rfl (lv_at hl 0 rfl) ?_
      refine lv_iconst (v := (nI 3)) hx hb dX4_plain_25 rfl ?_
      refine lv_bipush (v := (nI 50)) hx hb dX4_plain_26 rfl ?_
      obtain ⟨⟨_, ht, hi⟩, hp⟩ := hp
      obtain ⟨μ2, eμ2, hp⟩ := zpI_e hp
      refine g_iast S hB ht hi dX4_plain_28 (fun H locs hB => ?_)
      rw [← eμ2] at hB
      refine lv_aload_n hx hb dX4_plain_29 rfl (lv_at hl 0 rfl) ?_
      refine lv_iconst (v := (nI 4)) hx hb dX4_plain_30 rfl ?_
      refine lv_bipush (v := (nI 10)) hx hb dX4_plain_31 rfl ?_
      obtain ⟨⟨_, ht, hi⟩, hp⟩ := hp
      obtain ⟨μ3, eμ3, hp⟩ := zpI_e hp
      refine g_iast S hB ht hi dX4_plain_33 (fun H locs hB => ?_)
      rw [← eμ3] at hB
      refine lv_iconst (v := (nI 0)) hx hb dX4_plain_34 rfl ?_
      refine lv_istore_n (lv' := [(1, .int (nI 0)), (0, .ref x0)]) hx hb dX4_plain_35 rfl hl (by decide) rfl (fun ls hl => ?_)
      obtain ⟨n1, hp⟩ := hp
      exact wX4_plain_36 X th x0 n1 (nI 0) μ3 _ _ _ hp hB (lv_sub hl [1, 0] rfl)
    · have hp := zif hp c0
      refine lv_aload_n hx hb dX4_plain_9 rfl (lv_at hl 0 rfl) ?_
      refine lv_iload_n hx hb dX4_plain_10 rfl (lv_at hl 1 rfl) ?_
      refine lv_iconst (v := (nI 0)) hx hb dX4_plain_11 rfl ?_
      obtain ⟨⟨_, ht, hi⟩, hp⟩ := hp
      obtain ⟨μ4, eμ4, hp⟩ := zpI_e hp
      refine g_iast S hB ht hi dX4_plain_12 (fun H locs hB => ?_)
      rw [← eμ4] at hB
      refine lv_iinc (v := (x1 + (nI 1))) (lv' := [(1, .int (x1 + (nI 1))), (0, .ref x0)]) hx hb dX4_plain_13 hl (k := 1) rfl rfl (by decide) rfl (fun ls hl => ?_)
      refine lv_goto (tgt := 2) hx hb dX4_plain_16 rfl ?_
      exact ih (x1 + (nI 1)) μ4 _ _ _ hp hB (lv_sub hl [1, 0] rfl)
def pX4_plain (th : Nat) (x0 : Nat) (μ : zM) (Q : zM → Prop) : Prop := ∃ k1, pX4_plain_2 th x0 Q k1 (nI 0) μ
theorem hX4_plain : yX4_plain.cls ≠ "java/lang/invoke/MethodHandle" ∧ yX4_plain.cls ≠ "java/lang/invoke/VarHandle" ∧ (parseMethodDescriptor yX4_plain.desc).map (fun d => d.parameters.length) = some 1 := by decide +kernel
set_option maxHeartbeats 4000000 in
set_option maxRecDepth 100000 in
theorem mX4_plain (l : Launch) (Γ : zG) (th : Nat) (x0 : Nat) (μ : zM) (Q : zM → Prop) (hp : pX4_plain th x0 μ Q) : Met l yX4_plain (ws_ yX4_plain cX4_plain 2 none) ({ frames := 0, cells := 0, slots := 0, locals := 0 } : Room) (va_Pc [.ref x0] (zPre Γ (tSh th) μ)) (va_Qv Q (zPost Γ (tSh th) μ) (zA μ)) 0 0 (zA μ) := by
  refine zstart (by decide) (Nat.le_of_ble_eq_true rfl) ?_
  intro p e s m below meth c ls X hnm hB hl
  have X : zCx p m c cX4_plain 2 s [.ref x0].toArray RX4 meth none := X
  have S := X.1
  obtain ⟨hx, hb, hml, hown, hts⟩ := X.1
  have hl : lv_has ls 2 [(0, .ref x0)] := hl
  unfold pX4_plain at hp
  refine lv_iconst (v := (nI 0)) hx hb dX4_plain_0 rfl ?_
  refine lv_istore_n (lv' := [(1, .int (nI 0)), (0, .ref x0)]) hx hb dX4_plain_1 rfl hl (by decide) rfl (fun ls hl => ?_)
  obtain ⟨n1, hp⟩ := hp
  exact wX4_plain_2 X th x0 n1 (nI 0) μ _ _ _ hp hB (lv_sub hl [1, 0] rfl)
def pX4_feed_77 (th : Nat) (x1 : Int32) (x2 : Int32) (x3 : Int32) (x4 : Int32) (x5 : Int32) (K24 : Int32 → zM → Prop) (Q : Int32 → zM → Prop) (x6 : Int32) (y1 : Int32) (μ : zM) : Prop := (vp_in (zI μ th 5) 900 ∧ zpI μ (th + 3) (zI μ th 5).toNatClampNeg ((y1 >>> (((nI 24) - ((nI 8) * (x6 - x6 / (nI 4) * (nI 4)))) &&& 31)) &&& (nI 255)) fun μ1 => (zpI μ1 th 5 ((zI μ1 th 5) + (nI 1)) fun μ2 => K24 (x6 + (nI 1)) μ2))
set_option maxHeartbeats 4000000 in
set_option maxRecDepth 100000 in
theorem wX4_feed_77 {p : Program} {l : Launch} {e : Env} {s : State} {m : MethodId} {args : Array Value} {below : List Frame} {meth : Method} {c : Code} {Γ : zG} {μ0 : zM} {Q : Int32 → zM → Prop} {K24 : Int32 → zM → Prop} (X : zCx p m c cX4_feed 8 s args RX4 meth (some .int)) (th : Nat) (x1 : Int32) (x2 : Int32) (x3 : Int32) (x4 : Int32) (x5 : Int32) (hK24 : ∀ (x6 : Int32) (μ : zM) (H : Heap) (locs : List Loc) (ls : Array Slot), K24 x6 μ → zB Γ (tSh th) (zA μ0) μ0 s μ H locs → lv_has ls 8 [(0, .ref th), (1, .int x1), (2, .int x2), (3, .int x3), (4, .int x4), (5, .int x5), (6, .int x6)] → W p l e ({ frames := 0, cells := 0, slots := 0, locals := 0 } : Room) s m args below meth c H locs 0 0 (MQ below (va_Qi Q (zPost Γ (tSh th) μ0) (zA μ0)) args s 0 0 (zA μ0)) (F0 m 24 ls [])) : ∀ (x6 : Int32) (y1 : Int32) (μ : zM) (H : Heap) (locs : List Loc) (ls : Array Slot), pX4_feed_77 th x1 x2 x3 x4 x5 K24 Q x6 y1 μ → zB Γ (tSh th) (zA μ0) μ0 s μ H locs → lv_has ls 8 [(0, .ref th), (1, .int x1), (2, .int x2), (3, .int x3), (4, .int x4), (5, .int x5), (6, .int x6)] → W p l e ({ frames := 0, cells := 0, slots := 0, locals := 0 } : Room) s m args below meth c H locs 0 0 (MQ below (va_Qi Q (zPost Γ (tSh th) μ0) (zA μ0)) args s 0 0 (zA μ0)) (F0 m 77 ls [.int y1]) := by
  have S := X.1
  obtain ⟨hx, hb, hml, hown, hts⟩ := X.1
  intro x6 y1 μ H locs ls hp hB hl
  unfold pX4_feed_77 at hp
  refine lv_istore (lv' := [(7, .int y1), (0, .ref th), (1, .int x1), (2, .int x2), (3, .int x3), (4, .int x4), (5, .int x5), (6, .int x6)]) hx hb dX4_feed_77 hl (by decide) rfl (fun ls hl => ?_)
  refine lv_aload_n hx hb dX4_feed_79 rfl (lv_at hl 1 rfl) ?_
  refine g_getr S hB (tT hB) rfl (T := TX4) (N := 38) (C := RX4) rfl in_X4 3 (by decide) (by decide) q1395 (fun _ h9 => h9) (fun _ => rfl) (tA hB 2 rfl).1 dX4_feed_80 ?_
  refine lv_aload_n hx hb dX4_feed_83 rfl (lv_at hl 1 rfl) ?_
  refine g_get S hB (tT hB) rfl (T := TX4) (N := 38) (C := RX4) rfl in_X4 5 (by decide) (by decide) q1397 (fun _ h9 => h9) (v := .int (zI μ th 5)) rfl dX4_feed_84 ?_
  refine lv_iload hx hb dX4_feed_87 (lv_at hl 0 rfl) ?_
  refine lv_bipush (v := (nI 24)) hx hb dX4_feed_89 rfl ?_
  refine lv_bipush (v := (nI 8)) hx hb dX4_feed_91 rfl ?_
  refine lv_iload hx hb dX4_feed_93 (lv_at hl 7 rfl) ?_
  refine lv_iconst (v := (nI 4)) hx hb dX4_feed_95 rfl ?_
  refine lv_irem hx hb dX4_feed_96 (by decide) ?_
  refine lv_imul hx hb dX4_feed_97 ?_
  refine lv_isub hx hb dX4_feed_98 ?_
  refine lv_ishr hx hb dX4_feed_99 ?_
  refine lv_sipush (v := (nI 255)) hx hb dX4_feed_100 rfl ?_
  refine lv_iand hx hb dX4_feed_103 ?_
  obtain ⟨hi, hp⟩ := hp
  obtain ⟨μ1, eμ1, hp⟩ := zpI_e hp
  refine g_iast S hB (tA hB 2 rfl).2 hi dX4_feed_104 (fun H locs hB => ?_)
  rw [← eμ1] at hB
  refine lv_aload_n hx hb dX4_feed_105 rfl (lv_at hl 1 rfl) ?_
  refine lv_dup hx hb dX4_feed_106 rfl ?_
  refine g_get S hB (tT hB) rfl (T := TX4) (N := 38) (C := RX4) rfl in_X4 5 (by decide) (by decide) q1397 (fun _ h9 => h9) (v := .int (zI μ1 th 5)) rfl dX4_feed_107 ?_
  refine lv_iconst (v := (nI 1)) hx hb dX4_feed_110 rfl ?_
  refine lv_iadd hx hb dX4_feed_111 ?_
  obtain ⟨μ2, eμ2, hp⟩ := zpI_e hp
  refine g_putI S hB (tT hB) rfl (T := TX4) (N := 38) (C := RX4) rfl in_X4 5 (by decide) (by decide) (x := ((zI μ1 th 5) + (nI 1))) tyX4 tyX4_ok nmX4 q1397 (fun _ h9 => h9) rfl (ty := .int) (by decide +kernel) rfl rfl (fun _ _ => rfl) dX4_feed_112 (fun H locs hB => ?_)
  rw [← eμ2] at hB
  refine lv_iinc (v := (x6 + (nI 1))) (lv' := [(6, .int (x6 + (nI 1))), (7, .int y1), (0, .ref th), (1, .int x1), (2, .int x2), (3, .int x3), (4, .int x4), (5, .int x5)]) hx hb dX4_feed_115 hl (k := 7) rfl rfl (by decide) rfl (fun ls hl => ?_)
  refine lv_goto (tgt := 24) hx hb dX4_feed_118 rfl ?_
  exact hK24 (x6 + (nI 1)) μ2 _ _ _ hp hB (lv_sub hl [2, 3, 4, 5, 6, 7, 0] rfl)
def pX4_feed_24 (th : Nat) (x1 : Int32) (x2 : Int32) (x3 : Int32) (x4 : Int32) (x5 : Int32) (Q : Int32 → zM → Prop) : Nat → Int32 → zM → Prop
  | 0, _, _ => False
  | n + 1, x6, μ => (if (nI 20) ≤ x6 then Q (zI μ th 5) μ else (if (nI 4) ≤ x6 then (if (nI 8) ≤ x6 then (if (nI 12) ≤ x6 then (if (nI 16) ≤ x6 then pX4_feed_77 th x1 x2 x3 x4 x5 (fun v0 ν => pX4_feed_24 th x1 x2 x3 x4 x5 Q n v0 ν) Q x6 x5 μ else pX4_feed_77 th x1 x2 x3 x4 x5 (fun v0 ν => pX4_feed_24 th x1 x2 x3 x4 x5 Q n v0 ν) Q x6 x4 μ) else pX4_feed_77 th x1 x2 x3 x4 x5 (fun v0 ν => pX4_feed_24 th x1 x2 x3 x4 x5 Q n v0 ν) Q x6 x3 μ) else pX4_feed_77 th x1 x2 x3 x4 x5 (fun v0 ν => pX4_feed_24 th x1 x2 x3 x4 x5 Q n v0 ν) Q x6 x2 μ) else pX4_feed_77 th x1 x2 x3 x4 x5 (fun v0 ν => pX4_feed_24 th x1 x2 x3 x4 x5 Q n v0 ν) Q x6 x1 μ))
set_option maxHeartbeats 4000000 in
set_option maxRecDepth 100000 in
theorem wX4_feed_24 {p : Program} {l : Launch} {e : Env} {s : State} {m : MethodId} {args : Array Value} {below : List Frame} {meth : Method} {c : Code} {Γ : zG} {μ0 : zM} {Q : Int32 → zM → Prop} (X : zCx p m c cX4_feed 8 s args RX4 meth (some .int)) (th : Nat) (x1 : Int32) (x2 : Int32) (x3 : Int32) (x4 : Int32) (x5 : Int32) : ∀ (n : Nat) (x6 : Int32) (μ : zM) (H : Heap) (locs : List Loc) (ls : Array Slot), pX4_feed_24 th x1 x2 x3 x4 x5 Q n x6 μ → zB Γ (tSh th) (zA μ0) μ0 s μ H locs → lv_has ls 8 [(0, .ref th), (1, .int x1), (2, .int x2), (3, .int x3), (4, .int x4), (5, .int x5), (6, .int x6)] → W p l e ({ frames := 0, cells := 0, slots := 0, locals := 0 } : Room) s m args below meth c H locs 0 0 (MQ below (va_Qi Q (zPost Γ (tSh th) μ0) (zA μ0)) args s 0 0 (zA μ0)) (F0 m 24 ls []) := by
  have S := X.1
  obtain ⟨hx, hb, hml, hown, hts⟩ := X.1
  intro n
  induction n with
  | zero =>
    intro x6 μ H locs ls hp
    exact hp.elim
  | succ n ih =>
    intro x6 μ H locs ls hp hB hl
    unfold pX4_feed_24 at hp
    refine lv_iload hx hb dX4_feed_24 (lv_at hl 6 rfl) ?_
    refine lv_bipush (v := (nI 20)) hx hb dX4_feed_26 rfl ?_
    refine lv_icmp_ge (tgt := 121) hx hb dX4_feed_28 rfl (fun c0 => ?_) (fun c0 => ?_)
    · have hp := zit hp c0
      refine lv_aload_n hx hb dX4_feed_121 rfl (lv_at hl 0 rfl) ?_
      refine g_get S hB (tT hB) rfl (T := TX4) (N := 38) (C := RX4) rfl in_X4 5 (by decide) (by decide) q1397 (fun _ h9 => h9) (v := .int (zI μ th 5)) rfl dX4_feed_122 ?_
      exact zret_i X hB hp dX4_feed_125
    · have hp := zif hp c0
      refine lv_iload hx hb dX4_feed_31 (lv_at hl 6 rfl) ?_
      refine lv_iconst (v := (nI 4)) hx hb dX4_feed_33 rfl ?_
      refine lv_icmp_ge (tgt := 41) hx hb dX4_feed_34 rfl (fun c0 => ?_) (fun c0 => ?_)
      · have hp := zit hp c0
        refine lv_iload hx hb dX4_feed_41 (lv_at hl 6 rfl) ?_
        refine lv_bipush (v := (nI 8)) hx hb dX4_feed_43 rfl ?_
        refine lv_icmp_ge (tgt := 52) hx hb dX4_feed_45 rfl (fun c0 => ?_) (fun c0 => ?_)
        · have hp := zit hp c0
          refine lv_iload hx hb dX4_feed_52 (lv_at hl 6 rfl) ?_
          refine lv_bipush (v := (nI 12)) hx hb dX4_feed_54 rfl ?_
          refine lv_icmp_ge (tgt := 63) hx hb dX4_feed_56 rfl (fun c0 => ?_) (fun c0 => ?_)
          · have hp := zit hp c0
            refine lv_iload hx hb dX4_feed_63 (lv_at hl 6 rfl) ?_
            refine lv_bipush (v := (nI 16)) hx hb dX4_feed_65 rfl ?_
            refine lv_icmp_ge (tgt := 75) hx hb dX4_feed_67 rfl (fun c0 => ?_) (fun c0 => ?_)
            · have hp := zit hp c0
              refine lv_iload hx hb dX4_feed_75 (lv_at hl 5 rfl) ?_
              exact wX4_feed_77 X th x1 x2 x3 x4 x5 (fun v0 ν H2 L2 ls2 h2 b2 l2 => ih v0 ν H2 L2 ls2 h2 b2 l2) x6 x5 μ _ _ _ hp hB (lv_sub hl [0, 1, 2, 3, 4, 5, 6] rfl)
            · have hp := zif hp c0
              refine lv_iload hx hb dX4_feed_70 (lv_at hl 4 rfl) ?_
              refine lv_goto (tgt := 77) hx hb dX4_feed_72 rfl ?_
              exact wX4_feed_77 X th x1 x2 x3 x4 x5 (fun v0 ν H2 L2 ls2 h2 b2 l2 => ih v0 ν H2 L2 ls2 h2 b2 l2) x6 x4 μ _ _ _ hp hB (lv_sub hl [0, 1, 2, 3, 4, 5, 6] rfl)
          · have hp := zif hp c0
            refine lv_iload_n hx hb dX4_feed_59 rfl (lv_at hl 3 rfl) ?_
            refine lv_goto (tgt := 77) hx hb dX4_feed_60 rfl ?_
            exact wX4_feed_77 X th x1 x2 x3 x4 x5 (fun v0 ν H2 L2 ls2 h2 b2 l2 => ih v0 ν H2 L2 ls2 h2 b2 l2) x6 x3 μ _ _ _ hp hB (lv_sub hl [0, 1, 2, 3, 4, 5, 6] rfl)
        · have hp := zif hp c0
          refine lv_iload_n hx hb dX4_feed_48 rfl (lv_at hl 2 rfl) ?_
          refine lv_goto (tgt := 77) hx hb dX4_feed_49 rfl ?_
          exact wX4_feed_77 X th x1 x2 x3 x4 x5 (fun v0 ν H2 L2 ls2 h2 b2 l2 => ih v0 ν H2 L2 ls2 h2 b2 l2) x6 x2 μ _ _ _ hp hB (lv_sub hl [0, 1, 2, 3, 4, 5, 6] rfl)
      · have hp := zif hp c0
        refine lv_iload_n hx hb dX4_feed_37 rfl (lv_at hl 1 rfl) ?_
        refine lv_goto (tgt := 77) hx hb dX4_feed_38 rfl ?_
        exact wX4_feed_77 X th x1 x2 x3 x4 x5 (fun v0 ν H2 L2 ls2 h2 b2 l2 => ih v0 ν H2 L2 ls2 h2 b2 l2) x6 x1 μ _ _ _ hp hB (lv_sub hl [0, 1, 2, 3, 4, 5, 6] rfl)
def pX4_feed (th : Nat) (x1 : Int32) (x2 : Int32) (x3 : Int32) (x4 : Int32) (x5 : Int32) (μ : zM) (Q : Int32 → zM → Prop) : Prop := (zpI μ th 0 (nI 0) fun μ1 => (if ((zI μ1 th 5) + (nI 20)) ≤ (nI 900) then ∃ k1, pX4_feed_24 th x1 x2 x3 x4 x5 Q k1 (nI 0) μ1 else Q (-5 : Int32) μ1))
theorem hX4_feed : yX4_feed.cls = "SunkTowerModel" ∧ yX4_feed.cls ≠ "java/lang/invoke/MethodHandle" ∧ yX4_feed.cls ≠ "java/lang/invoke/VarHandle" ∧ (parseMethodDescriptor yX4_feed.desc).map (fun d => d.parameters.length) = some 5 := by decide +kernel
set_option maxHeartbeats 4000000 in
set_option maxRecDepth 100000 in
theorem mX4_feed (l : Launch) (Γ : zG) (th : Nat) (x1 : Int32) (x2 : Int32) (x3 : Int32) (x4 : Int32) (x5 : Int32) (μ : zM) (Q : Int32 → zM → Prop) (hp : pX4_feed th x1 x2 x3 x4 x5 μ Q) : Met l yX4_feed (ws_ yX4_feed cX4_feed 8 (some .int)) ({ frames := 0, cells := 0, slots := 0, locals := 0 } : Room) (va_Pc [.ref th, .int x1, .int x2, .int x3, .int x4, .int x5] (zPre Γ (tSh th) μ)) (va_Qi Q (zPost Γ (tSh th) μ) (zA μ)) 0 0 (zA μ) := by
  refine zstart (by decide) (Nat.le_of_ble_eq_true rfl) ?_
  intro p e s m below meth c ls X hnm hB hl
  have X : zCx p m c cX4_feed 8 s [.ref th, .int x1, .int x2, .int x3, .int x4, .int x5].toArray RX4 meth (some .int) := X
  have S := X.1
  obtain ⟨hx, hb, hml, hown, hts⟩ := X.1
  have hl : lv_has ls 8 [(0, .ref th), (1, .int x1), (2, .int x2), (3, .int x3), (4, .int x4), (5, .int x5)] := hl
  unfold pX4_feed at hp
  refine lv_aload_n hx hb dX4_feed_0 rfl (lv_at hl 0 rfl) ?_
  refine lv_iconst (v := (nI 0)) hx hb dX4_feed_1 rfl ?_
  obtain ⟨μ1, eμ1, hp⟩ := zpI_e hp
  refine g_putI S hB (tT hB) rfl (T := TX4) (N := 38) (C := RX4) rfl in_X4 0 (by decide) (by decide) (x := (nI 0)) tyX4 tyX4_ok nmX4 q1392 (fun _ h9 => h9) rfl (ty := .int) (by decide +kernel) rfl rfl (fun _ _ => rfl) dX4_feed_2 (fun H locs hB => ?_)
  rw [← eμ1] at hB
  refine lv_aload_n hx hb dX4_feed_5 rfl (lv_at hl 0 rfl) ?_
  refine g_get S hB (tT hB) rfl (T := TX4) (N := 38) (C := RX4) rfl in_X4 5 (by decide) (by decide) q1397 (fun _ h9 => h9) (v := .int (zI μ1 th 5)) rfl dX4_feed_6 ?_
  refine lv_bipush (v := (nI 20)) hx hb dX4_feed_9 rfl ?_
  refine lv_iadd hx hb dX4_feed_11 ?_
  refine lv_sipush (v := (nI 900)) hx hb dX4_feed_12 rfl ?_
  refine lv_icmp_le (tgt := 21) hx hb dX4_feed_15 rfl (fun c0 => ?_) (fun c0 => ?_)
  · have hp := zit hp c0
    refine lv_iconst (v := (nI 0)) hx hb dX4_feed_21 rfl ?_
    refine lv_istore (lv' := [(6, .int (nI 0)), (0, .ref th), (1, .int x1), (2, .int x2), (3, .int x3), (4, .int x4), (5, .int x5)]) hx hb dX4_feed_22 hl (by decide) rfl (fun ls hl => ?_)
    obtain ⟨n1, hp⟩ := hp
    exact wX4_feed_24 X th x1 x2 x3 x4 x5 n1 (nI 0) μ1 _ _ _ hp hB (lv_sub hl [1, 2, 3, 4, 5, 6, 0] rfl)
  · have hp := zif hp c0
    refine lv_bipush (v := (-5 : Int32)) hx hb dX4_feed_18 rfl ?_
    exact zret_i X hB hp dX4_feed_20
def pX4_within (th : Nat) (x0 : Int64) (x2 : Int64) (x4 : Int64) (μ : zM) (Q : Int32 → zM → Prop) : Prop := (if (lg_cmp x0 x2) < 0 then Q (nI 0) μ else (if 0 < (lg_cmp x0 x4) then Q (nI 0) μ else Q (nI 1) μ))
theorem hX4_within : yX4_within.cls ≠ "java/lang/invoke/MethodHandle" ∧ yX4_within.cls ≠ "java/lang/invoke/VarHandle" ∧ (parseMethodDescriptor yX4_within.desc).map (fun d => d.parameters.length) = some 3 := by decide +kernel
set_option maxHeartbeats 4000000 in
set_option maxRecDepth 100000 in
theorem mX4_within (l : Launch) (Γ : zG) (th : Nat) (x0 : Int64) (x2 : Int64) (x4 : Int64) (μ : zM) (Q : Int32 → zM → Prop) (hp : pX4_within th x0 x2 x4 μ Q) : Met l yX4_within (ws_ yX4_within cX4_within 6 (some .boolean)) ({ frames := 0, cells := 0, slots := 0, locals := 0 } : Room) (va_Pc [.long x0, .long x2, .long x4] (zPre Γ (tSh th) μ)) (va_Qi Q (zPost Γ (tSh th) μ) (zA μ)) 0 0 (zA μ) := by
  refine zstart (by decide) (Nat.le_of_ble_eq_true rfl) ?_
  intro p e s m below meth c ls X hnm hB hl
  have X : zCx p m c cX4_within 6 s [.long x0, .long x2, .long x4].toArray RX4 meth (some .boolean) := X
  have S := X.1
  obtain ⟨hx, hb, hml, hown, hts⟩ := X.1
  have hl : lv_has ls 6 [(0, .long x0), (2, .long x2), (4, .long x4)] := hl
  unfold pX4_within at hp
  refine lv_lload_n hx hb dX4_within_0 rfl (lv_at hl 0 rfl) ?_
  refine lv_lload_n hx hb dX4_within_1 rfl (lv_at hl 1 rfl) ?_
  refine W.lcmp hx hb dX4_within_2 ?_
  refine lv_if_lt (tgt := 17) hx hb dX4_within_3 rfl (fun c0 => ?_) (fun c0 => ?_)
  · have hp := zit hp c0
    refine lv_iconst (v := (nI 0)) hx hb dX4_within_17 rfl ?_
    exact zret_z X hB rfl hp dX4_within_18
  · have hp := zif hp c0
    refine lv_lload_n hx hb dX4_within_6 rfl (lv_at hl 0 rfl) ?_
    refine lv_lload hx hb dX4_within_7 (lv_at hl 2 rfl) ?_
    refine W.lcmp hx hb dX4_within_9 ?_
    refine lv_if_gt (tgt := 17) hx hb dX4_within_10 rfl (fun c0 => ?_) (fun c0 => ?_)
    · have hp := zit hp c0
      refine lv_iconst (v := (nI 0)) hx hb dX4_within_17 rfl ?_
      exact zret_z X hB rfl hp dX4_within_18
    · have hp := zif hp c0
      refine lv_iconst (v := (nI 1)) hx hb dX4_within_13 rfl ?_
      refine lv_goto (tgt := 18) hx hb dX4_within_14 rfl ?_
      exact zret_z X hB rfl hp dX4_within_18
def pX4_see (th : Nat) (x1 : Int32) (μ : zM) (Q : Int32 → zM → Prop) : Prop := (if (zI μ th 8) ≤ x1 then Q (-1 : Int32) μ else (vp_in x1 900 ∧ Q (zI μ (th + 3) x1.toNatClampNeg) μ))
theorem hX4_see : yX4_see.cls = "SunkTowerModel" ∧ yX4_see.cls ≠ "java/lang/invoke/MethodHandle" ∧ yX4_see.cls ≠ "java/lang/invoke/VarHandle" ∧ (parseMethodDescriptor yX4_see.desc).map (fun d => d.parameters.length) = some 1 := by decide +kernel
set_option maxHeartbeats 4000000 in
set_option maxRecDepth 100000 in
theorem mX4_see (l : Launch) (Γ : zG) (th : Nat) (x1 : Int32) (μ : zM) (Q : Int32 → zM → Prop) (hp : pX4_see th x1 μ Q) : Met l yX4_see (ws_ yX4_see cX4_see 2 (some .int)) ({ frames := 0, cells := 0, slots := 0, locals := 0 } : Room) (va_Pc [.ref th, .int x1] (zPre Γ (tSh th) μ)) (va_Qi Q (zPost Γ (tSh th) μ) (zA μ)) 0 0 (zA μ) := by
  refine zstart (by decide) (Nat.le_of_ble_eq_true rfl) ?_
  intro p e s m below meth c ls X hnm hB hl
  have X : zCx p m c cX4_see 2 s [.ref th, .int x1].toArray RX4 meth (some .int) := X
  have S := X.1
  obtain ⟨hx, hb, hml, hown, hts⟩ := X.1
  have hl : lv_has ls 2 [(0, .ref th), (1, .int x1)] := hl
  unfold pX4_see at hp
  refine lv_iload_n hx hb dX4_see_0 rfl (lv_at hl 1 rfl) ?_
  refine lv_aload_n hx hb dX4_see_1 rfl (lv_at hl 0 rfl) ?_
  refine g_get S hB (tT hB) rfl (T := TX4) (N := 38) (C := RX4) rfl in_X4 8 (by decide) (by decide) q1400 (fun _ h9 => h9) (v := .int (zI μ th 8)) rfl dX4_see_2 ?_
  refine lv_icmp_ge (tgt := 17) hx hb dX4_see_5 rfl (fun c0 => ?_) (fun c0 => ?_)
  · have hp := zit hp c0
    refine lv_iconst (v := (-1 : Int32)) hx hb dX4_see_17 rfl ?_
    exact zret_i X hB hp dX4_see_18
  · have hp := zif hp c0
    refine lv_aload_n hx hb dX4_see_8 rfl (lv_at hl 0 rfl) ?_
    refine g_getr S hB (tT hB) rfl (T := TX4) (N := 38) (C := RX4) rfl in_X4 3 (by decide) (by decide) q1395 (fun _ h9 => h9) (fun _ => rfl) (tA hB 2 rfl).1 dX4_see_9 ?_
    refine lv_iload_n hx hb dX4_see_12 rfl (lv_at hl 1 rfl) ?_
    obtain ⟨hi, hp⟩ := hp
    refine g_iald S hB (tA hB 2 rfl).2 hi dX4_see_13 ?_
    refine lv_goto (tgt := 18) hx hb dX4_see_14 rfl ?_
    exact zret_i X hB hp dX4_see_18
def pX4_isSmall (th : Nat) (x0 : Int32) (μ : zM) (Q : Int32 → zM → Prop) : Prop := (if x0 < (nI 97) then Q (nI 0) μ else (if (nI 122) < x0 then Q (nI 0) μ else Q (nI 1) μ))
theorem hX4_isSmall : yX4_isSmall.cls ≠ "java/lang/invoke/MethodHandle" ∧ yX4_isSmall.cls ≠ "java/lang/invoke/VarHandle" ∧ (parseMethodDescriptor yX4_isSmall.desc).map (fun d => d.parameters.length) = some 1 := by decide +kernel
set_option maxHeartbeats 4000000 in
set_option maxRecDepth 100000 in
theorem mX4_isSmall (l : Launch) (Γ : zG) (th : Nat) (x0 : Int32) (μ : zM) (Q : Int32 → zM → Prop) (hp : pX4_isSmall th x0 μ Q) : Met l yX4_isSmall (ws_ yX4_isSmall cX4_isSmall 1 (some .boolean)) ({ frames := 0, cells := 0, slots := 0, locals := 0 } : Room) (va_Pc [.int x0] (zPre Γ (tSh th) μ)) (va_Qi Q (zPost Γ (tSh th) μ) (zA μ)) 0 0 (zA μ) := by
  refine zstart (by decide) (Nat.le_of_ble_eq_true rfl) ?_
  intro p e s m below meth c ls X hnm hB hl
  have X : zCx p m c cX4_isSmall 1 s [.int x0].toArray RX4 meth (some .boolean) := X
  have S := X.1
  obtain ⟨hx, hb, hml, hown, hts⟩ := X.1
  have hl : lv_has ls 1 [(0, .int x0)] := hl
  unfold pX4_isSmall at hp
  refine lv_iload_n hx hb dX4_isSmall_0 rfl (lv_at hl 0 rfl) ?_
  refine lv_bipush (v := (nI 97)) hx hb dX4_isSmall_1 rfl ?_
  refine lv_icmp_lt (tgt := 16) hx hb dX4_isSmall_3 rfl (fun c0 => ?_) (fun c0 => ?_)
  · have hp := zit hp c0
    refine lv_iconst (v := (nI 0)) hx hb dX4_isSmall_16 rfl ?_
    exact zret_z X hB rfl hp dX4_isSmall_17
  · have hp := zif hp c0
    refine lv_iload_n hx hb dX4_isSmall_6 rfl (lv_at hl 0 rfl) ?_
    refine lv_bipush (v := (nI 122)) hx hb dX4_isSmall_7 rfl ?_
    refine lv_icmp_gt (tgt := 16) hx hb dX4_isSmall_9 rfl (fun c0 => ?_) (fun c0 => ?_)
    · have hp := zit hp c0
      refine lv_iconst (v := (nI 0)) hx hb dX4_isSmall_16 rfl ?_
      exact zret_z X hB rfl hp dX4_isSmall_17
    · have hp := zif hp c0
      refine lv_iconst (v := (nI 1)) hx hb dX4_isSmall_12 rfl ?_
      refine lv_goto (tgt := 17) hx hb dX4_isSmall_13 rfl ?_
      exact zret_z X hB rfl hp dX4_isSmall_17
def pX4_keyAt_97 (th : Nat) (K4 : Int32 → Int32 → zM → Prop) (Q : Int32 → zM → Prop) : Nat → Int32 → Int32 → zM → Prop
  | 0, _, _, _ => False
  | n + 1, x1, x2, μ => (0 < zSn ∧ (pJ0_charAt 0 x2 μ fun r2 μ1 => (if r2 = (nI 32) then K4 (x1 + (nI 1)) (x2 + (nI 1)) μ1 else pX4_keyAt_97 th K4 Q n x1 (x2 + (nI 1)) μ1)))
set_option maxHeartbeats 4000000 in
set_option maxRecDepth 100000 in
theorem wX4_keyAt_97 {p : Program} {l : Launch} {e : Env} {s : State} {m : MethodId} {args : Array Value} {below : List Frame} {meth : Method} {c : Code} {Γ : zG} {μ0 : zM} {Q : Int32 → zM → Prop} {K4 : Int32 → Int32 → zM → Prop} (X : zCx p m c cX4_keyAt 4 s args RX4 meth (some .int)) (th : Nat) (hK4 : ∀ (x1 : Int32) (x2 : Int32) (μ : zM) (H : Heap) (locs : List Loc) (ls : Array Slot), K4 x1 x2 μ → zB Γ (tSh th) (zA μ0) μ0 s μ H locs → lv_has ls 4 [(0, .ref th), (1, .int x1), (2, .int x2)] → W p l e ({ frames := 4, cells := 0, slots := 0, locals := 85 } : Room) s m args below meth c H locs 0 0 (MQ below (va_Qi Q (zPost Γ (tSh th) μ0) (zA μ0)) args s 0 0 (zA μ0)) (F0 m 4 ls [])) : ∀ (n : Nat) (x1 : Int32) (x2 : Int32) (μ : zM) (H : Heap) (locs : List Loc) (ls : Array Slot), pX4_keyAt_97 th K4 Q n x1 x2 μ → zB Γ (tSh th) (zA μ0) μ0 s μ H locs → lv_has ls 4 [(0, .ref th), (1, .int x1), (2, .int x2)] → W p l e ({ frames := 4, cells := 0, slots := 0, locals := 85 } : Room) s m args below meth c H locs 0 0 (MQ below (va_Qi Q (zPost Γ (tSh th) μ0) (zA μ0)) args s 0 0 (zA μ0)) (F0 m 97 ls []) := by
  have S := X.1
  obtain ⟨hx, hb, hml, hown, hts⟩ := X.1
  intro n
  induction n with
  | zero =>
    intro x1 x2 μ H locs ls hp
    exact hp.elim
  | succ n ih =>
    intro x1 x2 μ H locs ls hp hB hl
    unfold pX4_keyAt_97 at hp
    refine g_ldcs S hB (i := 0) rfl dX4_keyAt_97 ?_
    refine lv_iload_n hx hb dX4_keyAt_99 rfl (lv_at hl 2 rfl) ?_
    obtain ⟨hw0, hp⟩ := hp
    refine z_calli (va_runV (As := [.int x2]) (rest := []) S (mJ0_charAt l Γ (tSh th) 0 x2 μ _ hp) (cwV 1 hts (lw_V q1536 q589 q590 q134 q591) rfl rfl rfl hJ0_charAt ⟨Nat.le_of_ble_eq_true rfl, Nat.le_of_ble_eq_true rfl⟩) (hB.preStr hw0) rfl rfl hl.1 rfl (lv_room (Nat.le_of_ble_eq_true rfl)) dX4_keyAt_100 ⟨Nat.le_refl _, Nat.le_refl _⟩) hB (fun r2 μ1 H locs hp hB => ?_)
    refine lv_bipush (v := (nI 32)) hx hb dX4_keyAt_103 rfl ?_
    refine lv_icmp_eq (tgt := 114) hx hb dX4_keyAt_105 rfl (fun c0 => ?_) (fun c0 => ?_)
    · have hp := zit hp c0
      refine lv_iinc (v := (x2 + (nI 1))) (lv' := [(2, .int (x2 + (nI 1))), (0, .ref th), (1, .int x1)]) hx hb dX4_keyAt_114 hl (k := 2) rfl rfl (by decide) rfl (fun ls hl => ?_)
      refine lv_iinc (v := (x1 + (nI 1))) (lv' := [(1, .int (x1 + (nI 1))), (2, .int (x2 + (nI 1))), (0, .ref th)]) hx hb dX4_keyAt_117 hl (k := 2) rfl rfl (by decide) rfl (fun ls hl => ?_)
      refine lv_goto (tgt := 4) hx hb dX4_keyAt_120 rfl ?_
      exact hK4 (x1 + (nI 1)) (x2 + (nI 1)) μ1 _ _ _ hp hB (lv_sub hl [2, 0, 1] rfl)
    · have hp := zif hp c0
      refine lv_iinc (v := (x2 + (nI 1))) (lv' := [(2, .int (x2 + (nI 1))), (0, .ref th), (1, .int x1)]) hx hb dX4_keyAt_108 hl (k := 2) rfl rfl (by decide) rfl (fun ls hl => ?_)
      refine lv_goto (tgt := 97) hx hb dX4_keyAt_111 rfl ?_
      exact ih x1 (x2 + (nI 1)) μ1 _ _ _ hp hB (lv_sub hl [1, 2, 0] rfl)
def pX4_keyAt_69 (th : Nat) (K4 : Int32 → Int32 → zM → Prop) (Q : Int32 → zM → Prop) (x1 : Int32) (x2 : Int32) (x3 : Int32) (μ : zM) : Prop := (0 < zSn ∧ (pJ0_charAt 0 (x2 + x3) μ fun r2 μ1 => (if r2 = (nI 32) then (if ((zI μ1 th 6) + x3) = (zI μ1 th 7) then Q x1 μ1 else ∃ k1, pX4_keyAt_97 th K4 Q k1 x1 x2 μ1) else ∃ k1, pX4_keyAt_97 th K4 Q k1 x1 x2 μ1)))
set_option maxHeartbeats 4000000 in
set_option maxRecDepth 100000 in
theorem wX4_keyAt_69 {p : Program} {l : Launch} {e : Env} {s : State} {m : MethodId} {args : Array Value} {below : List Frame} {meth : Method} {c : Code} {Γ : zG} {μ0 : zM} {Q : Int32 → zM → Prop} {K4 : Int32 → Int32 → zM → Prop} (X : zCx p m c cX4_keyAt 4 s args RX4 meth (some .int)) (th : Nat) (hK4 : ∀ (x1 : Int32) (x2 : Int32) (μ : zM) (H : Heap) (locs : List Loc) (ls : Array Slot), K4 x1 x2 μ → zB Γ (tSh th) (zA μ0) μ0 s μ H locs → lv_has ls 4 [(0, .ref th), (1, .int x1), (2, .int x2)] → W p l e ({ frames := 4, cells := 0, slots := 0, locals := 85 } : Room) s m args below meth c H locs 0 0 (MQ below (va_Qi Q (zPost Γ (tSh th) μ0) (zA μ0)) args s 0 0 (zA μ0)) (F0 m 4 ls [])) : ∀ (x1 : Int32) (x2 : Int32) (x3 : Int32) (μ : zM) (H : Heap) (locs : List Loc) (ls : Array Slot), pX4_keyAt_69 th K4 Q x1 x2 x3 μ → zB Γ (tSh th) (zA μ0) μ0 s μ H locs → lv_has ls 4 [(0, .ref th), (1, .int x1), (2, .int x2), (3, .int x3)] → W p l e ({ frames := 4, cells := 0, slots := 0, locals := 85 } : Room) s m args below meth c H locs 0 0 (MQ below (va_Qi Q (zPost Γ (tSh th) μ0) (zA μ0)) args s 0 0 (zA μ0)) (F0 m 69 ls []) := by
  have S := X.1
  obtain ⟨hx, hb, hml, hown, hts⟩ := X.1
  intro x1 x2 x3 μ H locs ls hp hB hl
  unfold pX4_keyAt_69 at hp
  refine g_ldcs S hB (i := 0) rfl dX4_keyAt_69 ?_
  refine lv_iload_n hx hb dX4_keyAt_71 rfl (lv_at hl 2 rfl) ?_
  refine lv_iload_n hx hb dX4_keyAt_72 rfl (lv_at hl 3 rfl) ?_
  refine lv_iadd hx hb dX4_keyAt_73 ?_
  obtain ⟨hw0, hp⟩ := hp
  refine z_calli (va_runV (As := [.int (x2 + x3)]) (rest := []) S (mJ0_charAt l Γ (tSh th) 0 (x2 + x3) μ _ hp) (cwV 1 hts (lw_V q1536 q589 q590 q134 q591) rfl rfl rfl hJ0_charAt ⟨Nat.le_of_ble_eq_true rfl, Nat.le_of_ble_eq_true rfl⟩) (hB.preStr hw0) rfl rfl hl.1 rfl (lv_room (Nat.le_of_ble_eq_true rfl)) dX4_keyAt_74 ⟨Nat.le_refl _, Nat.le_refl _⟩) hB (fun r2 μ1 H locs hp hB => ?_)
  refine lv_bipush (v := (nI 32)) hx hb dX4_keyAt_77 rfl ?_
  refine lv_icmp_ne (tgt := 97) hx hb dX4_keyAt_79 rfl (fun c0 => ?_) (fun c0 => ?_)
  · have hp := zif hp c0
    obtain ⟨n1, hp⟩ := hp
    exact wX4_keyAt_97 X th hK4 n1 x1 x2 μ1 _ _ _ hp hB (lv_sub hl [0, 1, 2] rfl)
  · have hp := zit hp c0
    refine lv_aload_n hx hb dX4_keyAt_82 rfl (lv_at hl 0 rfl) ?_
    refine g_get S hB (tT hB) rfl (T := TX4) (N := 38) (C := RX4) rfl in_X4 6 (by decide) (by decide) q1398 (fun _ h9 => h9) (v := .int (zI μ1 th 6)) rfl dX4_keyAt_83 ?_
    refine lv_iload_n hx hb dX4_keyAt_86 rfl (lv_at hl 3 rfl) ?_
    refine lv_iadd hx hb dX4_keyAt_87 ?_
    refine lv_aload_n hx hb dX4_keyAt_88 rfl (lv_at hl 0 rfl) ?_
    refine g_get S hB (tT hB) rfl (T := TX4) (N := 38) (C := RX4) rfl in_X4 7 (by decide) (by decide) q1399 (fun _ h9 => h9) (v := .int (zI μ1 th 7)) rfl dX4_keyAt_89 ?_
    refine lv_icmp_ne (tgt := 97) hx hb dX4_keyAt_92 rfl (fun c0 => ?_) (fun c0 => ?_)
    · have hp := zif hp c0
      obtain ⟨n1, hp⟩ := hp
      exact wX4_keyAt_97 X th hK4 n1 x1 x2 μ1 _ _ _ hp hB (lv_sub hl [0, 1, 2] rfl)
    · have hp := zit hp c0
      refine lv_iload_n hx hb dX4_keyAt_95 rfl (lv_at hl 1 rfl) ?_
      exact zret_i X hB hp dX4_keyAt_96
def pX4_keyAt_15 (th : Nat) (K4 : Int32 → Int32 → zM → Prop) (Q : Int32 → zM → Prop) : Nat → Int32 → Int32 → Int32 → zM → Prop
  | 0, _, _, _, _ => False
  | n + 1, x1, x2, x3, μ => (0 < zSn ∧ (pJ0_charAt 0 (x2 + x3) μ fun r2 μ1 => (if r2 = (nI 32) then pX4_keyAt_69 th K4 Q x1 x2 x3 μ1 else (if (zI μ1 th 7) ≤ ((zI μ1 th 6) + x3) then pX4_keyAt_69 th K4 Q x1 x2 x3 μ1 else (vp_in ((zI μ1 th 6) + x3) 900 ∧ (0 < zSn ∧ (pJ0_charAt 0 (x2 + x3) μ1 fun r4 μ3 => (if (zI μ1 (th + 3) ((zI μ1 th 6) + x3).toNatClampNeg) = r4 then pX4_keyAt_15 th K4 Q n x1 x2 (x3 + (nI 1)) μ3 else pX4_keyAt_69 th K4 Q x1 x2 x3 μ3))))))))
set_option maxHeartbeats 4000000 in
set_option maxRecDepth 100000 in
theorem wX4_keyAt_15 {p : Program} {l : Launch} {e : Env} {s : State} {m : MethodId} {args : Array Value} {below : List Frame} {meth : Method} {c : Code} {Γ : zG} {μ0 : zM} {Q : Int32 → zM → Prop} {K4 : Int32 → Int32 → zM → Prop} (X : zCx p m c cX4_keyAt 4 s args RX4 meth (some .int)) (th : Nat) (hK4 : ∀ (x1 : Int32) (x2 : Int32) (μ : zM) (H : Heap) (locs : List Loc) (ls : Array Slot), K4 x1 x2 μ → zB Γ (tSh th) (zA μ0) μ0 s μ H locs → lv_has ls 4 [(0, .ref th), (1, .int x1), (2, .int x2)] → W p l e ({ frames := 4, cells := 0, slots := 0, locals := 85 } : Room) s m args below meth c H locs 0 0 (MQ below (va_Qi Q (zPost Γ (tSh th) μ0) (zA μ0)) args s 0 0 (zA μ0)) (F0 m 4 ls [])) : ∀ (n : Nat) (x1 : Int32) (x2 : Int32) (x3 : Int32) (μ : zM) (H : Heap) (locs : List Loc) (ls : Array Slot), pX4_keyAt_15 th K4 Q n x1 x2 x3 μ → zB Γ (tSh th) (zA μ0) μ0 s μ H locs → lv_has ls 4 [(0, .ref th), (1, .int x1), (2, .int x2), (3, .int x3)] → W p l e ({ frames := 4, cells := 0, slots := 0, locals := 85 } : Room) s m args below meth c H locs 0 0 (MQ below (va_Qi Q (zPost Γ (tSh th) μ0) (zA μ0)) args s 0 0 (zA μ0)) (F0 m 15 ls []) := by
  have S := X.1
  obtain ⟨hx, hb, hml, hown, hts⟩ := X.1
  intro n
  induction n with
  | zero =>
    intro x1 x2 x3 μ H locs ls hp
    exact hp.elim
  | succ n ih =>
    intro x1 x2 x3 μ H locs ls hp hB hl
    unfold pX4_keyAt_15 at hp
    refine g_ldcs S hB (i := 0) rfl dX4_keyAt_15 ?_
    refine lv_iload_n hx hb dX4_keyAt_17 rfl (lv_at hl 2 rfl) ?_
    refine lv_iload_n hx hb dX4_keyAt_18 rfl (lv_at hl 3 rfl) ?_
    refine lv_iadd hx hb dX4_keyAt_19 ?_
    obtain ⟨hw0, hp⟩ := hp
    refine z_calli (va_runV (As := [.int (x2 + x3)]) (rest := []) S (mJ0_charAt l Γ (tSh th) 0 (x2 + x3) μ _ hp) (cwV 1 hts (lw_V q1536 q589 q590 q134 q591) rfl rfl rfl hJ0_charAt ⟨Nat.le_of_ble_eq_true rfl, Nat.le_of_ble_eq_true rfl⟩) (hB.preStr hw0) rfl rfl hl.1 rfl (lv_room (Nat.le_of_ble_eq_true rfl)) dX4_keyAt_20 ⟨Nat.le_refl _, Nat.le_refl _⟩) hB (fun r2 μ1 H locs hp hB => ?_)
    refine lv_bipush (v := (nI 32)) hx hb dX4_keyAt_23 rfl ?_
    refine lv_icmp_eq (tgt := 69) hx hb dX4_keyAt_25 rfl (fun c0 => ?_) (fun c0 => ?_)
    · have hp := zit hp c0
      exact wX4_keyAt_69 X th hK4 x1 x2 x3 μ1 _ _ _ hp hB (lv_sub hl [0, 1, 2, 3] rfl)
    · have hp := zif hp c0
      refine lv_aload_n hx hb dX4_keyAt_28 rfl (lv_at hl 0 rfl) ?_
      refine g_get S hB (tT hB) rfl (T := TX4) (N := 38) (C := RX4) rfl in_X4 6 (by decide) (by decide) q1398 (fun _ h9 => h9) (v := .int (zI μ1 th 6)) rfl dX4_keyAt_29 ?_
      refine lv_iload_n hx hb dX4_keyAt_32 rfl (lv_at hl 3 rfl) ?_
      refine lv_iadd hx hb dX4_keyAt_33 ?_
      refine lv_aload_n hx hb dX4_keyAt_34 rfl (lv_at hl 0 rfl) ?_
      refine g_get S hB (tT hB) rfl (T := TX4) (N := 38) (C := RX4) rfl in_X4 7 (by decide) (by decide) q1399 (fun _ h9 => h9) (v := .int (zI μ1 th 7)) rfl dX4_keyAt_35 ?_
      refine lv_icmp_ge (tgt := 69) hx hb dX4_keyAt_38 rfl (fun c0 => ?_) (fun c0 => ?_)
      · have hp := zit hp c0
        exact wX4_keyAt_69 X th hK4 x1 x2 x3 μ1 _ _ _ hp hB (lv_sub hl [0, 1, 2, 3] rfl)
      · have hp := zif hp c0
        refine lv_aload_n hx hb dX4_keyAt_41 rfl (lv_at hl 0 rfl) ?_
        refine g_getr S hB (tT hB) rfl (T := TX4) (N := 38) (C := RX4) rfl in_X4 3 (by decide) (by decide) q1395 (fun _ h9 => h9) (fun _ => rfl) (tA hB 2 rfl).1 dX4_keyAt_42 ?_
        refine lv_aload_n hx hb dX4_keyAt_45 rfl (lv_at hl 0 rfl) ?_
        refine g_get S hB (tT hB) rfl (T := TX4) (N := 38) (C := RX4) rfl in_X4 6 (by decide) (by decide) q1398 (fun _ h9 => h9) (v := .int (zI μ1 th 6)) rfl dX4_keyAt_46 ?_
        refine lv_iload_n hx hb dX4_keyAt_49 rfl (lv_at hl 3 rfl) ?_
        refine lv_iadd hx hb dX4_keyAt_50 ?_
        obtain ⟨hi, hp⟩ := hp
        refine g_iald S hB (tA hB 2 rfl).2 hi dX4_keyAt_51 ?_
        refine g_ldcs S hB (i := 0) rfl dX4_keyAt_52 ?_
        refine lv_iload_n hx hb dX4_keyAt_54 rfl (lv_at hl 2 rfl) ?_
        refine lv_iload_n hx hb dX4_keyAt_55 rfl (lv_at hl 3 rfl) ?_
        refine lv_iadd hx hb dX4_keyAt_56 ?_
        obtain ⟨hw0, hp⟩ := hp
        refine z_calli (va_runV (As := [.int (x2 + x3)]) (rest := [.int (zI μ1 (th + 3) ((zI μ1 th 6) + x3).toNatClampNeg)]) S (mJ0_charAt l Γ (tSh th) 0 (x2 + x3) μ1 _ hp) (cwV 1 hts (lw_V q1536 q589 q590 q134 q591) rfl rfl rfl hJ0_charAt ⟨Nat.le_of_ble_eq_true rfl, Nat.le_of_ble_eq_true rfl⟩) (hB.preStr hw0) rfl rfl hl.1 rfl (lv_room (Nat.le_of_ble_eq_true rfl)) dX4_keyAt_57 ⟨Nat.le_refl _, Nat.le_refl _⟩) hB (fun r4 μ3 H locs hp hB => ?_)
        refine lv_icmp_ne (tgt := 69) hx hb dX4_keyAt_60 rfl (fun c0 => ?_) (fun c0 => ?_)
        · have hp := zif hp c0
          exact wX4_keyAt_69 X th hK4 x1 x2 x3 μ3 _ _ _ hp hB (lv_sub hl [0, 1, 2, 3] rfl)
        · have hp := zit hp c0
          refine lv_iinc (v := (x3 + (nI 1))) (lv' := [(3, .int (x3 + (nI 1))), (0, .ref th), (1, .int x1), (2, .int x2)]) hx hb dX4_keyAt_63 hl (k := 3) rfl rfl (by decide) rfl (fun ls hl => ?_)
          refine lv_goto (tgt := 15) hx hb dX4_keyAt_66 rfl ?_
          exact ih x1 x2 (x3 + (nI 1)) μ3 _ _ _ hp hB (lv_sub hl [1, 2, 3, 0] rfl)
def pX4_keyAt_4 (th : Nat) (Q : Int32 → zM → Prop) : Nat → Int32 → Int32 → zM → Prop
  | 0, _, _, _ => False
  | n + 1, x1, x2, μ => (0 < zSn ∧ (pJ0_length 0 μ fun r2 μ1 => (if r2 ≤ x2 then Q (nI 22) μ1 else ∃ k1, pX4_keyAt_15 th (fun v0 v1 ν => pX4_keyAt_4 th Q n v0 v1 ν) Q k1 x1 x2 (nI 0) μ1)))
set_option maxHeartbeats 4000000 in
set_option maxRecDepth 100000 in
theorem wX4_keyAt_4 {p : Program} {l : Launch} {e : Env} {s : State} {m : MethodId} {args : Array Value} {below : List Frame} {meth : Method} {c : Code} {Γ : zG} {μ0 : zM} {Q : Int32 → zM → Prop} (X : zCx p m c cX4_keyAt 4 s args RX4 meth (some .int)) (th : Nat) : ∀ (n : Nat) (x1 : Int32) (x2 : Int32) (μ : zM) (H : Heap) (locs : List Loc) (ls : Array Slot), pX4_keyAt_4 th Q n x1 x2 μ → zB Γ (tSh th) (zA μ0) μ0 s μ H locs → lv_has ls 4 [(0, .ref th), (1, .int x1), (2, .int x2)] → W p l e ({ frames := 4, cells := 0, slots := 0, locals := 85 } : Room) s m args below meth c H locs 0 0 (MQ below (va_Qi Q (zPost Γ (tSh th) μ0) (zA μ0)) args s 0 0 (zA μ0)) (F0 m 4 ls []) := by
  have S := X.1
  obtain ⟨hx, hb, hml, hown, hts⟩ := X.1
  intro n
  induction n with
  | zero =>
    intro x1 x2 μ H locs ls hp
    exact hp.elim
  | succ n ih =>
    intro x1 x2 μ H locs ls hp hB hl
    unfold pX4_keyAt_4 at hp
    refine lv_iload_n hx hb dX4_keyAt_4 rfl (lv_at hl 2 rfl) ?_
    refine g_ldcs S hB (i := 0) rfl dX4_keyAt_5 ?_
    obtain ⟨hw0, hp⟩ := hp
    refine z_calli (va_runV (As := []) (rest := [.int x2]) S (mJ0_length l Γ (tSh th) 0 μ _ hp) (cwV 0 hts (lw_V q1535 q507 q508 q134 q509) rfl rfl rfl hJ0_length ⟨Nat.le_of_ble_eq_true rfl, Nat.le_of_ble_eq_true rfl⟩) (hB.preStr hw0) rfl rfl hl.1 rfl (lv_room (Nat.le_of_ble_eq_true rfl)) dX4_keyAt_7 ⟨Nat.le_refl _, Nat.le_refl _⟩) hB (fun r2 μ1 H locs hp hB => ?_)
    refine lv_icmp_ge (tgt := 123) hx hb dX4_keyAt_10 rfl (fun c0 => ?_) (fun c0 => ?_)
    · have hp := zit hp c0
      refine lv_bipush (v := (nI 22)) hx hb dX4_keyAt_123 rfl ?_
      exact zret_i X hB hp dX4_keyAt_125
    · have hp := zif hp c0
      refine lv_iconst (v := (nI 0)) hx hb dX4_keyAt_13 rfl ?_
      refine lv_istore_n (lv' := [(3, .int (nI 0)), (0, .ref th), (1, .int x1), (2, .int x2)]) hx hb dX4_keyAt_14 rfl hl (by decide) rfl (fun ls hl => ?_)
      obtain ⟨n1, hp⟩ := hp
      exact wX4_keyAt_15 X th (fun v0 v1 ν H2 L2 ls2 h2 b2 l2 => ih v0 v1 ν H2 L2 ls2 h2 b2 l2) n1 x1 x2 (nI 0) μ1 _ _ _ hp hB (lv_sub hl [1, 2, 3, 0] rfl)
def pX4_keyAt (th : Nat) (μ : zM) (Q : Int32 → zM → Prop) : Prop := ∃ k1, pX4_keyAt_4 th Q k1 (nI 0) (nI 1) μ
theorem hX4_keyAt : yX4_keyAt.cls = "SunkTowerModel" ∧ yX4_keyAt.cls ≠ "java/lang/invoke/MethodHandle" ∧ yX4_keyAt.cls ≠ "java/lang/invoke/VarHandle" ∧ (parseMethodDescriptor yX4_keyAt.desc).map (fun d => d.parameters.length) = some 0 := by decide +kernel
set_option maxHeartbeats 4000000 in
set_option maxRecDepth 100000 in
theorem mX4_keyAt (l : Launch) (Γ : zG) (th : Nat) (μ : zM) (Q : Int32 → zM → Prop) (hp : pX4_keyAt th μ Q) : Met l yX4_keyAt (ws_ yX4_keyAt cX4_keyAt 4 (some .int)) ({ frames := 4, cells := 0, slots := 0, locals := 85 } : Room) (va_Pc [.ref th] (zPre Γ (tSh th) μ)) (va_Qi Q (zPost Γ (tSh th) μ) (zA μ)) 0 0 (zA μ) := by
  refine zstart (by decide) (Nat.le_of_ble_eq_true rfl) ?_
  intro p e s m below meth c ls X hnm hB hl
  have X : zCx p m c cX4_keyAt 4 s [.ref th].toArray RX4 meth (some .int) := X
  have S := X.1
  obtain ⟨hx, hb, hml, hown, hts⟩ := X.1
  have hl : lv_has ls 4 [(0, .ref th)] := hl
  unfold pX4_keyAt at hp
  refine lv_iconst (v := (nI 0)) hx hb dX4_keyAt_0 rfl ?_
  refine lv_istore_n (lv' := [(1, .int (nI 0)), (0, .ref th)]) hx hb dX4_keyAt_1 rfl hl (by decide) rfl (fun ls hl => ?_)
  refine lv_iconst (v := (nI 1)) hx hb dX4_keyAt_2 rfl ?_
  refine lv_istore_n (lv' := [(2, .int (nI 1)), (1, .int (nI 0)), (0, .ref th)]) hx hb dX4_keyAt_3 rfl hl (by decide) rfl (fun ls hl => ?_)
  obtain ⟨n1, hp⟩ := hp
  exact wX4_keyAt_4 X th n1 (nI 0) (nI 1) μ _ _ _ hp hB (lv_sub hl [2, 1, 0] rfl)
def pX4_isDigit (th : Nat) (x0 : Int32) (μ : zM) (Q : Int32 → zM → Prop) : Prop := (if x0 < (nI 48) then Q (nI 0) μ else (if (nI 57) < x0 then Q (nI 0) μ else Q (nI 1) μ))
theorem hX4_isDigit : yX4_isDigit.cls ≠ "java/lang/invoke/MethodHandle" ∧ yX4_isDigit.cls ≠ "java/lang/invoke/VarHandle" ∧ (parseMethodDescriptor yX4_isDigit.desc).map (fun d => d.parameters.length) = some 1 := by decide +kernel
set_option maxHeartbeats 4000000 in
set_option maxRecDepth 100000 in
theorem mX4_isDigit (l : Launch) (Γ : zG) (th : Nat) (x0 : Int32) (μ : zM) (Q : Int32 → zM → Prop) (hp : pX4_isDigit th x0 μ Q) : Met l yX4_isDigit (ws_ yX4_isDigit cX4_isDigit 1 (some .boolean)) ({ frames := 0, cells := 0, slots := 0, locals := 0 } : Room) (va_Pc [.int x0] (zPre Γ (tSh th) μ)) (va_Qi Q (zPost Γ (tSh th) μ) (zA μ)) 0 0 (zA μ) := by
  refine zstart (by decide) (Nat.le_of_ble_eq_true rfl) ?_
  intro p e s m below meth c ls X hnm hB hl
  have X : zCx p m c cX4_isDigit 1 s [.int x0].toArray RX4 meth (some .boolean) := X
  have S := X.1
  obtain ⟨hx, hb, hml, hown, hts⟩ := X.1
  have hl : lv_has ls 1 [(0, .int x0)] := hl
  unfold pX4_isDigit at hp
  refine lv_iload_n hx hb dX4_isDigit_0 rfl (lv_at hl 0 rfl) ?_
  refine lv_bipush (v := (nI 48)) hx hb dX4_isDigit_1 rfl ?_
  refine lv_icmp_lt (tgt := 16) hx hb dX4_isDigit_3 rfl (fun c0 => ?_) (fun c0 => ?_)
  · have hp := zit hp c0
    refine lv_iconst (v := (nI 0)) hx hb dX4_isDigit_16 rfl ?_
    exact zret_z X hB rfl hp dX4_isDigit_17
  · have hp := zif hp c0
    refine lv_iload_n hx hb dX4_isDigit_6 rfl (lv_at hl 0 rfl) ?_
    refine lv_bipush (v := (nI 57)) hx hb dX4_isDigit_7 rfl ?_
    refine lv_icmp_gt (tgt := 16) hx hb dX4_isDigit_9 rfl (fun c0 => ?_) (fun c0 => ?_)
    · have hp := zit hp c0
      refine lv_iconst (v := (nI 0)) hx hb dX4_isDigit_16 rfl ?_
      exact zret_z X hB rfl hp dX4_isDigit_17
    · have hp := zif hp c0
      refine lv_iconst (v := (nI 1)) hx hb dX4_isDigit_12 rfl ?_
      refine lv_goto (tgt := 17) hx hb dX4_isDigit_13 rfl ?_
      exact zret_z X hB rfl hp dX4_isDigit_17
def pX4_fails_23 (th : Nat) (Q : zM → Prop) (y2 : Int32) (μ : zM) : Prop := (zpI μ th 11 y2 fun μ1 => (zpI μ1 th 12 (zI μ1 th 6) fun μ2 => Q μ2))
set_option maxHeartbeats 4000000 in
set_option maxRecDepth 100000 in
theorem wX4_fails_23 {p : Program} {l : Launch} {e : Env} {s : State} {m : MethodId} {args : Array Value} {below : List Frame} {meth : Method} {c : Code} {Γ : zG} {μ0 : zM} {Q : zM → Prop} (X : zCx p m c cX4_fails 2 s args RX4 meth none) (th : Nat) : ∀ (y2 : Int32) (μ : zM) (H : Heap) (locs : List Loc) (ls : Array Slot), pX4_fails_23 th Q y2 μ → zB Γ (tSh th) (zA μ0) μ0 s μ H locs → lv_has ls 2 [(0, .ref th)] → W p l e ({ frames := 0, cells := 0, slots := 0, locals := 0 } : Room) s m args below meth c H locs 0 0 (MQ below (va_Qv Q (zPost Γ (tSh th) μ0) (zA μ0)) args s 0 0 (zA μ0)) (F0 m 23 ls [.int y2, .ref th]) := by
  have S := X.1
  obtain ⟨hx, hb, hml, hown, hts⟩ := X.1
  intro y2 μ H locs ls hp hB hl
  unfold pX4_fails_23 at hp
  obtain ⟨μ1, eμ1, hp⟩ := zpI_e hp
  refine g_putI S hB (tT hB) rfl (T := TX4) (N := 38) (C := RX4) rfl in_X4 11 (by decide) (by decide) (x := y2) tyX4 tyX4_ok nmX4 q1403 (fun _ h9 => h9) rfl (ty := .int) (by decide +kernel) rfl rfl (fun _ _ => rfl) dX4_fails_23 (fun H locs hB => ?_)
  rw [← eμ1] at hB
  refine lv_aload_n hx hb dX4_fails_26 rfl (lv_at hl 0 rfl) ?_
  refine lv_aload_n hx hb dX4_fails_27 rfl (lv_at hl 0 rfl) ?_
  refine g_get S hB (tT hB) rfl (T := TX4) (N := 38) (C := RX4) rfl in_X4 6 (by decide) (by decide) q1398 (fun _ h9 => h9) (v := .int (zI μ1 th 6)) rfl dX4_fails_28 ?_
  obtain ⟨μ2, eμ2, hp⟩ := zpI_e hp
  refine g_putI S hB (tT hB) rfl (T := TX4) (N := 38) (C := RX4) rfl in_X4 12 (by decide) (by decide) (x := (zI μ1 th 6)) tyX4 tyX4_ok nmX4 q1404 (fun _ h9 => h9) rfl (ty := .int) (by decide +kernel) rfl rfl (fun _ _ => rfl) dX4_fails_31 (fun H locs hB => ?_)
  rw [← eμ2] at hB
  exact zret_v X hB hp dX4_fails_34
def pX4_fails (th : Nat) (x1 : Int32) (μ : zM) (Q : zM → Prop) : Prop := (if (zI μ th 11) = 0 then (if (zI μ th 9) = (nI 25) then pX4_fails_23 th Q (nI 1) μ else pX4_fails_23 th Q x1 μ) else Q μ)
theorem hX4_fails : yX4_fails.cls = "SunkTowerModel" ∧ yX4_fails.cls ≠ "java/lang/invoke/MethodHandle" ∧ yX4_fails.cls ≠ "java/lang/invoke/VarHandle" ∧ (parseMethodDescriptor yX4_fails.desc).map (fun d => d.parameters.length) = some 1 := by decide +kernel
set_option maxHeartbeats 4000000 in
set_option maxRecDepth 100000 in
theorem mX4_fails (l : Launch) (Γ : zG) (th : Nat) (x1 : Int32) (μ : zM) (Q : zM → Prop) (hp : pX4_fails th x1 μ Q) : Met l yX4_fails (ws_ yX4_fails cX4_fails 2 none) ({ frames := 0, cells := 0, slots := 0, locals := 0 } : Room) (va_Pc [.ref th, .int x1] (zPre Γ (tSh th) μ)) (va_Qv Q (zPost Γ (tSh th) μ) (zA μ)) 0 0 (zA μ) := by
  refine zstart (by decide) (Nat.le_of_ble_eq_true rfl) ?_
  intro p e s m below meth c ls X hnm hB hl
  have X : zCx p m c cX4_fails 2 s [.ref th, .int x1].toArray RX4 meth none := X
  have S := X.1
  obtain ⟨hx, hb, hml, hown, hts⟩ := X.1
  have hl : lv_has ls 2 [(0, .ref th), (1, .int x1)] := hl
  unfold pX4_fails at hp
  refine lv_aload_n hx hb dX4_fails_0 rfl (lv_at hl 0 rfl) ?_
  refine g_get S hB (tT hB) rfl (T := TX4) (N := 38) (C := RX4) rfl in_X4 11 (by decide) (by decide) q1403 (fun _ h9 => h9) (v := .int (zI μ th 11)) rfl dX4_fails_1 ?_
  refine lv_if_eq (tgt := 8) hx hb dX4_fails_4 rfl (fun c0 => ?_) (fun c0 => ?_)
  · have hp := zit hp c0
    refine lv_aload_n hx hb dX4_fails_8 rfl (lv_at hl 0 rfl) ?_
    refine lv_aload_n hx hb dX4_fails_9 rfl (lv_at hl 0 rfl) ?_
    refine g_get S hB (tT hB) rfl (T := TX4) (N := 38) (C := RX4) rfl in_X4 9 (by decide) (by decide) q1401 (fun _ h9 => h9) (v := .int (zI μ th 9)) rfl dX4_fails_10 ?_
    refine lv_bipush (v := (nI 25)) hx hb dX4_fails_13 rfl ?_
    refine lv_icmp_ne (tgt := 22) hx hb dX4_fails_15 rfl (fun c0 => ?_) (fun c0 => ?_)
    · have hp := zif hp c0
      refine lv_iload_n hx hb dX4_fails_22 rfl (lv_at hl 1 rfl) ?_
      exact wX4_fails_23 X th x1 μ _ _ _ hp hB (lv_sub hl [0] rfl)
    · have hp := zit hp c0
      refine lv_iconst (v := (nI 1)) hx hb dX4_fails_18 rfl ?_
      refine lv_goto (tgt := 23) hx hb dX4_fails_19 rfl ?_
      exact wX4_fails_23 X th (nI 1) μ _ _ _ hp hB (lv_sub hl [0] rfl)
  · have hp := zif hp c0
    exact zret_v X hB hp dX4_fails_7
def pX4_is (th : Nat) (x1 : Int32) (μ : zM) (Q : Int32 → zM → Prop) : Prop := (if (zI μ th 11) = 0 then (if (zI μ th 9) = x1 then Q (nI 1) μ else Q (nI 0) μ) else Q (nI 0) μ)
theorem hX4_is : yX4_is.cls = "SunkTowerModel" ∧ yX4_is.cls ≠ "java/lang/invoke/MethodHandle" ∧ yX4_is.cls ≠ "java/lang/invoke/VarHandle" ∧ (parseMethodDescriptor yX4_is.desc).map (fun d => d.parameters.length) = some 1 := by decide +kernel
set_option maxHeartbeats 4000000 in
set_option maxRecDepth 100000 in
theorem mX4_is (l : Launch) (Γ : zG) (th : Nat) (x1 : Int32) (μ : zM) (Q : Int32 → zM → Prop) (hp : pX4_is th x1 μ Q) : Met l yX4_is (ws_ yX4_is cX4_is 2 (some .boolean)) ({ frames := 0, cells := 0, slots := 0, locals := 0 } : Room) (va_Pc [.ref th, .int x1] (zPre Γ (tSh th) μ)) (va_Qi Q (zPost Γ (tSh th) μ) (zA μ)) 0 0 (zA μ) := by
  refine zstart (by decide) (Nat.le_of_ble_eq_true rfl) ?_
  intro p e s m below meth c ls X hnm hB hl
  have X : zCx p m c cX4_is 2 s [.ref th, .int x1].toArray RX4 meth (some .boolean) := X
  have S := X.1
  obtain ⟨hx, hb, hml, hown, hts⟩ := X.1
  have hl : lv_has ls 2 [(0, .ref th), (1, .int x1)] := hl
  unfold pX4_is at hp
  refine lv_aload_n hx hb dX4_is_0 rfl (lv_at hl 0 rfl) ?_
  refine g_get S hB (tT hB) rfl (T := TX4) (N := 38) (C := RX4) rfl in_X4 11 (by decide) (by decide) q1403 (fun _ h9 => h9) (v := .int (zI μ th 11)) rfl dX4_is_1 ?_
  refine lv_if_ne (tgt := 19) hx hb dX4_is_4 rfl (fun c0 => ?_) (fun c0 => ?_)
  · have hp := zif hp c0
    refine lv_iconst (v := (nI 0)) hx hb dX4_is_19 rfl ?_
    exact zret_z X hB rfl hp dX4_is_20
  · have hp := zit hp c0
    refine lv_aload_n hx hb dX4_is_7 rfl (lv_at hl 0 rfl) ?_
    refine g_get S hB (tT hB) rfl (T := TX4) (N := 38) (C := RX4) rfl in_X4 9 (by decide) (by decide) q1401 (fun _ h9 => h9) (v := .int (zI μ th 9)) rfl dX4_is_8 ?_
    refine lv_iload_n hx hb dX4_is_11 rfl (lv_at hl 1 rfl) ?_
    refine lv_icmp_ne (tgt := 19) hx hb dX4_is_12 rfl (fun c0 => ?_) (fun c0 => ?_)
    · have hp := zif hp c0
      refine lv_iconst (v := (nI 0)) hx hb dX4_is_19 rfl ?_
      exact zret_z X hB rfl hp dX4_is_20
    · have hp := zit hp c0
      refine lv_iconst (v := (nI 1)) hx hb dX4_is_15 rfl ?_
      refine lv_goto (tgt := 20) hx hb dX4_is_16 rfl ?_
      exact zret_z X hB rfl hp dX4_is_20
def pX4_codes (th : Nat) (x1 : Int32) (μ : zM) (Q : zM → Prop) : Prop := (if (zI μ th 11) = 0 then (vp_in (nI 297) 1198 ∧ (vp_in ((nI 298) + (zI μ (th + 4) (nI 297).toNatClampNeg)) 1198 ∧ zpI μ (th + 4) ((nI 298) + (zI μ (th + 4) (nI 297).toNatClampNeg)).toNatClampNeg x1 fun μ1 => (vp_in (nI 297) 1198 ∧ (vp_in (nI 297) 1198 ∧ zpI μ1 (th + 4) (nI 297).toNatClampNeg ((zI μ1 (th + 4) (nI 297).toNatClampNeg) + (nI 1)) fun μ2 => Q μ2)))) else Q μ)
theorem hX4_codes : yX4_codes.cls = "SunkTowerModel" ∧ yX4_codes.cls ≠ "java/lang/invoke/MethodHandle" ∧ yX4_codes.cls ≠ "java/lang/invoke/VarHandle" ∧ (parseMethodDescriptor yX4_codes.desc).map (fun d => d.parameters.length) = some 1 := by decide +kernel
set_option maxHeartbeats 4000000 in
set_option maxRecDepth 100000 in
theorem mX4_codes (l : Launch) (Γ : zG) (th : Nat) (x1 : Int32) (μ : zM) (Q : zM → Prop) (hp : pX4_codes th x1 μ Q) : Met l yX4_codes (ws_ yX4_codes cX4_codes 2 none) ({ frames := 0, cells := 0, slots := 0, locals := 0 } : Room) (va_Pc [.ref th, .int x1] (zPre Γ (tSh th) μ)) (va_Qv Q (zPost Γ (tSh th) μ) (zA μ)) 0 0 (zA μ) := by
  refine zstart (by decide) (Nat.le_of_ble_eq_true rfl) ?_
  intro p e s m below meth c ls X hnm hB hl
  have X : zCx p m c cX4_codes 2 s [.ref th, .int x1].toArray RX4 meth none := X
  have S := X.1
  obtain ⟨hx, hb, hml, hown, hts⟩ := X.1
  have hl : lv_has ls 2 [(0, .ref th), (1, .int x1)] := hl
  unfold pX4_codes at hp
  refine lv_aload_n hx hb dX4_codes_0 rfl (lv_at hl 0 rfl) ?_
  refine g_get S hB (tT hB) rfl (T := TX4) (N := 38) (C := RX4) rfl in_X4 11 (by decide) (by decide) q1403 (fun _ h9 => h9) (v := .int (zI μ th 11)) rfl dX4_codes_1 ?_
  refine lv_if_eq (tgt := 8) hx hb dX4_codes_4 rfl (fun c0 => ?_) (fun c0 => ?_)
  · have hp := zit hp c0
    refine lv_aload_n hx hb dX4_codes_8 rfl (lv_at hl 0 rfl) ?_
    refine g_getr S hB (tT hB) rfl (T := TX4) (N := 38) (C := RX4) rfl in_X4 4 (by decide) (by decide) q1396 (fun _ h9 => h9) (fun _ => rfl) (tA hB 3 rfl).1 dX4_codes_9 ?_
    refine lv_sipush (v := (nI 298)) hx hb dX4_codes_12 rfl ?_
    refine lv_aload_n hx hb dX4_codes_15 rfl (lv_at hl 0 rfl) ?_
    refine g_getr S hB (tT hB) rfl (T := TX4) (N := 38) (C := RX4) rfl in_X4 4 (by decide) (by decide) q1396 (fun _ h9 => h9) (fun _ => rfl) (tA hB 3 rfl).1 dX4_codes_16 ?_
    refine lv_sipush (v := (nI 297)) hx hb dX4_codes_19 rfl ?_
    obtain ⟨hi, hp⟩ := hp
    refine g_iald S hB (tA hB 3 rfl).2 hi dX4_codes_22 ?_
    refine lv_iadd hx hb dX4_codes_23 ?_
    refine lv_iload_n hx hb dX4_codes_24 rfl (lv_at hl 1 rfl) ?_
    obtain ⟨hi, hp⟩ := hp
    obtain ⟨μ1, eμ1, hp⟩ := zpI_e hp
    refine g_iast S hB (tA hB 3 rfl).2 hi dX4_codes_25 (fun H locs hB => ?_)
    rw [← eμ1] at hB
    refine lv_aload_n hx hb dX4_codes_26 rfl (lv_at hl 0 rfl) ?_
    refine g_getr S hB (tT hB) rfl (T := TX4) (N := 38) (C := RX4) rfl in_X4 4 (by decide) (by decide) q1396 (fun _ h9 => h9) (fun _ => rfl) (tA hB 3 rfl).1 dX4_codes_27 ?_
    refine lv_sipush (v := (nI 297)) hx hb dX4_codes_30 rfl ?_
    refine lv_dup2_11 hx hb dX4_codes_33 rfl rfl ?_
    obtain ⟨hi, hp⟩ := hp
    refine g_iald S hB (tA hB 3 rfl).2 hi dX4_codes_34 ?_
    refine lv_iconst (v := (nI 1)) hx hb dX4_codes_35 rfl ?_
    refine lv_iadd hx hb dX4_codes_36 ?_
    obtain ⟨hi, hp⟩ := hp
    obtain ⟨μ2, eμ2, hp⟩ := zpI_e hp
    refine g_iast S hB (tA hB 3 rfl).2 hi dX4_codes_37 (fun H locs hB => ?_)
    rw [← eμ2] at hB
    exact zret_v X hB hp dX4_codes_38
  · have hp := zif hp c0
    exact zret_v X hB hp dX4_codes_7
def pX4_wordOf (th : Nat) (x1 : Int32) (μ : zM) (Q : Int32 → zM → Prop) : Prop := (if x1 = (nI 8) then Q (nI 0) μ else (if (zI μ th 15) = 0 then (if x1 = (nI 12) then Q (nI 1) μ else (if x1 = (nI 13) then Q (nI 2) μ else (if x1 = (nI 7) then Q (nI 3) μ else (if x1 = (nI 14) then Q (nI 4) μ else Q (-1 : Int32) μ)))) else (if x1 = (nI 15) then Q (nI 5) μ else (if x1 = 0 then Q (nI 6) μ else (if (zI μ th 15) = (nI 1) then Q (-1 : Int32) μ else (if x1 = (nI 3) then Q (nI 7) μ else (if x1 = (nI 16) then Q (nI 8) μ else (if x1 = (nI 17) then Q (nI 9) μ else Q (-1 : Int32) μ))))))))
theorem hX4_wordOf : yX4_wordOf.cls = "SunkTowerModel" ∧ yX4_wordOf.cls ≠ "java/lang/invoke/MethodHandle" ∧ yX4_wordOf.cls ≠ "java/lang/invoke/VarHandle" ∧ (parseMethodDescriptor yX4_wordOf.desc).map (fun d => d.parameters.length) = some 1 := by decide +kernel
set_option maxHeartbeats 4000000 in
set_option maxRecDepth 100000 in
theorem mX4_wordOf (l : Launch) (Γ : zG) (th : Nat) (x1 : Int32) (μ : zM) (Q : Int32 → zM → Prop) (hp : pX4_wordOf th x1 μ Q) : Met l yX4_wordOf (ws_ yX4_wordOf cX4_wordOf 2 (some .int)) ({ frames := 0, cells := 0, slots := 0, locals := 0 } : Room) (va_Pc [.ref th, .int x1] (zPre Γ (tSh th) μ)) (va_Qi Q (zPost Γ (tSh th) μ) (zA μ)) 0 0 (zA μ) := by
  refine zstart (by decide) (Nat.le_of_ble_eq_true rfl) ?_
  intro p e s m below meth c ls X hnm hB hl
  have X : zCx p m c cX4_wordOf 2 s [.ref th, .int x1].toArray RX4 meth (some .int) := X
  have S := X.1
  obtain ⟨hx, hb, hml, hown, hts⟩ := X.1
  have hl : lv_has ls 2 [(0, .ref th), (1, .int x1)] := hl
  unfold pX4_wordOf at hp
  refine lv_iload_n hx hb dX4_wordOf_0 rfl (lv_at hl 1 rfl) ?_
  refine lv_bipush (v := (nI 8)) hx hb dX4_wordOf_1 rfl ?_
  refine lv_icmp_ne (tgt := 8) hx hb dX4_wordOf_3 rfl (fun c0 => ?_) (fun c0 => ?_)
  · have hp := zif hp c0
    refine lv_aload_n hx hb dX4_wordOf_8 rfl (lv_at hl 0 rfl) ?_
    refine g_get S hB (tT hB) rfl (T := TX4) (N := 38) (C := RX4) rfl in_X4 15 (by decide) (by decide) q1407 (fun _ h9 => h9) (v := .int (zI μ th 15)) rfl dX4_wordOf_9 ?_
    refine lv_if_ne (tgt := 57) hx hb dX4_wordOf_12 rfl (fun c0 => ?_) (fun c0 => ?_)
    · have hp := zif hp c0
      refine lv_iload_n hx hb dX4_wordOf_57 rfl (lv_at hl 1 rfl) ?_
      refine lv_bipush (v := (nI 15)) hx hb dX4_wordOf_58 rfl ?_
      refine lv_icmp_ne (tgt := 65) hx hb dX4_wordOf_60 rfl (fun c0 => ?_) (fun c0 => ?_)
      · have hp := zif hp c0
        refine lv_iload_n hx hb dX4_wordOf_65 rfl (lv_at hl 1 rfl) ?_
        refine lv_if_ne (tgt := 72) hx hb dX4_wordOf_66 rfl (fun c0 => ?_) (fun c0 => ?_)
        · have hp := zif hp c0
          refine lv_aload_n hx hb dX4_wordOf_72 rfl (lv_at hl 0 rfl) ?_
          refine g_get S hB (tT hB) rfl (T := TX4) (N := 38) (C := RX4) rfl in_X4 15 (by decide) (by decide) q1407 (fun _ h9 => h9) (v := .int (zI μ th 15)) rfl dX4_wordOf_73 ?_
          refine lv_iconst (v := (nI 1)) hx hb dX4_wordOf_76 rfl ?_
          refine lv_icmp_ne (tgt := 84) hx hb dX4_wordOf_77 rfl (fun c0 => ?_) (fun c0 => ?_)
          · have hp := zif hp c0
            refine lv_iload_n hx hb dX4_wordOf_84 rfl (lv_at hl 1 rfl) ?_
            refine lv_iconst (v := (nI 3)) hx hb dX4_wordOf_85 rfl ?_
            refine lv_icmp_ne (tgt := 94) hx hb dX4_wordOf_86 rfl (fun c0 => ?_) (fun c0 => ?_)
            · have hp := zif hp c0
              refine lv_iload_n hx hb dX4_wordOf_94 rfl (lv_at hl 1 rfl) ?_
              refine lv_bipush (v := (nI 16)) hx hb dX4_wordOf_95 rfl ?_
              refine lv_icmp_ne (tgt := 105) hx hb dX4_wordOf_97 rfl (fun c0 => ?_) (fun c0 => ?_)
              · have hp := zif hp c0
                refine lv_iload_n hx hb dX4_wordOf_105 rfl (lv_at hl 1 rfl) ?_
                refine lv_bipush (v := (nI 17)) hx hb dX4_wordOf_106 rfl ?_
                refine lv_icmp_ne (tgt := 116) hx hb dX4_wordOf_108 rfl (fun c0 => ?_) (fun c0 => ?_)
                · have hp := zif hp c0
                  refine lv_iconst (v := (-1 : Int32)) hx hb dX4_wordOf_116 rfl ?_
                  exact zret_i X hB hp dX4_wordOf_117
                · have hp := zit hp c0
                  refine lv_bipush (v := (nI 9)) hx hb dX4_wordOf_111 rfl ?_
                  refine lv_goto (tgt := 117) hx hb dX4_wordOf_113 rfl ?_
                  exact zret_i X hB hp dX4_wordOf_117
              · have hp := zit hp c0
                refine lv_bipush (v := (nI 8)) hx hb dX4_wordOf_100 rfl ?_
                refine lv_goto (tgt := 117) hx hb dX4_wordOf_102 rfl ?_
                exact zret_i X hB hp dX4_wordOf_117
            · have hp := zit hp c0
              refine lv_bipush (v := (nI 7)) hx hb dX4_wordOf_89 rfl ?_
              refine lv_goto (tgt := 117) hx hb dX4_wordOf_91 rfl ?_
              exact zret_i X hB hp dX4_wordOf_117
          · have hp := zit hp c0
            refine lv_iconst (v := (-1 : Int32)) hx hb dX4_wordOf_80 rfl ?_
            refine lv_goto (tgt := 117) hx hb dX4_wordOf_81 rfl ?_
            exact zret_i X hB hp dX4_wordOf_117
        · have hp := zit hp c0
          refine lv_bipush (v := (nI 6)) hx hb dX4_wordOf_69 rfl ?_
          exact zret_i X hB hp dX4_wordOf_71
      · have hp := zit hp c0
        refine lv_iconst (v := (nI 5)) hx hb dX4_wordOf_63 rfl ?_
        exact zret_i X hB hp dX4_wordOf_64
    · have hp := zit hp c0
      refine lv_iload_n hx hb dX4_wordOf_15 rfl (lv_at hl 1 rfl) ?_
      refine lv_bipush (v := (nI 12)) hx hb dX4_wordOf_16 rfl ?_
      refine lv_icmp_ne (tgt := 25) hx hb dX4_wordOf_18 rfl (fun c0 => ?_) (fun c0 => ?_)
      · have hp := zif hp c0
        refine lv_iload_n hx hb dX4_wordOf_25 rfl (lv_at hl 1 rfl) ?_
        refine lv_bipush (v := (nI 13)) hx hb dX4_wordOf_26 rfl ?_
        refine lv_icmp_ne (tgt := 35) hx hb dX4_wordOf_28 rfl (fun c0 => ?_) (fun c0 => ?_)
        · have hp := zif hp c0
          refine lv_iload_n hx hb dX4_wordOf_35 rfl (lv_at hl 1 rfl) ?_
          refine lv_bipush (v := (nI 7)) hx hb dX4_wordOf_36 rfl ?_
          refine lv_icmp_ne (tgt := 45) hx hb dX4_wordOf_38 rfl (fun c0 => ?_) (fun c0 => ?_)
          · have hp := zif hp c0
            refine lv_iload_n hx hb dX4_wordOf_45 rfl (lv_at hl 1 rfl) ?_
            refine lv_bipush (v := (nI 14)) hx hb dX4_wordOf_46 rfl ?_
            refine lv_icmp_ne (tgt := 55) hx hb dX4_wordOf_48 rfl (fun c0 => ?_) (fun c0 => ?_)
            · have hp := zif hp c0
              refine lv_iconst (v := (-1 : Int32)) hx hb dX4_wordOf_55 rfl ?_
              exact zret_i X hB hp dX4_wordOf_56
            · have hp := zit hp c0
              refine lv_iconst (v := (nI 4)) hx hb dX4_wordOf_51 rfl ?_
              refine lv_goto (tgt := 56) hx hb dX4_wordOf_52 rfl ?_
              exact zret_i X hB hp dX4_wordOf_56
          · have hp := zit hp c0
            refine lv_iconst (v := (nI 3)) hx hb dX4_wordOf_41 rfl ?_
            refine lv_goto (tgt := 56) hx hb dX4_wordOf_42 rfl ?_
            exact zret_i X hB hp dX4_wordOf_56
        · have hp := zit hp c0
          refine lv_iconst (v := (nI 2)) hx hb dX4_wordOf_31 rfl ?_
          refine lv_goto (tgt := 56) hx hb dX4_wordOf_32 rfl ?_
          exact zret_i X hB hp dX4_wordOf_56
      · have hp := zit hp c0
        refine lv_iconst (v := (nI 1)) hx hb dX4_wordOf_21 rfl ?_
        refine lv_goto (tgt := 56) hx hb dX4_wordOf_22 rfl ?_
        exact zret_i X hB hp dX4_wordOf_56
  · have hp := zit hp c0
    refine lv_iconst (v := (nI 0)) hx hb dX4_wordOf_6 rfl ?_
    exact zret_i X hB hp dX4_wordOf_7
def pX4_fault (th : Nat) (x1 : Int32) (μ : zM) (Q : Int32 → zM → Prop) : Prop := (zpI μ th 0 (nI 0) fun μ1 => (if x1 = 0 then Q (zI μ1 th 13) μ1 else (if x1 = (nI 1) then Q (zI μ1 th 14) μ1 else Q (-1 : Int32) μ1)))
theorem hX4_fault : yX4_fault.cls = "SunkTowerModel" ∧ yX4_fault.cls ≠ "java/lang/invoke/MethodHandle" ∧ yX4_fault.cls ≠ "java/lang/invoke/VarHandle" ∧ (parseMethodDescriptor yX4_fault.desc).map (fun d => d.parameters.length) = some 1 := by decide +kernel
set_option maxHeartbeats 4000000 in
set_option maxRecDepth 100000 in
theorem mX4_fault (l : Launch) (Γ : zG) (th : Nat) (x1 : Int32) (μ : zM) (Q : Int32 → zM → Prop) (hp : pX4_fault th x1 μ Q) : Met l yX4_fault (ws_ yX4_fault cX4_fault 2 (some .int)) ({ frames := 0, cells := 0, slots := 0, locals := 0 } : Room) (va_Pc [.ref th, .int x1] (zPre Γ (tSh th) μ)) (va_Qi Q (zPost Γ (tSh th) μ) (zA μ)) 0 0 (zA μ) := by
  refine zstart (by decide) (Nat.le_of_ble_eq_true rfl) ?_
  intro p e s m below meth c ls X hnm hB hl
  have X : zCx p m c cX4_fault 2 s [.ref th, .int x1].toArray RX4 meth (some .int) := X
  have S := X.1
  obtain ⟨hx, hb, hml, hown, hts⟩ := X.1
  have hl : lv_has ls 2 [(0, .ref th), (1, .int x1)] := hl
  unfold pX4_fault at hp
  refine lv_aload_n hx hb dX4_fault_0 rfl (lv_at hl 0 rfl) ?_
  refine lv_iconst (v := (nI 0)) hx hb dX4_fault_1 rfl ?_
  obtain ⟨μ1, eμ1, hp⟩ := zpI_e hp
  refine g_putI S hB (tT hB) rfl (T := TX4) (N := 38) (C := RX4) rfl in_X4 0 (by decide) (by decide) (x := (nI 0)) tyX4 tyX4_ok nmX4 q1392 (fun _ h9 => h9) rfl (ty := .int) (by decide +kernel) rfl rfl (fun _ _ => rfl) dX4_fault_2 (fun H locs hB => ?_)
  rw [← eμ1] at hB
  refine lv_iload_n hx hb dX4_fault_5 rfl (lv_at hl 1 rfl) ?_
  refine lv_if_ne (tgt := 16) hx hb dX4_fault_6 rfl (fun c0 => ?_) (fun c0 => ?_)
  · have hp := zif hp c0
    refine lv_iload_n hx hb dX4_fault_16 rfl (lv_at hl 1 rfl) ?_
    refine lv_iconst (v := (nI 1)) hx hb dX4_fault_17 rfl ?_
    refine lv_icmp_ne (tgt := 28) hx hb dX4_fault_18 rfl (fun c0 => ?_) (fun c0 => ?_)
    · have hp := zif hp c0
      refine lv_iconst (v := (-1 : Int32)) hx hb dX4_fault_28 rfl ?_
      exact zret_i X hB hp dX4_fault_29
    · have hp := zit hp c0
      refine lv_aload_n hx hb dX4_fault_21 rfl (lv_at hl 0 rfl) ?_
      refine g_get S hB (tT hB) rfl (T := TX4) (N := 38) (C := RX4) rfl in_X4 14 (by decide) (by decide) q1406 (fun _ h9 => h9) (v := .int (zI μ1 th 14)) rfl dX4_fault_22 ?_
      refine lv_goto (tgt := 29) hx hb dX4_fault_25 rfl ?_
      exact zret_i X hB hp dX4_fault_29
  · have hp := zit hp c0
    refine lv_aload_n hx hb dX4_fault_9 rfl (lv_at hl 0 rfl) ?_
    refine g_get S hB (tT hB) rfl (T := TX4) (N := 38) (C := RX4) rfl in_X4 13 (by decide) (by decide) q1405 (fun _ h9 => h9) (v := .int (zI μ1 th 13)) rfl dX4_fault_10 ?_
    refine lv_goto (tgt := 29) hx hb dX4_fault_13 rfl ?_
    exact zret_i X hB hp dX4_fault_29
def pX4_isStorey (th : Nat) (x1 : Int64) (μ : zM) (Q : Int32 → zM → Prop) : Prop := (vp_in (nI 20) 3594 ∧ (pX4_within th x1 (0 : Int64) (((zI μ (th + 1) (nI 20).toNatClampNeg) - (nI 1)).toInt64) μ fun r2 μ1 => (zbo r2 ∧ Q r2 μ1)))
theorem hX4_isStorey : yX4_isStorey.cls = "SunkTowerModel" ∧ yX4_isStorey.cls ≠ "java/lang/invoke/MethodHandle" ∧ yX4_isStorey.cls ≠ "java/lang/invoke/VarHandle" ∧ (parseMethodDescriptor yX4_isStorey.desc).map (fun d => d.parameters.length) = some 1 := by decide +kernel
set_option maxHeartbeats 4000000 in
set_option maxRecDepth 100000 in
theorem mX4_isStorey (l : Launch) (Γ : zG) (th : Nat) (x1 : Int64) (μ : zM) (Q : Int32 → zM → Prop) (hp : pX4_isStorey th x1 μ Q) : Met l yX4_isStorey (ws_ yX4_isStorey cX4_isStorey 3 (some .boolean)) ({ frames := 1, cells := 0, slots := 0, locals := 25 } : Room) (va_Pc [.ref th, .long x1] (zPre Γ (tSh th) μ)) (va_Qi Q (zPost Γ (tSh th) μ) (zA μ)) 0 0 (zA μ) := by
  refine zstart (by decide) (Nat.le_of_ble_eq_true rfl) ?_
  intro p e s m below meth c ls X hnm hB hl
  have X : zCx p m c cX4_isStorey 3 s [.ref th, .long x1].toArray RX4 meth (some .boolean) := X
  have S := X.1
  obtain ⟨hx, hb, hml, hown, hts⟩ := X.1
  have hl : lv_has ls 3 [(0, .ref th), (1, .long x1)] := hl
  unfold pX4_isStorey at hp
  refine lv_lload_n hx hb dX4_isStorey_0 rfl (lv_at hl 1 rfl) ?_
  refine lv_lconst (v := (0 : Int64)) hx hb dX4_isStorey_1 rfl ?_
  refine lv_aload_n hx hb dX4_isStorey_2 rfl (lv_at hl 0 rfl) ?_
  refine g_getr S hB (tT hB) rfl (T := TX4) (N := 38) (C := RX4) rfl in_X4 1 (by decide) (by decide) q1393 (fun _ h9 => h9) (fun _ => rfl) (tA hB 0 rfl).1 dX4_isStorey_3 ?_
  refine lv_bipush (v := (nI 20)) hx hb dX4_isStorey_6 rfl ?_
  obtain ⟨hi, hp⟩ := hp
  refine g_iald S hB (tA hB 0 rfl).2 hi dX4_isStorey_8 ?_
  refine lv_iconst (v := (nI 1)) hx hb dX4_isStorey_9 rfl ?_
  refine lv_isub hx hb dX4_isStorey_10 ?_
  refine lv_i2l hx hb dX4_isStorey_11 rfl ?_
  refine z_calli (va_runS (As := [.long x1, .long (0 : Int64), .long (((zI μ (th + 1) (nI 20).toNatClampNeg) - (nI 1)).toInt64)]) (rest := []) S (mX4_within l Γ th x1 (0 : Int64) (((zI μ (th + 1) (nI 20).toNatClampNeg) - (nI 1)).toInt64) μ _ hp) (va_cwS 3 hts (lw_S q1516 q1517 q132 q1518) rfl rfl rfl hX4_within ⟨Nat.le_of_ble_eq_true rfl, Nat.le_of_ble_eq_true rfl⟩) hB.preS rfl rfl hl.1 rfl (lv_room (Nat.le_of_ble_eq_true rfl)) dX4_isStorey_12 ⟨Nat.le_refl _, Nat.le_refl _⟩) hB (fun r2 μ1 H locs hp hB => ?_)
  exact zret_z X hB hp.1 hp.2 dX4_isStorey_15
def pX4_livesOn_2 (th : Nat) (x1 : Int32) (Q : Int32 → zM → Prop) : Nat → Int32 → zM → Prop
  | 0, _, _ => False
  | n + 1, x2, μ => (vp_in (nI 1) 3594 ∧ (if (zI μ (th + 1) (nI 1).toNatClampNeg) ≤ x2 then Q (-1 : Int32) μ else (vp_in ((nI 35) + x2) 3594 ∧ (if (zI μ (th + 1) ((nI 35) + x2).toNatClampNeg) = x1 then Q x2 μ else pX4_livesOn_2 th x1 Q n (x2 + (nI 1)) μ))))
set_option maxHeartbeats 4000000 in
set_option maxRecDepth 100000 in
theorem wX4_livesOn_2 {p : Program} {l : Launch} {e : Env} {s : State} {m : MethodId} {args : Array Value} {below : List Frame} {meth : Method} {c : Code} {Γ : zG} {μ0 : zM} {Q : Int32 → zM → Prop} (X : zCx p m c cX4_livesOn 3 s args RX4 meth (some .int)) (th : Nat) (x1 : Int32) : ∀ (n : Nat) (x2 : Int32) (μ : zM) (H : Heap) (locs : List Loc) (ls : Array Slot), pX4_livesOn_2 th x1 Q n x2 μ → zB Γ (tSh th) (zA μ0) μ0 s μ H locs → lv_has ls 3 [(0, .ref th), (1, .int x1), (2, .int x2)] → W p l e ({ frames := 0, cells := 0, slots := 0, locals := 0 } : Room) s m args below meth c H locs 0 0 (MQ below (va_Qi Q (zPost Γ (tSh th) μ0) (zA μ0)) args s 0 0 (zA μ0)) (F0 m 2 ls []) := by
  have S := X.1
  obtain ⟨hx, hb, hml, hown, hts⟩ := X.1
  intro n
  induction n with
  | zero =>
    intro x2 μ H locs ls hp
    exact hp.elim
  | succ n ih =>
    intro x2 μ H locs ls hp hB hl
    unfold pX4_livesOn_2 at hp
    refine lv_iload_n hx hb dX4_livesOn_2 rfl (lv_at hl 2 rfl) ?_
    refine lv_aload_n hx hb dX4_livesOn_3 rfl (lv_at hl 0 rfl) ?_
    refine g_getr S hB (tT hB) rfl (T := TX4) (N := 38) (C := RX4) rfl in_X4 1 (by decide) (by decide) q1393 (fun _ h9 => h9) (fun _ => rfl) (tA hB 0 rfl).1 dX4_livesOn_4 ?_
    refine lv_iconst (v := (nI 1)) hx hb dX4_livesOn_7 rfl ?_
    obtain ⟨hi, hp⟩ := hp
    refine g_iald S hB (tA hB 0 rfl).2 hi dX4_livesOn_8 ?_
    refine lv_icmp_ge (tgt := 33) hx hb dX4_livesOn_9 rfl (fun c0 => ?_) (fun c0 => ?_)
    · have hp := zit hp c0
      refine lv_iconst (v := (-1 : Int32)) hx hb dX4_livesOn_33 rfl ?_
      exact zret_i X hB hp dX4_livesOn_34
    · have hp := zif hp c0
      refine lv_aload_n hx hb dX4_livesOn_12 rfl (lv_at hl 0 rfl) ?_
      refine g_getr S hB (tT hB) rfl (T := TX4) (N := 38) (C := RX4) rfl in_X4 1 (by decide) (by decide) q1393 (fun _ h9 => h9) (fun _ => rfl) (tA hB 0 rfl).1 dX4_livesOn_13 ?_
      refine lv_bipush (v := (nI 35)) hx hb dX4_livesOn_16 rfl ?_
      refine lv_iload_n hx hb dX4_livesOn_18 rfl (lv_at hl 2 rfl) ?_
      refine lv_iadd hx hb dX4_livesOn_19 ?_
      obtain ⟨hi, hp⟩ := hp
      refine g_iald S hB (tA hB 0 rfl).2 hi dX4_livesOn_20 ?_
      refine lv_iload_n hx hb dX4_livesOn_21 rfl (lv_at hl 1 rfl) ?_
      refine lv_icmp_ne (tgt := 27) hx hb dX4_livesOn_22 rfl (fun c0 => ?_) (fun c0 => ?_)
      · have hp := zif hp c0
        refine lv_iinc (v := (x2 + (nI 1))) (lv' := [(2, .int (x2 + (nI 1))), (0, .ref th), (1, .int x1)]) hx hb dX4_livesOn_27 hl (k := 2) rfl rfl (by decide) rfl (fun ls hl => ?_)
        refine lv_goto (tgt := 2) hx hb dX4_livesOn_30 rfl ?_
        exact ih (x2 + (nI 1)) μ _ _ _ hp hB (lv_sub hl [1, 2, 0] rfl)
      · have hp := zit hp c0
        refine lv_iload_n hx hb dX4_livesOn_25 rfl (lv_at hl 2 rfl) ?_
        exact zret_i X hB hp dX4_livesOn_26
def pX4_livesOn (th : Nat) (x1 : Int32) (μ : zM) (Q : Int32 → zM → Prop) : Prop := ∃ k1, pX4_livesOn_2 th x1 Q k1 (nI 0) μ
theorem hX4_livesOn : yX4_livesOn.cls = "SunkTowerModel" ∧ yX4_livesOn.cls ≠ "java/lang/invoke/MethodHandle" ∧ yX4_livesOn.cls ≠ "java/lang/invoke/VarHandle" ∧ (parseMethodDescriptor yX4_livesOn.desc).map (fun d => d.parameters.length) = some 1 := by decide +kernel
set_option maxHeartbeats 4000000 in
set_option maxRecDepth 100000 in
theorem mX4_livesOn (l : Launch) (Γ : zG) (th : Nat) (x1 : Int32) (μ : zM) (Q : Int32 → zM → Prop) (hp : pX4_livesOn th x1 μ Q) : Met l yX4_livesOn (ws_ yX4_livesOn cX4_livesOn 3 (some .int)) ({ frames := 0, cells := 0, slots := 0, locals := 0 } : Room) (va_Pc [.ref th, .int x1] (zPre Γ (tSh th) μ)) (va_Qi Q (zPost Γ (tSh th) μ) (zA μ)) 0 0 (zA μ) := by
  refine zstart (by decide) (Nat.le_of_ble_eq_true rfl) ?_
  intro p e s m below meth c ls X hnm hB hl
  have X : zCx p m c cX4_livesOn 3 s [.ref th, .int x1].toArray RX4 meth (some .int) := X
  have S := X.1
  obtain ⟨hx, hb, hml, hown, hts⟩ := X.1
  have hl : lv_has ls 3 [(0, .ref th), (1, .int x1)] := hl
  unfold pX4_livesOn at hp
  refine lv_iconst (v := (nI 0)) hx hb dX4_livesOn_0 rfl ?_
  refine lv_istore_n (lv' := [(2, .int (nI 0)), (0, .ref th), (1, .int x1)]) hx hb dX4_livesOn_1 rfl hl (by decide) rfl (fun ls hl => ?_)
  obtain ⟨n1, hp⟩ := hp
  exact wX4_livesOn_2 X th x1 n1 (nI 0) μ _ _ _ hp hB (lv_sub hl [1, 2, 0] rfl)
def pX4_isBuried (th : Nat) (x0 : Int32) (x1 : Int32) (μ : zM) (Q : Int32 → zM → Prop) : Prop := (if 0 < (((nI 144) * (x0 + (nI 1))) - x1) then Q (nI 0) μ else Q (nI 1) μ)
theorem hX4_isBuried : yX4_isBuried.cls ≠ "java/lang/invoke/MethodHandle" ∧ yX4_isBuried.cls ≠ "java/lang/invoke/VarHandle" ∧ (parseMethodDescriptor yX4_isBuried.desc).map (fun d => d.parameters.length) = some 2 := by decide +kernel
set_option maxHeartbeats 4000000 in
set_option maxRecDepth 100000 in
theorem mX4_isBuried (l : Launch) (Γ : zG) (th : Nat) (x0 : Int32) (x1 : Int32) (μ : zM) (Q : Int32 → zM → Prop) (hp : pX4_isBuried th x0 x1 μ Q) : Met l yX4_isBuried (ws_ yX4_isBuried cX4_isBuried 2 (some .boolean)) ({ frames := 0, cells := 0, slots := 0, locals := 0 } : Room) (va_Pc [.int x0, .int x1] (zPre Γ (tSh th) μ)) (va_Qi Q (zPost Γ (tSh th) μ) (zA μ)) 0 0 (zA μ) := by
  refine zstart (by decide) (Nat.le_of_ble_eq_true rfl) ?_
  intro p e s m below meth c ls X hnm hB hl
  have X : zCx p m c cX4_isBuried 2 s [.int x0, .int x1].toArray RX4 meth (some .boolean) := X
  have S := X.1
  obtain ⟨hx, hb, hml, hown, hts⟩ := X.1
  have hl : lv_has ls 2 [(0, .int x0), (1, .int x1)] := hl
  unfold pX4_isBuried at hp
  refine lv_sipush (v := (nI 144)) hx hb dX4_isBuried_0 rfl ?_
  refine lv_iload_n hx hb dX4_isBuried_3 rfl (lv_at hl 0 rfl) ?_
  refine lv_iconst (v := (nI 1)) hx hb dX4_isBuried_4 rfl ?_
  refine lv_iadd hx hb dX4_isBuried_5 ?_
  refine lv_imul hx hb dX4_isBuried_6 ?_
  refine lv_iload_n hx hb dX4_isBuried_7 rfl (lv_at hl 1 rfl) ?_
  refine lv_isub hx hb dX4_isBuried_8 ?_
  refine lv_if_gt (tgt := 16) hx hb dX4_isBuried_9 rfl (fun c0 => ?_) (fun c0 => ?_)
  · have hp := zit hp c0
    refine lv_iconst (v := (nI 0)) hx hb dX4_isBuried_16 rfl ?_
    exact zret_z X hB rfl hp dX4_isBuried_17
  · have hp := zif hp c0
    refine lv_iconst (v := (nI 1)) hx hb dX4_isBuried_12 rfl ?_
    refine lv_goto (tgt := 17) hx hb dX4_isBuried_13 rfl ?_
    exact zret_z X hB rfl hp dX4_isBuried_17
def pX4_isTenant (th : Nat) (x1 : Int64) (μ : zM) (Q : Int32 → zM → Prop) : Prop := (vp_in (nI 1) 3594 ∧ (pX4_within th x1 (0 : Int64) (((zI μ (th + 1) (nI 1).toNatClampNeg) - (nI 1)).toInt64) μ fun r2 μ1 => (zbo r2 ∧ Q r2 μ1)))
theorem hX4_isTenant : yX4_isTenant.cls = "SunkTowerModel" ∧ yX4_isTenant.cls ≠ "java/lang/invoke/MethodHandle" ∧ yX4_isTenant.cls ≠ "java/lang/invoke/VarHandle" ∧ (parseMethodDescriptor yX4_isTenant.desc).map (fun d => d.parameters.length) = some 1 := by decide +kernel
set_option maxHeartbeats 4000000 in
set_option maxRecDepth 100000 in
theorem mX4_isTenant (l : Launch) (Γ : zG) (th : Nat) (x1 : Int64) (μ : zM) (Q : Int32 → zM → Prop) (hp : pX4_isTenant th x1 μ Q) : Met l yX4_isTenant (ws_ yX4_isTenant cX4_isTenant 3 (some .boolean)) ({ frames := 1, cells := 0, slots := 0, locals := 25 } : Room) (va_Pc [.ref th, .long x1] (zPre Γ (tSh th) μ)) (va_Qi Q (zPost Γ (tSh th) μ) (zA μ)) 0 0 (zA μ) := by
  refine zstart (by decide) (Nat.le_of_ble_eq_true rfl) ?_
  intro p e s m below meth c ls X hnm hB hl
  have X : zCx p m c cX4_isTenant 3 s [.ref th, .long x1].toArray RX4 meth (some .boolean) := X
  have S := X.1
  obtain ⟨hx, hb, hml, hown, hts⟩ := X.1
  have hl : lv_has ls 3 [(0, .ref th), (1, .long x1)] := hl
  unfold pX4_isTenant at hp
  refine lv_lload_n hx hb dX4_isTenant_0 rfl (lv_at hl 1 rfl) ?_
  refine lv_lconst (v := (0 : Int64)) hx hb dX4_isTenant_1 rfl ?_
  refine lv_aload_n hx hb dX4_isTenant_2 rfl (lv_at hl 0 rfl) ?_
  refine g_getr S hB (tT hB) rfl (T := TX4) (N := 38) (C := RX4) rfl in_X4 1 (by decide) (by decide) q1393 (fun _ h9 => h9) (fun _ => rfl) (tA hB 0 rfl).1 dX4_isTenant_3 ?_
  refine lv_iconst (v := (nI 1)) hx hb dX4_isTenant_6 rfl ?_
  obtain ⟨hi, hp⟩ := hp
  refine g_iald S hB (tA hB 0 rfl).2 hi dX4_isTenant_7 ?_
  refine lv_iconst (v := (nI 1)) hx hb dX4_isTenant_8 rfl ?_
  refine lv_isub hx hb dX4_isTenant_9 ?_
  refine lv_i2l hx hb dX4_isTenant_10 rfl ?_
  refine z_calli (va_runS (As := [.long x1, .long (0 : Int64), .long (((zI μ (th + 1) (nI 1).toNatClampNeg) - (nI 1)).toInt64)]) (rest := []) S (mX4_within l Γ th x1 (0 : Int64) (((zI μ (th + 1) (nI 1).toNatClampNeg) - (nI 1)).toInt64) μ _ hp) (va_cwS 3 hts (lw_S q1516 q1517 q132 q1518) rfl rfl rfl hX4_within ⟨Nat.le_of_ble_eq_true rfl, Nat.le_of_ble_eq_true rfl⟩) hB.preS rfl rfl hl.1 rfl (lv_room (Nat.le_of_ble_eq_true rfl)) dX4_isTenant_11 ⟨Nat.le_refl _, Nat.le_refl _⟩) hB (fun r2 μ1 H locs hp hB => ?_)
  exact zret_z X hB hp.1 hp.2 dX4_isTenant_14
def pX4_weightOf_35 (th : Nat) (x1 : Int32) (Q : Int32 → zM → Prop) : Nat → Int32 → Int32 → zM → Prop
  | 0, _, _, _ => False
  | n + 1, x2, x3, μ => (vp_in (nI 1) 3594 ∧ (if (zI μ (th + 1) (nI 1).toNatClampNeg) ≤ x3 then Q x2 μ else (vp_in ((nI 35) + x3) 3594 ∧ (if (zI μ (th + 1) ((nI 35) + x3).toNatClampNeg) = (-1 : Int32) then pX4_weightOf_35 th x1 Q n (x2 + (nI 0)) (x3 + (nI 1)) μ else (if x3 = x1 then pX4_weightOf_35 th x1 Q n (x2 + (nI 0)) (x3 + (nI 1)) μ else (vp_in ((nI 29) + x3) 3594 ∧ pX4_weightOf_35 th x1 Q n (x2 + (zI μ (th + 1) ((nI 29) + x3).toNatClampNeg)) (x3 + (nI 1)) μ))))))
set_option maxHeartbeats 4000000 in
set_option maxRecDepth 100000 in
theorem wX4_weightOf_35 {p : Program} {l : Launch} {e : Env} {s : State} {m : MethodId} {args : Array Value} {below : List Frame} {meth : Method} {c : Code} {Γ : zG} {μ0 : zM} {Q : Int32 → zM → Prop} (X : zCx p m c cX4_weightOf 4 s args RX4 meth (some .int)) (th : Nat) (x1 : Int32) : ∀ (n : Nat) (x2 : Int32) (x3 : Int32) (μ : zM) (H : Heap) (locs : List Loc) (ls : Array Slot), pX4_weightOf_35 th x1 Q n x2 x3 μ → zB Γ (tSh th) (zA μ0) μ0 s μ H locs → lv_has ls 4 [(0, .ref th), (1, .int x1), (2, .int x2), (3, .int x3)] → W p l e ({ frames := 0, cells := 0, slots := 0, locals := 0 } : Room) s m args below meth c H locs 0 0 (MQ below (va_Qi Q (zPost Γ (tSh th) μ0) (zA μ0)) args s 0 0 (zA μ0)) (F0 m 35 ls []) := by
  have S := X.1
  obtain ⟨hx, hb, hml, hown, hts⟩ := X.1
  intro n
  induction n with
  | zero =>
    intro x2 x3 μ H locs ls hp
    exact hp.elim
  | succ n ih =>
    intro x2 x3 μ H locs ls hp hB hl
    unfold pX4_weightOf_35 at hp
    refine lv_iload_n hx hb dX4_weightOf_35 rfl (lv_at hl 3 rfl) ?_
    refine lv_aload_n hx hb dX4_weightOf_36 rfl (lv_at hl 0 rfl) ?_
    refine g_getr S hB (tT hB) rfl (T := TX4) (N := 38) (C := RX4) rfl in_X4 1 (by decide) (by decide) q1393 (fun _ h9 => h9) (fun _ => rfl) (tA hB 0 rfl).1 dX4_weightOf_37 ?_
    refine lv_iconst (v := (nI 1)) hx hb dX4_weightOf_40 rfl ?_
    obtain ⟨hi, hp⟩ := hp
    refine g_iald S hB (tA hB 0 rfl).2 hi dX4_weightOf_41 ?_
    refine lv_icmp_ge (tgt := 85) hx hb dX4_weightOf_42 rfl (fun c0 => ?_) (fun c0 => ?_)
    · have hp := zit hp c0
      refine lv_iload_n hx hb dX4_weightOf_85 rfl (lv_at hl 2 rfl) ?_
      exact zret_i X hB hp dX4_weightOf_86
    · have hp := zif hp c0
      refine lv_iload_n hx hb dX4_weightOf_45 rfl (lv_at hl 2 rfl) ?_
      refine lv_aload_n hx hb dX4_weightOf_46 rfl (lv_at hl 0 rfl) ?_
      refine g_getr S hB (tT hB) rfl (T := TX4) (N := 38) (C := RX4) rfl in_X4 1 (by decide) (by decide) q1393 (fun _ h9 => h9) (fun _ => rfl) (tA hB 0 rfl).1 dX4_weightOf_47 ?_
      refine lv_bipush (v := (nI 35)) hx hb dX4_weightOf_50 rfl ?_
      refine lv_iload_n hx hb dX4_weightOf_52 rfl (lv_at hl 3 rfl) ?_
      refine lv_iadd hx hb dX4_weightOf_53 ?_
      obtain ⟨hi, hp⟩ := hp
      refine g_iald S hB (tA hB 0 rfl).2 hi dX4_weightOf_54 ?_
      refine lv_iconst (v := (-1 : Int32)) hx hb dX4_weightOf_55 rfl ?_
      refine lv_icmp_eq (tgt := 64) hx hb dX4_weightOf_56 rfl (fun c0 => ?_) (fun c0 => ?_)
      · have hp := zit hp c0
        refine lv_iconst (v := (nI 0)) hx hb dX4_weightOf_64 rfl ?_
        refine lv_goto (tgt := 77) hx hb dX4_weightOf_65 rfl ?_
        refine lv_iadd hx hb dX4_weightOf_77 ?_
        refine lv_istore_n (lv' := [(2, .int (x2 + (nI 0))), (0, .ref th), (1, .int x1), (3, .int x3)]) hx hb dX4_weightOf_78 rfl hl (by decide) rfl (fun ls hl => ?_)
        refine lv_iinc (v := (x3 + (nI 1))) (lv' := [(3, .int (x3 + (nI 1))), (2, .int (x2 + (nI 0))), (0, .ref th), (1, .int x1)]) hx hb dX4_weightOf_79 hl (k := 3) rfl rfl (by decide) rfl (fun ls hl => ?_)
        refine lv_goto (tgt := 35) hx hb dX4_weightOf_82 rfl ?_
        exact ih (x2 + (nI 0)) (x3 + (nI 1)) μ _ _ _ hp hB (lv_sub hl [2, 3, 1, 0] rfl)
      · have hp := zif hp c0
        refine lv_iload_n hx hb dX4_weightOf_59 rfl (lv_at hl 3 rfl) ?_
        refine lv_iload_n hx hb dX4_weightOf_60 rfl (lv_at hl 1 rfl) ?_
        refine lv_icmp_ne (tgt := 68) hx hb dX4_weightOf_61 rfl (fun c0 => ?_) (fun c0 => ?_)
        · have hp := zif hp c0
          refine lv_aload_n hx hb dX4_weightOf_68 rfl (lv_at hl 0 rfl) ?_
          refine g_getr S hB (tT hB) rfl (T := TX4) (N := 38) (C := RX4) rfl in_X4 1 (by decide) (by decide) q1393 (fun _ h9 => h9) (fun _ => rfl) (tA hB 0 rfl).1 dX4_weightOf_69 ?_
          refine lv_bipush (v := (nI 29)) hx hb dX4_weightOf_72 rfl ?_
          refine lv_iload_n hx hb dX4_weightOf_74 rfl (lv_at hl 3 rfl) ?_
          refine lv_iadd hx hb dX4_weightOf_75 ?_
          obtain ⟨hi, hp⟩ := hp
          refine g_iald S hB (tA hB 0 rfl).2 hi dX4_weightOf_76 ?_
          refine lv_iadd hx hb dX4_weightOf_77 ?_
          refine lv_istore_n (lv' := [(2, .int (x2 + (zI μ (th + 1) ((nI 29) + x3).toNatClampNeg))), (0, .ref th), (1, .int x1), (3, .int x3)]) hx hb dX4_weightOf_78 rfl hl (by decide) rfl (fun ls hl => ?_)
          refine lv_iinc (v := (x3 + (nI 1))) (lv' := [(3, .int (x3 + (nI 1))), (2, .int (x2 + (zI μ (th + 1) ((nI 29) + x3).toNatClampNeg))), (0, .ref th), (1, .int x1)]) hx hb dX4_weightOf_79 hl (k := 3) rfl rfl (by decide) rfl (fun ls hl => ?_)
          refine lv_goto (tgt := 35) hx hb dX4_weightOf_82 rfl ?_
          exact ih (x2 + (zI μ (th + 1) ((nI 29) + x3).toNatClampNeg)) (x3 + (nI 1)) μ _ _ _ hp hB (lv_sub hl [2, 3, 1, 0] rfl)
        · have hp := zit hp c0
          refine lv_iconst (v := (nI 0)) hx hb dX4_weightOf_64 rfl ?_
          refine lv_goto (tgt := 77) hx hb dX4_weightOf_65 rfl ?_
          refine lv_iadd hx hb dX4_weightOf_77 ?_
          refine lv_istore_n (lv' := [(2, .int (x2 + (nI 0))), (0, .ref th), (1, .int x1), (3, .int x3)]) hx hb dX4_weightOf_78 rfl hl (by decide) rfl (fun ls hl => ?_)
          refine lv_iinc (v := (x3 + (nI 1))) (lv' := [(3, .int (x3 + (nI 1))), (2, .int (x2 + (nI 0))), (0, .ref th), (1, .int x1)]) hx hb dX4_weightOf_79 hl (k := 3) rfl rfl (by decide) rfl (fun ls hl => ?_)
          refine lv_goto (tgt := 35) hx hb dX4_weightOf_82 rfl ?_
          exact ih (x2 + (nI 0)) (x3 + (nI 1)) μ _ _ _ hp hB (lv_sub hl [2, 3, 1, 0] rfl)
def pX4_weightOf_4 (th : Nat) (x1 : Int32) (Q : Int32 → zM → Prop) : Nat → Int32 → Int32 → zM → Prop
  | 0, _, _, _ => False
  | n + 1, x2, x3, μ => (vp_in (nI 20) 3594 ∧ (if (zI μ (th + 1) (nI 20).toNatClampNeg) ≤ x3 then ∃ k1, pX4_weightOf_35 th x1 Q k1 x2 (nI 0) μ else (vp_in ((nI 21) + x3) 3594 ∧ pX4_weightOf_4 th x1 Q n (x2 + (zI μ (th + 1) ((nI 21) + x3).toNatClampNeg)) (x3 + (nI 1)) μ)))
set_option maxHeartbeats 4000000 in
set_option maxRecDepth 100000 in
theorem wX4_weightOf_4 {p : Program} {l : Launch} {e : Env} {s : State} {m : MethodId} {args : Array Value} {below : List Frame} {meth : Method} {c : Code} {Γ : zG} {μ0 : zM} {Q : Int32 → zM → Prop} (X : zCx p m c cX4_weightOf 4 s args RX4 meth (some .int)) (th : Nat) (x1 : Int32) : ∀ (n : Nat) (x2 : Int32) (x3 : Int32) (μ : zM) (H : Heap) (locs : List Loc) (ls : Array Slot), pX4_weightOf_4 th x1 Q n x2 x3 μ → zB Γ (tSh th) (zA μ0) μ0 s μ H locs → lv_has ls 4 [(0, .ref th), (1, .int x1), (2, .int x2), (3, .int x3)] → W p l e ({ frames := 0, cells := 0, slots := 0, locals := 0 } : Room) s m args below meth c H locs 0 0 (MQ below (va_Qi Q (zPost Γ (tSh th) μ0) (zA μ0)) args s 0 0 (zA μ0)) (F0 m 4 ls []) := by
  have S := X.1
  obtain ⟨hx, hb, hml, hown, hts⟩ := X.1
  intro n
  induction n with
  | zero =>
    intro x2 x3 μ H locs ls hp
    exact hp.elim
  | succ n ih =>
    intro x2 x3 μ H locs ls hp hB hl
    unfold pX4_weightOf_4 at hp
    refine lv_iload_n hx hb dX4_weightOf_4 rfl (lv_at hl 3 rfl) ?_
    refine lv_aload_n hx hb dX4_weightOf_5 rfl (lv_at hl 0 rfl) ?_
    refine g_getr S hB (tT hB) rfl (T := TX4) (N := 38) (C := RX4) rfl in_X4 1 (by decide) (by decide) q1393 (fun _ h9 => h9) (fun _ => rfl) (tA hB 0 rfl).1 dX4_weightOf_6 ?_
    refine lv_bipush (v := (nI 20)) hx hb dX4_weightOf_9 rfl ?_
    obtain ⟨hi, hp⟩ := hp
    refine g_iald S hB (tA hB 0 rfl).2 hi dX4_weightOf_11 ?_
    refine lv_icmp_ge (tgt := 33) hx hb dX4_weightOf_12 rfl (fun c0 => ?_) (fun c0 => ?_)
    · have hp := zit hp c0
      refine lv_iconst (v := (nI 0)) hx hb dX4_weightOf_33 rfl ?_
      refine lv_istore_n (lv' := [(3, .int (nI 0)), (0, .ref th), (1, .int x1), (2, .int x2)]) hx hb dX4_weightOf_34 rfl hl (by decide) rfl (fun ls hl => ?_)
      obtain ⟨n1, hp⟩ := hp
      exact wX4_weightOf_35 X th x1 n1 x2 (nI 0) μ _ _ _ hp hB (lv_sub hl [1, 2, 3, 0] rfl)
    · have hp := zif hp c0
      refine lv_iload_n hx hb dX4_weightOf_15 rfl (lv_at hl 2 rfl) ?_
      refine lv_aload_n hx hb dX4_weightOf_16 rfl (lv_at hl 0 rfl) ?_
      refine g_getr S hB (tT hB) rfl (T := TX4) (N := 38) (C := RX4) rfl in_X4 1 (by decide) (by decide) q1393 (fun _ h9 => h9) (fun _ => rfl) (tA hB 0 rfl).1 dX4_weightOf_17 ?_
      refine lv_bipush (v := (nI 21)) hx hb dX4_weightOf_20 rfl ?_
      refine lv_iload_n hx hb dX4_weightOf_22 rfl (lv_at hl 3 rfl) ?_
      refine lv_iadd hx hb dX4_weightOf_23 ?_
      obtain ⟨hi, hp⟩ := hp
      refine g_iald S hB (tA hB 0 rfl).2 hi dX4_weightOf_24 ?_
      refine lv_iadd hx hb dX4_weightOf_25 ?_
      refine lv_istore_n (lv' := [(2, .int (x2 + (zI μ (th + 1) ((nI 21) + x3).toNatClampNeg))), (0, .ref th), (1, .int x1), (3, .int x3)]) hx hb dX4_weightOf_26 rfl hl (by decide) rfl (fun ls hl => ?_)
      refine lv_iinc (v := (x3 + (nI 1))) (lv' := [(3, .int (x3 + (nI 1))), (2, .int (x2 + (zI μ (th + 1) ((nI 21) + x3).toNatClampNeg))), (0, .ref th), (1, .int x1)]) hx hb dX4_weightOf_27 hl (k := 3) rfl rfl (by decide) rfl (fun ls hl => ?_)
      refine lv_goto (tgt := 4) hx hb dX4_weightOf_30 rfl ?_
      exact ih (x2 + (zI μ (th + 1) ((nI 21) + x3).toNatClampNeg)) (x3 + (nI 1)) μ _ _ _ hp hB (lv_sub hl [2, 3, 1, 0] rfl)
def pX4_weightOf (th : Nat) (x1 : Int32) (μ : zM) (Q : Int32 → zM → Prop) : Prop := ∃ k1, pX4_weightOf_4 th x1 Q k1 (nI 0) (nI 0) μ
theorem hX4_weightOf : yX4_weightOf.cls = "SunkTowerModel" ∧ yX4_weightOf.cls ≠ "java/lang/invoke/MethodHandle" ∧ yX4_weightOf.cls ≠ "java/lang/invoke/VarHandle" ∧ (parseMethodDescriptor yX4_weightOf.desc).map (fun d => d.parameters.length) = some 1 := by decide +kernel
set_option maxHeartbeats 4000000 in
set_option maxRecDepth 100000 in
theorem mX4_weightOf (l : Launch) (Γ : zG) (th : Nat) (x1 : Int32) (μ : zM) (Q : Int32 → zM → Prop) (hp : pX4_weightOf th x1 μ Q) : Met l yX4_weightOf (ws_ yX4_weightOf cX4_weightOf 4 (some .int)) ({ frames := 0, cells := 0, slots := 0, locals := 0 } : Room) (va_Pc [.ref th, .int x1] (zPre Γ (tSh th) μ)) (va_Qi Q (zPost Γ (tSh th) μ) (zA μ)) 0 0 (zA μ) := by
  refine zstart (by decide) (Nat.le_of_ble_eq_true rfl) ?_
  intro p e s m below meth c ls X hnm hB hl
  have X : zCx p m c cX4_weightOf 4 s [.ref th, .int x1].toArray RX4 meth (some .int) := X
  have S := X.1
  obtain ⟨hx, hb, hml, hown, hts⟩ := X.1
  have hl : lv_has ls 4 [(0, .ref th), (1, .int x1)] := hl
  unfold pX4_weightOf at hp
  refine lv_iconst (v := (nI 0)) hx hb dX4_weightOf_0 rfl ?_
  refine lv_istore_n (lv' := [(2, .int (nI 0)), (0, .ref th), (1, .int x1)]) hx hb dX4_weightOf_1 rfl hl (by decide) rfl (fun ls hl => ?_)
  refine lv_iconst (v := (nI 0)) hx hb dX4_weightOf_2 rfl ?_
  refine lv_istore_n (lv' := [(3, .int (nI 0)), (2, .int (nI 0)), (0, .ref th), (1, .int x1)]) hx hb dX4_weightOf_3 rfl hl (by decide) rfl (fun ls hl => ?_)
  obtain ⟨n1, hp⟩ := hp
  exact wX4_weightOf_4 X th x1 n1 (nI 0) (nI 0) μ _ _ _ hp hB (lv_sub hl [2, 3, 1, 0] rfl)
def pX4_between_35 (th : Nat) (Q : Int32 → zM → Prop) (y1 : Int64) (μ : zM) : Prop := (if (lg_cmp y1 (1000000 : Int64)) ≤ 0 then (if 0 ≤ (lg_cmp y1 (-1000000 : Int64)) then Q (y1.toInt32) μ else Q ((-1000000 : Int64).toInt32) μ) else Q ((1000000 : Int64).toInt32) μ)
set_option maxHeartbeats 4000000 in
set_option maxRecDepth 100000 in
theorem wX4_between_35 {p : Program} {l : Launch} {e : Env} {s : State} {m : MethodId} {args : Array Value} {below : List Frame} {meth : Method} {c : Code} {Γ : zG} {μ0 : zM} {Q : Int32 → zM → Prop} (X : zCx p m c cX4_between 5 s args RX4 meth (some .int)) (th : Nat) : ∀ (y1 : Int64) (μ : zM) (H : Heap) (locs : List Loc) (ls : Array Slot), pX4_between_35 th Q y1 μ → zB Γ (tSh th) (zA μ0) μ0 s μ H locs → lv_has ls 5 [] → W p l e ({ frames := 0, cells := 0, slots := 0, locals := 0 } : Room) s m args below meth c H locs 0 0 (MQ below (va_Qi Q (zPost Γ (tSh th) μ0) (zA μ0)) args s 0 0 (zA μ0)) (F0 m 35 ls [.long y1]) := by
  have S := X.1
  obtain ⟨hx, hb, hml, hown, hts⟩ := X.1
  intro y1 μ H locs ls hp hB hl
  unfold pX4_between_35 at hp
  refine lv_lstore_n (lv' := [(3, .long y1)]) hx hb dX4_between_35 rfl hl (by decide) rfl (fun ls hl => ?_)
  refine lv_lload_n hx hb dX4_between_36 rfl (lv_at hl 0 rfl) ?_
  refine lv_ldc2 (v := (1000000 : Int64)) hx hb hown (hts _ q1660) dX4_between_37 ?_
  refine W.lcmp hx hb dX4_between_40 ?_
  refine lv_if_le (tgt := 50) hx hb dX4_between_41 rfl (fun c0 => ?_) (fun c0 => ?_)
  · have hp := zit hp c0
    refine lv_lload_n hx hb dX4_between_50 rfl (lv_at hl 0 rfl) ?_
    refine lv_ldc2 (v := (-1000000 : Int64)) hx hb hown (hts _ q1661) dX4_between_51 ?_
    refine W.lcmp hx hb dX4_between_54 ?_
    refine lv_if_ge (tgt := 64) hx hb dX4_between_55 rfl (fun c0 => ?_) (fun c0 => ?_)
    · have hp := zit hp c0
      refine lv_lload_n hx hb dX4_between_64 rfl (lv_at hl 0 rfl) ?_
      refine lv_l2i hx hb dX4_between_65 rfl ?_
      exact zret_i X hB hp dX4_between_66
    · have hp := zif hp c0
      refine lv_ldc2 (v := (-1000000 : Int64)) hx hb hown (hts _ q1661) dX4_between_58 ?_
      refine lv_goto (tgt := 65) hx hb dX4_between_61 rfl ?_
      refine lv_l2i hx hb dX4_between_65 rfl ?_
      exact zret_i X hB hp dX4_between_66
  · have hp := zif hp c0
    refine lv_ldc2 (v := (1000000 : Int64)) hx hb hown (hts _ q1660) dX4_between_44 ?_
    refine lv_goto (tgt := 65) hx hb dX4_between_47 rfl ?_
    refine lv_l2i hx hb dX4_between_65 rfl ?_
    exact zret_i X hB hp dX4_between_66
def pX4_between (th : Nat) (x0 : Int32) (x1 : Int32) (x2 : Int32) (μ : zM) (Q : Int32 → zM → Prop) : Prop := (if x0 = (nI 3000) then pX4_between_35 th Q ((x1.toInt64) + (x2.toInt64)) μ else (if x0 = (nI 3001) then pX4_between_35 th Q ((x1.toInt64) - (x2.toInt64)) μ else pX4_between_35 th Q ((x1.toInt64) * (x2.toInt64)) μ))
theorem hX4_between : yX4_between.cls ≠ "java/lang/invoke/MethodHandle" ∧ yX4_between.cls ≠ "java/lang/invoke/VarHandle" ∧ (parseMethodDescriptor yX4_between.desc).map (fun d => d.parameters.length) = some 3 := by decide +kernel
set_option maxHeartbeats 4000000 in
set_option maxRecDepth 100000 in
theorem mX4_between (l : Launch) (Γ : zG) (th : Nat) (x0 : Int32) (x1 : Int32) (x2 : Int32) (μ : zM) (Q : Int32 → zM → Prop) (hp : pX4_between th x0 x1 x2 μ Q) : Met l yX4_between (ws_ yX4_between cX4_between 5 (some .int)) ({ frames := 0, cells := 0, slots := 0, locals := 0 } : Room) (va_Pc [.int x0, .int x1, .int x2] (zPre Γ (tSh th) μ)) (va_Qi Q (zPost Γ (tSh th) μ) (zA μ)) 0 0 (zA μ) := by
  refine zstart (by decide) (Nat.le_of_ble_eq_true rfl) ?_
  intro p e s m below meth c ls X hnm hB hl
  have X : zCx p m c cX4_between 5 s [.int x0, .int x1, .int x2].toArray RX4 meth (some .int) := X
  have S := X.1
  obtain ⟨hx, hb, hml, hown, hts⟩ := X.1
  have hl : lv_has ls 5 [(0, .int x0), (1, .int x1), (2, .int x2)] := hl
  unfold pX4_between at hp
  refine lv_iload_n hx hb dX4_between_0 rfl (lv_at hl 0 rfl) ?_
  refine lv_sipush (v := (nI 3000)) hx hb dX4_between_1 rfl ?_
  refine lv_icmp_ne (tgt := 15) hx hb dX4_between_4 rfl (fun c0 => ?_) (fun c0 => ?_)
  · have hp := zif hp c0
    refine lv_iload_n hx hb dX4_between_15 rfl (lv_at hl 0 rfl) ?_
    refine lv_sipush (v := (nI 3001)) hx hb dX4_between_16 rfl ?_
    refine lv_icmp_ne (tgt := 30) hx hb dX4_between_19 rfl (fun c0 => ?_) (fun c0 => ?_)
    · have hp := zif hp c0
      refine lv_iload_n hx hb dX4_between_30 rfl (lv_at hl 1 rfl) ?_
      refine lv_i2l hx hb dX4_between_31 rfl ?_
      refine lv_iload_n hx hb dX4_between_32 rfl (lv_at hl 2 rfl) ?_
      refine lv_i2l hx hb dX4_between_33 rfl ?_
      refine lv_lmul hx hb dX4_between_34 ?_
      exact wX4_between_35 X th ((x1.toInt64) * (x2.toInt64)) μ _ _ _ hp hB (lv_sub hl [] rfl)
    · have hp := zit hp c0
      refine lv_iload_n hx hb dX4_between_22 rfl (lv_at hl 1 rfl) ?_
      refine lv_i2l hx hb dX4_between_23 rfl ?_
      refine lv_iload_n hx hb dX4_between_24 rfl (lv_at hl 2 rfl) ?_
      refine lv_i2l hx hb dX4_between_25 rfl ?_
      refine lv_lsub hx hb dX4_between_26 ?_
      refine lv_goto (tgt := 35) hx hb dX4_between_27 rfl ?_
      exact wX4_between_35 X th ((x1.toInt64) - (x2.toInt64)) μ _ _ _ hp hB (lv_sub hl [] rfl)
  · have hp := zit hp c0
    refine lv_iload_n hx hb dX4_between_7 rfl (lv_at hl 1 rfl) ?_
    refine lv_i2l hx hb dX4_between_8 rfl ?_
    refine lv_iload_n hx hb dX4_between_9 rfl (lv_at hl 2 rfl) ?_
    refine lv_i2l hx hb dX4_between_10 rfl ?_
    refine lv_ladd hx hb dX4_between_11 ?_
    refine lv_goto (tgt := 35) hx hb dX4_between_12 rfl ?_
    exact wX4_between_35 X th ((x1.toInt64) + (x2.toInt64)) μ _ _ _ hp hB (lv_sub hl [] rfl)
def pX4_heightOf (th : Nat) (x0 : Int32) (x1 : Int32) (μ : zM) (Q : Int32 → zM → Prop) : Prop := (if (((nI 144) * x0) - x1) < 0 then Q (-(((nI 11) - (((nI 144) * x0) - x1)) / (nI 12))) μ else Q ((((nI 144) * x0) - x1) / (nI 12)) μ)
theorem hX4_heightOf : yX4_heightOf.cls ≠ "java/lang/invoke/MethodHandle" ∧ yX4_heightOf.cls ≠ "java/lang/invoke/VarHandle" ∧ (parseMethodDescriptor yX4_heightOf.desc).map (fun d => d.parameters.length) = some 2 := by decide +kernel
set_option maxHeartbeats 4000000 in
set_option maxRecDepth 100000 in
theorem mX4_heightOf (l : Launch) (Γ : zG) (th : Nat) (x0 : Int32) (x1 : Int32) (μ : zM) (Q : Int32 → zM → Prop) (hp : pX4_heightOf th x0 x1 μ Q) : Met l yX4_heightOf (ws_ yX4_heightOf cX4_heightOf 3 (some .int)) ({ frames := 0, cells := 0, slots := 0, locals := 0 } : Room) (va_Pc [.int x0, .int x1] (zPre Γ (tSh th) μ)) (va_Qi Q (zPost Γ (tSh th) μ) (zA μ)) 0 0 (zA μ) := by
  refine zstart (by decide) (Nat.le_of_ble_eq_true rfl) ?_
  intro p e s m below meth c ls X hnm hB hl
  have X : zCx p m c cX4_heightOf 3 s [.int x0, .int x1].toArray RX4 meth (some .int) := X
  have S := X.1
  obtain ⟨hx, hb, hml, hown, hts⟩ := X.1
  have hl : lv_has ls 3 [(0, .int x0), (1, .int x1)] := hl
  unfold pX4_heightOf at hp
  refine lv_sipush (v := (nI 144)) hx hb dX4_heightOf_0 rfl ?_
  refine lv_iload_n hx hb dX4_heightOf_3 rfl (lv_at hl 0 rfl) ?_
  refine lv_imul hx hb dX4_heightOf_4 ?_
  refine lv_iload_n hx hb dX4_heightOf_5 rfl (lv_at hl 1 rfl) ?_
  refine lv_isub hx hb dX4_heightOf_6 ?_
  refine lv_istore_n (lv' := [(2, .int (((nI 144) * x0) - x1)), (0, .int x0), (1, .int x1)]) hx hb dX4_heightOf_7 rfl hl (by decide) rfl (fun ls hl => ?_)
  refine lv_iload_n hx hb dX4_heightOf_8 rfl (lv_at hl 0 rfl) ?_
  refine lv_if_lt (tgt := 19) hx hb dX4_heightOf_9 rfl (fun c0 => ?_) (fun c0 => ?_)
  · have hp := zit hp c0
    refine lv_bipush (v := (nI 11)) hx hb dX4_heightOf_19 rfl ?_
    refine lv_iload_n hx hb dX4_heightOf_21 rfl (lv_at hl 0 rfl) ?_
    refine lv_isub hx hb dX4_heightOf_22 ?_
    refine lv_bipush (v := (nI 12)) hx hb dX4_heightOf_23 rfl ?_
    refine lv_idiv hx hb dX4_heightOf_25 (by decide) ?_
    refine lv_ineg hx hb dX4_heightOf_26 ?_
    exact zret_i X hB hp dX4_heightOf_27
  · have hp := zif hp c0
    refine lv_iload_n hx hb dX4_heightOf_12 rfl (lv_at hl 0 rfl) ?_
    refine lv_bipush (v := (nI 12)) hx hb dX4_heightOf_13 rfl ?_
    refine lv_idiv hx hb dX4_heightOf_15 (by decide) ?_
    refine lv_goto (tgt := 27) hx hb dX4_heightOf_16 rfl ?_
    exact zret_i X hB hp dX4_heightOf_27
def pX4_keeps_2 (th : Nat) (Q : zM → Prop) : Nat → Int32 → zM → Prop
  | 0, _, _ => False
  | n + 1, x1, μ => (if (nI 23) ≤ x1 then Q μ else (vp_in ((nI 20) + x1) 3594 ∧ (vp_in x1 23 ∧ zpI μ (th + 7) x1.toNatClampNeg (zI μ (th + 1) ((nI 20) + x1).toNatClampNeg) fun μ1 => pX4_keeps_2 th Q n (x1 + (nI 1)) μ1)))
set_option maxHeartbeats 4000000 in
set_option maxRecDepth 100000 in
theorem wX4_keeps_2 {p : Program} {l : Launch} {e : Env} {s : State} {m : MethodId} {args : Array Value} {below : List Frame} {meth : Method} {c : Code} {Γ : zG} {μ0 : zM} {Q : zM → Prop} (X : zCx p m c cX4_keeps 2 s args RX4 meth none) (th : Nat) : ∀ (n : Nat) (x1 : Int32) (μ : zM) (H : Heap) (locs : List Loc) (ls : Array Slot), pX4_keeps_2 th Q n x1 μ → zB Γ (tSh th) (zA μ0) μ0 s μ H locs → lv_has ls 2 [(0, .ref th), (1, .int x1)] → W p l e ({ frames := 0, cells := 0, slots := 0, locals := 0 } : Room) s m args below meth c H locs 0 0 (MQ below (va_Qv Q (zPost Γ (tSh th) μ0) (zA μ0)) args s 0 0 (zA μ0)) (F0 m 2 ls []) := by
  have S := X.1
  obtain ⟨hx, hb, hml, hown, hts⟩ := X.1
  intro n
  induction n with
  | zero =>
    intro x1 μ H locs ls hp
    exact hp.elim
  | succ n ih =>
    intro x1 μ H locs ls hp hB hl
    unfold pX4_keeps_2 at hp
    refine lv_iload_n hx hb dX4_keeps_2 rfl (lv_at hl 1 rfl) ?_
    refine lv_bipush (v := (nI 23)) hx hb dX4_keeps_3 rfl ?_
    refine lv_icmp_ge (tgt := 29) hx hb dX4_keeps_5 rfl (fun c0 => ?_) (fun c0 => ?_)
    · have hp := zit hp c0
      exact zret_v X hB hp dX4_keeps_29
    · have hp := zif hp c0
      refine lv_aload_n hx hb dX4_keeps_8 rfl (lv_at hl 0 rfl) ?_
      refine g_getr S hB (tT hB) rfl (T := TX4) (N := 38) (C := RX4) rfl in_X4 18 (by decide) (by decide) q1410 (fun _ h9 => h9) (fun _ => rfl) (tA hB 6 rfl).1 dX4_keeps_9 ?_
      refine lv_iload_n hx hb dX4_keeps_12 rfl (lv_at hl 1 rfl) ?_
      refine lv_aload_n hx hb dX4_keeps_13 rfl (lv_at hl 0 rfl) ?_
      refine g_getr S hB (tT hB) rfl (T := TX4) (N := 38) (C := RX4) rfl in_X4 1 (by decide) (by decide) q1393 (fun _ h9 => h9) (fun _ => rfl) (tA hB 0 rfl).1 dX4_keeps_14 ?_
      refine lv_bipush (v := (nI 20)) hx hb dX4_keeps_17 rfl ?_
      refine lv_iload_n hx hb dX4_keeps_19 rfl (lv_at hl 1 rfl) ?_
      refine lv_iadd hx hb dX4_keeps_20 ?_
      obtain ⟨hi, hp⟩ := hp
      refine g_iald S hB (tA hB 0 rfl).2 hi dX4_keeps_21 ?_
      obtain ⟨hi, hp⟩ := hp
      obtain ⟨μ1, eμ1, hp⟩ := zpI_e hp
      refine g_iast S hB (tA hB 6 rfl).2 hi dX4_keeps_22 (fun H locs hB => ?_)
      rw [← eμ1] at hB
      refine lv_iinc (v := (x1 + (nI 1))) (lv' := [(1, .int (x1 + (nI 1))), (0, .ref th)]) hx hb dX4_keeps_23 hl (k := 1) rfl rfl (by decide) rfl (fun ls hl => ?_)
      refine lv_goto (tgt := 2) hx hb dX4_keeps_26 rfl ?_
      exact ih (x1 + (nI 1)) μ1 _ _ _ hp hB (lv_sub hl [1, 0] rfl)
def pX4_keeps (th : Nat) (μ : zM) (Q : zM → Prop) : Prop := ∃ k1, pX4_keeps_2 th Q k1 (nI 0) μ
theorem hX4_keeps : yX4_keeps.cls = "SunkTowerModel" ∧ yX4_keeps.cls ≠ "java/lang/invoke/MethodHandle" ∧ yX4_keeps.cls ≠ "java/lang/invoke/VarHandle" ∧ (parseMethodDescriptor yX4_keeps.desc).map (fun d => d.parameters.length) = some 0 := by decide +kernel
set_option maxHeartbeats 4000000 in
set_option maxRecDepth 100000 in
theorem mX4_keeps (l : Launch) (Γ : zG) (th : Nat) (μ : zM) (Q : zM → Prop) (hp : pX4_keeps th μ Q) : Met l yX4_keeps (ws_ yX4_keeps cX4_keeps 2 none) ({ frames := 0, cells := 0, slots := 0, locals := 0 } : Room) (va_Pc [.ref th] (zPre Γ (tSh th) μ)) (va_Qv Q (zPost Γ (tSh th) μ) (zA μ)) 0 0 (zA μ) := by
  refine zstart (by decide) (Nat.le_of_ble_eq_true rfl) ?_
  intro p e s m below meth c ls X hnm hB hl
  have X : zCx p m c cX4_keeps 2 s [.ref th].toArray RX4 meth none := X
  have S := X.1
  obtain ⟨hx, hb, hml, hown, hts⟩ := X.1
  have hl : lv_has ls 2 [(0, .ref th)] := hl
  unfold pX4_keeps at hp
  refine lv_iconst (v := (nI 0)) hx hb dX4_keeps_0 rfl ?_
  refine lv_istore_n (lv' := [(1, .int (nI 0)), (0, .ref th)]) hx hb dX4_keeps_1 rfl hl (by decide) rfl (fun ls hl => ?_)
  obtain ⟨n1, hp⟩ := hp
  exact wX4_keeps_2 X th n1 (nI 0) μ _ _ _ hp hB (lv_sub hl [1, 0] rfl)
def pX4_deeper (th : Nat) (x0 : Int32) (x1 : Int32) (μ : zM) (Q : Int32 → zM → Prop) : Prop := (if (x0 + x1) ≤ (nI 99999) then Q (x0 + x1) μ else Q (nI 99999) μ)
theorem hX4_deeper : yX4_deeper.cls ≠ "java/lang/invoke/MethodHandle" ∧ yX4_deeper.cls ≠ "java/lang/invoke/VarHandle" ∧ (parseMethodDescriptor yX4_deeper.desc).map (fun d => d.parameters.length) = some 2 := by decide +kernel
set_option maxHeartbeats 4000000 in
set_option maxRecDepth 100000 in
theorem mX4_deeper (l : Launch) (Γ : zG) (th : Nat) (x0 : Int32) (x1 : Int32) (μ : zM) (Q : Int32 → zM → Prop) (hp : pX4_deeper th x0 x1 μ Q) : Met l yX4_deeper (ws_ yX4_deeper cX4_deeper 2 (some .int)) ({ frames := 0, cells := 0, slots := 0, locals := 0 } : Room) (va_Pc [.int x0, .int x1] (zPre Γ (tSh th) μ)) (va_Qi Q (zPost Γ (tSh th) μ) (zA μ)) 0 0 (zA μ) := by
  refine zstart (by decide) (Nat.le_of_ble_eq_true rfl) ?_
  intro p e s m below meth c ls X hnm hB hl
  have X : zCx p m c cX4_deeper 2 s [.int x0, .int x1].toArray RX4 meth (some .int) := X
  have S := X.1
  obtain ⟨hx, hb, hml, hown, hts⟩ := X.1
  have hl : lv_has ls 2 [(0, .int x0), (1, .int x1)] := hl
  unfold pX4_deeper at hp
  refine lv_iload_n hx hb dX4_deeper_0 rfl (lv_at hl 0 rfl) ?_
  refine lv_iload_n hx hb dX4_deeper_1 rfl (lv_at hl 1 rfl) ?_
  refine lv_iadd hx hb dX4_deeper_2 ?_
  refine lv_ldc (v := (nI 99999)) hx hb hown (hts _ q1702) dX4_deeper_3 ?_
  refine lv_icmp_le (tgt := 13) hx hb dX4_deeper_5 rfl (fun c0 => ?_) (fun c0 => ?_)
  · have hp := zit hp c0
    refine lv_iload_n hx hb dX4_deeper_13 rfl (lv_at hl 0 rfl) ?_
    refine lv_iload_n hx hb dX4_deeper_14 rfl (lv_at hl 1 rfl) ?_
    refine lv_iadd hx hb dX4_deeper_15 ?_
    exact zret_i X hB hp dX4_deeper_16
  · have hp := zif hp c0
    refine lv_ldc (v := (nI 99999)) hx hb hown (hts _ q1702) dX4_deeper_8 ?_
    refine lv_goto (tgt := 16) hx hb dX4_deeper_10 rfl ?_
    exact zret_i X hB hp dX4_deeper_16
def pX4_notes_58 (th : Nat) (Q : zM → Prop) : Nat → Int32 → zM → Prop
  | 0, _, _ => False
  | n + 1, x1, μ => (if (nI 23) ≤ x1 then (vp_in (nI 66) 3594 ∧ (vp_in (nI 66) 3594 ∧ zpI μ (th + 1) (nI 66).toNatClampNeg ((zI μ (th + 1) (nI 66).toNatClampNeg) + (nI 1)) fun μ1 => Q μ1)) else (vp_in (nI 66) 3594 ∧ (vp_in x1 23 ∧ (vp_in (((nI 67) + ((nI 23) * (zI μ (th + 1) (nI 66).toNatClampNeg))) + x1) 3594 ∧ zpI μ (th + 1) (((nI 67) + ((nI 23) * (zI μ (th + 1) (nI 66).toNatClampNeg))) + x1).toNatClampNeg (zI μ (th + 7) x1.toNatClampNeg) fun μ2 => pX4_notes_58 th Q n (x1 + (nI 1)) μ2))))
set_option maxHeartbeats 4000000 in
set_option maxRecDepth 100000 in
theorem wX4_notes_58 {p : Program} {l : Launch} {e : Env} {s : State} {m : MethodId} {args : Array Value} {below : List Frame} {meth : Method} {c : Code} {Γ : zG} {μ0 : zM} {Q : zM → Prop} (X : zCx p m c cX4_notes 2 s args RX4 meth none) (th : Nat) : ∀ (n : Nat) (x1 : Int32) (μ : zM) (H : Heap) (locs : List Loc) (ls : Array Slot), pX4_notes_58 th Q n x1 μ → zB Γ (tSh th) (zA μ0) μ0 s μ H locs → lv_has ls 2 [(0, .ref th), (1, .int x1)] → W p l e ({ frames := 0, cells := 0, slots := 0, locals := 0 } : Room) s m args below meth c H locs 0 0 (MQ below (va_Qv Q (zPost Γ (tSh th) μ0) (zA μ0)) args s 0 0 (zA μ0)) (F0 m 58 ls []) := by
  have S := X.1
  obtain ⟨hx, hb, hml, hown, hts⟩ := X.1
  intro n
  induction n with
  | zero =>
    intro x1 μ H locs ls hp
    exact hp.elim
  | succ n ih =>
    intro x1 μ H locs ls hp hB hl
    unfold pX4_notes_58 at hp
    refine lv_iload_n hx hb dX4_notes_58 rfl (lv_at hl 1 rfl) ?_
    refine lv_bipush (v := (nI 23)) hx hb dX4_notes_59 rfl ?_
    refine lv_icmp_ge (tgt := 96) hx hb dX4_notes_61 rfl (fun c0 => ?_) (fun c0 => ?_)
    · have hp := zit hp c0
      refine lv_aload_n hx hb dX4_notes_96 rfl (lv_at hl 0 rfl) ?_
      refine g_getr S hB (tT hB) rfl (T := TX4) (N := 38) (C := RX4) rfl in_X4 1 (by decide) (by decide) q1393 (fun _ h9 => h9) (fun _ => rfl) (tA hB 0 rfl).1 dX4_notes_97 ?_
      refine lv_bipush (v := (nI 66)) hx hb dX4_notes_100 rfl ?_
      refine lv_dup2_11 hx hb dX4_notes_102 rfl rfl ?_
      obtain ⟨hi, hp⟩ := hp
      refine g_iald S hB (tA hB 0 rfl).2 hi dX4_notes_103 ?_
      refine lv_iconst (v := (nI 1)) hx hb dX4_notes_104 rfl ?_
      refine lv_iadd hx hb dX4_notes_105 ?_
      obtain ⟨hi, hp⟩ := hp
      obtain ⟨μ1, eμ1, hp⟩ := zpI_e hp
      refine g_iast S hB (tA hB 0 rfl).2 hi dX4_notes_106 (fun H locs hB => ?_)
      rw [← eμ1] at hB
      exact zret_v X hB hp dX4_notes_107
    · have hp := zif hp c0
      refine lv_aload_n hx hb dX4_notes_64 rfl (lv_at hl 0 rfl) ?_
      refine g_getr S hB (tT hB) rfl (T := TX4) (N := 38) (C := RX4) rfl in_X4 1 (by decide) (by decide) q1393 (fun _ h9 => h9) (fun _ => rfl) (tA hB 0 rfl).1 dX4_notes_65 ?_
      refine lv_bipush (v := (nI 67)) hx hb dX4_notes_68 rfl ?_
      refine lv_bipush (v := (nI 23)) hx hb dX4_notes_70 rfl ?_
      refine lv_aload_n hx hb dX4_notes_72 rfl (lv_at hl 0 rfl) ?_
      refine g_getr S hB (tT hB) rfl (T := TX4) (N := 38) (C := RX4) rfl in_X4 1 (by decide) (by decide) q1393 (fun _ h9 => h9) (fun _ => rfl) (tA hB 0 rfl).1 dX4_notes_73 ?_
      refine lv_bipush (v := (nI 66)) hx hb dX4_notes_76 rfl ?_
      obtain ⟨hi, hp⟩ := hp
      refine g_iald S hB (tA hB 0 rfl).2 hi dX4_notes_78 ?_
      refine lv_imul hx hb dX4_notes_79 ?_
      refine lv_iadd hx hb dX4_notes_80 ?_
      refine lv_iload_n hx hb dX4_notes_81 rfl (lv_at hl 1 rfl) ?_
      refine lv_iadd hx hb dX4_notes_82 ?_
      refine lv_aload_n hx hb dX4_notes_83 rfl (lv_at hl 0 rfl) ?_
      refine g_getr S hB (tT hB) rfl (T := TX4) (N := 38) (C := RX4) rfl in_X4 18 (by decide) (by decide) q1410 (fun _ h9 => h9) (fun _ => rfl) (tA hB 6 rfl).1 dX4_notes_84 ?_
      refine lv_iload_n hx hb dX4_notes_87 rfl (lv_at hl 1 rfl) ?_
      obtain ⟨hi, hp⟩ := hp
      refine g_iald S hB (tA hB 6 rfl).2 hi dX4_notes_88 ?_
      obtain ⟨hi, hp⟩ := hp
      obtain ⟨μ2, eμ2, hp⟩ := zpI_e hp
      refine g_iast S hB (tA hB 0 rfl).2 hi dX4_notes_89 (fun H locs hB => ?_)
      rw [← eμ2] at hB
      refine lv_iinc (v := (x1 + (nI 1))) (lv' := [(1, .int (x1 + (nI 1))), (0, .ref th)]) hx hb dX4_notes_90 hl (k := 1) rfl rfl (by decide) rfl (fun ls hl => ?_)
      refine lv_goto (tgt := 58) hx hb dX4_notes_93 rfl ?_
      exact ih (x1 + (nI 1)) μ2 _ _ _ hp hB (lv_sub hl [1, 0] rfl)
def pX4_notes_14 (th : Nat) (Q : zM → Prop) : Nat → Int32 → zM → Prop
  | 0, _, _ => False
  | n + 1, x1, μ => (if (nI 207) ≤ x1 then (vp_in (nI 66) 3594 ∧ (vp_in (nI 66) 3594 ∧ zpI μ (th + 1) (nI 66).toNatClampNeg ((zI μ (th + 1) (nI 66).toNatClampNeg) - (nI 1)) fun μ1 => ∃ k1, pX4_notes_58 th Q k1 (nI 0) μ1)) else (vp_in ((nI 90) + x1) 3594 ∧ (vp_in ((nI 67) + x1) 3594 ∧ zpI μ (th + 1) ((nI 67) + x1).toNatClampNeg (zI μ (th + 1) ((nI 90) + x1).toNatClampNeg) fun μ2 => pX4_notes_14 th Q n (x1 + (nI 1)) μ2)))
set_option maxHeartbeats 4000000 in
set_option maxRecDepth 100000 in
theorem wX4_notes_14 {p : Program} {l : Launch} {e : Env} {s : State} {m : MethodId} {args : Array Value} {below : List Frame} {meth : Method} {c : Code} {Γ : zG} {μ0 : zM} {Q : zM → Prop} (X : zCx p m c cX4_notes 2 s args RX4 meth none) (th : Nat) : ∀ (n : Nat) (x1 : Int32) (μ : zM) (H : Heap) (locs : List Loc) (ls : Array Slot), pX4_notes_14 th Q n x1 μ → zB Γ (tSh th) (zA μ0) μ0 s μ H locs → lv_has ls 2 [(0, .ref th), (1, .int x1)] → W p l e ({ frames := 0, cells := 0, slots := 0, locals := 0 } : Room) s m args below meth c H locs 0 0 (MQ below (va_Qv Q (zPost Γ (tSh th) μ0) (zA μ0)) args s 0 0 (zA μ0)) (F0 m 14 ls []) := by
  have S := X.1
  obtain ⟨hx, hb, hml, hown, hts⟩ := X.1
  intro n
  induction n with
  | zero =>
    intro x1 μ H locs ls hp
    exact hp.elim
  | succ n ih =>
    intro x1 μ H locs ls hp hB hl
    unfold pX4_notes_14 at hp
    refine lv_iload_n hx hb dX4_notes_14 rfl (lv_at hl 1 rfl) ?_
    refine lv_sipush (v := (nI 207)) hx hb dX4_notes_15 rfl ?_
    refine lv_icmp_ge (tgt := 45) hx hb dX4_notes_18 rfl (fun c0 => ?_) (fun c0 => ?_)
    · have hp := zit hp c0
      refine lv_aload_n hx hb dX4_notes_45 rfl (lv_at hl 0 rfl) ?_
      refine g_getr S hB (tT hB) rfl (T := TX4) (N := 38) (C := RX4) rfl in_X4 1 (by decide) (by decide) q1393 (fun _ h9 => h9) (fun _ => rfl) (tA hB 0 rfl).1 dX4_notes_46 ?_
      refine lv_bipush (v := (nI 66)) hx hb dX4_notes_49 rfl ?_
      refine lv_dup2_11 hx hb dX4_notes_51 rfl rfl ?_
      obtain ⟨hi, hp⟩ := hp
      refine g_iald S hB (tA hB 0 rfl).2 hi dX4_notes_52 ?_
      refine lv_iconst (v := (nI 1)) hx hb dX4_notes_53 rfl ?_
      refine lv_isub hx hb dX4_notes_54 ?_
      obtain ⟨hi, hp⟩ := hp
      obtain ⟨μ1, eμ1, hp⟩ := zpI_e hp
      refine g_iast S hB (tA hB 0 rfl).2 hi dX4_notes_55 (fun H locs hB => ?_)
      rw [← eμ1] at hB
      refine lv_iconst (v := (nI 0)) hx hb dX4_notes_56 rfl ?_
      refine lv_istore_n (lv' := [(1, .int (nI 0)), (0, .ref th)]) hx hb dX4_notes_57 rfl hl (by decide) rfl (fun ls hl => ?_)
      obtain ⟨n1, hp⟩ := hp
      exact wX4_notes_58 X th n1 (nI 0) μ1 _ _ _ hp hB (lv_sub hl [1, 0] rfl)
    · have hp := zif hp c0
      refine lv_aload_n hx hb dX4_notes_21 rfl (lv_at hl 0 rfl) ?_
      refine g_getr S hB (tT hB) rfl (T := TX4) (N := 38) (C := RX4) rfl in_X4 1 (by decide) (by decide) q1393 (fun _ h9 => h9) (fun _ => rfl) (tA hB 0 rfl).1 dX4_notes_22 ?_
      refine lv_bipush (v := (nI 67)) hx hb dX4_notes_25 rfl ?_
      refine lv_iload_n hx hb dX4_notes_27 rfl (lv_at hl 1 rfl) ?_
      refine lv_iadd hx hb dX4_notes_28 ?_
      refine lv_aload_n hx hb dX4_notes_29 rfl (lv_at hl 0 rfl) ?_
      refine g_getr S hB (tT hB) rfl (T := TX4) (N := 38) (C := RX4) rfl in_X4 1 (by decide) (by decide) q1393 (fun _ h9 => h9) (fun _ => rfl) (tA hB 0 rfl).1 dX4_notes_30 ?_
      refine lv_bipush (v := (nI 90)) hx hb dX4_notes_33 rfl ?_
      refine lv_iload_n hx hb dX4_notes_35 rfl (lv_at hl 1 rfl) ?_
      refine lv_iadd hx hb dX4_notes_36 ?_
      obtain ⟨hi, hp⟩ := hp
      refine g_iald S hB (tA hB 0 rfl).2 hi dX4_notes_37 ?_
      obtain ⟨hi, hp⟩ := hp
      obtain ⟨μ2, eμ2, hp⟩ := zpI_e hp
      refine g_iast S hB (tA hB 0 rfl).2 hi dX4_notes_38 (fun H locs hB => ?_)
      rw [← eμ2] at hB
      refine lv_iinc (v := (x1 + (nI 1))) (lv' := [(1, .int (x1 + (nI 1))), (0, .ref th)]) hx hb dX4_notes_39 hl (k := 1) rfl rfl (by decide) rfl (fun ls hl => ?_)
      refine lv_goto (tgt := 14) hx hb dX4_notes_42 rfl ?_
      exact ih (x1 + (nI 1)) μ2 _ _ _ hp hB (lv_sub hl [1, 0] rfl)
def pX4_notes (th : Nat) (μ : zM) (Q : zM → Prop) : Prop := (vp_in (nI 66) 3594 ∧ (if (zI μ (th + 1) (nI 66).toNatClampNeg) = (nI 10) then ∃ k1, pX4_notes_14 th Q k1 (nI 0) μ else ∃ k1, pX4_notes_58 th Q k1 (nI 0) μ))
theorem hX4_notes : yX4_notes.cls = "SunkTowerModel" ∧ yX4_notes.cls ≠ "java/lang/invoke/MethodHandle" ∧ yX4_notes.cls ≠ "java/lang/invoke/VarHandle" ∧ (parseMethodDescriptor yX4_notes.desc).map (fun d => d.parameters.length) = some 0 := by decide +kernel
set_option maxHeartbeats 4000000 in
set_option maxRecDepth 100000 in
theorem mX4_notes (l : Launch) (Γ : zG) (th : Nat) (μ : zM) (Q : zM → Prop) (hp : pX4_notes th μ Q) : Met l yX4_notes (ws_ yX4_notes cX4_notes 2 none) ({ frames := 0, cells := 0, slots := 0, locals := 0 } : Room) (va_Pc [.ref th] (zPre Γ (tSh th) μ)) (va_Qv Q (zPost Γ (tSh th) μ) (zA μ)) 0 0 (zA μ) := by
  refine zstart (by decide) (Nat.le_of_ble_eq_true rfl) ?_
  intro p e s m below meth c ls X hnm hB hl
  have X : zCx p m c cX4_notes 2 s [.ref th].toArray RX4 meth none := X
  have S := X.1
  obtain ⟨hx, hb, hml, hown, hts⟩ := X.1
  have hl : lv_has ls 2 [(0, .ref th)] := hl
  unfold pX4_notes at hp
  refine lv_aload_n hx hb dX4_notes_0 rfl (lv_at hl 0 rfl) ?_
  refine g_getr S hB (tT hB) rfl (T := TX4) (N := 38) (C := RX4) rfl in_X4 1 (by decide) (by decide) q1393 (fun _ h9 => h9) (fun _ => rfl) (tA hB 0 rfl).1 dX4_notes_1 ?_
  refine lv_bipush (v := (nI 66)) hx hb dX4_notes_4 rfl ?_
  obtain ⟨hi, hp⟩ := hp
  refine g_iald S hB (tA hB 0 rfl).2 hi dX4_notes_6 ?_
  refine lv_bipush (v := (nI 10)) hx hb dX4_notes_7 rfl ?_
  refine lv_icmp_ne (tgt := 56) hx hb dX4_notes_9 rfl (fun c0 => ?_) (fun c0 => ?_)
  · have hp := zif hp c0
    refine lv_iconst (v := (nI 0)) hx hb dX4_notes_56 rfl ?_
    refine lv_istore_n (lv' := [(1, .int (nI 0)), (0, .ref th)]) hx hb dX4_notes_57 rfl hl (by decide) rfl (fun ls hl => ?_)
    obtain ⟨n1, hp⟩ := hp
    exact wX4_notes_58 X th n1 (nI 0) μ _ _ _ hp hB (lv_sub hl [1, 0] rfl)
  · have hp := zit hp c0
    refine lv_iconst (v := (nI 0)) hx hb dX4_notes_12 rfl ?_
    refine lv_istore_n (lv' := [(1, .int (nI 0)), (0, .ref th)]) hx hb dX4_notes_13 rfl hl (by decide) rfl (fun ls hl => ?_)
    obtain ⟨n1, hp⟩ := hp
    exact wX4_notes_14 X th n1 (nI 0) μ _ _ _ hp hB (lv_sub hl [1, 0] rfl)
def pX4_goesUp (th : Nat) (μ : zM) (Q : zM → Prop) : Prop := (vp_in (nI 20) 3594 ∧ (vp_in (nI 2) 3594 ∧ (vp_in ((nI 21) + (zI μ (th + 1) (nI 20).toNatClampNeg)) 3594 ∧ zpI μ (th + 1) ((nI 21) + (zI μ (th + 1) (nI 20).toNatClampNeg)).toNatClampNeg (zI μ (th + 1) (nI 2).toNatClampNeg) fun μ1 => (vp_in (nI 20) 3594 ∧ (vp_in (nI 20) 3594 ∧ zpI μ1 (th + 1) (nI 20).toNatClampNeg ((zI μ1 (th + 1) (nI 20).toNatClampNeg) + (nI 1)) fun μ2 => Q μ2)))))
theorem hX4_goesUp : yX4_goesUp.cls = "SunkTowerModel" ∧ yX4_goesUp.cls ≠ "java/lang/invoke/MethodHandle" ∧ yX4_goesUp.cls ≠ "java/lang/invoke/VarHandle" ∧ (parseMethodDescriptor yX4_goesUp.desc).map (fun d => d.parameters.length) = some 0 := by decide +kernel
set_option maxHeartbeats 4000000 in
set_option maxRecDepth 100000 in
theorem mX4_goesUp (l : Launch) (Γ : zG) (th : Nat) (μ : zM) (Q : zM → Prop) (hp : pX4_goesUp th μ Q) : Met l yX4_goesUp (ws_ yX4_goesUp cX4_goesUp 1 none) ({ frames := 0, cells := 0, slots := 0, locals := 0 } : Room) (va_Pc [.ref th] (zPre Γ (tSh th) μ)) (va_Qv Q (zPost Γ (tSh th) μ) (zA μ)) 0 0 (zA μ) := by
  refine zstart (by decide) (Nat.le_of_ble_eq_true rfl) ?_
  intro p e s m below meth c ls X hnm hB hl
  have X : zCx p m c cX4_goesUp 1 s [.ref th].toArray RX4 meth none := X
  have S := X.1
  obtain ⟨hx, hb, hml, hown, hts⟩ := X.1
  have hl : lv_has ls 1 [(0, .ref th)] := hl
  unfold pX4_goesUp at hp
  refine lv_aload_n hx hb dX4_goesUp_0 rfl (lv_at hl 0 rfl) ?_
  refine g_getr S hB (tT hB) rfl (T := TX4) (N := 38) (C := RX4) rfl in_X4 1 (by decide) (by decide) q1393 (fun _ h9 => h9) (fun _ => rfl) (tA hB 0 rfl).1 dX4_goesUp_1 ?_
  refine lv_bipush (v := (nI 21)) hx hb dX4_goesUp_4 rfl ?_
  refine lv_aload_n hx hb dX4_goesUp_6 rfl (lv_at hl 0 rfl) ?_
  refine g_getr S hB (tT hB) rfl (T := TX4) (N := 38) (C := RX4) rfl in_X4 1 (by decide) (by decide) q1393 (fun _ h9 => h9) (fun _ => rfl) (tA hB 0 rfl).1 dX4_goesUp_7 ?_
  refine lv_bipush (v := (nI 20)) hx hb dX4_goesUp_10 rfl ?_
  obtain ⟨hi, hp⟩ := hp
  refine g_iald S hB (tA hB 0 rfl).2 hi dX4_goesUp_12 ?_
  refine lv_iadd hx hb dX4_goesUp_13 ?_
  refine lv_aload_n hx hb dX4_goesUp_14 rfl (lv_at hl 0 rfl) ?_
  refine g_getr S hB (tT hB) rfl (T := TX4) (N := 38) (C := RX4) rfl in_X4 1 (by decide) (by decide) q1393 (fun _ h9 => h9) (fun _ => rfl) (tA hB 0 rfl).1 dX4_goesUp_15 ?_
  refine lv_iconst (v := (nI 2)) hx hb dX4_goesUp_18 rfl ?_
  obtain ⟨hi, hp⟩ := hp
  refine g_iald S hB (tA hB 0 rfl).2 hi dX4_goesUp_19 ?_
  obtain ⟨hi, hp⟩ := hp
  obtain ⟨μ1, eμ1, hp⟩ := zpI_e hp
  refine g_iast S hB (tA hB 0 rfl).2 hi dX4_goesUp_20 (fun H locs hB => ?_)
  rw [← eμ1] at hB
  refine lv_aload_n hx hb dX4_goesUp_21 rfl (lv_at hl 0 rfl) ?_
  refine g_getr S hB (tT hB) rfl (T := TX4) (N := 38) (C := RX4) rfl in_X4 1 (by decide) (by decide) q1393 (fun _ h9 => h9) (fun _ => rfl) (tA hB 0 rfl).1 dX4_goesUp_22 ?_
  refine lv_bipush (v := (nI 20)) hx hb dX4_goesUp_25 rfl ?_
  refine lv_dup2_11 hx hb dX4_goesUp_27 rfl rfl ?_
  obtain ⟨hi, hp⟩ := hp
  refine g_iald S hB (tA hB 0 rfl).2 hi dX4_goesUp_28 ?_
  refine lv_iconst (v := (nI 1)) hx hb dX4_goesUp_29 rfl ?_
  refine lv_iadd hx hb dX4_goesUp_30 ?_
  obtain ⟨hi, hp⟩ := hp
  obtain ⟨μ2, eμ2, hp⟩ := zpI_e hp
  refine g_iast S hB (tA hB 0 rfl).2 hi dX4_goesUp_31 (fun H locs hB => ?_)
  rw [← eμ2] at hB
  exact zret_v X hB hp dX4_goesUp_32
def pX4_whyMove (th : Nat) (x1 : Int64) (x3 : Int64) (μ : zM) (Q : Int32 → zM → Prop) : Prop := (pX4_isTenant th x1 μ fun r2 μ1 => (if r2 = 0 then Q (nI 1) μ1 else (pX4_isStorey th x3 μ1 fun r4 μ3 => (if r4 = 0 then Q (nI 1) μ3 else (pX4_livesOn th (x3.toInt32) μ3 fun r6 μ5 => (if r6 = (-1 : Int32) then (vp_in (nI 41) 3594 ∧ (pX4_isBuried th (x3.toInt32) (zI μ5 (th + 1) (nI 41).toNatClampNeg) μ5 fun r8 μ7 => (if r8 = 0 then Q (nI 0) μ7 else Q (nI 3) μ7))) else Q (nI 2) μ5))))))
theorem hX4_whyMove : yX4_whyMove.cls = "SunkTowerModel" ∧ yX4_whyMove.cls ≠ "java/lang/invoke/MethodHandle" ∧ yX4_whyMove.cls ≠ "java/lang/invoke/VarHandle" ∧ (parseMethodDescriptor yX4_whyMove.desc).map (fun d => d.parameters.length) = some 2 := by decide +kernel
set_option maxHeartbeats 4000000 in
set_option maxRecDepth 100000 in
theorem mX4_whyMove (l : Launch) (Γ : zG) (th : Nat) (x1 : Int64) (x3 : Int64) (μ : zM) (Q : Int32 → zM → Prop) (hp : pX4_whyMove th x1 x3 μ Q) : Met l yX4_whyMove (ws_ yX4_whyMove cX4_whyMove 5 (some .int)) ({ frames := 2, cells := 0, slots := 0, locals := 47 } : Room) (va_Pc [.ref th, .long x1, .long x3] (zPre Γ (tSh th) μ)) (va_Qi Q (zPost Γ (tSh th) μ) (zA μ)) 0 0 (zA μ) := by
  refine zstart (by decide) (Nat.le_of_ble_eq_true rfl) ?_
  intro p e s m below meth c ls X hnm hB hl
  have X : zCx p m c cX4_whyMove 5 s [.ref th, .long x1, .long x3].toArray RX4 meth (some .int) := X
  have S := X.1
  obtain ⟨hx, hb, hml, hown, hts⟩ := X.1
  have hl : lv_has ls 5 [(0, .ref th), (1, .long x1), (3, .long x3)] := hl
  unfold pX4_whyMove at hp
  refine lv_aload_n hx hb dX4_whyMove_0 rfl (lv_at hl 0 rfl) ?_
  refine lv_lload_n hx hb dX4_whyMove_1 rfl (lv_at hl 1 rfl) ?_
  refine z_calli (va_runV (As := [.long x1]) (rest := []) S (mX4_isTenant l Γ th x1 μ _ hp) (cwV 1 hts (lw_V q1633 q1635 qs81 q132 q1636) rfl rfl rfl hX4_isTenant ⟨Nat.le_of_ble_eq_true rfl, Nat.le_of_ble_eq_true rfl⟩) (hB.preV (tT hB) rfl rfl) rfl rfl hl.1 rfl (lv_room (Nat.le_of_ble_eq_true rfl)) dX4_whyMove_2 ⟨Nat.le_refl _, Nat.le_refl _⟩) hB (fun r2 μ1 H locs hp hB => ?_)
  refine lv_if_eq (tgt := 16) hx hb dX4_whyMove_5 rfl (fun c0 => ?_) (fun c0 => ?_)
  · have hp := zit hp c0
    refine lv_iconst (v := (nI 1)) hx hb dX4_whyMove_16 rfl ?_
    exact zret_i X hB hp dX4_whyMove_17
  · have hp := zif hp c0
    refine lv_aload_n hx hb dX4_whyMove_8 rfl (lv_at hl 0 rfl) ?_
    refine lv_lload_n hx hb dX4_whyMove_9 rfl (lv_at hl 2 rfl) ?_
    refine z_calli (va_runV (As := [.long x3]) (rest := []) S (mX4_isStorey l Γ th x3 μ1 _ hp) (cwV 1 hts (lw_V q1617 q1619 qs79 q132 q1620) rfl rfl rfl hX4_isStorey ⟨Nat.le_of_ble_eq_true rfl, Nat.le_of_ble_eq_true rfl⟩) (hB.preV (tT hB) rfl rfl) rfl rfl hl.1 rfl (lv_room (Nat.le_of_ble_eq_true rfl)) dX4_whyMove_10 ⟨Nat.le_refl _, Nat.le_refl _⟩) hB (fun r4 μ3 H locs hp hB => ?_)
    refine lv_if_ne (tgt := 18) hx hb dX4_whyMove_13 rfl (fun c0 => ?_) (fun c0 => ?_)
    · have hp := zif hp c0
      refine lv_aload_n hx hb dX4_whyMove_18 rfl (lv_at hl 0 rfl) ?_
      refine lv_lload_n hx hb dX4_whyMove_19 rfl (lv_at hl 2 rfl) ?_
      refine lv_l2i hx hb dX4_whyMove_20 rfl ?_
      refine z_calli (va_runV (As := [.int (x3.toInt32)]) (rest := []) S (mX4_livesOn l Γ th (x3.toInt32) μ3 _ hp) (cwV 1 hts (lw_V q1622 q1624 qs80 q132 q1625) rfl rfl rfl hX4_livesOn ⟨Nat.le_of_ble_eq_true rfl, Nat.le_of_ble_eq_true rfl⟩) (hB.preV (tT hB) rfl rfl) rfl rfl hl.1 rfl (lv_room (Nat.le_of_ble_eq_true rfl)) dX4_whyMove_21 ⟨Nat.le_refl _, Nat.le_refl _⟩) hB (fun r6 μ5 H locs hp hB => ?_)
      refine lv_iconst (v := (-1 : Int32)) hx hb dX4_whyMove_24 rfl ?_
      refine lv_icmp_eq (tgt := 32) hx hb dX4_whyMove_25 rfl (fun c0 => ?_) (fun c0 => ?_)
      · have hp := zit hp c0
        refine lv_lload_n hx hb dX4_whyMove_32 rfl (lv_at hl 2 rfl) ?_
        refine lv_l2i hx hb dX4_whyMove_33 rfl ?_
        refine lv_aload_n hx hb dX4_whyMove_34 rfl (lv_at hl 0 rfl) ?_
        refine g_getr S hB (tT hB) rfl (T := TX4) (N := 38) (C := RX4) rfl in_X4 1 (by decide) (by decide) q1393 (fun _ h9 => h9) (fun _ => rfl) (tA hB 0 rfl).1 dX4_whyMove_35 ?_
        refine lv_bipush (v := (nI 41)) hx hb dX4_whyMove_38 rfl ?_
        obtain ⟨hi, hp⟩ := hp
        refine g_iald S hB (tA hB 0 rfl).2 hi dX4_whyMove_40 ?_
        refine z_calli (va_runS (As := [.int (x3.toInt32), .int (zI μ5 (th + 1) (nI 41).toNatClampNeg)]) (rest := []) S (mX4_isBuried l Γ th (x3.toInt32) (zI μ5 (th + 1) (nI 41).toNatClampNeg) μ5 _ hp) (va_cwS 2 hts (lw_S q1626 q1627 q132 q1628) rfl rfl rfl hX4_isBuried ⟨Nat.le_of_ble_eq_true rfl, Nat.le_of_ble_eq_true rfl⟩) hB.preS rfl rfl hl.1 rfl (lv_room (Nat.le_of_ble_eq_true rfl)) dX4_whyMove_41 ⟨Nat.le_refl _, Nat.le_refl _⟩) hB (fun r8 μ7 H locs hp hB => ?_)
        refine lv_if_eq (tgt := 51) hx hb dX4_whyMove_44 rfl (fun c0 => ?_) (fun c0 => ?_)
        · have hp := zit hp c0
          refine lv_iconst (v := (nI 0)) hx hb dX4_whyMove_51 rfl ?_
          exact zret_i X hB hp dX4_whyMove_52
        · have hp := zif hp c0
          refine lv_iconst (v := (nI 3)) hx hb dX4_whyMove_47 rfl ?_
          refine lv_goto (tgt := 52) hx hb dX4_whyMove_48 rfl ?_
          exact zret_i X hB hp dX4_whyMove_52
      · have hp := zif hp c0
        refine lv_iconst (v := (nI 2)) hx hb dX4_whyMove_28 rfl ?_
        refine lv_goto (tgt := 52) hx hb dX4_whyMove_29 rfl ?_
        exact zret_i X hB hp dX4_whyMove_52
    · have hp := zit hp c0
      refine lv_iconst (v := (nI 1)) hx hb dX4_whyMove_16 rfl ?_
      exact zret_i X hB hp dX4_whyMove_17
def pX4_whyLeave (th : Nat) (x1 : Int64) (μ : zM) (Q : Int32 → zM → Prop) : Prop := (pX4_isTenant th x1 μ fun r2 μ1 => (if r2 = 0 then Q (nI 1) μ1 else (vp_in ((nI 35) + (x1.toInt32)) 3594 ∧ (if (zI μ1 (th + 1) ((nI 35) + (x1.toInt32)).toNatClampNeg) = (-1 : Int32) then Q (nI 2) μ1 else Q (nI 0) μ1))))
theorem hX4_whyLeave : yX4_whyLeave.cls = "SunkTowerModel" ∧ yX4_whyLeave.cls ≠ "java/lang/invoke/MethodHandle" ∧ yX4_whyLeave.cls ≠ "java/lang/invoke/VarHandle" ∧ (parseMethodDescriptor yX4_whyLeave.desc).map (fun d => d.parameters.length) = some 1 := by decide +kernel
set_option maxHeartbeats 4000000 in
set_option maxRecDepth 100000 in
theorem mX4_whyLeave (l : Launch) (Γ : zG) (th : Nat) (x1 : Int64) (μ : zM) (Q : Int32 → zM → Prop) (hp : pX4_whyLeave th x1 μ Q) : Met l yX4_whyLeave (ws_ yX4_whyLeave cX4_whyLeave 3 (some .int)) ({ frames := 2, cells := 0, slots := 0, locals := 47 } : Room) (va_Pc [.ref th, .long x1] (zPre Γ (tSh th) μ)) (va_Qi Q (zPost Γ (tSh th) μ) (zA μ)) 0 0 (zA μ) := by
  refine zstart (by decide) (Nat.le_of_ble_eq_true rfl) ?_
  intro p e s m below meth c ls X hnm hB hl
  have X : zCx p m c cX4_whyLeave 3 s [.ref th, .long x1].toArray RX4 meth (some .int) := X
  have S := X.1
  obtain ⟨hx, hb, hml, hown, hts⟩ := X.1
  have hl : lv_has ls 3 [(0, .ref th), (1, .long x1)] := hl
  unfold pX4_whyLeave at hp
  refine lv_aload_n hx hb dX4_whyLeave_0 rfl (lv_at hl 0 rfl) ?_
  refine lv_lload_n hx hb dX4_whyLeave_1 rfl (lv_at hl 1 rfl) ?_
  refine z_calli (va_runV (As := [.long x1]) (rest := []) S (mX4_isTenant l Γ th x1 μ _ hp) (cwV 1 hts (lw_V q1633 q1635 qs81 q132 q1636) rfl rfl rfl hX4_isTenant ⟨Nat.le_of_ble_eq_true rfl, Nat.le_of_ble_eq_true rfl⟩) (hB.preV (tT hB) rfl rfl) rfl rfl hl.1 rfl (lv_room (Nat.le_of_ble_eq_true rfl)) dX4_whyLeave_2 ⟨Nat.le_refl _, Nat.le_refl _⟩) hB (fun r2 μ1 H locs hp hB => ?_)
  refine lv_if_ne (tgt := 12) hx hb dX4_whyLeave_5 rfl (fun c0 => ?_) (fun c0 => ?_)
  · have hp := zif hp c0
    refine lv_aload_n hx hb dX4_whyLeave_12 rfl (lv_at hl 0 rfl) ?_
    refine g_getr S hB (tT hB) rfl (T := TX4) (N := 38) (C := RX4) rfl in_X4 1 (by decide) (by decide) q1393 (fun _ h9 => h9) (fun _ => rfl) (tA hB 0 rfl).1 dX4_whyLeave_13 ?_
    refine lv_bipush (v := (nI 35)) hx hb dX4_whyLeave_16 rfl ?_
    refine lv_lload_n hx hb dX4_whyLeave_18 rfl (lv_at hl 1 rfl) ?_
    refine lv_l2i hx hb dX4_whyLeave_19 rfl ?_
    refine lv_iadd hx hb dX4_whyLeave_20 ?_
    obtain ⟨hi, hp⟩ := hp
    refine g_iald S hB (tA hB 0 rfl).2 hi dX4_whyLeave_21 ?_
    refine lv_iconst (v := (-1 : Int32)) hx hb dX4_whyLeave_22 rfl ?_
    refine lv_icmp_ne (tgt := 30) hx hb dX4_whyLeave_23 rfl (fun c0 => ?_) (fun c0 => ?_)
    · have hp := zif hp c0
      refine lv_iconst (v := (nI 0)) hx hb dX4_whyLeave_30 rfl ?_
      exact zret_i X hB hp dX4_whyLeave_31
    · have hp := zit hp c0
      refine lv_iconst (v := (nI 2)) hx hb dX4_whyLeave_26 rfl ?_
      refine lv_goto (tgt := 31) hx hb dX4_whyLeave_27 rfl ?_
      exact zret_i X hB hp dX4_whyLeave_31
  · have hp := zit hp c0
    refine lv_iconst (v := (nI 1)) hx hb dX4_whyLeave_8 rfl ?_
    refine lv_goto (tgt := 31) hx hb dX4_whyLeave_9 rfl ?_
    exact zret_i X hB hp dX4_whyLeave_31
def pX4_carries (th : Nat) (x1 : Int32) (x2 : Int32) (μ : zM) (Q : Int32 → zM → Prop) : Prop := (zpI μ th 0 (nI 0) fun μ1 => (pX4_isTenant th (x1.toInt64) μ1 fun r3 μ2 => (if r3 = 0 then Q (-11 : Int32) μ2 else (pX4_within th (x2.toInt64) (0 : Int64) (999 : Int64) μ2 fun r5 μ4 => (if r5 = 0 then Q (-11 : Int32) μ4 else (pX4_keeps th μ4 fun μ6 => (vp_in ((nI 29) + x1) 3594 ∧ zpI μ6 (th + 1) ((nI 29) + x1).toNatClampNeg x2 fun μ7 => (pX4_notes th μ7 fun μ8 => (vp_in ((nI 9) + x1) 23 ∧ Q (zI μ8 (th + 7) ((nI 9) + x1).toNatClampNeg) μ8)))))))))
theorem hX4_carries : yX4_carries.cls = "SunkTowerModel" ∧ yX4_carries.cls ≠ "java/lang/invoke/MethodHandle" ∧ yX4_carries.cls ≠ "java/lang/invoke/VarHandle" ∧ (parseMethodDescriptor yX4_carries.desc).map (fun d => d.parameters.length) = some 2 := by decide +kernel
set_option maxHeartbeats 4000000 in
set_option maxRecDepth 100000 in
theorem mX4_carries (l : Launch) (Γ : zG) (th : Nat) (x1 : Int32) (x2 : Int32) (μ : zM) (Q : Int32 → zM → Prop) (hp : pX4_carries th x1 x2 μ Q) : Met l yX4_carries (ws_ yX4_carries cX4_carries 3 (some .int)) ({ frames := 2, cells := 0, slots := 0, locals := 47 } : Room) (va_Pc [.ref th, .int x1, .int x2] (zPre Γ (tSh th) μ)) (va_Qi Q (zPost Γ (tSh th) μ) (zA μ)) 0 0 (zA μ) := by
  refine zstart (by decide) (Nat.le_of_ble_eq_true rfl) ?_
  intro p e s m below meth c ls X hnm hB hl
  have X : zCx p m c cX4_carries 3 s [.ref th, .int x1, .int x2].toArray RX4 meth (some .int) := X
  have S := X.1
  obtain ⟨hx, hb, hml, hown, hts⟩ := X.1
  have hl : lv_has ls 3 [(0, .ref th), (1, .int x1), (2, .int x2)] := hl
  unfold pX4_carries at hp
  refine lv_aload_n hx hb dX4_carries_0 rfl (lv_at hl 0 rfl) ?_
  refine lv_iconst (v := (nI 0)) hx hb dX4_carries_1 rfl ?_
  obtain ⟨μ1, eμ1, hp⟩ := zpI_e hp
  refine g_putI S hB (tT hB) rfl (T := TX4) (N := 38) (C := RX4) rfl in_X4 0 (by decide) (by decide) (x := (nI 0)) tyX4 tyX4_ok nmX4 q1392 (fun _ h9 => h9) rfl (ty := .int) (by decide +kernel) rfl rfl (fun _ _ => rfl) dX4_carries_2 (fun H locs hB => ?_)
  rw [← eμ1] at hB
  refine lv_aload_n hx hb dX4_carries_5 rfl (lv_at hl 0 rfl) ?_
  refine lv_iload_n hx hb dX4_carries_6 rfl (lv_at hl 1 rfl) ?_
  refine lv_i2l hx hb dX4_carries_7 rfl ?_
  refine z_calli (va_runV (As := [.long (x1.toInt64)]) (rest := []) S (mX4_isTenant l Γ th (x1.toInt64) μ1 _ hp) (cwV 1 hts (lw_V q1633 q1635 qs81 q132 q1636) rfl rfl rfl hX4_isTenant ⟨Nat.le_of_ble_eq_true rfl, Nat.le_of_ble_eq_true rfl⟩) (hB.preV (tT hB) rfl rfl) rfl rfl hl.1 rfl (lv_room (Nat.le_of_ble_eq_true rfl)) dX4_carries_8 ⟨Nat.le_refl _, Nat.le_refl _⟩) hB (fun r3 μ2 H locs hp hB => ?_)
  refine lv_if_eq (tgt := 26) hx hb dX4_carries_11 rfl (fun c0 => ?_) (fun c0 => ?_)
  · have hp := zit hp c0
    refine lv_bipush (v := (-11 : Int32)) hx hb dX4_carries_26 rfl ?_
    exact zret_i X hB hp dX4_carries_28
  · have hp := zif hp c0
    refine lv_iload_n hx hb dX4_carries_14 rfl (lv_at hl 2 rfl) ?_
    refine lv_i2l hx hb dX4_carries_15 rfl ?_
    refine lv_lconst (v := (0 : Int64)) hx hb dX4_carries_16 rfl ?_
    refine lv_ldc2 (v := (999 : Int64)) hx hb hown (hts _ q1735) dX4_carries_17 ?_
    refine z_calli (va_runS (As := [.long (x2.toInt64), .long (0 : Int64), .long (999 : Int64)]) (rest := []) S (mX4_within l Γ th (x2.toInt64) (0 : Int64) (999 : Int64) μ2 _ hp) (va_cwS 3 hts (lw_S q1516 q1517 q132 q1518) rfl rfl rfl hX4_within ⟨Nat.le_of_ble_eq_true rfl, Nat.le_of_ble_eq_true rfl⟩) hB.preS rfl rfl hl.1 rfl (lv_room (Nat.le_of_ble_eq_true rfl)) dX4_carries_20 ⟨Nat.le_refl _, Nat.le_refl _⟩) hB (fun r5 μ4 H locs hp hB => ?_)
    refine lv_if_ne (tgt := 29) hx hb dX4_carries_23 rfl (fun c0 => ?_) (fun c0 => ?_)
    · have hp := zif hp c0
      refine lv_aload_n hx hb dX4_carries_29 rfl (lv_at hl 0 rfl) ?_
      refine z_callv (va_runV (As := []) (rest := []) S (mX4_keeps l Γ th μ4 _ hp) (cwV 0 hts (lw_V q1691 q1693 qs88 q132 q1694) rfl rfl rfl hX4_keeps ⟨Nat.le_of_ble_eq_true rfl, Nat.le_of_ble_eq_true rfl⟩) (hB.preV (tT hB) rfl rfl) rfl rfl hl.1 rfl (lv_room (Nat.le_of_ble_eq_true rfl)) dX4_carries_30 ⟨Nat.le_refl _, Nat.le_refl _⟩) hB (fun μ6 H locs hp hB => ?_)
      refine lv_aload_n hx hb dX4_carries_33 rfl (lv_at hl 0 rfl) ?_
      refine g_getr S hB (tT hB) rfl (T := TX4) (N := 38) (C := RX4) rfl in_X4 1 (by decide) (by decide) q1393 (fun _ h9 => h9) (fun _ => rfl) (tA hB 0 rfl).1 dX4_carries_34 ?_
      refine lv_bipush (v := (nI 29)) hx hb dX4_carries_37 rfl ?_
      refine lv_iload_n hx hb dX4_carries_39 rfl (lv_at hl 1 rfl) ?_
      refine lv_iadd hx hb dX4_carries_40 ?_
      refine lv_iload_n hx hb dX4_carries_41 rfl (lv_at hl 2 rfl) ?_
      obtain ⟨hi, hp⟩ := hp
      obtain ⟨μ7, eμ7, hp⟩ := zpI_e hp
      refine g_iast S hB (tA hB 0 rfl).2 hi dX4_carries_42 (fun H locs hB => ?_)
      rw [← eμ7] at hB
      refine lv_aload_n hx hb dX4_carries_43 rfl (lv_at hl 0 rfl) ?_
      refine z_callv (va_runV (As := []) (rest := []) S (mX4_notes l Γ th μ7 _ hp) (cwV 0 hts (lw_V q1703 q1705 qs90 q132 q1706) rfl rfl rfl hX4_notes ⟨Nat.le_of_ble_eq_true rfl, Nat.le_of_ble_eq_true rfl⟩) (hB.preV (tT hB) rfl rfl) rfl rfl hl.1 rfl (lv_room (Nat.le_of_ble_eq_true rfl)) dX4_carries_44 ⟨Nat.le_refl _, Nat.le_refl _⟩) hB (fun μ8 H locs hp hB => ?_)
      refine lv_aload_n hx hb dX4_carries_47 rfl (lv_at hl 0 rfl) ?_
      refine g_getr S hB (tT hB) rfl (T := TX4) (N := 38) (C := RX4) rfl in_X4 18 (by decide) (by decide) q1410 (fun _ h9 => h9) (fun _ => rfl) (tA hB 6 rfl).1 dX4_carries_48 ?_
      refine lv_bipush (v := (nI 9)) hx hb dX4_carries_51 rfl ?_
      refine lv_iload_n hx hb dX4_carries_53 rfl (lv_at hl 1 rfl) ?_
      refine lv_iadd hx hb dX4_carries_54 ?_
      obtain ⟨hi, hp⟩ := hp
      refine g_iald S hB (tA hB 6 rfl).2 hi dX4_carries_55 ?_
      exact zret_i X hB hp dX4_carries_56
    · have hp := zit hp c0
      refine lv_bipush (v := (-11 : Int32)) hx hb dX4_carries_26 rfl ?_
      exact zret_i X hB hp dX4_carries_28
def pX4_isIn (th : Nat) (x0 : Int64) (x2 : Int32) (μ : zM) (Q : Int32 → zM → Prop) : Prop := (if (lg_cmp ((x0 >>> (x2.toInt64 &&& 63)) &&& (1 : Int64)) (1 : Int64)) = 0 then Q (nI 1) μ else Q (nI 0) μ)
theorem hX4_isIn : yX4_isIn.cls ≠ "java/lang/invoke/MethodHandle" ∧ yX4_isIn.cls ≠ "java/lang/invoke/VarHandle" ∧ (parseMethodDescriptor yX4_isIn.desc).map (fun d => d.parameters.length) = some 2 := by decide +kernel
set_option maxHeartbeats 4000000 in
set_option maxRecDepth 100000 in
theorem mX4_isIn (l : Launch) (Γ : zG) (th : Nat) (x0 : Int64) (x2 : Int32) (μ : zM) (Q : Int32 → zM → Prop) (hp : pX4_isIn th x0 x2 μ Q) : Met l yX4_isIn (ws_ yX4_isIn cX4_isIn 3 (some .boolean)) ({ frames := 0, cells := 0, slots := 0, locals := 0 } : Room) (va_Pc [.long x0, .int x2] (zPre Γ (tSh th) μ)) (va_Qi Q (zPost Γ (tSh th) μ) (zA μ)) 0 0 (zA μ) := by
  refine zstart (by decide) (Nat.le_of_ble_eq_true rfl) ?_
  intro p e s m below meth c ls X hnm hB hl
  have X : zCx p m c cX4_isIn 3 s [.long x0, .int x2].toArray RX4 meth (some .boolean) := X
  have S := X.1
  obtain ⟨hx, hb, hml, hown, hts⟩ := X.1
  have hl : lv_has ls 3 [(0, .long x0), (2, .int x2)] := hl
  unfold pX4_isIn at hp
  refine lv_lload_n hx hb dX4_isIn_0 rfl (lv_at hl 0 rfl) ?_
  refine lv_iload_n hx hb dX4_isIn_1 rfl (lv_at hl 1 rfl) ?_
  refine lv_lshr hx hb dX4_isIn_2 rfl ?_
  refine lv_lconst (v := (1 : Int64)) hx hb dX4_isIn_3 rfl ?_
  refine lv_land hx hb dX4_isIn_4 ?_
  refine lv_lconst (v := (1 : Int64)) hx hb dX4_isIn_5 rfl ?_
  refine W.lcmp hx hb dX4_isIn_6 ?_
  refine lv_if_ne (tgt := 14) hx hb dX4_isIn_7 rfl (fun c0 => ?_) (fun c0 => ?_)
  · have hp := zif hp c0
    refine lv_iconst (v := (nI 0)) hx hb dX4_isIn_14 rfl ?_
    exact zret_z X hB rfl hp dX4_isIn_15
  · have hp := zit hp c0
    refine lv_iconst (v := (nI 1)) hx hb dX4_isIn_10 rfl ?_
    refine lv_goto (tgt := 15) hx hb dX4_isIn_11 rfl ?_
    exact zret_z X hB rfl hp dX4_isIn_15
def pX4_undo_44 (th : Nat) (Q : Int32 → zM → Prop) : Nat → Int32 → zM → Prop
  | 0, _, _ => False
  | n + 1, x2, μ => (if (nI 23) ≤ x2 then (vp_in (nI 66) 3594 ∧ Q (zI μ (th + 1) (nI 66).toNatClampNeg) μ) else (vp_in (nI 66) 3594 ∧ (vp_in (((nI 67) + ((nI 23) * (zI μ (th + 1) (nI 66).toNatClampNeg))) + x2) 3594 ∧ (vp_in ((nI 20) + x2) 3594 ∧ zpI μ (th + 1) ((nI 20) + x2).toNatClampNeg (zI μ (th + 1) (((nI 67) + ((nI 23) * (zI μ (th + 1) (nI 66).toNatClampNeg))) + x2).toNatClampNeg) fun μ1 => pX4_undo_44 th Q n (x2 + (nI 1)) μ1))))
set_option maxHeartbeats 4000000 in
set_option maxRecDepth 100000 in
theorem wX4_undo_44 {p : Program} {l : Launch} {e : Env} {s : State} {m : MethodId} {args : Array Value} {below : List Frame} {meth : Method} {c : Code} {Γ : zG} {μ0 : zM} {Q : Int32 → zM → Prop} (X : zCx p m c cX4_undo 3 s args RX4 meth (some .int)) (th : Nat) : ∀ (n : Nat) (x2 : Int32) (μ : zM) (H : Heap) (locs : List Loc) (ls : Array Slot), pX4_undo_44 th Q n x2 μ → zB Γ (tSh th) (zA μ0) μ0 s μ H locs → lv_has ls 3 [(0, .ref th), (2, .int x2)] → W p l e ({ frames := 1, cells := 0, slots := 0, locals := 25 } : Room) s m args below meth c H locs 0 0 (MQ below (va_Qi Q (zPost Γ (tSh th) μ0) (zA μ0)) args s 0 0 (zA μ0)) (F0 m 44 ls []) := by
  have S := X.1
  obtain ⟨hx, hb, hml, hown, hts⟩ := X.1
  intro n
  induction n with
  | zero =>
    intro x2 μ H locs ls hp
    exact hp.elim
  | succ n ih =>
    intro x2 μ H locs ls hp hB hl
    unfold pX4_undo_44 at hp
    refine lv_iload_n hx hb dX4_undo_44 rfl (lv_at hl 1 rfl) ?_
    refine lv_bipush (v := (nI 23)) hx hb dX4_undo_45 rfl ?_
    refine lv_icmp_ge (tgt := 85) hx hb dX4_undo_47 rfl (fun c0 => ?_) (fun c0 => ?_)
    · have hp := zit hp c0
      refine lv_aload_n hx hb dX4_undo_85 rfl (lv_at hl 0 rfl) ?_
      refine g_getr S hB (tT hB) rfl (T := TX4) (N := 38) (C := RX4) rfl in_X4 1 (by decide) (by decide) q1393 (fun _ h9 => h9) (fun _ => rfl) (tA hB 0 rfl).1 dX4_undo_86 ?_
      refine lv_bipush (v := (nI 66)) hx hb dX4_undo_89 rfl ?_
      obtain ⟨hi, hp⟩ := hp
      refine g_iald S hB (tA hB 0 rfl).2 hi dX4_undo_91 ?_
      exact zret_i X hB hp dX4_undo_92
    · have hp := zif hp c0
      refine lv_aload_n hx hb dX4_undo_50 rfl (lv_at hl 0 rfl) ?_
      refine g_getr S hB (tT hB) rfl (T := TX4) (N := 38) (C := RX4) rfl in_X4 1 (by decide) (by decide) q1393 (fun _ h9 => h9) (fun _ => rfl) (tA hB 0 rfl).1 dX4_undo_51 ?_
      refine lv_bipush (v := (nI 20)) hx hb dX4_undo_54 rfl ?_
      refine lv_iload_n hx hb dX4_undo_56 rfl (lv_at hl 1 rfl) ?_
      refine lv_iadd hx hb dX4_undo_57 ?_
      refine lv_aload_n hx hb dX4_undo_58 rfl (lv_at hl 0 rfl) ?_
      refine g_getr S hB (tT hB) rfl (T := TX4) (N := 38) (C := RX4) rfl in_X4 1 (by decide) (by decide) q1393 (fun _ h9 => h9) (fun _ => rfl) (tA hB 0 rfl).1 dX4_undo_59 ?_
      refine lv_bipush (v := (nI 67)) hx hb dX4_undo_62 rfl ?_
      refine lv_bipush (v := (nI 23)) hx hb dX4_undo_64 rfl ?_
      refine lv_aload_n hx hb dX4_undo_66 rfl (lv_at hl 0 rfl) ?_
      refine g_getr S hB (tT hB) rfl (T := TX4) (N := 38) (C := RX4) rfl in_X4 1 (by decide) (by decide) q1393 (fun _ h9 => h9) (fun _ => rfl) (tA hB 0 rfl).1 dX4_undo_67 ?_
      refine lv_bipush (v := (nI 66)) hx hb dX4_undo_70 rfl ?_
      obtain ⟨hi, hp⟩ := hp
      refine g_iald S hB (tA hB 0 rfl).2 hi dX4_undo_72 ?_
      refine lv_imul hx hb dX4_undo_73 ?_
      refine lv_iadd hx hb dX4_undo_74 ?_
      refine lv_iload_n hx hb dX4_undo_75 rfl (lv_at hl 1 rfl) ?_
      refine lv_iadd hx hb dX4_undo_76 ?_
      obtain ⟨hi, hp⟩ := hp
      refine g_iald S hB (tA hB 0 rfl).2 hi dX4_undo_77 ?_
      obtain ⟨hi, hp⟩ := hp
      obtain ⟨μ1, eμ1, hp⟩ := zpI_e hp
      refine g_iast S hB (tA hB 0 rfl).2 hi dX4_undo_78 (fun H locs hB => ?_)
      rw [← eμ1] at hB
      refine lv_iinc (v := (x2 + (nI 1))) (lv' := [(2, .int (x2 + (nI 1))), (0, .ref th)]) hx hb dX4_undo_79 hl (k := 1) rfl rfl (by decide) rfl (fun ls hl => ?_)
      refine lv_goto (tgt := 44) hx hb dX4_undo_82 rfl ?_
      exact ih (x2 + (nI 1)) μ1 _ _ _ hp hB (lv_sub hl [1, 0] rfl)
def pX4_undo (th : Nat) (x1 : Int32) (μ : zM) (Q : Int32 → zM → Prop) : Prop := (zpI μ th 0 (nI 0) fun μ1 => (pX4_within th (x1.toInt64) (1 : Int64) (10 : Int64) μ1 fun r3 μ2 => (if r3 = 0 then Q (-3 : Int32) μ2 else (vp_in (nI 66) 3594 ∧ (if x1 ≤ (zI μ2 (th + 1) (nI 66).toNatClampNeg) then (vp_in (nI 66) 3594 ∧ (vp_in (nI 66) 3594 ∧ zpI μ2 (th + 1) (nI 66).toNatClampNeg ((zI μ2 (th + 1) (nI 66).toNatClampNeg) - x1) fun μ4 => ∃ k1, pX4_undo_44 th Q k1 (nI 0) μ4)) else Q (-3 : Int32) μ2)))))
theorem hX4_undo : yX4_undo.cls = "SunkTowerModel" ∧ yX4_undo.cls ≠ "java/lang/invoke/MethodHandle" ∧ yX4_undo.cls ≠ "java/lang/invoke/VarHandle" ∧ (parseMethodDescriptor yX4_undo.desc).map (fun d => d.parameters.length) = some 1 := by decide +kernel
set_option maxHeartbeats 4000000 in
set_option maxRecDepth 100000 in
theorem mX4_undo (l : Launch) (Γ : zG) (th : Nat) (x1 : Int32) (μ : zM) (Q : Int32 → zM → Prop) (hp : pX4_undo th x1 μ Q) : Met l yX4_undo (ws_ yX4_undo cX4_undo 3 (some .int)) ({ frames := 1, cells := 0, slots := 0, locals := 25 } : Room) (va_Pc [.ref th, .int x1] (zPre Γ (tSh th) μ)) (va_Qi Q (zPost Γ (tSh th) μ) (zA μ)) 0 0 (zA μ) := by
  refine zstart (by decide) (Nat.le_of_ble_eq_true rfl) ?_
  intro p e s m below meth c ls X hnm hB hl
  have X : zCx p m c cX4_undo 3 s [.ref th, .int x1].toArray RX4 meth (some .int) := X
  have S := X.1
  obtain ⟨hx, hb, hml, hown, hts⟩ := X.1
  have hl : lv_has ls 3 [(0, .ref th), (1, .int x1)] := hl
  unfold pX4_undo at hp
  refine lv_aload_n hx hb dX4_undo_0 rfl (lv_at hl 0 rfl) ?_
  refine lv_iconst (v := (nI 0)) hx hb dX4_undo_1 rfl ?_
  obtain ⟨μ1, eμ1, hp⟩ := zpI_e hp
  refine g_putI S hB (tT hB) rfl (T := TX4) (N := 38) (C := RX4) rfl in_X4 0 (by decide) (by decide) (x := (nI 0)) tyX4 tyX4_ok nmX4 q1392 (fun _ h9 => h9) rfl (ty := .int) (by decide +kernel) rfl rfl (fun _ _ => rfl) dX4_undo_2 (fun H locs hB => ?_)
  rw [← eμ1] at hB
  refine lv_iload_n hx hb dX4_undo_5 rfl (lv_at hl 1 rfl) ?_
  refine lv_i2l hx hb dX4_undo_6 rfl ?_
  refine lv_lconst (v := (1 : Int64)) hx hb dX4_undo_7 rfl ?_
  refine lv_ldc2 (v := (10 : Int64)) hx hb hown (hts _ q1759) dX4_undo_8 ?_
  refine z_calli (va_runS (As := [.long (x1.toInt64), .long (1 : Int64), .long (10 : Int64)]) (rest := []) S (mX4_within l Γ th (x1.toInt64) (1 : Int64) (10 : Int64) μ1 _ hp) (va_cwS 3 hts (lw_S q1516 q1517 q132 q1518) rfl rfl rfl hX4_within ⟨Nat.le_of_ble_eq_true rfl, Nat.le_of_ble_eq_true rfl⟩) hB.preS rfl rfl hl.1 rfl (lv_room (Nat.le_of_ble_eq_true rfl)) dX4_undo_11 ⟨Nat.le_refl _, Nat.le_refl _⟩) hB (fun r3 μ2 H locs hp hB => ?_)
  refine lv_if_eq (tgt := 28) hx hb dX4_undo_14 rfl (fun c0 => ?_) (fun c0 => ?_)
  · have hp := zit hp c0
    refine lv_bipush (v := (-3 : Int32)) hx hb dX4_undo_28 rfl ?_
    exact zret_i X hB hp dX4_undo_30
  · have hp := zif hp c0
    refine lv_iload_n hx hb dX4_undo_17 rfl (lv_at hl 1 rfl) ?_
    refine lv_aload_n hx hb dX4_undo_18 rfl (lv_at hl 0 rfl) ?_
    refine g_getr S hB (tT hB) rfl (T := TX4) (N := 38) (C := RX4) rfl in_X4 1 (by decide) (by decide) q1393 (fun _ h9 => h9) (fun _ => rfl) (tA hB 0 rfl).1 dX4_undo_19 ?_
    refine lv_bipush (v := (nI 66)) hx hb dX4_undo_22 rfl ?_
    obtain ⟨hi, hp⟩ := hp
    refine g_iald S hB (tA hB 0 rfl).2 hi dX4_undo_24 ?_
    refine lv_icmp_le (tgt := 31) hx hb dX4_undo_25 rfl (fun c0 => ?_) (fun c0 => ?_)
    · have hp := zit hp c0
      refine lv_aload_n hx hb dX4_undo_31 rfl (lv_at hl 0 rfl) ?_
      refine g_getr S hB (tT hB) rfl (T := TX4) (N := 38) (C := RX4) rfl in_X4 1 (by decide) (by decide) q1393 (fun _ h9 => h9) (fun _ => rfl) (tA hB 0 rfl).1 dX4_undo_32 ?_
      refine lv_bipush (v := (nI 66)) hx hb dX4_undo_35 rfl ?_
      refine lv_dup2_11 hx hb dX4_undo_37 rfl rfl ?_
      obtain ⟨hi, hp⟩ := hp
      refine g_iald S hB (tA hB 0 rfl).2 hi dX4_undo_38 ?_
      refine lv_iload_n hx hb dX4_undo_39 rfl (lv_at hl 1 rfl) ?_
      refine lv_isub hx hb dX4_undo_40 ?_
      obtain ⟨hi, hp⟩ := hp
      obtain ⟨μ4, eμ4, hp⟩ := zpI_e hp
      refine g_iast S hB (tA hB 0 rfl).2 hi dX4_undo_41 (fun H locs hB => ?_)
      rw [← eμ4] at hB
      refine lv_iconst (v := (nI 0)) hx hb dX4_undo_42 rfl ?_
      refine lv_istore_n (lv' := [(2, .int (nI 0)), (0, .ref th), (1, .int x1)]) hx hb dX4_undo_43 rfl hl (by decide) rfl (fun ls hl => ?_)
      obtain ⟨n1, hp⟩ := hp
      exact wX4_undo_44 X th n1 (nI 0) μ4 _ _ _ hp hB (lv_sub hl [1, 0] rfl)
    · have hp := zif hp c0
      refine lv_bipush (v := (-3 : Int32)) hx hb dX4_undo_28 rfl ?_
      exact zret_i X hB hp dX4_undo_30
def pX4_noTray (th : Nat) (x1 : Int32) (μ : zM) (Q : Int32 → zM → Prop) : Prop := (pX4_within th (x1.toInt64) (0 : Int64) (3 : Int64) μ fun r2 μ1 => (if r2 = 0 then Q (-2 : Int32) μ1 else (vp_in x1 4 ∧ (if (zI μ1 (th + 16) x1.toNatClampNeg) = (-1 : Int32) then Q (-6 : Int32) μ1 else Q (nI 0) μ1))))
theorem hX4_noTray : yX4_noTray.cls = "SunkTowerModel" ∧ yX4_noTray.cls ≠ "java/lang/invoke/MethodHandle" ∧ yX4_noTray.cls ≠ "java/lang/invoke/VarHandle" ∧ (parseMethodDescriptor yX4_noTray.desc).map (fun d => d.parameters.length) = some 1 := by decide +kernel
set_option maxHeartbeats 4000000 in
set_option maxRecDepth 100000 in
theorem mX4_noTray (l : Launch) (Γ : zG) (th : Nat) (x1 : Int32) (μ : zM) (Q : Int32 → zM → Prop) (hp : pX4_noTray th x1 μ Q) : Met l yX4_noTray (ws_ yX4_noTray cX4_noTray 2 (some .int)) ({ frames := 1, cells := 0, slots := 0, locals := 25 } : Room) (va_Pc [.ref th, .int x1] (zPre Γ (tSh th) μ)) (va_Qi Q (zPost Γ (tSh th) μ) (zA μ)) 0 0 (zA μ) := by
  refine zstart (by decide) (Nat.le_of_ble_eq_true rfl) ?_
  intro p e s m below meth c ls X hnm hB hl
  have X : zCx p m c cX4_noTray 2 s [.ref th, .int x1].toArray RX4 meth (some .int) := X
  have S := X.1
  obtain ⟨hx, hb, hml, hown, hts⟩ := X.1
  have hl : lv_has ls 2 [(0, .ref th), (1, .int x1)] := hl
  unfold pX4_noTray at hp
  refine lv_iload_n hx hb dX4_noTray_0 rfl (lv_at hl 1 rfl) ?_
  refine lv_i2l hx hb dX4_noTray_1 rfl ?_
  refine lv_lconst (v := (0 : Int64)) hx hb dX4_noTray_2 rfl ?_
  refine lv_ldc2 (v := (3 : Int64)) hx hb hown (hts _ q1764) dX4_noTray_3 ?_
  refine z_calli (va_runS (As := [.long (x1.toInt64), .long (0 : Int64), .long (3 : Int64)]) (rest := []) S (mX4_within l Γ th (x1.toInt64) (0 : Int64) (3 : Int64) μ _ hp) (va_cwS 3 hts (lw_S q1516 q1517 q132 q1518) rfl rfl rfl hX4_within ⟨Nat.le_of_ble_eq_true rfl, Nat.le_of_ble_eq_true rfl⟩) hB.preS rfl rfl hl.1 rfl (lv_room (Nat.le_of_ble_eq_true rfl)) dX4_noTray_6 ⟨Nat.le_refl _, Nat.le_refl _⟩) hB (fun r2 μ1 H locs hp hB => ?_)
  refine lv_if_ne (tgt := 17) hx hb dX4_noTray_9 rfl (fun c0 => ?_) (fun c0 => ?_)
  · have hp := zif hp c0
    refine lv_aload_n hx hb dX4_noTray_17 rfl (lv_at hl 0 rfl) ?_
    refine g_getr S hB (tT hB) rfl (T := TX4) (N := 38) (C := RX4) rfl in_X4 35 (by decide) (by decide) q1427 (fun _ h9 => h9) (fun _ => rfl) (tA hB 15 rfl).1 dX4_noTray_18 ?_
    refine lv_iload_n hx hb dX4_noTray_21 rfl (lv_at hl 1 rfl) ?_
    obtain ⟨hi, hp⟩ := hp
    refine g_iald S hB (tA hB 15 rfl).2 hi dX4_noTray_22 ?_
    refine lv_iconst (v := (-1 : Int32)) hx hb dX4_noTray_23 rfl ?_
    refine lv_icmp_ne (tgt := 32) hx hb dX4_noTray_24 rfl (fun c0 => ?_) (fun c0 => ?_)
    · have hp := zif hp c0
      refine lv_iconst (v := (nI 0)) hx hb dX4_noTray_32 rfl ?_
      exact zret_i X hB hp dX4_noTray_33
    · have hp := zit hp c0
      refine lv_bipush (v := (-6 : Int32)) hx hb dX4_noTray_27 rfl ?_
      refine lv_goto (tgt := 33) hx hb dX4_noTray_29 rfl ?_
      exact zret_i X hB hp dX4_noTray_33
  · have hp := zit hp c0
    refine lv_bipush (v := (-2 : Int32)) hx hb dX4_noTray_12 rfl ?_
    refine lv_goto (tgt := 33) hx hb dX4_noTray_14 rfl ?_
    exact zret_i X hB hp dX4_noTray_33
def pX4_whyNot (th : Nat) (x1 : Int64) (μ : zM) (Q : Int32 → zM → Prop) : Prop := (if (lg_cmp x1 (-1 : Int64)) = 0 then Q (nI 0) μ else (if (lg_cmp x1 (3000 : Int64)) = 0 then Q (nI 0) μ else (if (lg_cmp x1 (2000 : Int64)) = 0 then (vp_in (nI 20) 3594 ∧ (if (zI μ (th + 1) (nI 20).toNatClampNeg) = (nI 8) then Q (nI 2) μ else Q (nI 0) μ)) else (pX4_within th x1 (0 : Int64) (599 : Int64) μ fun r2 μ1 => (if r2 = 0 then (pX4_within th x1 (1000 : Int64) (1099 : Int64) μ1 fun r4 μ3 => (if r4 = 0 then (pX4_within th x1 (10000 : Int64) (15999 : Int64) μ3 fun r6 μ5 => (if r6 = 0 then Q (nI 1) μ5 else (pX4_isTenant th ((x1 - (10000 : Int64)) / (1000 : Int64)) μ5 fun r8 μ7 => (if r8 = 0 then Q (nI 1) μ7 else Q (nI 0) μ7)))) else (pX4_whyLeave th (x1 - (1000 : Int64)) μ3 fun r10 μ9 => Q r10 μ9))) else (pX4_whyMove th (x1 / (100 : Int64)) (x1 - x1 / (100 : Int64) * (100 : Int64)) μ1 fun r12 μ11 => Q r12 μ11))))))
theorem hX4_whyNot : yX4_whyNot.cls = "SunkTowerModel" ∧ yX4_whyNot.cls ≠ "java/lang/invoke/MethodHandle" ∧ yX4_whyNot.cls ≠ "java/lang/invoke/VarHandle" ∧ (parseMethodDescriptor yX4_whyNot.desc).map (fun d => d.parameters.length) = some 1 := by decide +kernel
set_option maxHeartbeats 4000000 in
set_option maxRecDepth 100000 in
theorem mX4_whyNot (l : Launch) (Γ : zG) (th : Nat) (x1 : Int64) (μ : zM) (Q : Int32 → zM → Prop) (hp : pX4_whyNot th x1 μ Q) : Met l yX4_whyNot (ws_ yX4_whyNot cX4_whyNot 3 (some .int)) ({ frames := 3, cells := 0, slots := 0, locals := 71 } : Room) (va_Pc [.ref th, .long x1] (zPre Γ (tSh th) μ)) (va_Qi Q (zPost Γ (tSh th) μ) (zA μ)) 0 0 (zA μ) := by
  refine zstart (by decide) (Nat.le_of_ble_eq_true rfl) ?_
  intro p e s m below meth c ls X hnm hB hl
  have X : zCx p m c cX4_whyNot 3 s [.ref th, .long x1].toArray RX4 meth (some .int) := X
  have S := X.1
  obtain ⟨hx, hb, hml, hown, hts⟩ := X.1
  have hl : lv_has ls 3 [(0, .ref th), (1, .long x1)] := hl
  unfold pX4_whyNot at hp
  refine lv_lload_n hx hb dX4_whyNot_0 rfl (lv_at hl 1 rfl) ?_
  refine lv_ldc2 (v := (-1 : Int64)) hx hb hown (hts _ q1777) dX4_whyNot_1 ?_
  refine W.lcmp hx hb dX4_whyNot_4 ?_
  refine lv_if_eq (tgt := 16) hx hb dX4_whyNot_5 rfl (fun c0 => ?_) (fun c0 => ?_)
  · have hp := zit hp c0
    refine lv_iconst (v := (nI 0)) hx hb dX4_whyNot_16 rfl ?_
    exact zret_i X hB hp dX4_whyNot_17
  · have hp := zif hp c0
    refine lv_lload_n hx hb dX4_whyNot_8 rfl (lv_at hl 1 rfl) ?_
    refine lv_ldc2 (v := (3000 : Int64)) hx hb hown (hts _ q1778) dX4_whyNot_9 ?_
    refine W.lcmp hx hb dX4_whyNot_12 ?_
    refine lv_if_ne (tgt := 18) hx hb dX4_whyNot_13 rfl (fun c0 => ?_) (fun c0 => ?_)
    · have hp := zif hp c0
      refine lv_lload_n hx hb dX4_whyNot_18 rfl (lv_at hl 1 rfl) ?_
      refine lv_ldc2 (v := (2000 : Int64)) hx hb hown (hts _ q1779) dX4_whyNot_19 ?_
      refine W.lcmp hx hb dX4_whyNot_22 ?_
      refine lv_if_ne (tgt := 44) hx hb dX4_whyNot_23 rfl (fun c0 => ?_) (fun c0 => ?_)
      · have hp := zif hp c0
        refine lv_lload_n hx hb dX4_whyNot_44 rfl (lv_at hl 1 rfl) ?_
        refine lv_lconst (v := (0 : Int64)) hx hb dX4_whyNot_45 rfl ?_
        refine lv_ldc2 (v := (599 : Int64)) hx hb hown (hts _ q1780) dX4_whyNot_46 ?_
        refine z_calli (va_runS (As := [.long x1, .long (0 : Int64), .long (599 : Int64)]) (rest := []) S (mX4_within l Γ th x1 (0 : Int64) (599 : Int64) μ _ hp) (va_cwS 3 hts (lw_S q1516 q1517 q132 q1518) rfl rfl rfl hX4_within ⟨Nat.le_of_ble_eq_true rfl, Nat.le_of_ble_eq_true rfl⟩) hB.preS rfl rfl hl.1 rfl (lv_room (Nat.le_of_ble_eq_true rfl)) dX4_whyNot_49 ⟨Nat.le_refl _, Nat.le_refl _⟩) hB (fun r2 μ1 H locs hp hB => ?_)
        refine lv_if_eq (tgt := 70) hx hb dX4_whyNot_52 rfl (fun c0 => ?_) (fun c0 => ?_)
        · have hp := zit hp c0
          refine lv_lload_n hx hb dX4_whyNot_70 rfl (lv_at hl 1 rfl) ?_
          refine lv_ldc2 (v := (1000 : Int64)) hx hb hown (hts _ q1782) dX4_whyNot_71 ?_
          refine lv_ldc2 (v := (1099 : Int64)) hx hb hown (hts _ q1783) dX4_whyNot_74 ?_
          refine z_calli (va_runS (As := [.long x1, .long (1000 : Int64), .long (1099 : Int64)]) (rest := []) S (mX4_within l Γ th x1 (1000 : Int64) (1099 : Int64) μ1 _ hp) (va_cwS 3 hts (lw_S q1516 q1517 q132 q1518) rfl rfl rfl hX4_within ⟨Nat.le_of_ble_eq_true rfl, Nat.le_of_ble_eq_true rfl⟩) hB.preS rfl rfl hl.1 rfl (lv_room (Nat.le_of_ble_eq_true rfl)) dX4_whyNot_77 ⟨Nat.le_refl _, Nat.le_refl _⟩) hB (fun r4 μ3 H locs hp hB => ?_)
          refine lv_if_eq (tgt := 93) hx hb dX4_whyNot_80 rfl (fun c0 => ?_) (fun c0 => ?_)
          · have hp := zit hp c0
            refine lv_lload_n hx hb dX4_whyNot_93 rfl (lv_at hl 1 rfl) ?_
            refine lv_ldc2 (v := (10000 : Int64)) hx hb hown (hts _ q1784) dX4_whyNot_94 ?_
            refine lv_ldc2 (v := (15999 : Int64)) hx hb hown (hts _ q1785) dX4_whyNot_97 ?_
            refine z_calli (va_runS (As := [.long x1, .long (10000 : Int64), .long (15999 : Int64)]) (rest := []) S (mX4_within l Γ th x1 (10000 : Int64) (15999 : Int64) μ3 _ hp) (va_cwS 3 hts (lw_S q1516 q1517 q132 q1518) rfl rfl rfl hX4_within ⟨Nat.le_of_ble_eq_true rfl, Nat.le_of_ble_eq_true rfl⟩) hB.preS rfl rfl hl.1 rfl (lv_room (Nat.le_of_ble_eq_true rfl)) dX4_whyNot_100 ⟨Nat.le_refl _, Nat.le_refl _⟩) hB (fun r6 μ5 H locs hp hB => ?_)
            refine lv_if_eq (tgt := 126) hx hb dX4_whyNot_103 rfl (fun c0 => ?_) (fun c0 => ?_)
            · have hp := zit hp c0
              refine lv_iconst (v := (nI 1)) hx hb dX4_whyNot_126 rfl ?_
              exact zret_i X hB hp dX4_whyNot_127
            · have hp := zif hp c0
              refine lv_aload_n hx hb dX4_whyNot_106 rfl (lv_at hl 0 rfl) ?_
              refine lv_lload_n hx hb dX4_whyNot_107 rfl (lv_at hl 1 rfl) ?_
              refine lv_ldc2 (v := (10000 : Int64)) hx hb hown (hts _ q1784) dX4_whyNot_108 ?_
              refine lv_lsub hx hb dX4_whyNot_111 ?_
              refine lv_ldc2 (v := (1000 : Int64)) hx hb hown (hts _ q1782) dX4_whyNot_112 ?_
              refine lv_ldiv hx hb dX4_whyNot_115 (by decide) ?_
              refine z_calli (va_runV (As := [.long ((x1 - (10000 : Int64)) / (1000 : Int64))]) (rest := []) S (mX4_isTenant l Γ th ((x1 - (10000 : Int64)) / (1000 : Int64)) μ5 _ hp) (cwV 1 hts (lw_V q1633 q1635 qs81 q132 q1636) rfl rfl rfl hX4_isTenant ⟨Nat.le_of_ble_eq_true rfl, Nat.le_of_ble_eq_true rfl⟩) (hB.preV (tT hB) rfl rfl) rfl rfl hl.1 rfl (lv_room (Nat.le_of_ble_eq_true rfl)) dX4_whyNot_116 ⟨Nat.le_refl _, Nat.le_refl _⟩) hB (fun r8 μ7 H locs hp hB => ?_)
              refine lv_if_eq (tgt := 126) hx hb dX4_whyNot_119 rfl (fun c0 => ?_) (fun c0 => ?_)
              · have hp := zit hp c0
                refine lv_iconst (v := (nI 1)) hx hb dX4_whyNot_126 rfl ?_
                exact zret_i X hB hp dX4_whyNot_127
              · have hp := zif hp c0
                refine lv_iconst (v := (nI 0)) hx hb dX4_whyNot_122 rfl ?_
                refine lv_goto (tgt := 127) hx hb dX4_whyNot_123 rfl ?_
                exact zret_i X hB hp dX4_whyNot_127
          · have hp := zif hp c0
            refine lv_aload_n hx hb dX4_whyNot_83 rfl (lv_at hl 0 rfl) ?_
            refine lv_lload_n hx hb dX4_whyNot_84 rfl (lv_at hl 1 rfl) ?_
            refine lv_ldc2 (v := (1000 : Int64)) hx hb hown (hts _ q1782) dX4_whyNot_85 ?_
            refine lv_lsub hx hb dX4_whyNot_88 ?_
            refine z_calli (va_runV (As := [.long (x1 - (1000 : Int64))]) (rest := []) S (mX4_whyLeave l Γ th (x1 - (1000 : Int64)) μ3 _ hp) (cwV 1 hts (lw_V q1727 q1729 qs93 q132 q1730) rfl rfl rfl hX4_whyLeave ⟨Nat.le_of_ble_eq_true rfl, Nat.le_of_ble_eq_true rfl⟩) (hB.preV (tT hB) rfl rfl) rfl rfl hl.1 rfl (lv_room (Nat.le_of_ble_eq_true rfl)) dX4_whyNot_89 ⟨Nat.le_refl _, Nat.le_refl _⟩) hB (fun r10 μ9 H locs hp hB => ?_)
            exact zret_i X hB hp dX4_whyNot_92
        · have hp := zif hp c0
          refine lv_aload_n hx hb dX4_whyNot_55 rfl (lv_at hl 0 rfl) ?_
          refine lv_lload_n hx hb dX4_whyNot_56 rfl (lv_at hl 1 rfl) ?_
          refine lv_ldc2 (v := (100 : Int64)) hx hb hown (hts _ q1781) dX4_whyNot_57 ?_
          refine lv_ldiv hx hb dX4_whyNot_60 (by decide) ?_
          refine lv_lload_n hx hb dX4_whyNot_61 rfl (lv_at hl 1 rfl) ?_
          refine lv_ldc2 (v := (100 : Int64)) hx hb hown (hts _ q1781) dX4_whyNot_62 ?_
          refine lv_lrem hx hb dX4_whyNot_65 (by decide) ?_
          refine z_calli (va_runV (As := [.long (x1 / (100 : Int64)), .long (x1 - x1 / (100 : Int64) * (100 : Int64))]) (rest := []) S (mX4_whyMove l Γ th (x1 / (100 : Int64)) (x1 - x1 / (100 : Int64) * (100 : Int64)) μ1 _ hp) (cwV 2 hts (lw_V q1719 q1721 qs92 q132 q1722) rfl rfl rfl hX4_whyMove ⟨Nat.le_of_ble_eq_true rfl, Nat.le_of_ble_eq_true rfl⟩) (hB.preV (tT hB) rfl rfl) rfl rfl hl.1 rfl (lv_room (Nat.le_of_ble_eq_true rfl)) dX4_whyNot_66 ⟨Nat.le_refl _, Nat.le_refl _⟩) hB (fun r12 μ11 H locs hp hB => ?_)
          exact zret_i X hB hp dX4_whyNot_69
      · have hp := zit hp c0
        refine lv_aload_n hx hb dX4_whyNot_26 rfl (lv_at hl 0 rfl) ?_
        refine g_getr S hB (tT hB) rfl (T := TX4) (N := 38) (C := RX4) rfl in_X4 1 (by decide) (by decide) q1393 (fun _ h9 => h9) (fun _ => rfl) (tA hB 0 rfl).1 dX4_whyNot_27 ?_
        refine lv_bipush (v := (nI 20)) hx hb dX4_whyNot_30 rfl ?_
        obtain ⟨hi, hp⟩ := hp
        refine g_iald S hB (tA hB 0 rfl).2 hi dX4_whyNot_32 ?_
        refine lv_bipush (v := (nI 8)) hx hb dX4_whyNot_33 rfl ?_
        refine lv_icmp_ne (tgt := 42) hx hb dX4_whyNot_35 rfl (fun c0 => ?_) (fun c0 => ?_)
        · have hp := zif hp c0
          refine lv_iconst (v := (nI 0)) hx hb dX4_whyNot_42 rfl ?_
          exact zret_i X hB hp dX4_whyNot_43
        · have hp := zit hp c0
          refine lv_iconst (v := (nI 2)) hx hb dX4_whyNot_38 rfl ?_
          refine lv_goto (tgt := 43) hx hb dX4_whyNot_39 rfl ?_
          exact zret_i X hB hp dX4_whyNot_43
    · have hp := zit hp c0
      refine lv_iconst (v := (nI 0)) hx hb dX4_whyNot_16 rfl ?_
      exact zret_i X hB hp dX4_whyNot_17
def pX4_isAgain_2 (th : Nat) (Q : zM → Prop) : Nat → Int32 → zM → Prop
  | 0, _, _ => False
  | n + 1, x1, μ => (if (nI 23) ≤ x1 then Q μ else (vp_in x1 23 ∧ (vp_in ((nI 20) + x1) 3594 ∧ zpI μ (th + 1) ((nI 20) + x1).toNatClampNeg (zI μ (th + 7) x1.toNatClampNeg) fun μ1 => pX4_isAgain_2 th Q n (x1 + (nI 1)) μ1)))
set_option maxHeartbeats 4000000 in
set_option maxRecDepth 100000 in
theorem wX4_isAgain_2 {p : Program} {l : Launch} {e : Env} {s : State} {m : MethodId} {args : Array Value} {below : List Frame} {meth : Method} {c : Code} {Γ : zG} {μ0 : zM} {Q : zM → Prop} (X : zCx p m c cX4_isAgain 2 s args RX4 meth none) (th : Nat) : ∀ (n : Nat) (x1 : Int32) (μ : zM) (H : Heap) (locs : List Loc) (ls : Array Slot), pX4_isAgain_2 th Q n x1 μ → zB Γ (tSh th) (zA μ0) μ0 s μ H locs → lv_has ls 2 [(0, .ref th), (1, .int x1)] → W p l e ({ frames := 0, cells := 0, slots := 0, locals := 0 } : Room) s m args below meth c H locs 0 0 (MQ below (va_Qv Q (zPost Γ (tSh th) μ0) (zA μ0)) args s 0 0 (zA μ0)) (F0 m 2 ls []) := by
  have S := X.1
  obtain ⟨hx, hb, hml, hown, hts⟩ := X.1
  intro n
  induction n with
  | zero =>
    intro x1 μ H locs ls hp
    exact hp.elim
  | succ n ih =>
    intro x1 μ H locs ls hp hB hl
    unfold pX4_isAgain_2 at hp
    refine lv_iload_n hx hb dX4_isAgain_2 rfl (lv_at hl 1 rfl) ?_
    refine lv_bipush (v := (nI 23)) hx hb dX4_isAgain_3 rfl ?_
    refine lv_icmp_ge (tgt := 29) hx hb dX4_isAgain_5 rfl (fun c0 => ?_) (fun c0 => ?_)
    · have hp := zit hp c0
      exact zret_v X hB hp dX4_isAgain_29
    · have hp := zif hp c0
      refine lv_aload_n hx hb dX4_isAgain_8 rfl (lv_at hl 0 rfl) ?_
      refine g_getr S hB (tT hB) rfl (T := TX4) (N := 38) (C := RX4) rfl in_X4 1 (by decide) (by decide) q1393 (fun _ h9 => h9) (fun _ => rfl) (tA hB 0 rfl).1 dX4_isAgain_9 ?_
      refine lv_bipush (v := (nI 20)) hx hb dX4_isAgain_12 rfl ?_
      refine lv_iload_n hx hb dX4_isAgain_14 rfl (lv_at hl 1 rfl) ?_
      refine lv_iadd hx hb dX4_isAgain_15 ?_
      refine lv_aload_n hx hb dX4_isAgain_16 rfl (lv_at hl 0 rfl) ?_
      refine g_getr S hB (tT hB) rfl (T := TX4) (N := 38) (C := RX4) rfl in_X4 18 (by decide) (by decide) q1410 (fun _ h9 => h9) (fun _ => rfl) (tA hB 6 rfl).1 dX4_isAgain_17 ?_
      refine lv_iload_n hx hb dX4_isAgain_20 rfl (lv_at hl 1 rfl) ?_
      obtain ⟨hi, hp⟩ := hp
      refine g_iald S hB (tA hB 6 rfl).2 hi dX4_isAgain_21 ?_
      obtain ⟨hi, hp⟩ := hp
      obtain ⟨μ1, eμ1, hp⟩ := zpI_e hp
      refine g_iast S hB (tA hB 0 rfl).2 hi dX4_isAgain_22 (fun H locs hB => ?_)
      rw [← eμ1] at hB
      refine lv_iinc (v := (x1 + (nI 1))) (lv' := [(1, .int (x1 + (nI 1))), (0, .ref th)]) hx hb dX4_isAgain_23 hl (k := 1) rfl rfl (by decide) rfl (fun ls hl => ?_)
      refine lv_goto (tgt := 2) hx hb dX4_isAgain_26 rfl ?_
      exact ih (x1 + (nI 1)) μ1 _ _ _ hp hB (lv_sub hl [1, 0] rfl)
def pX4_isAgain (th : Nat) (μ : zM) (Q : zM → Prop) : Prop := ∃ k1, pX4_isAgain_2 th Q k1 (nI 0) μ
theorem hX4_isAgain : yX4_isAgain.cls = "SunkTowerModel" ∧ yX4_isAgain.cls ≠ "java/lang/invoke/MethodHandle" ∧ yX4_isAgain.cls ≠ "java/lang/invoke/VarHandle" ∧ (parseMethodDescriptor yX4_isAgain.desc).map (fun d => d.parameters.length) = some 0 := by decide +kernel
set_option maxHeartbeats 4000000 in
set_option maxRecDepth 100000 in
theorem mX4_isAgain (l : Launch) (Γ : zG) (th : Nat) (μ : zM) (Q : zM → Prop) (hp : pX4_isAgain th μ Q) : Met l yX4_isAgain (ws_ yX4_isAgain cX4_isAgain 2 none) ({ frames := 0, cells := 0, slots := 0, locals := 0 } : Room) (va_Pc [.ref th] (zPre Γ (tSh th) μ)) (va_Qv Q (zPost Γ (tSh th) μ) (zA μ)) 0 0 (zA μ) := by
  refine zstart (by decide) (Nat.le_of_ble_eq_true rfl) ?_
  intro p e s m below meth c ls X hnm hB hl
  have X : zCx p m c cX4_isAgain 2 s [.ref th].toArray RX4 meth none := X
  have S := X.1
  obtain ⟨hx, hb, hml, hown, hts⟩ := X.1
  have hl : lv_has ls 2 [(0, .ref th)] := hl
  unfold pX4_isAgain at hp
  refine lv_iconst (v := (nI 0)) hx hb dX4_isAgain_0 rfl ?_
  refine lv_istore_n (lv' := [(1, .int (nI 0)), (0, .ref th)]) hx hb dX4_isAgain_1 rfl hl (by decide) rfl (fun ls hl => ?_)
  obtain ⟨n1, hp⟩ := hp
  exact wX4_isAgain_2 X th n1 (nI 0) μ _ _ _ hp hB (lv_sub hl [1, 0] rfl)
def pX4_draw (th : Nat) (x1 : Int32) (μ : zM) (Q : Int32 → zM → Prop) : Prop := (zpI μ th 22 (((nI 1103515245) * (zI μ th 22)) + (nI 12345)) fun μ1 => (¬ x1 = 0 ∧ Q ((((zI μ1 th 22).toUInt32 >>> ((nI 16).toUInt32 &&& Int32.toUInt32 31)).toInt32) - (((zI μ1 th 22).toUInt32 >>> ((nI 16).toUInt32 &&& Int32.toUInt32 31)).toInt32) / x1 * x1) μ1))
theorem hX4_draw : yX4_draw.cls = "SunkTowerModel" ∧ yX4_draw.cls ≠ "java/lang/invoke/MethodHandle" ∧ yX4_draw.cls ≠ "java/lang/invoke/VarHandle" ∧ (parseMethodDescriptor yX4_draw.desc).map (fun d => d.parameters.length) = some 1 := by decide +kernel
set_option maxHeartbeats 4000000 in
set_option maxRecDepth 100000 in
theorem mX4_draw (l : Launch) (Γ : zG) (th : Nat) (x1 : Int32) (μ : zM) (Q : Int32 → zM → Prop) (hp : pX4_draw th x1 μ Q) : Met l yX4_draw (ws_ yX4_draw cX4_draw 2 (some .int)) ({ frames := 0, cells := 0, slots := 0, locals := 0 } : Room) (va_Pc [.ref th, .int x1] (zPre Γ (tSh th) μ)) (va_Qi Q (zPost Γ (tSh th) μ) (zA μ)) 0 0 (zA μ) := by
  refine zstart (by decide) (Nat.le_of_ble_eq_true rfl) ?_
  intro p e s m below meth c ls X hnm hB hl
  have X : zCx p m c cX4_draw 2 s [.ref th, .int x1].toArray RX4 meth (some .int) := X
  have S := X.1
  obtain ⟨hx, hb, hml, hown, hts⟩ := X.1
  have hl : lv_has ls 2 [(0, .ref th), (1, .int x1)] := hl
  unfold pX4_draw at hp
  refine lv_aload_n hx hb dX4_draw_0 rfl (lv_at hl 0 rfl) ?_
  refine lv_ldcw (v := (nI 1103515245)) hx hb hown (hts _ q1811) dX4_draw_1 ?_
  refine lv_aload_n hx hb dX4_draw_4 rfl (lv_at hl 0 rfl) ?_
  refine g_get S hB (tT hB) rfl (T := TX4) (N := 38) (C := RX4) rfl in_X4 22 (by decide) (by decide) q1414 (fun _ h9 => h9) (v := .int (zI μ th 22)) rfl dX4_draw_5 ?_
  refine lv_imul hx hb dX4_draw_8 ?_
  refine lv_sipush (v := (nI 12345)) hx hb dX4_draw_9 rfl ?_
  refine lv_iadd hx hb dX4_draw_12 ?_
  obtain ⟨μ1, eμ1, hp⟩ := zpI_e hp
  refine g_putI S hB (tT hB) rfl (T := TX4) (N := 38) (C := RX4) rfl in_X4 22 (by decide) (by decide) (x := (((nI 1103515245) * (zI μ th 22)) + (nI 12345))) tyX4 tyX4_ok nmX4 q1414 (fun _ h9 => h9) rfl (ty := .int) (by decide +kernel) rfl rfl (fun _ _ => rfl) dX4_draw_13 (fun H locs hB => ?_)
  rw [← eμ1] at hB
  refine lv_aload_n hx hb dX4_draw_16 rfl (lv_at hl 0 rfl) ?_
  refine g_get S hB (tT hB) rfl (T := TX4) (N := 38) (C := RX4) rfl in_X4 22 (by decide) (by decide) q1414 (fun _ h9 => h9) (v := .int (zI μ1 th 22)) rfl dX4_draw_17 ?_
  refine lv_bipush (v := (nI 16)) hx hb dX4_draw_20 rfl ?_
  refine lv_iushr hx hb dX4_draw_22 rfl ?_
  refine lv_iload_n hx hb dX4_draw_23 rfl (lv_at hl 1 rfl) ?_
  obtain ⟨g0, hp⟩ := hp
  refine lv_irem hx hb dX4_draw_24 g0 ?_
  exact zret_i X hB hp dX4_draw_25
def pX4_isMay (th : Nat) (x1 : Int32) (μ : zM) (Q : Int32 → zM → Prop) : Prop := (vp_in (nI 42) 3594 ∧ (if (((zI μ (th + 1) (nI 42).toNatClampNeg) + x1) - ((zI μ (th + 1) (nI 42).toNatClampNeg) + x1) / (nI 12) * (nI 12)) = (nI 4) then Q (nI 1) μ else Q (nI 0) μ))
theorem hX4_isMay : yX4_isMay.cls = "SunkTowerModel" ∧ yX4_isMay.cls ≠ "java/lang/invoke/MethodHandle" ∧ yX4_isMay.cls ≠ "java/lang/invoke/VarHandle" ∧ (parseMethodDescriptor yX4_isMay.desc).map (fun d => d.parameters.length) = some 1 := by decide +kernel
set_option maxHeartbeats 4000000 in
set_option maxRecDepth 100000 in
theorem mX4_isMay (l : Launch) (Γ : zG) (th : Nat) (x1 : Int32) (μ : zM) (Q : Int32 → zM → Prop) (hp : pX4_isMay th x1 μ Q) : Met l yX4_isMay (ws_ yX4_isMay cX4_isMay 2 (some .boolean)) ({ frames := 0, cells := 0, slots := 0, locals := 0 } : Room) (va_Pc [.ref th, .int x1] (zPre Γ (tSh th) μ)) (va_Qi Q (zPost Γ (tSh th) μ) (zA μ)) 0 0 (zA μ) := by
  refine zstart (by decide) (Nat.le_of_ble_eq_true rfl) ?_
  intro p e s m below meth c ls X hnm hB hl
  have X : zCx p m c cX4_isMay 2 s [.ref th, .int x1].toArray RX4 meth (some .boolean) := X
  have S := X.1
  obtain ⟨hx, hb, hml, hown, hts⟩ := X.1
  have hl : lv_has ls 2 [(0, .ref th), (1, .int x1)] := hl
  unfold pX4_isMay at hp
  refine lv_aload_n hx hb dX4_isMay_0 rfl (lv_at hl 0 rfl) ?_
  refine g_getr S hB (tT hB) rfl (T := TX4) (N := 38) (C := RX4) rfl in_X4 1 (by decide) (by decide) q1393 (fun _ h9 => h9) (fun _ => rfl) (tA hB 0 rfl).1 dX4_isMay_1 ?_
  refine lv_bipush (v := (nI 42)) hx hb dX4_isMay_4 rfl ?_
  obtain ⟨hi, hp⟩ := hp
  refine g_iald S hB (tA hB 0 rfl).2 hi dX4_isMay_6 ?_
  refine lv_iload_n hx hb dX4_isMay_7 rfl (lv_at hl 1 rfl) ?_
  refine lv_iadd hx hb dX4_isMay_8 ?_
  refine lv_bipush (v := (nI 12)) hx hb dX4_isMay_9 rfl ?_
  refine lv_irem hx hb dX4_isMay_11 (by decide) ?_
  refine lv_iconst (v := (nI 4)) hx hb dX4_isMay_12 rfl ?_
  refine lv_icmp_ne (tgt := 20) hx hb dX4_isMay_13 rfl (fun c0 => ?_) (fun c0 => ?_)
  · have hp := zif hp c0
    refine lv_iconst (v := (nI 0)) hx hb dX4_isMay_20 rfl ?_
    exact zret_z X hB rfl hp dX4_isMay_21
  · have hp := zit hp c0
    refine lv_iconst (v := (nI 1)) hx hb dX4_isMay_16 rfl ?_
    refine lv_goto (tgt := 21) hx hb dX4_isMay_17 rfl ?_
    exact zret_z X hB rfl hp dX4_isMay_21
def pX4_whereNow (th : Nat) (x1 : Int32) (μ : zM) (Q : Int32 → zM → Prop) : Prop := (vp_in ((nI 35) + x1) 3594 ∧ (if (zI μ (th + 1) ((nI 35) + x1).toNatClampNeg) = (-1 : Int32) then Q (nI 8) μ else (vp_in ((nI 35) + x1) 3594 ∧ Q (zI μ (th + 1) ((nI 35) + x1).toNatClampNeg) μ)))
theorem hX4_whereNow : yX4_whereNow.cls = "SunkTowerModel" ∧ yX4_whereNow.cls ≠ "java/lang/invoke/MethodHandle" ∧ yX4_whereNow.cls ≠ "java/lang/invoke/VarHandle" ∧ (parseMethodDescriptor yX4_whereNow.desc).map (fun d => d.parameters.length) = some 1 := by decide +kernel
set_option maxHeartbeats 4000000 in
set_option maxRecDepth 100000 in
theorem mX4_whereNow (l : Launch) (Γ : zG) (th : Nat) (x1 : Int32) (μ : zM) (Q : Int32 → zM → Prop) (hp : pX4_whereNow th x1 μ Q) : Met l yX4_whereNow (ws_ yX4_whereNow cX4_whereNow 2 (some .int)) ({ frames := 0, cells := 0, slots := 0, locals := 0 } : Room) (va_Pc [.ref th, .int x1] (zPre Γ (tSh th) μ)) (va_Qi Q (zPost Γ (tSh th) μ) (zA μ)) 0 0 (zA μ) := by
  refine zstart (by decide) (Nat.le_of_ble_eq_true rfl) ?_
  intro p e s m below meth c ls X hnm hB hl
  have X : zCx p m c cX4_whereNow 2 s [.ref th, .int x1].toArray RX4 meth (some .int) := X
  have S := X.1
  obtain ⟨hx, hb, hml, hown, hts⟩ := X.1
  have hl : lv_has ls 2 [(0, .ref th), (1, .int x1)] := hl
  unfold pX4_whereNow at hp
  refine lv_aload_n hx hb dX4_whereNow_0 rfl (lv_at hl 0 rfl) ?_
  refine g_getr S hB (tT hB) rfl (T := TX4) (N := 38) (C := RX4) rfl in_X4 1 (by decide) (by decide) q1393 (fun _ h9 => h9) (fun _ => rfl) (tA hB 0 rfl).1 dX4_whereNow_1 ?_
  refine lv_bipush (v := (nI 35)) hx hb dX4_whereNow_4 rfl ?_
  refine lv_iload_n hx hb dX4_whereNow_6 rfl (lv_at hl 1 rfl) ?_
  refine lv_iadd hx hb dX4_whereNow_7 ?_
  obtain ⟨hi, hp⟩ := hp
  refine g_iald S hB (tA hB 0 rfl).2 hi dX4_whereNow_8 ?_
  refine lv_iconst (v := (-1 : Int32)) hx hb dX4_whereNow_9 rfl ?_
  refine lv_icmp_ne (tgt := 18) hx hb dX4_whereNow_10 rfl (fun c0 => ?_) (fun c0 => ?_)
  · have hp := zif hp c0
    refine lv_aload_n hx hb dX4_whereNow_18 rfl (lv_at hl 0 rfl) ?_
    refine g_getr S hB (tT hB) rfl (T := TX4) (N := 38) (C := RX4) rfl in_X4 1 (by decide) (by decide) q1393 (fun _ h9 => h9) (fun _ => rfl) (tA hB 0 rfl).1 dX4_whereNow_19 ?_
    refine lv_bipush (v := (nI 35)) hx hb dX4_whereNow_22 rfl ?_
    refine lv_iload_n hx hb dX4_whereNow_24 rfl (lv_at hl 1 rfl) ?_
    refine lv_iadd hx hb dX4_whereNow_25 ?_
    obtain ⟨hi, hp⟩ := hp
    refine g_iald S hB (tA hB 0 rfl).2 hi dX4_whereNow_26 ?_
    exact zret_i X hB hp dX4_whereNow_27
  · have hp := zit hp c0
    refine lv_bipush (v := (nI 8)) hx hb dX4_whereNow_13 rfl ?_
    refine lv_goto (tgt := 27) hx hb dX4_whereNow_15 rfl ?_
    exact zret_i X hB hp dX4_whereNow_27
def pX4_noMarks_46 (th : Nat) (x1 : Int32) (Q : Int32 → zM → Prop) : Nat → Int32 → Int32 → zM → Prop
  | 0, _, _, _ => False
  | n + 1, x3, x4, μ => (if x3 ≤ x4 then Q (nI 0) μ else (if (x4 - x4 / (nI 2) * (nI 2)) = 0 then (vp_in (((nI 40) * x1) + x4) 160 ∧ (pX4_within th (zJ μ (th + 18) (((nI 40) * x1) + x4).toNatClampNeg) (1 : Int64) (60 : Int64) μ fun r4 μ3 => (if r4 = 0 then Q (-3 : Int32) μ3 else pX4_noMarks_46 th x1 Q n x3 (x4 + (nI 1)) μ3))) else (vp_in (((nI 40) * x1) + x4) 160 ∧ (pX4_within th (zJ μ (th + 18) (((nI 40) * x1) + x4).toNatClampNeg) (0 : Int64) (99999 : Int64) μ fun r2 μ1 => (if r2 = 0 then Q (-3 : Int32) μ1 else pX4_noMarks_46 th x1 Q n x3 (x4 + (nI 1)) μ1)))))
set_option maxHeartbeats 4000000 in
set_option maxRecDepth 100000 in
theorem wX4_noMarks_46 {p : Program} {l : Launch} {e : Env} {s : State} {m : MethodId} {args : Array Value} {below : List Frame} {meth : Method} {c : Code} {Γ : zG} {μ0 : zM} {Q : Int32 → zM → Prop} (X : zCx p m c cX4_noMarks 5 s args RX4 meth (some .int)) (th : Nat) (x1 : Int32) : ∀ (n : Nat) (x3 : Int32) (x4 : Int32) (μ : zM) (H : Heap) (locs : List Loc) (ls : Array Slot), pX4_noMarks_46 th x1 Q n x3 x4 μ → zB Γ (tSh th) (zA μ0) μ0 s μ H locs → lv_has ls 5 [(0, .ref th), (1, .int x1), (3, .int x3), (4, .int x4)] → W p l e ({ frames := 2, cells := 0, slots := 0, locals := 46 } : Room) s m args below meth c H locs 0 0 (MQ below (va_Qi Q (zPost Γ (tSh th) μ0) (zA μ0)) args s 0 0 (zA μ0)) (F0 m 46 ls []) := by
  have S := X.1
  obtain ⟨hx, hb, hml, hown, hts⟩ := X.1
  intro n
  induction n with
  | zero =>
    intro x3 x4 μ H locs ls hp
    exact hp.elim
  | succ n ih =>
    intro x3 x4 μ H locs ls hp hB hl
    unfold pX4_noMarks_46 at hp
    refine lv_iload hx hb dX4_noMarks_46 (lv_at hl 3 rfl) ?_
    refine lv_iload_n hx hb dX4_noMarks_48 rfl (lv_at hl 2 rfl) ?_
    refine lv_icmp_ge (tgt := 115) hx hb dX4_noMarks_49 rfl (fun c0 => ?_) (fun c0 => ?_)
    · have hp := zit hp c0
      refine lv_iconst (v := (nI 0)) hx hb dX4_noMarks_115 rfl ?_
      exact zret_i X hB hp dX4_noMarks_116
    · have hp := zif hp c0
      refine lv_iload hx hb dX4_noMarks_52 (lv_at hl 3 rfl) ?_
      refine lv_iconst (v := (nI 2)) hx hb dX4_noMarks_54 rfl ?_
      refine lv_irem hx hb dX4_noMarks_55 (by decide) ?_
      refine lv_if_ne (tgt := 84) hx hb dX4_noMarks_56 rfl (fun c0 => ?_) (fun c0 => ?_)
      · have hp := zif hp c0
        refine lv_aload_n hx hb dX4_noMarks_84 rfl (lv_at hl 0 rfl) ?_
        refine g_getr S hB (tT hB) rfl (T := TX4) (N := 38) (C := RX4) rfl in_X4 37 (by decide) (by decide) q1429 (fun _ h9 => h9) (fun _ => rfl) (tA hB 17 rfl).1 dX4_noMarks_85 ?_
        refine lv_bipush (v := (nI 40)) hx hb dX4_noMarks_88 rfl ?_
        refine lv_iload_n hx hb dX4_noMarks_90 rfl (lv_at hl 1 rfl) ?_
        refine lv_imul hx hb dX4_noMarks_91 ?_
        refine lv_iload hx hb dX4_noMarks_92 (lv_at hl 3 rfl) ?_
        refine lv_iadd hx hb dX4_noMarks_94 ?_
        obtain ⟨hi, hp⟩ := hp
        refine g_lald S hB (tA hB 17 rfl).2 hi dX4_noMarks_95 ?_
        refine lv_lconst (v := (0 : Int64)) hx hb dX4_noMarks_96 rfl ?_
        refine lv_ldc2 (v := (99999 : Int64)) hx hb hown (hts _ q1962) dX4_noMarks_97 ?_
        refine z_calli (va_runS (As := [.long (zJ μ (th + 18) (((nI 40) * x1) + x4).toNatClampNeg), .long (0 : Int64), .long (99999 : Int64)]) (rest := []) S (mX4_within l Γ th (zJ μ (th + 18) (((nI 40) * x1) + x4).toNatClampNeg) (0 : Int64) (99999 : Int64) μ _ hp) (va_cwS 3 hts (lw_S q1516 q1517 q132 q1518) rfl rfl rfl hX4_within ⟨Nat.le_of_ble_eq_true rfl, Nat.le_of_ble_eq_true rfl⟩) hB.preS rfl rfl hl.1 rfl (lv_room (Nat.le_of_ble_eq_true rfl)) dX4_noMarks_100 ⟨Nat.le_refl _, Nat.le_refl _⟩) hB (fun r2 μ1 H locs hp hB => ?_)
        refine lv_if_ne (tgt := 109) hx hb dX4_noMarks_103 rfl (fun c0 => ?_) (fun c0 => ?_)
        · have hp := zif hp c0
          refine lv_iinc (v := (x4 + (nI 1))) (lv' := [(4, .int (x4 + (nI 1))), (0, .ref th), (1, .int x1), (3, .int x3)]) hx hb dX4_noMarks_109 hl (k := 3) rfl rfl (by decide) rfl (fun ls hl => ?_)
          refine lv_goto (tgt := 46) hx hb dX4_noMarks_112 rfl ?_
          exact ih x3 (x4 + (nI 1)) μ1 _ _ _ hp hB (lv_sub hl [1, 2, 3, 0] rfl)
        · have hp := zit hp c0
          refine lv_bipush (v := (-3 : Int32)) hx hb dX4_noMarks_106 rfl ?_
          exact zret_i X hB hp dX4_noMarks_108
      · have hp := zit hp c0
        refine lv_aload_n hx hb dX4_noMarks_59 rfl (lv_at hl 0 rfl) ?_
        refine g_getr S hB (tT hB) rfl (T := TX4) (N := 38) (C := RX4) rfl in_X4 37 (by decide) (by decide) q1429 (fun _ h9 => h9) (fun _ => rfl) (tA hB 17 rfl).1 dX4_noMarks_60 ?_
        refine lv_bipush (v := (nI 40)) hx hb dX4_noMarks_63 rfl ?_
        refine lv_iload_n hx hb dX4_noMarks_65 rfl (lv_at hl 1 rfl) ?_
        refine lv_imul hx hb dX4_noMarks_66 ?_
        refine lv_iload hx hb dX4_noMarks_67 (lv_at hl 3 rfl) ?_
        refine lv_iadd hx hb dX4_noMarks_69 ?_
        obtain ⟨hi, hp⟩ := hp
        refine g_lald S hB (tA hB 17 rfl).2 hi dX4_noMarks_70 ?_
        refine lv_lconst (v := (1 : Int64)) hx hb dX4_noMarks_71 rfl ?_
        refine lv_ldc2 (v := (60 : Int64)) hx hb hown (hts _ q1871) dX4_noMarks_72 ?_
        refine z_calli (va_runS (As := [.long (zJ μ (th + 18) (((nI 40) * x1) + x4).toNatClampNeg), .long (1 : Int64), .long (60 : Int64)]) (rest := []) S (mX4_within l Γ th (zJ μ (th + 18) (((nI 40) * x1) + x4).toNatClampNeg) (1 : Int64) (60 : Int64) μ _ hp) (va_cwS 3 hts (lw_S q1516 q1517 q132 q1518) rfl rfl rfl hX4_within ⟨Nat.le_of_ble_eq_true rfl, Nat.le_of_ble_eq_true rfl⟩) hB.preS rfl rfl hl.1 rfl (lv_room (Nat.le_of_ble_eq_true rfl)) dX4_noMarks_75 ⟨Nat.le_refl _, Nat.le_refl _⟩) hB (fun r4 μ3 H locs hp hB => ?_)
        refine lv_if_ne (tgt := 109) hx hb dX4_noMarks_78 rfl (fun c0 => ?_) (fun c0 => ?_)
        · have hp := zif hp c0
          refine lv_iinc (v := (x4 + (nI 1))) (lv' := [(4, .int (x4 + (nI 1))), (0, .ref th), (1, .int x1), (3, .int x3)]) hx hb dX4_noMarks_109 hl (k := 3) rfl rfl (by decide) rfl (fun ls hl => ?_)
          refine lv_goto (tgt := 46) hx hb dX4_noMarks_112 rfl ?_
          exact ih x3 (x4 + (nI 1)) μ3 _ _ _ hp hB (lv_sub hl [1, 2, 3, 0] rfl)
        · have hp := zit hp c0
          refine lv_goto (tgt := 106) hx hb dX4_noMarks_81 rfl ?_
          refine lv_bipush (v := (-3 : Int32)) hx hb dX4_noMarks_106 rfl ?_
          exact zret_i X hB hp dX4_noMarks_108
def pX4_noMarks (th : Nat) (x1 : Int32) (μ : zM) (Q : Int32 → zM → Prop) : Prop := (pX4_noTray th x1 μ fun r2 μ1 => (if r2 = 0 then (vp_in x1 4 ∧ (if ((zI μ1 (th + 17) x1.toNatClampNeg) - (zI μ1 (th + 17) x1.toNatClampNeg) / (nI 2) * (nI 2)) = (nI 1) then Q (-4 : Int32) μ1 else (pX4_within th ((zI μ1 (th + 17) x1.toNatClampNeg).toInt64) (2 : Int64) (16 : Int64) μ1 fun r4 μ3 => (if r4 = 0 then Q (-4 : Int32) μ3 else ∃ k1, pX4_noMarks_46 th x1 Q k1 (zI μ1 (th + 17) x1.toNatClampNeg) (nI 0) μ3)))) else Q r2 μ1))
theorem hX4_noMarks : yX4_noMarks.cls = "SunkTowerModel" ∧ yX4_noMarks.cls ≠ "java/lang/invoke/MethodHandle" ∧ yX4_noMarks.cls ≠ "java/lang/invoke/VarHandle" ∧ (parseMethodDescriptor yX4_noMarks.desc).map (fun d => d.parameters.length) = some 1 := by decide +kernel
set_option maxHeartbeats 4000000 in
set_option maxRecDepth 100000 in
theorem mX4_noMarks (l : Launch) (Γ : zG) (th : Nat) (x1 : Int32) (μ : zM) (Q : Int32 → zM → Prop) (hp : pX4_noMarks th x1 μ Q) : Met l yX4_noMarks (ws_ yX4_noMarks cX4_noMarks 5 (some .int)) ({ frames := 2, cells := 0, slots := 0, locals := 46 } : Room) (va_Pc [.ref th, .int x1] (zPre Γ (tSh th) μ)) (va_Qi Q (zPost Γ (tSh th) μ) (zA μ)) 0 0 (zA μ) := by
  refine zstart (by decide) (Nat.le_of_ble_eq_true rfl) ?_
  intro p e s m below meth c ls X hnm hB hl
  have X : zCx p m c cX4_noMarks 5 s [.ref th, .int x1].toArray RX4 meth (some .int) := X
  have S := X.1
  obtain ⟨hx, hb, hml, hown, hts⟩ := X.1
  have hl : lv_has ls 5 [(0, .ref th), (1, .int x1)] := hl
  unfold pX4_noMarks at hp
  refine lv_aload_n hx hb dX4_noMarks_0 rfl (lv_at hl 0 rfl) ?_
  refine lv_iload_n hx hb dX4_noMarks_1 rfl (lv_at hl 1 rfl) ?_
  refine z_calli (va_runV (As := [.int x1]) (rest := []) S (mX4_noTray l Γ th x1 μ _ hp) (cwV 1 hts (lw_V q1765 q1767 qs97 q132 q1768) rfl rfl rfl hX4_noTray ⟨Nat.le_of_ble_eq_true rfl, Nat.le_of_ble_eq_true rfl⟩) (hB.preV (tT hB) rfl rfl) rfl rfl hl.1 rfl (lv_room (Nat.le_of_ble_eq_true rfl)) dX4_noMarks_2 ⟨Nat.le_refl _, Nat.le_refl _⟩) hB (fun r2 μ1 H locs hp hB => ?_)
  refine lv_istore_n (lv' := [(2, .int r2), (0, .ref th), (1, .int x1)]) hx hb dX4_noMarks_5 rfl hl (by decide) rfl (fun ls hl => ?_)
  refine lv_iload_n hx hb dX4_noMarks_6 rfl (lv_at hl 0 rfl) ?_
  refine lv_if_eq (tgt := 12) hx hb dX4_noMarks_7 rfl (fun c0 => ?_) (fun c0 => ?_)
  · have hp := zit hp c0
    refine lv_aload_n hx hb dX4_noMarks_12 rfl (lv_at hl 1 rfl) ?_
    refine g_getr S hB (tT hB) rfl (T := TX4) (N := 38) (C := RX4) rfl in_X4 36 (by decide) (by decide) q1428 (fun _ h9 => h9) (fun _ => rfl) (tA hB 16 rfl).1 dX4_noMarks_13 ?_
    refine lv_iload_n hx hb dX4_noMarks_16 rfl (lv_at hl 2 rfl) ?_
    obtain ⟨hi, hp⟩ := hp
    refine g_iald S hB (tA hB 16 rfl).2 hi dX4_noMarks_17 ?_
    refine lv_istore_n (lv' := [(3, .int (zI μ1 (th + 17) x1.toNatClampNeg)), (2, .int r2), (0, .ref th), (1, .int x1)]) hx hb dX4_noMarks_18 rfl hl (by decide) rfl (fun ls hl => ?_)
    refine lv_iload_n hx hb dX4_noMarks_19 rfl (lv_at hl 0 rfl) ?_
    refine lv_iconst (v := (nI 2)) hx hb dX4_noMarks_20 rfl ?_
    refine lv_irem hx hb dX4_noMarks_21 (by decide) ?_
    refine lv_iconst (v := (nI 1)) hx hb dX4_noMarks_22 rfl ?_
    refine lv_icmp_eq (tgt := 40) hx hb dX4_noMarks_23 rfl (fun c0 => ?_) (fun c0 => ?_)
    · have hp := zit hp c0
      refine lv_bipush (v := (-4 : Int32)) hx hb dX4_noMarks_40 rfl ?_
      exact zret_i X hB hp dX4_noMarks_42
    · have hp := zif hp c0
      refine lv_iload_n hx hb dX4_noMarks_26 rfl (lv_at hl 0 rfl) ?_
      refine lv_i2l hx hb dX4_noMarks_27 rfl ?_
      refine lv_ldc2 (v := (2 : Int64)) hx hb hown (hts _ q1621) dX4_noMarks_28 ?_
      refine lv_ldc2 (v := (16 : Int64)) hx hb hown (hts _ q1961) dX4_noMarks_31 ?_
      refine z_calli (va_runS (As := [.long ((zI μ1 (th + 17) x1.toNatClampNeg).toInt64), .long (2 : Int64), .long (16 : Int64)]) (rest := []) S (mX4_within l Γ th ((zI μ1 (th + 17) x1.toNatClampNeg).toInt64) (2 : Int64) (16 : Int64) μ1 _ hp) (va_cwS 3 hts (lw_S q1516 q1517 q132 q1518) rfl rfl rfl hX4_within ⟨Nat.le_of_ble_eq_true rfl, Nat.le_of_ble_eq_true rfl⟩) hB.preS rfl rfl hl.1 rfl (lv_room (Nat.le_of_ble_eq_true rfl)) dX4_noMarks_34 ⟨Nat.le_refl _, Nat.le_refl _⟩) hB (fun r4 μ3 H locs hp hB => ?_)
      refine lv_if_ne (tgt := 43) hx hb dX4_noMarks_37 rfl (fun c0 => ?_) (fun c0 => ?_)
      · have hp := zif hp c0
        refine lv_iconst (v := (nI 0)) hx hb dX4_noMarks_43 rfl ?_
        refine lv_istore (lv' := [(4, .int (nI 0)), (3, .int (zI μ1 (th + 17) x1.toNatClampNeg)), (2, .int r2), (0, .ref th), (1, .int x1)]) hx hb dX4_noMarks_44 hl (by decide) rfl (fun ls hl => ?_)
        obtain ⟨n1, hp⟩ := hp
        exact wX4_noMarks_46 X th x1 n1 (zI μ1 (th + 17) x1.toNatClampNeg) (nI 0) μ3 _ _ _ hp hB (lv_sub hl [3, 4, 1, 0] rfl)
      · have hp := zit hp c0
        refine lv_bipush (v := (-4 : Int32)) hx hb dX4_noMarks_40 rfl ?_
        exact zret_i X hB hp dX4_noMarks_42
  · have hp := zif hp c0
    refine lv_iload_n hx hb dX4_noMarks_10 rfl (lv_at hl 0 rfl) ?_
    exact zret_i X hB hp dX4_noMarks_11
def pX4_firstWeight_40 (th : Nat) (Q : Int32 → zM → Prop) : Nat → Int32 → Int32 → Int32 → zM → Prop
  | 0, _, _, _, _ => False
  | n + 1, x1, x2, x3, μ => (vp_in (nI 1) 3594 ∧ (if (zI μ (th + 1) (nI 1).toNatClampNeg) ≤ x3 then Q x2 μ else (vp_in ((x1 + (nI 35)) + x3) 3594 ∧ (if (zI μ (th + 1) ((x1 + (nI 35)) + x3).toNatClampNeg) = (-1 : Int32) then pX4_firstWeight_40 th Q n x1 (x2 + (nI 0)) (x3 + (nI 1)) μ else (vp_in ((x1 + (nI 29)) + x3) 3594 ∧ pX4_firstWeight_40 th Q n x1 (x2 + (zI μ (th + 1) ((x1 + (nI 29)) + x3).toNatClampNeg)) (x3 + (nI 1)) μ)))))
set_option maxHeartbeats 4000000 in
set_option maxRecDepth 100000 in
theorem wX4_firstWeight_40 {p : Program} {l : Launch} {e : Env} {s : State} {m : MethodId} {args : Array Value} {below : List Frame} {meth : Method} {c : Code} {Γ : zG} {μ0 : zM} {Q : Int32 → zM → Prop} (X : zCx p m c cX4_firstWeight 4 s args RX4 meth (some .int)) (th : Nat) : ∀ (n : Nat) (x1 : Int32) (x2 : Int32) (x3 : Int32) (μ : zM) (H : Heap) (locs : List Loc) (ls : Array Slot), pX4_firstWeight_40 th Q n x1 x2 x3 μ → zB Γ (tSh th) (zA μ0) μ0 s μ H locs → lv_has ls 4 [(0, .ref th), (1, .int x1), (2, .int x2), (3, .int x3)] → W p l e ({ frames := 0, cells := 0, slots := 0, locals := 0 } : Room) s m args below meth c H locs 0 0 (MQ below (va_Qi Q (zPost Γ (tSh th) μ0) (zA μ0)) args s 0 0 (zA μ0)) (F0 m 40 ls []) := by
  have S := X.1
  obtain ⟨hx, hb, hml, hown, hts⟩ := X.1
  intro n
  induction n with
  | zero =>
    intro x1 x2 x3 μ H locs ls hp
    exact hp.elim
  | succ n ih =>
    intro x1 x2 x3 μ H locs ls hp hB hl
    unfold pX4_firstWeight_40 at hp
    refine lv_iload_n hx hb dX4_firstWeight_40 rfl (lv_at hl 3 rfl) ?_
    refine lv_aload_n hx hb dX4_firstWeight_41 rfl (lv_at hl 0 rfl) ?_
    refine g_getr S hB (tT hB) rfl (T := TX4) (N := 38) (C := RX4) rfl in_X4 1 (by decide) (by decide) q1393 (fun _ h9 => h9) (fun _ => rfl) (tA hB 0 rfl).1 dX4_firstWeight_42 ?_
    refine lv_iconst (v := (nI 1)) hx hb dX4_firstWeight_45 rfl ?_
    obtain ⟨hi, hp⟩ := hp
    refine g_iald S hB (tA hB 0 rfl).2 hi dX4_firstWeight_46 ?_
    refine lv_icmp_ge (tgt := 89) hx hb dX4_firstWeight_47 rfl (fun c0 => ?_) (fun c0 => ?_)
    · have hp := zit hp c0
      refine lv_iload_n hx hb dX4_firstWeight_89 rfl (lv_at hl 2 rfl) ?_
      exact zret_i X hB hp dX4_firstWeight_90
    · have hp := zif hp c0
      refine lv_iload_n hx hb dX4_firstWeight_50 rfl (lv_at hl 2 rfl) ?_
      refine lv_aload_n hx hb dX4_firstWeight_51 rfl (lv_at hl 0 rfl) ?_
      refine g_getr S hB (tT hB) rfl (T := TX4) (N := 38) (C := RX4) rfl in_X4 1 (by decide) (by decide) q1393 (fun _ h9 => h9) (fun _ => rfl) (tA hB 0 rfl).1 dX4_firstWeight_52 ?_
      refine lv_iload_n hx hb dX4_firstWeight_55 rfl (lv_at hl 1 rfl) ?_
      refine lv_bipush (v := (nI 35)) hx hb dX4_firstWeight_56 rfl ?_
      refine lv_iadd hx hb dX4_firstWeight_58 ?_
      refine lv_iload_n hx hb dX4_firstWeight_59 rfl (lv_at hl 3 rfl) ?_
      refine lv_iadd hx hb dX4_firstWeight_60 ?_
      obtain ⟨hi, hp⟩ := hp
      refine g_iald S hB (tA hB 0 rfl).2 hi dX4_firstWeight_61 ?_
      refine lv_iconst (v := (-1 : Int32)) hx hb dX4_firstWeight_62 rfl ?_
      refine lv_icmp_ne (tgt := 70) hx hb dX4_firstWeight_63 rfl (fun c0 => ?_) (fun c0 => ?_)
      · have hp := zif hp c0
        refine lv_aload_n hx hb dX4_firstWeight_70 rfl (lv_at hl 0 rfl) ?_
        refine g_getr S hB (tT hB) rfl (T := TX4) (N := 38) (C := RX4) rfl in_X4 1 (by decide) (by decide) q1393 (fun _ h9 => h9) (fun _ => rfl) (tA hB 0 rfl).1 dX4_firstWeight_71 ?_
        refine lv_iload_n hx hb dX4_firstWeight_74 rfl (lv_at hl 1 rfl) ?_
        refine lv_bipush (v := (nI 29)) hx hb dX4_firstWeight_75 rfl ?_
        refine lv_iadd hx hb dX4_firstWeight_77 ?_
        refine lv_iload_n hx hb dX4_firstWeight_78 rfl (lv_at hl 3 rfl) ?_
        refine lv_iadd hx hb dX4_firstWeight_79 ?_
        obtain ⟨hi, hp⟩ := hp
        refine g_iald S hB (tA hB 0 rfl).2 hi dX4_firstWeight_80 ?_
        refine lv_iadd hx hb dX4_firstWeight_81 ?_
        refine lv_istore_n (lv' := [(2, .int (x2 + (zI μ (th + 1) ((x1 + (nI 29)) + x3).toNatClampNeg))), (0, .ref th), (1, .int x1), (3, .int x3)]) hx hb dX4_firstWeight_82 rfl hl (by decide) rfl (fun ls hl => ?_)
        refine lv_iinc (v := (x3 + (nI 1))) (lv' := [(3, .int (x3 + (nI 1))), (2, .int (x2 + (zI μ (th + 1) ((x1 + (nI 29)) + x3).toNatClampNeg))), (0, .ref th), (1, .int x1)]) hx hb dX4_firstWeight_83 hl (k := 3) rfl rfl (by decide) rfl (fun ls hl => ?_)
        refine lv_goto (tgt := 40) hx hb dX4_firstWeight_86 rfl ?_
        exact ih x1 (x2 + (zI μ (th + 1) ((x1 + (nI 29)) + x3).toNatClampNeg)) (x3 + (nI 1)) μ _ _ _ hp hB (lv_sub hl [2, 3, 1, 0] rfl)
      · have hp := zit hp c0
        refine lv_iconst (v := (nI 0)) hx hb dX4_firstWeight_66 rfl ?_
        refine lv_goto (tgt := 81) hx hb dX4_firstWeight_67 rfl ?_
        refine lv_iadd hx hb dX4_firstWeight_81 ?_
        refine lv_istore_n (lv' := [(2, .int (x2 + (nI 0))), (0, .ref th), (1, .int x1), (3, .int x3)]) hx hb dX4_firstWeight_82 rfl hl (by decide) rfl (fun ls hl => ?_)
        refine lv_iinc (v := (x3 + (nI 1))) (lv' := [(3, .int (x3 + (nI 1))), (2, .int (x2 + (nI 0))), (0, .ref th), (1, .int x1)]) hx hb dX4_firstWeight_83 hl (k := 3) rfl rfl (by decide) rfl (fun ls hl => ?_)
        refine lv_goto (tgt := 40) hx hb dX4_firstWeight_86 rfl ?_
        exact ih x1 (x2 + (nI 0)) (x3 + (nI 1)) μ _ _ _ hp hB (lv_sub hl [2, 3, 1, 0] rfl)
def pX4_firstWeight_7 (th : Nat) (Q : Int32 → zM → Prop) : Nat → Int32 → Int32 → Int32 → zM → Prop
  | 0, _, _, _, _ => False
  | n + 1, x1, x2, x3, μ => (vp_in (nI 43) 3594 ∧ (if (zI μ (th + 1) (nI 43).toNatClampNeg) ≤ x3 then ∃ k1, pX4_firstWeight_40 th Q k1 x1 x2 (nI 0) μ else (vp_in ((x1 + (nI 21)) + x3) 3594 ∧ pX4_firstWeight_7 th Q n x1 (x2 + (zI μ (th + 1) ((x1 + (nI 21)) + x3).toNatClampNeg)) (x3 + (nI 1)) μ)))
set_option maxHeartbeats 4000000 in
set_option maxRecDepth 100000 in
theorem wX4_firstWeight_7 {p : Program} {l : Launch} {e : Env} {s : State} {m : MethodId} {args : Array Value} {below : List Frame} {meth : Method} {c : Code} {Γ : zG} {μ0 : zM} {Q : Int32 → zM → Prop} (X : zCx p m c cX4_firstWeight 4 s args RX4 meth (some .int)) (th : Nat) : ∀ (n : Nat) (x1 : Int32) (x2 : Int32) (x3 : Int32) (μ : zM) (H : Heap) (locs : List Loc) (ls : Array Slot), pX4_firstWeight_7 th Q n x1 x2 x3 μ → zB Γ (tSh th) (zA μ0) μ0 s μ H locs → lv_has ls 4 [(0, .ref th), (1, .int x1), (2, .int x2), (3, .int x3)] → W p l e ({ frames := 0, cells := 0, slots := 0, locals := 0 } : Room) s m args below meth c H locs 0 0 (MQ below (va_Qi Q (zPost Γ (tSh th) μ0) (zA μ0)) args s 0 0 (zA μ0)) (F0 m 7 ls []) := by
  have S := X.1
  obtain ⟨hx, hb, hml, hown, hts⟩ := X.1
  intro n
  induction n with
  | zero =>
    intro x1 x2 x3 μ H locs ls hp
    exact hp.elim
  | succ n ih =>
    intro x1 x2 x3 μ H locs ls hp hB hl
    unfold pX4_firstWeight_7 at hp
    refine lv_iload_n hx hb dX4_firstWeight_7 rfl (lv_at hl 3 rfl) ?_
    refine lv_aload_n hx hb dX4_firstWeight_8 rfl (lv_at hl 0 rfl) ?_
    refine g_getr S hB (tT hB) rfl (T := TX4) (N := 38) (C := RX4) rfl in_X4 1 (by decide) (by decide) q1393 (fun _ h9 => h9) (fun _ => rfl) (tA hB 0 rfl).1 dX4_firstWeight_9 ?_
    refine lv_bipush (v := (nI 43)) hx hb dX4_firstWeight_12 rfl ?_
    obtain ⟨hi, hp⟩ := hp
    refine g_iald S hB (tA hB 0 rfl).2 hi dX4_firstWeight_14 ?_
    refine lv_icmp_ge (tgt := 38) hx hb dX4_firstWeight_15 rfl (fun c0 => ?_) (fun c0 => ?_)
    · have hp := zit hp c0
      refine lv_iconst (v := (nI 0)) hx hb dX4_firstWeight_38 rfl ?_
      refine lv_istore_n (lv' := [(3, .int (nI 0)), (0, .ref th), (1, .int x1), (2, .int x2)]) hx hb dX4_firstWeight_39 rfl hl (by decide) rfl (fun ls hl => ?_)
      obtain ⟨n1, hp⟩ := hp
      exact wX4_firstWeight_40 X th n1 x1 x2 (nI 0) μ _ _ _ hp hB (lv_sub hl [1, 2, 3, 0] rfl)
    · have hp := zif hp c0
      refine lv_iload_n hx hb dX4_firstWeight_18 rfl (lv_at hl 2 rfl) ?_
      refine lv_aload_n hx hb dX4_firstWeight_19 rfl (lv_at hl 0 rfl) ?_
      refine g_getr S hB (tT hB) rfl (T := TX4) (N := 38) (C := RX4) rfl in_X4 1 (by decide) (by decide) q1393 (fun _ h9 => h9) (fun _ => rfl) (tA hB 0 rfl).1 dX4_firstWeight_20 ?_
      refine lv_iload_n hx hb dX4_firstWeight_23 rfl (lv_at hl 1 rfl) ?_
      refine lv_bipush (v := (nI 21)) hx hb dX4_firstWeight_24 rfl ?_
      refine lv_iadd hx hb dX4_firstWeight_26 ?_
      refine lv_iload_n hx hb dX4_firstWeight_27 rfl (lv_at hl 3 rfl) ?_
      refine lv_iadd hx hb dX4_firstWeight_28 ?_
      obtain ⟨hi, hp⟩ := hp
      refine g_iald S hB (tA hB 0 rfl).2 hi dX4_firstWeight_29 ?_
      refine lv_iadd hx hb dX4_firstWeight_30 ?_
      refine lv_istore_n (lv' := [(2, .int (x2 + (zI μ (th + 1) ((x1 + (nI 21)) + x3).toNatClampNeg))), (0, .ref th), (1, .int x1), (3, .int x3)]) hx hb dX4_firstWeight_31 rfl hl (by decide) rfl (fun ls hl => ?_)
      refine lv_iinc (v := (x3 + (nI 1))) (lv' := [(3, .int (x3 + (nI 1))), (2, .int (x2 + (zI μ (th + 1) ((x1 + (nI 21)) + x3).toNatClampNeg))), (0, .ref th), (1, .int x1)]) hx hb dX4_firstWeight_32 hl (k := 3) rfl rfl (by decide) rfl (fun ls hl => ?_)
      refine lv_goto (tgt := 7) hx hb dX4_firstWeight_35 rfl ?_
      exact ih x1 (x2 + (zI μ (th + 1) ((x1 + (nI 21)) + x3).toNatClampNeg)) (x3 + (nI 1)) μ _ _ _ hp hB (lv_sub hl [2, 3, 1, 0] rfl)
def pX4_firstWeight (th : Nat) (μ : zM) (Q : Int32 → zM → Prop) : Prop := ∃ k1, pX4_firstWeight_7 th Q k1 (nI 23) (nI 0) (nI 0) μ
theorem hX4_firstWeight : yX4_firstWeight.cls = "SunkTowerModel" ∧ yX4_firstWeight.cls ≠ "java/lang/invoke/MethodHandle" ∧ yX4_firstWeight.cls ≠ "java/lang/invoke/VarHandle" ∧ (parseMethodDescriptor yX4_firstWeight.desc).map (fun d => d.parameters.length) = some 0 := by decide +kernel
set_option maxHeartbeats 4000000 in
set_option maxRecDepth 100000 in
theorem mX4_firstWeight (l : Launch) (Γ : zG) (th : Nat) (μ : zM) (Q : Int32 → zM → Prop) (hp : pX4_firstWeight th μ Q) : Met l yX4_firstWeight (ws_ yX4_firstWeight cX4_firstWeight 4 (some .int)) ({ frames := 0, cells := 0, slots := 0, locals := 0 } : Room) (va_Pc [.ref th] (zPre Γ (tSh th) μ)) (va_Qi Q (zPost Γ (tSh th) μ) (zA μ)) 0 0 (zA μ) := by
  refine zstart (by decide) (Nat.le_of_ble_eq_true rfl) ?_
  intro p e s m below meth c ls X hnm hB hl
  have X : zCx p m c cX4_firstWeight 4 s [.ref th].toArray RX4 meth (some .int) := X
  have S := X.1
  obtain ⟨hx, hb, hml, hown, hts⟩ := X.1
  have hl : lv_has ls 4 [(0, .ref th)] := hl
  unfold pX4_firstWeight at hp
  refine lv_bipush (v := (nI 23)) hx hb dX4_firstWeight_0 rfl ?_
  refine lv_istore_n (lv' := [(1, .int (nI 23)), (0, .ref th)]) hx hb dX4_firstWeight_2 rfl hl (by decide) rfl (fun ls hl => ?_)
  refine lv_iconst (v := (nI 0)) hx hb dX4_firstWeight_3 rfl ?_
  refine lv_istore_n (lv' := [(2, .int (nI 0)), (1, .int (nI 23)), (0, .ref th)]) hx hb dX4_firstWeight_4 rfl hl (by decide) rfl (fun ls hl => ?_)
  refine lv_iconst (v := (nI 0)) hx hb dX4_firstWeight_5 rfl ?_
  refine lv_istore_n (lv' := [(3, .int (nI 0)), (2, .int (nI 0)), (1, .int (nI 23)), (0, .ref th)]) hx hb dX4_firstWeight_6 rfl hl (by decide) rfl (fun ls hl => ?_)
  obtain ⟨n1, hp⟩ := hp
  exact wX4_firstWeight_7 X th n1 (nI 23) (nI 0) (nI 0) μ _ _ _ hp hB (lv_sub hl [3, 2, 1, 0] rfl)
def pX4_isMark (th : Nat) (x1 : Int32) (x2 : Int32) (x3 : Int32) (μ : zM) (Q : Int32 → zM → Prop) : Prop := (vp_in (((nI 40) * x1) + x2) 160 ∧ (vp_in (((nI 61) * x3) + ((zJ μ (th + 18) (((nI 40) * x1) + x2).toNatClampNeg).toInt32)) 61000 ∧ (vp_in ((((nI 40) * x1) + x2) + (nI 1)) 160 ∧ (if (lg_cmp ((zI μ (th + 13) (((nI 61) * x3) + ((zJ μ (th + 18) (((nI 40) * x1) + x2).toNatClampNeg).toInt32)).toNatClampNeg).toInt64) (zJ μ (th + 18) ((((nI 40) * x1) + x2) + (nI 1)).toNatClampNeg)) = 0 then Q (nI 1) μ else Q (nI 0) μ))))
theorem hX4_isMark : yX4_isMark.cls = "SunkTowerModel" ∧ yX4_isMark.cls ≠ "java/lang/invoke/MethodHandle" ∧ yX4_isMark.cls ≠ "java/lang/invoke/VarHandle" ∧ (parseMethodDescriptor yX4_isMark.desc).map (fun d => d.parameters.length) = some 3 := by decide +kernel
set_option maxHeartbeats 4000000 in
set_option maxRecDepth 100000 in
theorem mX4_isMark (l : Launch) (Γ : zG) (th : Nat) (x1 : Int32) (x2 : Int32) (x3 : Int32) (μ : zM) (Q : Int32 → zM → Prop) (hp : pX4_isMark th x1 x2 x3 μ Q) : Met l yX4_isMark (ws_ yX4_isMark cX4_isMark 4 (some .boolean)) ({ frames := 0, cells := 0, slots := 0, locals := 0 } : Room) (va_Pc [.ref th, .int x1, .int x2, .int x3] (zPre Γ (tSh th) μ)) (va_Qi Q (zPost Γ (tSh th) μ) (zA μ)) 0 0 (zA μ) := by
  refine zstart (by decide) (Nat.le_of_ble_eq_true rfl) ?_
  intro p e s m below meth c ls X hnm hB hl
  have X : zCx p m c cX4_isMark 4 s [.ref th, .int x1, .int x2, .int x3].toArray RX4 meth (some .boolean) := X
  have S := X.1
  obtain ⟨hx, hb, hml, hown, hts⟩ := X.1
  have hl : lv_has ls 4 [(0, .ref th), (1, .int x1), (2, .int x2), (3, .int x3)] := hl
  unfold pX4_isMark at hp
  refine lv_aload_n hx hb dX4_isMark_0 rfl (lv_at hl 0 rfl) ?_
  refine g_getr S hB (tT hB) rfl (T := TX4) (N := 38) (C := RX4) rfl in_X4 32 (by decide) (by decide) q1424 (fun _ h9 => h9) (fun _ => rfl) (tA hB 12 rfl).1 dX4_isMark_1 ?_
  refine lv_bipush (v := (nI 61)) hx hb dX4_isMark_4 rfl ?_
  refine lv_iload_n hx hb dX4_isMark_6 rfl (lv_at hl 3 rfl) ?_
  refine lv_imul hx hb dX4_isMark_7 ?_
  refine lv_aload_n hx hb dX4_isMark_8 rfl (lv_at hl 0 rfl) ?_
  refine g_getr S hB (tT hB) rfl (T := TX4) (N := 38) (C := RX4) rfl in_X4 37 (by decide) (by decide) q1429 (fun _ h9 => h9) (fun _ => rfl) (tA hB 17 rfl).1 dX4_isMark_9 ?_
  refine lv_bipush (v := (nI 40)) hx hb dX4_isMark_12 rfl ?_
  refine lv_iload_n hx hb dX4_isMark_14 rfl (lv_at hl 1 rfl) ?_
  refine lv_imul hx hb dX4_isMark_15 ?_
  refine lv_iload_n hx hb dX4_isMark_16 rfl (lv_at hl 2 rfl) ?_
  refine lv_iadd hx hb dX4_isMark_17 ?_
  obtain ⟨hi, hp⟩ := hp
  refine g_lald S hB (tA hB 17 rfl).2 hi dX4_isMark_18 ?_
  refine lv_l2i hx hb dX4_isMark_19 rfl ?_
  refine lv_iadd hx hb dX4_isMark_20 ?_
  obtain ⟨hi, hp⟩ := hp
  refine g_iald S hB (tA hB 12 rfl).2 hi dX4_isMark_21 ?_
  refine lv_i2l hx hb dX4_isMark_22 rfl ?_
  refine lv_aload_n hx hb dX4_isMark_23 rfl (lv_at hl 0 rfl) ?_
  refine g_getr S hB (tT hB) rfl (T := TX4) (N := 38) (C := RX4) rfl in_X4 37 (by decide) (by decide) q1429 (fun _ h9 => h9) (fun _ => rfl) (tA hB 17 rfl).1 dX4_isMark_24 ?_
  refine lv_bipush (v := (nI 40)) hx hb dX4_isMark_27 rfl ?_
  refine lv_iload_n hx hb dX4_isMark_29 rfl (lv_at hl 1 rfl) ?_
  refine lv_imul hx hb dX4_isMark_30 ?_
  refine lv_iload_n hx hb dX4_isMark_31 rfl (lv_at hl 2 rfl) ?_
  refine lv_iadd hx hb dX4_isMark_32 ?_
  refine lv_iconst (v := (nI 1)) hx hb dX4_isMark_33 rfl ?_
  refine lv_iadd hx hb dX4_isMark_34 ?_
  obtain ⟨hi, hp⟩ := hp
  refine g_lald S hB (tA hB 17 rfl).2 hi dX4_isMark_35 ?_
  refine W.lcmp hx hb dX4_isMark_36 ?_
  refine lv_if_ne (tgt := 44) hx hb dX4_isMark_37 rfl (fun c0 => ?_) (fun c0 => ?_)
  · have hp := zif hp c0
    refine lv_iconst (v := (nI 0)) hx hb dX4_isMark_44 rfl ?_
    exact zret_z X hB rfl hp dX4_isMark_45
  · have hp := zit hp c0
    refine lv_iconst (v := (nI 1)) hx hb dX4_isMark_40 rfl ?_
    refine lv_goto (tgt := 45) hx hb dX4_isMark_41 rfl ?_
    exact zret_z X hB rfl hp dX4_isMark_45
def pX4_mostAlike_45 (th : Nat) (x1 : Int32) (Q : Int32 → zM → Prop) : Nat → Int32 → Int32 → zM → Prop
  | 0, _, _, _ => False
  | n + 1, x2, x3, μ => (if (nI 1000) ≤ x3 then Q x2 μ else (vp_in x3 1000 ∧ (if (zI μ (th + 15) x3.toNatClampNeg) = 0 then pX4_mostAlike_45 th x1 Q n x2 (x3 + (nI 1)) μ else (vp_in (((nI 61) * x3) + x1) 61000 ∧ (vp_in (zI μ (th + 13) (((nI 61) * x3) + x1).toNatClampNeg) 100000 ∧ (vp_in (zI μ (th + 13) (((nI 61) * x3) + x1).toNatClampNeg) 100000 ∧ zpI μ (th + 14) (zI μ (th + 13) (((nI 61) * x3) + x1).toNatClampNeg).toNatClampNeg ((zI μ (th + 14) (zI μ (th + 13) (((nI 61) * x3) + x1).toNatClampNeg).toNatClampNeg) + (nI 1)) fun μ1 => (vp_in (zI μ (th + 13) (((nI 61) * x3) + x1).toNatClampNeg) 100000 ∧ (if (zI μ1 (th + 14) (zI μ (th + 13) (((nI 61) * x3) + x1).toNatClampNeg).toNatClampNeg) ≤ x2 then pX4_mostAlike_45 th x1 Q n x2 (x3 + (nI 1)) μ1 else (vp_in (zI μ (th + 13) (((nI 61) * x3) + x1).toNatClampNeg) 100000 ∧ znm (zI μ1 (th + 14) (zI μ (th + 13) (((nI 61) * x3) + x1).toNatClampNeg).toNatClampNeg) fun v2 => pX4_mostAlike_45 th x1 Q n v2 (x3 + (nI 1)) μ1)))))))))
set_option maxHeartbeats 4000000 in
set_option maxRecDepth 100000 in
theorem wX4_mostAlike_45 {p : Program} {l : Launch} {e : Env} {s : State} {m : MethodId} {args : Array Value} {below : List Frame} {meth : Method} {c : Code} {Γ : zG} {μ0 : zM} {Q : Int32 → zM → Prop} (X : zCx p m c cX4_mostAlike 5 s args RX4 meth (some .int)) (th : Nat) (x1 : Int32) : ∀ (n : Nat) (x2 : Int32) (x3 : Int32) (μ : zM) (H : Heap) (locs : List Loc) (ls : Array Slot), pX4_mostAlike_45 th x1 Q n x2 x3 μ → zB Γ (tSh th) (zA μ0) μ0 s μ H locs → lv_has ls 5 [(0, .ref th), (1, .int x1), (2, .int x2), (3, .int x3)] → W p l e ({ frames := 0, cells := 0, slots := 0, locals := 0 } : Room) s m args below meth c H locs 0 0 (MQ below (va_Qi Q (zPost Γ (tSh th) μ0) (zA μ0)) args s 0 0 (zA μ0)) (F0 m 45 ls []) := by
  have S := X.1
  obtain ⟨hx, hb, hml, hown, hts⟩ := X.1
  intro n
  induction n with
  | zero =>
    intro x2 x3 μ H locs ls hp
    exact hp.elim
  | succ n ih =>
    intro x2 x3 μ H locs ls hp hB hl
    unfold pX4_mostAlike_45 at hp
    refine lv_iload_n hx hb dX4_mostAlike_45 rfl (lv_at hl 3 rfl) ?_
    refine lv_sipush (v := (nI 1000)) hx hb dX4_mostAlike_46 rfl ?_
    refine lv_icmp_ge (tgt := 117) hx hb dX4_mostAlike_49 rfl (fun c0 => ?_) (fun c0 => ?_)
    · have hp := zit hp c0
      refine lv_iload_n hx hb dX4_mostAlike_117 rfl (lv_at hl 2 rfl) ?_
      exact zret_i X hB hp dX4_mostAlike_118
    · have hp := zif hp c0
      refine lv_aload_n hx hb dX4_mostAlike_52 rfl (lv_at hl 0 rfl) ?_
      refine g_getr S hB (tT hB) rfl (T := TX4) (N := 38) (C := RX4) rfl in_X4 34 (by decide) (by decide) q1426 (fun _ h9 => h9) (fun _ => rfl) (tA hB 14 rfl).1 dX4_mostAlike_53 ?_
      refine lv_iload_n hx hb dX4_mostAlike_56 rfl (lv_at hl 3 rfl) ?_
      obtain ⟨hi, hp⟩ := hp
      refine g_zald S hB (tA hB 14 rfl).2 hi dX4_mostAlike_57 ?_
      refine lv_if_ne (tgt := 64) hx hb dX4_mostAlike_58 rfl (fun c0 => ?_) (fun c0 => ?_)
      · have hp := zif hp c0
        refine lv_aload_n hx hb dX4_mostAlike_64 rfl (lv_at hl 0 rfl) ?_
        refine g_getr S hB (tT hB) rfl (T := TX4) (N := 38) (C := RX4) rfl in_X4 32 (by decide) (by decide) q1424 (fun _ h9 => h9) (fun _ => rfl) (tA hB 12 rfl).1 dX4_mostAlike_65 ?_
        refine lv_bipush (v := (nI 61)) hx hb dX4_mostAlike_68 rfl ?_
        refine lv_iload_n hx hb dX4_mostAlike_70 rfl (lv_at hl 3 rfl) ?_
        refine lv_imul hx hb dX4_mostAlike_71 ?_
        refine lv_iload_n hx hb dX4_mostAlike_72 rfl (lv_at hl 1 rfl) ?_
        refine lv_iadd hx hb dX4_mostAlike_73 ?_
        obtain ⟨hi, hp⟩ := hp
        refine g_iald S hB (tA hB 12 rfl).2 hi dX4_mostAlike_74 ?_
        refine lv_istore (lv' := [(4, .int (zI μ (th + 13) (((nI 61) * x3) + x1).toNatClampNeg)), (0, .ref th), (1, .int x1), (2, .int x2), (3, .int x3)]) hx hb dX4_mostAlike_75 hl (by decide) rfl (fun ls hl => ?_)
        refine lv_aload_n hx hb dX4_mostAlike_77 rfl (lv_at hl 1 rfl) ?_
        refine g_getr S hB (tT hB) rfl (T := TX4) (N := 38) (C := RX4) rfl in_X4 33 (by decide) (by decide) q1425 (fun _ h9 => h9) (fun _ => rfl) (tA hB 13 rfl).1 dX4_mostAlike_78 ?_
        refine lv_iload hx hb dX4_mostAlike_81 (lv_at hl 0 rfl) ?_
        refine lv_dup2_11 hx hb dX4_mostAlike_83 rfl rfl ?_
        obtain ⟨hi, hp⟩ := hp
        refine g_iald S hB (tA hB 13 rfl).2 hi dX4_mostAlike_84 ?_
        refine lv_iconst (v := (nI 1)) hx hb dX4_mostAlike_85 rfl ?_
        refine lv_iadd hx hb dX4_mostAlike_86 ?_
        obtain ⟨hi, hp⟩ := hp
        obtain ⟨μ1, eμ1, hp⟩ := zpI_e hp
        refine g_iast S hB (tA hB 13 rfl).2 hi dX4_mostAlike_87 (fun H locs hB => ?_)
        rw [← eμ1] at hB
        refine lv_aload_n hx hb dX4_mostAlike_88 rfl (lv_at hl 1 rfl) ?_
        refine g_getr S hB (tT hB) rfl (T := TX4) (N := 38) (C := RX4) rfl in_X4 33 (by decide) (by decide) q1425 (fun _ h9 => h9) (fun _ => rfl) (tA hB 13 rfl).1 dX4_mostAlike_89 ?_
        refine lv_iload hx hb dX4_mostAlike_92 (lv_at hl 0 rfl) ?_
        obtain ⟨hi, hp⟩ := hp
        refine g_iald S hB (tA hB 13 rfl).2 hi dX4_mostAlike_94 ?_
        refine lv_iload_n hx hb dX4_mostAlike_95 rfl (lv_at hl 3 rfl) ?_
        refine lv_icmp_le (tgt := 109) hx hb dX4_mostAlike_96 rfl (fun c0 => ?_) (fun c0 => ?_)
        · have hp := zit hp c0
          refine lv_iload_n hx hb dX4_mostAlike_109 rfl (lv_at hl 3 rfl) ?_
          refine lv_istore_n (lv' := [(2, .int x2), (4, .int (zI μ (th + 13) (((nI 61) * x3) + x1).toNatClampNeg)), (0, .ref th), (1, .int x1), (3, .int x3)]) hx hb dX4_mostAlike_110 rfl hl (by decide) rfl (fun ls hl => ?_)
          refine lv_iinc (v := (x3 + (nI 1))) (lv' := [(3, .int (x3 + (nI 1))), (2, .int x2), (4, .int (zI μ (th + 13) (((nI 61) * x3) + x1).toNatClampNeg)), (0, .ref th), (1, .int x1)]) hx hb dX4_mostAlike_111 hl (k := 4) rfl rfl (by decide) rfl (fun ls hl => ?_)
          refine lv_goto (tgt := 45) hx hb dX4_mostAlike_114 rfl ?_
          exact ih x2 (x3 + (nI 1)) μ1 _ _ _ hp hB (lv_sub hl [3, 4, 1, 0] rfl)
        · have hp := zif hp c0
          refine lv_aload_n hx hb dX4_mostAlike_99 rfl (lv_at hl 1 rfl) ?_
          refine g_getr S hB (tT hB) rfl (T := TX4) (N := 38) (C := RX4) rfl in_X4 33 (by decide) (by decide) q1425 (fun _ h9 => h9) (fun _ => rfl) (tA hB 13 rfl).1 dX4_mostAlike_100 ?_
          refine lv_iload hx hb dX4_mostAlike_103 (lv_at hl 0 rfl) ?_
          obtain ⟨hi, hp⟩ := hp
          refine g_iald S hB (tA hB 13 rfl).2 hi dX4_mostAlike_105 ?_
          refine lv_goto (tgt := 110) hx hb dX4_mostAlike_106 rfl ?_
          obtain ⟨v2, ev2, hp⟩ := znm_e hp
          rw [← ev2]
          refine lv_istore_n (lv' := [(2, .int v2), (4, .int (zI μ (th + 13) (((nI 61) * x3) + x1).toNatClampNeg)), (0, .ref th), (1, .int x1), (3, .int x3)]) hx hb dX4_mostAlike_110 rfl hl (by decide) rfl (fun ls hl => ?_)
          refine lv_iinc (v := (x3 + (nI 1))) (lv' := [(3, .int (x3 + (nI 1))), (2, .int v2), (4, .int (zI μ (th + 13) (((nI 61) * x3) + x1).toNatClampNeg)), (0, .ref th), (1, .int x1)]) hx hb dX4_mostAlike_111 hl (k := 4) rfl rfl (by decide) rfl (fun ls hl => ?_)
          refine lv_goto (tgt := 45) hx hb dX4_mostAlike_114 rfl ?_
          exact ih v2 (x3 + (nI 1)) μ1 _ _ _ hp hB (lv_sub hl [3, 4, 1, 0] rfl)
      · have hp := zit hp c0
        refine lv_goto (tgt := 111) hx hb dX4_mostAlike_61 rfl ?_
        refine lv_iinc (v := (x3 + (nI 1))) (lv' := [(3, .int (x3 + (nI 1))), (0, .ref th), (1, .int x1), (2, .int x2)]) hx hb dX4_mostAlike_111 hl (k := 3) rfl rfl (by decide) rfl (fun ls hl => ?_)
        refine lv_goto (tgt := 45) hx hb dX4_mostAlike_114 rfl ?_
        exact ih x2 (x3 + (nI 1)) μ _ _ _ hp hB (lv_sub hl [1, 2, 3, 0] rfl)
def pX4_mostAlike_4 (th : Nat) (x1 : Int32) (Q : Int32 → zM → Prop) : Nat → Int32 → Int32 → zM → Prop
  | 0, _, _, _ => False
  | n + 1, x2, x3, μ => (if (nI 1000) ≤ x3 then ∃ k1, pX4_mostAlike_45 th x1 Q k1 x2 (nI 0) μ else (vp_in x3 1000 ∧ (if (zI μ (th + 15) x3.toNatClampNeg) = 0 then pX4_mostAlike_4 th x1 Q n x2 (x3 + (nI 1)) μ else (vp_in (((nI 61) * x3) + x1) 61000 ∧ (vp_in (zI μ (th + 13) (((nI 61) * x3) + x1).toNatClampNeg) 100000 ∧ zpI μ (th + 14) (zI μ (th + 13) (((nI 61) * x3) + x1).toNatClampNeg).toNatClampNeg (nI 0) fun μ1 => pX4_mostAlike_4 th x1 Q n x2 (x3 + (nI 1)) μ1)))))
set_option maxHeartbeats 4000000 in
set_option maxRecDepth 100000 in
theorem wX4_mostAlike_4 {p : Program} {l : Launch} {e : Env} {s : State} {m : MethodId} {args : Array Value} {below : List Frame} {meth : Method} {c : Code} {Γ : zG} {μ0 : zM} {Q : Int32 → zM → Prop} (X : zCx p m c cX4_mostAlike 5 s args RX4 meth (some .int)) (th : Nat) (x1 : Int32) : ∀ (n : Nat) (x2 : Int32) (x3 : Int32) (μ : zM) (H : Heap) (locs : List Loc) (ls : Array Slot), pX4_mostAlike_4 th x1 Q n x2 x3 μ → zB Γ (tSh th) (zA μ0) μ0 s μ H locs → lv_has ls 5 [(0, .ref th), (1, .int x1), (2, .int x2), (3, .int x3)] → W p l e ({ frames := 0, cells := 0, slots := 0, locals := 0 } : Room) s m args below meth c H locs 0 0 (MQ below (va_Qi Q (zPost Γ (tSh th) μ0) (zA μ0)) args s 0 0 (zA μ0)) (F0 m 4 ls []) := by
  have S := X.1
  obtain ⟨hx, hb, hml, hown, hts⟩ := X.1
  intro n
  induction n with
  | zero =>
    intro x2 x3 μ H locs ls hp
    exact hp.elim
  | succ n ih =>
    intro x2 x3 μ H locs ls hp hB hl
    unfold pX4_mostAlike_4 at hp
    refine lv_iload_n hx hb dX4_mostAlike_4 rfl (lv_at hl 3 rfl) ?_
    refine lv_sipush (v := (nI 1000)) hx hb dX4_mostAlike_5 rfl ?_
    refine lv_icmp_ge (tgt := 43) hx hb dX4_mostAlike_8 rfl (fun c0 => ?_) (fun c0 => ?_)
    · have hp := zit hp c0
      refine lv_iconst (v := (nI 0)) hx hb dX4_mostAlike_43 rfl ?_
      refine lv_istore_n (lv' := [(3, .int (nI 0)), (0, .ref th), (1, .int x1), (2, .int x2)]) hx hb dX4_mostAlike_44 rfl hl (by decide) rfl (fun ls hl => ?_)
      obtain ⟨n1, hp⟩ := hp
      exact wX4_mostAlike_45 X th x1 n1 x2 (nI 0) μ _ _ _ hp hB (lv_sub hl [1, 2, 3, 0] rfl)
    · have hp := zif hp c0
      refine lv_aload_n hx hb dX4_mostAlike_11 rfl (lv_at hl 0 rfl) ?_
      refine g_getr S hB (tT hB) rfl (T := TX4) (N := 38) (C := RX4) rfl in_X4 34 (by decide) (by decide) q1426 (fun _ h9 => h9) (fun _ => rfl) (tA hB 14 rfl).1 dX4_mostAlike_12 ?_
      refine lv_iload_n hx hb dX4_mostAlike_15 rfl (lv_at hl 3 rfl) ?_
      obtain ⟨hi, hp⟩ := hp
      refine g_zald S hB (tA hB 14 rfl).2 hi dX4_mostAlike_16 ?_
      refine lv_if_eq (tgt := 37) hx hb dX4_mostAlike_17 rfl (fun c0 => ?_) (fun c0 => ?_)
      · have hp := zit hp c0
        refine lv_iinc (v := (x3 + (nI 1))) (lv' := [(3, .int (x3 + (nI 1))), (0, .ref th), (1, .int x1), (2, .int x2)]) hx hb dX4_mostAlike_37 hl (k := 3) rfl rfl (by decide) rfl (fun ls hl => ?_)
        refine lv_goto (tgt := 4) hx hb dX4_mostAlike_40 rfl ?_
        exact ih x2 (x3 + (nI 1)) μ _ _ _ hp hB (lv_sub hl [1, 2, 3, 0] rfl)
      · have hp := zif hp c0
        refine lv_aload_n hx hb dX4_mostAlike_20 rfl (lv_at hl 0 rfl) ?_
        refine g_getr S hB (tT hB) rfl (T := TX4) (N := 38) (C := RX4) rfl in_X4 33 (by decide) (by decide) q1425 (fun _ h9 => h9) (fun _ => rfl) (tA hB 13 rfl).1 dX4_mostAlike_21 ?_
        refine lv_aload_n hx hb dX4_mostAlike_24 rfl (lv_at hl 0 rfl) ?_
        refine g_getr S hB (tT hB) rfl (T := TX4) (N := 38) (C := RX4) rfl in_X4 32 (by decide) (by decide) q1424 (fun _ h9 => h9) (fun _ => rfl) (tA hB 12 rfl).1 dX4_mostAlike_25 ?_
        refine lv_bipush (v := (nI 61)) hx hb dX4_mostAlike_28 rfl ?_
        refine lv_iload_n hx hb dX4_mostAlike_30 rfl (lv_at hl 3 rfl) ?_
        refine lv_imul hx hb dX4_mostAlike_31 ?_
        refine lv_iload_n hx hb dX4_mostAlike_32 rfl (lv_at hl 1 rfl) ?_
        refine lv_iadd hx hb dX4_mostAlike_33 ?_
        obtain ⟨hi, hp⟩ := hp
        refine g_iald S hB (tA hB 12 rfl).2 hi dX4_mostAlike_34 ?_
        refine lv_iconst (v := (nI 0)) hx hb dX4_mostAlike_35 rfl ?_
        obtain ⟨hi, hp⟩ := hp
        obtain ⟨μ1, eμ1, hp⟩ := zpI_e hp
        refine g_iast S hB (tA hB 13 rfl).2 hi dX4_mostAlike_36 (fun H locs hB => ?_)
        rw [← eμ1] at hB
        refine lv_iinc (v := (x3 + (nI 1))) (lv' := [(3, .int (x3 + (nI 1))), (0, .ref th), (1, .int x1), (2, .int x2)]) hx hb dX4_mostAlike_37 hl (k := 3) rfl rfl (by decide) rfl (fun ls hl => ?_)
        refine lv_goto (tgt := 4) hx hb dX4_mostAlike_40 rfl ?_
        exact ih x2 (x3 + (nI 1)) μ1 _ _ _ hp hB (lv_sub hl [1, 2, 3, 0] rfl)
def pX4_mostAlike (th : Nat) (x1 : Int32) (μ : zM) (Q : Int32 → zM → Prop) : Prop := ∃ k1, pX4_mostAlike_4 th x1 Q k1 (nI 0) (nI 0) μ
theorem hX4_mostAlike : yX4_mostAlike.cls = "SunkTowerModel" ∧ yX4_mostAlike.cls ≠ "java/lang/invoke/MethodHandle" ∧ yX4_mostAlike.cls ≠ "java/lang/invoke/VarHandle" ∧ (parseMethodDescriptor yX4_mostAlike.desc).map (fun d => d.parameters.length) = some 1 := by decide +kernel
set_option maxHeartbeats 4000000 in
set_option maxRecDepth 100000 in
theorem mX4_mostAlike (l : Launch) (Γ : zG) (th : Nat) (x1 : Int32) (μ : zM) (Q : Int32 → zM → Prop) (hp : pX4_mostAlike th x1 μ Q) : Met l yX4_mostAlike (ws_ yX4_mostAlike cX4_mostAlike 5 (some .int)) ({ frames := 0, cells := 0, slots := 0, locals := 0 } : Room) (va_Pc [.ref th, .int x1] (zPre Γ (tSh th) μ)) (va_Qi Q (zPost Γ (tSh th) μ) (zA μ)) 0 0 (zA μ) := by
  refine zstart (by decide) (Nat.le_of_ble_eq_true rfl) ?_
  intro p e s m below meth c ls X hnm hB hl
  have X : zCx p m c cX4_mostAlike 5 s [.ref th, .int x1].toArray RX4 meth (some .int) := X
  have S := X.1
  obtain ⟨hx, hb, hml, hown, hts⟩ := X.1
  have hl : lv_has ls 5 [(0, .ref th), (1, .int x1)] := hl
  unfold pX4_mostAlike at hp
  refine lv_iconst (v := (nI 0)) hx hb dX4_mostAlike_0 rfl ?_
  refine lv_istore_n (lv' := [(2, .int (nI 0)), (0, .ref th), (1, .int x1)]) hx hb dX4_mostAlike_1 rfl hl (by decide) rfl (fun ls hl => ?_)
  refine lv_iconst (v := (nI 0)) hx hb dX4_mostAlike_2 rfl ?_
  refine lv_istore_n (lv' := [(3, .int (nI 0)), (2, .int (nI 0)), (0, .ref th), (1, .int x1)]) hx hb dX4_mostAlike_3 rfl hl (by decide) rfl (fun ls hl => ?_)
  obtain ⟨n1, hp⟩ := hp
  exact wX4_mostAlike_4 X th x1 n1 (nI 0) (nI 0) μ _ _ _ hp hB (lv_sub hl [2, 3, 1, 0] rfl)
def pX4_numbers_64 (th : Nat) (x1 : Int32) (x3 : Int32) (Q : Int32 → zM → Prop) : Nat → Int32 → zM → Prop
  | 0, _, _ => False
  | n + 1, x4, μ => (if x3 ≤ x4 then Q (nI 0) μ else (vp_in (((nI 40) * x1) + x4) 160 ∧ zpJ μ (th + 18) (((nI 40) * x1) + x4).toNatClampNeg (0 : Int64) fun μ1 => pX4_numbers_64 th x1 x3 Q n (x4 + (nI 1)) μ1))
set_option maxHeartbeats 4000000 in
set_option maxRecDepth 100000 in
theorem wX4_numbers_64 {p : Program} {l : Launch} {e : Env} {s : State} {m : MethodId} {args : Array Value} {below : List Frame} {meth : Method} {c : Code} {Γ : zG} {μ0 : zM} {Q : Int32 → zM → Prop} (X : zCx p m c cX4_numbers 5 s args RX4 meth (some .int)) (th : Nat) (x1 : Int32) (x3 : Int32) : ∀ (n : Nat) (x4 : Int32) (μ : zM) (H : Heap) (locs : List Loc) (ls : Array Slot), pX4_numbers_64 th x1 x3 Q n x4 μ → zB Γ (tSh th) (zA μ0) μ0 s μ H locs → lv_has ls 5 [(0, .ref th), (1, .int x1), (3, .int x3), (4, .int x4)] → W p l e ({ frames := 1, cells := 0, slots := 0, locals := 25 } : Room) s m args below meth c H locs 0 0 (MQ below (va_Qi Q (zPost Γ (tSh th) μ0) (zA μ0)) args s 0 0 (zA μ0)) (F0 m 64 ls []) := by
  have S := X.1
  obtain ⟨hx, hb, hml, hown, hts⟩ := X.1
  intro n
  induction n with
  | zero =>
    intro x4 μ H locs ls hp
    exact hp.elim
  | succ n ih =>
    intro x4 μ H locs ls hp hB hl
    unfold pX4_numbers_64 at hp
    refine lv_iload hx hb dX4_numbers_64 (lv_at hl 3 rfl) ?_
    refine lv_iload_n hx hb dX4_numbers_66 rfl (lv_at hl 2 rfl) ?_
    refine lv_icmp_ge (tgt := 89) hx hb dX4_numbers_67 rfl (fun c0 => ?_) (fun c0 => ?_)
    · have hp := zit hp c0
      refine lv_iconst (v := (nI 0)) hx hb dX4_numbers_89 rfl ?_
      exact zret_i X hB hp dX4_numbers_90
    · have hp := zif hp c0
      refine lv_aload_n hx hb dX4_numbers_70 rfl (lv_at hl 0 rfl) ?_
      refine g_getr S hB (tT hB) rfl (T := TX4) (N := 38) (C := RX4) rfl in_X4 37 (by decide) (by decide) q1429 (fun _ h9 => h9) (fun _ => rfl) (tA hB 17 rfl).1 dX4_numbers_71 ?_
      refine lv_bipush (v := (nI 40)) hx hb dX4_numbers_74 rfl ?_
      refine lv_iload_n hx hb dX4_numbers_76 rfl (lv_at hl 1 rfl) ?_
      refine lv_imul hx hb dX4_numbers_77 ?_
      refine lv_iload hx hb dX4_numbers_78 (lv_at hl 3 rfl) ?_
      refine lv_iadd hx hb dX4_numbers_80 ?_
      refine lv_lconst (v := (0 : Int64)) hx hb dX4_numbers_81 rfl ?_
      obtain ⟨hi, hp⟩ := hp
      obtain ⟨μ1, eμ1, hp⟩ := zpJ_e hp
      refine g_last S hB (tA hB 17 rfl).2 hi dX4_numbers_82 (fun H locs hB => ?_)
      rw [← eμ1] at hB
      refine lv_iinc (v := (x4 + (nI 1))) (lv' := [(4, .int (x4 + (nI 1))), (0, .ref th), (1, .int x1), (3, .int x3)]) hx hb dX4_numbers_83 hl (k := 3) rfl rfl (by decide) rfl (fun ls hl => ?_)
      refine lv_goto (tgt := 64) hx hb dX4_numbers_86 rfl ?_
      exact ih (x4 + (nI 1)) μ1 _ _ _ hp hB (lv_sub hl [1, 2, 3, 0] rfl)
def pX4_numbers (th : Nat) (x1 : Int32) (x2 : Int32) (x3 : Int32) (μ : zM) (Q : Int32 → zM → Prop) : Prop := (zpI μ th 0 (nI 0) fun μ1 => (pX4_within th (x1.toInt64) (0 : Int64) (3 : Int64) μ1 fun r3 μ2 => (if r3 = 0 then Q (-2 : Int32) μ2 else (pX4_within th (x2.toInt64) (0 : Int64) (3 : Int64) μ2 fun r5 μ4 => (if r5 = 0 then Q (-2 : Int32) μ4 else (pX4_within th (x3.toInt64) (0 : Int64) (40 : Int64) μ4 fun r7 μ6 => (if r7 = 0 then Q (-3 : Int32) μ6 else (vp_in x1 4 ∧ zpI μ6 (th + 16) x1.toNatClampNeg x2 fun μ8 => (vp_in x1 4 ∧ zpI μ8 (th + 17) x1.toNatClampNeg x3 fun μ9 => ∃ k1, pX4_numbers_64 th x1 x3 Q k1 (nI 0) μ9)))))))))
theorem hX4_numbers : yX4_numbers.cls = "SunkTowerModel" ∧ yX4_numbers.cls ≠ "java/lang/invoke/MethodHandle" ∧ yX4_numbers.cls ≠ "java/lang/invoke/VarHandle" ∧ (parseMethodDescriptor yX4_numbers.desc).map (fun d => d.parameters.length) = some 3 := by decide +kernel
set_option maxHeartbeats 4000000 in
set_option maxRecDepth 100000 in
theorem mX4_numbers (l : Launch) (Γ : zG) (th : Nat) (x1 : Int32) (x2 : Int32) (x3 : Int32) (μ : zM) (Q : Int32 → zM → Prop) (hp : pX4_numbers th x1 x2 x3 μ Q) : Met l yX4_numbers (ws_ yX4_numbers cX4_numbers 5 (some .int)) ({ frames := 1, cells := 0, slots := 0, locals := 25 } : Room) (va_Pc [.ref th, .int x1, .int x2, .int x3] (zPre Γ (tSh th) μ)) (va_Qi Q (zPost Γ (tSh th) μ) (zA μ)) 0 0 (zA μ) := by
  refine zstart (by decide) (Nat.le_of_ble_eq_true rfl) ?_
  intro p e s m below meth c ls X hnm hB hl
  have X : zCx p m c cX4_numbers 5 s [.ref th, .int x1, .int x2, .int x3].toArray RX4 meth (some .int) := X
  have S := X.1
  obtain ⟨hx, hb, hml, hown, hts⟩ := X.1
  have hl : lv_has ls 5 [(0, .ref th), (1, .int x1), (2, .int x2), (3, .int x3)] := hl
  unfold pX4_numbers at hp
  refine lv_aload_n hx hb dX4_numbers_0 rfl (lv_at hl 0 rfl) ?_
  refine lv_iconst (v := (nI 0)) hx hb dX4_numbers_1 rfl ?_
  obtain ⟨μ1, eμ1, hp⟩ := zpI_e hp
  refine g_putI S hB (tT hB) rfl (T := TX4) (N := 38) (C := RX4) rfl in_X4 0 (by decide) (by decide) (x := (nI 0)) tyX4 tyX4_ok nmX4 q1392 (fun _ h9 => h9) rfl (ty := .int) (by decide +kernel) rfl rfl (fun _ _ => rfl) dX4_numbers_2 (fun H locs hB => ?_)
  rw [← eμ1] at hB
  refine lv_iload_n hx hb dX4_numbers_5 rfl (lv_at hl 1 rfl) ?_
  refine lv_i2l hx hb dX4_numbers_6 rfl ?_
  refine lv_lconst (v := (0 : Int64)) hx hb dX4_numbers_7 rfl ?_
  refine lv_ldc2 (v := (3 : Int64)) hx hb hown (hts _ q1764) dX4_numbers_8 ?_
  refine z_calli (va_runS (As := [.long (x1.toInt64), .long (0 : Int64), .long (3 : Int64)]) (rest := []) S (mX4_within l Γ th (x1.toInt64) (0 : Int64) (3 : Int64) μ1 _ hp) (va_cwS 3 hts (lw_S q1516 q1517 q132 q1518) rfl rfl rfl hX4_within ⟨Nat.le_of_ble_eq_true rfl, Nat.le_of_ble_eq_true rfl⟩) hB.preS rfl rfl hl.1 rfl (lv_room (Nat.le_of_ble_eq_true rfl)) dX4_numbers_11 ⟨Nat.le_refl _, Nat.le_refl _⟩) hB (fun r3 μ2 H locs hp hB => ?_)
  refine lv_if_eq (tgt := 29) hx hb dX4_numbers_14 rfl (fun c0 => ?_) (fun c0 => ?_)
  · have hp := zit hp c0
    refine lv_bipush (v := (-2 : Int32)) hx hb dX4_numbers_29 rfl ?_
    exact zret_i X hB hp dX4_numbers_31
  · have hp := zif hp c0
    refine lv_iload_n hx hb dX4_numbers_17 rfl (lv_at hl 2 rfl) ?_
    refine lv_i2l hx hb dX4_numbers_18 rfl ?_
    refine lv_lconst (v := (0 : Int64)) hx hb dX4_numbers_19 rfl ?_
    refine lv_ldc2 (v := (3 : Int64)) hx hb hown (hts _ q1764) dX4_numbers_20 ?_
    refine z_calli (va_runS (As := [.long (x2.toInt64), .long (0 : Int64), .long (3 : Int64)]) (rest := []) S (mX4_within l Γ th (x2.toInt64) (0 : Int64) (3 : Int64) μ2 _ hp) (va_cwS 3 hts (lw_S q1516 q1517 q132 q1518) rfl rfl rfl hX4_within ⟨Nat.le_of_ble_eq_true rfl, Nat.le_of_ble_eq_true rfl⟩) hB.preS rfl rfl hl.1 rfl (lv_room (Nat.le_of_ble_eq_true rfl)) dX4_numbers_23 ⟨Nat.le_refl _, Nat.le_refl _⟩) hB (fun r5 μ4 H locs hp hB => ?_)
    refine lv_if_ne (tgt := 32) hx hb dX4_numbers_26 rfl (fun c0 => ?_) (fun c0 => ?_)
    · have hp := zif hp c0
      refine lv_iload_n hx hb dX4_numbers_32 rfl (lv_at hl 3 rfl) ?_
      refine lv_i2l hx hb dX4_numbers_33 rfl ?_
      refine lv_lconst (v := (0 : Int64)) hx hb dX4_numbers_34 rfl ?_
      refine lv_ldc2 (v := (40 : Int64)) hx hb hown (hts _ q1999) dX4_numbers_35 ?_
      refine z_calli (va_runS (As := [.long (x3.toInt64), .long (0 : Int64), .long (40 : Int64)]) (rest := []) S (mX4_within l Γ th (x3.toInt64) (0 : Int64) (40 : Int64) μ4 _ hp) (va_cwS 3 hts (lw_S q1516 q1517 q132 q1518) rfl rfl rfl hX4_within ⟨Nat.le_of_ble_eq_true rfl, Nat.le_of_ble_eq_true rfl⟩) hB.preS rfl rfl hl.1 rfl (lv_room (Nat.le_of_ble_eq_true rfl)) dX4_numbers_38 ⟨Nat.le_refl _, Nat.le_refl _⟩) hB (fun r7 μ6 H locs hp hB => ?_)
      refine lv_if_ne (tgt := 47) hx hb dX4_numbers_41 rfl (fun c0 => ?_) (fun c0 => ?_)
      · have hp := zif hp c0
        refine lv_aload_n hx hb dX4_numbers_47 rfl (lv_at hl 0 rfl) ?_
        refine g_getr S hB (tT hB) rfl (T := TX4) (N := 38) (C := RX4) rfl in_X4 35 (by decide) (by decide) q1427 (fun _ h9 => h9) (fun _ => rfl) (tA hB 15 rfl).1 dX4_numbers_48 ?_
        refine lv_iload_n hx hb dX4_numbers_51 rfl (lv_at hl 1 rfl) ?_
        refine lv_iload_n hx hb dX4_numbers_52 rfl (lv_at hl 2 rfl) ?_
        obtain ⟨hi, hp⟩ := hp
        obtain ⟨μ8, eμ8, hp⟩ := zpI_e hp
        refine g_iast S hB (tA hB 15 rfl).2 hi dX4_numbers_53 (fun H locs hB => ?_)
        rw [← eμ8] at hB
        refine lv_aload_n hx hb dX4_numbers_54 rfl (lv_at hl 0 rfl) ?_
        refine g_getr S hB (tT hB) rfl (T := TX4) (N := 38) (C := RX4) rfl in_X4 36 (by decide) (by decide) q1428 (fun _ h9 => h9) (fun _ => rfl) (tA hB 16 rfl).1 dX4_numbers_55 ?_
        refine lv_iload_n hx hb dX4_numbers_58 rfl (lv_at hl 1 rfl) ?_
        refine lv_iload_n hx hb dX4_numbers_59 rfl (lv_at hl 3 rfl) ?_
        obtain ⟨hi, hp⟩ := hp
        obtain ⟨μ9, eμ9, hp⟩ := zpI_e hp
        refine g_iast S hB (tA hB 16 rfl).2 hi dX4_numbers_60 (fun H locs hB => ?_)
        rw [← eμ9] at hB
        refine lv_iconst (v := (nI 0)) hx hb dX4_numbers_61 rfl ?_
        refine lv_istore (lv' := [(4, .int (nI 0)), (0, .ref th), (1, .int x1), (2, .int x2), (3, .int x3)]) hx hb dX4_numbers_62 hl (by decide) rfl (fun ls hl => ?_)
        obtain ⟨n1, hp⟩ := hp
        exact wX4_numbers_64 X th x1 x3 n1 (nI 0) μ9 _ _ _ hp hB (lv_sub hl [1, 2, 4, 0] rfl)
      · have hp := zit hp c0
        refine lv_bipush (v := (-3 : Int32)) hx hb dX4_numbers_44 rfl ?_
        exact zret_i X hB hp dX4_numbers_46
    · have hp := zit hp c0
      refine lv_bipush (v := (-2 : Int32)) hx hb dX4_numbers_29 rfl ?_
      exact zret_i X hB hp dX4_numbers_31
def pX4_cut (th : Nat) (x0 : Int64) (x2 : Int32) (μ : zM) (Q : Int64 → zM → Prop) : Prop := (if x2 = 0 then Q (((x0.toInt32).toInt8.toInt32).toInt64) μ else (if x2 = (nI 1) then Q (((x0.toInt32).toInt16.toInt32).toInt64) μ else (if x2 = (nI 2) then Q ((x0.toInt32).toInt64) μ else Q x0 μ)))
theorem hX4_cut : yX4_cut.cls ≠ "java/lang/invoke/MethodHandle" ∧ yX4_cut.cls ≠ "java/lang/invoke/VarHandle" ∧ (parseMethodDescriptor yX4_cut.desc).map (fun d => d.parameters.length) = some 2 := by decide +kernel
set_option maxHeartbeats 4000000 in
set_option maxRecDepth 100000 in
theorem mX4_cut (l : Launch) (Γ : zG) (th : Nat) (x0 : Int64) (x2 : Int32) (μ : zM) (Q : Int64 → zM → Prop) (hp : pX4_cut th x0 x2 μ Q) : Met l yX4_cut (ws_ yX4_cut cX4_cut 3 (some .long)) ({ frames := 0, cells := 0, slots := 0, locals := 0 } : Room) (va_Pc [.long x0, .int x2] (zPre Γ (tSh th) μ)) (va_Ql Q (zPost Γ (tSh th) μ) (zA μ)) 0 0 (zA μ) := by
  refine zstart (by decide) (Nat.le_of_ble_eq_true rfl) ?_
  intro p e s m below meth c ls X hnm hB hl
  have X : zCx p m c cX4_cut 3 s [.long x0, .int x2].toArray RX4 meth (some .long) := X
  have S := X.1
  obtain ⟨hx, hb, hml, hown, hts⟩ := X.1
  have hl : lv_has ls 3 [(0, .long x0), (2, .int x2)] := hl
  unfold pX4_cut at hp
  refine lv_iload_n hx hb dX4_cut_0 rfl (lv_at hl 1 rfl) ?_
  refine lv_if_ne (tgt := 11) hx hb dX4_cut_1 rfl (fun c0 => ?_) (fun c0 => ?_)
  · have hp := zif hp c0
    refine lv_iload_n hx hb dX4_cut_11 rfl (lv_at hl 1 rfl) ?_
    refine lv_iconst (v := (nI 1)) hx hb dX4_cut_12 rfl ?_
    refine lv_icmp_ne (tgt := 23) hx hb dX4_cut_13 rfl (fun c0 => ?_) (fun c0 => ?_)
    · have hp := zif hp c0
      refine lv_iload_n hx hb dX4_cut_23 rfl (lv_at hl 1 rfl) ?_
      refine lv_iconst (v := (nI 2)) hx hb dX4_cut_24 rfl ?_
      refine lv_icmp_ne (tgt := 34) hx hb dX4_cut_25 rfl (fun c0 => ?_) (fun c0 => ?_)
      · have hp := zif hp c0
        refine lv_lload_n hx hb dX4_cut_34 rfl (lv_at hl 0 rfl) ?_
        exact zret_l X hB hp dX4_cut_35
      · have hp := zit hp c0
        refine lv_lload_n hx hb dX4_cut_28 rfl (lv_at hl 0 rfl) ?_
        refine lv_l2i hx hb dX4_cut_29 rfl ?_
        refine lv_i2l hx hb dX4_cut_30 rfl ?_
        refine lv_goto (tgt := 35) hx hb dX4_cut_31 rfl ?_
        exact zret_l X hB hp dX4_cut_35
    · have hp := zit hp c0
      refine lv_lload_n hx hb dX4_cut_16 rfl (lv_at hl 0 rfl) ?_
      refine lv_l2i hx hb dX4_cut_17 rfl ?_
      refine lv_i2s hx hb dX4_cut_18 rfl ?_
      refine lv_i2l hx hb dX4_cut_19 rfl ?_
      refine lv_goto (tgt := 35) hx hb dX4_cut_20 rfl ?_
      exact zret_l X hB hp dX4_cut_35
  · have hp := zit hp c0
    refine lv_lload_n hx hb dX4_cut_4 rfl (lv_at hl 0 rfl) ?_
    refine lv_l2i hx hb dX4_cut_5 rfl ?_
    refine lv_i2b hx hb dX4_cut_6 rfl ?_
    refine lv_i2l hx hb dX4_cut_7 rfl ?_
    refine lv_goto (tgt := 35) hx hb dX4_cut_8 rfl ?_
    exact zret_l X hB hp dX4_cut_35
def pX4_image_20 (th : Nat) (x1 : Int32) (Q : Int32 → zM → Prop) : Nat → Int32 → zM → Prop
  | 0, _, _ => False
  | n + 1, x2, μ => (if (nI 1198) ≤ x2 then (vp_in x1 2 ∧ zpI μ (th + 2) x1.toNatClampNeg (vp_nar .boolean (nI 1)) fun μ1 => Q (nI 0) μ1) else (vp_in x2 3594 ∧ (vp_in (((nI 1198) * (x1 + (nI 1))) + x2) 3594 ∧ zpI μ (th + 1) (((nI 1198) * (x1 + (nI 1))) + x2).toNatClampNeg (zI μ (th + 1) x2.toNatClampNeg) fun μ2 => pX4_image_20 th x1 Q n (x2 + (nI 1)) μ2)))
set_option maxHeartbeats 4000000 in
set_option maxRecDepth 100000 in
theorem wX4_image_20 {p : Program} {l : Launch} {e : Env} {s : State} {m : MethodId} {args : Array Value} {below : List Frame} {meth : Method} {c : Code} {Γ : zG} {μ0 : zM} {Q : Int32 → zM → Prop} (X : zCx p m c cX4_image 3 s args RX4 meth (some .int)) (th : Nat) (x1 : Int32) : ∀ (n : Nat) (x2 : Int32) (μ : zM) (H : Heap) (locs : List Loc) (ls : Array Slot), pX4_image_20 th x1 Q n x2 μ → zB Γ (tSh th) (zA μ0) μ0 s μ H locs → lv_has ls 3 [(0, .ref th), (1, .int x1), (2, .int x2)] → W p l e ({ frames := 1, cells := 0, slots := 0, locals := 25 } : Room) s m args below meth c H locs 0 0 (MQ below (va_Qi Q (zPost Γ (tSh th) μ0) (zA μ0)) args s 0 0 (zA μ0)) (F0 m 20 ls []) := by
  have S := X.1
  obtain ⟨hx, hb, hml, hown, hts⟩ := X.1
  intro n
  induction n with
  | zero =>
    intro x2 μ H locs ls hp
    exact hp.elim
  | succ n ih =>
    intro x2 μ H locs ls hp hB hl
    unfold pX4_image_20 at hp
    refine lv_iload_n hx hb dX4_image_20 rfl (lv_at hl 2 rfl) ?_
    refine lv_sipush (v := (nI 1198)) hx hb dX4_image_21 rfl ?_
    refine lv_icmp_ge (tgt := 53) hx hb dX4_image_24 rfl (fun c0 => ?_) (fun c0 => ?_)
    · have hp := zit hp c0
      refine lv_aload_n hx hb dX4_image_53 rfl (lv_at hl 0 rfl) ?_
      refine g_getr S hB (tT hB) rfl (T := TX4) (N := 38) (C := RX4) rfl in_X4 2 (by decide) (by decide) q1394 (fun _ h9 => h9) (fun _ => rfl) (tA hB 1 rfl).1 dX4_image_54 ?_
      refine lv_iload_n hx hb dX4_image_57 rfl (lv_at hl 1 rfl) ?_
      refine lv_iconst (v := (nI 1)) hx hb dX4_image_58 rfl ?_
      obtain ⟨hi, hp⟩ := hp
      obtain ⟨μ1, eμ1, hp⟩ := zpI_e hp
      refine g_zast S hB (tA hB 1 rfl).2 hi dX4_image_59 (fun H locs hB => ?_)
      rw [← eμ1] at hB
      refine lv_iconst (v := (nI 0)) hx hb dX4_image_60 rfl ?_
      exact zret_i X hB hp dX4_image_61
    · have hp := zif hp c0
      refine lv_aload_n hx hb dX4_image_27 rfl (lv_at hl 0 rfl) ?_
      refine g_getr S hB (tT hB) rfl (T := TX4) (N := 38) (C := RX4) rfl in_X4 1 (by decide) (by decide) q1393 (fun _ h9 => h9) (fun _ => rfl) (tA hB 0 rfl).1 dX4_image_28 ?_
      refine lv_sipush (v := (nI 1198)) hx hb dX4_image_31 rfl ?_
      refine lv_iload_n hx hb dX4_image_34 rfl (lv_at hl 1 rfl) ?_
      refine lv_iconst (v := (nI 1)) hx hb dX4_image_35 rfl ?_
      refine lv_iadd hx hb dX4_image_36 ?_
      refine lv_imul hx hb dX4_image_37 ?_
      refine lv_iload_n hx hb dX4_image_38 rfl (lv_at hl 2 rfl) ?_
      refine lv_iadd hx hb dX4_image_39 ?_
      refine lv_aload_n hx hb dX4_image_40 rfl (lv_at hl 0 rfl) ?_
      refine g_getr S hB (tT hB) rfl (T := TX4) (N := 38) (C := RX4) rfl in_X4 1 (by decide) (by decide) q1393 (fun _ h9 => h9) (fun _ => rfl) (tA hB 0 rfl).1 dX4_image_41 ?_
      refine lv_iload_n hx hb dX4_image_44 rfl (lv_at hl 2 rfl) ?_
      obtain ⟨hi, hp⟩ := hp
      refine g_iald S hB (tA hB 0 rfl).2 hi dX4_image_45 ?_
      obtain ⟨hi, hp⟩ := hp
      obtain ⟨μ2, eμ2, hp⟩ := zpI_e hp
      refine g_iast S hB (tA hB 0 rfl).2 hi dX4_image_46 (fun H locs hB => ?_)
      rw [← eμ2] at hB
      refine lv_iinc (v := (x2 + (nI 1))) (lv' := [(2, .int (x2 + (nI 1))), (0, .ref th), (1, .int x1)]) hx hb dX4_image_47 hl (k := 2) rfl rfl (by decide) rfl (fun ls hl => ?_)
      refine lv_goto (tgt := 20) hx hb dX4_image_50 rfl ?_
      exact ih (x2 + (nI 1)) μ2 _ _ _ hp hB (lv_sub hl [1, 2, 0] rfl)
def pX4_image (th : Nat) (x1 : Int32) (μ : zM) (Q : Int32 → zM → Prop) : Prop := (zpI μ th 0 (nI 0) fun μ1 => (pX4_within th (x1.toInt64) (0 : Int64) (1 : Int64) μ1 fun r3 μ2 => (if r3 = 0 then Q (-2 : Int32) μ2 else ∃ k1, pX4_image_20 th x1 Q k1 (nI 0) μ2)))
theorem hX4_image : yX4_image.cls = "SunkTowerModel" ∧ yX4_image.cls ≠ "java/lang/invoke/MethodHandle" ∧ yX4_image.cls ≠ "java/lang/invoke/VarHandle" ∧ (parseMethodDescriptor yX4_image.desc).map (fun d => d.parameters.length) = some 1 := by decide +kernel
set_option maxHeartbeats 4000000 in
set_option maxRecDepth 100000 in
theorem mX4_image (l : Launch) (Γ : zG) (th : Nat) (x1 : Int32) (μ : zM) (Q : Int32 → zM → Prop) (hp : pX4_image th x1 μ Q) : Met l yX4_image (ws_ yX4_image cX4_image 3 (some .int)) ({ frames := 1, cells := 0, slots := 0, locals := 25 } : Room) (va_Pc [.ref th, .int x1] (zPre Γ (tSh th) μ)) (va_Qi Q (zPost Γ (tSh th) μ) (zA μ)) 0 0 (zA μ) := by
  refine zstart (by decide) (Nat.le_of_ble_eq_true rfl) ?_
  intro p e s m below meth c ls X hnm hB hl
  have X : zCx p m c cX4_image 3 s [.ref th, .int x1].toArray RX4 meth (some .int) := X
  have S := X.1
  obtain ⟨hx, hb, hml, hown, hts⟩ := X.1
  have hl : lv_has ls 3 [(0, .ref th), (1, .int x1)] := hl
  unfold pX4_image at hp
  refine lv_aload_n hx hb dX4_image_0 rfl (lv_at hl 0 rfl) ?_
  refine lv_iconst (v := (nI 0)) hx hb dX4_image_1 rfl ?_
  obtain ⟨μ1, eμ1, hp⟩ := zpI_e hp
  refine g_putI S hB (tT hB) rfl (T := TX4) (N := 38) (C := RX4) rfl in_X4 0 (by decide) (by decide) (x := (nI 0)) tyX4 tyX4_ok nmX4 q1392 (fun _ h9 => h9) rfl (ty := .int) (by decide +kernel) rfl rfl (fun _ _ => rfl) dX4_image_2 (fun H locs hB => ?_)
  rw [← eμ1] at hB
  refine lv_iload_n hx hb dX4_image_5 rfl (lv_at hl 1 rfl) ?_
  refine lv_i2l hx hb dX4_image_6 rfl ?_
  refine lv_lconst (v := (0 : Int64)) hx hb dX4_image_7 rfl ?_
  refine lv_lconst (v := (1 : Int64)) hx hb dX4_image_8 rfl ?_
  refine z_calli (va_runS (As := [.long (x1.toInt64), .long (0 : Int64), .long (1 : Int64)]) (rest := []) S (mX4_within l Γ th (x1.toInt64) (0 : Int64) (1 : Int64) μ1 _ hp) (va_cwS 3 hts (lw_S q1516 q1517 q132 q1518) rfl rfl rfl hX4_within ⟨Nat.le_of_ble_eq_true rfl, Nat.le_of_ble_eq_true rfl⟩) hB.preS rfl rfl hl.1 rfl (lv_room (Nat.le_of_ble_eq_true rfl)) dX4_image_9 ⟨Nat.le_refl _, Nat.le_refl _⟩) hB (fun r3 μ2 H locs hp hB => ?_)
  refine lv_if_ne (tgt := 18) hx hb dX4_image_12 rfl (fun c0 => ?_) (fun c0 => ?_)
  · have hp := zif hp c0
    refine lv_iconst (v := (nI 0)) hx hb dX4_image_18 rfl ?_
    refine lv_istore_n (lv' := [(2, .int (nI 0)), (0, .ref th), (1, .int x1)]) hx hb dX4_image_19 rfl hl (by decide) rfl (fun ls hl => ?_)
    obtain ⟨n1, hp⟩ := hp
    exact wX4_image_20 X th x1 n1 (nI 0) μ2 _ _ _ hp hB (lv_sub hl [1, 2, 0] rfl)
  · have hp := zit hp c0
    refine lv_bipush (v := (-2 : Int32)) hx hb dX4_image_15 rfl ?_
    exact zret_i X hB hp dX4_image_17
def pX4_restore_32 (th : Nat) (x1 : Int32) (Q : Int32 → zM → Prop) : Nat → Int32 → zM → Prop
  | 0, _, _ => False
  | n + 1, x2, μ => (if (nI 1198) ≤ x2 then (vp_in (nI 66) 3594 ∧ zpI μ (th + 1) (nI 66).toNatClampNeg (nI 0) fun μ1 => Q (nI 0) μ1) else (vp_in (((nI 1198) * (x1 + (nI 1))) + x2) 3594 ∧ (vp_in x2 3594 ∧ zpI μ (th + 1) x2.toNatClampNeg (zI μ (th + 1) (((nI 1198) * (x1 + (nI 1))) + x2).toNatClampNeg) fun μ2 => pX4_restore_32 th x1 Q n (x2 + (nI 1)) μ2)))
set_option maxHeartbeats 4000000 in
set_option maxRecDepth 100000 in
theorem wX4_restore_32 {p : Program} {l : Launch} {e : Env} {s : State} {m : MethodId} {args : Array Value} {below : List Frame} {meth : Method} {c : Code} {Γ : zG} {μ0 : zM} {Q : Int32 → zM → Prop} (X : zCx p m c cX4_restore 3 s args RX4 meth (some .int)) (th : Nat) (x1 : Int32) : ∀ (n : Nat) (x2 : Int32) (μ : zM) (H : Heap) (locs : List Loc) (ls : Array Slot), pX4_restore_32 th x1 Q n x2 μ → zB Γ (tSh th) (zA μ0) μ0 s μ H locs → lv_has ls 3 [(0, .ref th), (1, .int x1), (2, .int x2)] → W p l e ({ frames := 1, cells := 0, slots := 0, locals := 25 } : Room) s m args below meth c H locs 0 0 (MQ below (va_Qi Q (zPost Γ (tSh th) μ0) (zA μ0)) args s 0 0 (zA μ0)) (F0 m 32 ls []) := by
  have S := X.1
  obtain ⟨hx, hb, hml, hown, hts⟩ := X.1
  intro n
  induction n with
  | zero =>
    intro x2 μ H locs ls hp
    exact hp.elim
  | succ n ih =>
    intro x2 μ H locs ls hp hB hl
    unfold pX4_restore_32 at hp
    refine lv_iload_n hx hb dX4_restore_32 rfl (lv_at hl 2 rfl) ?_
    refine lv_sipush (v := (nI 1198)) hx hb dX4_restore_33 rfl ?_
    refine lv_icmp_ge (tgt := 65) hx hb dX4_restore_36 rfl (fun c0 => ?_) (fun c0 => ?_)
    · have hp := zit hp c0
      refine lv_aload_n hx hb dX4_restore_65 rfl (lv_at hl 0 rfl) ?_
      refine g_getr S hB (tT hB) rfl (T := TX4) (N := 38) (C := RX4) rfl in_X4 1 (by decide) (by decide) q1393 (fun _ h9 => h9) (fun _ => rfl) (tA hB 0 rfl).1 dX4_restore_66 ?_
      refine lv_bipush (v := (nI 66)) hx hb dX4_restore_69 rfl ?_
      refine lv_iconst (v := (nI 0)) hx hb dX4_restore_71 rfl ?_
      obtain ⟨hi, hp⟩ := hp
      obtain ⟨μ1, eμ1, hp⟩ := zpI_e hp
      refine g_iast S hB (tA hB 0 rfl).2 hi dX4_restore_72 (fun H locs hB => ?_)
      rw [← eμ1] at hB
      refine lv_iconst (v := (nI 0)) hx hb dX4_restore_73 rfl ?_
      exact zret_i X hB hp dX4_restore_74
    · have hp := zif hp c0
      refine lv_aload_n hx hb dX4_restore_39 rfl (lv_at hl 0 rfl) ?_
      refine g_getr S hB (tT hB) rfl (T := TX4) (N := 38) (C := RX4) rfl in_X4 1 (by decide) (by decide) q1393 (fun _ h9 => h9) (fun _ => rfl) (tA hB 0 rfl).1 dX4_restore_40 ?_
      refine lv_iload_n hx hb dX4_restore_43 rfl (lv_at hl 2 rfl) ?_
      refine lv_aload_n hx hb dX4_restore_44 rfl (lv_at hl 0 rfl) ?_
      refine g_getr S hB (tT hB) rfl (T := TX4) (N := 38) (C := RX4) rfl in_X4 1 (by decide) (by decide) q1393 (fun _ h9 => h9) (fun _ => rfl) (tA hB 0 rfl).1 dX4_restore_45 ?_
      refine lv_sipush (v := (nI 1198)) hx hb dX4_restore_48 rfl ?_
      refine lv_iload_n hx hb dX4_restore_51 rfl (lv_at hl 1 rfl) ?_
      refine lv_iconst (v := (nI 1)) hx hb dX4_restore_52 rfl ?_
      refine lv_iadd hx hb dX4_restore_53 ?_
      refine lv_imul hx hb dX4_restore_54 ?_
      refine lv_iload_n hx hb dX4_restore_55 rfl (lv_at hl 2 rfl) ?_
      refine lv_iadd hx hb dX4_restore_56 ?_
      obtain ⟨hi, hp⟩ := hp
      refine g_iald S hB (tA hB 0 rfl).2 hi dX4_restore_57 ?_
      obtain ⟨hi, hp⟩ := hp
      obtain ⟨μ2, eμ2, hp⟩ := zpI_e hp
      refine g_iast S hB (tA hB 0 rfl).2 hi dX4_restore_58 (fun H locs hB => ?_)
      rw [← eμ2] at hB
      refine lv_iinc (v := (x2 + (nI 1))) (lv' := [(2, .int (x2 + (nI 1))), (0, .ref th), (1, .int x1)]) hx hb dX4_restore_59 hl (k := 2) rfl rfl (by decide) rfl (fun ls hl => ?_)
      refine lv_goto (tgt := 32) hx hb dX4_restore_62 rfl ?_
      exact ih (x2 + (nI 1)) μ2 _ _ _ hp hB (lv_sub hl [1, 2, 0] rfl)
def pX4_restore (th : Nat) (x1 : Int32) (μ : zM) (Q : Int32 → zM → Prop) : Prop := (zpI μ th 0 (nI 0) fun μ1 => (pX4_within th (x1.toInt64) (0 : Int64) (1 : Int64) μ1 fun r3 μ2 => (if r3 = 0 then Q (-2 : Int32) μ2 else (vp_in x1 2 ∧ (if (zI μ2 (th + 2) x1.toNatClampNeg) = 0 then Q (-5 : Int32) μ2 else ∃ k1, pX4_restore_32 th x1 Q k1 (nI 0) μ2)))))
theorem hX4_restore : yX4_restore.cls = "SunkTowerModel" ∧ yX4_restore.cls ≠ "java/lang/invoke/MethodHandle" ∧ yX4_restore.cls ≠ "java/lang/invoke/VarHandle" ∧ (parseMethodDescriptor yX4_restore.desc).map (fun d => d.parameters.length) = some 1 := by decide +kernel
set_option maxHeartbeats 4000000 in
set_option maxRecDepth 100000 in
theorem mX4_restore (l : Launch) (Γ : zG) (th : Nat) (x1 : Int32) (μ : zM) (Q : Int32 → zM → Prop) (hp : pX4_restore th x1 μ Q) : Met l yX4_restore (ws_ yX4_restore cX4_restore 3 (some .int)) ({ frames := 1, cells := 0, slots := 0, locals := 25 } : Room) (va_Pc [.ref th, .int x1] (zPre Γ (tSh th) μ)) (va_Qi Q (zPost Γ (tSh th) μ) (zA μ)) 0 0 (zA μ) := by
  refine zstart (by decide) (Nat.le_of_ble_eq_true rfl) ?_
  intro p e s m below meth c ls X hnm hB hl
  have X : zCx p m c cX4_restore 3 s [.ref th, .int x1].toArray RX4 meth (some .int) := X
  have S := X.1
  obtain ⟨hx, hb, hml, hown, hts⟩ := X.1
  have hl : lv_has ls 3 [(0, .ref th), (1, .int x1)] := hl
  unfold pX4_restore at hp
  refine lv_aload_n hx hb dX4_restore_0 rfl (lv_at hl 0 rfl) ?_
  refine lv_iconst (v := (nI 0)) hx hb dX4_restore_1 rfl ?_
  obtain ⟨μ1, eμ1, hp⟩ := zpI_e hp
  refine g_putI S hB (tT hB) rfl (T := TX4) (N := 38) (C := RX4) rfl in_X4 0 (by decide) (by decide) (x := (nI 0)) tyX4 tyX4_ok nmX4 q1392 (fun _ h9 => h9) rfl (ty := .int) (by decide +kernel) rfl rfl (fun _ _ => rfl) dX4_restore_2 (fun H locs hB => ?_)
  rw [← eμ1] at hB
  refine lv_iload_n hx hb dX4_restore_5 rfl (lv_at hl 1 rfl) ?_
  refine lv_i2l hx hb dX4_restore_6 rfl ?_
  refine lv_lconst (v := (0 : Int64)) hx hb dX4_restore_7 rfl ?_
  refine lv_lconst (v := (1 : Int64)) hx hb dX4_restore_8 rfl ?_
  refine z_calli (va_runS (As := [.long (x1.toInt64), .long (0 : Int64), .long (1 : Int64)]) (rest := []) S (mX4_within l Γ th (x1.toInt64) (0 : Int64) (1 : Int64) μ1 _ hp) (va_cwS 3 hts (lw_S q1516 q1517 q132 q1518) rfl rfl rfl hX4_within ⟨Nat.le_of_ble_eq_true rfl, Nat.le_of_ble_eq_true rfl⟩) hB.preS rfl rfl hl.1 rfl (lv_room (Nat.le_of_ble_eq_true rfl)) dX4_restore_9 ⟨Nat.le_refl _, Nat.le_refl _⟩) hB (fun r3 μ2 H locs hp hB => ?_)
  refine lv_if_ne (tgt := 18) hx hb dX4_restore_12 rfl (fun c0 => ?_) (fun c0 => ?_)
  · have hp := zif hp c0
    refine lv_aload_n hx hb dX4_restore_18 rfl (lv_at hl 0 rfl) ?_
    refine g_getr S hB (tT hB) rfl (T := TX4) (N := 38) (C := RX4) rfl in_X4 2 (by decide) (by decide) q1394 (fun _ h9 => h9) (fun _ => rfl) (tA hB 1 rfl).1 dX4_restore_19 ?_
    refine lv_iload_n hx hb dX4_restore_22 rfl (lv_at hl 1 rfl) ?_
    obtain ⟨hi, hp⟩ := hp
    refine g_zald S hB (tA hB 1 rfl).2 hi dX4_restore_23 ?_
    refine lv_if_ne (tgt := 30) hx hb dX4_restore_24 rfl (fun c0 => ?_) (fun c0 => ?_)
    · have hp := zif hp c0
      refine lv_iconst (v := (nI 0)) hx hb dX4_restore_30 rfl ?_
      refine lv_istore_n (lv' := [(2, .int (nI 0)), (0, .ref th), (1, .int x1)]) hx hb dX4_restore_31 rfl hl (by decide) rfl (fun ls hl => ?_)
      obtain ⟨n1, hp⟩ := hp
      exact wX4_restore_32 X th x1 n1 (nI 0) μ2 _ _ _ hp hB (lv_sub hl [1, 2, 0] rfl)
    · have hp := zit hp c0
      refine lv_bipush (v := (-5 : Int32)) hx hb dX4_restore_27 rfl ?_
      exact zret_i X hB hp dX4_restore_29
  · have hp := zit hp c0
    refine lv_bipush (v := (-2 : Int32)) hx hb dX4_restore_15 rfl ?_
    exact zret_i X hB hp dX4_restore_17
def pX4_away_4 (th : Nat) (Q : Int32 → zM → Prop) : Nat → Int32 → Int32 → zM → Prop
  | 0, _, _, _ => False
  | n + 1, x1, x2, μ => (vp_in (nI 1) 3594 ∧ (if (zI μ (th + 1) (nI 1).toNatClampNeg) ≤ x2 then Q x1 μ else (vp_in ((nI 35) + x2) 3594 ∧ (if (zI μ (th + 1) ((nI 35) + x2).toNatClampNeg) = (-1 : Int32) then pX4_away_4 th Q n (x1 + (nI 1)) (x2 + (nI 1)) μ else pX4_away_4 th Q n (x1 + (nI 0)) (x2 + (nI 1)) μ))))
set_option maxHeartbeats 4000000 in
set_option maxRecDepth 100000 in
theorem wX4_away_4 {p : Program} {l : Launch} {e : Env} {s : State} {m : MethodId} {args : Array Value} {below : List Frame} {meth : Method} {c : Code} {Γ : zG} {μ0 : zM} {Q : Int32 → zM → Prop} (X : zCx p m c cX4_away 3 s args RX4 meth (some .int)) (th : Nat) : ∀ (n : Nat) (x1 : Int32) (x2 : Int32) (μ : zM) (H : Heap) (locs : List Loc) (ls : Array Slot), pX4_away_4 th Q n x1 x2 μ → zB Γ (tSh th) (zA μ0) μ0 s μ H locs → lv_has ls 3 [(0, .ref th), (1, .int x1), (2, .int x2)] → W p l e ({ frames := 0, cells := 0, slots := 0, locals := 0 } : Room) s m args below meth c H locs 0 0 (MQ below (va_Qi Q (zPost Γ (tSh th) μ0) (zA μ0)) args s 0 0 (zA μ0)) (F0 m 4 ls []) := by
  have S := X.1
  obtain ⟨hx, hb, hml, hown, hts⟩ := X.1
  intro n
  induction n with
  | zero =>
    intro x1 x2 μ H locs ls hp
    exact hp.elim
  | succ n ih =>
    intro x1 x2 μ H locs ls hp hB hl
    unfold pX4_away_4 at hp
    refine lv_iload_n hx hb dX4_away_4 rfl (lv_at hl 2 rfl) ?_
    refine lv_aload_n hx hb dX4_away_5 rfl (lv_at hl 0 rfl) ?_
    refine g_getr S hB (tT hB) rfl (T := TX4) (N := 38) (C := RX4) rfl in_X4 1 (by decide) (by decide) q1393 (fun _ h9 => h9) (fun _ => rfl) (tA hB 0 rfl).1 dX4_away_6 ?_
    refine lv_iconst (v := (nI 1)) hx hb dX4_away_9 rfl ?_
    obtain ⟨hi, hp⟩ := hp
    refine g_iald S hB (tA hB 0 rfl).2 hi dX4_away_10 ?_
    refine lv_icmp_ge (tgt := 41) hx hb dX4_away_11 rfl (fun c0 => ?_) (fun c0 => ?_)
    · have hp := zit hp c0
      refine lv_iload_n hx hb dX4_away_41 rfl (lv_at hl 1 rfl) ?_
      exact zret_i X hB hp dX4_away_42
    · have hp := zif hp c0
      refine lv_iload_n hx hb dX4_away_14 rfl (lv_at hl 1 rfl) ?_
      refine lv_aload_n hx hb dX4_away_15 rfl (lv_at hl 0 rfl) ?_
      refine g_getr S hB (tT hB) rfl (T := TX4) (N := 38) (C := RX4) rfl in_X4 1 (by decide) (by decide) q1393 (fun _ h9 => h9) (fun _ => rfl) (tA hB 0 rfl).1 dX4_away_16 ?_
      refine lv_bipush (v := (nI 35)) hx hb dX4_away_19 rfl ?_
      refine lv_iload_n hx hb dX4_away_21 rfl (lv_at hl 2 rfl) ?_
      refine lv_iadd hx hb dX4_away_22 ?_
      obtain ⟨hi, hp⟩ := hp
      refine g_iald S hB (tA hB 0 rfl).2 hi dX4_away_23 ?_
      refine lv_iconst (v := (-1 : Int32)) hx hb dX4_away_24 rfl ?_
      refine lv_icmp_ne (tgt := 32) hx hb dX4_away_25 rfl (fun c0 => ?_) (fun c0 => ?_)
      · have hp := zif hp c0
        refine lv_iconst (v := (nI 0)) hx hb dX4_away_32 rfl ?_
        refine lv_iadd hx hb dX4_away_33 ?_
        refine lv_istore_n (lv' := [(1, .int (x1 + (nI 0))), (0, .ref th), (2, .int x2)]) hx hb dX4_away_34 rfl hl (by decide) rfl (fun ls hl => ?_)
        refine lv_iinc (v := (x2 + (nI 1))) (lv' := [(2, .int (x2 + (nI 1))), (1, .int (x1 + (nI 0))), (0, .ref th)]) hx hb dX4_away_35 hl (k := 2) rfl rfl (by decide) rfl (fun ls hl => ?_)
        refine lv_goto (tgt := 4) hx hb dX4_away_38 rfl ?_
        exact ih (x1 + (nI 0)) (x2 + (nI 1)) μ _ _ _ hp hB (lv_sub hl [2, 1, 0] rfl)
      · have hp := zit hp c0
        refine lv_iconst (v := (nI 1)) hx hb dX4_away_28 rfl ?_
        refine lv_goto (tgt := 33) hx hb dX4_away_29 rfl ?_
        refine lv_iadd hx hb dX4_away_33 ?_
        refine lv_istore_n (lv' := [(1, .int (x1 + (nI 1))), (0, .ref th), (2, .int x2)]) hx hb dX4_away_34 rfl hl (by decide) rfl (fun ls hl => ?_)
        refine lv_iinc (v := (x2 + (nI 1))) (lv' := [(2, .int (x2 + (nI 1))), (1, .int (x1 + (nI 1))), (0, .ref th)]) hx hb dX4_away_35 hl (k := 2) rfl rfl (by decide) rfl (fun ls hl => ?_)
        refine lv_goto (tgt := 4) hx hb dX4_away_38 rfl ?_
        exact ih (x1 + (nI 1)) (x2 + (nI 1)) μ _ _ _ hp hB (lv_sub hl [2, 1, 0] rfl)
def pX4_away (th : Nat) (μ : zM) (Q : Int32 → zM → Prop) : Prop := ∃ k1, pX4_away_4 th Q k1 (nI 0) (nI 0) μ
theorem hX4_away : yX4_away.cls = "SunkTowerModel" ∧ yX4_away.cls ≠ "java/lang/invoke/MethodHandle" ∧ yX4_away.cls ≠ "java/lang/invoke/VarHandle" ∧ (parseMethodDescriptor yX4_away.desc).map (fun d => d.parameters.length) = some 0 := by decide +kernel
set_option maxHeartbeats 4000000 in
set_option maxRecDepth 100000 in
theorem mX4_away (l : Launch) (Γ : zG) (th : Nat) (μ : zM) (Q : Int32 → zM → Prop) (hp : pX4_away th μ Q) : Met l yX4_away (ws_ yX4_away cX4_away 3 (some .int)) ({ frames := 0, cells := 0, slots := 0, locals := 0 } : Room) (va_Pc [.ref th] (zPre Γ (tSh th) μ)) (va_Qi Q (zPost Γ (tSh th) μ) (zA μ)) 0 0 (zA μ) := by
  refine zstart (by decide) (Nat.le_of_ble_eq_true rfl) ?_
  intro p e s m below meth c ls X hnm hB hl
  have X : zCx p m c cX4_away 3 s [.ref th].toArray RX4 meth (some .int) := X
  have S := X.1
  obtain ⟨hx, hb, hml, hown, hts⟩ := X.1
  have hl : lv_has ls 3 [(0, .ref th)] := hl
  unfold pX4_away at hp
  refine lv_iconst (v := (nI 0)) hx hb dX4_away_0 rfl ?_
  refine lv_istore_n (lv' := [(1, .int (nI 0)), (0, .ref th)]) hx hb dX4_away_1 rfl hl (by decide) rfl (fun ls hl => ?_)
  refine lv_iconst (v := (nI 0)) hx hb dX4_away_2 rfl ?_
  refine lv_istore_n (lv' := [(2, .int (nI 0)), (1, .int (nI 0)), (0, .ref th)]) hx hb dX4_away_3 rfl hl (by decide) rfl (fun ls hl => ?_)
  obtain ⟨n1, hp⟩ := hp
  exact wX4_away_4 X th n1 (nI 0) (nI 0) μ _ _ _ hp hB (lv_sub hl [2, 1, 0] rfl)
def pX4_buriedMany_4 (th : Nat) (Q : Int32 → zM → Prop) : Nat → Int32 → Int32 → zM → Prop
  | 0, _, _, _ => False
  | n + 1, x1, x2, μ => (vp_in (nI 20) 3594 ∧ (if (zI μ (th + 1) (nI 20).toNatClampNeg) ≤ x2 then Q x1 μ else (vp_in (nI 41) 3594 ∧ (pX4_isBuried th x2 (zI μ (th + 1) (nI 41).toNatClampNeg) μ fun r2 μ1 => (if r2 = 0 then pX4_buriedMany_4 th Q n (x1 + (nI 0)) (x2 + (nI 1)) μ1 else pX4_buriedMany_4 th Q n (x1 + (nI 1)) (x2 + (nI 1)) μ1)))))
set_option maxHeartbeats 4000000 in
set_option maxRecDepth 100000 in
theorem wX4_buriedMany_4 {p : Program} {l : Launch} {e : Env} {s : State} {m : MethodId} {args : Array Value} {below : List Frame} {meth : Method} {c : Code} {Γ : zG} {μ0 : zM} {Q : Int32 → zM → Prop} (X : zCx p m c cX4_buriedMany 3 s args RX4 meth (some .int)) (th : Nat) : ∀ (n : Nat) (x1 : Int32) (x2 : Int32) (μ : zM) (H : Heap) (locs : List Loc) (ls : Array Slot), pX4_buriedMany_4 th Q n x1 x2 μ → zB Γ (tSh th) (zA μ0) μ0 s μ H locs → lv_has ls 3 [(0, .ref th), (1, .int x1), (2, .int x2)] → W p l e ({ frames := 1, cells := 0, slots := 0, locals := 21 } : Room) s m args below meth c H locs 0 0 (MQ below (va_Qi Q (zPost Γ (tSh th) μ0) (zA μ0)) args s 0 0 (zA μ0)) (F0 m 4 ls []) := by
  have S := X.1
  obtain ⟨hx, hb, hml, hown, hts⟩ := X.1
  intro n
  induction n with
  | zero =>
    intro x1 x2 μ H locs ls hp
    exact hp.elim
  | succ n ih =>
    intro x1 x2 μ H locs ls hp hB hl
    unfold pX4_buriedMany_4 at hp
    refine lv_iload_n hx hb dX4_buriedMany_4 rfl (lv_at hl 2 rfl) ?_
    refine lv_aload_n hx hb dX4_buriedMany_5 rfl (lv_at hl 0 rfl) ?_
    refine g_getr S hB (tT hB) rfl (T := TX4) (N := 38) (C := RX4) rfl in_X4 1 (by decide) (by decide) q1393 (fun _ h9 => h9) (fun _ => rfl) (tA hB 0 rfl).1 dX4_buriedMany_6 ?_
    refine lv_bipush (v := (nI 20)) hx hb dX4_buriedMany_9 rfl ?_
    obtain ⟨hi, hp⟩ := hp
    refine g_iald S hB (tA hB 0 rfl).2 hi dX4_buriedMany_11 ?_
    refine lv_icmp_ge (tgt := 43) hx hb dX4_buriedMany_12 rfl (fun c0 => ?_) (fun c0 => ?_)
    · have hp := zit hp c0
      refine lv_iload_n hx hb dX4_buriedMany_43 rfl (lv_at hl 1 rfl) ?_
      exact zret_i X hB hp dX4_buriedMany_44
    · have hp := zif hp c0
      refine lv_iload_n hx hb dX4_buriedMany_15 rfl (lv_at hl 1 rfl) ?_
      refine lv_iload_n hx hb dX4_buriedMany_16 rfl (lv_at hl 2 rfl) ?_
      refine lv_aload_n hx hb dX4_buriedMany_17 rfl (lv_at hl 0 rfl) ?_
      refine g_getr S hB (tT hB) rfl (T := TX4) (N := 38) (C := RX4) rfl in_X4 1 (by decide) (by decide) q1393 (fun _ h9 => h9) (fun _ => rfl) (tA hB 0 rfl).1 dX4_buriedMany_18 ?_
      refine lv_bipush (v := (nI 41)) hx hb dX4_buriedMany_21 rfl ?_
      obtain ⟨hi, hp⟩ := hp
      refine g_iald S hB (tA hB 0 rfl).2 hi dX4_buriedMany_23 ?_
      refine z_calli (va_runS (As := [.int x2, .int (zI μ (th + 1) (nI 41).toNatClampNeg)]) (rest := [.int x1]) S (mX4_isBuried l Γ th x2 (zI μ (th + 1) (nI 41).toNatClampNeg) μ _ hp) (va_cwS 2 hts (lw_S q1626 q1627 q132 q1628) rfl rfl rfl hX4_isBuried ⟨Nat.le_of_ble_eq_true rfl, Nat.le_of_ble_eq_true rfl⟩) hB.preS rfl rfl hl.1 rfl (lv_room (Nat.le_of_ble_eq_true rfl)) dX4_buriedMany_24 ⟨Nat.le_refl _, Nat.le_refl _⟩) hB (fun r2 μ1 H locs hp hB => ?_)
      refine lv_if_eq (tgt := 34) hx hb dX4_buriedMany_27 rfl (fun c0 => ?_) (fun c0 => ?_)
      · have hp := zit hp c0
        refine lv_iconst (v := (nI 0)) hx hb dX4_buriedMany_34 rfl ?_
        refine lv_iadd hx hb dX4_buriedMany_35 ?_
        refine lv_istore_n (lv' := [(1, .int (x1 + (nI 0))), (0, .ref th), (2, .int x2)]) hx hb dX4_buriedMany_36 rfl hl (by decide) rfl (fun ls hl => ?_)
        refine lv_iinc (v := (x2 + (nI 1))) (lv' := [(2, .int (x2 + (nI 1))), (1, .int (x1 + (nI 0))), (0, .ref th)]) hx hb dX4_buriedMany_37 hl (k := 2) rfl rfl (by decide) rfl (fun ls hl => ?_)
        refine lv_goto (tgt := 4) hx hb dX4_buriedMany_40 rfl ?_
        exact ih (x1 + (nI 0)) (x2 + (nI 1)) μ1 _ _ _ hp hB (lv_sub hl [2, 1, 0] rfl)
      · have hp := zif hp c0
        refine lv_iconst (v := (nI 1)) hx hb dX4_buriedMany_30 rfl ?_
        refine lv_goto (tgt := 35) hx hb dX4_buriedMany_31 rfl ?_
        refine lv_iadd hx hb dX4_buriedMany_35 ?_
        refine lv_istore_n (lv' := [(1, .int (x1 + (nI 1))), (0, .ref th), (2, .int x2)]) hx hb dX4_buriedMany_36 rfl hl (by decide) rfl (fun ls hl => ?_)
        refine lv_iinc (v := (x2 + (nI 1))) (lv' := [(2, .int (x2 + (nI 1))), (1, .int (x1 + (nI 1))), (0, .ref th)]) hx hb dX4_buriedMany_37 hl (k := 2) rfl rfl (by decide) rfl (fun ls hl => ?_)
        refine lv_goto (tgt := 4) hx hb dX4_buriedMany_40 rfl ?_
        exact ih (x1 + (nI 1)) (x2 + (nI 1)) μ1 _ _ _ hp hB (lv_sub hl [2, 1, 0] rfl)
def pX4_buriedMany (th : Nat) (μ : zM) (Q : Int32 → zM → Prop) : Prop := ∃ k1, pX4_buriedMany_4 th Q k1 (nI 0) (nI 0) μ
theorem hX4_buriedMany : yX4_buriedMany.cls = "SunkTowerModel" ∧ yX4_buriedMany.cls ≠ "java/lang/invoke/MethodHandle" ∧ yX4_buriedMany.cls ≠ "java/lang/invoke/VarHandle" ∧ (parseMethodDescriptor yX4_buriedMany.desc).map (fun d => d.parameters.length) = some 0 := by decide +kernel
set_option maxHeartbeats 4000000 in
set_option maxRecDepth 100000 in
theorem mX4_buriedMany (l : Launch) (Γ : zG) (th : Nat) (μ : zM) (Q : Int32 → zM → Prop) (hp : pX4_buriedMany th μ Q) : Met l yX4_buriedMany (ws_ yX4_buriedMany cX4_buriedMany 3 (some .int)) ({ frames := 1, cells := 0, slots := 0, locals := 21 } : Room) (va_Pc [.ref th] (zPre Γ (tSh th) μ)) (va_Qi Q (zPost Γ (tSh th) μ) (zA μ)) 0 0 (zA μ) := by
  refine zstart (by decide) (Nat.le_of_ble_eq_true rfl) ?_
  intro p e s m below meth c ls X hnm hB hl
  have X : zCx p m c cX4_buriedMany 3 s [.ref th].toArray RX4 meth (some .int) := X
  have S := X.1
  obtain ⟨hx, hb, hml, hown, hts⟩ := X.1
  have hl : lv_has ls 3 [(0, .ref th)] := hl
  unfold pX4_buriedMany at hp
  refine lv_iconst (v := (nI 0)) hx hb dX4_buriedMany_0 rfl ?_
  refine lv_istore_n (lv' := [(1, .int (nI 0)), (0, .ref th)]) hx hb dX4_buriedMany_1 rfl hl (by decide) rfl (fun ls hl => ?_)
  refine lv_iconst (v := (nI 0)) hx hb dX4_buriedMany_2 rfl ?_
  refine lv_istore_n (lv' := [(2, .int (nI 0)), (1, .int (nI 0)), (0, .ref th)]) hx hb dX4_buriedMany_3 rfl hl (by decide) rfl (fun ls hl => ?_)
  obtain ⟨n1, hp⟩ := hp
  exact wX4_buriedMany_4 X th n1 (nI 0) (nI 0) μ _ _ _ hp hB (lv_sub hl [2, 1, 0] rfl)
def pX4_next_34 (th : Nat) (K8 : zM → Prop) (Q : zM → Prop) (μ : zM) : Prop := (zpI μ th 6 ((zI μ th 6) + (nI 1)) fun μ1 => K8 μ1)
set_option maxHeartbeats 4000000 in
set_option maxRecDepth 100000 in
theorem wX4_next_34 {p : Program} {l : Launch} {e : Env} {s : State} {m : MethodId} {args : Array Value} {below : List Frame} {meth : Method} {c : Code} {Γ : zG} {μ0 : zM} {Q : zM → Prop} {K8 : zM → Prop} (X : zCx p m c cX4_next 2 s args RX4 meth none) (th : Nat) (hK8 : ∀ (μ : zM) (H : Heap) (locs : List Loc) (ls : Array Slot), K8  μ → zB Γ (tSh th) (zA μ0) μ0 s μ H locs → lv_has ls 2 [(0, .ref th)] → W p l e ({ frames := 5, cells := 0, slots := 0, locals := 108 } : Room) s m args below meth c H locs 0 0 (MQ below (va_Qv Q (zPost Γ (tSh th) μ0) (zA μ0)) args s 0 0 (zA μ0)) (F0 m 8 ls [])) : ∀ (μ : zM) (H : Heap) (locs : List Loc) (ls : Array Slot), pX4_next_34 th K8 Q  μ → zB Γ (tSh th) (zA μ0) μ0 s μ H locs → lv_has ls 2 [(0, .ref th)] → W p l e ({ frames := 5, cells := 0, slots := 0, locals := 108 } : Room) s m args below meth c H locs 0 0 (MQ below (va_Qv Q (zPost Γ (tSh th) μ0) (zA μ0)) args s 0 0 (zA μ0)) (F0 m 34 ls []) := by
  have S := X.1
  obtain ⟨hx, hb, hml, hown, hts⟩ := X.1
  intro  μ H locs ls hp hB hl
  unfold pX4_next_34 at hp
  refine lv_aload_n hx hb dX4_next_34 rfl (lv_at hl 0 rfl) ?_
  refine lv_dup hx hb dX4_next_35 rfl ?_
  refine g_get S hB (tT hB) rfl (T := TX4) (N := 38) (C := RX4) rfl in_X4 6 (by decide) (by decide) q1398 (fun _ h9 => h9) (v := .int (zI μ th 6)) rfl dX4_next_36 ?_
  refine lv_iconst (v := (nI 1)) hx hb dX4_next_39 rfl ?_
  refine lv_iadd hx hb dX4_next_40 ?_
  obtain ⟨μ1, eμ1, hp⟩ := zpI_e hp
  refine g_putI S hB (tT hB) rfl (T := TX4) (N := 38) (C := RX4) rfl in_X4 6 (by decide) (by decide) (x := ((zI μ th 6) + (nI 1))) tyX4 tyX4_ok nmX4 q1398 (fun _ h9 => h9) rfl (ty := .int) (by decide +kernel) rfl rfl (fun _ _ => rfl) dX4_next_41 (fun H locs hB => ?_)
  rw [← eμ1] at hB
  refine lv_goto (tgt := 8) hx hb dX4_next_44 rfl ?_
  exact hK8  μ1 _ _ _ hp hB (lv_sub hl [0] rfl)
def pX4_next_89 (th : Nat) (Q : zM → Prop) : Nat → zM → Prop
  | 0, _ => False
  | n + 1, μ => (pX4_see th (zI μ th 7) μ fun r2 μ1 => (pX4_isSmall th r2 μ1 fun r4 μ3 => (if r4 = 0 then (pX4_keyAt th μ3 fun r6 μ5 => (zpI μ5 th 9 r6 fun μ7 => Q μ7)) else (zpI μ3 th 7 ((zI μ3 th 7) + (nI 1)) fun μ8 => pX4_next_89 th Q n μ8))))
set_option maxHeartbeats 4000000 in
set_option maxRecDepth 100000 in
theorem wX4_next_89 {p : Program} {l : Launch} {e : Env} {s : State} {m : MethodId} {args : Array Value} {below : List Frame} {meth : Method} {c : Code} {Γ : zG} {μ0 : zM} {Q : zM → Prop} (X : zCx p m c cX4_next 2 s args RX4 meth none) (th : Nat) : ∀ (n : Nat) (μ : zM) (H : Heap) (locs : List Loc) (ls : Array Slot), pX4_next_89 th Q n  μ → zB Γ (tSh th) (zA μ0) μ0 s μ H locs → lv_has ls 2 [(0, .ref th)] → W p l e ({ frames := 5, cells := 0, slots := 0, locals := 108 } : Room) s m args below meth c H locs 0 0 (MQ below (va_Qv Q (zPost Γ (tSh th) μ0) (zA μ0)) args s 0 0 (zA μ0)) (F0 m 89 ls []) := by
  have S := X.1
  obtain ⟨hx, hb, hml, hown, hts⟩ := X.1
  intro n
  induction n with
  | zero =>
    intro  μ H locs ls hp
    exact hp.elim
  | succ n ih =>
    intro  μ H locs ls hp hB hl
    unfold pX4_next_89 at hp
    refine lv_aload_n hx hb dX4_next_89 rfl (lv_at hl 0 rfl) ?_
    refine lv_aload_n hx hb dX4_next_90 rfl (lv_at hl 0 rfl) ?_
    refine g_get S hB (tT hB) rfl (T := TX4) (N := 38) (C := RX4) rfl in_X4 7 (by decide) (by decide) q1399 (fun _ h9 => h9) (v := .int (zI μ th 7)) rfl dX4_next_91 ?_
    refine z_calli (va_runV (As := [.int (zI μ th 7)]) (rest := []) S (mX4_see l Γ th (zI μ th 7) μ _ hp) (cwV 1 hts (lw_V q1523 q1525 qs60 q132 q1526) rfl rfl rfl hX4_see ⟨Nat.le_of_ble_eq_true rfl, Nat.le_of_ble_eq_true rfl⟩) (hB.preV (tT hB) rfl rfl) rfl rfl hl.1 rfl (lv_room (Nat.le_of_ble_eq_true rfl)) dX4_next_94 ⟨Nat.le_refl _, Nat.le_refl _⟩) hB (fun r2 μ1 H locs hp hB => ?_)
    refine z_calli (va_runS (As := [.int r2]) (rest := []) S (mX4_isSmall l Γ th r2 μ1 _ hp) (va_cwS 1 hts (lw_S q1527 q1528 q132 q1529) rfl rfl rfl hX4_isSmall ⟨Nat.le_of_ble_eq_true rfl, Nat.le_of_ble_eq_true rfl⟩) hB.preS rfl rfl hl.1 rfl (lv_room (Nat.le_of_ble_eq_true rfl)) dX4_next_97 ⟨Nat.le_refl _, Nat.le_refl _⟩) hB (fun r4 μ3 H locs hp hB => ?_)
    refine lv_if_eq (tgt := 116) hx hb dX4_next_100 rfl (fun c0 => ?_) (fun c0 => ?_)
    · have hp := zit hp c0
      refine lv_aload_n hx hb dX4_next_116 rfl (lv_at hl 0 rfl) ?_
      refine lv_aload_n hx hb dX4_next_117 rfl (lv_at hl 0 rfl) ?_
      refine z_calli (va_runV (As := []) (rest := [.ref th]) S (mX4_keyAt l Γ th μ3 _ hp) (cwV 0 hts (lw_V q1530 q1532 qs61 q132 q1533) rfl rfl rfl hX4_keyAt ⟨Nat.le_of_ble_eq_true rfl, Nat.le_of_ble_eq_true rfl⟩) (hB.preV (tT hB) rfl rfl) rfl rfl hl.1 rfl (lv_room (Nat.le_of_ble_eq_true rfl)) dX4_next_118 ⟨Nat.le_refl _, Nat.le_refl _⟩) hB (fun r6 μ5 H locs hp hB => ?_)
      obtain ⟨μ7, eμ7, hp⟩ := zpI_e hp
      refine g_putI S hB (tT hB) rfl (T := TX4) (N := 38) (C := RX4) rfl in_X4 9 (by decide) (by decide) (x := r6) tyX4 tyX4_ok nmX4 q1401 (fun _ h9 => h9) rfl (ty := .int) (by decide +kernel) rfl rfl (fun _ _ => rfl) dX4_next_121 (fun H locs hB => ?_)
      rw [← eμ7] at hB
      refine lv_goto (tgt := 294) hx hb dX4_next_124 rfl ?_
      exact zret_v X hB hp dX4_next_294
    · have hp := zif hp c0
      refine lv_aload_n hx hb dX4_next_103 rfl (lv_at hl 0 rfl) ?_
      refine lv_dup hx hb dX4_next_104 rfl ?_
      refine g_get S hB (tT hB) rfl (T := TX4) (N := 38) (C := RX4) rfl in_X4 7 (by decide) (by decide) q1399 (fun _ h9 => h9) (v := .int (zI μ3 th 7)) rfl dX4_next_105 ?_
      refine lv_iconst (v := (nI 1)) hx hb dX4_next_108 rfl ?_
      refine lv_iadd hx hb dX4_next_109 ?_
      obtain ⟨μ8, eμ8, hp⟩ := zpI_e hp
      refine g_putI S hB (tT hB) rfl (T := TX4) (N := 38) (C := RX4) rfl in_X4 7 (by decide) (by decide) (x := ((zI μ3 th 7) + (nI 1))) tyX4 tyX4_ok nmX4 q1399 (fun _ h9 => h9) rfl (ty := .int) (by decide +kernel) rfl rfl (fun _ _ => rfl) dX4_next_110 (fun H locs hB => ?_)
      rw [← eμ8] at hB
      refine lv_goto (tgt := 89) hx hb dX4_next_113 rfl ?_
      exact ih  μ8 _ _ _ hp hB (lv_sub hl [0] rfl)
def pX4_next_196 (th : Nat) (K146 : zM → Prop) (Q : zM → Prop) (μ : zM) : Prop := (zpI μ th 7 ((zI μ th 7) + (nI 1)) fun μ1 => K146 μ1)
set_option maxHeartbeats 4000000 in
set_option maxRecDepth 100000 in
theorem wX4_next_196 {p : Program} {l : Launch} {e : Env} {s : State} {m : MethodId} {args : Array Value} {below : List Frame} {meth : Method} {c : Code} {Γ : zG} {μ0 : zM} {Q : zM → Prop} {K146 : zM → Prop} (X : zCx p m c cX4_next 2 s args RX4 meth none) (th : Nat) (hK146 : ∀ (μ : zM) (H : Heap) (locs : List Loc) (ls : Array Slot), K146  μ → zB Γ (tSh th) (zA μ0) μ0 s μ H locs → lv_has ls 2 [(0, .ref th)] → W p l e ({ frames := 5, cells := 0, slots := 0, locals := 108 } : Room) s m args below meth c H locs 0 0 (MQ below (va_Qv Q (zPost Γ (tSh th) μ0) (zA μ0)) args s 0 0 (zA μ0)) (F0 m 146 ls [])) : ∀ (μ : zM) (H : Heap) (locs : List Loc) (ls : Array Slot), pX4_next_196 th K146 Q  μ → zB Γ (tSh th) (zA μ0) μ0 s μ H locs → lv_has ls 2 [(0, .ref th)] → W p l e ({ frames := 5, cells := 0, slots := 0, locals := 108 } : Room) s m args below meth c H locs 0 0 (MQ below (va_Qv Q (zPost Γ (tSh th) μ0) (zA μ0)) args s 0 0 (zA μ0)) (F0 m 196 ls []) := by
  have S := X.1
  obtain ⟨hx, hb, hml, hown, hts⟩ := X.1
  intro  μ H locs ls hp hB hl
  unfold pX4_next_196 at hp
  refine lv_aload_n hx hb dX4_next_196 rfl (lv_at hl 0 rfl) ?_
  refine lv_dup hx hb dX4_next_197 rfl ?_
  refine g_get S hB (tT hB) rfl (T := TX4) (N := 38) (C := RX4) rfl in_X4 7 (by decide) (by decide) q1399 (fun _ h9 => h9) (v := .int (zI μ th 7)) rfl dX4_next_198 ?_
  refine lv_iconst (v := (nI 1)) hx hb dX4_next_201 rfl ?_
  refine lv_iadd hx hb dX4_next_202 ?_
  obtain ⟨μ1, eμ1, hp⟩ := zpI_e hp
  refine g_putI S hB (tT hB) rfl (T := TX4) (N := 38) (C := RX4) rfl in_X4 7 (by decide) (by decide) (x := ((zI μ th 7) + (nI 1))) tyX4 tyX4_ok nmX4 q1399 (fun _ h9 => h9) rfl (ty := .int) (by decide +kernel) rfl rfl (fun _ _ => rfl) dX4_next_203 (fun H locs hB => ?_)
  rw [← eμ1] at hB
  refine lv_goto (tgt := 146) hx hb dX4_next_206 rfl ?_
  exact hK146  μ1 _ _ _ hp hB (lv_sub hl [0] rfl)
def pX4_next_230 (th : Nat) (Q : zM → Prop) (y2 : Int32) (μ : zM) : Prop := (zpI μ th 9 y2 fun μ1 => Q μ1)
set_option maxHeartbeats 4000000 in
set_option maxRecDepth 100000 in
theorem wX4_next_230 {p : Program} {l : Launch} {e : Env} {s : State} {m : MethodId} {args : Array Value} {below : List Frame} {meth : Method} {c : Code} {Γ : zG} {μ0 : zM} {Q : zM → Prop} (X : zCx p m c cX4_next 2 s args RX4 meth none) (th : Nat) : ∀ (y2 : Int32) (μ : zM) (H : Heap) (locs : List Loc) (ls : Array Slot), pX4_next_230 th Q y2 μ → zB Γ (tSh th) (zA μ0) μ0 s μ H locs → lv_has ls 2 [] → W p l e ({ frames := 5, cells := 0, slots := 0, locals := 108 } : Room) s m args below meth c H locs 0 0 (MQ below (va_Qv Q (zPost Γ (tSh th) μ0) (zA μ0)) args s 0 0 (zA μ0)) (F0 m 230 ls [.int y2, .ref th]) := by
  have S := X.1
  obtain ⟨hx, hb, hml, hown, hts⟩ := X.1
  intro y2 μ H locs ls hp hB hl
  unfold pX4_next_230 at hp
  obtain ⟨μ1, eμ1, hp⟩ := zpI_e hp
  refine g_putI S hB (tT hB) rfl (T := TX4) (N := 38) (C := RX4) rfl in_X4 9 (by decide) (by decide) (x := y2) tyX4 tyX4_ok nmX4 q1401 (fun _ h9 => h9) rfl (ty := .int) (by decide +kernel) rfl rfl (fun _ _ => rfl) dX4_next_230 (fun H locs hB => ?_)
  rw [← eμ1] at hB
  refine lv_goto (tgt := 294) hx hb dX4_next_233 rfl ?_
  exact zret_v X hB hp dX4_next_294
def pX4_next_146 (th : Nat) (Q : zM → Prop) : Nat → zM → Prop
  | 0, _ => False
  | n + 1, μ => (pX4_see th (zI μ th 7) μ fun r2 μ1 => (pX4_isDigit th r2 μ1 fun r4 μ3 => (if r4 = 0 then (if ((zI μ3 th 7) - (zI μ3 th 6)) ≤ (nI 3) then pX4_next_230 th Q (nI 23) μ3 else pX4_next_230 th Q (nI 25) μ3) else (if (nI 3) ≤ ((zI μ3 th 7) - (zI μ3 th 6)) then pX4_next_196 th (fun  ν => pX4_next_146 th Q n ν) Q μ3 else (pX4_see th (zI μ3 th 7) μ3 fun r6 μ5 => (zpI μ5 th 10 ((((nI 10) * (zI μ3 th 10)) + r6) - (nI 48)) fun μ7 => pX4_next_196 th (fun  ν => pX4_next_146 th Q n ν) Q μ7))))))
set_option maxHeartbeats 4000000 in
set_option maxRecDepth 100000 in
theorem wX4_next_146 {p : Program} {l : Launch} {e : Env} {s : State} {m : MethodId} {args : Array Value} {below : List Frame} {meth : Method} {c : Code} {Γ : zG} {μ0 : zM} {Q : zM → Prop} (X : zCx p m c cX4_next 2 s args RX4 meth none) (th : Nat) : ∀ (n : Nat) (μ : zM) (H : Heap) (locs : List Loc) (ls : Array Slot), pX4_next_146 th Q n  μ → zB Γ (tSh th) (zA μ0) μ0 s μ H locs → lv_has ls 2 [(0, .ref th)] → W p l e ({ frames := 5, cells := 0, slots := 0, locals := 108 } : Room) s m args below meth c H locs 0 0 (MQ below (va_Qv Q (zPost Γ (tSh th) μ0) (zA μ0)) args s 0 0 (zA μ0)) (F0 m 146 ls []) := by
  have S := X.1
  obtain ⟨hx, hb, hml, hown, hts⟩ := X.1
  intro n
  induction n with
  | zero =>
    intro  μ H locs ls hp
    exact hp.elim
  | succ n ih =>
    intro  μ H locs ls hp hB hl
    unfold pX4_next_146 at hp
    refine lv_aload_n hx hb dX4_next_146 rfl (lv_at hl 0 rfl) ?_
    refine lv_aload_n hx hb dX4_next_147 rfl (lv_at hl 0 rfl) ?_
    refine g_get S hB (tT hB) rfl (T := TX4) (N := 38) (C := RX4) rfl in_X4 7 (by decide) (by decide) q1399 (fun _ h9 => h9) (v := .int (zI μ th 7)) rfl dX4_next_148 ?_
    refine z_calli (va_runV (As := [.int (zI μ th 7)]) (rest := []) S (mX4_see l Γ th (zI μ th 7) μ _ hp) (cwV 1 hts (lw_V q1523 q1525 qs60 q132 q1526) rfl rfl rfl hX4_see ⟨Nat.le_of_ble_eq_true rfl, Nat.le_of_ble_eq_true rfl⟩) (hB.preV (tT hB) rfl rfl) rfl rfl hl.1 rfl (lv_room (Nat.le_of_ble_eq_true rfl)) dX4_next_151 ⟨Nat.le_refl _, Nat.le_refl _⟩) hB (fun r2 μ1 H locs hp hB => ?_)
    refine z_calli (va_runS (As := [.int r2]) (rest := []) S (mX4_isDigit l Γ th r2 μ1 _ hp) (va_cwS 1 hts (lw_S q1537 q1538 q132 q1539) rfl rfl rfl hX4_isDigit ⟨Nat.le_of_ble_eq_true rfl, Nat.le_of_ble_eq_true rfl⟩) hB.preS rfl rfl hl.1 rfl (lv_room (Nat.le_of_ble_eq_true rfl)) dX4_next_154 ⟨Nat.le_refl _, Nat.le_refl _⟩) hB (fun r4 μ3 H locs hp hB => ?_)
    refine lv_if_eq (tgt := 209) hx hb dX4_next_157 rfl (fun c0 => ?_) (fun c0 => ?_)
    · have hp := zit hp c0
      refine lv_aload_n hx hb dX4_next_209 rfl (lv_at hl 0 rfl) ?_
      refine lv_aload_n hx hb dX4_next_210 rfl (lv_at hl 0 rfl) ?_
      refine g_get S hB (tT hB) rfl (T := TX4) (N := 38) (C := RX4) rfl in_X4 7 (by decide) (by decide) q1399 (fun _ h9 => h9) (v := .int (zI μ3 th 7)) rfl dX4_next_211 ?_
      refine lv_aload_n hx hb dX4_next_214 rfl (lv_at hl 0 rfl) ?_
      refine g_get S hB (tT hB) rfl (T := TX4) (N := 38) (C := RX4) rfl in_X4 6 (by decide) (by decide) q1398 (fun _ h9 => h9) (v := .int (zI μ3 th 6)) rfl dX4_next_215 ?_
      refine lv_isub hx hb dX4_next_218 ?_
      refine lv_iconst (v := (nI 3)) hx hb dX4_next_219 rfl ?_
      refine lv_icmp_le (tgt := 228) hx hb dX4_next_220 rfl (fun c0 => ?_) (fun c0 => ?_)
      · have hp := zit hp c0
        refine lv_bipush (v := (nI 23)) hx hb dX4_next_228 rfl ?_
        exact wX4_next_230 X th (nI 23) μ3 _ _ _ hp hB (lv_sub hl [] rfl)
      · have hp := zif hp c0
        refine lv_bipush (v := (nI 25)) hx hb dX4_next_223 rfl ?_
        refine lv_goto (tgt := 230) hx hb dX4_next_225 rfl ?_
        exact wX4_next_230 X th (nI 25) μ3 _ _ _ hp hB (lv_sub hl [] rfl)
    · have hp := zif hp c0
      refine lv_aload_n hx hb dX4_next_160 rfl (lv_at hl 0 rfl) ?_
      refine g_get S hB (tT hB) rfl (T := TX4) (N := 38) (C := RX4) rfl in_X4 7 (by decide) (by decide) q1399 (fun _ h9 => h9) (v := .int (zI μ3 th 7)) rfl dX4_next_161 ?_
      refine lv_aload_n hx hb dX4_next_164 rfl (lv_at hl 0 rfl) ?_
      refine g_get S hB (tT hB) rfl (T := TX4) (N := 38) (C := RX4) rfl in_X4 6 (by decide) (by decide) q1398 (fun _ h9 => h9) (v := .int (zI μ3 th 6)) rfl dX4_next_165 ?_
      refine lv_isub hx hb dX4_next_168 ?_
      refine lv_iconst (v := (nI 3)) hx hb dX4_next_169 rfl ?_
      refine lv_icmp_ge (tgt := 196) hx hb dX4_next_170 rfl (fun c0 => ?_) (fun c0 => ?_)
      · have hp := zit hp c0
        exact wX4_next_196 X th (fun  ν H2 L2 ls2 h2 b2 l2 => ih  ν H2 L2 ls2 h2 b2 l2) μ3 _ _ _ hp hB (lv_sub hl [0] rfl)
      · have hp := zif hp c0
        refine lv_aload_n hx hb dX4_next_173 rfl (lv_at hl 0 rfl) ?_
        refine lv_bipush (v := (nI 10)) hx hb dX4_next_174 rfl ?_
        refine lv_aload_n hx hb dX4_next_176 rfl (lv_at hl 0 rfl) ?_
        refine g_get S hB (tT hB) rfl (T := TX4) (N := 38) (C := RX4) rfl in_X4 10 (by decide) (by decide) q1402 (fun _ h9 => h9) (v := .int (zI μ3 th 10)) rfl dX4_next_177 ?_
        refine lv_imul hx hb dX4_next_180 ?_
        refine lv_aload_n hx hb dX4_next_181 rfl (lv_at hl 0 rfl) ?_
        refine lv_aload_n hx hb dX4_next_182 rfl (lv_at hl 0 rfl) ?_
        refine g_get S hB (tT hB) rfl (T := TX4) (N := 38) (C := RX4) rfl in_X4 7 (by decide) (by decide) q1399 (fun _ h9 => h9) (v := .int (zI μ3 th 7)) rfl dX4_next_183 ?_
        refine z_calli (va_runV (As := [.int (zI μ3 th 7)]) (rest := [.int ((nI 10) * (zI μ3 th 10)), .ref th]) S (mX4_see l Γ th (zI μ3 th 7) μ3 _ hp) (cwV 1 hts (lw_V q1523 q1525 qs60 q132 q1526) rfl rfl rfl hX4_see ⟨Nat.le_of_ble_eq_true rfl, Nat.le_of_ble_eq_true rfl⟩) (hB.preV (tT hB) rfl rfl) rfl rfl hl.1 rfl (lv_room (Nat.le_of_ble_eq_true rfl)) dX4_next_186 ⟨Nat.le_refl _, Nat.le_refl _⟩) hB (fun r6 μ5 H locs hp hB => ?_)
        refine lv_iadd hx hb dX4_next_189 ?_
        refine lv_bipush (v := (nI 48)) hx hb dX4_next_190 rfl ?_
        refine lv_isub hx hb dX4_next_192 ?_
        obtain ⟨μ7, eμ7, hp⟩ := zpI_e hp
        refine g_putI S hB (tT hB) rfl (T := TX4) (N := 38) (C := RX4) rfl in_X4 10 (by decide) (by decide) (x := ((((nI 10) * (zI μ3 th 10)) + r6) - (nI 48))) tyX4 tyX4_ok nmX4 q1402 (fun _ h9 => h9) rfl (ty := .int) (by decide +kernel) rfl rfl (fun _ _ => rfl) dX4_next_193 (fun H locs hB => ?_)
        rw [← eμ7] at hB
        exact wX4_next_196 X th (fun  ν H2 L2 ls2 h2 b2 l2 => ih  ν H2 L2 ls2 h2 b2 l2) μ7 _ _ _ hp hB (lv_sub hl [0] rfl)
def pX4_next_254 (th : Nat) (Q : zM → Prop) : Nat → Int32 → zM → Prop
  | 0, _, _ => False
  | n + 1, x1, μ => (1 < zSn ∧ (pJ0_length 1 μ fun r2 μ1 => (if r2 ≤ x1 then Q μ1 else (pX4_see th (zI μ1 th 6) μ1 fun r4 μ3 => (1 < zSn ∧ (pJ0_charAt 1 x1 μ3 fun r6 μ5 => (if r4 = r6 then (zpI μ5 th 9 ((nI 30) + x1) fun μ7 => pX4_next_254 th Q n (x1 + (nI 1)) μ7) else pX4_next_254 th Q n (x1 + (nI 1)) μ5)))))))
set_option maxHeartbeats 4000000 in
set_option maxRecDepth 100000 in
theorem wX4_next_254 {p : Program} {l : Launch} {e : Env} {s : State} {m : MethodId} {args : Array Value} {below : List Frame} {meth : Method} {c : Code} {Γ : zG} {μ0 : zM} {Q : zM → Prop} (X : zCx p m c cX4_next 2 s args RX4 meth none) (th : Nat) : ∀ (n : Nat) (x1 : Int32) (μ : zM) (H : Heap) (locs : List Loc) (ls : Array Slot), pX4_next_254 th Q n x1 μ → zB Γ (tSh th) (zA μ0) μ0 s μ H locs → lv_has ls 2 [(0, .ref th), (1, .int x1)] → W p l e ({ frames := 5, cells := 0, slots := 0, locals := 108 } : Room) s m args below meth c H locs 0 0 (MQ below (va_Qv Q (zPost Γ (tSh th) μ0) (zA μ0)) args s 0 0 (zA μ0)) (F0 m 254 ls []) := by
  have S := X.1
  obtain ⟨hx, hb, hml, hown, hts⟩ := X.1
  intro n
  induction n with
  | zero =>
    intro x1 μ H locs ls hp
    exact hp.elim
  | succ n ih =>
    intro x1 μ H locs ls hp hB hl
    unfold pX4_next_254 at hp
    refine lv_iload_n hx hb dX4_next_254 rfl (lv_at hl 1 rfl) ?_
    refine g_ldcs S hB (i := 1) rfl dX4_next_255 ?_
    obtain ⟨hw0, hp⟩ := hp
    refine z_calli (va_runV (As := []) (rest := [.int x1]) S (mJ0_length l Γ (tSh th) 1 μ _ hp) (cwV 0 hts (lw_V q1535 q507 q508 q134 q509) rfl rfl rfl hJ0_length ⟨Nat.le_of_ble_eq_true rfl, Nat.le_of_ble_eq_true rfl⟩) (hB.preStr hw0) rfl rfl hl.1 rfl (lv_room (Nat.le_of_ble_eq_true rfl)) dX4_next_257 ⟨Nat.le_refl _, Nat.le_refl _⟩) hB (fun r2 μ1 H locs hp hB => ?_)
    refine lv_icmp_ge (tgt := 294) hx hb dX4_next_260 rfl (fun c0 => ?_) (fun c0 => ?_)
    · have hp := zit hp c0
      exact zret_v X hB hp dX4_next_294
    · have hp := zif hp c0
      refine lv_aload_n hx hb dX4_next_263 rfl (lv_at hl 0 rfl) ?_
      refine lv_aload_n hx hb dX4_next_264 rfl (lv_at hl 0 rfl) ?_
      refine g_get S hB (tT hB) rfl (T := TX4) (N := 38) (C := RX4) rfl in_X4 6 (by decide) (by decide) q1398 (fun _ h9 => h9) (v := .int (zI μ1 th 6)) rfl dX4_next_265 ?_
      refine z_calli (va_runV (As := [.int (zI μ1 th 6)]) (rest := []) S (mX4_see l Γ th (zI μ1 th 6) μ1 _ hp) (cwV 1 hts (lw_V q1523 q1525 qs60 q132 q1526) rfl rfl rfl hX4_see ⟨Nat.le_of_ble_eq_true rfl, Nat.le_of_ble_eq_true rfl⟩) (hB.preV (tT hB) rfl rfl) rfl rfl hl.1 rfl (lv_room (Nat.le_of_ble_eq_true rfl)) dX4_next_268 ⟨Nat.le_refl _, Nat.le_refl _⟩) hB (fun r4 μ3 H locs hp hB => ?_)
      refine g_ldcs S hB (i := 1) rfl dX4_next_271 ?_
      refine lv_iload_n hx hb dX4_next_273 rfl (lv_at hl 1 rfl) ?_
      obtain ⟨hw0, hp⟩ := hp
      refine z_calli (va_runV (As := [.int x1]) (rest := [.int r4]) S (mJ0_charAt l Γ (tSh th) 1 x1 μ3 _ hp) (cwV 1 hts (lw_V q1536 q589 q590 q134 q591) rfl rfl rfl hJ0_charAt ⟨Nat.le_of_ble_eq_true rfl, Nat.le_of_ble_eq_true rfl⟩) (hB.preStr hw0) rfl rfl hl.1 rfl (lv_room (Nat.le_of_ble_eq_true rfl)) dX4_next_274 ⟨Nat.le_refl _, Nat.le_refl _⟩) hB (fun r6 μ5 H locs hp hB => ?_)
      refine lv_icmp_ne (tgt := 288) hx hb dX4_next_277 rfl (fun c0 => ?_) (fun c0 => ?_)
      · have hp := zif hp c0
        refine lv_iinc (v := (x1 + (nI 1))) (lv' := [(1, .int (x1 + (nI 1))), (0, .ref th)]) hx hb dX4_next_288 hl (k := 1) rfl rfl (by decide) rfl (fun ls hl => ?_)
        refine lv_goto (tgt := 254) hx hb dX4_next_291 rfl ?_
        exact ih (x1 + (nI 1)) μ5 _ _ _ hp hB (lv_sub hl [1, 0] rfl)
      · have hp := zit hp c0
        refine lv_aload_n hx hb dX4_next_280 rfl (lv_at hl 0 rfl) ?_
        refine lv_bipush (v := (nI 30)) hx hb dX4_next_281 rfl ?_
        refine lv_iload_n hx hb dX4_next_283 rfl (lv_at hl 1 rfl) ?_
        refine lv_iadd hx hb dX4_next_284 ?_
        obtain ⟨μ7, eμ7, hp⟩ := zpI_e hp
        refine g_putI S hB (tT hB) rfl (T := TX4) (N := 38) (C := RX4) rfl in_X4 9 (by decide) (by decide) (x := ((nI 30) + x1)) tyX4 tyX4_ok nmX4 q1401 (fun _ h9 => h9) rfl (ty := .int) (by decide +kernel) rfl rfl (fun _ _ => rfl) dX4_next_285 (fun H locs hB => ?_)
        rw [← eμ7] at hB
        refine lv_iinc (v := (x1 + (nI 1))) (lv' := [(1, .int (x1 + (nI 1))), (0, .ref th)]) hx hb dX4_next_288 hl (k := 1) rfl rfl (by decide) rfl (fun ls hl => ?_)
        refine lv_goto (tgt := 254) hx hb dX4_next_291 rfl ?_
        exact ih (x1 + (nI 1)) μ7 _ _ _ hp hB (lv_sub hl [1, 0] rfl)
def pX4_next_8 (th : Nat) (Q : zM → Prop) : Nat → zM → Prop
  | 0, _ => False
  | n + 1, μ => (pX4_see th (zI μ th 6) μ fun r2 μ1 => (if r2 = (nI 10) then pX4_next_34 th (fun  ν => pX4_next_8 th Q n ν) Q μ1 else (pX4_see th (zI μ1 th 6) μ1 fun r4 μ3 => (if r4 = (nI 32) then pX4_next_34 th (fun  ν => pX4_next_8 th Q n ν) Q μ3 else (zpI μ3 th 7 (zI μ3 th 6) fun μ5 => (if (zI μ5 th 6) < (zI μ5 th 8) then (pX4_see th (zI μ5 th 6) μ5 fun r7 μ6 => (pX4_isSmall th r7 μ6 fun r9 μ8 => (if r9 = 0 then (pX4_see th (zI μ8 th 6) μ8 fun r11 μ10 => (pX4_isDigit th r11 μ10 fun r13 μ12 => (if r13 = 0 then (zpI μ12 th 7 ((zI μ12 th 7) + (nI 1)) fun μ14 => (zpI μ14 th 9 (nI 25) fun μ15 => ∃ k1, pX4_next_254 th Q k1 (nI 0) μ15)) else (zpI μ12 th 10 (nI 0) fun μ16 => ∃ k1, pX4_next_146 th Q k1 μ16)))) else ∃ k1, pX4_next_89 th Q k1 μ8))) else (zpI μ5 th 9 (nI 24) fun μ17 => Q μ17)))))))
set_option maxHeartbeats 4000000 in
set_option maxRecDepth 100000 in
theorem wX4_next_8 {p : Program} {l : Launch} {e : Env} {s : State} {m : MethodId} {args : Array Value} {below : List Frame} {meth : Method} {c : Code} {Γ : zG} {μ0 : zM} {Q : zM → Prop} (X : zCx p m c cX4_next 2 s args RX4 meth none) (th : Nat) : ∀ (n : Nat) (μ : zM) (H : Heap) (locs : List Loc) (ls : Array Slot), pX4_next_8 th Q n  μ → zB Γ (tSh th) (zA μ0) μ0 s μ H locs → lv_has ls 2 [(0, .ref th)] → W p l e ({ frames := 5, cells := 0, slots := 0, locals := 108 } : Room) s m args below meth c H locs 0 0 (MQ below (va_Qv Q (zPost Γ (tSh th) μ0) (zA μ0)) args s 0 0 (zA μ0)) (F0 m 8 ls []) := by
  have S := X.1
  obtain ⟨hx, hb, hml, hown, hts⟩ := X.1
  intro n
  induction n with
  | zero =>
    intro  μ H locs ls hp
    exact hp.elim
  | succ n ih =>
    intro  μ H locs ls hp hB hl
    unfold pX4_next_8 at hp
    refine lv_aload_n hx hb dX4_next_8 rfl (lv_at hl 0 rfl) ?_
    refine lv_aload_n hx hb dX4_next_9 rfl (lv_at hl 0 rfl) ?_
    refine g_get S hB (tT hB) rfl (T := TX4) (N := 38) (C := RX4) rfl in_X4 6 (by decide) (by decide) q1398 (fun _ h9 => h9) (v := .int (zI μ th 6)) rfl dX4_next_10 ?_
    refine z_calli (va_runV (As := [.int (zI μ th 6)]) (rest := []) S (mX4_see l Γ th (zI μ th 6) μ _ hp) (cwV 1 hts (lw_V q1523 q1525 qs60 q132 q1526) rfl rfl rfl hX4_see ⟨Nat.le_of_ble_eq_true rfl, Nat.le_of_ble_eq_true rfl⟩) (hB.preV (tT hB) rfl rfl) rfl rfl hl.1 rfl (lv_room (Nat.le_of_ble_eq_true rfl)) dX4_next_13 ⟨Nat.le_refl _, Nat.le_refl _⟩) hB (fun r2 μ1 H locs hp hB => ?_)
    refine lv_bipush (v := (nI 10)) hx hb dX4_next_16 rfl ?_
    refine lv_icmp_eq (tgt := 34) hx hb dX4_next_18 rfl (fun c0 => ?_) (fun c0 => ?_)
    · have hp := zit hp c0
      exact wX4_next_34 X th (fun  ν H2 L2 ls2 h2 b2 l2 => ih  ν H2 L2 ls2 h2 b2 l2) μ1 _ _ _ hp hB (lv_sub hl [0] rfl)
    · have hp := zif hp c0
      refine lv_aload_n hx hb dX4_next_21 rfl (lv_at hl 0 rfl) ?_
      refine lv_aload_n hx hb dX4_next_22 rfl (lv_at hl 0 rfl) ?_
      refine g_get S hB (tT hB) rfl (T := TX4) (N := 38) (C := RX4) rfl in_X4 6 (by decide) (by decide) q1398 (fun _ h9 => h9) (v := .int (zI μ1 th 6)) rfl dX4_next_23 ?_
      refine z_calli (va_runV (As := [.int (zI μ1 th 6)]) (rest := []) S (mX4_see l Γ th (zI μ1 th 6) μ1 _ hp) (cwV 1 hts (lw_V q1523 q1525 qs60 q132 q1526) rfl rfl rfl hX4_see ⟨Nat.le_of_ble_eq_true rfl, Nat.le_of_ble_eq_true rfl⟩) (hB.preV (tT hB) rfl rfl) rfl rfl hl.1 rfl (lv_room (Nat.le_of_ble_eq_true rfl)) dX4_next_26 ⟨Nat.le_refl _, Nat.le_refl _⟩) hB (fun r4 μ3 H locs hp hB => ?_)
      refine lv_bipush (v := (nI 32)) hx hb dX4_next_29 rfl ?_
      refine lv_icmp_ne (tgt := 47) hx hb dX4_next_31 rfl (fun c0 => ?_) (fun c0 => ?_)
      · have hp := zif hp c0
        refine lv_aload_n hx hb dX4_next_47 rfl (lv_at hl 0 rfl) ?_
        refine lv_aload_n hx hb dX4_next_48 rfl (lv_at hl 0 rfl) ?_
        refine g_get S hB (tT hB) rfl (T := TX4) (N := 38) (C := RX4) rfl in_X4 6 (by decide) (by decide) q1398 (fun _ h9 => h9) (v := .int (zI μ3 th 6)) rfl dX4_next_49 ?_
        obtain ⟨μ5, eμ5, hp⟩ := zpI_e hp
        refine g_putI S hB (tT hB) rfl (T := TX4) (N := 38) (C := RX4) rfl in_X4 7 (by decide) (by decide) (x := (zI μ3 th 6)) tyX4 tyX4_ok nmX4 q1399 (fun _ h9 => h9) rfl (ty := .int) (by decide +kernel) rfl rfl (fun _ _ => rfl) dX4_next_52 (fun H locs hB => ?_)
        rw [← eμ5] at hB
        refine lv_aload_n hx hb dX4_next_55 rfl (lv_at hl 0 rfl) ?_
        refine g_get S hB (tT hB) rfl (T := TX4) (N := 38) (C := RX4) rfl in_X4 6 (by decide) (by decide) q1398 (fun _ h9 => h9) (v := .int (zI μ5 th 6)) rfl dX4_next_56 ?_
        refine lv_aload_n hx hb dX4_next_59 rfl (lv_at hl 0 rfl) ?_
        refine g_get S hB (tT hB) rfl (T := TX4) (N := 38) (C := RX4) rfl in_X4 8 (by decide) (by decide) q1400 (fun _ h9 => h9) (v := .int (zI μ5 th 8)) rfl dX4_next_60 ?_
        refine lv_icmp_lt (tgt := 75) hx hb dX4_next_63 rfl (fun c0 => ?_) (fun c0 => ?_)
        · have hp := zit hp c0
          refine lv_aload_n hx hb dX4_next_75 rfl (lv_at hl 0 rfl) ?_
          refine lv_aload_n hx hb dX4_next_76 rfl (lv_at hl 0 rfl) ?_
          refine g_get S hB (tT hB) rfl (T := TX4) (N := 38) (C := RX4) rfl in_X4 6 (by decide) (by decide) q1398 (fun _ h9 => h9) (v := .int (zI μ5 th 6)) rfl dX4_next_77 ?_
          refine z_calli (va_runV (As := [.int (zI μ5 th 6)]) (rest := []) S (mX4_see l Γ th (zI μ5 th 6) μ5 _ hp) (cwV 1 hts (lw_V q1523 q1525 qs60 q132 q1526) rfl rfl rfl hX4_see ⟨Nat.le_of_ble_eq_true rfl, Nat.le_of_ble_eq_true rfl⟩) (hB.preV (tT hB) rfl rfl) rfl rfl hl.1 rfl (lv_room (Nat.le_of_ble_eq_true rfl)) dX4_next_80 ⟨Nat.le_refl _, Nat.le_refl _⟩) hB (fun r7 μ6 H locs hp hB => ?_)
          refine z_calli (va_runS (As := [.int r7]) (rest := []) S (mX4_isSmall l Γ th r7 μ6 _ hp) (va_cwS 1 hts (lw_S q1527 q1528 q132 q1529) rfl rfl rfl hX4_isSmall ⟨Nat.le_of_ble_eq_true rfl, Nat.le_of_ble_eq_true rfl⟩) hB.preS rfl rfl hl.1 rfl (lv_room (Nat.le_of_ble_eq_true rfl)) dX4_next_83 ⟨Nat.le_refl _, Nat.le_refl _⟩) hB (fun r9 μ8 H locs hp hB => ?_)
          refine lv_if_eq (tgt := 127) hx hb dX4_next_86 rfl (fun c0 => ?_) (fun c0 => ?_)
          · have hp := zit hp c0
            refine lv_aload_n hx hb dX4_next_127 rfl (lv_at hl 0 rfl) ?_
            refine lv_aload_n hx hb dX4_next_128 rfl (lv_at hl 0 rfl) ?_
            refine g_get S hB (tT hB) rfl (T := TX4) (N := 38) (C := RX4) rfl in_X4 6 (by decide) (by decide) q1398 (fun _ h9 => h9) (v := .int (zI μ8 th 6)) rfl dX4_next_129 ?_
            refine z_calli (va_runV (As := [.int (zI μ8 th 6)]) (rest := []) S (mX4_see l Γ th (zI μ8 th 6) μ8 _ hp) (cwV 1 hts (lw_V q1523 q1525 qs60 q132 q1526) rfl rfl rfl hX4_see ⟨Nat.le_of_ble_eq_true rfl, Nat.le_of_ble_eq_true rfl⟩) (hB.preV (tT hB) rfl rfl) rfl rfl hl.1 rfl (lv_room (Nat.le_of_ble_eq_true rfl)) dX4_next_132 ⟨Nat.le_refl _, Nat.le_refl _⟩) hB (fun r11 μ10 H locs hp hB => ?_)
            refine z_calli (va_runS (As := [.int r11]) (rest := []) S (mX4_isDigit l Γ th r11 μ10 _ hp) (va_cwS 1 hts (lw_S q1537 q1538 q132 q1539) rfl rfl rfl hX4_isDigit ⟨Nat.le_of_ble_eq_true rfl, Nat.le_of_ble_eq_true rfl⟩) hB.preS rfl rfl hl.1 rfl (lv_room (Nat.le_of_ble_eq_true rfl)) dX4_next_135 ⟨Nat.le_refl _, Nat.le_refl _⟩) hB (fun r13 μ12 H locs hp hB => ?_)
            refine lv_if_eq (tgt := 236) hx hb dX4_next_138 rfl (fun c0 => ?_) (fun c0 => ?_)
            · have hp := zit hp c0
              refine lv_aload_n hx hb dX4_next_236 rfl (lv_at hl 0 rfl) ?_
              refine lv_dup hx hb dX4_next_237 rfl ?_
              refine g_get S hB (tT hB) rfl (T := TX4) (N := 38) (C := RX4) rfl in_X4 7 (by decide) (by decide) q1399 (fun _ h9 => h9) (v := .int (zI μ12 th 7)) rfl dX4_next_238 ?_
              refine lv_iconst (v := (nI 1)) hx hb dX4_next_241 rfl ?_
              refine lv_iadd hx hb dX4_next_242 ?_
              obtain ⟨μ14, eμ14, hp⟩ := zpI_e hp
              refine g_putI S hB (tT hB) rfl (T := TX4) (N := 38) (C := RX4) rfl in_X4 7 (by decide) (by decide) (x := ((zI μ12 th 7) + (nI 1))) tyX4 tyX4_ok nmX4 q1399 (fun _ h9 => h9) rfl (ty := .int) (by decide +kernel) rfl rfl (fun _ _ => rfl) dX4_next_243 (fun H locs hB => ?_)
              rw [← eμ14] at hB
              refine lv_aload_n hx hb dX4_next_246 rfl (lv_at hl 0 rfl) ?_
              refine lv_bipush (v := (nI 25)) hx hb dX4_next_247 rfl ?_
              obtain ⟨μ15, eμ15, hp⟩ := zpI_e hp
              refine g_putI S hB (tT hB) rfl (T := TX4) (N := 38) (C := RX4) rfl in_X4 9 (by decide) (by decide) (x := (nI 25)) tyX4 tyX4_ok nmX4 q1401 (fun _ h9 => h9) rfl (ty := .int) (by decide +kernel) rfl rfl (fun _ _ => rfl) dX4_next_249 (fun H locs hB => ?_)
              rw [← eμ15] at hB
              refine lv_iconst (v := (nI 0)) hx hb dX4_next_252 rfl ?_
              refine lv_istore_n (lv' := [(1, .int (nI 0)), (0, .ref th)]) hx hb dX4_next_253 rfl hl (by decide) rfl (fun ls hl => ?_)
              obtain ⟨n1, hp⟩ := hp
              exact wX4_next_254 X th n1 (nI 0) μ15 _ _ _ hp hB (lv_sub hl [1, 0] rfl)
            · have hp := zif hp c0
              refine lv_aload_n hx hb dX4_next_141 rfl (lv_at hl 0 rfl) ?_
              refine lv_iconst (v := (nI 0)) hx hb dX4_next_142 rfl ?_
              obtain ⟨μ16, eμ16, hp⟩ := zpI_e hp
              refine g_putI S hB (tT hB) rfl (T := TX4) (N := 38) (C := RX4) rfl in_X4 10 (by decide) (by decide) (x := (nI 0)) tyX4 tyX4_ok nmX4 q1402 (fun _ h9 => h9) rfl (ty := .int) (by decide +kernel) rfl rfl (fun _ _ => rfl) dX4_next_143 (fun H locs hB => ?_)
              rw [← eμ16] at hB
              obtain ⟨n1, hp⟩ := hp
              exact wX4_next_146 X th n1 μ16 _ _ _ hp hB (lv_sub hl [0] rfl)
          · have hp := zif hp c0
            obtain ⟨n1, hp⟩ := hp
            exact wX4_next_89 X th n1 μ8 _ _ _ hp hB (lv_sub hl [0] rfl)
        · have hp := zif hp c0
          refine lv_aload_n hx hb dX4_next_66 rfl (lv_at hl 0 rfl) ?_
          refine lv_bipush (v := (nI 24)) hx hb dX4_next_67 rfl ?_
          obtain ⟨μ17, eμ17, hp⟩ := zpI_e hp
          refine g_putI S hB (tT hB) rfl (T := TX4) (N := 38) (C := RX4) rfl in_X4 9 (by decide) (by decide) (x := (nI 24)) tyX4 tyX4_ok nmX4 q1401 (fun _ h9 => h9) rfl (ty := .int) (by decide +kernel) rfl rfl (fun _ _ => rfl) dX4_next_69 (fun H locs hB => ?_)
          rw [← eμ17] at hB
          refine lv_goto (tgt := 294) hx hb dX4_next_72 rfl ?_
          exact zret_v X hB hp dX4_next_294
      · have hp := zit hp c0
        exact wX4_next_34 X th (fun  ν H2 L2 ls2 h2 b2 l2 => ih  ν H2 L2 ls2 h2 b2 l2) μ3 _ _ _ hp hB (lv_sub hl [0] rfl)
def pX4_next (th : Nat) (μ : zM) (Q : zM → Prop) : Prop := (zpI μ th 6 (zI μ th 7) fun μ1 => ∃ k1, pX4_next_8 th Q k1 μ1)
theorem hX4_next : yX4_next.cls = "SunkTowerModel" ∧ yX4_next.cls ≠ "java/lang/invoke/MethodHandle" ∧ yX4_next.cls ≠ "java/lang/invoke/VarHandle" ∧ (parseMethodDescriptor yX4_next.desc).map (fun d => d.parameters.length) = some 0 := by decide +kernel
set_option maxHeartbeats 4000000 in
set_option maxRecDepth 100000 in
theorem mX4_next (l : Launch) (Γ : zG) (th : Nat) (μ : zM) (Q : zM → Prop) (hp : pX4_next th μ Q) : Met l yX4_next (ws_ yX4_next cX4_next 2 none) ({ frames := 5, cells := 0, slots := 0, locals := 108 } : Room) (va_Pc [.ref th] (zPre Γ (tSh th) μ)) (va_Qv Q (zPost Γ (tSh th) μ) (zA μ)) 0 0 (zA μ) := by
  refine zstart (by decide) (Nat.le_of_ble_eq_true rfl) ?_
  intro p e s m below meth c ls X hnm hB hl
  have X : zCx p m c cX4_next 2 s [.ref th].toArray RX4 meth none := X
  have S := X.1
  obtain ⟨hx, hb, hml, hown, hts⟩ := X.1
  have hl : lv_has ls 2 [(0, .ref th)] := hl
  unfold pX4_next at hp
  refine lv_aload_n hx hb dX4_next_0 rfl (lv_at hl 0 rfl) ?_
  refine lv_aload_n hx hb dX4_next_1 rfl (lv_at hl 0 rfl) ?_
  refine g_get S hB (tT hB) rfl (T := TX4) (N := 38) (C := RX4) rfl in_X4 7 (by decide) (by decide) q1399 (fun _ h9 => h9) (v := .int (zI μ th 7)) rfl dX4_next_2 ?_
  obtain ⟨μ1, eμ1, hp⟩ := zpI_e hp
  refine g_putI S hB (tT hB) rfl (T := TX4) (N := 38) (C := RX4) rfl in_X4 6 (by decide) (by decide) (x := (zI μ th 7)) tyX4 tyX4_ok nmX4 q1398 (fun _ h9 => h9) rfl (ty := .int) (by decide +kernel) rfl rfl (fun _ _ => rfl) dX4_next_5 (fun H locs hB => ?_)
  rw [← eμ1] at hB
  obtain ⟨n1, hp⟩ := hp
  exact wX4_next_8 X th n1 μ1 _ _ _ hp hB (lv_sub hl [0] rfl)
def pX4_takes_37 (th : Nat) (Q : Int32 → zM → Prop) (μ : zM) : Prop := (if (zI μ th 11) = 0 then (pX4_next th μ fun μ1 => Q (zI μ th 10) μ1) else Q (zI μ th 10) μ)
set_option maxHeartbeats 4000000 in
set_option maxRecDepth 100000 in
theorem wX4_takes_37 {p : Program} {l : Launch} {e : Env} {s : State} {m : MethodId} {args : Array Value} {below : List Frame} {meth : Method} {c : Code} {Γ : zG} {μ0 : zM} {Q : Int32 → zM → Prop} (X : zCx p m c cX4_takes 4 s args RX4 meth (some .int)) (th : Nat) : ∀ (μ : zM) (H : Heap) (locs : List Loc) (ls : Array Slot), pX4_takes_37 th Q  μ → zB Γ (tSh th) (zA μ0) μ0 s μ H locs → lv_has ls 4 [(0, .ref th)] → W p l e ({ frames := 6, cells := 0, slots := 0, locals := 129 } : Room) s m args below meth c H locs 0 0 (MQ below (va_Qi Q (zPost Γ (tSh th) μ0) (zA μ0)) args s 0 0 (zA μ0)) (F0 m 37 ls []) := by
  have S := X.1
  obtain ⟨hx, hb, hml, hown, hts⟩ := X.1
  intro  μ H locs ls hp hB hl
  unfold pX4_takes_37 at hp
  refine lv_aload_n hx hb dX4_takes_37 rfl (lv_at hl 0 rfl) ?_
  refine g_get S hB (tT hB) rfl (T := TX4) (N := 38) (C := RX4) rfl in_X4 10 (by decide) (by decide) q1402 (fun _ h9 => h9) (v := .int (zI μ th 10)) rfl dX4_takes_38 ?_
  refine lv_istore_n (lv' := [(3, .int (zI μ th 10)), (0, .ref th)]) hx hb dX4_takes_41 rfl hl (by decide) rfl (fun ls hl => ?_)
  refine lv_aload_n hx hb dX4_takes_42 rfl (lv_at hl 1 rfl) ?_
  refine g_get S hB (tT hB) rfl (T := TX4) (N := 38) (C := RX4) rfl in_X4 11 (by decide) (by decide) q1403 (fun _ h9 => h9) (v := .int (zI μ th 11)) rfl dX4_takes_43 ?_
  refine lv_if_ne (tgt := 53) hx hb dX4_takes_46 rfl (fun c0 => ?_) (fun c0 => ?_)
  · have hp := zif hp c0
    refine lv_iload_n hx hb dX4_takes_53 rfl (lv_at hl 0 rfl) ?_
    exact zret_i X hB hp dX4_takes_54
  · have hp := zit hp c0
    refine lv_aload_n hx hb dX4_takes_49 rfl (lv_at hl 1 rfl) ?_
    refine z_callv (va_runV (As := []) (rest := []) S (mX4_next l Γ th μ _ hp) (cwV 0 hts (lw_V q1519 q1521 qs59 q132 q1522) rfl rfl rfl hX4_next ⟨Nat.le_of_ble_eq_true rfl, Nat.le_of_ble_eq_true rfl⟩) (hB.preV (tT hB) rfl rfl) rfl rfl hl.1 rfl (lv_room (Nat.le_of_ble_eq_true rfl)) dX4_takes_50 ⟨Nat.le_refl _, Nat.le_refl _⟩) hB (fun μ1 H locs hp hB => ?_)
    refine lv_iload_n hx hb dX4_takes_53 rfl (lv_at hl 0 rfl) ?_
    exact zret_i X hB hp dX4_takes_54
def pX4_takes (th : Nat) (x1 : Int32) (x2 : Int32) (μ : zM) (Q : Int32 → zM → Prop) : Prop := (pX4_is th (nI 23) μ fun r2 μ1 => (if r2 = 0 then (pX4_fails th (nI 2) μ1 fun μ6 => pX4_takes_37 th Q μ6) else (pX4_within th ((zI μ1 th 10).toInt64) (x1.toInt64) (x2.toInt64) μ1 fun r4 μ3 => (if r4 = 0 then (pX4_fails th (nI 3) μ3 fun μ5 => pX4_takes_37 th Q μ5) else pX4_takes_37 th Q μ3))))
theorem hX4_takes : yX4_takes.cls = "SunkTowerModel" ∧ yX4_takes.cls ≠ "java/lang/invoke/MethodHandle" ∧ yX4_takes.cls ≠ "java/lang/invoke/VarHandle" ∧ (parseMethodDescriptor yX4_takes.desc).map (fun d => d.parameters.length) = some 2 := by decide +kernel
set_option maxHeartbeats 4000000 in
set_option maxRecDepth 100000 in
theorem mX4_takes (l : Launch) (Γ : zG) (th : Nat) (x1 : Int32) (x2 : Int32) (μ : zM) (Q : Int32 → zM → Prop) (hp : pX4_takes th x1 x2 μ Q) : Met l yX4_takes (ws_ yX4_takes cX4_takes 4 (some .int)) ({ frames := 6, cells := 0, slots := 0, locals := 129 } : Room) (va_Pc [.ref th, .int x1, .int x2] (zPre Γ (tSh th) μ)) (va_Qi Q (zPost Γ (tSh th) μ) (zA μ)) 0 0 (zA μ) := by
  refine zstart (by decide) (Nat.le_of_ble_eq_true rfl) ?_
  intro p e s m below meth c ls X hnm hB hl
  have X : zCx p m c cX4_takes 4 s [.ref th, .int x1, .int x2].toArray RX4 meth (some .int) := X
  have S := X.1
  obtain ⟨hx, hb, hml, hown, hts⟩ := X.1
  have hl : lv_has ls 4 [(0, .ref th), (1, .int x1), (2, .int x2)] := hl
  unfold pX4_takes at hp
  refine lv_aload_n hx hb dX4_takes_0 rfl (lv_at hl 0 rfl) ?_
  refine lv_bipush (v := (nI 23)) hx hb dX4_takes_1 rfl ?_
  refine z_calli (va_runV (As := [.int (nI 23)]) (rest := []) S (mX4_is l Γ th (nI 23) μ _ hp) (cwV 1 hts (lw_V q1557 q1559 qs66 q132 q1560) rfl rfl rfl hX4_is ⟨Nat.le_of_ble_eq_true rfl, Nat.le_of_ble_eq_true rfl⟩) (hB.preV (tT hB) rfl rfl) rfl rfl hl.1 rfl (lv_room (Nat.le_of_ble_eq_true rfl)) dX4_takes_3 ⟨Nat.le_refl _, Nat.le_refl _⟩) hB (fun r2 μ1 H locs hp hB => ?_)
  refine lv_if_ne (tgt := 17) hx hb dX4_takes_6 rfl (fun c0 => ?_) (fun c0 => ?_)
  · have hp := zif hp c0
    refine lv_aload_n hx hb dX4_takes_17 rfl (lv_at hl 0 rfl) ?_
    refine g_get S hB (tT hB) rfl (T := TX4) (N := 38) (C := RX4) rfl in_X4 10 (by decide) (by decide) q1402 (fun _ h9 => h9) (v := .int (zI μ1 th 10)) rfl dX4_takes_18 ?_
    refine lv_i2l hx hb dX4_takes_21 rfl ?_
    refine lv_iload_n hx hb dX4_takes_22 rfl (lv_at hl 1 rfl) ?_
    refine lv_i2l hx hb dX4_takes_23 rfl ?_
    refine lv_iload_n hx hb dX4_takes_24 rfl (lv_at hl 2 rfl) ?_
    refine lv_i2l hx hb dX4_takes_25 rfl ?_
    refine z_calli (va_runS (As := [.long ((zI μ1 th 10).toInt64), .long (x1.toInt64), .long (x2.toInt64)]) (rest := []) S (mX4_within l Γ th ((zI μ1 th 10).toInt64) (x1.toInt64) (x2.toInt64) μ1 _ hp) (va_cwS 3 hts (lw_S q1516 q1517 q132 q1518) rfl rfl rfl hX4_within ⟨Nat.le_of_ble_eq_true rfl, Nat.le_of_ble_eq_true rfl⟩) hB.preS rfl rfl hl.1 rfl (lv_room (Nat.le_of_ble_eq_true rfl)) dX4_takes_26 ⟨Nat.le_refl _, Nat.le_refl _⟩) hB (fun r4 μ3 H locs hp hB => ?_)
    refine lv_if_ne (tgt := 37) hx hb dX4_takes_29 rfl (fun c0 => ?_) (fun c0 => ?_)
    · have hp := zif hp c0
      exact wX4_takes_37 X th μ3 _ _ _ hp hB (lv_sub hl [0] rfl)
    · have hp := zit hp c0
      refine lv_aload_n hx hb dX4_takes_32 rfl (lv_at hl 0 rfl) ?_
      refine lv_iconst (v := (nI 3)) hx hb dX4_takes_33 rfl ?_
      refine z_callv (va_runV (As := [.int (nI 3)]) (rest := []) S (mX4_fails l Γ th (nI 3) μ3 _ hp) (cwV 1 hts (lw_V q1549 q1551 qs64 q132 q1552) rfl rfl rfl hX4_fails ⟨Nat.le_of_ble_eq_true rfl, Nat.le_of_ble_eq_true rfl⟩) (hB.preV (tT hB) rfl rfl) rfl rfl hl.1 rfl (lv_room (Nat.le_of_ble_eq_true rfl)) dX4_takes_34 ⟨Nat.le_refl _, Nat.le_refl _⟩) hB (fun μ5 H locs hp hB => ?_)
      exact wX4_takes_37 X th μ5 _ _ _ hp hB (lv_sub hl [0] rfl)
  · have hp := zit hp c0
    refine lv_aload_n hx hb dX4_takes_9 rfl (lv_at hl 0 rfl) ?_
    refine lv_iconst (v := (nI 2)) hx hb dX4_takes_10 rfl ?_
    refine z_callv (va_runV (As := [.int (nI 2)]) (rest := []) S (mX4_fails l Γ th (nI 2) μ1 _ hp) (cwV 1 hts (lw_V q1549 q1551 qs64 q132 q1552) rfl rfl rfl hX4_fails ⟨Nat.le_of_ble_eq_true rfl, Nat.le_of_ble_eq_true rfl⟩) (hB.preV (tT hB) rfl rfl) rfl rfl hl.1 rfl (lv_room (Nat.le_of_ble_eq_true rfl)) dX4_takes_11 ⟨Nat.le_refl _, Nat.le_refl _⟩) hB (fun μ6 H locs hp hB => ?_)
    refine lv_goto (tgt := 37) hx hb dX4_takes_14 rfl ?_
    exact wX4_takes_37 X th μ6 _ _ _ hp hB (lv_sub hl [0] rfl)
def pX4_eats (th : Nat) (x1 : Int32) (μ : zM) (Q : Int32 → zM → Prop) : Prop := (pX4_is th x1 μ fun r2 μ1 => (if r2 = 0 then Q (nI 0) μ1 else (pX4_next th μ1 fun μ3 => Q (nI 1) μ3)))
theorem hX4_eats : yX4_eats.cls = "SunkTowerModel" ∧ yX4_eats.cls ≠ "java/lang/invoke/MethodHandle" ∧ yX4_eats.cls ≠ "java/lang/invoke/VarHandle" ∧ (parseMethodDescriptor yX4_eats.desc).map (fun d => d.parameters.length) = some 1 := by decide +kernel
set_option maxHeartbeats 4000000 in
set_option maxRecDepth 100000 in
theorem mX4_eats (l : Launch) (Γ : zG) (th : Nat) (x1 : Int32) (μ : zM) (Q : Int32 → zM → Prop) (hp : pX4_eats th x1 μ Q) : Met l yX4_eats (ws_ yX4_eats cX4_eats 2 (some .boolean)) ({ frames := 6, cells := 0, slots := 0, locals := 129 } : Room) (va_Pc [.ref th, .int x1] (zPre Γ (tSh th) μ)) (va_Qi Q (zPost Γ (tSh th) μ) (zA μ)) 0 0 (zA μ) := by
  refine zstart (by decide) (Nat.le_of_ble_eq_true rfl) ?_
  intro p e s m below meth c ls X hnm hB hl
  have X : zCx p m c cX4_eats 2 s [.ref th, .int x1].toArray RX4 meth (some .boolean) := X
  have S := X.1
  obtain ⟨hx, hb, hml, hown, hts⟩ := X.1
  have hl : lv_has ls 2 [(0, .ref th), (1, .int x1)] := hl
  unfold pX4_eats at hp
  refine lv_aload_n hx hb dX4_eats_0 rfl (lv_at hl 0 rfl) ?_
  refine lv_iload_n hx hb dX4_eats_1 rfl (lv_at hl 1 rfl) ?_
  refine z_calli (va_runV (As := [.int x1]) (rest := []) S (mX4_is l Γ th x1 μ _ hp) (cwV 1 hts (lw_V q1557 q1559 qs66 q132 q1560) rfl rfl rfl hX4_is ⟨Nat.le_of_ble_eq_true rfl, Nat.le_of_ble_eq_true rfl⟩) (hB.preV (tT hB) rfl rfl) rfl rfl hl.1 rfl (lv_room (Nat.le_of_ble_eq_true rfl)) dX4_eats_2 ⟨Nat.le_refl _, Nat.le_refl _⟩) hB (fun r2 μ1 H locs hp hB => ?_)
  refine lv_if_ne (tgt := 10) hx hb dX4_eats_5 rfl (fun c0 => ?_) (fun c0 => ?_)
  · have hp := zif hp c0
    refine lv_aload_n hx hb dX4_eats_10 rfl (lv_at hl 0 rfl) ?_
    refine z_callv (va_runV (As := []) (rest := []) S (mX4_next l Γ th μ1 _ hp) (cwV 0 hts (lw_V q1519 q1521 qs59 q132 q1522) rfl rfl rfl hX4_next ⟨Nat.le_of_ble_eq_true rfl, Nat.le_of_ble_eq_true rfl⟩) (hB.preV (tT hB) rfl rfl) rfl rfl hl.1 rfl (lv_room (Nat.le_of_ble_eq_true rfl)) dX4_eats_11 ⟨Nat.le_refl _, Nat.le_refl _⟩) hB (fun μ3 H locs hp hB => ?_)
    refine lv_iconst (v := (nI 1)) hx hb dX4_eats_14 rfl ?_
    exact zret_z X hB rfl hp dX4_eats_15
  · have hp := zit hp c0
    refine lv_iconst (v := (nI 0)) hx hb dX4_eats_8 rfl ?_
    exact zret_z X hB rfl hp dX4_eats_9
def pX4_readOn_50 (th : Nat) (x1 : Int32) (Q : zM → Prop) (μ : zM) : Prop := (vp_in (nI 20) 1198 ∧ (pX4_takes th (nI 0) ((zI μ (th + 4) (nI 20).toNatClampNeg) - (nI 1)) μ fun r2 μ1 => (if (zI μ1 th 11) = 0 then (vp_in ((nI 35) + x1) 1198 ∧ zpI μ1 (th + 4) ((nI 35) + x1).toNatClampNeg r2 fun μ3 => Q μ3) else Q μ1)))
set_option maxHeartbeats 4000000 in
set_option maxRecDepth 100000 in
theorem wX4_readOn_50 {p : Program} {l : Launch} {e : Env} {s : State} {m : MethodId} {args : Array Value} {below : List Frame} {meth : Method} {c : Code} {Γ : zG} {μ0 : zM} {Q : zM → Prop} (X : zCx p m c cX4_readOn 3 s args RX4 meth none) (th : Nat) (x1 : Int32) : ∀ (μ : zM) (H : Heap) (locs : List Loc) (ls : Array Slot), pX4_readOn_50 th x1 Q  μ → zB Γ (tSh th) (zA μ0) μ0 s μ H locs → lv_has ls 3 [(0, .ref th), (1, .int x1)] → W p l e ({ frames := 7, cells := 0, slots := 0, locals := 152 } : Room) s m args below meth c H locs 0 0 (MQ below (va_Qv Q (zPost Γ (tSh th) μ0) (zA μ0)) args s 0 0 (zA μ0)) (F0 m 50 ls []) := by
  have S := X.1
  obtain ⟨hx, hb, hml, hown, hts⟩ := X.1
  intro  μ H locs ls hp hB hl
  unfold pX4_readOn_50 at hp
  refine lv_aload_n hx hb dX4_readOn_50 rfl (lv_at hl 0 rfl) ?_
  refine lv_iconst (v := (nI 0)) hx hb dX4_readOn_51 rfl ?_
  refine lv_aload_n hx hb dX4_readOn_52 rfl (lv_at hl 0 rfl) ?_
  refine g_getr S hB (tT hB) rfl (T := TX4) (N := 38) (C := RX4) rfl in_X4 4 (by decide) (by decide) q1396 (fun _ h9 => h9) (fun _ => rfl) (tA hB 3 rfl).1 dX4_readOn_53 ?_
  refine lv_bipush (v := (nI 20)) hx hb dX4_readOn_56 rfl ?_
  obtain ⟨hi, hp⟩ := hp
  refine g_iald S hB (tA hB 3 rfl).2 hi dX4_readOn_58 ?_
  refine lv_iconst (v := (nI 1)) hx hb dX4_readOn_59 rfl ?_
  refine lv_isub hx hb dX4_readOn_60 ?_
  refine z_calli (va_runV (As := [.int (nI 0), .int ((zI μ (th + 4) (nI 20).toNatClampNeg) - (nI 1))]) (rest := []) S (mX4_takes l Γ th (nI 0) ((zI μ (th + 4) (nI 20).toNatClampNeg) - (nI 1)) μ _ hp) (cwV 2 hts (lw_V q1553 q1555 qs65 q132 q1556) rfl rfl rfl hX4_takes ⟨Nat.le_of_ble_eq_true rfl, Nat.le_of_ble_eq_true rfl⟩) (hB.preV (tT hB) rfl rfl) rfl rfl hl.1 rfl (lv_room (Nat.le_of_ble_eq_true rfl)) dX4_readOn_61 ⟨Nat.le_refl _, Nat.le_refl _⟩) hB (fun r2 μ1 H locs hp hB => ?_)
  refine lv_istore_n (lv' := [(2, .int r2), (0, .ref th), (1, .int x1)]) hx hb dX4_readOn_64 rfl hl (by decide) rfl (fun ls hl => ?_)
  refine lv_aload_n hx hb dX4_readOn_65 rfl (lv_at hl 1 rfl) ?_
  refine g_get S hB (tT hB) rfl (T := TX4) (N := 38) (C := RX4) rfl in_X4 11 (by decide) (by decide) q1403 (fun _ h9 => h9) (v := .int (zI μ1 th 11)) rfl dX4_readOn_66 ?_
  refine lv_if_ne (tgt := 82) hx hb dX4_readOn_69 rfl (fun c0 => ?_) (fun c0 => ?_)
  · have hp := zif hp c0
    exact zret_v X hB hp dX4_readOn_82
  · have hp := zit hp c0
    refine lv_aload_n hx hb dX4_readOn_72 rfl (lv_at hl 1 rfl) ?_
    refine g_getr S hB (tT hB) rfl (T := TX4) (N := 38) (C := RX4) rfl in_X4 4 (by decide) (by decide) q1396 (fun _ h9 => h9) (fun _ => rfl) (tA hB 3 rfl).1 dX4_readOn_73 ?_
    refine lv_bipush (v := (nI 35)) hx hb dX4_readOn_76 rfl ?_
    refine lv_iload_n hx hb dX4_readOn_78 rfl (lv_at hl 2 rfl) ?_
    refine lv_iadd hx hb dX4_readOn_79 ?_
    refine lv_iload_n hx hb dX4_readOn_80 rfl (lv_at hl 0 rfl) ?_
    obtain ⟨hi, hp⟩ := hp
    obtain ⟨μ3, eμ3, hp⟩ := zpI_e hp
    refine g_iast S hB (tA hB 3 rfl).2 hi dX4_readOn_81 (fun H locs hB => ?_)
    rw [← eμ3] at hB
    exact zret_v X hB hp dX4_readOn_82
def pX4_readOn_2 (th : Nat) (x1 : Int32) (Q : zM → Prop) : Nat → Int32 → zM → Prop
  | 0, _, _ => False
  | n + 1, x2, μ => (if x1 ≤ x2 then pX4_readOn_50 th x1 Q μ else (if (zI μ th 11) = 0 then (pX4_is th (nI 23) μ fun r2 μ1 => (if r2 = 0 then pX4_readOn_50 th x1 Q μ1 else (vp_in ((nI 35) + x2) 1198 ∧ (if (zI μ1 (th + 4) ((nI 35) + x2).toNatClampNeg) = (zI μ1 th 10) then (pX4_fails th (nI 3) μ1 fun μ3 => pX4_readOn_2 th x1 Q n (x2 + (nI 1)) μ3) else pX4_readOn_2 th x1 Q n (x2 + (nI 1)) μ1)))) else pX4_readOn_50 th x1 Q μ))
set_option maxHeartbeats 4000000 in
set_option maxRecDepth 100000 in
theorem wX4_readOn_2 {p : Program} {l : Launch} {e : Env} {s : State} {m : MethodId} {args : Array Value} {below : List Frame} {meth : Method} {c : Code} {Γ : zG} {μ0 : zM} {Q : zM → Prop} (X : zCx p m c cX4_readOn 3 s args RX4 meth none) (th : Nat) (x1 : Int32) : ∀ (n : Nat) (x2 : Int32) (μ : zM) (H : Heap) (locs : List Loc) (ls : Array Slot), pX4_readOn_2 th x1 Q n x2 μ → zB Γ (tSh th) (zA μ0) μ0 s μ H locs → lv_has ls 3 [(0, .ref th), (1, .int x1), (2, .int x2)] → W p l e ({ frames := 7, cells := 0, slots := 0, locals := 152 } : Room) s m args below meth c H locs 0 0 (MQ below (va_Qv Q (zPost Γ (tSh th) μ0) (zA μ0)) args s 0 0 (zA μ0)) (F0 m 2 ls []) := by
  have S := X.1
  obtain ⟨hx, hb, hml, hown, hts⟩ := X.1
  intro n
  induction n with
  | zero =>
    intro x2 μ H locs ls hp
    exact hp.elim
  | succ n ih =>
    intro x2 μ H locs ls hp hB hl
    unfold pX4_readOn_2 at hp
    refine lv_iload_n hx hb dX4_readOn_2 rfl (lv_at hl 2 rfl) ?_
    refine lv_iload_n hx hb dX4_readOn_3 rfl (lv_at hl 1 rfl) ?_
    refine lv_icmp_ge (tgt := 50) hx hb dX4_readOn_4 rfl (fun c0 => ?_) (fun c0 => ?_)
    · have hp := zit hp c0
      exact wX4_readOn_50 X th x1 μ _ _ _ hp hB (lv_sub hl [0, 1] rfl)
    · have hp := zif hp c0
      refine lv_aload_n hx hb dX4_readOn_7 rfl (lv_at hl 0 rfl) ?_
      refine g_get S hB (tT hB) rfl (T := TX4) (N := 38) (C := RX4) rfl in_X4 11 (by decide) (by decide) q1403 (fun _ h9 => h9) (v := .int (zI μ th 11)) rfl dX4_readOn_8 ?_
      refine lv_if_ne (tgt := 50) hx hb dX4_readOn_11 rfl (fun c0 => ?_) (fun c0 => ?_)
      · have hp := zif hp c0
        exact wX4_readOn_50 X th x1 μ _ _ _ hp hB (lv_sub hl [0, 1] rfl)
      · have hp := zit hp c0
        refine lv_aload_n hx hb dX4_readOn_14 rfl (lv_at hl 0 rfl) ?_
        refine lv_bipush (v := (nI 23)) hx hb dX4_readOn_15 rfl ?_
        refine z_calli (va_runV (As := [.int (nI 23)]) (rest := []) S (mX4_is l Γ th (nI 23) μ _ hp) (cwV 1 hts (lw_V q1557 q1559 qs66 q132 q1560) rfl rfl rfl hX4_is ⟨Nat.le_of_ble_eq_true rfl, Nat.le_of_ble_eq_true rfl⟩) (hB.preV (tT hB) rfl rfl) rfl rfl hl.1 rfl (lv_room (Nat.le_of_ble_eq_true rfl)) dX4_readOn_17 ⟨Nat.le_refl _, Nat.le_refl _⟩) hB (fun r2 μ1 H locs hp hB => ?_)
        refine lv_if_eq (tgt := 50) hx hb dX4_readOn_20 rfl (fun c0 => ?_) (fun c0 => ?_)
        · have hp := zit hp c0
          exact wX4_readOn_50 X th x1 μ1 _ _ _ hp hB (lv_sub hl [0, 1] rfl)
        · have hp := zif hp c0
          refine lv_aload_n hx hb dX4_readOn_23 rfl (lv_at hl 0 rfl) ?_
          refine g_getr S hB (tT hB) rfl (T := TX4) (N := 38) (C := RX4) rfl in_X4 4 (by decide) (by decide) q1396 (fun _ h9 => h9) (fun _ => rfl) (tA hB 3 rfl).1 dX4_readOn_24 ?_
          refine lv_bipush (v := (nI 35)) hx hb dX4_readOn_27 rfl ?_
          refine lv_iload_n hx hb dX4_readOn_29 rfl (lv_at hl 2 rfl) ?_
          refine lv_iadd hx hb dX4_readOn_30 ?_
          obtain ⟨hi, hp⟩ := hp
          refine g_iald S hB (tA hB 3 rfl).2 hi dX4_readOn_31 ?_
          refine lv_aload_n hx hb dX4_readOn_32 rfl (lv_at hl 0 rfl) ?_
          refine g_get S hB (tT hB) rfl (T := TX4) (N := 38) (C := RX4) rfl in_X4 10 (by decide) (by decide) q1402 (fun _ h9 => h9) (v := .int (zI μ1 th 10)) rfl dX4_readOn_33 ?_
          refine lv_icmp_ne (tgt := 44) hx hb dX4_readOn_36 rfl (fun c0 => ?_) (fun c0 => ?_)
          · have hp := zif hp c0
            refine lv_iinc (v := (x2 + (nI 1))) (lv' := [(2, .int (x2 + (nI 1))), (0, .ref th), (1, .int x1)]) hx hb dX4_readOn_44 hl (k := 2) rfl rfl (by decide) rfl (fun ls hl => ?_)
            refine lv_goto (tgt := 2) hx hb dX4_readOn_47 rfl ?_
            exact ih (x2 + (nI 1)) μ1 _ _ _ hp hB (lv_sub hl [1, 2, 0] rfl)
          · have hp := zit hp c0
            refine lv_aload_n hx hb dX4_readOn_39 rfl (lv_at hl 0 rfl) ?_
            refine lv_iconst (v := (nI 3)) hx hb dX4_readOn_40 rfl ?_
            refine z_callv (va_runV (As := [.int (nI 3)]) (rest := []) S (mX4_fails l Γ th (nI 3) μ1 _ hp) (cwV 1 hts (lw_V q1549 q1551 qs64 q132 q1552) rfl rfl rfl hX4_fails ⟨Nat.le_of_ble_eq_true rfl, Nat.le_of_ble_eq_true rfl⟩) (hB.preV (tT hB) rfl rfl) rfl rfl hl.1 rfl (lv_room (Nat.le_of_ble_eq_true rfl)) dX4_readOn_41 ⟨Nat.le_refl _, Nat.le_refl _⟩) hB (fun μ3 H locs hp hB => ?_)
            refine lv_iinc (v := (x2 + (nI 1))) (lv' := [(2, .int (x2 + (nI 1))), (0, .ref th), (1, .int x1)]) hx hb dX4_readOn_44 hl (k := 2) rfl rfl (by decide) rfl (fun ls hl => ?_)
            refine lv_goto (tgt := 2) hx hb dX4_readOn_47 rfl ?_
            exact ih (x2 + (nI 1)) μ3 _ _ _ hp hB (lv_sub hl [1, 2, 0] rfl)
def pX4_readOn (th : Nat) (x1 : Int32) (μ : zM) (Q : zM → Prop) : Prop := ∃ k1, pX4_readOn_2 th x1 Q k1 (nI 0) μ
theorem hX4_readOn : yX4_readOn.cls = "SunkTowerModel" ∧ yX4_readOn.cls ≠ "java/lang/invoke/MethodHandle" ∧ yX4_readOn.cls ≠ "java/lang/invoke/VarHandle" ∧ (parseMethodDescriptor yX4_readOn.desc).map (fun d => d.parameters.length) = some 1 := by decide +kernel
set_option maxHeartbeats 4000000 in
set_option maxRecDepth 100000 in
theorem mX4_readOn (l : Launch) (Γ : zG) (th : Nat) (x1 : Int32) (μ : zM) (Q : zM → Prop) (hp : pX4_readOn th x1 μ Q) : Met l yX4_readOn (ws_ yX4_readOn cX4_readOn 3 none) ({ frames := 7, cells := 0, slots := 0, locals := 152 } : Room) (va_Pc [.ref th, .int x1] (zPre Γ (tSh th) μ)) (va_Qv Q (zPost Γ (tSh th) μ) (zA μ)) 0 0 (zA μ) := by
  refine zstart (by decide) (Nat.le_of_ble_eq_true rfl) ?_
  intro p e s m below meth c ls X hnm hB hl
  have X : zCx p m c cX4_readOn 3 s [.ref th, .int x1].toArray RX4 meth none := X
  have S := X.1
  obtain ⟨hx, hb, hml, hown, hts⟩ := X.1
  have hl : lv_has ls 3 [(0, .ref th), (1, .int x1)] := hl
  unfold pX4_readOn at hp
  refine lv_iconst (v := (nI 0)) hx hb dX4_readOn_0 rfl ?_
  refine lv_istore_n (lv' := [(2, .int (nI 0)), (0, .ref th), (1, .int x1)]) hx hb dX4_readOn_1 rfl hl (by decide) rfl (fun ls hl => ?_)
  obtain ⟨n1, hp⟩ := hp
  exact wX4_readOn_2 X th x1 n1 (nI 0) μ _ _ _ hp hB (lv_sub hl [1, 2, 0] rfl)
theorem hX4_readAtom : yX4_readAtom.cls = "SunkTowerModel" ∧ yX4_readAtom.cls ≠ "java/lang/invoke/MethodHandle" ∧ yX4_readAtom.cls ≠ "java/lang/invoke/VarHandle" ∧ (parseMethodDescriptor yX4_readAtom.desc).map (fun d => d.parameters.length) = some 1 := by decide +kernel
def pX4_readTerm_5 (A : Nat → Int32 → zM → (zM → Prop) → Prop) (th : Nat) (x1 : Int32) (Q : zM → Prop) : Nat → zM → Prop
  | 0, _ => False
  | n + 1, μ => (pX4_eats th (nI 34) μ fun r2 μ1 => (if r2 = 0 then Q μ1 else (A th x1 μ1 fun μ3 => (pX4_codes th (nI 3002) μ3 fun μ4 => pX4_readTerm_5 A th x1 Q n μ4))))
set_option maxHeartbeats 4000000 in
set_option maxRecDepth 100000 in
theorem wX4_readTerm_5 {p : Program} {l : Launch} {e : Env} {s : State} {m : MethodId} {args : Array Value} {below : List Frame} {meth : Method} {c : Code} {Γ : zG} {μ0 : zM} {Q : zM → Prop} (X : zCx p m c cX4_readTerm 2 s args RX4 meth none) (A : Nat → Int32 → zM → (zM → Prop) → Prop) (fa la : Nat) (hA : ∀ (l : Launch) (Γ : zG) (th : Nat) (x1 : Int32) (μ : zM) (Q : (zM → Prop)), A th x1 μ Q → Met l yX4_readAtom (ws_ yX4_readAtom cX4_readAtom 2 none) { frames := fa, cells := 0, slots := 0, locals := la } (va_Pc [.ref th, .int x1] (zPre Γ (tSh th) μ)) (va_Qv Q (zPost Γ (tSh th) μ) (zA μ)) 0 0 (zA μ)) (th : Nat) (x1 : Int32) : ∀ (n : Nat) (μ : zM) (H : Heap) (locs : List Loc) (ls : Array Slot), pX4_readTerm_5 A th x1 Q n  μ → zB Γ (tSh th) (zA μ0) μ0 s μ H locs → lv_has ls 2 [(0, .ref th), (1, .int x1)] → W p l e ({ frames := fa + 7, cells := 0, slots := 0, locals := la + 150 } : Room) s m args below meth c H locs 0 0 (MQ below (va_Qv Q (zPost Γ (tSh th) μ0) (zA μ0)) args s 0 0 (zA μ0)) (F0 m 5 ls []) := by
  have S := X.1
  obtain ⟨hx, hb, hml, hown, hts⟩ := X.1
  intro n
  induction n with
  | zero =>
    intro  μ H locs ls hp
    exact hp.elim
  | succ n ih =>
    intro  μ H locs ls hp hB hl
    unfold pX4_readTerm_5 at hp
    refine lv_aload_n hx hb dX4_readTerm_5 rfl (lv_at hl 0 rfl) ?_
    refine lv_bipush (v := (nI 34)) hx hb dX4_readTerm_6 rfl ?_
    refine z_calli (va_runV (As := [.int (nI 34)]) (rest := []) S (mX4_eats l Γ th (nI 34) μ _ hp) (cwV 1 hts (lw_V q1565 q1567 qs68 q132 q1568) rfl rfl rfl hX4_eats ⟨by dsimp only; omega, by dsimp only; omega⟩) (hB.preV (tT hB) rfl rfl) rfl rfl hl.1 rfl (lv_room (Nat.le_of_ble_eq_true rfl)) dX4_readTerm_8 ⟨Nat.le_refl _, Nat.le_refl _⟩) hB (fun r2 μ1 H locs hp hB => ?_)
    refine lv_if_eq (tgt := 29) hx hb dX4_readTerm_11 rfl (fun c0 => ?_) (fun c0 => ?_)
    · have hp := zit hp c0
      exact zret_v X hB hp dX4_readTerm_29
    · have hp := zif hp c0
      refine lv_aload_n hx hb dX4_readTerm_14 rfl (lv_at hl 0 rfl) ?_
      refine lv_iload_n hx hb dX4_readTerm_15 rfl (lv_at hl 1 rfl) ?_
      refine z_callv (va_runV (As := [.int x1]) (rest := []) S (hA l Γ th x1 μ1 _ hp) (cwV 1 hts (lw_V q1585 q1587 qs73 q132 q1588) rfl rfl rfl hX4_readAtom ⟨by dsimp only; omega, by dsimp only; omega⟩) (hB.preV (tT hB) rfl rfl) rfl rfl hl.1 rfl (lv_room (Nat.le_of_ble_eq_true rfl)) dX4_readTerm_16 ⟨Nat.le_refl _, Nat.le_refl _⟩) hB (fun μ3 H locs hp hB => ?_)
      refine lv_aload_n hx hb dX4_readTerm_19 rfl (lv_at hl 0 rfl) ?_
      refine lv_sipush (v := (nI 3002)) hx hb dX4_readTerm_20 rfl ?_
      refine z_callv (va_runV (As := [.int (nI 3002)]) (rest := []) S (mX4_codes l Γ th (nI 3002) μ3 _ hp) (cwV 1 hts (lw_V q1589 q1591 qs74 q132 q1592) rfl rfl rfl hX4_codes ⟨by dsimp only; omega, by dsimp only; omega⟩) (hB.preV (tT hB) rfl rfl) rfl rfl hl.1 rfl (lv_room (Nat.le_of_ble_eq_true rfl)) dX4_readTerm_23 ⟨Nat.le_refl _, Nat.le_refl _⟩) hB (fun μ4 H locs hp hB => ?_)
      refine lv_goto (tgt := 5) hx hb dX4_readTerm_26 rfl ?_
      exact ih  μ4 _ _ _ hp hB (lv_sub hl [0, 1] rfl)
def pX4_readTerm_of (A : Nat → Int32 → zM → (zM → Prop) → Prop) (th : Nat) (x1 : Int32) (μ : zM) (Q : zM → Prop) : Prop := (A th x1 μ fun μ1 => ∃ k1, pX4_readTerm_5 A th x1 Q k1 μ1)
theorem hX4_readTerm : yX4_readTerm.cls = "SunkTowerModel" ∧ yX4_readTerm.cls ≠ "java/lang/invoke/MethodHandle" ∧ yX4_readTerm.cls ≠ "java/lang/invoke/VarHandle" ∧ (parseMethodDescriptor yX4_readTerm.desc).map (fun d => d.parameters.length) = some 1 := by decide +kernel
set_option maxHeartbeats 4000000 in
set_option maxRecDepth 100000 in
theorem mX4_readTerm_of (A : Nat → Int32 → zM → (zM → Prop) → Prop) (fa la : Nat) (hA : ∀ (l : Launch) (Γ : zG) (th : Nat) (x1 : Int32) (μ : zM) (Q : (zM → Prop)), A th x1 μ Q → Met l yX4_readAtom (ws_ yX4_readAtom cX4_readAtom 2 none) { frames := fa, cells := 0, slots := 0, locals := la } (va_Pc [.ref th, .int x1] (zPre Γ (tSh th) μ)) (va_Qv Q (zPost Γ (tSh th) μ) (zA μ)) 0 0 (zA μ)) (l : Launch) (Γ : zG) (th : Nat) (x1 : Int32) (μ : zM) (Q : zM → Prop) (hp : pX4_readTerm_of A th x1 μ Q) : Met l yX4_readTerm (ws_ yX4_readTerm cX4_readTerm 2 none) ({ frames := fa + 7, cells := 0, slots := 0, locals := la + 150 } : Room) (va_Pc [.ref th, .int x1] (zPre Γ (tSh th) μ)) (va_Qv Q (zPost Γ (tSh th) μ) (zA μ)) 0 0 (zA μ) := by
  refine zstart (by decide) (Nat.le_of_ble_eq_true rfl) ?_
  intro p e s m below meth c ls X hnm hB hl
  have X : zCx p m c cX4_readTerm 2 s [.ref th, .int x1].toArray RX4 meth none := X
  have S := X.1
  obtain ⟨hx, hb, hml, hown, hts⟩ := X.1
  have hl : lv_has ls 2 [(0, .ref th), (1, .int x1)] := hl
  unfold pX4_readTerm_of at hp
  refine lv_aload_n hx hb dX4_readTerm_0 rfl (lv_at hl 0 rfl) ?_
  refine lv_iload_n hx hb dX4_readTerm_1 rfl (lv_at hl 1 rfl) ?_
  refine z_callv (va_runV (As := [.int x1]) (rest := []) S (hA l Γ th x1 μ _ hp) (cwV 1 hts (lw_V q1585 q1587 qs73 q132 q1588) rfl rfl rfl hX4_readAtom ⟨by dsimp only; omega, by dsimp only; omega⟩) (hB.preV (tT hB) rfl rfl) rfl rfl hl.1 rfl (lv_room (Nat.le_of_ble_eq_true rfl)) dX4_readTerm_2 ⟨Nat.le_refl _, Nat.le_refl _⟩) hB (fun μ1 H locs hp hB => ?_)
  obtain ⟨n1, hp⟩ := hp
  exact wX4_readTerm_5 X A fa la hA th x1 n1 μ1 _ _ _ hp hB (lv_sub hl [0, 1] rfl)
def pX4_goesIn_22 (th : Nat) (Q : Int32 → zM → Prop) (μ : zM) : Prop := (if (zI μ th 11) = 0 then Q (nI 1) μ else Q (nI 0) μ)
set_option maxHeartbeats 4000000 in
set_option maxRecDepth 100000 in
theorem wX4_goesIn_22 {p : Program} {l : Launch} {e : Env} {s : State} {m : MethodId} {args : Array Value} {below : List Frame} {meth : Method} {c : Code} {Γ : zG} {μ0 : zM} {Q : Int32 → zM → Prop} (X : zCx p m c cX4_goesIn 2 s args RX4 meth (some .boolean)) (th : Nat) : ∀ (μ : zM) (H : Heap) (locs : List Loc) (ls : Array Slot), pX4_goesIn_22 th Q  μ → zB Γ (tSh th) (zA μ0) μ0 s μ H locs → lv_has ls 2 [(0, .ref th)] → W p l e ({ frames := 6, cells := 0, slots := 0, locals := 129 } : Room) s m args below meth c H locs 0 0 (MQ below (va_Qi Q (zPost Γ (tSh th) μ0) (zA μ0)) args s 0 0 (zA μ0)) (F0 m 22 ls []) := by
  have S := X.1
  obtain ⟨hx, hb, hml, hown, hts⟩ := X.1
  intro  μ H locs ls hp hB hl
  unfold pX4_goesIn_22 at hp
  refine lv_aload_n hx hb dX4_goesIn_22 rfl (lv_at hl 0 rfl) ?_
  refine g_get S hB (tT hB) rfl (T := TX4) (N := 38) (C := RX4) rfl in_X4 11 (by decide) (by decide) q1403 (fun _ h9 => h9) (v := .int (zI μ th 11)) rfl dX4_goesIn_23 ?_
  refine lv_if_ne (tgt := 33) hx hb dX4_goesIn_26 rfl (fun c0 => ?_) (fun c0 => ?_)
  · have hp := zif hp c0
    refine lv_iconst (v := (nI 0)) hx hb dX4_goesIn_33 rfl ?_
    exact zret_z X hB rfl hp dX4_goesIn_34
  · have hp := zit hp c0
    refine lv_iconst (v := (nI 1)) hx hb dX4_goesIn_29 rfl ?_
    refine lv_goto (tgt := 34) hx hb dX4_goesIn_30 rfl ?_
    exact zret_z X hB rfl hp dX4_goesIn_34
def pX4_goesIn_11 (th : Nat) (Q : Int32 → zM → Prop) (μ : zM) : Prop := (if (zI μ th 11) = 0 then (pX4_next th μ fun μ1 => pX4_goesIn_22 th Q μ1) else pX4_goesIn_22 th Q μ)
set_option maxHeartbeats 4000000 in
set_option maxRecDepth 100000 in
theorem wX4_goesIn_11 {p : Program} {l : Launch} {e : Env} {s : State} {m : MethodId} {args : Array Value} {below : List Frame} {meth : Method} {c : Code} {Γ : zG} {μ0 : zM} {Q : Int32 → zM → Prop} (X : zCx p m c cX4_goesIn 2 s args RX4 meth (some .boolean)) (th : Nat) : ∀ (μ : zM) (H : Heap) (locs : List Loc) (ls : Array Slot), pX4_goesIn_11 th Q  μ → zB Γ (tSh th) (zA μ0) μ0 s μ H locs → lv_has ls 2 [(0, .ref th)] → W p l e ({ frames := 6, cells := 0, slots := 0, locals := 129 } : Room) s m args below meth c H locs 0 0 (MQ below (va_Qi Q (zPost Γ (tSh th) μ0) (zA μ0)) args s 0 0 (zA μ0)) (F0 m 11 ls []) := by
  have S := X.1
  obtain ⟨hx, hb, hml, hown, hts⟩ := X.1
  intro  μ H locs ls hp hB hl
  unfold pX4_goesIn_11 at hp
  refine lv_aload_n hx hb dX4_goesIn_11 rfl (lv_at hl 0 rfl) ?_
  refine g_get S hB (tT hB) rfl (T := TX4) (N := 38) (C := RX4) rfl in_X4 11 (by decide) (by decide) q1403 (fun _ h9 => h9) (v := .int (zI μ th 11)) rfl dX4_goesIn_12 ?_
  refine lv_if_ne (tgt := 22) hx hb dX4_goesIn_15 rfl (fun c0 => ?_) (fun c0 => ?_)
  · have hp := zif hp c0
    exact wX4_goesIn_22 X th μ _ _ _ hp hB (lv_sub hl [0] rfl)
  · have hp := zit hp c0
    refine lv_aload_n hx hb dX4_goesIn_18 rfl (lv_at hl 0 rfl) ?_
    refine z_callv (va_runV (As := []) (rest := []) S (mX4_next l Γ th μ _ hp) (cwV 0 hts (lw_V q1519 q1521 qs59 q132 q1522) rfl rfl rfl hX4_next ⟨Nat.le_of_ble_eq_true rfl, Nat.le_of_ble_eq_true rfl⟩) (hB.preV (tT hB) rfl rfl) rfl rfl hl.1 rfl (lv_room (Nat.le_of_ble_eq_true rfl)) dX4_goesIn_19 ⟨Nat.le_refl _, Nat.le_refl _⟩) hB (fun μ1 H locs hp hB => ?_)
    exact wX4_goesIn_22 X th μ1 _ _ _ hp hB (lv_sub hl [0] rfl)
def pX4_goesIn (th : Nat) (x1 : Int32) (μ : zM) (Q : Int32 → zM → Prop) : Prop := (if x1 = (nI 6) then (pX4_fails th (nI 4) μ fun μ1 => pX4_goesIn_11 th Q μ1) else pX4_goesIn_11 th Q μ)
theorem hX4_goesIn : yX4_goesIn.cls = "SunkTowerModel" ∧ yX4_goesIn.cls ≠ "java/lang/invoke/MethodHandle" ∧ yX4_goesIn.cls ≠ "java/lang/invoke/VarHandle" ∧ (parseMethodDescriptor yX4_goesIn.desc).map (fun d => d.parameters.length) = some 1 := by decide +kernel
set_option maxHeartbeats 4000000 in
set_option maxRecDepth 100000 in
theorem mX4_goesIn (l : Launch) (Γ : zG) (th : Nat) (x1 : Int32) (μ : zM) (Q : Int32 → zM → Prop) (hp : pX4_goesIn th x1 μ Q) : Met l yX4_goesIn (ws_ yX4_goesIn cX4_goesIn 2 (some .boolean)) ({ frames := 6, cells := 0, slots := 0, locals := 129 } : Room) (va_Pc [.ref th, .int x1] (zPre Γ (tSh th) μ)) (va_Qi Q (zPost Γ (tSh th) μ) (zA μ)) 0 0 (zA μ) := by
  refine zstart (by decide) (Nat.le_of_ble_eq_true rfl) ?_
  intro p e s m below meth c ls X hnm hB hl
  have X : zCx p m c cX4_goesIn 2 s [.ref th, .int x1].toArray RX4 meth (some .boolean) := X
  have S := X.1
  obtain ⟨hx, hb, hml, hown, hts⟩ := X.1
  have hl : lv_has ls 2 [(0, .ref th), (1, .int x1)] := hl
  unfold pX4_goesIn at hp
  refine lv_iload_n hx hb dX4_goesIn_0 rfl (lv_at hl 1 rfl) ?_
  refine lv_bipush (v := (nI 6)) hx hb dX4_goesIn_1 rfl ?_
  refine lv_icmp_ne (tgt := 11) hx hb dX4_goesIn_3 rfl (fun c0 => ?_) (fun c0 => ?_)
  · have hp := zif hp c0
    exact wX4_goesIn_11 X th μ _ _ _ hp hB (lv_sub hl [0] rfl)
  · have hp := zit hp c0
    refine lv_aload_n hx hb dX4_goesIn_6 rfl (lv_at hl 0 rfl) ?_
    refine lv_iconst (v := (nI 4)) hx hb dX4_goesIn_7 rfl ?_
    refine z_callv (va_runV (As := [.int (nI 4)]) (rest := []) S (mX4_fails l Γ th (nI 4) μ _ hp) (cwV 1 hts (lw_V q1549 q1551 qs64 q132 q1552) rfl rfl rfl hX4_fails ⟨Nat.le_of_ble_eq_true rfl, Nat.le_of_ble_eq_true rfl⟩) (hB.preV (tT hB) rfl rfl) rfl rfl hl.1 rfl (lv_room (Nat.le_of_ble_eq_true rfl)) dX4_goesIn_8 ⟨Nat.le_refl _, Nat.le_refl _⟩) hB (fun μ1 H locs hp hB => ?_)
    exact wX4_goesIn_11 X th μ1 _ _ _ hp hB (lv_sub hl [0] rfl)
def pX4_readOne (th : Nat) (x1 : Int32) (μ : zM) (Q : zM → Prop) : Prop := (pX4_next th μ fun μ1 => (pX4_takes th (nI 0) (nI 999) μ1 fun r3 μ2 => (if (zI μ2 th 11) = 0 then (vp_in x1 1198 ∧ zpI μ2 (th + 4) x1.toNatClampNeg r3 fun μ4 => Q μ4) else Q μ2)))
theorem hX4_readOne : yX4_readOne.cls = "SunkTowerModel" ∧ yX4_readOne.cls ≠ "java/lang/invoke/MethodHandle" ∧ yX4_readOne.cls ≠ "java/lang/invoke/VarHandle" ∧ (parseMethodDescriptor yX4_readOne.desc).map (fun d => d.parameters.length) = some 1 := by decide +kernel
set_option maxHeartbeats 4000000 in
set_option maxRecDepth 100000 in
theorem mX4_readOne (l : Launch) (Γ : zG) (th : Nat) (x1 : Int32) (μ : zM) (Q : zM → Prop) (hp : pX4_readOne th x1 μ Q) : Met l yX4_readOne (ws_ yX4_readOne cX4_readOne 3 none) ({ frames := 7, cells := 0, slots := 0, locals := 152 } : Room) (va_Pc [.ref th, .int x1] (zPre Γ (tSh th) μ)) (va_Qv Q (zPost Γ (tSh th) μ) (zA μ)) 0 0 (zA μ) := by
  refine zstart (by decide) (Nat.le_of_ble_eq_true rfl) ?_
  intro p e s m below meth c ls X hnm hB hl
  have X : zCx p m c cX4_readOne 3 s [.ref th, .int x1].toArray RX4 meth none := X
  have S := X.1
  obtain ⟨hx, hb, hml, hown, hts⟩ := X.1
  have hl : lv_has ls 3 [(0, .ref th), (1, .int x1)] := hl
  unfold pX4_readOne at hp
  refine lv_aload_n hx hb dX4_readOne_0 rfl (lv_at hl 0 rfl) ?_
  refine z_callv (va_runV (As := []) (rest := []) S (mX4_next l Γ th μ _ hp) (cwV 0 hts (lw_V q1519 q1521 qs59 q132 q1522) rfl rfl rfl hX4_next ⟨Nat.le_of_ble_eq_true rfl, Nat.le_of_ble_eq_true rfl⟩) (hB.preV (tT hB) rfl rfl) rfl rfl hl.1 rfl (lv_room (Nat.le_of_ble_eq_true rfl)) dX4_readOne_1 ⟨Nat.le_refl _, Nat.le_refl _⟩) hB (fun μ1 H locs hp hB => ?_)
  refine lv_aload_n hx hb dX4_readOne_4 rfl (lv_at hl 0 rfl) ?_
  refine lv_iconst (v := (nI 0)) hx hb dX4_readOne_5 rfl ?_
  refine lv_sipush (v := (nI 999)) hx hb dX4_readOne_6 rfl ?_
  refine z_calli (va_runV (As := [.int (nI 0), .int (nI 999)]) (rest := []) S (mX4_takes l Γ th (nI 0) (nI 999) μ1 _ hp) (cwV 2 hts (lw_V q1553 q1555 qs65 q132 q1556) rfl rfl rfl hX4_takes ⟨Nat.le_of_ble_eq_true rfl, Nat.le_of_ble_eq_true rfl⟩) (hB.preV (tT hB) rfl rfl) rfl rfl hl.1 rfl (lv_room (Nat.le_of_ble_eq_true rfl)) dX4_readOne_9 ⟨Nat.le_refl _, Nat.le_refl _⟩) hB (fun r3 μ2 H locs hp hB => ?_)
  refine lv_istore_n (lv' := [(2, .int r3), (0, .ref th), (1, .int x1)]) hx hb dX4_readOne_12 rfl hl (by decide) rfl (fun ls hl => ?_)
  refine lv_aload_n hx hb dX4_readOne_13 rfl (lv_at hl 1 rfl) ?_
  refine g_get S hB (tT hB) rfl (T := TX4) (N := 38) (C := RX4) rfl in_X4 11 (by decide) (by decide) q1403 (fun _ h9 => h9) (v := .int (zI μ2 th 11)) rfl dX4_readOne_14 ?_
  refine lv_if_ne (tgt := 27) hx hb dX4_readOne_17 rfl (fun c0 => ?_) (fun c0 => ?_)
  · have hp := zif hp c0
    exact zret_v X hB hp dX4_readOne_27
  · have hp := zit hp c0
    refine lv_aload_n hx hb dX4_readOne_20 rfl (lv_at hl 1 rfl) ?_
    refine g_getr S hB (tT hB) rfl (T := TX4) (N := 38) (C := RX4) rfl in_X4 4 (by decide) (by decide) q1396 (fun _ h9 => h9) (fun _ => rfl) (tA hB 3 rfl).1 dX4_readOne_21 ?_
    refine lv_iload_n hx hb dX4_readOne_24 rfl (lv_at hl 2 rfl) ?_
    refine lv_iload_n hx hb dX4_readOne_25 rfl (lv_at hl 0 rfl) ?_
    obtain ⟨hi, hp⟩ := hp
    obtain ⟨μ4, eμ4, hp⟩ := zpI_e hp
    refine g_iast S hB (tA hB 3 rfl).2 hi dX4_readOne_26 (fun H locs hB => ?_)
    rw [← eμ4] at hB
    exact zret_v X hB hp dX4_readOne_27
def pX4_readBuild_27 (th : Nat) (Q : zM → Prop) (x1 : Int32) (μ : zM) : Prop := (pX4_takes th (nI 0) (nI 999) μ fun r2 μ1 => (if (zI μ1 th 11) = 0 then (vp_in (nI 2) 1198 ∧ zpI μ1 (th + 4) (nI 2).toNatClampNeg x1 fun μ3 => (vp_in (nI 3) 1198 ∧ zpI μ3 (th + 4) (nI 3).toNatClampNeg r2 fun μ4 => Q μ4)) else Q μ1))
set_option maxHeartbeats 4000000 in
set_option maxRecDepth 100000 in
theorem wX4_readBuild_27 {p : Program} {l : Launch} {e : Env} {s : State} {m : MethodId} {args : Array Value} {below : List Frame} {meth : Method} {c : Code} {Γ : zG} {μ0 : zM} {Q : zM → Prop} (X : zCx p m c cX4_readBuild 3 s args RX4 meth none) (th : Nat) : ∀ (x1 : Int32) (μ : zM) (H : Heap) (locs : List Loc) (ls : Array Slot), pX4_readBuild_27 th Q x1 μ → zB Γ (tSh th) (zA μ0) μ0 s μ H locs → lv_has ls 3 [(0, .ref th), (1, .int x1)] → W p l e ({ frames := 7, cells := 0, slots := 0, locals := 152 } : Room) s m args below meth c H locs 0 0 (MQ below (va_Qv Q (zPost Γ (tSh th) μ0) (zA μ0)) args s 0 0 (zA μ0)) (F0 m 27 ls []) := by
  have S := X.1
  obtain ⟨hx, hb, hml, hown, hts⟩ := X.1
  intro x1 μ H locs ls hp hB hl
  unfold pX4_readBuild_27 at hp
  refine lv_aload_n hx hb dX4_readBuild_27 rfl (lv_at hl 0 rfl) ?_
  refine lv_iconst (v := (nI 0)) hx hb dX4_readBuild_28 rfl ?_
  refine lv_sipush (v := (nI 999)) hx hb dX4_readBuild_29 rfl ?_
  refine z_calli (va_runV (As := [.int (nI 0), .int (nI 999)]) (rest := []) S (mX4_takes l Γ th (nI 0) (nI 999) μ _ hp) (cwV 2 hts (lw_V q1553 q1555 qs65 q132 q1556) rfl rfl rfl hX4_takes ⟨Nat.le_of_ble_eq_true rfl, Nat.le_of_ble_eq_true rfl⟩) (hB.preV (tT hB) rfl rfl) rfl rfl hl.1 rfl (lv_room (Nat.le_of_ble_eq_true rfl)) dX4_readBuild_32 ⟨Nat.le_refl _, Nat.le_refl _⟩) hB (fun r2 μ1 H locs hp hB => ?_)
  refine lv_istore_n (lv' := [(2, .int r2), (0, .ref th), (1, .int x1)]) hx hb dX4_readBuild_35 rfl hl (by decide) rfl (fun ls hl => ?_)
  refine lv_aload_n hx hb dX4_readBuild_36 rfl (lv_at hl 1 rfl) ?_
  refine g_get S hB (tT hB) rfl (T := TX4) (N := 38) (C := RX4) rfl in_X4 11 (by decide) (by decide) q1403 (fun _ h9 => h9) (v := .int (zI μ1 th 11)) rfl dX4_readBuild_37 ?_
  refine lv_if_eq (tgt := 44) hx hb dX4_readBuild_40 rfl (fun c0 => ?_) (fun c0 => ?_)
  · have hp := zit hp c0
    refine lv_aload_n hx hb dX4_readBuild_44 rfl (lv_at hl 1 rfl) ?_
    refine g_getr S hB (tT hB) rfl (T := TX4) (N := 38) (C := RX4) rfl in_X4 4 (by decide) (by decide) q1396 (fun _ h9 => h9) (fun _ => rfl) (tA hB 3 rfl).1 dX4_readBuild_45 ?_
    refine lv_iconst (v := (nI 2)) hx hb dX4_readBuild_48 rfl ?_
    refine lv_iload_n hx hb dX4_readBuild_49 rfl (lv_at hl 2 rfl) ?_
    obtain ⟨hi, hp⟩ := hp
    obtain ⟨μ3, eμ3, hp⟩ := zpI_e hp
    refine g_iast S hB (tA hB 3 rfl).2 hi dX4_readBuild_50 (fun H locs hB => ?_)
    rw [← eμ3] at hB
    refine lv_aload_n hx hb dX4_readBuild_51 rfl (lv_at hl 1 rfl) ?_
    refine g_getr S hB (tT hB) rfl (T := TX4) (N := 38) (C := RX4) rfl in_X4 4 (by decide) (by decide) q1396 (fun _ h9 => h9) (fun _ => rfl) (tA hB 3 rfl).1 dX4_readBuild_52 ?_
    refine lv_iconst (v := (nI 3)) hx hb dX4_readBuild_55 rfl ?_
    refine lv_iload_n hx hb dX4_readBuild_56 rfl (lv_at hl 0 rfl) ?_
    obtain ⟨hi, hp⟩ := hp
    obtain ⟨μ4, eμ4, hp⟩ := zpI_e hp
    refine g_iast S hB (tA hB 3 rfl).2 hi dX4_readBuild_57 (fun H locs hB => ?_)
    rw [← eμ4] at hB
    exact zret_v X hB hp dX4_readBuild_58
  · have hp := zif hp c0
    exact zret_v X hB hp dX4_readBuild_43
def pX4_readBuild (th : Nat) (μ : zM) (Q : zM → Prop) : Prop := (pX4_next th μ fun μ1 => (pX4_takes th (nI 0) (nI 999) μ1 fun r3 μ2 => (pX4_eats th (nI 10) μ2 fun r5 μ4 => (if r5 = 0 then (pX4_fails th (nI 2) μ4 fun μ6 => pX4_readBuild_27 th Q r3 μ6) else pX4_readBuild_27 th Q r3 μ4))))
theorem hX4_readBuild : yX4_readBuild.cls = "SunkTowerModel" ∧ yX4_readBuild.cls ≠ "java/lang/invoke/MethodHandle" ∧ yX4_readBuild.cls ≠ "java/lang/invoke/VarHandle" ∧ (parseMethodDescriptor yX4_readBuild.desc).map (fun d => d.parameters.length) = some 0 := by decide +kernel
set_option maxHeartbeats 4000000 in
set_option maxRecDepth 100000 in
theorem mX4_readBuild (l : Launch) (Γ : zG) (th : Nat) (μ : zM) (Q : zM → Prop) (hp : pX4_readBuild th μ Q) : Met l yX4_readBuild (ws_ yX4_readBuild cX4_readBuild 3 none) ({ frames := 7, cells := 0, slots := 0, locals := 152 } : Room) (va_Pc [.ref th] (zPre Γ (tSh th) μ)) (va_Qv Q (zPost Γ (tSh th) μ) (zA μ)) 0 0 (zA μ) := by
  refine zstart (by decide) (Nat.le_of_ble_eq_true rfl) ?_
  intro p e s m below meth c ls X hnm hB hl
  have X : zCx p m c cX4_readBuild 3 s [.ref th].toArray RX4 meth none := X
  have S := X.1
  obtain ⟨hx, hb, hml, hown, hts⟩ := X.1
  have hl : lv_has ls 3 [(0, .ref th)] := hl
  unfold pX4_readBuild at hp
  refine lv_aload_n hx hb dX4_readBuild_0 rfl (lv_at hl 0 rfl) ?_
  refine z_callv (va_runV (As := []) (rest := []) S (mX4_next l Γ th μ _ hp) (cwV 0 hts (lw_V q1519 q1521 qs59 q132 q1522) rfl rfl rfl hX4_next ⟨Nat.le_of_ble_eq_true rfl, Nat.le_of_ble_eq_true rfl⟩) (hB.preV (tT hB) rfl rfl) rfl rfl hl.1 rfl (lv_room (Nat.le_of_ble_eq_true rfl)) dX4_readBuild_1 ⟨Nat.le_refl _, Nat.le_refl _⟩) hB (fun μ1 H locs hp hB => ?_)
  refine lv_aload_n hx hb dX4_readBuild_4 rfl (lv_at hl 0 rfl) ?_
  refine lv_iconst (v := (nI 0)) hx hb dX4_readBuild_5 rfl ?_
  refine lv_sipush (v := (nI 999)) hx hb dX4_readBuild_6 rfl ?_
  refine z_calli (va_runV (As := [.int (nI 0), .int (nI 999)]) (rest := []) S (mX4_takes l Γ th (nI 0) (nI 999) μ1 _ hp) (cwV 2 hts (lw_V q1553 q1555 qs65 q132 q1556) rfl rfl rfl hX4_takes ⟨Nat.le_of_ble_eq_true rfl, Nat.le_of_ble_eq_true rfl⟩) (hB.preV (tT hB) rfl rfl) rfl rfl hl.1 rfl (lv_room (Nat.le_of_ble_eq_true rfl)) dX4_readBuild_9 ⟨Nat.le_refl _, Nat.le_refl _⟩) hB (fun r3 μ2 H locs hp hB => ?_)
  refine lv_istore_n (lv' := [(1, .int r3), (0, .ref th)]) hx hb dX4_readBuild_12 rfl hl (by decide) rfl (fun ls hl => ?_)
  refine lv_aload_n hx hb dX4_readBuild_13 rfl (lv_at hl 1 rfl) ?_
  refine lv_bipush (v := (nI 10)) hx hb dX4_readBuild_14 rfl ?_
  refine z_calli (va_runV (As := [.int (nI 10)]) (rest := []) S (mX4_eats l Γ th (nI 10) μ2 _ hp) (cwV 1 hts (lw_V q1565 q1567 qs68 q132 q1568) rfl rfl rfl hX4_eats ⟨Nat.le_of_ble_eq_true rfl, Nat.le_of_ble_eq_true rfl⟩) (hB.preV (tT hB) rfl rfl) rfl rfl hl.1 rfl (lv_room (Nat.le_of_ble_eq_true rfl)) dX4_readBuild_16 ⟨Nat.le_refl _, Nat.le_refl _⟩) hB (fun r5 μ4 H locs hp hB => ?_)
  refine lv_if_ne (tgt := 27) hx hb dX4_readBuild_19 rfl (fun c0 => ?_) (fun c0 => ?_)
  · have hp := zif hp c0
    exact wX4_readBuild_27 X th r3 μ4 _ _ _ hp hB (lv_sub hl [1, 0] rfl)
  · have hp := zit hp c0
    refine lv_aload_n hx hb dX4_readBuild_22 rfl (lv_at hl 1 rfl) ?_
    refine lv_iconst (v := (nI 2)) hx hb dX4_readBuild_23 rfl ?_
    refine z_callv (va_runV (As := [.int (nI 2)]) (rest := []) S (mX4_fails l Γ th (nI 2) μ4 _ hp) (cwV 1 hts (lw_V q1549 q1551 qs64 q132 q1552) rfl rfl rfl hX4_fails ⟨Nat.le_of_ble_eq_true rfl, Nat.le_of_ble_eq_true rfl⟩) (hB.preV (tT hB) rfl rfl) rfl rfl hl.1 rfl (lv_room (Nat.le_of_ble_eq_true rfl)) dX4_readBuild_24 ⟨Nat.le_refl _, Nat.le_refl _⟩) hB (fun μ6 H locs hp hB => ?_)
    exact wX4_readBuild_27 X th r3 μ6 _ _ _ hp hB (lv_sub hl [1, 0] rfl)
def pX4_storey (th : Nat) (x1 : Int32) (x2 : Int32) (μ : zM) (Q : Int32 → zM → Prop) : Prop := (zpI μ th 0 (nI 0) fun μ1 => (pX4_isStorey th (x1.toInt64) μ1 fun r3 μ2 => (if r3 = 0 then Q (-2 : Int32) μ2 else (pX4_within th (x2.toInt64) (0 : Int64) (2 : Int64) μ2 fun r5 μ4 => (if r5 = 0 then Q (-2 : Int32) μ4 else (if x2 = 0 then (vp_in ((nI 21) + x1) 3594 ∧ Q (zI μ4 (th + 1) ((nI 21) + x1).toNatClampNeg) μ4) else (if x2 = (nI 1) then (pX4_livesOn th x1 μ4 fun r9 μ8 => Q r9 μ8) else (vp_in (nI 41) 3594 ∧ (pX4_isBuried th x1 (zI μ4 (th + 1) (nI 41).toNatClampNeg) μ4 fun r7 μ6 => (if r7 = 0 then Q (nI 0) μ6 else Q (nI 1) μ6))))))))))
theorem hX4_storey : yX4_storey.cls = "SunkTowerModel" ∧ yX4_storey.cls ≠ "java/lang/invoke/MethodHandle" ∧ yX4_storey.cls ≠ "java/lang/invoke/VarHandle" ∧ (parseMethodDescriptor yX4_storey.desc).map (fun d => d.parameters.length) = some 2 := by decide +kernel
set_option maxHeartbeats 4000000 in
set_option maxRecDepth 100000 in
theorem mX4_storey (l : Launch) (Γ : zG) (th : Nat) (x1 : Int32) (x2 : Int32) (μ : zM) (Q : Int32 → zM → Prop) (hp : pX4_storey th x1 x2 μ Q) : Met l yX4_storey (ws_ yX4_storey cX4_storey 3 (some .int)) ({ frames := 2, cells := 0, slots := 0, locals := 47 } : Room) (va_Pc [.ref th, .int x1, .int x2] (zPre Γ (tSh th) μ)) (va_Qi Q (zPost Γ (tSh th) μ) (zA μ)) 0 0 (zA μ) := by
  refine zstart (by decide) (Nat.le_of_ble_eq_true rfl) ?_
  intro p e s m below meth c ls X hnm hB hl
  have X : zCx p m c cX4_storey 3 s [.ref th, .int x1, .int x2].toArray RX4 meth (some .int) := X
  have S := X.1
  obtain ⟨hx, hb, hml, hown, hts⟩ := X.1
  have hl : lv_has ls 3 [(0, .ref th), (1, .int x1), (2, .int x2)] := hl
  unfold pX4_storey at hp
  refine lv_aload_n hx hb dX4_storey_0 rfl (lv_at hl 0 rfl) ?_
  refine lv_iconst (v := (nI 0)) hx hb dX4_storey_1 rfl ?_
  obtain ⟨μ1, eμ1, hp⟩ := zpI_e hp
  refine g_putI S hB (tT hB) rfl (T := TX4) (N := 38) (C := RX4) rfl in_X4 0 (by decide) (by decide) (x := (nI 0)) tyX4 tyX4_ok nmX4 q1392 (fun _ h9 => h9) rfl (ty := .int) (by decide +kernel) rfl rfl (fun _ _ => rfl) dX4_storey_2 (fun H locs hB => ?_)
  rw [← eμ1] at hB
  refine lv_aload_n hx hb dX4_storey_5 rfl (lv_at hl 0 rfl) ?_
  refine lv_iload_n hx hb dX4_storey_6 rfl (lv_at hl 1 rfl) ?_
  refine lv_i2l hx hb dX4_storey_7 rfl ?_
  refine z_calli (va_runV (As := [.long (x1.toInt64)]) (rest := []) S (mX4_isStorey l Γ th (x1.toInt64) μ1 _ hp) (cwV 1 hts (lw_V q1617 q1619 qs79 q132 q1620) rfl rfl rfl hX4_isStorey ⟨Nat.le_of_ble_eq_true rfl, Nat.le_of_ble_eq_true rfl⟩) (hB.preV (tT hB) rfl rfl) rfl rfl hl.1 rfl (lv_room (Nat.le_of_ble_eq_true rfl)) dX4_storey_8 ⟨Nat.le_refl _, Nat.le_refl _⟩) hB (fun r3 μ2 H locs hp hB => ?_)
  refine lv_if_eq (tgt := 26) hx hb dX4_storey_11 rfl (fun c0 => ?_) (fun c0 => ?_)
  · have hp := zit hp c0
    refine lv_bipush (v := (-2 : Int32)) hx hb dX4_storey_26 rfl ?_
    exact zret_i X hB hp dX4_storey_28
  · have hp := zif hp c0
    refine lv_iload_n hx hb dX4_storey_14 rfl (lv_at hl 2 rfl) ?_
    refine lv_i2l hx hb dX4_storey_15 rfl ?_
    refine lv_lconst (v := (0 : Int64)) hx hb dX4_storey_16 rfl ?_
    refine lv_ldc2 (v := (2 : Int64)) hx hb hown (hts _ q1621) dX4_storey_17 ?_
    refine z_calli (va_runS (As := [.long (x2.toInt64), .long (0 : Int64), .long (2 : Int64)]) (rest := []) S (mX4_within l Γ th (x2.toInt64) (0 : Int64) (2 : Int64) μ2 _ hp) (va_cwS 3 hts (lw_S q1516 q1517 q132 q1518) rfl rfl rfl hX4_within ⟨Nat.le_of_ble_eq_true rfl, Nat.le_of_ble_eq_true rfl⟩) hB.preS rfl rfl hl.1 rfl (lv_room (Nat.le_of_ble_eq_true rfl)) dX4_storey_20 ⟨Nat.le_refl _, Nat.le_refl _⟩) hB (fun r5 μ4 H locs hp hB => ?_)
    refine lv_if_ne (tgt := 29) hx hb dX4_storey_23 rfl (fun c0 => ?_) (fun c0 => ?_)
    · have hp := zif hp c0
      refine lv_iload_n hx hb dX4_storey_29 rfl (lv_at hl 2 rfl) ?_
      refine lv_if_ne (tgt := 45) hx hb dX4_storey_30 rfl (fun c0 => ?_) (fun c0 => ?_)
      · have hp := zif hp c0
        refine lv_iload_n hx hb dX4_storey_45 rfl (lv_at hl 2 rfl) ?_
        refine lv_iconst (v := (nI 1)) hx hb dX4_storey_46 rfl ?_
        refine lv_icmp_ne (tgt := 58) hx hb dX4_storey_47 rfl (fun c0 => ?_) (fun c0 => ?_)
        · have hp := zif hp c0
          refine lv_iload_n hx hb dX4_storey_58 rfl (lv_at hl 1 rfl) ?_
          refine lv_aload_n hx hb dX4_storey_59 rfl (lv_at hl 0 rfl) ?_
          refine g_getr S hB (tT hB) rfl (T := TX4) (N := 38) (C := RX4) rfl in_X4 1 (by decide) (by decide) q1393 (fun _ h9 => h9) (fun _ => rfl) (tA hB 0 rfl).1 dX4_storey_60 ?_
          refine lv_bipush (v := (nI 41)) hx hb dX4_storey_63 rfl ?_
          obtain ⟨hi, hp⟩ := hp
          refine g_iald S hB (tA hB 0 rfl).2 hi dX4_storey_65 ?_
          refine z_calli (va_runS (As := [.int x1, .int (zI μ4 (th + 1) (nI 41).toNatClampNeg)]) (rest := []) S (mX4_isBuried l Γ th x1 (zI μ4 (th + 1) (nI 41).toNatClampNeg) μ4 _ hp) (va_cwS 2 hts (lw_S q1626 q1627 q132 q1628) rfl rfl rfl hX4_isBuried ⟨Nat.le_of_ble_eq_true rfl, Nat.le_of_ble_eq_true rfl⟩) hB.preS rfl rfl hl.1 rfl (lv_room (Nat.le_of_ble_eq_true rfl)) dX4_storey_66 ⟨Nat.le_refl _, Nat.le_refl _⟩) hB (fun r7 μ6 H locs hp hB => ?_)
          refine lv_if_eq (tgt := 76) hx hb dX4_storey_69 rfl (fun c0 => ?_) (fun c0 => ?_)
          · have hp := zit hp c0
            refine lv_iconst (v := (nI 0)) hx hb dX4_storey_76 rfl ?_
            exact zret_i X hB hp dX4_storey_77
          · have hp := zif hp c0
            refine lv_iconst (v := (nI 1)) hx hb dX4_storey_72 rfl ?_
            refine lv_goto (tgt := 77) hx hb dX4_storey_73 rfl ?_
            exact zret_i X hB hp dX4_storey_77
        · have hp := zit hp c0
          refine lv_aload_n hx hb dX4_storey_50 rfl (lv_at hl 0 rfl) ?_
          refine lv_iload_n hx hb dX4_storey_51 rfl (lv_at hl 1 rfl) ?_
          refine z_calli (va_runV (As := [.int x1]) (rest := []) S (mX4_livesOn l Γ th x1 μ4 _ hp) (cwV 1 hts (lw_V q1622 q1624 qs80 q132 q1625) rfl rfl rfl hX4_livesOn ⟨Nat.le_of_ble_eq_true rfl, Nat.le_of_ble_eq_true rfl⟩) (hB.preV (tT hB) rfl rfl) rfl rfl hl.1 rfl (lv_room (Nat.le_of_ble_eq_true rfl)) dX4_storey_52 ⟨Nat.le_refl _, Nat.le_refl _⟩) hB (fun r9 μ8 H locs hp hB => ?_)
          refine lv_goto (tgt := 77) hx hb dX4_storey_55 rfl ?_
          exact zret_i X hB hp dX4_storey_77
      · have hp := zit hp c0
        refine lv_aload_n hx hb dX4_storey_33 rfl (lv_at hl 0 rfl) ?_
        refine g_getr S hB (tT hB) rfl (T := TX4) (N := 38) (C := RX4) rfl in_X4 1 (by decide) (by decide) q1393 (fun _ h9 => h9) (fun _ => rfl) (tA hB 0 rfl).1 dX4_storey_34 ?_
        refine lv_bipush (v := (nI 21)) hx hb dX4_storey_37 rfl ?_
        refine lv_iload_n hx hb dX4_storey_39 rfl (lv_at hl 1 rfl) ?_
        refine lv_iadd hx hb dX4_storey_40 ?_
        obtain ⟨hi, hp⟩ := hp
        refine g_iald S hB (tA hB 0 rfl).2 hi dX4_storey_41 ?_
        refine lv_goto (tgt := 77) hx hb dX4_storey_42 rfl ?_
        exact zret_i X hB hp dX4_storey_77
    · have hp := zit hp c0
      refine lv_bipush (v := (-2 : Int32)) hx hb dX4_storey_26 rfl ?_
      exact zret_i X hB hp dX4_storey_28
def pX4_tenant (th : Nat) (x1 : Int32) (x2 : Int32) (μ : zM) (Q : Int32 → zM → Prop) : Prop := (zpI μ th 0 (nI 0) fun μ1 => (pX4_isTenant th (x1.toInt64) μ1 fun r3 μ2 => (if r3 = 0 then Q (-8 : Int32) μ2 else (if x2 = 0 then (vp_in ((nI 29) + x1) 3594 ∧ Q (zI μ2 (th + 1) ((nI 29) + x1).toNatClampNeg) μ2) else (if x2 = (nI 1) then (vp_in ((nI 14) + x1) 3594 ∧ Q (zI μ2 (th + 1) ((nI 14) + x1).toNatClampNeg) μ2) else (if x2 = (nI 2) then (vp_in ((nI 35) + x1) 3594 ∧ Q (zI μ2 (th + 1) ((nI 35) + x1).toNatClampNeg) μ2) else Q (-8 : Int32) μ2))))))
theorem hX4_tenant : yX4_tenant.cls = "SunkTowerModel" ∧ yX4_tenant.cls ≠ "java/lang/invoke/MethodHandle" ∧ yX4_tenant.cls ≠ "java/lang/invoke/VarHandle" ∧ (parseMethodDescriptor yX4_tenant.desc).map (fun d => d.parameters.length) = some 2 := by decide +kernel
set_option maxHeartbeats 4000000 in
set_option maxRecDepth 100000 in
theorem mX4_tenant (l : Launch) (Γ : zG) (th : Nat) (x1 : Int32) (x2 : Int32) (μ : zM) (Q : Int32 → zM → Prop) (hp : pX4_tenant th x1 x2 μ Q) : Met l yX4_tenant (ws_ yX4_tenant cX4_tenant 3 (some .int)) ({ frames := 2, cells := 0, slots := 0, locals := 47 } : Room) (va_Pc [.ref th, .int x1, .int x2] (zPre Γ (tSh th) μ)) (va_Qi Q (zPost Γ (tSh th) μ) (zA μ)) 0 0 (zA μ) := by
  refine zstart (by decide) (Nat.le_of_ble_eq_true rfl) ?_
  intro p e s m below meth c ls X hnm hB hl
  have X : zCx p m c cX4_tenant 3 s [.ref th, .int x1, .int x2].toArray RX4 meth (some .int) := X
  have S := X.1
  obtain ⟨hx, hb, hml, hown, hts⟩ := X.1
  have hl : lv_has ls 3 [(0, .ref th), (1, .int x1), (2, .int x2)] := hl
  unfold pX4_tenant at hp
  refine lv_aload_n hx hb dX4_tenant_0 rfl (lv_at hl 0 rfl) ?_
  refine lv_iconst (v := (nI 0)) hx hb dX4_tenant_1 rfl ?_
  obtain ⟨μ1, eμ1, hp⟩ := zpI_e hp
  refine g_putI S hB (tT hB) rfl (T := TX4) (N := 38) (C := RX4) rfl in_X4 0 (by decide) (by decide) (x := (nI 0)) tyX4 tyX4_ok nmX4 q1392 (fun _ h9 => h9) rfl (ty := .int) (by decide +kernel) rfl rfl (fun _ _ => rfl) dX4_tenant_2 (fun H locs hB => ?_)
  rw [← eμ1] at hB
  refine lv_aload_n hx hb dX4_tenant_5 rfl (lv_at hl 0 rfl) ?_
  refine lv_iload_n hx hb dX4_tenant_6 rfl (lv_at hl 1 rfl) ?_
  refine lv_i2l hx hb dX4_tenant_7 rfl ?_
  refine z_calli (va_runV (As := [.long (x1.toInt64)]) (rest := []) S (mX4_isTenant l Γ th (x1.toInt64) μ1 _ hp) (cwV 1 hts (lw_V q1633 q1635 qs81 q132 q1636) rfl rfl rfl hX4_isTenant ⟨Nat.le_of_ble_eq_true rfl, Nat.le_of_ble_eq_true rfl⟩) (hB.preV (tT hB) rfl rfl) rfl rfl hl.1 rfl (lv_room (Nat.le_of_ble_eq_true rfl)) dX4_tenant_8 ⟨Nat.le_refl _, Nat.le_refl _⟩) hB (fun r3 μ2 H locs hp hB => ?_)
  refine lv_if_ne (tgt := 17) hx hb dX4_tenant_11 rfl (fun c0 => ?_) (fun c0 => ?_)
  · have hp := zif hp c0
    refine lv_iload_n hx hb dX4_tenant_17 rfl (lv_at hl 2 rfl) ?_
    refine lv_if_ne (tgt := 33) hx hb dX4_tenant_18 rfl (fun c0 => ?_) (fun c0 => ?_)
    · have hp := zif hp c0
      refine lv_iload_n hx hb dX4_tenant_33 rfl (lv_at hl 2 rfl) ?_
      refine lv_iconst (v := (nI 1)) hx hb dX4_tenant_34 rfl ?_
      refine lv_icmp_ne (tgt := 50) hx hb dX4_tenant_35 rfl (fun c0 => ?_) (fun c0 => ?_)
      · have hp := zif hp c0
        refine lv_iload_n hx hb dX4_tenant_50 rfl (lv_at hl 2 rfl) ?_
        refine lv_iconst (v := (nI 2)) hx hb dX4_tenant_51 rfl ?_
        refine lv_icmp_ne (tgt := 67) hx hb dX4_tenant_52 rfl (fun c0 => ?_) (fun c0 => ?_)
        · have hp := zif hp c0
          refine lv_bipush (v := (-8 : Int32)) hx hb dX4_tenant_67 rfl ?_
          exact zret_i X hB hp dX4_tenant_69
        · have hp := zit hp c0
          refine lv_aload_n hx hb dX4_tenant_55 rfl (lv_at hl 0 rfl) ?_
          refine g_getr S hB (tT hB) rfl (T := TX4) (N := 38) (C := RX4) rfl in_X4 1 (by decide) (by decide) q1393 (fun _ h9 => h9) (fun _ => rfl) (tA hB 0 rfl).1 dX4_tenant_56 ?_
          refine lv_bipush (v := (nI 35)) hx hb dX4_tenant_59 rfl ?_
          refine lv_iload_n hx hb dX4_tenant_61 rfl (lv_at hl 1 rfl) ?_
          refine lv_iadd hx hb dX4_tenant_62 ?_
          obtain ⟨hi, hp⟩ := hp
          refine g_iald S hB (tA hB 0 rfl).2 hi dX4_tenant_63 ?_
          refine lv_goto (tgt := 69) hx hb dX4_tenant_64 rfl ?_
          exact zret_i X hB hp dX4_tenant_69
      · have hp := zit hp c0
        refine lv_aload_n hx hb dX4_tenant_38 rfl (lv_at hl 0 rfl) ?_
        refine g_getr S hB (tT hB) rfl (T := TX4) (N := 38) (C := RX4) rfl in_X4 1 (by decide) (by decide) q1393 (fun _ h9 => h9) (fun _ => rfl) (tA hB 0 rfl).1 dX4_tenant_39 ?_
        refine lv_bipush (v := (nI 14)) hx hb dX4_tenant_42 rfl ?_
        refine lv_iload_n hx hb dX4_tenant_44 rfl (lv_at hl 1 rfl) ?_
        refine lv_iadd hx hb dX4_tenant_45 ?_
        obtain ⟨hi, hp⟩ := hp
        refine g_iald S hB (tA hB 0 rfl).2 hi dX4_tenant_46 ?_
        refine lv_goto (tgt := 69) hx hb dX4_tenant_47 rfl ?_
        exact zret_i X hB hp dX4_tenant_69
    · have hp := zit hp c0
      refine lv_aload_n hx hb dX4_tenant_21 rfl (lv_at hl 0 rfl) ?_
      refine g_getr S hB (tT hB) rfl (T := TX4) (N := 38) (C := RX4) rfl in_X4 1 (by decide) (by decide) q1393 (fun _ h9 => h9) (fun _ => rfl) (tA hB 0 rfl).1 dX4_tenant_22 ?_
      refine lv_bipush (v := (nI 29)) hx hb dX4_tenant_25 rfl ?_
      refine lv_iload_n hx hb dX4_tenant_27 rfl (lv_at hl 1 rfl) ?_
      refine lv_iadd hx hb dX4_tenant_28 ?_
      obtain ⟨hi, hp⟩ := hp
      refine g_iald S hB (tA hB 0 rfl).2 hi dX4_tenant_29 ?_
      refine lv_goto (tgt := 69) hx hb dX4_tenant_30 rfl ?_
      exact zret_i X hB hp dX4_tenant_69
  · have hp := zit hp c0
    refine lv_bipush (v := (-8 : Int32)) hx hb dX4_tenant_14 rfl ?_
    exact zret_i X hB hp dX4_tenant_16
def pX4_weight (th : Nat) (μ : zM) (Q : Int32 → zM → Prop) : Prop := (zpI μ th 0 (nI 0) fun μ1 => (pX4_weightOf th (-1 : Int32) μ1 fun r3 μ2 => Q r3 μ2))
theorem hX4_weight : yX4_weight.cls = "SunkTowerModel" ∧ yX4_weight.cls ≠ "java/lang/invoke/MethodHandle" ∧ yX4_weight.cls ≠ "java/lang/invoke/VarHandle" ∧ (parseMethodDescriptor yX4_weight.desc).map (fun d => d.parameters.length) = some 0 := by decide +kernel
set_option maxHeartbeats 4000000 in
set_option maxRecDepth 100000 in
theorem mX4_weight (l : Launch) (Γ : zG) (th : Nat) (μ : zM) (Q : Int32 → zM → Prop) (hp : pX4_weight th μ Q) : Met l yX4_weight (ws_ yX4_weight cX4_weight 1 (some .int)) ({ frames := 1, cells := 0, slots := 0, locals := 23 } : Room) (va_Pc [.ref th] (zPre Γ (tSh th) μ)) (va_Qi Q (zPost Γ (tSh th) μ) (zA μ)) 0 0 (zA μ) := by
  refine zstart (by decide) (Nat.le_of_ble_eq_true rfl) ?_
  intro p e s m below meth c ls X hnm hB hl
  have X : zCx p m c cX4_weight 1 s [.ref th].toArray RX4 meth (some .int) := X
  have S := X.1
  obtain ⟨hx, hb, hml, hown, hts⟩ := X.1
  have hl : lv_has ls 1 [(0, .ref th)] := hl
  unfold pX4_weight at hp
  refine lv_aload_n hx hb dX4_weight_0 rfl (lv_at hl 0 rfl) ?_
  refine lv_iconst (v := (nI 0)) hx hb dX4_weight_1 rfl ?_
  obtain ⟨μ1, eμ1, hp⟩ := zpI_e hp
  refine g_putI S hB (tT hB) rfl (T := TX4) (N := 38) (C := RX4) rfl in_X4 0 (by decide) (by decide) (x := (nI 0)) tyX4 tyX4_ok nmX4 q1392 (fun _ h9 => h9) rfl (ty := .int) (by decide +kernel) rfl rfl (fun _ _ => rfl) dX4_weight_2 (fun H locs hB => ?_)
  rw [← eμ1] at hB
  refine lv_aload_n hx hb dX4_weight_5 rfl (lv_at hl 0 rfl) ?_
  refine lv_iconst (v := (-1 : Int32)) hx hb dX4_weight_6 rfl ?_
  refine z_calli (va_runV (As := [.int (-1 : Int32)]) (rest := []) S (mX4_weightOf l Γ th (-1 : Int32) μ1 _ hp) (cwV 1 hts (lw_V q1641 q1643 qs82 q132 q1644) rfl rfl rfl hX4_weightOf ⟨Nat.le_of_ble_eq_true rfl, Nat.le_of_ble_eq_true rfl⟩) (hB.preV (tT hB) rfl rfl) rfl rfl hl.1 rfl (lv_room (Nat.le_of_ble_eq_true rfl)) dX4_weight_7 ⟨Nat.le_refl _, Nat.le_refl _⟩) hB (fun r3 μ2 H locs hp hB => ?_)
  exact zret_i X hB hp dX4_weight_10
def pX4_reckons_76 (th : Nat) (x1 : Int32) (K4 : Int32 → Int32 → zM → Prop) (Q : Int32 → zM → Prop) (x2 : Int32) (x3 : Int32) (y3 : Int32) (y2 : Int32) (μ : zM) : Prop := (vp_in y2 900 ∧ zpI μ (th + 5) y2.toNatClampNeg y3 fun μ1 => K4 (x2 + (nI 1)) (x3 + (nI 1)) μ1)
set_option maxHeartbeats 4000000 in
set_option maxRecDepth 100000 in
theorem wX4_reckons_76 {p : Program} {l : Launch} {e : Env} {s : State} {m : MethodId} {args : Array Value} {below : List Frame} {meth : Method} {c : Code} {Γ : zG} {μ0 : zM} {Q : Int32 → zM → Prop} {K4 : Int32 → Int32 → zM → Prop} (X : zCx p m c cX4_reckons 5 s args RX4 meth (some .int)) (th : Nat) (x1 : Int32) (hK4 : ∀ (x2 : Int32) (x3 : Int32) (μ : zM) (H : Heap) (locs : List Loc) (ls : Array Slot), K4 x2 x3 μ → zB Γ (tSh th) (zA μ0) μ0 s μ H locs → lv_has ls 5 [(0, .ref th), (1, .int x1), (2, .int x2), (3, .int x3)] → W p l e ({ frames := 1, cells := 0, slots := 0, locals := 24 } : Room) s m args below meth c H locs 0 0 (MQ below (va_Qi Q (zPost Γ (tSh th) μ0) (zA μ0)) args s 0 0 (zA μ0)) (F0 m 4 ls [])) : ∀ (x2 : Int32) (x3 : Int32) (y3 : Int32) (y2 : Int32) (μ : zM) (H : Heap) (locs : List Loc) (ls : Array Slot), pX4_reckons_76 th x1 K4 Q x2 x3 y3 y2 μ → zB Γ (tSh th) (zA μ0) μ0 s μ H locs → lv_has ls 5 [(0, .ref th), (1, .int x1), (2, .int x2), (3, .int x3)] → W p l e ({ frames := 1, cells := 0, slots := 0, locals := 24 } : Room) s m args below meth c H locs 0 0 (MQ below (va_Qi Q (zPost Γ (tSh th) μ0) (zA μ0)) args s 0 0 (zA μ0)) (F0 m 76 ls [.int y3, .int y2, .ref (th + 5)]) := by
  have S := X.1
  obtain ⟨hx, hb, hml, hown, hts⟩ := X.1
  intro x2 x3 y3 y2 μ H locs ls hp hB hl
  unfold pX4_reckons_76 at hp
  obtain ⟨hi, hp⟩ := hp
  obtain ⟨μ1, eμ1, hp⟩ := zpI_e hp
  refine g_iast S hB (tA hB 4 rfl).2 hi dX4_reckons_76 (fun H locs hB => ?_)
  rw [← eμ1] at hB
  refine lv_iinc (v := (x2 + (nI 1))) (lv' := [(2, .int (x2 + (nI 1))), (0, .ref th), (1, .int x1), (3, .int x3)]) hx hb dX4_reckons_77 hl (k := 2) rfl rfl (by decide) rfl (fun ls hl => ?_)
  refine lv_goto (tgt := 113) hx hb dX4_reckons_80 rfl ?_
  refine lv_iinc (v := (x3 + (nI 1))) (lv' := [(3, .int (x3 + (nI 1))), (2, .int (x2 + (nI 1))), (0, .ref th), (1, .int x1)]) hx hb dX4_reckons_113 hl (k := 3) rfl rfl (by decide) rfl (fun ls hl => ?_)
  refine lv_goto (tgt := 4) hx hb dX4_reckons_116 rfl ?_
  exact hK4 (x2 + (nI 1)) (x3 + (nI 1)) μ1 _ _ _ hp hB (lv_sub hl [2, 3, 1, 0] rfl)
def pX4_reckons_4 (th : Nat) (x1 : Int32) (Q : Int32 → zM → Prop) : Nat → Int32 → Int32 → zM → Prop
  | 0, _, _, _ => False
  | n + 1, x2, x3, μ => (vp_in ((nI 11) + x1) 3594 ∧ (if (zI μ (th + 1) ((nI 11) + x1).toNatClampNeg) ≤ x3 then (vp_in (nI 0) 900 ∧ Q (zI μ (th + 5) (nI 0).toNatClampNeg) μ) else (vp_in ((nI 8) + x1) 3594 ∧ (vp_in (((nI 298) + (zI μ (th + 1) ((nI 8) + x1).toNatClampNeg)) + x3) 3594 ∧ znm (zI μ (th + 1) (((nI 298) + (zI μ (th + 1) ((nI 8) + x1).toNatClampNeg)) + x3).toNatClampNeg) fun v1 => (if (nI 3000) ≤ v1 then (vp_in ((x2 - (nI 1)) - (nI 1)) 900 ∧ (vp_in (x2 - (nI 1)) 900 ∧ (pX4_between th v1 (zI μ (th + 5) ((x2 - (nI 1)) - (nI 1)).toNatClampNeg) (zI μ (th + 5) (x2 - (nI 1)).toNatClampNeg) μ fun r3 μ2 => (vp_in ((x2 - (nI 1)) - (nI 1)) 900 ∧ zpI μ2 (th + 5) ((x2 - (nI 1)) - (nI 1)).toNatClampNeg r3 fun μ4 => pX4_reckons_4 th x1 Q n (x2 - (nI 1)) (x3 + (nI 1)) μ4)))) else (if (nI 1000) ≤ v1 then (vp_in (v1 - (nI 1000)) 10 ∧ pX4_reckons_76 th x1 (fun v0 v1 ν => pX4_reckons_4 th x1 Q n v0 v1 ν) Q x2 x3 (zI μ (th + 6) (v1 - (nI 1000)).toNatClampNeg) x2 μ) else pX4_reckons_76 th x1 (fun v0 v1 ν => pX4_reckons_4 th x1 Q n v0 v1 ν) Q x2 x3 v1 x2 μ))))))
set_option maxHeartbeats 4000000 in
set_option maxRecDepth 100000 in
theorem wX4_reckons_4 {p : Program} {l : Launch} {e : Env} {s : State} {m : MethodId} {args : Array Value} {below : List Frame} {meth : Method} {c : Code} {Γ : zG} {μ0 : zM} {Q : Int32 → zM → Prop} (X : zCx p m c cX4_reckons 5 s args RX4 meth (some .int)) (th : Nat) (x1 : Int32) : ∀ (n : Nat) (x2 : Int32) (x3 : Int32) (μ : zM) (H : Heap) (locs : List Loc) (ls : Array Slot), pX4_reckons_4 th x1 Q n x2 x3 μ → zB Γ (tSh th) (zA μ0) μ0 s μ H locs → lv_has ls 5 [(0, .ref th), (1, .int x1), (2, .int x2), (3, .int x3)] → W p l e ({ frames := 1, cells := 0, slots := 0, locals := 24 } : Room) s m args below meth c H locs 0 0 (MQ below (va_Qi Q (zPost Γ (tSh th) μ0) (zA μ0)) args s 0 0 (zA μ0)) (F0 m 4 ls []) := by
  have S := X.1
  obtain ⟨hx, hb, hml, hown, hts⟩ := X.1
  intro n
  induction n with
  | zero =>
    intro x2 x3 μ H locs ls hp
    exact hp.elim
  | succ n ih =>
    intro x2 x3 μ H locs ls hp hB hl
    unfold pX4_reckons_4 at hp
    refine lv_iload_n hx hb dX4_reckons_4 rfl (lv_at hl 3 rfl) ?_
    refine lv_aload_n hx hb dX4_reckons_5 rfl (lv_at hl 0 rfl) ?_
    refine g_getr S hB (tT hB) rfl (T := TX4) (N := 38) (C := RX4) rfl in_X4 1 (by decide) (by decide) q1393 (fun _ h9 => h9) (fun _ => rfl) (tA hB 0 rfl).1 dX4_reckons_6 ?_
    refine lv_bipush (v := (nI 11)) hx hb dX4_reckons_9 rfl ?_
    refine lv_iload_n hx hb dX4_reckons_11 rfl (lv_at hl 1 rfl) ?_
    refine lv_iadd hx hb dX4_reckons_12 ?_
    obtain ⟨hi, hp⟩ := hp
    refine g_iald S hB (tA hB 0 rfl).2 hi dX4_reckons_13 ?_
    refine lv_icmp_ge (tgt := 119) hx hb dX4_reckons_14 rfl (fun c0 => ?_) (fun c0 => ?_)
    · have hp := zit hp c0
      refine lv_aload_n hx hb dX4_reckons_119 rfl (lv_at hl 0 rfl) ?_
      refine g_getr S hB (tT hB) rfl (T := TX4) (N := 38) (C := RX4) rfl in_X4 16 (by decide) (by decide) q1408 (fun _ h9 => h9) (fun _ => rfl) (tA hB 4 rfl).1 dX4_reckons_120 ?_
      refine lv_iconst (v := (nI 0)) hx hb dX4_reckons_123 rfl ?_
      obtain ⟨hi, hp⟩ := hp
      refine g_iald S hB (tA hB 4 rfl).2 hi dX4_reckons_124 ?_
      exact zret_i X hB hp dX4_reckons_125
    · have hp := zif hp c0
      refine lv_aload_n hx hb dX4_reckons_17 rfl (lv_at hl 0 rfl) ?_
      refine g_getr S hB (tT hB) rfl (T := TX4) (N := 38) (C := RX4) rfl in_X4 1 (by decide) (by decide) q1393 (fun _ h9 => h9) (fun _ => rfl) (tA hB 0 rfl).1 dX4_reckons_18 ?_
      refine lv_sipush (v := (nI 298)) hx hb dX4_reckons_21 rfl ?_
      refine lv_aload_n hx hb dX4_reckons_24 rfl (lv_at hl 0 rfl) ?_
      refine g_getr S hB (tT hB) rfl (T := TX4) (N := 38) (C := RX4) rfl in_X4 1 (by decide) (by decide) q1393 (fun _ h9 => h9) (fun _ => rfl) (tA hB 0 rfl).1 dX4_reckons_25 ?_
      refine lv_bipush (v := (nI 8)) hx hb dX4_reckons_28 rfl ?_
      refine lv_iload_n hx hb dX4_reckons_30 rfl (lv_at hl 1 rfl) ?_
      refine lv_iadd hx hb dX4_reckons_31 ?_
      obtain ⟨hi, hp⟩ := hp
      refine g_iald S hB (tA hB 0 rfl).2 hi dX4_reckons_32 ?_
      refine lv_iadd hx hb dX4_reckons_33 ?_
      refine lv_iload_n hx hb dX4_reckons_34 rfl (lv_at hl 3 rfl) ?_
      refine lv_iadd hx hb dX4_reckons_35 ?_
      obtain ⟨hi, hp⟩ := hp
      refine g_iald S hB (tA hB 0 rfl).2 hi dX4_reckons_36 ?_
      obtain ⟨v1, ev1, hp⟩ := znm_e hp
      rw [← ev1]
      refine lv_istore (lv' := [(4, .int v1), (0, .ref th), (1, .int x1), (2, .int x2), (3, .int x3)]) hx hb dX4_reckons_37 hl (by decide) rfl (fun ls hl => ?_)
      refine lv_iload hx hb dX4_reckons_39 (lv_at hl 0 rfl) ?_
      refine lv_sipush (v := (nI 3000)) hx hb dX4_reckons_41 rfl ?_
      refine lv_icmp_ge (tgt := 83) hx hb dX4_reckons_44 rfl (fun c0 => ?_) (fun c0 => ?_)
      · have hp := zit hp c0
        refine lv_iinc (v := (x2 - (nI 1))) (lv' := [(2, .int (x2 - (nI 1))), (4, .int v1), (0, .ref th), (1, .int x1), (3, .int x3)]) hx hb dX4_reckons_83 hl (k := 3) rfl (by rw [Int32.sub_eq_add_neg]; rfl) (by decide) rfl (fun ls hl => ?_)
        refine lv_aload_n hx hb dX4_reckons_86 rfl (lv_at hl 2 rfl) ?_
        refine g_getr S hB (tT hB) rfl (T := TX4) (N := 38) (C := RX4) rfl in_X4 16 (by decide) (by decide) q1408 (fun _ h9 => h9) (fun _ => rfl) (tA hB 4 rfl).1 dX4_reckons_87 ?_
        refine lv_iload_n hx hb dX4_reckons_90 rfl (lv_at hl 0 rfl) ?_
        refine lv_iconst (v := (nI 1)) hx hb dX4_reckons_91 rfl ?_
        refine lv_isub hx hb dX4_reckons_92 ?_
        refine lv_iload hx hb dX4_reckons_93 (lv_at hl 1 rfl) ?_
        refine lv_aload_n hx hb dX4_reckons_95 rfl (lv_at hl 2 rfl) ?_
        refine g_getr S hB (tT hB) rfl (T := TX4) (N := 38) (C := RX4) rfl in_X4 16 (by decide) (by decide) q1408 (fun _ h9 => h9) (fun _ => rfl) (tA hB 4 rfl).1 dX4_reckons_96 ?_
        refine lv_iload_n hx hb dX4_reckons_99 rfl (lv_at hl 0 rfl) ?_
        refine lv_iconst (v := (nI 1)) hx hb dX4_reckons_100 rfl ?_
        refine lv_isub hx hb dX4_reckons_101 ?_
        obtain ⟨hi, hp⟩ := hp
        refine g_iald S hB (tA hB 4 rfl).2 hi dX4_reckons_102 ?_
        refine lv_aload_n hx hb dX4_reckons_103 rfl (lv_at hl 2 rfl) ?_
        refine g_getr S hB (tT hB) rfl (T := TX4) (N := 38) (C := RX4) rfl in_X4 16 (by decide) (by decide) q1408 (fun _ h9 => h9) (fun _ => rfl) (tA hB 4 rfl).1 dX4_reckons_104 ?_
        refine lv_iload_n hx hb dX4_reckons_107 rfl (lv_at hl 0 rfl) ?_
        obtain ⟨hi, hp⟩ := hp
        refine g_iald S hB (tA hB 4 rfl).2 hi dX4_reckons_108 ?_
        refine z_calli (va_runS (As := [.int v1, .int (zI μ (th + 5) ((x2 - (nI 1)) - (nI 1)).toNatClampNeg), .int (zI μ (th + 5) (x2 - (nI 1)).toNatClampNeg)]) (rest := [.int ((x2 - (nI 1)) - (nI 1)), .ref (th + 5)]) S (mX4_between l Γ th v1 (zI μ (th + 5) ((x2 - (nI 1)) - (nI 1)).toNatClampNeg) (zI μ (th + 5) (x2 - (nI 1)).toNatClampNeg) μ _ hp) (va_cwS 3 hts (lw_S q1657 q1658 q132 q1659) rfl rfl rfl hX4_between ⟨Nat.le_of_ble_eq_true rfl, Nat.le_of_ble_eq_true rfl⟩) hB.preS rfl rfl hl.1 rfl (lv_room (Nat.le_of_ble_eq_true rfl)) dX4_reckons_109 ⟨Nat.le_refl _, Nat.le_refl _⟩) hB (fun r3 μ2 H locs hp hB => ?_)
        obtain ⟨hi, hp⟩ := hp
        obtain ⟨μ4, eμ4, hp⟩ := zpI_e hp
        refine g_iast S hB (tA hB 4 rfl).2 hi dX4_reckons_112 (fun H locs hB => ?_)
        rw [← eμ4] at hB
        refine lv_iinc (v := (x3 + (nI 1))) (lv' := [(3, .int (x3 + (nI 1))), (2, .int (x2 - (nI 1))), (4, .int v1), (0, .ref th), (1, .int x1)]) hx hb dX4_reckons_113 hl (k := 4) rfl rfl (by decide) rfl (fun ls hl => ?_)
        refine lv_goto (tgt := 4) hx hb dX4_reckons_116 rfl ?_
        exact ih (x2 - (nI 1)) (x3 + (nI 1)) μ4 _ _ _ hp hB (lv_sub hl [3, 4, 1, 0] rfl)
      · have hp := zif hp c0
        refine lv_aload_n hx hb dX4_reckons_47 rfl (lv_at hl 1 rfl) ?_
        refine g_getr S hB (tT hB) rfl (T := TX4) (N := 38) (C := RX4) rfl in_X4 16 (by decide) (by decide) q1408 (fun _ h9 => h9) (fun _ => rfl) (tA hB 4 rfl).1 dX4_reckons_48 ?_
        refine lv_iload_n hx hb dX4_reckons_51 rfl (lv_at hl 3 rfl) ?_
        refine lv_iload hx hb dX4_reckons_52 (lv_at hl 0 rfl) ?_
        refine lv_sipush (v := (nI 1000)) hx hb dX4_reckons_54 rfl ?_
        refine lv_icmp_ge (tgt := 65) hx hb dX4_reckons_57 rfl (fun c0 => ?_) (fun c0 => ?_)
        · have hp := zit hp c0
          refine lv_aload_n hx hb dX4_reckons_65 rfl (lv_at hl 1 rfl) ?_
          refine g_getr S hB (tT hB) rfl (T := TX4) (N := 38) (C := RX4) rfl in_X4 17 (by decide) (by decide) q1409 (fun _ h9 => h9) (fun _ => rfl) (tA hB 5 rfl).1 dX4_reckons_66 ?_
          refine lv_iload hx hb dX4_reckons_69 (lv_at hl 0 rfl) ?_
          refine lv_sipush (v := (nI 1000)) hx hb dX4_reckons_71 rfl ?_
          refine lv_isub hx hb dX4_reckons_74 ?_
          obtain ⟨hi, hp⟩ := hp
          refine g_iald S hB (tA hB 5 rfl).2 hi dX4_reckons_75 ?_
          exact wX4_reckons_76 X th x1 (fun v0 v1 ν H2 L2 ls2 h2 b2 l2 => ih v0 v1 ν H2 L2 ls2 h2 b2 l2) x2 x3 (zI μ (th + 6) (v1 - (nI 1000)).toNatClampNeg) x2 μ _ _ _ hp hB (lv_sub hl [1, 2, 3, 4] rfl)
        · have hp := zif hp c0
          refine lv_iload hx hb dX4_reckons_60 (lv_at hl 0 rfl) ?_
          refine lv_goto (tgt := 76) hx hb dX4_reckons_62 rfl ?_
          exact wX4_reckons_76 X th x1 (fun v0 v1 ν H2 L2 ls2 h2 b2 l2 => ih v0 v1 ν H2 L2 ls2 h2 b2 l2) x2 x3 v1 x2 μ _ _ _ hp hB (lv_sub hl [1, 2, 3, 4] rfl)
def pX4_reckons (th : Nat) (x1 : Int32) (μ : zM) (Q : Int32 → zM → Prop) : Prop := ∃ k1, pX4_reckons_4 th x1 Q k1 (nI 0) (nI 0) μ
theorem hX4_reckons : yX4_reckons.cls = "SunkTowerModel" ∧ yX4_reckons.cls ≠ "java/lang/invoke/MethodHandle" ∧ yX4_reckons.cls ≠ "java/lang/invoke/VarHandle" ∧ (parseMethodDescriptor yX4_reckons.desc).map (fun d => d.parameters.length) = some 1 := by decide +kernel
set_option maxHeartbeats 4000000 in
set_option maxRecDepth 100000 in
theorem mX4_reckons (l : Launch) (Γ : zG) (th : Nat) (x1 : Int32) (μ : zM) (Q : Int32 → zM → Prop) (hp : pX4_reckons th x1 μ Q) : Met l yX4_reckons (ws_ yX4_reckons cX4_reckons 5 (some .int)) ({ frames := 1, cells := 0, slots := 0, locals := 24 } : Room) (va_Pc [.ref th, .int x1] (zPre Γ (tSh th) μ)) (va_Qi Q (zPost Γ (tSh th) μ) (zA μ)) 0 0 (zA μ) := by
  refine zstart (by decide) (Nat.le_of_ble_eq_true rfl) ?_
  intro p e s m below meth c ls X hnm hB hl
  have X : zCx p m c cX4_reckons 5 s [.ref th, .int x1].toArray RX4 meth (some .int) := X
  have S := X.1
  obtain ⟨hx, hb, hml, hown, hts⟩ := X.1
  have hl : lv_has ls 5 [(0, .ref th), (1, .int x1)] := hl
  unfold pX4_reckons at hp
  refine lv_iconst (v := (nI 0)) hx hb dX4_reckons_0 rfl ?_
  refine lv_istore_n (lv' := [(2, .int (nI 0)), (0, .ref th), (1, .int x1)]) hx hb dX4_reckons_1 rfl hl (by decide) rfl (fun ls hl => ?_)
  refine lv_iconst (v := (nI 0)) hx hb dX4_reckons_2 rfl ?_
  refine lv_istore_n (lv' := [(3, .int (nI 0)), (2, .int (nI 0)), (0, .ref th), (1, .int x1)]) hx hb dX4_reckons_3 rfl hl (by decide) rfl (fun ls hl => ?_)
  obtain ⟨n1, hp⟩ := hp
  exact wX4_reckons_4 X th x1 n1 (nI 0) (nI 0) μ _ _ _ hp hB (lv_sub hl [2, 3, 1, 0] rfl)
def pX4_paysOf (th : Nat) (x1 : Int32) (x2 : Int32) (x3 : Int32) (μ : zM) (Q : Int32 → zM → Prop) : Prop := (vp_in (nI 6) 3594 ∧ (if (zI μ (th + 1) (nI 6).toNatClampNeg) = 0 then Q (nI 0) μ else (vp_in (nI 0) 10 ∧ zpI μ (th + 6) (nI 0).toNatClampNeg (x3 - x3 / (nI 12) * (nI 12)) fun μ1 => (pX4_heightOf th x1 x2 μ1 fun r3 μ2 => (vp_in (nI 5) 10 ∧ zpI μ2 (th + 6) (nI 5).toNatClampNeg r3 fun μ4 => (vp_in (nI 6) 10 ∧ zpI μ4 (th + 6) (nI 6).toNatClampNeg x1 fun μ5 => (pX4_reckons th (nI 1) μ5 fun r7 μ6 => Q r7 μ6)))))))
theorem hX4_paysOf : yX4_paysOf.cls = "SunkTowerModel" ∧ yX4_paysOf.cls ≠ "java/lang/invoke/MethodHandle" ∧ yX4_paysOf.cls ≠ "java/lang/invoke/VarHandle" ∧ (parseMethodDescriptor yX4_paysOf.desc).map (fun d => d.parameters.length) = some 3 := by decide +kernel
set_option maxHeartbeats 4000000 in
set_option maxRecDepth 100000 in
theorem mX4_paysOf (l : Launch) (Γ : zG) (th : Nat) (x1 : Int32) (x2 : Int32) (x3 : Int32) (μ : zM) (Q : Int32 → zM → Prop) (hp : pX4_paysOf th x1 x2 x3 μ Q) : Met l yX4_paysOf (ws_ yX4_paysOf cX4_paysOf 4 (some .int)) ({ frames := 2, cells := 0, slots := 0, locals := 48 } : Room) (va_Pc [.ref th, .int x1, .int x2, .int x3] (zPre Γ (tSh th) μ)) (va_Qi Q (zPost Γ (tSh th) μ) (zA μ)) 0 0 (zA μ) := by
  refine zstart (by decide) (Nat.le_of_ble_eq_true rfl) ?_
  intro p e s m below meth c ls X hnm hB hl
  have X : zCx p m c cX4_paysOf 4 s [.ref th, .int x1, .int x2, .int x3].toArray RX4 meth (some .int) := X
  have S := X.1
  obtain ⟨hx, hb, hml, hown, hts⟩ := X.1
  have hl : lv_has ls 4 [(0, .ref th), (1, .int x1), (2, .int x2), (3, .int x3)] := hl
  unfold pX4_paysOf at hp
  refine lv_aload_n hx hb dX4_paysOf_0 rfl (lv_at hl 0 rfl) ?_
  refine g_getr S hB (tT hB) rfl (T := TX4) (N := 38) (C := RX4) rfl in_X4 1 (by decide) (by decide) q1393 (fun _ h9 => h9) (fun _ => rfl) (tA hB 0 rfl).1 dX4_paysOf_1 ?_
  refine lv_bipush (v := (nI 6)) hx hb dX4_paysOf_4 rfl ?_
  obtain ⟨hi, hp⟩ := hp
  refine g_iald S hB (tA hB 0 rfl).2 hi dX4_paysOf_6 ?_
  refine lv_if_ne (tgt := 12) hx hb dX4_paysOf_7 rfl (fun c0 => ?_) (fun c0 => ?_)
  · have hp := zif hp c0
    refine lv_aload_n hx hb dX4_paysOf_12 rfl (lv_at hl 0 rfl) ?_
    refine g_getr S hB (tT hB) rfl (T := TX4) (N := 38) (C := RX4) rfl in_X4 17 (by decide) (by decide) q1409 (fun _ h9 => h9) (fun _ => rfl) (tA hB 5 rfl).1 dX4_paysOf_13 ?_
    refine lv_iconst (v := (nI 0)) hx hb dX4_paysOf_16 rfl ?_
    refine lv_iload_n hx hb dX4_paysOf_17 rfl (lv_at hl 3 rfl) ?_
    refine lv_bipush (v := (nI 12)) hx hb dX4_paysOf_18 rfl ?_
    refine lv_irem hx hb dX4_paysOf_20 (by decide) ?_
    obtain ⟨hi, hp⟩ := hp
    obtain ⟨μ1, eμ1, hp⟩ := zpI_e hp
    refine g_iast S hB (tA hB 5 rfl).2 hi dX4_paysOf_21 (fun H locs hB => ?_)
    rw [← eμ1] at hB
    refine lv_aload_n hx hb dX4_paysOf_22 rfl (lv_at hl 0 rfl) ?_
    refine g_getr S hB (tT hB) rfl (T := TX4) (N := 38) (C := RX4) rfl in_X4 17 (by decide) (by decide) q1409 (fun _ h9 => h9) (fun _ => rfl) (tA hB 5 rfl).1 dX4_paysOf_23 ?_
    refine lv_iconst (v := (nI 5)) hx hb dX4_paysOf_26 rfl ?_
    refine lv_iload_n hx hb dX4_paysOf_27 rfl (lv_at hl 1 rfl) ?_
    refine lv_iload_n hx hb dX4_paysOf_28 rfl (lv_at hl 2 rfl) ?_
    refine z_calli (va_runS (As := [.int x1, .int x2]) (rest := [.int (nI 5), .ref (th + 6)]) S (mX4_heightOf l Γ th x1 x2 μ1 _ hp) (va_cwS 2 hts (lw_S q1670 q1671 q132 q1672) rfl rfl rfl hX4_heightOf ⟨Nat.le_of_ble_eq_true rfl, Nat.le_of_ble_eq_true rfl⟩) hB.preS rfl rfl hl.1 rfl (lv_room (Nat.le_of_ble_eq_true rfl)) dX4_paysOf_29 ⟨Nat.le_refl _, Nat.le_refl _⟩) hB (fun r3 μ2 H locs hp hB => ?_)
    obtain ⟨hi, hp⟩ := hp
    obtain ⟨μ4, eμ4, hp⟩ := zpI_e hp
    refine g_iast S hB (tA hB 5 rfl).2 hi dX4_paysOf_32 (fun H locs hB => ?_)
    rw [← eμ4] at hB
    refine lv_aload_n hx hb dX4_paysOf_33 rfl (lv_at hl 0 rfl) ?_
    refine g_getr S hB (tT hB) rfl (T := TX4) (N := 38) (C := RX4) rfl in_X4 17 (by decide) (by decide) q1409 (fun _ h9 => h9) (fun _ => rfl) (tA hB 5 rfl).1 dX4_paysOf_34 ?_
    refine lv_bipush (v := (nI 6)) hx hb dX4_paysOf_37 rfl ?_
    refine lv_iload_n hx hb dX4_paysOf_39 rfl (lv_at hl 1 rfl) ?_
    obtain ⟨hi, hp⟩ := hp
    obtain ⟨μ5, eμ5, hp⟩ := zpI_e hp
    refine g_iast S hB (tA hB 5 rfl).2 hi dX4_paysOf_40 (fun H locs hB => ?_)
    rw [← eμ5] at hB
    refine lv_aload_n hx hb dX4_paysOf_41 rfl (lv_at hl 0 rfl) ?_
    refine lv_iconst (v := (nI 1)) hx hb dX4_paysOf_42 rfl ?_
    refine z_calli (va_runV (As := [.int (nI 1)]) (rest := []) S (mX4_reckons l Γ th (nI 1) μ5 _ hp) (cwV 1 hts (lw_V q1653 q1655 qs84 q132 q1656) rfl rfl rfl hX4_reckons ⟨Nat.le_of_ble_eq_true rfl, Nat.le_of_ble_eq_true rfl⟩) (hB.preV (tT hB) rfl rfl) rfl rfl hl.1 rfl (lv_room (Nat.le_of_ble_eq_true rfl)) dX4_paysOf_43 ⟨Nat.le_refl _, Nat.le_refl _⟩) hB (fun r7 μ6 H locs hp hB => ?_)
    exact zret_i X hB hp dX4_paysOf_46
  · have hp := zit hp c0
    refine lv_iconst (v := (nI 0)) hx hb dX4_paysOf_10 rfl ?_
    exact zret_i X hB hp dX4_paysOf_11
def pX4_worthOf_98 (th : Nat) (Q : Int32 → zM → Prop) (y3 : Int32) (y2 : Int32) (μ : zM) : Prop := (vp_in y2 10 ∧ zpI μ (th + 6) y2.toNatClampNeg y3 fun μ1 => (pX4_reckons th (nI 2) μ1 fun r3 μ2 => Q r3 μ2))
set_option maxHeartbeats 4000000 in
set_option maxRecDepth 100000 in
theorem wX4_worthOf_98 {p : Program} {l : Launch} {e : Env} {s : State} {m : MethodId} {args : Array Value} {below : List Frame} {meth : Method} {c : Code} {Γ : zG} {μ0 : zM} {Q : Int32 → zM → Prop} (X : zCx p m c cX4_worthOf 5 s args RX4 meth (some .int)) (th : Nat) : ∀ (y3 : Int32) (y2 : Int32) (μ : zM) (H : Heap) (locs : List Loc) (ls : Array Slot), pX4_worthOf_98 th Q y3 y2 μ → zB Γ (tSh th) (zA μ0) μ0 s μ H locs → lv_has ls 5 [(0, .ref th)] → W p l e ({ frames := 2, cells := 0, slots := 0, locals := 48 } : Room) s m args below meth c H locs 0 0 (MQ below (va_Qi Q (zPost Γ (tSh th) μ0) (zA μ0)) args s 0 0 (zA μ0)) (F0 m 98 ls [.int y3, .int y2, .ref (th + 6)]) := by
  have S := X.1
  obtain ⟨hx, hb, hml, hown, hts⟩ := X.1
  intro y3 y2 μ H locs ls hp hB hl
  unfold pX4_worthOf_98 at hp
  obtain ⟨hi, hp⟩ := hp
  obtain ⟨μ1, eμ1, hp⟩ := zpI_e hp
  refine g_iast S hB (tA hB 5 rfl).2 hi dX4_worthOf_98 (fun H locs hB => ?_)
  rw [← eμ1] at hB
  refine lv_aload_n hx hb dX4_worthOf_99 rfl (lv_at hl 0 rfl) ?_
  refine lv_iconst (v := (nI 2)) hx hb dX4_worthOf_100 rfl ?_
  refine z_calli (va_runV (As := [.int (nI 2)]) (rest := []) S (mX4_reckons l Γ th (nI 2) μ1 _ hp) (cwV 1 hts (lw_V q1653 q1655 qs84 q132 q1656) rfl rfl rfl hX4_reckons ⟨Nat.le_of_ble_eq_true rfl, Nat.le_of_ble_eq_true rfl⟩) (hB.preV (tT hB) rfl rfl) rfl rfl hl.1 rfl (lv_room (Nat.le_of_ble_eq_true rfl)) dX4_worthOf_101 ⟨Nat.le_refl _, Nat.le_refl _⟩) hB (fun r3 μ2 H locs hp hB => ?_)
  exact zret_i X hB hp dX4_worthOf_104
def pX4_worthOf (th : Nat) (x1 : Int32) (x2 : Int32) (x3 : Int32) (x4 : Int32) (μ : zM) (Q : Int32 → zM → Prop) : Prop := (vp_in (nI 7) 3594 ∧ (if (zI μ (th + 1) (nI 7).toNatClampNeg) = 0 then Q (nI 0) μ else (vp_in (nI 0) 10 ∧ zpI μ (th + 6) (nI 0).toNatClampNeg (x4 - x4 / (nI 12) * (nI 12)) fun μ1 => (pX4_heightOf th x2 x3 μ1 fun r3 μ2 => (vp_in (nI 5) 10 ∧ zpI μ2 (th + 6) (nI 5).toNatClampNeg r3 fun μ4 => (vp_in (nI 6) 10 ∧ zpI μ4 (th + 6) (nI 6).toNatClampNeg x2 fun μ5 => (vp_in ((nI 14) + x1) 3594 ∧ (vp_in (nI 7) 10 ∧ zpI μ5 (th + 6) (nI 7).toNatClampNeg (zI μ5 (th + 1) ((nI 14) + x1).toNatClampNeg) fun μ6 => (vp_in ((nI 29) + x1) 3594 ∧ (vp_in (nI 8) 10 ∧ zpI μ6 (th + 6) (nI 8).toNatClampNeg (zI μ6 (th + 1) ((nI 29) + x1).toNatClampNeg) fun μ7 => (vp_in ((nI 35) + x1) 3594 ∧ (if (zI μ7 (th + 1) ((nI 35) + x1).toNatClampNeg) = x2 then pX4_worthOf_98 th Q (nI 1) (nI 9) μ7 else pX4_worthOf_98 th Q (nI 0) (nI 9) μ7))))))))))))
theorem hX4_worthOf : yX4_worthOf.cls = "SunkTowerModel" ∧ yX4_worthOf.cls ≠ "java/lang/invoke/MethodHandle" ∧ yX4_worthOf.cls ≠ "java/lang/invoke/VarHandle" ∧ (parseMethodDescriptor yX4_worthOf.desc).map (fun d => d.parameters.length) = some 4 := by decide +kernel
set_option maxHeartbeats 4000000 in
set_option maxRecDepth 100000 in
theorem mX4_worthOf (l : Launch) (Γ : zG) (th : Nat) (x1 : Int32) (x2 : Int32) (x3 : Int32) (x4 : Int32) (μ : zM) (Q : Int32 → zM → Prop) (hp : pX4_worthOf th x1 x2 x3 x4 μ Q) : Met l yX4_worthOf (ws_ yX4_worthOf cX4_worthOf 5 (some .int)) ({ frames := 2, cells := 0, slots := 0, locals := 48 } : Room) (va_Pc [.ref th, .int x1, .int x2, .int x3, .int x4] (zPre Γ (tSh th) μ)) (va_Qi Q (zPost Γ (tSh th) μ) (zA μ)) 0 0 (zA μ) := by
  refine zstart (by decide) (Nat.le_of_ble_eq_true rfl) ?_
  intro p e s m below meth c ls X hnm hB hl
  have X : zCx p m c cX4_worthOf 5 s [.ref th, .int x1, .int x2, .int x3, .int x4].toArray RX4 meth (some .int) := X
  have S := X.1
  obtain ⟨hx, hb, hml, hown, hts⟩ := X.1
  have hl : lv_has ls 5 [(0, .ref th), (1, .int x1), (2, .int x2), (3, .int x3), (4, .int x4)] := hl
  unfold pX4_worthOf at hp
  refine lv_aload_n hx hb dX4_worthOf_0 rfl (lv_at hl 0 rfl) ?_
  refine g_getr S hB (tT hB) rfl (T := TX4) (N := 38) (C := RX4) rfl in_X4 1 (by decide) (by decide) q1393 (fun _ h9 => h9) (fun _ => rfl) (tA hB 0 rfl).1 dX4_worthOf_1 ?_
  refine lv_bipush (v := (nI 7)) hx hb dX4_worthOf_4 rfl ?_
  obtain ⟨hi, hp⟩ := hp
  refine g_iald S hB (tA hB 0 rfl).2 hi dX4_worthOf_6 ?_
  refine lv_if_ne (tgt := 12) hx hb dX4_worthOf_7 rfl (fun c0 => ?_) (fun c0 => ?_)
  · have hp := zif hp c0
    refine lv_aload_n hx hb dX4_worthOf_12 rfl (lv_at hl 0 rfl) ?_
    refine g_getr S hB (tT hB) rfl (T := TX4) (N := 38) (C := RX4) rfl in_X4 17 (by decide) (by decide) q1409 (fun _ h9 => h9) (fun _ => rfl) (tA hB 5 rfl).1 dX4_worthOf_13 ?_
    refine lv_iconst (v := (nI 0)) hx hb dX4_worthOf_16 rfl ?_
    refine lv_iload hx hb dX4_worthOf_17 (lv_at hl 4 rfl) ?_
    refine lv_bipush (v := (nI 12)) hx hb dX4_worthOf_19 rfl ?_
    refine lv_irem hx hb dX4_worthOf_21 (by decide) ?_
    obtain ⟨hi, hp⟩ := hp
    obtain ⟨μ1, eμ1, hp⟩ := zpI_e hp
    refine g_iast S hB (tA hB 5 rfl).2 hi dX4_worthOf_22 (fun H locs hB => ?_)
    rw [← eμ1] at hB
    refine lv_aload_n hx hb dX4_worthOf_23 rfl (lv_at hl 0 rfl) ?_
    refine g_getr S hB (tT hB) rfl (T := TX4) (N := 38) (C := RX4) rfl in_X4 17 (by decide) (by decide) q1409 (fun _ h9 => h9) (fun _ => rfl) (tA hB 5 rfl).1 dX4_worthOf_24 ?_
    refine lv_iconst (v := (nI 5)) hx hb dX4_worthOf_27 rfl ?_
    refine lv_iload_n hx hb dX4_worthOf_28 rfl (lv_at hl 2 rfl) ?_
    refine lv_iload_n hx hb dX4_worthOf_29 rfl (lv_at hl 3 rfl) ?_
    refine z_calli (va_runS (As := [.int x2, .int x3]) (rest := [.int (nI 5), .ref (th + 6)]) S (mX4_heightOf l Γ th x2 x3 μ1 _ hp) (va_cwS 2 hts (lw_S q1670 q1671 q132 q1672) rfl rfl rfl hX4_heightOf ⟨Nat.le_of_ble_eq_true rfl, Nat.le_of_ble_eq_true rfl⟩) hB.preS rfl rfl hl.1 rfl (lv_room (Nat.le_of_ble_eq_true rfl)) dX4_worthOf_30 ⟨Nat.le_refl _, Nat.le_refl _⟩) hB (fun r3 μ2 H locs hp hB => ?_)
    obtain ⟨hi, hp⟩ := hp
    obtain ⟨μ4, eμ4, hp⟩ := zpI_e hp
    refine g_iast S hB (tA hB 5 rfl).2 hi dX4_worthOf_33 (fun H locs hB => ?_)
    rw [← eμ4] at hB
    refine lv_aload_n hx hb dX4_worthOf_34 rfl (lv_at hl 0 rfl) ?_
    refine g_getr S hB (tT hB) rfl (T := TX4) (N := 38) (C := RX4) rfl in_X4 17 (by decide) (by decide) q1409 (fun _ h9 => h9) (fun _ => rfl) (tA hB 5 rfl).1 dX4_worthOf_35 ?_
    refine lv_bipush (v := (nI 6)) hx hb dX4_worthOf_38 rfl ?_
    refine lv_iload_n hx hb dX4_worthOf_40 rfl (lv_at hl 2 rfl) ?_
    obtain ⟨hi, hp⟩ := hp
    obtain ⟨μ5, eμ5, hp⟩ := zpI_e hp
    refine g_iast S hB (tA hB 5 rfl).2 hi dX4_worthOf_41 (fun H locs hB => ?_)
    rw [← eμ5] at hB
    refine lv_aload_n hx hb dX4_worthOf_42 rfl (lv_at hl 0 rfl) ?_
    refine g_getr S hB (tT hB) rfl (T := TX4) (N := 38) (C := RX4) rfl in_X4 17 (by decide) (by decide) q1409 (fun _ h9 => h9) (fun _ => rfl) (tA hB 5 rfl).1 dX4_worthOf_43 ?_
    refine lv_bipush (v := (nI 7)) hx hb dX4_worthOf_46 rfl ?_
    refine lv_aload_n hx hb dX4_worthOf_48 rfl (lv_at hl 0 rfl) ?_
    refine g_getr S hB (tT hB) rfl (T := TX4) (N := 38) (C := RX4) rfl in_X4 1 (by decide) (by decide) q1393 (fun _ h9 => h9) (fun _ => rfl) (tA hB 0 rfl).1 dX4_worthOf_49 ?_
    refine lv_bipush (v := (nI 14)) hx hb dX4_worthOf_52 rfl ?_
    refine lv_iload_n hx hb dX4_worthOf_54 rfl (lv_at hl 1 rfl) ?_
    refine lv_iadd hx hb dX4_worthOf_55 ?_
    obtain ⟨hi, hp⟩ := hp
    refine g_iald S hB (tA hB 0 rfl).2 hi dX4_worthOf_56 ?_
    obtain ⟨hi, hp⟩ := hp
    obtain ⟨μ6, eμ6, hp⟩ := zpI_e hp
    refine g_iast S hB (tA hB 5 rfl).2 hi dX4_worthOf_57 (fun H locs hB => ?_)
    rw [← eμ6] at hB
    refine lv_aload_n hx hb dX4_worthOf_58 rfl (lv_at hl 0 rfl) ?_
    refine g_getr S hB (tT hB) rfl (T := TX4) (N := 38) (C := RX4) rfl in_X4 17 (by decide) (by decide) q1409 (fun _ h9 => h9) (fun _ => rfl) (tA hB 5 rfl).1 dX4_worthOf_59 ?_
    refine lv_bipush (v := (nI 8)) hx hb dX4_worthOf_62 rfl ?_
    refine lv_aload_n hx hb dX4_worthOf_64 rfl (lv_at hl 0 rfl) ?_
    refine g_getr S hB (tT hB) rfl (T := TX4) (N := 38) (C := RX4) rfl in_X4 1 (by decide) (by decide) q1393 (fun _ h9 => h9) (fun _ => rfl) (tA hB 0 rfl).1 dX4_worthOf_65 ?_
    refine lv_bipush (v := (nI 29)) hx hb dX4_worthOf_68 rfl ?_
    refine lv_iload_n hx hb dX4_worthOf_70 rfl (lv_at hl 1 rfl) ?_
    refine lv_iadd hx hb dX4_worthOf_71 ?_
    obtain ⟨hi, hp⟩ := hp
    refine g_iald S hB (tA hB 0 rfl).2 hi dX4_worthOf_72 ?_
    obtain ⟨hi, hp⟩ := hp
    obtain ⟨μ7, eμ7, hp⟩ := zpI_e hp
    refine g_iast S hB (tA hB 5 rfl).2 hi dX4_worthOf_73 (fun H locs hB => ?_)
    rw [← eμ7] at hB
    refine lv_aload_n hx hb dX4_worthOf_74 rfl (lv_at hl 0 rfl) ?_
    refine g_getr S hB (tT hB) rfl (T := TX4) (N := 38) (C := RX4) rfl in_X4 17 (by decide) (by decide) q1409 (fun _ h9 => h9) (fun _ => rfl) (tA hB 5 rfl).1 dX4_worthOf_75 ?_
    refine lv_bipush (v := (nI 9)) hx hb dX4_worthOf_78 rfl ?_
    refine lv_aload_n hx hb dX4_worthOf_80 rfl (lv_at hl 0 rfl) ?_
    refine g_getr S hB (tT hB) rfl (T := TX4) (N := 38) (C := RX4) rfl in_X4 1 (by decide) (by decide) q1393 (fun _ h9 => h9) (fun _ => rfl) (tA hB 0 rfl).1 dX4_worthOf_81 ?_
    refine lv_bipush (v := (nI 35)) hx hb dX4_worthOf_84 rfl ?_
    refine lv_iload_n hx hb dX4_worthOf_86 rfl (lv_at hl 1 rfl) ?_
    refine lv_iadd hx hb dX4_worthOf_87 ?_
    obtain ⟨hi, hp⟩ := hp
    refine g_iald S hB (tA hB 0 rfl).2 hi dX4_worthOf_88 ?_
    refine lv_iload_n hx hb dX4_worthOf_89 rfl (lv_at hl 2 rfl) ?_
    refine lv_icmp_ne (tgt := 97) hx hb dX4_worthOf_90 rfl (fun c0 => ?_) (fun c0 => ?_)
    · have hp := zif hp c0
      refine lv_iconst (v := (nI 0)) hx hb dX4_worthOf_97 rfl ?_
      exact wX4_worthOf_98 X th (nI 0) (nI 9) μ7 _ _ _ hp hB (lv_sub hl [0] rfl)
    · have hp := zit hp c0
      refine lv_iconst (v := (nI 1)) hx hb dX4_worthOf_93 rfl ?_
      refine lv_goto (tgt := 98) hx hb dX4_worthOf_94 rfl ?_
      exact wX4_worthOf_98 X th (nI 1) (nI 9) μ7 _ _ _ hp hB (lv_sub hl [0] rfl)
  · have hp := zit hp c0
    refine lv_iconst (v := (nI 0)) hx hb dX4_worthOf_10 rfl ?_
    exact zret_i X hB hp dX4_worthOf_11
def pX4_builds (th : Nat) (μ : zM) (Q : Int32 → zM → Prop) : Prop := (zpI μ th 0 (nI 0) fun μ1 => (vp_in (nI 20) 3594 ∧ (if (zI μ1 (th + 1) (nI 20).toNatClampNeg) = (nI 8) then Q (-12 : Int32) μ1 else (pX4_keeps th μ1 fun μ2 => (pX4_goesUp th μ2 fun μ3 => (pX4_notes th μ3 fun μ4 => (vp_in (nI 20) 3594 ∧ Q ((zI μ4 (th + 1) (nI 20).toNatClampNeg) - (nI 1)) μ4)))))))
theorem hX4_builds : yX4_builds.cls = "SunkTowerModel" ∧ yX4_builds.cls ≠ "java/lang/invoke/MethodHandle" ∧ yX4_builds.cls ≠ "java/lang/invoke/VarHandle" ∧ (parseMethodDescriptor yX4_builds.desc).map (fun d => d.parameters.length) = some 0 := by decide +kernel
set_option maxHeartbeats 4000000 in
set_option maxRecDepth 100000 in
theorem mX4_builds (l : Launch) (Γ : zG) (th : Nat) (μ : zM) (Q : Int32 → zM → Prop) (hp : pX4_builds th μ Q) : Met l yX4_builds (ws_ yX4_builds cX4_builds 1 (some .int)) ({ frames := 1, cells := 0, slots := 0, locals := 21 } : Room) (va_Pc [.ref th] (zPre Γ (tSh th) μ)) (va_Qi Q (zPost Γ (tSh th) μ) (zA μ)) 0 0 (zA μ) := by
  refine zstart (by decide) (Nat.le_of_ble_eq_true rfl) ?_
  intro p e s m below meth c ls X hnm hB hl
  have X : zCx p m c cX4_builds 1 s [.ref th].toArray RX4 meth (some .int) := X
  have S := X.1
  obtain ⟨hx, hb, hml, hown, hts⟩ := X.1
  have hl : lv_has ls 1 [(0, .ref th)] := hl
  unfold pX4_builds at hp
  refine lv_aload_n hx hb dX4_builds_0 rfl (lv_at hl 0 rfl) ?_
  refine lv_iconst (v := (nI 0)) hx hb dX4_builds_1 rfl ?_
  obtain ⟨μ1, eμ1, hp⟩ := zpI_e hp
  refine g_putI S hB (tT hB) rfl (T := TX4) (N := 38) (C := RX4) rfl in_X4 0 (by decide) (by decide) (x := (nI 0)) tyX4 tyX4_ok nmX4 q1392 (fun _ h9 => h9) rfl (ty := .int) (by decide +kernel) rfl rfl (fun _ _ => rfl) dX4_builds_2 (fun H locs hB => ?_)
  rw [← eμ1] at hB
  refine lv_aload_n hx hb dX4_builds_5 rfl (lv_at hl 0 rfl) ?_
  refine g_getr S hB (tT hB) rfl (T := TX4) (N := 38) (C := RX4) rfl in_X4 1 (by decide) (by decide) q1393 (fun _ h9 => h9) (fun _ => rfl) (tA hB 0 rfl).1 dX4_builds_6 ?_
  refine lv_bipush (v := (nI 20)) hx hb dX4_builds_9 rfl ?_
  obtain ⟨hi, hp⟩ := hp
  refine g_iald S hB (tA hB 0 rfl).2 hi dX4_builds_11 ?_
  refine lv_bipush (v := (nI 8)) hx hb dX4_builds_12 rfl ?_
  refine lv_icmp_ne (tgt := 20) hx hb dX4_builds_14 rfl (fun c0 => ?_) (fun c0 => ?_)
  · have hp := zif hp c0
    refine lv_aload_n hx hb dX4_builds_20 rfl (lv_at hl 0 rfl) ?_
    refine z_callv (va_runV (As := []) (rest := []) S (mX4_keeps l Γ th μ1 _ hp) (cwV 0 hts (lw_V q1691 q1693 qs88 q132 q1694) rfl rfl rfl hX4_keeps ⟨Nat.le_of_ble_eq_true rfl, Nat.le_of_ble_eq_true rfl⟩) (hB.preV (tT hB) rfl rfl) rfl rfl hl.1 rfl (lv_room (Nat.le_of_ble_eq_true rfl)) dX4_builds_21 ⟨Nat.le_refl _, Nat.le_refl _⟩) hB (fun μ2 H locs hp hB => ?_)
    refine lv_aload_n hx hb dX4_builds_24 rfl (lv_at hl 0 rfl) ?_
    refine z_callv (va_runV (As := []) (rest := []) S (mX4_goesUp l Γ th μ2 _ hp) (cwV 0 hts (lw_V q1711 q1713 qs91 q132 q1714) rfl rfl rfl hX4_goesUp ⟨Nat.le_of_ble_eq_true rfl, Nat.le_of_ble_eq_true rfl⟩) (hB.preV (tT hB) rfl rfl) rfl rfl hl.1 rfl (lv_room (Nat.le_of_ble_eq_true rfl)) dX4_builds_25 ⟨Nat.le_refl _, Nat.le_refl _⟩) hB (fun μ3 H locs hp hB => ?_)
    refine lv_aload_n hx hb dX4_builds_28 rfl (lv_at hl 0 rfl) ?_
    refine z_callv (va_runV (As := []) (rest := []) S (mX4_notes l Γ th μ3 _ hp) (cwV 0 hts (lw_V q1703 q1705 qs90 q132 q1706) rfl rfl rfl hX4_notes ⟨Nat.le_of_ble_eq_true rfl, Nat.le_of_ble_eq_true rfl⟩) (hB.preV (tT hB) rfl rfl) rfl rfl hl.1 rfl (lv_room (Nat.le_of_ble_eq_true rfl)) dX4_builds_29 ⟨Nat.le_refl _, Nat.le_refl _⟩) hB (fun μ4 H locs hp hB => ?_)
    refine lv_aload_n hx hb dX4_builds_32 rfl (lv_at hl 0 rfl) ?_
    refine g_getr S hB (tT hB) rfl (T := TX4) (N := 38) (C := RX4) rfl in_X4 1 (by decide) (by decide) q1393 (fun _ h9 => h9) (fun _ => rfl) (tA hB 0 rfl).1 dX4_builds_33 ?_
    refine lv_bipush (v := (nI 20)) hx hb dX4_builds_36 rfl ?_
    obtain ⟨hi, hp⟩ := hp
    refine g_iald S hB (tA hB 0 rfl).2 hi dX4_builds_38 ?_
    refine lv_iconst (v := (nI 1)) hx hb dX4_builds_39 rfl ?_
    refine lv_isub hx hb dX4_builds_40 ?_
    exact zret_i X hB hp dX4_builds_41
  · have hp := zit hp c0
    refine lv_bipush (v := (-12 : Int32)) hx hb dX4_builds_17 rfl ?_
    exact zret_i X hB hp dX4_builds_19
def pX4_moves (th : Nat) (x1 : Int32) (x2 : Int32) (μ : zM) (Q : Int32 → zM → Prop) : Prop := (zpI μ th 0 (nI 0) fun μ1 => (pX4_whyMove th (x1.toInt64) (x2.toInt64) μ1 fun r3 μ2 => (if r3 = 0 then (pX4_keeps th μ2 fun μ4 => (vp_in ((nI 35) + x1) 3594 ∧ zpI μ4 (th + 1) ((nI 35) + x1).toNatClampNeg x2 fun μ5 => (pX4_notes th μ5 fun μ6 => (vp_in ((nI 15) + x1) 23 ∧ Q (zI μ6 (th + 7) ((nI 15) + x1).toNatClampNeg) μ6)))) else Q ((-10 : Int32) - r3) μ2)))
theorem hX4_moves : yX4_moves.cls = "SunkTowerModel" ∧ yX4_moves.cls ≠ "java/lang/invoke/MethodHandle" ∧ yX4_moves.cls ≠ "java/lang/invoke/VarHandle" ∧ (parseMethodDescriptor yX4_moves.desc).map (fun d => d.parameters.length) = some 2 := by decide +kernel
set_option maxHeartbeats 4000000 in
set_option maxRecDepth 100000 in
theorem mX4_moves (l : Launch) (Γ : zG) (th : Nat) (x1 : Int32) (x2 : Int32) (μ : zM) (Q : Int32 → zM → Prop) (hp : pX4_moves th x1 x2 μ Q) : Met l yX4_moves (ws_ yX4_moves cX4_moves 4 (some .int)) ({ frames := 3, cells := 0, slots := 0, locals := 71 } : Room) (va_Pc [.ref th, .int x1, .int x2] (zPre Γ (tSh th) μ)) (va_Qi Q (zPost Γ (tSh th) μ) (zA μ)) 0 0 (zA μ) := by
  refine zstart (by decide) (Nat.le_of_ble_eq_true rfl) ?_
  intro p e s m below meth c ls X hnm hB hl
  have X : zCx p m c cX4_moves 4 s [.ref th, .int x1, .int x2].toArray RX4 meth (some .int) := X
  have S := X.1
  obtain ⟨hx, hb, hml, hown, hts⟩ := X.1
  have hl : lv_has ls 4 [(0, .ref th), (1, .int x1), (2, .int x2)] := hl
  unfold pX4_moves at hp
  refine lv_aload_n hx hb dX4_moves_0 rfl (lv_at hl 0 rfl) ?_
  refine lv_iconst (v := (nI 0)) hx hb dX4_moves_1 rfl ?_
  obtain ⟨μ1, eμ1, hp⟩ := zpI_e hp
  refine g_putI S hB (tT hB) rfl (T := TX4) (N := 38) (C := RX4) rfl in_X4 0 (by decide) (by decide) (x := (nI 0)) tyX4 tyX4_ok nmX4 q1392 (fun _ h9 => h9) rfl (ty := .int) (by decide +kernel) rfl rfl (fun _ _ => rfl) dX4_moves_2 (fun H locs hB => ?_)
  rw [← eμ1] at hB
  refine lv_aload_n hx hb dX4_moves_5 rfl (lv_at hl 0 rfl) ?_
  refine lv_iload_n hx hb dX4_moves_6 rfl (lv_at hl 1 rfl) ?_
  refine lv_i2l hx hb dX4_moves_7 rfl ?_
  refine lv_iload_n hx hb dX4_moves_8 rfl (lv_at hl 2 rfl) ?_
  refine lv_i2l hx hb dX4_moves_9 rfl ?_
  refine z_calli (va_runV (As := [.long (x1.toInt64), .long (x2.toInt64)]) (rest := []) S (mX4_whyMove l Γ th (x1.toInt64) (x2.toInt64) μ1 _ hp) (cwV 2 hts (lw_V q1719 q1721 qs92 q132 q1722) rfl rfl rfl hX4_whyMove ⟨Nat.le_of_ble_eq_true rfl, Nat.le_of_ble_eq_true rfl⟩) (hB.preV (tT hB) rfl rfl) rfl rfl hl.1 rfl (lv_room (Nat.le_of_ble_eq_true rfl)) dX4_moves_10 ⟨Nat.le_refl _, Nat.le_refl _⟩) hB (fun r3 μ2 H locs hp hB => ?_)
  refine lv_istore_n (lv' := [(3, .int r3), (0, .ref th), (1, .int x1), (2, .int x2)]) hx hb dX4_moves_13 rfl hl (by decide) rfl (fun ls hl => ?_)
  refine lv_iload_n hx hb dX4_moves_14 rfl (lv_at hl 0 rfl) ?_
  refine lv_if_eq (tgt := 23) hx hb dX4_moves_15 rfl (fun c0 => ?_) (fun c0 => ?_)
  · have hp := zit hp c0
    refine lv_aload_n hx hb dX4_moves_23 rfl (lv_at hl 1 rfl) ?_
    refine z_callv (va_runV (As := []) (rest := []) S (mX4_keeps l Γ th μ2 _ hp) (cwV 0 hts (lw_V q1691 q1693 qs88 q132 q1694) rfl rfl rfl hX4_keeps ⟨Nat.le_of_ble_eq_true rfl, Nat.le_of_ble_eq_true rfl⟩) (hB.preV (tT hB) rfl rfl) rfl rfl hl.1 rfl (lv_room (Nat.le_of_ble_eq_true rfl)) dX4_moves_24 ⟨Nat.le_refl _, Nat.le_refl _⟩) hB (fun μ4 H locs hp hB => ?_)
    refine lv_aload_n hx hb dX4_moves_27 rfl (lv_at hl 1 rfl) ?_
    refine g_getr S hB (tT hB) rfl (T := TX4) (N := 38) (C := RX4) rfl in_X4 1 (by decide) (by decide) q1393 (fun _ h9 => h9) (fun _ => rfl) (tA hB 0 rfl).1 dX4_moves_28 ?_
    refine lv_bipush (v := (nI 35)) hx hb dX4_moves_31 rfl ?_
    refine lv_iload_n hx hb dX4_moves_33 rfl (lv_at hl 2 rfl) ?_
    refine lv_iadd hx hb dX4_moves_34 ?_
    refine lv_iload_n hx hb dX4_moves_35 rfl (lv_at hl 3 rfl) ?_
    obtain ⟨hi, hp⟩ := hp
    obtain ⟨μ5, eμ5, hp⟩ := zpI_e hp
    refine g_iast S hB (tA hB 0 rfl).2 hi dX4_moves_36 (fun H locs hB => ?_)
    rw [← eμ5] at hB
    refine lv_aload_n hx hb dX4_moves_37 rfl (lv_at hl 1 rfl) ?_
    refine z_callv (va_runV (As := []) (rest := []) S (mX4_notes l Γ th μ5 _ hp) (cwV 0 hts (lw_V q1703 q1705 qs90 q132 q1706) rfl rfl rfl hX4_notes ⟨Nat.le_of_ble_eq_true rfl, Nat.le_of_ble_eq_true rfl⟩) (hB.preV (tT hB) rfl rfl) rfl rfl hl.1 rfl (lv_room (Nat.le_of_ble_eq_true rfl)) dX4_moves_38 ⟨Nat.le_refl _, Nat.le_refl _⟩) hB (fun μ6 H locs hp hB => ?_)
    refine lv_aload_n hx hb dX4_moves_41 rfl (lv_at hl 1 rfl) ?_
    refine g_getr S hB (tT hB) rfl (T := TX4) (N := 38) (C := RX4) rfl in_X4 18 (by decide) (by decide) q1410 (fun _ h9 => h9) (fun _ => rfl) (tA hB 6 rfl).1 dX4_moves_42 ?_
    refine lv_bipush (v := (nI 15)) hx hb dX4_moves_45 rfl ?_
    refine lv_iload_n hx hb dX4_moves_47 rfl (lv_at hl 2 rfl) ?_
    refine lv_iadd hx hb dX4_moves_48 ?_
    obtain ⟨hi, hp⟩ := hp
    refine g_iald S hB (tA hB 6 rfl).2 hi dX4_moves_49 ?_
    exact zret_i X hB hp dX4_moves_50
  · have hp := zif hp c0
    refine lv_bipush (v := (-10 : Int32)) hx hb dX4_moves_18 rfl ?_
    refine lv_iload_n hx hb dX4_moves_20 rfl (lv_at hl 0 rfl) ?_
    refine lv_isub hx hb dX4_moves_21 ?_
    exact zret_i X hB hp dX4_moves_22
def pX4_leaves (th : Nat) (x1 : Int32) (μ : zM) (Q : Int32 → zM → Prop) : Prop := (zpI μ th 0 (nI 0) fun μ1 => (pX4_whyLeave th (x1.toInt64) μ1 fun r3 μ2 => (if r3 = 0 then (pX4_keeps th μ2 fun μ4 => (vp_in ((nI 35) + x1) 3594 ∧ zpI μ4 (th + 1) ((nI 35) + x1).toNatClampNeg (-1 : Int32) fun μ5 => (pX4_notes th μ5 fun μ6 => (vp_in ((nI 15) + x1) 23 ∧ Q (zI μ6 (th + 7) ((nI 15) + x1).toNatClampNeg) μ6)))) else Q ((-10 : Int32) - r3) μ2)))
theorem hX4_leaves : yX4_leaves.cls = "SunkTowerModel" ∧ yX4_leaves.cls ≠ "java/lang/invoke/MethodHandle" ∧ yX4_leaves.cls ≠ "java/lang/invoke/VarHandle" ∧ (parseMethodDescriptor yX4_leaves.desc).map (fun d => d.parameters.length) = some 1 := by decide +kernel
set_option maxHeartbeats 4000000 in
set_option maxRecDepth 100000 in
theorem mX4_leaves (l : Launch) (Γ : zG) (th : Nat) (x1 : Int32) (μ : zM) (Q : Int32 → zM → Prop) (hp : pX4_leaves th x1 μ Q) : Met l yX4_leaves (ws_ yX4_leaves cX4_leaves 3 (some .int)) ({ frames := 3, cells := 0, slots := 0, locals := 69 } : Room) (va_Pc [.ref th, .int x1] (zPre Γ (tSh th) μ)) (va_Qi Q (zPost Γ (tSh th) μ) (zA μ)) 0 0 (zA μ) := by
  refine zstart (by decide) (Nat.le_of_ble_eq_true rfl) ?_
  intro p e s m below meth c ls X hnm hB hl
  have X : zCx p m c cX4_leaves 3 s [.ref th, .int x1].toArray RX4 meth (some .int) := X
  have S := X.1
  obtain ⟨hx, hb, hml, hown, hts⟩ := X.1
  have hl : lv_has ls 3 [(0, .ref th), (1, .int x1)] := hl
  unfold pX4_leaves at hp
  refine lv_aload_n hx hb dX4_leaves_0 rfl (lv_at hl 0 rfl) ?_
  refine lv_iconst (v := (nI 0)) hx hb dX4_leaves_1 rfl ?_
  obtain ⟨μ1, eμ1, hp⟩ := zpI_e hp
  refine g_putI S hB (tT hB) rfl (T := TX4) (N := 38) (C := RX4) rfl in_X4 0 (by decide) (by decide) (x := (nI 0)) tyX4 tyX4_ok nmX4 q1392 (fun _ h9 => h9) rfl (ty := .int) (by decide +kernel) rfl rfl (fun _ _ => rfl) dX4_leaves_2 (fun H locs hB => ?_)
  rw [← eμ1] at hB
  refine lv_aload_n hx hb dX4_leaves_5 rfl (lv_at hl 0 rfl) ?_
  refine lv_iload_n hx hb dX4_leaves_6 rfl (lv_at hl 1 rfl) ?_
  refine lv_i2l hx hb dX4_leaves_7 rfl ?_
  refine z_calli (va_runV (As := [.long (x1.toInt64)]) (rest := []) S (mX4_whyLeave l Γ th (x1.toInt64) μ1 _ hp) (cwV 1 hts (lw_V q1727 q1729 qs93 q132 q1730) rfl rfl rfl hX4_whyLeave ⟨Nat.le_of_ble_eq_true rfl, Nat.le_of_ble_eq_true rfl⟩) (hB.preV (tT hB) rfl rfl) rfl rfl hl.1 rfl (lv_room (Nat.le_of_ble_eq_true rfl)) dX4_leaves_8 ⟨Nat.le_refl _, Nat.le_refl _⟩) hB (fun r3 μ2 H locs hp hB => ?_)
  refine lv_istore_n (lv' := [(2, .int r3), (0, .ref th), (1, .int x1)]) hx hb dX4_leaves_11 rfl hl (by decide) rfl (fun ls hl => ?_)
  refine lv_iload_n hx hb dX4_leaves_12 rfl (lv_at hl 0 rfl) ?_
  refine lv_if_eq (tgt := 21) hx hb dX4_leaves_13 rfl (fun c0 => ?_) (fun c0 => ?_)
  · have hp := zit hp c0
    refine lv_aload_n hx hb dX4_leaves_21 rfl (lv_at hl 1 rfl) ?_
    refine z_callv (va_runV (As := []) (rest := []) S (mX4_keeps l Γ th μ2 _ hp) (cwV 0 hts (lw_V q1691 q1693 qs88 q132 q1694) rfl rfl rfl hX4_keeps ⟨Nat.le_of_ble_eq_true rfl, Nat.le_of_ble_eq_true rfl⟩) (hB.preV (tT hB) rfl rfl) rfl rfl hl.1 rfl (lv_room (Nat.le_of_ble_eq_true rfl)) dX4_leaves_22 ⟨Nat.le_refl _, Nat.le_refl _⟩) hB (fun μ4 H locs hp hB => ?_)
    refine lv_aload_n hx hb dX4_leaves_25 rfl (lv_at hl 1 rfl) ?_
    refine g_getr S hB (tT hB) rfl (T := TX4) (N := 38) (C := RX4) rfl in_X4 1 (by decide) (by decide) q1393 (fun _ h9 => h9) (fun _ => rfl) (tA hB 0 rfl).1 dX4_leaves_26 ?_
    refine lv_bipush (v := (nI 35)) hx hb dX4_leaves_29 rfl ?_
    refine lv_iload_n hx hb dX4_leaves_31 rfl (lv_at hl 2 rfl) ?_
    refine lv_iadd hx hb dX4_leaves_32 ?_
    refine lv_iconst (v := (-1 : Int32)) hx hb dX4_leaves_33 rfl ?_
    obtain ⟨hi, hp⟩ := hp
    obtain ⟨μ5, eμ5, hp⟩ := zpI_e hp
    refine g_iast S hB (tA hB 0 rfl).2 hi dX4_leaves_34 (fun H locs hB => ?_)
    rw [← eμ5] at hB
    refine lv_aload_n hx hb dX4_leaves_35 rfl (lv_at hl 1 rfl) ?_
    refine z_callv (va_runV (As := []) (rest := []) S (mX4_notes l Γ th μ5 _ hp) (cwV 0 hts (lw_V q1703 q1705 qs90 q132 q1706) rfl rfl rfl hX4_notes ⟨Nat.le_of_ble_eq_true rfl, Nat.le_of_ble_eq_true rfl⟩) (hB.preV (tT hB) rfl rfl) rfl rfl hl.1 rfl (lv_room (Nat.le_of_ble_eq_true rfl)) dX4_leaves_36 ⟨Nat.le_refl _, Nat.le_refl _⟩) hB (fun μ6 H locs hp hB => ?_)
    refine lv_aload_n hx hb dX4_leaves_39 rfl (lv_at hl 1 rfl) ?_
    refine g_getr S hB (tT hB) rfl (T := TX4) (N := 38) (C := RX4) rfl in_X4 18 (by decide) (by decide) q1410 (fun _ h9 => h9) (fun _ => rfl) (tA hB 6 rfl).1 dX4_leaves_40 ?_
    refine lv_bipush (v := (nI 15)) hx hb dX4_leaves_43 rfl ?_
    refine lv_iload_n hx hb dX4_leaves_45 rfl (lv_at hl 2 rfl) ?_
    refine lv_iadd hx hb dX4_leaves_46 ?_
    obtain ⟨hi, hp⟩ := hp
    refine g_iald S hB (tA hB 6 rfl).2 hi dX4_leaves_47 ?_
    exact zret_i X hB hp dX4_leaves_48
  · have hp := zif hp c0
    refine lv_bipush (v := (-10 : Int32)) hx hb dX4_leaves_16 rfl ?_
    refine lv_iload_n hx hb dX4_leaves_18 rfl (lv_at hl 0 rfl) ?_
    refine lv_isub hx hb dX4_leaves_19 ?_
    exact zret_i X hB hp dX4_leaves_20
def pX4_drawn (th : Nat) (μ : zM) (Q : Int32 → zM → Prop) : Prop := (pX4_draw th (nI 6) μ fun r2 μ1 => (if (nI 2) ≤ r2 then (if r2 = (nI 3) then Q (nI 3000) μ1 else (if r2 = (nI 4) then Q (nI 2000) μ1 else (vp_in (nI 1) 3594 ∧ (pX4_draw th (zI μ1 (th + 1) (nI 1).toNatClampNeg) μ1 fun r4 μ3 => (if r2 = (nI 2) then (vp_in (nI 20) 3594 ∧ (pX4_draw th (zI μ3 (th + 1) (nI 20).toNatClampNeg) μ3 fun r8 μ7 => Q (((nI 100) * r4) + r8) μ7)) else (pX4_draw th (nI 1000) μ3 fun r6 μ5 => Q (((nI 10000) + ((nI 1000) * r4)) + r6) μ5)))))) else Q (-1 : Int32) μ1))
theorem hX4_drawn : yX4_drawn.cls = "SunkTowerModel" ∧ yX4_drawn.cls ≠ "java/lang/invoke/MethodHandle" ∧ yX4_drawn.cls ≠ "java/lang/invoke/VarHandle" ∧ (parseMethodDescriptor yX4_drawn.desc).map (fun d => d.parameters.length) = some 0 := by decide +kernel
set_option maxHeartbeats 4000000 in
set_option maxRecDepth 100000 in
theorem mX4_drawn (l : Launch) (Γ : zG) (th : Nat) (μ : zM) (Q : Int32 → zM → Prop) (hp : pX4_drawn th μ Q) : Met l yX4_drawn (ws_ yX4_drawn cX4_drawn 3 (some .int)) ({ frames := 1, cells := 0, slots := 0, locals := 21 } : Room) (va_Pc [.ref th] (zPre Γ (tSh th) μ)) (va_Qi Q (zPost Γ (tSh th) μ) (zA μ)) 0 0 (zA μ) := by
  refine zstart (by decide) (Nat.le_of_ble_eq_true rfl) ?_
  intro p e s m below meth c ls X hnm hB hl
  have X : zCx p m c cX4_drawn 3 s [.ref th].toArray RX4 meth (some .int) := X
  have S := X.1
  obtain ⟨hx, hb, hml, hown, hts⟩ := X.1
  have hl : lv_has ls 3 [(0, .ref th)] := hl
  unfold pX4_drawn at hp
  refine lv_aload_n hx hb dX4_drawn_0 rfl (lv_at hl 0 rfl) ?_
  refine lv_bipush (v := (nI 6)) hx hb dX4_drawn_1 rfl ?_
  refine z_calli (va_runV (As := [.int (nI 6)]) (rest := []) S (mX4_draw l Γ th (nI 6) μ _ hp) (cwV 1 hts (lw_V q1807 q1809 qs103 q132 q1810) rfl rfl rfl hX4_draw ⟨Nat.le_of_ble_eq_true rfl, Nat.le_of_ble_eq_true rfl⟩) (hB.preV (tT hB) rfl rfl) rfl rfl hl.1 rfl (lv_room (Nat.le_of_ble_eq_true rfl)) dX4_drawn_3 ⟨Nat.le_refl _, Nat.le_refl _⟩) hB (fun r2 μ1 H locs hp hB => ?_)
  refine lv_istore_n (lv' := [(1, .int r2), (0, .ref th)]) hx hb dX4_drawn_6 rfl hl (by decide) rfl (fun ls hl => ?_)
  refine lv_iload_n hx hb dX4_drawn_7 rfl (lv_at hl 0 rfl) ?_
  refine lv_iconst (v := (nI 2)) hx hb dX4_drawn_8 rfl ?_
  refine lv_icmp_ge (tgt := 14) hx hb dX4_drawn_9 rfl (fun c0 => ?_) (fun c0 => ?_)
  · have hp := zit hp c0
    refine lv_iload_n hx hb dX4_drawn_14 rfl (lv_at hl 0 rfl) ?_
    refine lv_iconst (v := (nI 3)) hx hb dX4_drawn_15 rfl ?_
    refine lv_icmp_ne (tgt := 23) hx hb dX4_drawn_16 rfl (fun c0 => ?_) (fun c0 => ?_)
    · have hp := zif hp c0
      refine lv_iload_n hx hb dX4_drawn_23 rfl (lv_at hl 0 rfl) ?_
      refine lv_iconst (v := (nI 4)) hx hb dX4_drawn_24 rfl ?_
      refine lv_icmp_ne (tgt := 32) hx hb dX4_drawn_25 rfl (fun c0 => ?_) (fun c0 => ?_)
      · have hp := zif hp c0
        refine lv_aload_n hx hb dX4_drawn_32 rfl (lv_at hl 1 rfl) ?_
        refine lv_aload_n hx hb dX4_drawn_33 rfl (lv_at hl 1 rfl) ?_
        refine g_getr S hB (tT hB) rfl (T := TX4) (N := 38) (C := RX4) rfl in_X4 1 (by decide) (by decide) q1393 (fun _ h9 => h9) (fun _ => rfl) (tA hB 0 rfl).1 dX4_drawn_34 ?_
        refine lv_iconst (v := (nI 1)) hx hb dX4_drawn_37 rfl ?_
        obtain ⟨hi, hp⟩ := hp
        refine g_iald S hB (tA hB 0 rfl).2 hi dX4_drawn_38 ?_
        refine z_calli (va_runV (As := [.int (zI μ1 (th + 1) (nI 1).toNatClampNeg)]) (rest := []) S (mX4_draw l Γ th (zI μ1 (th + 1) (nI 1).toNatClampNeg) μ1 _ hp) (cwV 1 hts (lw_V q1807 q1809 qs103 q132 q1810) rfl rfl rfl hX4_draw ⟨Nat.le_of_ble_eq_true rfl, Nat.le_of_ble_eq_true rfl⟩) (hB.preV (tT hB) rfl rfl) rfl rfl hl.1 rfl (lv_room (Nat.le_of_ble_eq_true rfl)) dX4_drawn_39 ⟨Nat.le_refl _, Nat.le_refl _⟩) hB (fun r4 μ3 H locs hp hB => ?_)
        refine lv_istore_n (lv' := [(2, .int r4), (1, .int r2), (0, .ref th)]) hx hb dX4_drawn_42 rfl hl (by decide) rfl (fun ls hl => ?_)
        refine lv_iload_n hx hb dX4_drawn_43 rfl (lv_at hl 1 rfl) ?_
        refine lv_iconst (v := (nI 2)) hx hb dX4_drawn_44 rfl ?_
        refine lv_icmp_ne (tgt := 67) hx hb dX4_drawn_45 rfl (fun c0 => ?_) (fun c0 => ?_)
        · have hp := zif hp c0
          refine lv_sipush (v := (nI 10000)) hx hb dX4_drawn_67 rfl ?_
          refine lv_sipush (v := (nI 1000)) hx hb dX4_drawn_70 rfl ?_
          refine lv_iload_n hx hb dX4_drawn_73 rfl (lv_at hl 0 rfl) ?_
          refine lv_imul hx hb dX4_drawn_74 ?_
          refine lv_iadd hx hb dX4_drawn_75 ?_
          refine lv_aload_n hx hb dX4_drawn_76 rfl (lv_at hl 2 rfl) ?_
          refine lv_sipush (v := (nI 1000)) hx hb dX4_drawn_77 rfl ?_
          refine z_calli (va_runV (As := [.int (nI 1000)]) (rest := [.int ((nI 10000) + ((nI 1000) * r4))]) S (mX4_draw l Γ th (nI 1000) μ3 _ hp) (cwV 1 hts (lw_V q1807 q1809 qs103 q132 q1810) rfl rfl rfl hX4_draw ⟨Nat.le_of_ble_eq_true rfl, Nat.le_of_ble_eq_true rfl⟩) (hB.preV (tT hB) rfl rfl) rfl rfl hl.1 rfl (lv_room (Nat.le_of_ble_eq_true rfl)) dX4_drawn_80 ⟨Nat.le_refl _, Nat.le_refl _⟩) hB (fun r6 μ5 H locs hp hB => ?_)
          refine lv_iadd hx hb dX4_drawn_83 ?_
          exact zret_i X hB hp dX4_drawn_84
        · have hp := zit hp c0
          refine lv_bipush (v := (nI 100)) hx hb dX4_drawn_48 rfl ?_
          refine lv_iload_n hx hb dX4_drawn_50 rfl (lv_at hl 0 rfl) ?_
          refine lv_imul hx hb dX4_drawn_51 ?_
          refine lv_aload_n hx hb dX4_drawn_52 rfl (lv_at hl 2 rfl) ?_
          refine lv_aload_n hx hb dX4_drawn_53 rfl (lv_at hl 2 rfl) ?_
          refine g_getr S hB (tT hB) rfl (T := TX4) (N := 38) (C := RX4) rfl in_X4 1 (by decide) (by decide) q1393 (fun _ h9 => h9) (fun _ => rfl) (tA hB 0 rfl).1 dX4_drawn_54 ?_
          refine lv_bipush (v := (nI 20)) hx hb dX4_drawn_57 rfl ?_
          obtain ⟨hi, hp⟩ := hp
          refine g_iald S hB (tA hB 0 rfl).2 hi dX4_drawn_59 ?_
          refine z_calli (va_runV (As := [.int (zI μ3 (th + 1) (nI 20).toNatClampNeg)]) (rest := [.int ((nI 100) * r4)]) S (mX4_draw l Γ th (zI μ3 (th + 1) (nI 20).toNatClampNeg) μ3 _ hp) (cwV 1 hts (lw_V q1807 q1809 qs103 q132 q1810) rfl rfl rfl hX4_draw ⟨Nat.le_of_ble_eq_true rfl, Nat.le_of_ble_eq_true rfl⟩) (hB.preV (tT hB) rfl rfl) rfl rfl hl.1 rfl (lv_room (Nat.le_of_ble_eq_true rfl)) dX4_drawn_60 ⟨Nat.le_refl _, Nat.le_refl _⟩) hB (fun r8 μ7 H locs hp hB => ?_)
          refine lv_iadd hx hb dX4_drawn_63 ?_
          refine lv_goto (tgt := 84) hx hb dX4_drawn_64 rfl ?_
          exact zret_i X hB hp dX4_drawn_84
      · have hp := zit hp c0
        refine lv_sipush (v := (nI 2000)) hx hb dX4_drawn_28 rfl ?_
        exact zret_i X hB hp dX4_drawn_31
    · have hp := zit hp c0
      refine lv_sipush (v := (nI 3000)) hx hb dX4_drawn_19 rfl ?_
      exact zret_i X hB hp dX4_drawn_22
  · have hp := zif hp c0
    refine lv_iconst (v := (-1 : Int32)) hx hb dX4_drawn_12 rfl ?_
    exact zret_i X hB hp dX4_drawn_13
def pX4_mayGo (th : Nat) (x1 : Int32) (x2 : Int32) (x3 : Int32) (μ : zM) (Q : Int32 → zM → Prop) : Prop := (if x2 = x3 then Q (nI 1) μ else (if x3 = (nI 8) then Q (nI 0) μ else (pX4_isMay th x1 μ fun r2 μ1 => (if r2 = 0 then Q (nI 0) μ1 else (pX4_isIn th ((zI μ1 th 25).toInt64) x3 μ1 fun r4 μ3 => (if r4 = 0 then Q (nI 0) μ3 else (vp_in x1 602 ∧ (pX4_isBuried th x3 (zI μ3 (th + 9) x1.toNatClampNeg) μ3 fun r6 μ5 => (if r6 = 0 then Q (nI 1) μ5 else Q (nI 0) μ5)))))))))
theorem hX4_mayGo : yX4_mayGo.cls = "SunkTowerModel" ∧ yX4_mayGo.cls ≠ "java/lang/invoke/MethodHandle" ∧ yX4_mayGo.cls ≠ "java/lang/invoke/VarHandle" ∧ (parseMethodDescriptor yX4_mayGo.desc).map (fun d => d.parameters.length) = some 3 := by decide +kernel
set_option maxHeartbeats 4000000 in
set_option maxRecDepth 100000 in
theorem mX4_mayGo (l : Launch) (Γ : zG) (th : Nat) (x1 : Int32) (x2 : Int32) (x3 : Int32) (μ : zM) (Q : Int32 → zM → Prop) (hp : pX4_mayGo th x1 x2 x3 μ Q) : Met l yX4_mayGo (ws_ yX4_mayGo cX4_mayGo 4 (some .boolean)) ({ frames := 1, cells := 0, slots := 0, locals := 22 } : Room) (va_Pc [.ref th, .int x1, .int x2, .int x3] (zPre Γ (tSh th) μ)) (va_Qi Q (zPost Γ (tSh th) μ) (zA μ)) 0 0 (zA μ) := by
  refine zstart (by decide) (Nat.le_of_ble_eq_true rfl) ?_
  intro p e s m below meth c ls X hnm hB hl
  have X : zCx p m c cX4_mayGo 4 s [.ref th, .int x1, .int x2, .int x3].toArray RX4 meth (some .boolean) := X
  have S := X.1
  obtain ⟨hx, hb, hml, hown, hts⟩ := X.1
  have hl : lv_has ls 4 [(0, .ref th), (1, .int x1), (2, .int x2), (3, .int x3)] := hl
  unfold pX4_mayGo at hp
  refine lv_iload_n hx hb dX4_mayGo_0 rfl (lv_at hl 2 rfl) ?_
  refine lv_iload_n hx hb dX4_mayGo_1 rfl (lv_at hl 3 rfl) ?_
  refine lv_icmp_eq (tgt := 44) hx hb dX4_mayGo_2 rfl (fun c0 => ?_) (fun c0 => ?_)
  · have hp := zit hp c0
    refine lv_iconst (v := (nI 1)) hx hb dX4_mayGo_44 rfl ?_
    refine lv_goto (tgt := 49) hx hb dX4_mayGo_45 rfl ?_
    exact zret_z X hB rfl hp dX4_mayGo_49
  · have hp := zif hp c0
    refine lv_iload_n hx hb dX4_mayGo_5 rfl (lv_at hl 3 rfl) ?_
    refine lv_bipush (v := (nI 8)) hx hb dX4_mayGo_6 rfl ?_
    refine lv_icmp_eq (tgt := 48) hx hb dX4_mayGo_8 rfl (fun c0 => ?_) (fun c0 => ?_)
    · have hp := zit hp c0
      refine lv_iconst (v := (nI 0)) hx hb dX4_mayGo_48 rfl ?_
      exact zret_z X hB rfl hp dX4_mayGo_49
    · have hp := zif hp c0
      refine lv_aload_n hx hb dX4_mayGo_11 rfl (lv_at hl 0 rfl) ?_
      refine lv_iload_n hx hb dX4_mayGo_12 rfl (lv_at hl 1 rfl) ?_
      refine z_calli (va_runV (As := [.int x1]) (rest := []) S (mX4_isMay l Γ th x1 μ _ hp) (cwV 1 hts (lw_V q1887 q1889 qs110 q132 q1890) rfl rfl rfl hX4_isMay ⟨Nat.le_of_ble_eq_true rfl, Nat.le_of_ble_eq_true rfl⟩) (hB.preV (tT hB) rfl rfl) rfl rfl hl.1 rfl (lv_room (Nat.le_of_ble_eq_true rfl)) dX4_mayGo_13 ⟨Nat.le_refl _, Nat.le_refl _⟩) hB (fun r2 μ1 H locs hp hB => ?_)
      refine lv_if_eq (tgt := 48) hx hb dX4_mayGo_16 rfl (fun c0 => ?_) (fun c0 => ?_)
      · have hp := zit hp c0
        refine lv_iconst (v := (nI 0)) hx hb dX4_mayGo_48 rfl ?_
        exact zret_z X hB rfl hp dX4_mayGo_49
      · have hp := zif hp c0
        refine lv_aload_n hx hb dX4_mayGo_19 rfl (lv_at hl 0 rfl) ?_
        refine g_get S hB (tT hB) rfl (T := TX4) (N := 38) (C := RX4) rfl in_X4 25 (by decide) (by decide) q1417 (fun _ h9 => h9) (v := .int (zI μ1 th 25)) rfl dX4_mayGo_20 ?_
        refine lv_i2l hx hb dX4_mayGo_23 rfl ?_
        refine lv_iload_n hx hb dX4_mayGo_24 rfl (lv_at hl 3 rfl) ?_
        refine z_calli (va_runS (As := [.long ((zI μ1 th 25).toInt64), .int x3]) (rest := []) S (mX4_isIn l Γ th ((zI μ1 th 25).toInt64) x3 μ1 _ hp) (va_cwS 2 hts (lw_S q1748 q1749 q132 q1750) rfl rfl rfl hX4_isIn ⟨Nat.le_of_ble_eq_true rfl, Nat.le_of_ble_eq_true rfl⟩) hB.preS rfl rfl hl.1 rfl (lv_room (Nat.le_of_ble_eq_true rfl)) dX4_mayGo_25 ⟨Nat.le_refl _, Nat.le_refl _⟩) hB (fun r4 μ3 H locs hp hB => ?_)
        refine lv_if_eq (tgt := 48) hx hb dX4_mayGo_28 rfl (fun c0 => ?_) (fun c0 => ?_)
        · have hp := zit hp c0
          refine lv_iconst (v := (nI 0)) hx hb dX4_mayGo_48 rfl ?_
          exact zret_z X hB rfl hp dX4_mayGo_49
        · have hp := zif hp c0
          refine lv_iload_n hx hb dX4_mayGo_31 rfl (lv_at hl 3 rfl) ?_
          refine lv_aload_n hx hb dX4_mayGo_32 rfl (lv_at hl 0 rfl) ?_
          refine g_getr S hB (tT hB) rfl (T := TX4) (N := 38) (C := RX4) rfl in_X4 23 (by decide) (by decide) q1415 (fun _ h9 => h9) (fun _ => rfl) (tA hB 8 rfl).1 dX4_mayGo_33 ?_
          refine lv_iload_n hx hb dX4_mayGo_36 rfl (lv_at hl 1 rfl) ?_
          obtain ⟨hi, hp⟩ := hp
          refine g_iald S hB (tA hB 8 rfl).2 hi dX4_mayGo_37 ?_
          refine z_calli (va_runS (As := [.int x3, .int (zI μ3 (th + 9) x1.toNatClampNeg)]) (rest := []) S (mX4_isBuried l Γ th x3 (zI μ3 (th + 9) x1.toNatClampNeg) μ3 _ hp) (va_cwS 2 hts (lw_S q1626 q1627 q132 q1628) rfl rfl rfl hX4_isBuried ⟨Nat.le_of_ble_eq_true rfl, Nat.le_of_ble_eq_true rfl⟩) hB.preS rfl rfl hl.1 rfl (lv_room (Nat.le_of_ble_eq_true rfl)) dX4_mayGo_38 ⟨Nat.le_refl _, Nat.le_refl _⟩) hB (fun r6 μ5 H locs hp hB => ?_)
          refine lv_if_ne (tgt := 48) hx hb dX4_mayGo_41 rfl (fun c0 => ?_) (fun c0 => ?_)
          · have hp := zif hp c0
            refine lv_iconst (v := (nI 0)) hx hb dX4_mayGo_48 rfl ?_
            exact zret_z X hB rfl hp dX4_mayGo_49
          · have hp := zit hp c0
            refine lv_iconst (v := (nI 1)) hx hb dX4_mayGo_44 rfl ?_
            refine lv_goto (tgt := 49) hx hb dX4_mayGo_45 rfl ?_
            exact zret_z X hB rfl hp dX4_mayGo_49
def pX4_gainIn (th : Nat) (x1 : Int32) (x2 : Int32) (x3 : Int32) (μ : zM) (Q : Int64 → zM → Prop) : Prop := (vp_in (nI 42) 3594 ∧ (if x3 = (nI 8) then Q (0 : Int64) μ else (vp_in x2 602 ∧ (pX4_worthOf th x1 x3 (zI μ (th + 9) x2.toNatClampNeg) ((zI μ (th + 1) (nI 42).toNatClampNeg) + x2) μ fun r2 μ1 => (vp_in x2 602 ∧ (pX4_paysOf th x3 (zI μ1 (th + 9) x2.toNatClampNeg) ((zI μ (th + 1) (nI 42).toNatClampNeg) + x2) μ1 fun r4 μ3 => Q ((r2.toInt64) - (r4.toInt64)) μ3))))))
theorem hX4_gainIn : yX4_gainIn.cls = "SunkTowerModel" ∧ yX4_gainIn.cls ≠ "java/lang/invoke/MethodHandle" ∧ yX4_gainIn.cls ≠ "java/lang/invoke/VarHandle" ∧ (parseMethodDescriptor yX4_gainIn.desc).map (fun d => d.parameters.length) = some 3 := by decide +kernel
set_option maxHeartbeats 4000000 in
set_option maxRecDepth 100000 in
theorem mX4_gainIn (l : Launch) (Γ : zG) (th : Nat) (x1 : Int32) (x2 : Int32) (x3 : Int32) (μ : zM) (Q : Int64 → zM → Prop) (hp : pX4_gainIn th x1 x2 x3 μ Q) : Met l yX4_gainIn (ws_ yX4_gainIn cX4_gainIn 5 (some .long)) ({ frames := 3, cells := 0, slots := 0, locals := 72 } : Room) (va_Pc [.ref th, .int x1, .int x2, .int x3] (zPre Γ (tSh th) μ)) (va_Ql Q (zPost Γ (tSh th) μ) (zA μ)) 0 0 (zA μ) := by
  refine zstart (by decide) (Nat.le_of_ble_eq_true rfl) ?_
  intro p e s m below meth c ls X hnm hB hl
  have X : zCx p m c cX4_gainIn 5 s [.ref th, .int x1, .int x2, .int x3].toArray RX4 meth (some .long) := X
  have S := X.1
  obtain ⟨hx, hb, hml, hown, hts⟩ := X.1
  have hl : lv_has ls 5 [(0, .ref th), (1, .int x1), (2, .int x2), (3, .int x3)] := hl
  unfold pX4_gainIn at hp
  refine lv_aload_n hx hb dX4_gainIn_0 rfl (lv_at hl 0 rfl) ?_
  refine g_getr S hB (tT hB) rfl (T := TX4) (N := 38) (C := RX4) rfl in_X4 1 (by decide) (by decide) q1393 (fun _ h9 => h9) (fun _ => rfl) (tA hB 0 rfl).1 dX4_gainIn_1 ?_
  refine lv_bipush (v := (nI 42)) hx hb dX4_gainIn_4 rfl ?_
  obtain ⟨hi, hp⟩ := hp
  refine g_iald S hB (tA hB 0 rfl).2 hi dX4_gainIn_6 ?_
  refine lv_iload_n hx hb dX4_gainIn_7 rfl (lv_at hl 2 rfl) ?_
  refine lv_iadd hx hb dX4_gainIn_8 ?_
  refine lv_istore (lv' := [(4, .int ((zI μ (th + 1) (nI 42).toNatClampNeg) + x2)), (0, .ref th), (1, .int x1), (2, .int x2), (3, .int x3)]) hx hb dX4_gainIn_9 hl (by decide) rfl (fun ls hl => ?_)
  refine lv_iload_n hx hb dX4_gainIn_11 rfl (lv_at hl 4 rfl) ?_
  refine lv_bipush (v := (nI 8)) hx hb dX4_gainIn_12 rfl ?_
  refine lv_icmp_ne (tgt := 21) hx hb dX4_gainIn_14 rfl (fun c0 => ?_) (fun c0 => ?_)
  · have hp := zif hp c0
    refine lv_aload_n hx hb dX4_gainIn_21 rfl (lv_at hl 1 rfl) ?_
    refine lv_iload_n hx hb dX4_gainIn_22 rfl (lv_at hl 2 rfl) ?_
    refine lv_iload_n hx hb dX4_gainIn_23 rfl (lv_at hl 4 rfl) ?_
    refine lv_aload_n hx hb dX4_gainIn_24 rfl (lv_at hl 1 rfl) ?_
    refine g_getr S hB (tT hB) rfl (T := TX4) (N := 38) (C := RX4) rfl in_X4 23 (by decide) (by decide) q1415 (fun _ h9 => h9) (fun _ => rfl) (tA hB 8 rfl).1 dX4_gainIn_25 ?_
    refine lv_iload_n hx hb dX4_gainIn_28 rfl (lv_at hl 3 rfl) ?_
    obtain ⟨hi, hp⟩ := hp
    refine g_iald S hB (tA hB 8 rfl).2 hi dX4_gainIn_29 ?_
    refine lv_iload hx hb dX4_gainIn_30 (lv_at hl 0 rfl) ?_
    refine z_calli (va_runV (As := [.int x1, .int x3, .int (zI μ (th + 9) x2.toNatClampNeg), .int ((zI μ (th + 1) (nI 42).toNatClampNeg) + x2)]) (rest := []) S (mX4_worthOf l Γ th x1 x3 (zI μ (th + 9) x2.toNatClampNeg) ((zI μ (th + 1) (nI 42).toNatClampNeg) + x2) μ _ hp) (cwV 4 hts (lw_V q1682 q1684 qs87 q132 q1685) rfl rfl rfl hX4_worthOf ⟨Nat.le_of_ble_eq_true rfl, Nat.le_of_ble_eq_true rfl⟩) (hB.preV (tT hB) rfl rfl) rfl rfl hl.1 rfl (lv_room (Nat.le_of_ble_eq_true rfl)) dX4_gainIn_32 ⟨Nat.le_refl _, Nat.le_refl _⟩) hB (fun r2 μ1 H locs hp hB => ?_)
    refine lv_i2l hx hb dX4_gainIn_35 rfl ?_
    refine lv_aload_n hx hb dX4_gainIn_36 rfl (lv_at hl 1 rfl) ?_
    refine lv_iload_n hx hb dX4_gainIn_37 rfl (lv_at hl 4 rfl) ?_
    refine lv_aload_n hx hb dX4_gainIn_38 rfl (lv_at hl 1 rfl) ?_
    refine g_getr S hB (tT hB) rfl (T := TX4) (N := 38) (C := RX4) rfl in_X4 23 (by decide) (by decide) q1415 (fun _ h9 => h9) (fun _ => rfl) (tA hB 8 rfl).1 dX4_gainIn_39 ?_
    refine lv_iload_n hx hb dX4_gainIn_42 rfl (lv_at hl 3 rfl) ?_
    obtain ⟨hi, hp⟩ := hp
    refine g_iald S hB (tA hB 8 rfl).2 hi dX4_gainIn_43 ?_
    refine lv_iload hx hb dX4_gainIn_44 (lv_at hl 0 rfl) ?_
    refine z_calli (va_runV (As := [.int x3, .int (zI μ1 (th + 9) x2.toNatClampNeg), .int ((zI μ (th + 1) (nI 42).toNatClampNeg) + x2)]) (rest := [.long (r2.toInt64)]) S (mX4_paysOf l Γ th x3 (zI μ1 (th + 9) x2.toNatClampNeg) ((zI μ (th + 1) (nI 42).toNatClampNeg) + x2) μ1 _ hp) (cwV 3 hts (lw_V q1666 q1668 qs85 q132 q1669) rfl rfl rfl hX4_paysOf ⟨Nat.le_of_ble_eq_true rfl, Nat.le_of_ble_eq_true rfl⟩) (hB.preV (tT hB) rfl rfl) rfl rfl hl.1 rfl (lv_room (Nat.le_of_ble_eq_true rfl)) dX4_gainIn_46 ⟨Nat.le_refl _, Nat.le_refl _⟩) hB (fun r4 μ3 H locs hp hB => ?_)
    refine lv_i2l hx hb dX4_gainIn_49 rfl ?_
    refine lv_lsub hx hb dX4_gainIn_50 ?_
    exact zret_l X hB hp dX4_gainIn_51
  · have hp := zit hp c0
    refine lv_lconst (v := (0 : Int64)) hx hb dX4_gainIn_17 rfl ?_
    refine lv_goto (tgt := 51) hx hb dX4_gainIn_18 rfl ?_
    exact zret_l X hB hp dX4_gainIn_51
def pX4_write (th : Nat) (x1 : Int32) (x2 : Int32) (x3 : Int64) (μ : zM) (Q : Int64 → zM → Prop) : Prop := (zpI μ th 0 (nI 0) fun μ1 => (pX4_noTray th x1 μ1 fun r3 μ2 => (if r3 = 0 then (vp_in x1 4 ∧ (pX4_within th (x2.toInt64) (0 : Int64) (((zI μ2 (th + 17) x1.toNatClampNeg) - (nI 1)).toInt64) μ2 fun r5 μ4 => (if r5 = 0 then Q (-7 : Int64) μ4 else (vp_in x1 4 ∧ (pX4_cut th x3 (zI μ4 (th + 16) x1.toNatClampNeg) μ4 fun r7 μ6 => (vp_in (((nI 40) * x1) + x2) 160 ∧ zpJ μ6 (th + 18) (((nI 40) * x1) + x2).toNatClampNeg r7 fun μ8 => (vp_in (((nI 40) * x1) + x2) 160 ∧ Q (zJ μ8 (th + 18) (((nI 40) * x1) + x2).toNatClampNeg) μ8))))))) else Q (r3.toInt64) μ2)))
theorem hX4_write : yX4_write.cls = "SunkTowerModel" ∧ yX4_write.cls ≠ "java/lang/invoke/MethodHandle" ∧ yX4_write.cls ≠ "java/lang/invoke/VarHandle" ∧ (parseMethodDescriptor yX4_write.desc).map (fun d => d.parameters.length) = some 3 := by decide +kernel
set_option maxHeartbeats 4000000 in
set_option maxRecDepth 100000 in
theorem mX4_write (l : Launch) (Γ : zG) (th : Nat) (x1 : Int32) (x2 : Int32) (x3 : Int64) (μ : zM) (Q : Int64 → zM → Prop) (hp : pX4_write th x1 x2 x3 μ Q) : Met l yX4_write (ws_ yX4_write cX4_write 6 (some .long)) ({ frames := 2, cells := 0, slots := 0, locals := 46 } : Room) (va_Pc [.ref th, .int x1, .int x2, .long x3] (zPre Γ (tSh th) μ)) (va_Ql Q (zPost Γ (tSh th) μ) (zA μ)) 0 0 (zA μ) := by
  refine zstart (by decide) (Nat.le_of_ble_eq_true rfl) ?_
  intro p e s m below meth c ls X hnm hB hl
  have X : zCx p m c cX4_write 6 s [.ref th, .int x1, .int x2, .long x3].toArray RX4 meth (some .long) := X
  have S := X.1
  obtain ⟨hx, hb, hml, hown, hts⟩ := X.1
  have hl : lv_has ls 6 [(0, .ref th), (1, .int x1), (2, .int x2), (3, .long x3)] := hl
  unfold pX4_write at hp
  refine lv_aload_n hx hb dX4_write_0 rfl (lv_at hl 0 rfl) ?_
  refine lv_iconst (v := (nI 0)) hx hb dX4_write_1 rfl ?_
  obtain ⟨μ1, eμ1, hp⟩ := zpI_e hp
  refine g_putI S hB (tT hB) rfl (T := TX4) (N := 38) (C := RX4) rfl in_X4 0 (by decide) (by decide) (x := (nI 0)) tyX4 tyX4_ok nmX4 q1392 (fun _ h9 => h9) rfl (ty := .int) (by decide +kernel) rfl rfl (fun _ _ => rfl) dX4_write_2 (fun H locs hB => ?_)
  rw [← eμ1] at hB
  refine lv_aload_n hx hb dX4_write_5 rfl (lv_at hl 0 rfl) ?_
  refine lv_iload_n hx hb dX4_write_6 rfl (lv_at hl 1 rfl) ?_
  refine z_calli (va_runV (As := [.int x1]) (rest := []) S (mX4_noTray l Γ th x1 μ1 _ hp) (cwV 1 hts (lw_V q1765 q1767 qs97 q132 q1768) rfl rfl rfl hX4_noTray ⟨Nat.le_of_ble_eq_true rfl, Nat.le_of_ble_eq_true rfl⟩) (hB.preV (tT hB) rfl rfl) rfl rfl hl.1 rfl (lv_room (Nat.le_of_ble_eq_true rfl)) dX4_write_7 ⟨Nat.le_refl _, Nat.le_refl _⟩) hB (fun r3 μ2 H locs hp hB => ?_)
  refine lv_istore (lv' := [(5, .int r3), (0, .ref th), (1, .int x1), (2, .int x2), (3, .long x3)]) hx hb dX4_write_10 hl (by decide) rfl (fun ls hl => ?_)
  refine lv_iload hx hb dX4_write_12 (lv_at hl 0 rfl) ?_
  refine lv_if_eq (tgt := 21) hx hb dX4_write_14 rfl (fun c0 => ?_) (fun c0 => ?_)
  · have hp := zit hp c0
    refine lv_iload_n hx hb dX4_write_21 rfl (lv_at hl 3 rfl) ?_
    refine lv_i2l hx hb dX4_write_22 rfl ?_
    refine lv_lconst (v := (0 : Int64)) hx hb dX4_write_23 rfl ?_
    refine lv_aload_n hx hb dX4_write_24 rfl (lv_at hl 1 rfl) ?_
    refine g_getr S hB (tT hB) rfl (T := TX4) (N := 38) (C := RX4) rfl in_X4 36 (by decide) (by decide) q1428 (fun _ h9 => h9) (fun _ => rfl) (tA hB 16 rfl).1 dX4_write_25 ?_
    refine lv_iload_n hx hb dX4_write_28 rfl (lv_at hl 2 rfl) ?_
    obtain ⟨hi, hp⟩ := hp
    refine g_iald S hB (tA hB 16 rfl).2 hi dX4_write_29 ?_
    refine lv_iconst (v := (nI 1)) hx hb dX4_write_30 rfl ?_
    refine lv_isub hx hb dX4_write_31 ?_
    refine lv_i2l hx hb dX4_write_32 rfl ?_
    refine z_calli (va_runS (As := [.long (x2.toInt64), .long (0 : Int64), .long (((zI μ2 (th + 17) x1.toNatClampNeg) - (nI 1)).toInt64)]) (rest := []) S (mX4_within l Γ th (x2.toInt64) (0 : Int64) (((zI μ2 (th + 17) x1.toNatClampNeg) - (nI 1)).toInt64) μ2 _ hp) (va_cwS 3 hts (lw_S q1516 q1517 q132 q1518) rfl rfl rfl hX4_within ⟨Nat.le_of_ble_eq_true rfl, Nat.le_of_ble_eq_true rfl⟩) hB.preS rfl rfl hl.1 rfl (lv_room (Nat.le_of_ble_eq_true rfl)) dX4_write_33 ⟨Nat.le_refl _, Nat.le_refl _⟩) hB (fun r5 μ4 H locs hp hB => ?_)
    refine lv_if_ne (tgt := 43) hx hb dX4_write_36 rfl (fun c0 => ?_) (fun c0 => ?_)
    · have hp := zif hp c0
      refine lv_aload_n hx hb dX4_write_43 rfl (lv_at hl 1 rfl) ?_
      refine g_getr S hB (tT hB) rfl (T := TX4) (N := 38) (C := RX4) rfl in_X4 37 (by decide) (by decide) q1429 (fun _ h9 => h9) (fun _ => rfl) (tA hB 17 rfl).1 dX4_write_44 ?_
      refine lv_bipush (v := (nI 40)) hx hb dX4_write_47 rfl ?_
      refine lv_iload_n hx hb dX4_write_49 rfl (lv_at hl 2 rfl) ?_
      refine lv_imul hx hb dX4_write_50 ?_
      refine lv_iload_n hx hb dX4_write_51 rfl (lv_at hl 3 rfl) ?_
      refine lv_iadd hx hb dX4_write_52 ?_
      refine lv_lload_n hx hb dX4_write_53 rfl (lv_at hl 4 rfl) ?_
      refine lv_aload_n hx hb dX4_write_54 rfl (lv_at hl 1 rfl) ?_
      refine g_getr S hB (tT hB) rfl (T := TX4) (N := 38) (C := RX4) rfl in_X4 35 (by decide) (by decide) q1427 (fun _ h9 => h9) (fun _ => rfl) (tA hB 15 rfl).1 dX4_write_55 ?_
      refine lv_iload_n hx hb dX4_write_58 rfl (lv_at hl 2 rfl) ?_
      obtain ⟨hi, hp⟩ := hp
      refine g_iald S hB (tA hB 15 rfl).2 hi dX4_write_59 ?_
      refine z_calll (va_runS (As := [.long x3, .int (zI μ4 (th + 16) x1.toNatClampNeg)]) (rest := [.int (((nI 40) * x1) + x2), .ref (th + 18)]) S (mX4_cut l Γ th x3 (zI μ4 (th + 16) x1.toNatClampNeg) μ4 _ hp) (va_cwS 2 hts (lw_S q2005 q2006 q132 q2007) rfl rfl rfl hX4_cut ⟨Nat.le_of_ble_eq_true rfl, Nat.le_of_ble_eq_true rfl⟩) hB.preS rfl rfl hl.1 rfl (lv_room (Nat.le_of_ble_eq_true rfl)) dX4_write_60 ⟨Nat.le_refl _, Nat.le_refl _⟩) hB (fun r7 μ6 H locs hp hB => ?_)
      obtain ⟨hi, hp⟩ := hp
      obtain ⟨μ8, eμ8, hp⟩ := zpJ_e hp
      refine g_last S hB (tA hB 17 rfl).2 hi dX4_write_63 (fun H locs hB => ?_)
      rw [← eμ8] at hB
      refine lv_aload_n hx hb dX4_write_64 rfl (lv_at hl 1 rfl) ?_
      refine g_getr S hB (tT hB) rfl (T := TX4) (N := 38) (C := RX4) rfl in_X4 37 (by decide) (by decide) q1429 (fun _ h9 => h9) (fun _ => rfl) (tA hB 17 rfl).1 dX4_write_65 ?_
      refine lv_bipush (v := (nI 40)) hx hb dX4_write_68 rfl ?_
      refine lv_iload_n hx hb dX4_write_70 rfl (lv_at hl 2 rfl) ?_
      refine lv_imul hx hb dX4_write_71 ?_
      refine lv_iload_n hx hb dX4_write_72 rfl (lv_at hl 3 rfl) ?_
      refine lv_iadd hx hb dX4_write_73 ?_
      obtain ⟨hi, hp⟩ := hp
      refine g_lald S hB (tA hB 17 rfl).2 hi dX4_write_74 ?_
      exact zret_l X hB hp dX4_write_75
    · have hp := zit hp c0
      refine lv_ldc2 (v := (-7 : Int64)) hx hb hown (hts _ q2004) dX4_write_39 ?_
      exact zret_l X hB hp dX4_write_42
  · have hp := zif hp c0
    refine lv_iload hx hb dX4_write_17 (lv_at hl 0 rfl) ?_
    refine lv_i2l hx hb dX4_write_19 rfl ?_
    exact zret_l X hB hp dX4_write_20
def pX4_count (th : Nat) (x1 : Int32) (μ : zM) (Q : Int32 → zM → Prop) : Prop := (zpI μ th 0 (nI 0) fun μ1 => (if x1 = (nI 0) then (vp_in (nI 20) 3594 ∧ Q (zI μ1 (th + 1) (nI 20).toNatClampNeg) μ1) else (if x1 = (nI 1) then (vp_in (nI 1) 3594 ∧ Q (zI μ1 (th + 1) (nI 1).toNatClampNeg) μ1) else (if x1 = (nI 2) then (pX4_away th μ1 fun r3 μ2 => Q r3 μ2) else (if x1 = (nI 3) then (vp_in (nI 41) 3594 ∧ Q (zI μ1 (th + 1) (nI 41).toNatClampNeg) μ1) else (if x1 = (nI 4) then (vp_in (nI 42) 3594 ∧ Q (zI μ1 (th + 1) (nI 42).toNatClampNeg) μ1) else (if x1 = (nI 5) then (pX4_buriedMany th μ1 fun r5 μ4 => Q r5 μ4) else (if x1 = (nI 6) then (vp_in (nI 20) 3594 ∧ (vp_in (nI 1) 3594 ∧ (pX4_away th μ1 fun r7 μ6 => Q ((zI μ1 (th + 1) (nI 20).toNatClampNeg) - ((zI μ1 (th + 1) (nI 1).toNatClampNeg) - r7)) μ6))) else (if x1 = (nI 7) then (vp_in (nI 66) 3594 ∧ Q (zI μ1 (th + 1) (nI 66).toNatClampNeg) μ1) else (if x1 = (nI 8) then Q (zI μ1 th 5) μ1 else (if x1 = (nI 9) then (vp_in (nI 0) 3594 ∧ Q (zI μ1 (th + 1) (nI 0).toNatClampNeg) μ1) else Q (-1 : Int32) μ1)))))))))))
theorem hX4_count : yX4_count.cls = "SunkTowerModel" ∧ yX4_count.cls ≠ "java/lang/invoke/MethodHandle" ∧ yX4_count.cls ≠ "java/lang/invoke/VarHandle" ∧ (parseMethodDescriptor yX4_count.desc).map (fun d => d.parameters.length) = some 1 := by decide +kernel
set_option maxHeartbeats 4000000 in
set_option maxRecDepth 100000 in
theorem mX4_count (l : Launch) (Γ : zG) (th : Nat) (x1 : Int32) (μ : zM) (Q : Int32 → zM → Prop) (hp : pX4_count th x1 μ Q) : Met l yX4_count (ws_ yX4_count cX4_count 2 (some .int)) ({ frames := 2, cells := 0, slots := 0, locals := 43 } : Room) (va_Pc [.ref th, .int x1] (zPre Γ (tSh th) μ)) (va_Qi Q (zPost Γ (tSh th) μ) (zA μ)) 0 0 (zA μ) := by
  refine zstart (by decide) (Nat.le_of_ble_eq_true rfl) ?_
  intro p e s m below meth c ls X hnm hB hl
  have X : zCx p m c cX4_count 2 s [.ref th, .int x1].toArray RX4 meth (some .int) := X
  have S := X.1
  obtain ⟨hx, hb, hml, hown, hts⟩ := X.1
  have hl : lv_has ls 2 [(0, .ref th), (1, .int x1)] := hl
  unfold pX4_count at hp
  refine lv_aload_n hx hb dX4_count_0 rfl (lv_at hl 0 rfl) ?_
  refine lv_iconst (v := (nI 0)) hx hb dX4_count_1 rfl ?_
  obtain ⟨μ1, eμ1, hp⟩ := zpI_e hp
  refine g_putI S hB (tT hB) rfl (T := TX4) (N := 38) (C := RX4) rfl in_X4 0 (by decide) (by decide) (x := (nI 0)) tyX4 tyX4_ok nmX4 q1392 (fun _ h9 => h9) rfl (ty := .int) (by decide +kernel) rfl rfl (fun _ _ => rfl) dX4_count_2 (fun H locs hB => ?_)
  rw [← eμ1] at hB
  refine lv_iload_n hx hb dX4_count_5 rfl (lv_at hl 1 rfl) ?_
  by_cases c0 : x1 = (nI 0)
  · have hp := zit hp c0
    refine lv_tableIn (tgt := 60) hx hb dX4_count_6 (by rw [c0]; decide) (by rw [c0]; decide) (by rw [c0]; rfl) rfl ?_
    refine lv_aload_n hx hb dX4_count_60 rfl (lv_at hl 0 rfl) ?_
    refine g_getr S hB (tT hB) rfl (T := TX4) (N := 38) (C := RX4) rfl in_X4 1 (by decide) (by decide) q1393 (fun _ h9 => h9) (fun _ => rfl) (tA hB 0 rfl).1 dX4_count_61 ?_
    refine lv_bipush (v := (nI 20)) hx hb dX4_count_64 rfl ?_
    obtain ⟨hi, hp⟩ := hp
    refine g_iald S hB (tA hB 0 rfl).2 hi dX4_count_66 ?_
    exact zret_i X hB hp dX4_count_67
  have hp := zif hp c0
  by_cases c1 : x1 = (nI 1)
  · have hp := zit hp c1
    refine lv_tableIn (tgt := 68) hx hb dX4_count_6 (by rw [c1]; decide) (by rw [c1]; decide) (by rw [c1]; rfl) rfl ?_
    refine lv_aload_n hx hb dX4_count_68 rfl (lv_at hl 0 rfl) ?_
    refine g_getr S hB (tT hB) rfl (T := TX4) (N := 38) (C := RX4) rfl in_X4 1 (by decide) (by decide) q1393 (fun _ h9 => h9) (fun _ => rfl) (tA hB 0 rfl).1 dX4_count_69 ?_
    refine lv_iconst (v := (nI 1)) hx hb dX4_count_72 rfl ?_
    obtain ⟨hi, hp⟩ := hp
    refine g_iald S hB (tA hB 0 rfl).2 hi dX4_count_73 ?_
    exact zret_i X hB hp dX4_count_74
  have hp := zif hp c1
  by_cases c2 : x1 = (nI 2)
  · have hp := zit hp c2
    refine lv_tableIn (tgt := 75) hx hb dX4_count_6 (by rw [c2]; decide) (by rw [c2]; decide) (by rw [c2]; rfl) rfl ?_
    refine lv_aload_n hx hb dX4_count_75 rfl (lv_at hl 0 rfl) ?_
    refine z_calli (va_runV (As := []) (rest := []) S (mX4_away l Γ th μ1 _ hp) (cwV 0 hts (lw_V q2024 q2026 qs124 q132 q2027) rfl rfl rfl hX4_away ⟨Nat.le_of_ble_eq_true rfl, Nat.le_of_ble_eq_true rfl⟩) (hB.preV (tT hB) rfl rfl) rfl rfl hl.1 rfl (lv_room (Nat.le_of_ble_eq_true rfl)) dX4_count_76 ⟨Nat.le_refl _, Nat.le_refl _⟩) hB (fun r3 μ2 H locs hp hB => ?_)
    exact zret_i X hB hp dX4_count_79
  have hp := zif hp c2
  by_cases c3 : x1 = (nI 3)
  · have hp := zit hp c3
    refine lv_tableIn (tgt := 80) hx hb dX4_count_6 (by rw [c3]; decide) (by rw [c3]; decide) (by rw [c3]; rfl) rfl ?_
    refine lv_aload_n hx hb dX4_count_80 rfl (lv_at hl 0 rfl) ?_
    refine g_getr S hB (tT hB) rfl (T := TX4) (N := 38) (C := RX4) rfl in_X4 1 (by decide) (by decide) q1393 (fun _ h9 => h9) (fun _ => rfl) (tA hB 0 rfl).1 dX4_count_81 ?_
    refine lv_bipush (v := (nI 41)) hx hb dX4_count_84 rfl ?_
    obtain ⟨hi, hp⟩ := hp
    refine g_iald S hB (tA hB 0 rfl).2 hi dX4_count_86 ?_
    exact zret_i X hB hp dX4_count_87
  have hp := zif hp c3
  by_cases c4 : x1 = (nI 4)
  · have hp := zit hp c4
    refine lv_tableIn (tgt := 88) hx hb dX4_count_6 (by rw [c4]; decide) (by rw [c4]; decide) (by rw [c4]; rfl) rfl ?_
    refine lv_aload_n hx hb dX4_count_88 rfl (lv_at hl 0 rfl) ?_
    refine g_getr S hB (tT hB) rfl (T := TX4) (N := 38) (C := RX4) rfl in_X4 1 (by decide) (by decide) q1393 (fun _ h9 => h9) (fun _ => rfl) (tA hB 0 rfl).1 dX4_count_89 ?_
    refine lv_bipush (v := (nI 42)) hx hb dX4_count_92 rfl ?_
    obtain ⟨hi, hp⟩ := hp
    refine g_iald S hB (tA hB 0 rfl).2 hi dX4_count_94 ?_
    exact zret_i X hB hp dX4_count_95
  have hp := zif hp c4
  by_cases c5 : x1 = (nI 5)
  · have hp := zit hp c5
    refine lv_tableIn (tgt := 96) hx hb dX4_count_6 (by rw [c5]; decide) (by rw [c5]; decide) (by rw [c5]; rfl) rfl ?_
    refine lv_aload_n hx hb dX4_count_96 rfl (lv_at hl 0 rfl) ?_
    refine z_calli (va_runV (As := []) (rest := []) S (mX4_buriedMany l Γ th μ1 _ hp) (cwV 0 hts (lw_V q2028 q2030 qs125 q132 q2031) rfl rfl rfl hX4_buriedMany ⟨Nat.le_of_ble_eq_true rfl, Nat.le_of_ble_eq_true rfl⟩) (hB.preV (tT hB) rfl rfl) rfl rfl hl.1 rfl (lv_room (Nat.le_of_ble_eq_true rfl)) dX4_count_97 ⟨Nat.le_refl _, Nat.le_refl _⟩) hB (fun r5 μ4 H locs hp hB => ?_)
    exact zret_i X hB hp dX4_count_100
  have hp := zif hp c5
  by_cases c6 : x1 = (nI 6)
  · have hp := zit hp c6
    refine lv_tableIn (tgt := 101) hx hb dX4_count_6 (by rw [c6]; decide) (by rw [c6]; decide) (by rw [c6]; rfl) rfl ?_
    refine lv_aload_n hx hb dX4_count_101 rfl (lv_at hl 0 rfl) ?_
    refine g_getr S hB (tT hB) rfl (T := TX4) (N := 38) (C := RX4) rfl in_X4 1 (by decide) (by decide) q1393 (fun _ h9 => h9) (fun _ => rfl) (tA hB 0 rfl).1 dX4_count_102 ?_
    refine lv_bipush (v := (nI 20)) hx hb dX4_count_105 rfl ?_
    obtain ⟨hi, hp⟩ := hp
    refine g_iald S hB (tA hB 0 rfl).2 hi dX4_count_107 ?_
    refine lv_aload_n hx hb dX4_count_108 rfl (lv_at hl 0 rfl) ?_
    refine g_getr S hB (tT hB) rfl (T := TX4) (N := 38) (C := RX4) rfl in_X4 1 (by decide) (by decide) q1393 (fun _ h9 => h9) (fun _ => rfl) (tA hB 0 rfl).1 dX4_count_109 ?_
    refine lv_iconst (v := (nI 1)) hx hb dX4_count_112 rfl ?_
    obtain ⟨hi, hp⟩ := hp
    refine g_iald S hB (tA hB 0 rfl).2 hi dX4_count_113 ?_
    refine lv_aload_n hx hb dX4_count_114 rfl (lv_at hl 0 rfl) ?_
    refine z_calli (va_runV (As := []) (rest := [.int (zI μ1 (th + 1) (nI 1).toNatClampNeg), .int (zI μ1 (th + 1) (nI 20).toNatClampNeg)]) S (mX4_away l Γ th μ1 _ hp) (cwV 0 hts (lw_V q2024 q2026 qs124 q132 q2027) rfl rfl rfl hX4_away ⟨Nat.le_of_ble_eq_true rfl, Nat.le_of_ble_eq_true rfl⟩) (hB.preV (tT hB) rfl rfl) rfl rfl hl.1 rfl (lv_room (Nat.le_of_ble_eq_true rfl)) dX4_count_115 ⟨Nat.le_refl _, Nat.le_refl _⟩) hB (fun r7 μ6 H locs hp hB => ?_)
    refine lv_isub hx hb dX4_count_118 ?_
    refine lv_isub hx hb dX4_count_119 ?_
    exact zret_i X hB hp dX4_count_120
  have hp := zif hp c6
  by_cases c7 : x1 = (nI 7)
  · have hp := zit hp c7
    refine lv_tableIn (tgt := 121) hx hb dX4_count_6 (by rw [c7]; decide) (by rw [c7]; decide) (by rw [c7]; rfl) rfl ?_
    refine lv_aload_n hx hb dX4_count_121 rfl (lv_at hl 0 rfl) ?_
    refine g_getr S hB (tT hB) rfl (T := TX4) (N := 38) (C := RX4) rfl in_X4 1 (by decide) (by decide) q1393 (fun _ h9 => h9) (fun _ => rfl) (tA hB 0 rfl).1 dX4_count_122 ?_
    refine lv_bipush (v := (nI 66)) hx hb dX4_count_125 rfl ?_
    obtain ⟨hi, hp⟩ := hp
    refine g_iald S hB (tA hB 0 rfl).2 hi dX4_count_127 ?_
    exact zret_i X hB hp dX4_count_128
  have hp := zif hp c7
  by_cases c8 : x1 = (nI 8)
  · have hp := zit hp c8
    refine lv_tableIn (tgt := 129) hx hb dX4_count_6 (by rw [c8]; decide) (by rw [c8]; decide) (by rw [c8]; rfl) rfl ?_
    refine lv_aload_n hx hb dX4_count_129 rfl (lv_at hl 0 rfl) ?_
    refine g_get S hB (tT hB) rfl (T := TX4) (N := 38) (C := RX4) rfl in_X4 5 (by decide) (by decide) q1397 (fun _ h9 => h9) (v := .int (zI μ1 th 5)) rfl dX4_count_130 ?_
    exact zret_i X hB hp dX4_count_133
  have hp := zif hp c8
  by_cases c9 : x1 = (nI 9)
  · have hp := zit hp c9
    refine lv_tableIn (tgt := 134) hx hb dX4_count_6 (by rw [c9]; decide) (by rw [c9]; decide) (by rw [c9]; rfl) rfl ?_
    refine lv_aload_n hx hb dX4_count_134 rfl (lv_at hl 0 rfl) ?_
    refine g_getr S hB (tT hB) rfl (T := TX4) (N := 38) (C := RX4) rfl in_X4 1 (by decide) (by decide) q1393 (fun _ h9 => h9) (fun _ => rfl) (tA hB 0 rfl).1 dX4_count_135 ?_
    refine lv_iconst (v := (nI 0)) hx hb dX4_count_138 rfl ?_
    obtain ⟨hi, hp⟩ := hp
    refine g_iald S hB (tA hB 0 rfl).2 hi dX4_count_139 ?_
    exact zret_i X hB hp dX4_count_140
  have hp := zif hp c9
  refine lv_tableOut (tgt := 141) hx hb dX4_count_6 (zswN (x := x1) 0 9 (fun k h1 h2 => by rcases (show k = 0 ∨ k = 1 ∨ k = 2 ∨ k = 3 ∨ k = 4 ∨ k = 5 ∨ k = 6 ∨ k = 7 ∨ k = 8 ∨ k = 9 by omega) with rfl | rfl | rfl | rfl | rfl | rfl | rfl | rfl | rfl | rfl <;> assumption) (by decide)) rfl ?_
  refine lv_iconst (v := (-1 : Int32)) hx hb dX4_count_141 rfl ?_
  exact zret_i X hB hp dX4_count_142
def pX4_readStorey_19 (th : Nat) (Q : zM → Prop) (x1 : Int32) (μ : zM) : Prop := (if (zI μ th 11) = 0 then (pX4_next th μ fun μ1 => (pX4_takes th (nI 0) (nI 999) μ1 fun r3 μ2 => (if (zI μ2 th 11) = 0 then (vp_in ((nI 21) + x1) 1198 ∧ zpI μ2 (th + 4) ((nI 21) + x1).toNatClampNeg r3 fun μ4 => (vp_in (nI 20) 1198 ∧ (vp_in (nI 20) 1198 ∧ zpI μ4 (th + 4) (nI 20).toNatClampNeg ((zI μ4 (th + 4) (nI 20).toNatClampNeg) + (nI 1)) fun μ5 => Q μ5))) else Q μ2))) else Q μ)
set_option maxHeartbeats 4000000 in
set_option maxRecDepth 100000 in
theorem wX4_readStorey_19 {p : Program} {l : Launch} {e : Env} {s : State} {m : MethodId} {args : Array Value} {below : List Frame} {meth : Method} {c : Code} {Γ : zG} {μ0 : zM} {Q : zM → Prop} (X : zCx p m c cX4_readStorey 3 s args RX4 meth none) (th : Nat) : ∀ (x1 : Int32) (μ : zM) (H : Heap) (locs : List Loc) (ls : Array Slot), pX4_readStorey_19 th Q x1 μ → zB Γ (tSh th) (zA μ0) μ0 s μ H locs → lv_has ls 3 [(0, .ref th), (1, .int x1)] → W p l e ({ frames := 7, cells := 0, slots := 0, locals := 152 } : Room) s m args below meth c H locs 0 0 (MQ below (va_Qv Q (zPost Γ (tSh th) μ0) (zA μ0)) args s 0 0 (zA μ0)) (F0 m 19 ls []) := by
  have S := X.1
  obtain ⟨hx, hb, hml, hown, hts⟩ := X.1
  intro x1 μ H locs ls hp hB hl
  unfold pX4_readStorey_19 at hp
  refine lv_aload_n hx hb dX4_readStorey_19 rfl (lv_at hl 0 rfl) ?_
  refine g_get S hB (tT hB) rfl (T := TX4) (N := 38) (C := RX4) rfl in_X4 11 (by decide) (by decide) q1403 (fun _ h9 => h9) (v := .int (zI μ th 11)) rfl dX4_readStorey_20 ?_
  refine lv_if_eq (tgt := 27) hx hb dX4_readStorey_23 rfl (fun c0 => ?_) (fun c0 => ?_)
  · have hp := zit hp c0
    refine lv_aload_n hx hb dX4_readStorey_27 rfl (lv_at hl 0 rfl) ?_
    refine z_callv (va_runV (As := []) (rest := []) S (mX4_next l Γ th μ _ hp) (cwV 0 hts (lw_V q1519 q1521 qs59 q132 q1522) rfl rfl rfl hX4_next ⟨Nat.le_of_ble_eq_true rfl, Nat.le_of_ble_eq_true rfl⟩) (hB.preV (tT hB) rfl rfl) rfl rfl hl.1 rfl (lv_room (Nat.le_of_ble_eq_true rfl)) dX4_readStorey_28 ⟨Nat.le_refl _, Nat.le_refl _⟩) hB (fun μ1 H locs hp hB => ?_)
    refine lv_aload_n hx hb dX4_readStorey_31 rfl (lv_at hl 0 rfl) ?_
    refine lv_iconst (v := (nI 0)) hx hb dX4_readStorey_32 rfl ?_
    refine lv_sipush (v := (nI 999)) hx hb dX4_readStorey_33 rfl ?_
    refine z_calli (va_runV (As := [.int (nI 0), .int (nI 999)]) (rest := []) S (mX4_takes l Γ th (nI 0) (nI 999) μ1 _ hp) (cwV 2 hts (lw_V q1553 q1555 qs65 q132 q1556) rfl rfl rfl hX4_takes ⟨Nat.le_of_ble_eq_true rfl, Nat.le_of_ble_eq_true rfl⟩) (hB.preV (tT hB) rfl rfl) rfl rfl hl.1 rfl (lv_room (Nat.le_of_ble_eq_true rfl)) dX4_readStorey_36 ⟨Nat.le_refl _, Nat.le_refl _⟩) hB (fun r3 μ2 H locs hp hB => ?_)
    refine lv_istore_n (lv' := [(2, .int r3), (0, .ref th), (1, .int x1)]) hx hb dX4_readStorey_39 rfl hl (by decide) rfl (fun ls hl => ?_)
    refine lv_aload_n hx hb dX4_readStorey_40 rfl (lv_at hl 1 rfl) ?_
    refine g_get S hB (tT hB) rfl (T := TX4) (N := 38) (C := RX4) rfl in_X4 11 (by decide) (by decide) q1403 (fun _ h9 => h9) (v := .int (zI μ2 th 11)) rfl dX4_readStorey_41 ?_
    refine lv_if_eq (tgt := 48) hx hb dX4_readStorey_44 rfl (fun c0 => ?_) (fun c0 => ?_)
    · have hp := zit hp c0
      refine lv_aload_n hx hb dX4_readStorey_48 rfl (lv_at hl 1 rfl) ?_
      refine g_getr S hB (tT hB) rfl (T := TX4) (N := 38) (C := RX4) rfl in_X4 4 (by decide) (by decide) q1396 (fun _ h9 => h9) (fun _ => rfl) (tA hB 3 rfl).1 dX4_readStorey_49 ?_
      refine lv_bipush (v := (nI 21)) hx hb dX4_readStorey_52 rfl ?_
      refine lv_iload_n hx hb dX4_readStorey_54 rfl (lv_at hl 2 rfl) ?_
      refine lv_iadd hx hb dX4_readStorey_55 ?_
      refine lv_iload_n hx hb dX4_readStorey_56 rfl (lv_at hl 0 rfl) ?_
      obtain ⟨hi, hp⟩ := hp
      obtain ⟨μ4, eμ4, hp⟩ := zpI_e hp
      refine g_iast S hB (tA hB 3 rfl).2 hi dX4_readStorey_57 (fun H locs hB => ?_)
      rw [← eμ4] at hB
      refine lv_aload_n hx hb dX4_readStorey_58 rfl (lv_at hl 1 rfl) ?_
      refine g_getr S hB (tT hB) rfl (T := TX4) (N := 38) (C := RX4) rfl in_X4 4 (by decide) (by decide) q1396 (fun _ h9 => h9) (fun _ => rfl) (tA hB 3 rfl).1 dX4_readStorey_59 ?_
      refine lv_bipush (v := (nI 20)) hx hb dX4_readStorey_62 rfl ?_
      refine lv_dup2_11 hx hb dX4_readStorey_64 rfl rfl ?_
      obtain ⟨hi, hp⟩ := hp
      refine g_iald S hB (tA hB 3 rfl).2 hi dX4_readStorey_65 ?_
      refine lv_iconst (v := (nI 1)) hx hb dX4_readStorey_66 rfl ?_
      refine lv_iadd hx hb dX4_readStorey_67 ?_
      obtain ⟨hi, hp⟩ := hp
      obtain ⟨μ5, eμ5, hp⟩ := zpI_e hp
      refine g_iast S hB (tA hB 3 rfl).2 hi dX4_readStorey_68 (fun H locs hB => ?_)
      rw [← eμ5] at hB
      exact zret_v X hB hp dX4_readStorey_69
    · have hp := zif hp c0
      exact zret_v X hB hp dX4_readStorey_47
  · have hp := zif hp c0
    exact zret_v X hB hp dX4_readStorey_26
def pX4_readStorey (th : Nat) (μ : zM) (Q : zM → Prop) : Prop := (vp_in (nI 20) 1198 ∧ (if (zI μ (th + 4) (nI 20).toNatClampNeg) = (nI 8) then (pX4_fails th (nI 4) μ fun μ1 => pX4_readStorey_19 th Q (zI μ (th + 4) (nI 20).toNatClampNeg) μ1) else pX4_readStorey_19 th Q (zI μ (th + 4) (nI 20).toNatClampNeg) μ))
theorem hX4_readStorey : yX4_readStorey.cls = "SunkTowerModel" ∧ yX4_readStorey.cls ≠ "java/lang/invoke/MethodHandle" ∧ yX4_readStorey.cls ≠ "java/lang/invoke/VarHandle" ∧ (parseMethodDescriptor yX4_readStorey.desc).map (fun d => d.parameters.length) = some 0 := by decide +kernel
set_option maxHeartbeats 4000000 in
set_option maxRecDepth 100000 in
theorem mX4_readStorey (l : Launch) (Γ : zG) (th : Nat) (μ : zM) (Q : zM → Prop) (hp : pX4_readStorey th μ Q) : Met l yX4_readStorey (ws_ yX4_readStorey cX4_readStorey 3 none) ({ frames := 7, cells := 0, slots := 0, locals := 152 } : Room) (va_Pc [.ref th] (zPre Γ (tSh th) μ)) (va_Qv Q (zPost Γ (tSh th) μ) (zA μ)) 0 0 (zA μ) := by
  refine zstart (by decide) (Nat.le_of_ble_eq_true rfl) ?_
  intro p e s m below meth c ls X hnm hB hl
  have X : zCx p m c cX4_readStorey 3 s [.ref th].toArray RX4 meth none := X
  have S := X.1
  obtain ⟨hx, hb, hml, hown, hts⟩ := X.1
  have hl : lv_has ls 3 [(0, .ref th)] := hl
  unfold pX4_readStorey at hp
  refine lv_aload_n hx hb dX4_readStorey_0 rfl (lv_at hl 0 rfl) ?_
  refine g_getr S hB (tT hB) rfl (T := TX4) (N := 38) (C := RX4) rfl in_X4 4 (by decide) (by decide) q1396 (fun _ h9 => h9) (fun _ => rfl) (tA hB 3 rfl).1 dX4_readStorey_1 ?_
  refine lv_bipush (v := (nI 20)) hx hb dX4_readStorey_4 rfl ?_
  obtain ⟨hi, hp⟩ := hp
  refine g_iald S hB (tA hB 3 rfl).2 hi dX4_readStorey_6 ?_
  refine lv_istore_n (lv' := [(1, .int (zI μ (th + 4) (nI 20).toNatClampNeg)), (0, .ref th)]) hx hb dX4_readStorey_7 rfl hl (by decide) rfl (fun ls hl => ?_)
  refine lv_iload_n hx hb dX4_readStorey_8 rfl (lv_at hl 0 rfl) ?_
  refine lv_bipush (v := (nI 8)) hx hb dX4_readStorey_9 rfl ?_
  refine lv_icmp_ne (tgt := 19) hx hb dX4_readStorey_11 rfl (fun c0 => ?_) (fun c0 => ?_)
  · have hp := zif hp c0
    exact wX4_readStorey_19 X th (zI μ (th + 4) (nI 20).toNatClampNeg) μ _ _ _ hp hB (lv_sub hl [1, 0] rfl)
  · have hp := zit hp c0
    refine lv_aload_n hx hb dX4_readStorey_14 rfl (lv_at hl 1 rfl) ?_
    refine lv_iconst (v := (nI 4)) hx hb dX4_readStorey_15 rfl ?_
    refine z_callv (va_runV (As := [.int (nI 4)]) (rest := []) S (mX4_fails l Γ th (nI 4) μ _ hp) (cwV 1 hts (lw_V q1549 q1551 qs64 q132 q1552) rfl rfl rfl hX4_fails ⟨Nat.le_of_ble_eq_true rfl, Nat.le_of_ble_eq_true rfl⟩) (hB.preV (tT hB) rfl rfl) rfl rfl hl.1 rfl (lv_room (Nat.le_of_ble_eq_true rfl)) dX4_readStorey_16 ⟨Nat.le_refl _, Nat.le_refl _⟩) hB (fun μ1 H locs hp hB => ?_)
    exact wX4_readStorey_19 X th (zI μ (th + 4) (nI 20).toNatClampNeg) μ1 _ _ _ hp hB (lv_sub hl [1, 0] rfl)
def pX4_readTenant_70 (th : Nat) (K47 : Int32 → zM → Prop) (Q : zM → Prop) (x1 : Int32) (μ : zM) : Prop := (pX4_eats th (nI 2) μ fun r2 μ1 => (if r2 = 0 then (pX4_eats th (nI 3) μ1 fun r4 μ3 => (if r4 = 0 then K47 x1 μ3 else (pX4_takes th (nI 0) (nI 99) μ3 fun r6 μ5 => (vp_in ((nI 14) + x1) 1198 ∧ zpI μ5 (th + 4) ((nI 14) + x1).toNatClampNeg r6 fun μ7 => K47 x1 μ7)))) else (pX4_readOn th x1 μ1 fun μ8 => K47 x1 μ8)))
set_option maxHeartbeats 4000000 in
set_option maxRecDepth 100000 in
theorem wX4_readTenant_70 {p : Program} {l : Launch} {e : Env} {s : State} {m : MethodId} {args : Array Value} {below : List Frame} {meth : Method} {c : Code} {Γ : zG} {μ0 : zM} {Q : zM → Prop} {K47 : Int32 → zM → Prop} (X : zCx p m c cX4_readTenant 2 s args RX4 meth none) (th : Nat) (hK47 : ∀ (x1 : Int32) (μ : zM) (H : Heap) (locs : List Loc) (ls : Array Slot), K47 x1 μ → zB Γ (tSh th) (zA μ0) μ0 s μ H locs → lv_has ls 2 [(0, .ref th), (1, .int x1)] → W p l e ({ frames := 8, cells := 0, slots := 0, locals := 174 } : Room) s m args below meth c H locs 0 0 (MQ below (va_Qv Q (zPost Γ (tSh th) μ0) (zA μ0)) args s 0 0 (zA μ0)) (F0 m 47 ls [])) : ∀ (x1 : Int32) (μ : zM) (H : Heap) (locs : List Loc) (ls : Array Slot), pX4_readTenant_70 th K47 Q x1 μ → zB Γ (tSh th) (zA μ0) μ0 s μ H locs → lv_has ls 2 [(0, .ref th), (1, .int x1)] → W p l e ({ frames := 8, cells := 0, slots := 0, locals := 174 } : Room) s m args below meth c H locs 0 0 (MQ below (va_Qv Q (zPost Γ (tSh th) μ0) (zA μ0)) args s 0 0 (zA μ0)) (F0 m 70 ls []) := by
  have S := X.1
  obtain ⟨hx, hb, hml, hown, hts⟩ := X.1
  intro x1 μ H locs ls hp hB hl
  unfold pX4_readTenant_70 at hp
  refine lv_aload_n hx hb dX4_readTenant_70 rfl (lv_at hl 0 rfl) ?_
  refine lv_iconst (v := (nI 2)) hx hb dX4_readTenant_71 rfl ?_
  refine z_calli (va_runV (As := [.int (nI 2)]) (rest := []) S (mX4_eats l Γ th (nI 2) μ _ hp) (cwV 1 hts (lw_V q1565 q1567 qs68 q132 q1568) rfl rfl rfl hX4_eats ⟨Nat.le_of_ble_eq_true rfl, Nat.le_of_ble_eq_true rfl⟩) (hB.preV (tT hB) rfl rfl) rfl rfl hl.1 rfl (lv_room (Nat.le_of_ble_eq_true rfl)) dX4_readTenant_72 ⟨Nat.le_refl _, Nat.le_refl _⟩) hB (fun r2 μ1 H locs hp hB => ?_)
  refine lv_if_eq (tgt := 86) hx hb dX4_readTenant_75 rfl (fun c0 => ?_) (fun c0 => ?_)
  · have hp := zit hp c0
    refine lv_aload_n hx hb dX4_readTenant_86 rfl (lv_at hl 0 rfl) ?_
    refine lv_iconst (v := (nI 3)) hx hb dX4_readTenant_87 rfl ?_
    refine z_calli (va_runV (As := [.int (nI 3)]) (rest := []) S (mX4_eats l Γ th (nI 3) μ1 _ hp) (cwV 1 hts (lw_V q1565 q1567 qs68 q132 q1568) rfl rfl rfl hX4_eats ⟨Nat.le_of_ble_eq_true rfl, Nat.le_of_ble_eq_true rfl⟩) (hB.preV (tT hB) rfl rfl) rfl rfl hl.1 rfl (lv_room (Nat.le_of_ble_eq_true rfl)) dX4_readTenant_88 ⟨Nat.le_refl _, Nat.le_refl _⟩) hB (fun r4 μ3 H locs hp hB => ?_)
    refine lv_if_eq (tgt := 47) hx hb dX4_readTenant_91 rfl (fun c0 => ?_) (fun c0 => ?_)
    · have hp := zit hp c0
      exact hK47 x1 μ3 _ _ _ hp hB (lv_sub hl [0, 1] rfl)
    · have hp := zif hp c0
      refine lv_aload_n hx hb dX4_readTenant_94 rfl (lv_at hl 0 rfl) ?_
      refine g_getr S hB (tT hB) rfl (T := TX4) (N := 38) (C := RX4) rfl in_X4 4 (by decide) (by decide) q1396 (fun _ h9 => h9) (fun _ => rfl) (tA hB 3 rfl).1 dX4_readTenant_95 ?_
      refine lv_bipush (v := (nI 14)) hx hb dX4_readTenant_98 rfl ?_
      refine lv_iload_n hx hb dX4_readTenant_100 rfl (lv_at hl 1 rfl) ?_
      refine lv_iadd hx hb dX4_readTenant_101 ?_
      refine lv_aload_n hx hb dX4_readTenant_102 rfl (lv_at hl 0 rfl) ?_
      refine lv_iconst (v := (nI 0)) hx hb dX4_readTenant_103 rfl ?_
      refine lv_bipush (v := (nI 99)) hx hb dX4_readTenant_104 rfl ?_
      refine z_calli (va_runV (As := [.int (nI 0), .int (nI 99)]) (rest := [.int ((nI 14) + x1), .ref (th + 4)]) S (mX4_takes l Γ th (nI 0) (nI 99) μ3 _ hp) (cwV 2 hts (lw_V q1553 q1555 qs65 q132 q1556) rfl rfl rfl hX4_takes ⟨Nat.le_of_ble_eq_true rfl, Nat.le_of_ble_eq_true rfl⟩) (hB.preV (tT hB) rfl rfl) rfl rfl hl.1 rfl (lv_room (Nat.le_of_ble_eq_true rfl)) dX4_readTenant_106 ⟨Nat.le_refl _, Nat.le_refl _⟩) hB (fun r6 μ5 H locs hp hB => ?_)
      obtain ⟨hi, hp⟩ := hp
      obtain ⟨μ7, eμ7, hp⟩ := zpI_e hp
      refine g_iast S hB (tA hB 3 rfl).2 hi dX4_readTenant_109 (fun H locs hB => ?_)
      rw [← eμ7] at hB
      refine lv_goto (tgt := 47) hx hb dX4_readTenant_110 rfl ?_
      exact hK47 x1 μ7 _ _ _ hp hB (lv_sub hl [0, 1] rfl)
  · have hp := zif hp c0
    refine lv_aload_n hx hb dX4_readTenant_78 rfl (lv_at hl 0 rfl) ?_
    refine lv_iload_n hx hb dX4_readTenant_79 rfl (lv_at hl 1 rfl) ?_
    refine z_callv (va_runV (As := [.int x1]) (rest := []) S (mX4_readOn l Γ th x1 μ1 _ hp) (cwV 1 hts (lw_V q1569 q1571 qs69 q132 q1572) rfl rfl rfl hX4_readOn ⟨Nat.le_of_ble_eq_true rfl, Nat.le_of_ble_eq_true rfl⟩) (hB.preV (tT hB) rfl rfl) rfl rfl hl.1 rfl (lv_room (Nat.le_of_ble_eq_true rfl)) dX4_readTenant_80 ⟨Nat.le_refl _, Nat.le_refl _⟩) hB (fun μ8 H locs hp hB => ?_)
    refine lv_goto (tgt := 47) hx hb dX4_readTenant_83 rfl ?_
    exact hK47 x1 μ8 _ _ _ hp hB (lv_sub hl [0, 1] rfl)
def pX4_readTenant_113 (th : Nat) (Q : zM → Prop) (μ : zM) : Prop := (if (zI μ th 11) = 0 then (vp_in (nI 1) 1198 ∧ (vp_in (nI 1) 1198 ∧ zpI μ (th + 4) (nI 1).toNatClampNeg ((zI μ (th + 4) (nI 1).toNatClampNeg) + (nI 1)) fun μ1 => Q μ1)) else Q μ)
set_option maxHeartbeats 4000000 in
set_option maxRecDepth 100000 in
theorem wX4_readTenant_113 {p : Program} {l : Launch} {e : Env} {s : State} {m : MethodId} {args : Array Value} {below : List Frame} {meth : Method} {c : Code} {Γ : zG} {μ0 : zM} {Q : zM → Prop} (X : zCx p m c cX4_readTenant 2 s args RX4 meth none) (th : Nat) : ∀ (μ : zM) (H : Heap) (locs : List Loc) (ls : Array Slot), pX4_readTenant_113 th Q  μ → zB Γ (tSh th) (zA μ0) μ0 s μ H locs → lv_has ls 2 [(0, .ref th)] → W p l e ({ frames := 8, cells := 0, slots := 0, locals := 174 } : Room) s m args below meth c H locs 0 0 (MQ below (va_Qv Q (zPost Γ (tSh th) μ0) (zA μ0)) args s 0 0 (zA μ0)) (F0 m 113 ls []) := by
  have S := X.1
  obtain ⟨hx, hb, hml, hown, hts⟩ := X.1
  intro  μ H locs ls hp hB hl
  unfold pX4_readTenant_113 at hp
  refine lv_aload_n hx hb dX4_readTenant_113 rfl (lv_at hl 0 rfl) ?_
  refine g_get S hB (tT hB) rfl (T := TX4) (N := 38) (C := RX4) rfl in_X4 11 (by decide) (by decide) q1403 (fun _ h9 => h9) (v := .int (zI μ th 11)) rfl dX4_readTenant_114 ?_
  refine lv_if_ne (tgt := 130) hx hb dX4_readTenant_117 rfl (fun c0 => ?_) (fun c0 => ?_)
  · have hp := zif hp c0
    exact zret_v X hB hp dX4_readTenant_130
  · have hp := zit hp c0
    refine lv_aload_n hx hb dX4_readTenant_120 rfl (lv_at hl 0 rfl) ?_
    refine g_getr S hB (tT hB) rfl (T := TX4) (N := 38) (C := RX4) rfl in_X4 4 (by decide) (by decide) q1396 (fun _ h9 => h9) (fun _ => rfl) (tA hB 3 rfl).1 dX4_readTenant_121 ?_
    refine lv_iconst (v := (nI 1)) hx hb dX4_readTenant_124 rfl ?_
    refine lv_dup2_11 hx hb dX4_readTenant_125 rfl rfl ?_
    obtain ⟨hi, hp⟩ := hp
    refine g_iald S hB (tA hB 3 rfl).2 hi dX4_readTenant_126 ?_
    refine lv_iconst (v := (nI 1)) hx hb dX4_readTenant_127 rfl ?_
    refine lv_iadd hx hb dX4_readTenant_128 ?_
    obtain ⟨hi, hp⟩ := hp
    obtain ⟨μ1, eμ1, hp⟩ := zpI_e hp
    refine g_iast S hB (tA hB 3 rfl).2 hi dX4_readTenant_129 (fun H locs hB => ?_)
    rw [← eμ1] at hB
    exact zret_v X hB hp dX4_readTenant_130
def pX4_readTenant_47 (th : Nat) (Q : zM → Prop) : Nat → Int32 → zM → Prop
  | 0, _, _ => False
  | n + 1, x1, μ => (if (zI μ th 11) = 0 then (pX4_is th (nI 2) μ fun r2 μ1 => (if r2 = 0 then (pX4_is th (nI 3) μ1 fun r4 μ3 => (if r4 = 0 then pX4_readTenant_113 th Q μ3 else pX4_readTenant_70 th (fun v0 ν => pX4_readTenant_47 th Q n v0 ν) Q x1 μ3)) else pX4_readTenant_70 th (fun v0 ν => pX4_readTenant_47 th Q n v0 ν) Q x1 μ1)) else pX4_readTenant_113 th Q μ)
set_option maxHeartbeats 4000000 in
set_option maxRecDepth 100000 in
theorem wX4_readTenant_47 {p : Program} {l : Launch} {e : Env} {s : State} {m : MethodId} {args : Array Value} {below : List Frame} {meth : Method} {c : Code} {Γ : zG} {μ0 : zM} {Q : zM → Prop} (X : zCx p m c cX4_readTenant 2 s args RX4 meth none) (th : Nat) : ∀ (n : Nat) (x1 : Int32) (μ : zM) (H : Heap) (locs : List Loc) (ls : Array Slot), pX4_readTenant_47 th Q n x1 μ → zB Γ (tSh th) (zA μ0) μ0 s μ H locs → lv_has ls 2 [(0, .ref th), (1, .int x1)] → W p l e ({ frames := 8, cells := 0, slots := 0, locals := 174 } : Room) s m args below meth c H locs 0 0 (MQ below (va_Qv Q (zPost Γ (tSh th) μ0) (zA μ0)) args s 0 0 (zA μ0)) (F0 m 47 ls []) := by
  have S := X.1
  obtain ⟨hx, hb, hml, hown, hts⟩ := X.1
  intro n
  induction n with
  | zero =>
    intro x1 μ H locs ls hp
    exact hp.elim
  | succ n ih =>
    intro x1 μ H locs ls hp hB hl
    unfold pX4_readTenant_47 at hp
    refine lv_aload_n hx hb dX4_readTenant_47 rfl (lv_at hl 0 rfl) ?_
    refine g_get S hB (tT hB) rfl (T := TX4) (N := 38) (C := RX4) rfl in_X4 11 (by decide) (by decide) q1403 (fun _ h9 => h9) (v := .int (zI μ th 11)) rfl dX4_readTenant_48 ?_
    refine lv_if_ne (tgt := 113) hx hb dX4_readTenant_51 rfl (fun c0 => ?_) (fun c0 => ?_)
    · have hp := zif hp c0
      exact wX4_readTenant_113 X th μ _ _ _ hp hB (lv_sub hl [0] rfl)
    · have hp := zit hp c0
      refine lv_aload_n hx hb dX4_readTenant_54 rfl (lv_at hl 0 rfl) ?_
      refine lv_iconst (v := (nI 2)) hx hb dX4_readTenant_55 rfl ?_
      refine z_calli (va_runV (As := [.int (nI 2)]) (rest := []) S (mX4_is l Γ th (nI 2) μ _ hp) (cwV 1 hts (lw_V q1557 q1559 qs66 q132 q1560) rfl rfl rfl hX4_is ⟨Nat.le_of_ble_eq_true rfl, Nat.le_of_ble_eq_true rfl⟩) (hB.preV (tT hB) rfl rfl) rfl rfl hl.1 rfl (lv_room (Nat.le_of_ble_eq_true rfl)) dX4_readTenant_56 ⟨Nat.le_refl _, Nat.le_refl _⟩) hB (fun r2 μ1 H locs hp hB => ?_)
      refine lv_if_ne (tgt := 70) hx hb dX4_readTenant_59 rfl (fun c0 => ?_) (fun c0 => ?_)
      · have hp := zif hp c0
        exact wX4_readTenant_70 X th (fun v0 ν H2 L2 ls2 h2 b2 l2 => ih v0 ν H2 L2 ls2 h2 b2 l2) x1 μ1 _ _ _ hp hB (lv_sub hl [0, 1] rfl)
      · have hp := zit hp c0
        refine lv_aload_n hx hb dX4_readTenant_62 rfl (lv_at hl 0 rfl) ?_
        refine lv_iconst (v := (nI 3)) hx hb dX4_readTenant_63 rfl ?_
        refine z_calli (va_runV (As := [.int (nI 3)]) (rest := []) S (mX4_is l Γ th (nI 3) μ1 _ hp) (cwV 1 hts (lw_V q1557 q1559 qs66 q132 q1560) rfl rfl rfl hX4_is ⟨Nat.le_of_ble_eq_true rfl, Nat.le_of_ble_eq_true rfl⟩) (hB.preV (tT hB) rfl rfl) rfl rfl hl.1 rfl (lv_room (Nat.le_of_ble_eq_true rfl)) dX4_readTenant_64 ⟨Nat.le_refl _, Nat.le_refl _⟩) hB (fun r4 μ3 H locs hp hB => ?_)
        refine lv_if_eq (tgt := 113) hx hb dX4_readTenant_67 rfl (fun c0 => ?_) (fun c0 => ?_)
        · have hp := zit hp c0
          exact wX4_readTenant_113 X th μ3 _ _ _ hp hB (lv_sub hl [0] rfl)
        · have hp := zif hp c0
          exact wX4_readTenant_70 X th (fun v0 ν H2 L2 ls2 h2 b2 l2 => ih v0 ν H2 L2 ls2 h2 b2 l2) x1 μ3 _ _ _ hp hB (lv_sub hl [0, 1] rfl)
def pX4_readTenant_18 (th : Nat) (Q : zM → Prop) (x1 : Int32) (μ : zM) : Prop := (if (zI μ th 11) = 0 then (pX4_next th μ fun μ1 => (pX4_takes th (nI 0) (nI 999) μ1 fun r3 μ2 => (vp_in ((nI 29) + x1) 1198 ∧ zpI μ2 (th + 4) ((nI 29) + x1).toNatClampNeg r3 fun μ4 => ∃ k1, pX4_readTenant_47 th Q k1 x1 μ4))) else Q μ)
set_option maxHeartbeats 4000000 in
set_option maxRecDepth 100000 in
theorem wX4_readTenant_18 {p : Program} {l : Launch} {e : Env} {s : State} {m : MethodId} {args : Array Value} {below : List Frame} {meth : Method} {c : Code} {Γ : zG} {μ0 : zM} {Q : zM → Prop} (X : zCx p m c cX4_readTenant 2 s args RX4 meth none) (th : Nat) : ∀ (x1 : Int32) (μ : zM) (H : Heap) (locs : List Loc) (ls : Array Slot), pX4_readTenant_18 th Q x1 μ → zB Γ (tSh th) (zA μ0) μ0 s μ H locs → lv_has ls 2 [(0, .ref th), (1, .int x1)] → W p l e ({ frames := 8, cells := 0, slots := 0, locals := 174 } : Room) s m args below meth c H locs 0 0 (MQ below (va_Qv Q (zPost Γ (tSh th) μ0) (zA μ0)) args s 0 0 (zA μ0)) (F0 m 18 ls []) := by
  have S := X.1
  obtain ⟨hx, hb, hml, hown, hts⟩ := X.1
  intro x1 μ H locs ls hp hB hl
  unfold pX4_readTenant_18 at hp
  refine lv_aload_n hx hb dX4_readTenant_18 rfl (lv_at hl 0 rfl) ?_
  refine g_get S hB (tT hB) rfl (T := TX4) (N := 38) (C := RX4) rfl in_X4 11 (by decide) (by decide) q1403 (fun _ h9 => h9) (v := .int (zI μ th 11)) rfl dX4_readTenant_19 ?_
  refine lv_if_eq (tgt := 26) hx hb dX4_readTenant_22 rfl (fun c0 => ?_) (fun c0 => ?_)
  · have hp := zit hp c0
    refine lv_aload_n hx hb dX4_readTenant_26 rfl (lv_at hl 0 rfl) ?_
    refine z_callv (va_runV (As := []) (rest := []) S (mX4_next l Γ th μ _ hp) (cwV 0 hts (lw_V q1519 q1521 qs59 q132 q1522) rfl rfl rfl hX4_next ⟨Nat.le_of_ble_eq_true rfl, Nat.le_of_ble_eq_true rfl⟩) (hB.preV (tT hB) rfl rfl) rfl rfl hl.1 rfl (lv_room (Nat.le_of_ble_eq_true rfl)) dX4_readTenant_27 ⟨Nat.le_refl _, Nat.le_refl _⟩) hB (fun μ1 H locs hp hB => ?_)
    refine lv_aload_n hx hb dX4_readTenant_30 rfl (lv_at hl 0 rfl) ?_
    refine g_getr S hB (tT hB) rfl (T := TX4) (N := 38) (C := RX4) rfl in_X4 4 (by decide) (by decide) q1396 (fun _ h9 => h9) (fun _ => rfl) (tA hB 3 rfl).1 dX4_readTenant_31 ?_
    refine lv_bipush (v := (nI 29)) hx hb dX4_readTenant_34 rfl ?_
    refine lv_iload_n hx hb dX4_readTenant_36 rfl (lv_at hl 1 rfl) ?_
    refine lv_iadd hx hb dX4_readTenant_37 ?_
    refine lv_aload_n hx hb dX4_readTenant_38 rfl (lv_at hl 0 rfl) ?_
    refine lv_iconst (v := (nI 0)) hx hb dX4_readTenant_39 rfl ?_
    refine lv_sipush (v := (nI 999)) hx hb dX4_readTenant_40 rfl ?_
    refine z_calli (va_runV (As := [.int (nI 0), .int (nI 999)]) (rest := [.int ((nI 29) + x1), .ref (th + 4)]) S (mX4_takes l Γ th (nI 0) (nI 999) μ1 _ hp) (cwV 2 hts (lw_V q1553 q1555 qs65 q132 q1556) rfl rfl rfl hX4_takes ⟨Nat.le_of_ble_eq_true rfl, Nat.le_of_ble_eq_true rfl⟩) (hB.preV (tT hB) rfl rfl) rfl rfl hl.1 rfl (lv_room (Nat.le_of_ble_eq_true rfl)) dX4_readTenant_43 ⟨Nat.le_refl _, Nat.le_refl _⟩) hB (fun r3 μ2 H locs hp hB => ?_)
    obtain ⟨hi, hp⟩ := hp
    obtain ⟨μ4, eμ4, hp⟩ := zpI_e hp
    refine g_iast S hB (tA hB 3 rfl).2 hi dX4_readTenant_46 (fun H locs hB => ?_)
    rw [← eμ4] at hB
    obtain ⟨n1, hp⟩ := hp
    exact wX4_readTenant_47 X th n1 x1 μ4 _ _ _ hp hB (lv_sub hl [0, 1] rfl)
  · have hp := zif hp c0
    exact zret_v X hB hp dX4_readTenant_25
def pX4_readTenant (th : Nat) (μ : zM) (Q : zM → Prop) : Prop := (vp_in (nI 1) 1198 ∧ (if (zI μ (th + 4) (nI 1).toNatClampNeg) = (nI 6) then (pX4_fails th (nI 4) μ fun μ1 => pX4_readTenant_18 th Q (zI μ (th + 4) (nI 1).toNatClampNeg) μ1) else pX4_readTenant_18 th Q (zI μ (th + 4) (nI 1).toNatClampNeg) μ))
theorem hX4_readTenant : yX4_readTenant.cls = "SunkTowerModel" ∧ yX4_readTenant.cls ≠ "java/lang/invoke/MethodHandle" ∧ yX4_readTenant.cls ≠ "java/lang/invoke/VarHandle" ∧ (parseMethodDescriptor yX4_readTenant.desc).map (fun d => d.parameters.length) = some 0 := by decide +kernel
set_option maxHeartbeats 4000000 in
set_option maxRecDepth 100000 in
theorem mX4_readTenant (l : Launch) (Γ : zG) (th : Nat) (μ : zM) (Q : zM → Prop) (hp : pX4_readTenant th μ Q) : Met l yX4_readTenant (ws_ yX4_readTenant cX4_readTenant 2 none) ({ frames := 8, cells := 0, slots := 0, locals := 174 } : Room) (va_Pc [.ref th] (zPre Γ (tSh th) μ)) (va_Qv Q (zPost Γ (tSh th) μ) (zA μ)) 0 0 (zA μ) := by
  refine zstart (by decide) (Nat.le_of_ble_eq_true rfl) ?_
  intro p e s m below meth c ls X hnm hB hl
  have X : zCx p m c cX4_readTenant 2 s [.ref th].toArray RX4 meth none := X
  have S := X.1
  obtain ⟨hx, hb, hml, hown, hts⟩ := X.1
  have hl : lv_has ls 2 [(0, .ref th)] := hl
  unfold pX4_readTenant at hp
  refine lv_aload_n hx hb dX4_readTenant_0 rfl (lv_at hl 0 rfl) ?_
  refine g_getr S hB (tT hB) rfl (T := TX4) (N := 38) (C := RX4) rfl in_X4 4 (by decide) (by decide) q1396 (fun _ h9 => h9) (fun _ => rfl) (tA hB 3 rfl).1 dX4_readTenant_1 ?_
  refine lv_iconst (v := (nI 1)) hx hb dX4_readTenant_4 rfl ?_
  obtain ⟨hi, hp⟩ := hp
  refine g_iald S hB (tA hB 3 rfl).2 hi dX4_readTenant_5 ?_
  refine lv_istore_n (lv' := [(1, .int (zI μ (th + 4) (nI 1).toNatClampNeg)), (0, .ref th)]) hx hb dX4_readTenant_6 rfl hl (by decide) rfl (fun ls hl => ?_)
  refine lv_iload_n hx hb dX4_readTenant_7 rfl (lv_at hl 0 rfl) ?_
  refine lv_bipush (v := (nI 6)) hx hb dX4_readTenant_8 rfl ?_
  refine lv_icmp_ne (tgt := 18) hx hb dX4_readTenant_10 rfl (fun c0 => ?_) (fun c0 => ?_)
  · have hp := zif hp c0
    exact wX4_readTenant_18 X th (zI μ (th + 4) (nI 1).toNatClampNeg) μ _ _ _ hp hB (lv_sub hl [1, 0] rfl)
  · have hp := zit hp c0
    refine lv_aload_n hx hb dX4_readTenant_13 rfl (lv_at hl 1 rfl) ?_
    refine lv_iconst (v := (nI 4)) hx hb dX4_readTenant_14 rfl ?_
    refine z_callv (va_runV (As := [.int (nI 4)]) (rest := []) S (mX4_fails l Γ th (nI 4) μ _ hp) (cwV 1 hts (lw_V q1549 q1551 qs64 q132 q1552) rfl rfl rfl hX4_fails ⟨Nat.le_of_ble_eq_true rfl, Nat.le_of_ble_eq_true rfl⟩) (hB.preV (tT hB) rfl rfl) rfl rfl hl.1 rfl (lv_room (Nat.le_of_ble_eq_true rfl)) dX4_readTenant_15 ⟨Nat.le_refl _, Nat.le_refl _⟩) hB (fun μ1 H locs hp hB => ?_)
    exact wX4_readTenant_18 X th (zI μ (th + 4) (nI 1).toNatClampNeg) μ1 _ _ _ hp hB (lv_sub hl [1, 0] rfl)
def pX4_readSum_41 (A : Nat → Int32 → zM → (zM → Prop) → Prop) (th : Nat) (x1 : Int32) (K5 : zM → Prop) (Q : zM → Prop) (y1 : Int32) (μ : zM) : Prop := (pX4_next th μ fun μ1 => (pX4_readTerm_of A th x1 μ1 fun μ2 => (pX4_codes th y1 μ2 fun μ3 => K5 μ3)))
set_option maxHeartbeats 4000000 in
set_option maxRecDepth 100000 in
theorem wX4_readSum_41 {p : Program} {l : Launch} {e : Env} {s : State} {m : MethodId} {args : Array Value} {below : List Frame} {meth : Method} {c : Code} {Γ : zG} {μ0 : zM} {Q : zM → Prop} {K5 : zM → Prop} (X : zCx p m c cX4_readSum 3 s args RX4 meth none) (A : Nat → Int32 → zM → (zM → Prop) → Prop) (fa la : Nat) (hA : ∀ (l : Launch) (Γ : zG) (th : Nat) (x1 : Int32) (μ : zM) (Q : (zM → Prop)), A th x1 μ Q → Met l yX4_readAtom (ws_ yX4_readAtom cX4_readAtom 2 none) { frames := fa, cells := 0, slots := 0, locals := la } (va_Pc [.ref th, .int x1] (zPre Γ (tSh th) μ)) (va_Qv Q (zPost Γ (tSh th) μ) (zA μ)) 0 0 (zA μ)) (th : Nat) (x1 : Int32) (hK5 : ∀ (μ : zM) (H : Heap) (locs : List Loc) (ls : Array Slot), K5  μ → zB Γ (tSh th) (zA μ0) μ0 s μ H locs → lv_has ls 3 [(0, .ref th), (1, .int x1)] → W p l e ({ frames := fa + 8, cells := 0, slots := 0, locals := la + 171 } : Room) s m args below meth c H locs 0 0 (MQ below (va_Qv Q (zPost Γ (tSh th) μ0) (zA μ0)) args s 0 0 (zA μ0)) (F0 m 5 ls [])) : ∀ (y1 : Int32) (μ : zM) (H : Heap) (locs : List Loc) (ls : Array Slot), pX4_readSum_41 A th x1 K5 Q y1 μ → zB Γ (tSh th) (zA μ0) μ0 s μ H locs → lv_has ls 3 [(0, .ref th), (1, .int x1)] → W p l e ({ frames := fa + 8, cells := 0, slots := 0, locals := la + 171 } : Room) s m args below meth c H locs 0 0 (MQ below (va_Qv Q (zPost Γ (tSh th) μ0) (zA μ0)) args s 0 0 (zA μ0)) (F0 m 41 ls [.int y1]) := by
  have S := X.1
  obtain ⟨hx, hb, hml, hown, hts⟩ := X.1
  intro y1 μ H locs ls hp hB hl
  unfold pX4_readSum_41 at hp
  refine lv_istore_n (lv' := [(2, .int y1), (0, .ref th), (1, .int x1)]) hx hb dX4_readSum_41 rfl hl (by decide) rfl (fun ls hl => ?_)
  refine lv_aload_n hx hb dX4_readSum_42 rfl (lv_at hl 1 rfl) ?_
  refine z_callv (va_runV (As := []) (rest := []) S (mX4_next l Γ th μ _ hp) (cwV 0 hts (lw_V q1519 q1521 qs59 q132 q1522) rfl rfl rfl hX4_next ⟨by dsimp only; omega, by dsimp only; omega⟩) (hB.preV (tT hB) rfl rfl) rfl rfl hl.1 rfl (lv_room (Nat.le_of_ble_eq_true rfl)) dX4_readSum_43 ⟨Nat.le_refl _, Nat.le_refl _⟩) hB (fun μ1 H locs hp hB => ?_)
  refine lv_aload_n hx hb dX4_readSum_46 rfl (lv_at hl 1 rfl) ?_
  refine lv_iload_n hx hb dX4_readSum_47 rfl (lv_at hl 2 rfl) ?_
  refine z_callv (va_runV (As := [.int x1]) (rest := []) S (mX4_readTerm_of A fa la hA l Γ th x1 μ1 _ hp) (cwV 1 hts (lw_V q1581 q1583 qs72 q132 q1584) rfl rfl rfl hX4_readTerm ⟨by dsimp only; omega, by dsimp only; omega⟩) (hB.preV (tT hB) rfl rfl) rfl rfl hl.1 rfl (lv_room (Nat.le_of_ble_eq_true rfl)) dX4_readSum_48 ⟨Nat.le_refl _, Nat.le_refl _⟩) hB (fun μ2 H locs hp hB => ?_)
  refine lv_aload_n hx hb dX4_readSum_51 rfl (lv_at hl 1 rfl) ?_
  refine lv_iload_n hx hb dX4_readSum_52 rfl (lv_at hl 0 rfl) ?_
  refine z_callv (va_runV (As := [.int y1]) (rest := []) S (mX4_codes l Γ th y1 μ2 _ hp) (cwV 1 hts (lw_V q1589 q1591 qs74 q132 q1592) rfl rfl rfl hX4_codes ⟨by dsimp only; omega, by dsimp only; omega⟩) (hB.preV (tT hB) rfl rfl) rfl rfl hl.1 rfl (lv_room (Nat.le_of_ble_eq_true rfl)) dX4_readSum_53 ⟨Nat.le_refl _, Nat.le_refl _⟩) hB (fun μ3 H locs hp hB => ?_)
  refine lv_goto (tgt := 5) hx hb dX4_readSum_56 rfl ?_
  exact hK5  μ3 _ _ _ hp hB (lv_sub hl [1, 2] rfl)
def pX4_readSum_23 (A : Nat → Int32 → zM → (zM → Prop) → Prop) (th : Nat) (x1 : Int32) (K5 : zM → Prop) (Q : zM → Prop) (μ : zM) : Prop := (if (zI μ th 9) = (nI 32) then pX4_readSum_41 A th x1 K5 Q (nI 3000) μ else pX4_readSum_41 A th x1 K5 Q (nI 3001) μ)
set_option maxHeartbeats 4000000 in
set_option maxRecDepth 100000 in
theorem wX4_readSum_23 {p : Program} {l : Launch} {e : Env} {s : State} {m : MethodId} {args : Array Value} {below : List Frame} {meth : Method} {c : Code} {Γ : zG} {μ0 : zM} {Q : zM → Prop} {K5 : zM → Prop} (X : zCx p m c cX4_readSum 3 s args RX4 meth none) (A : Nat → Int32 → zM → (zM → Prop) → Prop) (fa la : Nat) (hA : ∀ (l : Launch) (Γ : zG) (th : Nat) (x1 : Int32) (μ : zM) (Q : (zM → Prop)), A th x1 μ Q → Met l yX4_readAtom (ws_ yX4_readAtom cX4_readAtom 2 none) { frames := fa, cells := 0, slots := 0, locals := la } (va_Pc [.ref th, .int x1] (zPre Γ (tSh th) μ)) (va_Qv Q (zPost Γ (tSh th) μ) (zA μ)) 0 0 (zA μ)) (th : Nat) (x1 : Int32) (hK5 : ∀ (μ : zM) (H : Heap) (locs : List Loc) (ls : Array Slot), K5  μ → zB Γ (tSh th) (zA μ0) μ0 s μ H locs → lv_has ls 3 [(0, .ref th), (1, .int x1)] → W p l e ({ frames := fa + 8, cells := 0, slots := 0, locals := la + 171 } : Room) s m args below meth c H locs 0 0 (MQ below (va_Qv Q (zPost Γ (tSh th) μ0) (zA μ0)) args s 0 0 (zA μ0)) (F0 m 5 ls [])) : ∀ (μ : zM) (H : Heap) (locs : List Loc) (ls : Array Slot), pX4_readSum_23 A th x1 K5 Q  μ → zB Γ (tSh th) (zA μ0) μ0 s μ H locs → lv_has ls 3 [(0, .ref th), (1, .int x1)] → W p l e ({ frames := fa + 8, cells := 0, slots := 0, locals := la + 171 } : Room) s m args below meth c H locs 0 0 (MQ below (va_Qv Q (zPost Γ (tSh th) μ0) (zA μ0)) args s 0 0 (zA μ0)) (F0 m 23 ls []) := by
  have S := X.1
  obtain ⟨hx, hb, hml, hown, hts⟩ := X.1
  intro  μ H locs ls hp hB hl
  unfold pX4_readSum_23 at hp
  refine lv_aload_n hx hb dX4_readSum_23 rfl (lv_at hl 0 rfl) ?_
  refine g_get S hB (tT hB) rfl (T := TX4) (N := 38) (C := RX4) rfl in_X4 9 (by decide) (by decide) q1401 (fun _ h9 => h9) (v := .int (zI μ th 9)) rfl dX4_readSum_24 ?_
  refine lv_bipush (v := (nI 32)) hx hb dX4_readSum_27 rfl ?_
  refine lv_icmp_ne (tgt := 38) hx hb dX4_readSum_29 rfl (fun c0 => ?_) (fun c0 => ?_)
  · have hp := zif hp c0
    refine lv_sipush (v := (nI 3001)) hx hb dX4_readSum_38 rfl ?_
    exact wX4_readSum_41 X A fa la hA th x1 hK5 (nI 3001) μ _ _ _ hp hB (lv_sub hl [0, 1] rfl)
  · have hp := zit hp c0
    refine lv_sipush (v := (nI 3000)) hx hb dX4_readSum_32 rfl ?_
    refine lv_goto (tgt := 41) hx hb dX4_readSum_35 rfl ?_
    exact wX4_readSum_41 X A fa la hA th x1 hK5 (nI 3000) μ _ _ _ hp hB (lv_sub hl [0, 1] rfl)
def pX4_readSum_5 (A : Nat → Int32 → zM → (zM → Prop) → Prop) (th : Nat) (x1 : Int32) (Q : zM → Prop) : Nat → zM → Prop
  | 0, _ => False
  | n + 1, μ => (pX4_is th (nI 32) μ fun r2 μ1 => (if r2 = 0 then (pX4_is th (nI 33) μ1 fun r4 μ3 => (if r4 = 0 then Q μ3 else pX4_readSum_23 A th x1 (fun  ν => pX4_readSum_5 A th x1 Q n ν) Q μ3)) else pX4_readSum_23 A th x1 (fun  ν => pX4_readSum_5 A th x1 Q n ν) Q μ1))
set_option maxHeartbeats 4000000 in
set_option maxRecDepth 100000 in
theorem wX4_readSum_5 {p : Program} {l : Launch} {e : Env} {s : State} {m : MethodId} {args : Array Value} {below : List Frame} {meth : Method} {c : Code} {Γ : zG} {μ0 : zM} {Q : zM → Prop} (X : zCx p m c cX4_readSum 3 s args RX4 meth none) (A : Nat → Int32 → zM → (zM → Prop) → Prop) (fa la : Nat) (hA : ∀ (l : Launch) (Γ : zG) (th : Nat) (x1 : Int32) (μ : zM) (Q : (zM → Prop)), A th x1 μ Q → Met l yX4_readAtom (ws_ yX4_readAtom cX4_readAtom 2 none) { frames := fa, cells := 0, slots := 0, locals := la } (va_Pc [.ref th, .int x1] (zPre Γ (tSh th) μ)) (va_Qv Q (zPost Γ (tSh th) μ) (zA μ)) 0 0 (zA μ)) (th : Nat) (x1 : Int32) : ∀ (n : Nat) (μ : zM) (H : Heap) (locs : List Loc) (ls : Array Slot), pX4_readSum_5 A th x1 Q n  μ → zB Γ (tSh th) (zA μ0) μ0 s μ H locs → lv_has ls 3 [(0, .ref th), (1, .int x1)] → W p l e ({ frames := fa + 8, cells := 0, slots := 0, locals := la + 171 } : Room) s m args below meth c H locs 0 0 (MQ below (va_Qv Q (zPost Γ (tSh th) μ0) (zA μ0)) args s 0 0 (zA μ0)) (F0 m 5 ls []) := by
  have S := X.1
  obtain ⟨hx, hb, hml, hown, hts⟩ := X.1
  intro n
  induction n with
  | zero =>
    intro  μ H locs ls hp
    exact hp.elim
  | succ n ih =>
    intro  μ H locs ls hp hB hl
    unfold pX4_readSum_5 at hp
    refine lv_aload_n hx hb dX4_readSum_5 rfl (lv_at hl 0 rfl) ?_
    refine lv_bipush (v := (nI 32)) hx hb dX4_readSum_6 rfl ?_
    refine z_calli (va_runV (As := [.int (nI 32)]) (rest := []) S (mX4_is l Γ th (nI 32) μ _ hp) (cwV 1 hts (lw_V q1557 q1559 qs66 q132 q1560) rfl rfl rfl hX4_is ⟨by dsimp only; omega, by dsimp only; omega⟩) (hB.preV (tT hB) rfl rfl) rfl rfl hl.1 rfl (lv_room (Nat.le_of_ble_eq_true rfl)) dX4_readSum_8 ⟨Nat.le_refl _, Nat.le_refl _⟩) hB (fun r2 μ1 H locs hp hB => ?_)
    refine lv_if_ne (tgt := 23) hx hb dX4_readSum_11 rfl (fun c0 => ?_) (fun c0 => ?_)
    · have hp := zif hp c0
      exact wX4_readSum_23 X A fa la hA th x1 (fun  ν H2 L2 ls2 h2 b2 l2 => ih  ν H2 L2 ls2 h2 b2 l2) μ1 _ _ _ hp hB (lv_sub hl [0, 1] rfl)
    · have hp := zit hp c0
      refine lv_aload_n hx hb dX4_readSum_14 rfl (lv_at hl 0 rfl) ?_
      refine lv_bipush (v := (nI 33)) hx hb dX4_readSum_15 rfl ?_
      refine z_calli (va_runV (As := [.int (nI 33)]) (rest := []) S (mX4_is l Γ th (nI 33) μ1 _ hp) (cwV 1 hts (lw_V q1557 q1559 qs66 q132 q1560) rfl rfl rfl hX4_is ⟨by dsimp only; omega, by dsimp only; omega⟩) (hB.preV (tT hB) rfl rfl) rfl rfl hl.1 rfl (lv_room (Nat.le_of_ble_eq_true rfl)) dX4_readSum_17 ⟨Nat.le_refl _, Nat.le_refl _⟩) hB (fun r4 μ3 H locs hp hB => ?_)
      refine lv_if_eq (tgt := 59) hx hb dX4_readSum_20 rfl (fun c0 => ?_) (fun c0 => ?_)
      · have hp := zit hp c0
        exact zret_v X hB hp dX4_readSum_59
      · have hp := zif hp c0
        exact wX4_readSum_23 X A fa la hA th x1 (fun  ν H2 L2 ls2 h2 b2 l2 => ih  ν H2 L2 ls2 h2 b2 l2) μ3 _ _ _ hp hB (lv_sub hl [0, 1] rfl)
def pX4_readSum_of (A : Nat → Int32 → zM → (zM → Prop) → Prop) (th : Nat) (x1 : Int32) (μ : zM) (Q : zM → Prop) : Prop := (pX4_readTerm_of A th x1 μ fun μ1 => ∃ k1, pX4_readSum_5 A th x1 Q k1 μ1)
theorem hX4_readSum : yX4_readSum.cls = "SunkTowerModel" ∧ yX4_readSum.cls ≠ "java/lang/invoke/MethodHandle" ∧ yX4_readSum.cls ≠ "java/lang/invoke/VarHandle" ∧ (parseMethodDescriptor yX4_readSum.desc).map (fun d => d.parameters.length) = some 1 := by decide +kernel
set_option maxHeartbeats 4000000 in
set_option maxRecDepth 100000 in
theorem mX4_readSum_of (A : Nat → Int32 → zM → (zM → Prop) → Prop) (fa la : Nat) (hA : ∀ (l : Launch) (Γ : zG) (th : Nat) (x1 : Int32) (μ : zM) (Q : (zM → Prop)), A th x1 μ Q → Met l yX4_readAtom (ws_ yX4_readAtom cX4_readAtom 2 none) { frames := fa, cells := 0, slots := 0, locals := la } (va_Pc [.ref th, .int x1] (zPre Γ (tSh th) μ)) (va_Qv Q (zPost Γ (tSh th) μ) (zA μ)) 0 0 (zA μ)) (l : Launch) (Γ : zG) (th : Nat) (x1 : Int32) (μ : zM) (Q : zM → Prop) (hp : pX4_readSum_of A th x1 μ Q) : Met l yX4_readSum (ws_ yX4_readSum cX4_readSum 3 none) ({ frames := fa + 8, cells := 0, slots := 0, locals := la + 171 } : Room) (va_Pc [.ref th, .int x1] (zPre Γ (tSh th) μ)) (va_Qv Q (zPost Γ (tSh th) μ) (zA μ)) 0 0 (zA μ) := by
  refine zstart (by decide) (Nat.le_of_ble_eq_true rfl) ?_
  intro p e s m below meth c ls X hnm hB hl
  have X : zCx p m c cX4_readSum 3 s [.ref th, .int x1].toArray RX4 meth none := X
  have S := X.1
  obtain ⟨hx, hb, hml, hown, hts⟩ := X.1
  have hl : lv_has ls 3 [(0, .ref th), (1, .int x1)] := hl
  unfold pX4_readSum_of at hp
  refine lv_aload_n hx hb dX4_readSum_0 rfl (lv_at hl 0 rfl) ?_
  refine lv_iload_n hx hb dX4_readSum_1 rfl (lv_at hl 1 rfl) ?_
  refine z_callv (va_runV (As := [.int x1]) (rest := []) S (mX4_readTerm_of A fa la hA l Γ th x1 μ _ hp) (cwV 1 hts (lw_V q1581 q1583 qs72 q132 q1584) rfl rfl rfl hX4_readTerm ⟨by dsimp only; omega, by dsimp only; omega⟩) (hB.preV (tT hB) rfl rfl) rfl rfl hl.1 rfl (lv_room (Nat.le_of_ble_eq_true rfl)) dX4_readSum_2 ⟨Nat.le_refl _, Nat.le_refl _⟩) hB (fun μ1 H locs hp hB => ?_)
  obtain ⟨n1, hp⟩ := hp
  exact wX4_readSum_5 X A fa la hA th x1 n1 μ1 _ _ _ hp hB (lv_sub hl [0, 1] rfl)
def pX4_readAtom_66 (A : Nat → Int32 → zM → (zM → Prop) → Prop) (th : Nat) (x1 : Int32) (Q : zM → Prop) (μ : zM) : Prop := (pX4_is th (nI 35) μ fun r2 μ1 => (if r2 = 0 then (pX4_fails th (nI 2) μ1 fun μ3 => Q μ3) else (pX4_goesIn th x1 μ1 fun r5 μ4 => (if r5 = 0 then Q μ4 else (pX4_readSum_of A th (x1 + (nI 1)) μ4 fun μ6 => (pX4_eats th (nI 36) μ6 fun r8 μ7 => (if r8 = 0 then (pX4_fails th (nI 2) μ7 fun μ9 => Q μ9) else Q μ7)))))))
set_option maxHeartbeats 4000000 in
set_option maxRecDepth 100000 in
theorem wX4_readAtom_66 {p : Program} {l : Launch} {e : Env} {s : State} {m : MethodId} {args : Array Value} {below : List Frame} {meth : Method} {c : Code} {Γ : zG} {μ0 : zM} {Q : zM → Prop} (X : zCx p m c cX4_readAtom 2 s args RX4 meth none) (A : Nat → Int32 → zM → (zM → Prop) → Prop) (fa la : Nat) (hA : ∀ (l : Launch) (Γ : zG) (th : Nat) (x1 : Int32) (μ : zM) (Q : (zM → Prop)), A th x1 μ Q → Met l yX4_readAtom (ws_ yX4_readAtom cX4_readAtom 2 none) { frames := fa, cells := 0, slots := 0, locals := la } (va_Pc [.ref th, .int x1] (zPre Γ (tSh th) μ)) (va_Qv Q (zPost Γ (tSh th) μ) (zA μ)) 0 0 (zA μ)) (th : Nat) (x1 : Int32) : ∀ (μ : zM) (H : Heap) (locs : List Loc) (ls : Array Slot), pX4_readAtom_66 A th x1 Q  μ → zB Γ (tSh th) (zA μ0) μ0 s μ H locs → lv_has ls 2 [(0, .ref th), (1, .int x1)] → W p l e ({ frames := fa + 9, cells := 0, slots := 0, locals := la + 193 } : Room) s m args below meth c H locs 0 0 (MQ below (va_Qv Q (zPost Γ (tSh th) μ0) (zA μ0)) args s 0 0 (zA μ0)) (F0 m 66 ls []) := by
  have S := X.1
  obtain ⟨hx, hb, hml, hown, hts⟩ := X.1
  intro  μ H locs ls hp hB hl
  unfold pX4_readAtom_66 at hp
  refine lv_aload_n hx hb dX4_readAtom_66 rfl (lv_at hl 0 rfl) ?_
  refine lv_bipush (v := (nI 35)) hx hb dX4_readAtom_67 rfl ?_
  refine z_calli (va_runV (As := [.int (nI 35)]) (rest := []) S (mX4_is l Γ th (nI 35) μ _ hp) (cwV 1 hts (lw_V q1557 q1559 qs66 q132 q1560) rfl rfl rfl hX4_is ⟨by dsimp only; omega, by dsimp only; omega⟩) (hB.preV (tT hB) rfl rfl) rfl rfl hl.1 rfl (lv_room (Nat.le_of_ble_eq_true rfl)) dX4_readAtom_69 ⟨Nat.le_refl _, Nat.le_refl _⟩) hB (fun r2 μ1 H locs hp hB => ?_)
  refine lv_if_eq (tgt := 108) hx hb dX4_readAtom_72 rfl (fun c0 => ?_) (fun c0 => ?_)
  · have hp := zit hp c0
    refine lv_aload_n hx hb dX4_readAtom_108 rfl (lv_at hl 0 rfl) ?_
    refine lv_iconst (v := (nI 2)) hx hb dX4_readAtom_109 rfl ?_
    refine z_callv (va_runV (As := [.int (nI 2)]) (rest := []) S (mX4_fails l Γ th (nI 2) μ1 _ hp) (cwV 1 hts (lw_V q1549 q1551 qs64 q132 q1552) rfl rfl rfl hX4_fails ⟨by dsimp only; omega, by dsimp only; omega⟩) (hB.preV (tT hB) rfl rfl) rfl rfl hl.1 rfl (lv_room (Nat.le_of_ble_eq_true rfl)) dX4_readAtom_110 ⟨Nat.le_refl _, Nat.le_refl _⟩) hB (fun μ3 H locs hp hB => ?_)
    exact zret_v X hB hp dX4_readAtom_113
  · have hp := zif hp c0
    refine lv_aload_n hx hb dX4_readAtom_75 rfl (lv_at hl 0 rfl) ?_
    refine lv_iload_n hx hb dX4_readAtom_76 rfl (lv_at hl 1 rfl) ?_
    refine z_calli (va_runV (As := [.int x1]) (rest := []) S (mX4_goesIn l Γ th x1 μ1 _ hp) (cwV 1 hts (lw_V q1597 q1599 qs76 q132 q1600) rfl rfl rfl hX4_goesIn ⟨by dsimp only; omega, by dsimp only; omega⟩) (hB.preV (tT hB) rfl rfl) rfl rfl hl.1 rfl (lv_room (Nat.le_of_ble_eq_true rfl)) dX4_readAtom_77 ⟨Nat.le_refl _, Nat.le_refl _⟩) hB (fun r5 μ4 H locs hp hB => ?_)
    refine lv_if_ne (tgt := 84) hx hb dX4_readAtom_80 rfl (fun c0 => ?_) (fun c0 => ?_)
    · have hp := zif hp c0
      refine lv_aload_n hx hb dX4_readAtom_84 rfl (lv_at hl 0 rfl) ?_
      refine lv_iload_n hx hb dX4_readAtom_85 rfl (lv_at hl 1 rfl) ?_
      refine lv_iconst (v := (nI 1)) hx hb dX4_readAtom_86 rfl ?_
      refine lv_iadd hx hb dX4_readAtom_87 ?_
      refine z_callv (va_runV (As := [.int (x1 + (nI 1))]) (rest := []) S (mX4_readSum_of A fa la hA l Γ th (x1 + (nI 1)) μ4 _ hp) (cwV 1 hts (lw_V q1577 q1579 qs71 q132 q1580) rfl rfl rfl hX4_readSum ⟨by dsimp only; omega, by dsimp only; omega⟩) (hB.preV (tT hB) rfl rfl) rfl rfl hl.1 rfl (lv_room (Nat.le_of_ble_eq_true rfl)) dX4_readAtom_88 ⟨Nat.le_refl _, Nat.le_refl _⟩) hB (fun μ6 H locs hp hB => ?_)
      refine lv_aload_n hx hb dX4_readAtom_91 rfl (lv_at hl 0 rfl) ?_
      refine lv_bipush (v := (nI 36)) hx hb dX4_readAtom_92 rfl ?_
      refine z_calli (va_runV (As := [.int (nI 36)]) (rest := []) S (mX4_eats l Γ th (nI 36) μ6 _ hp) (cwV 1 hts (lw_V q1565 q1567 qs68 q132 q1568) rfl rfl rfl hX4_eats ⟨by dsimp only; omega, by dsimp only; omega⟩) (hB.preV (tT hB) rfl rfl) rfl rfl hl.1 rfl (lv_room (Nat.le_of_ble_eq_true rfl)) dX4_readAtom_94 ⟨Nat.le_refl _, Nat.le_refl _⟩) hB (fun r8 μ7 H locs hp hB => ?_)
      refine lv_if_ne (tgt := 113) hx hb dX4_readAtom_97 rfl (fun c0 => ?_) (fun c0 => ?_)
      · have hp := zif hp c0
        exact zret_v X hB hp dX4_readAtom_113
      · have hp := zit hp c0
        refine lv_aload_n hx hb dX4_readAtom_100 rfl (lv_at hl 0 rfl) ?_
        refine lv_iconst (v := (nI 2)) hx hb dX4_readAtom_101 rfl ?_
        refine z_callv (va_runV (As := [.int (nI 2)]) (rest := []) S (mX4_fails l Γ th (nI 2) μ7 _ hp) (cwV 1 hts (lw_V q1549 q1551 qs64 q132 q1552) rfl rfl rfl hX4_fails ⟨by dsimp only; omega, by dsimp only; omega⟩) (hB.preV (tT hB) rfl rfl) rfl rfl hl.1 rfl (lv_room (Nat.le_of_ble_eq_true rfl)) dX4_readAtom_102 ⟨Nat.le_refl _, Nat.le_refl _⟩) hB (fun μ9 H locs hp hB => ?_)
        refine lv_goto (tgt := 113) hx hb dX4_readAtom_105 rfl ?_
        exact zret_v X hB hp dX4_readAtom_113
    · have hp := zit hp c0
      exact zret_v X hB hp dX4_readAtom_83
def pX4_readAtom_of (A : Nat → Int32 → zM → (zM → Prop) → Prop) (th : Nat) (x1 : Int32) (μ : zM) (Q : zM → Prop) : Prop := (pX4_is th (nI 23) μ fun r2 μ1 => (if r2 = 0 then (if (zI μ1 th 11) = 0 then (pX4_wordOf th (zI μ1 th 9) μ1 fun r4 μ3 => (if r4 = (-1 : Int32) then pX4_readAtom_66 A th x1 Q μ3 else (pX4_wordOf th (zI μ3 th 9) μ3 fun r6 μ5 => (pX4_codes th ((nI 1000) + r6) μ5 fun μ7 => (pX4_next th μ7 fun μ8 => Q μ8))))) else pX4_readAtom_66 A th x1 Q μ1) else (pX4_codes th (zI μ1 th 10) μ1 fun μ9 => (pX4_next th μ9 fun μ10 => Q μ10))))
set_option maxHeartbeats 4000000 in
set_option maxRecDepth 100000 in
theorem mX4_readAtom_of (A : Nat → Int32 → zM → (zM → Prop) → Prop) (fa la : Nat) (hA : ∀ (l : Launch) (Γ : zG) (th : Nat) (x1 : Int32) (μ : zM) (Q : (zM → Prop)), A th x1 μ Q → Met l yX4_readAtom (ws_ yX4_readAtom cX4_readAtom 2 none) { frames := fa, cells := 0, slots := 0, locals := la } (va_Pc [.ref th, .int x1] (zPre Γ (tSh th) μ)) (va_Qv Q (zPost Γ (tSh th) μ) (zA μ)) 0 0 (zA μ)) (l : Launch) (Γ : zG) (th : Nat) (x1 : Int32) (μ : zM) (Q : zM → Prop) (hp : pX4_readAtom_of A th x1 μ Q) : Met l yX4_readAtom (ws_ yX4_readAtom cX4_readAtom 2 none) ({ frames := fa + 9, cells := 0, slots := 0, locals := la + 193 } : Room) (va_Pc [.ref th, .int x1] (zPre Γ (tSh th) μ)) (va_Qv Q (zPost Γ (tSh th) μ) (zA μ)) 0 0 (zA μ) := by
  refine zstart (by decide) (Nat.le_of_ble_eq_true rfl) ?_
  intro p e s m below meth c ls X hnm hB hl
  have X : zCx p m c cX4_readAtom 2 s [.ref th, .int x1].toArray RX4 meth none := X
  have S := X.1
  obtain ⟨hx, hb, hml, hown, hts⟩ := X.1
  have hl : lv_has ls 2 [(0, .ref th), (1, .int x1)] := hl
  unfold pX4_readAtom_of at hp
  refine lv_aload_n hx hb dX4_readAtom_0 rfl (lv_at hl 0 rfl) ?_
  refine lv_bipush (v := (nI 23)) hx hb dX4_readAtom_1 rfl ?_
  refine z_calli (va_runV (As := [.int (nI 23)]) (rest := []) S (mX4_is l Γ th (nI 23) μ _ hp) (cwV 1 hts (lw_V q1557 q1559 qs66 q132 q1560) rfl rfl rfl hX4_is ⟨by dsimp only; omega, by dsimp only; omega⟩) (hB.preV (tT hB) rfl rfl) rfl rfl hl.1 rfl (lv_room (Nat.le_of_ble_eq_true rfl)) dX4_readAtom_3 ⟨Nat.le_refl _, Nat.le_refl _⟩) hB (fun r2 μ1 H locs hp hB => ?_)
  refine lv_if_eq (tgt := 24) hx hb dX4_readAtom_6 rfl (fun c0 => ?_) (fun c0 => ?_)
  · have hp := zit hp c0
    refine lv_aload_n hx hb dX4_readAtom_24 rfl (lv_at hl 0 rfl) ?_
    refine g_get S hB (tT hB) rfl (T := TX4) (N := 38) (C := RX4) rfl in_X4 11 (by decide) (by decide) q1403 (fun _ h9 => h9) (v := .int (zI μ1 th 11)) rfl dX4_readAtom_25 ?_
    refine lv_if_ne (tgt := 66) hx hb dX4_readAtom_28 rfl (fun c0 => ?_) (fun c0 => ?_)
    · have hp := zif hp c0
      exact wX4_readAtom_66 X A fa la hA th x1 μ1 _ _ _ hp hB (lv_sub hl [0, 1] rfl)
    · have hp := zit hp c0
      refine lv_aload_n hx hb dX4_readAtom_31 rfl (lv_at hl 0 rfl) ?_
      refine lv_aload_n hx hb dX4_readAtom_32 rfl (lv_at hl 0 rfl) ?_
      refine g_get S hB (tT hB) rfl (T := TX4) (N := 38) (C := RX4) rfl in_X4 9 (by decide) (by decide) q1401 (fun _ h9 => h9) (v := .int (zI μ1 th 9)) rfl dX4_readAtom_33 ?_
      refine z_calli (va_runV (As := [.int (zI μ1 th 9)]) (rest := []) S (mX4_wordOf l Γ th (zI μ1 th 9) μ1 _ hp) (cwV 1 hts (lw_V q1593 q1595 qs75 q132 q1596) rfl rfl rfl hX4_wordOf ⟨by dsimp only; omega, by dsimp only; omega⟩) (hB.preV (tT hB) rfl rfl) rfl rfl hl.1 rfl (lv_room (Nat.le_of_ble_eq_true rfl)) dX4_readAtom_36 ⟨Nat.le_refl _, Nat.le_refl _⟩) hB (fun r4 μ3 H locs hp hB => ?_)
      refine lv_iconst (v := (-1 : Int32)) hx hb dX4_readAtom_39 rfl ?_
      refine lv_icmp_eq (tgt := 66) hx hb dX4_readAtom_40 rfl (fun c0 => ?_) (fun c0 => ?_)
      · have hp := zit hp c0
        exact wX4_readAtom_66 X A fa la hA th x1 μ3 _ _ _ hp hB (lv_sub hl [0, 1] rfl)
      · have hp := zif hp c0
        refine lv_aload_n hx hb dX4_readAtom_43 rfl (lv_at hl 0 rfl) ?_
        refine lv_sipush (v := (nI 1000)) hx hb dX4_readAtom_44 rfl ?_
        refine lv_aload_n hx hb dX4_readAtom_47 rfl (lv_at hl 0 rfl) ?_
        refine lv_aload_n hx hb dX4_readAtom_48 rfl (lv_at hl 0 rfl) ?_
        refine g_get S hB (tT hB) rfl (T := TX4) (N := 38) (C := RX4) rfl in_X4 9 (by decide) (by decide) q1401 (fun _ h9 => h9) (v := .int (zI μ3 th 9)) rfl dX4_readAtom_49 ?_
        refine z_calli (va_runV (As := [.int (zI μ3 th 9)]) (rest := [.int (nI 1000), .ref th]) S (mX4_wordOf l Γ th (zI μ3 th 9) μ3 _ hp) (cwV 1 hts (lw_V q1593 q1595 qs75 q132 q1596) rfl rfl rfl hX4_wordOf ⟨by dsimp only; omega, by dsimp only; omega⟩) (hB.preV (tT hB) rfl rfl) rfl rfl hl.1 rfl (lv_room (Nat.le_of_ble_eq_true rfl)) dX4_readAtom_52 ⟨Nat.le_refl _, Nat.le_refl _⟩) hB (fun r6 μ5 H locs hp hB => ?_)
        refine lv_iadd hx hb dX4_readAtom_55 ?_
        refine z_callv (va_runV (As := [.int ((nI 1000) + r6)]) (rest := []) S (mX4_codes l Γ th ((nI 1000) + r6) μ5 _ hp) (cwV 1 hts (lw_V q1589 q1591 qs74 q132 q1592) rfl rfl rfl hX4_codes ⟨by dsimp only; omega, by dsimp only; omega⟩) (hB.preV (tT hB) rfl rfl) rfl rfl hl.1 rfl (lv_room (Nat.le_of_ble_eq_true rfl)) dX4_readAtom_56 ⟨Nat.le_refl _, Nat.le_refl _⟩) hB (fun μ7 H locs hp hB => ?_)
        refine lv_aload_n hx hb dX4_readAtom_59 rfl (lv_at hl 0 rfl) ?_
        refine z_callv (va_runV (As := []) (rest := []) S (mX4_next l Γ th μ7 _ hp) (cwV 0 hts (lw_V q1519 q1521 qs59 q132 q1522) rfl rfl rfl hX4_next ⟨by dsimp only; omega, by dsimp only; omega⟩) (hB.preV (tT hB) rfl rfl) rfl rfl hl.1 rfl (lv_room (Nat.le_of_ble_eq_true rfl)) dX4_readAtom_60 ⟨Nat.le_refl _, Nat.le_refl _⟩) hB (fun μ8 H locs hp hB => ?_)
        refine lv_goto (tgt := 113) hx hb dX4_readAtom_63 rfl ?_
        exact zret_v X hB hp dX4_readAtom_113
  · have hp := zif hp c0
    refine lv_aload_n hx hb dX4_readAtom_9 rfl (lv_at hl 0 rfl) ?_
    refine lv_aload_n hx hb dX4_readAtom_10 rfl (lv_at hl 0 rfl) ?_
    refine g_get S hB (tT hB) rfl (T := TX4) (N := 38) (C := RX4) rfl in_X4 10 (by decide) (by decide) q1402 (fun _ h9 => h9) (v := .int (zI μ1 th 10)) rfl dX4_readAtom_11 ?_
    refine z_callv (va_runV (As := [.int (zI μ1 th 10)]) (rest := []) S (mX4_codes l Γ th (zI μ1 th 10) μ1 _ hp) (cwV 1 hts (lw_V q1589 q1591 qs74 q132 q1592) rfl rfl rfl hX4_codes ⟨by dsimp only; omega, by dsimp only; omega⟩) (hB.preV (tT hB) rfl rfl) rfl rfl hl.1 rfl (lv_room (Nat.le_of_ble_eq_true rfl)) dX4_readAtom_14 ⟨Nat.le_refl _, Nat.le_refl _⟩) hB (fun μ9 H locs hp hB => ?_)
    refine lv_aload_n hx hb dX4_readAtom_17 rfl (lv_at hl 0 rfl) ?_
    refine z_callv (va_runV (As := []) (rest := []) S (mX4_next l Γ th μ9 _ hp) (cwV 0 hts (lw_V q1519 q1521 qs59 q132 q1522) rfl rfl rfl hX4_next ⟨by dsimp only; omega, by dsimp only; omega⟩) (hB.preV (tT hB) rfl rfl) rfl rfl hl.1 rfl (lv_room (Nat.le_of_ble_eq_true rfl)) dX4_readAtom_18 ⟨Nat.le_refl _, Nat.le_refl _⟩) hB (fun μ10 H locs hp hB => ?_)
    refine lv_goto (tgt := 113) hx hb dX4_readAtom_21 rfl ?_
    exact zret_v X hB hp dX4_readAtom_113
def pX4_readAtom : Nat → Nat → Int32 → zM → (zM → Prop) → Prop
  | 0 => fun _ _ _ _ => False
  | d + 1 => fun th x1 μ Q => pX4_readAtom_of (pX4_readAtom d) th x1 μ Q
theorem mX4_readAtom : ∀ (d : Nat) (l : Launch) (Γ : zG) (th : Nat) (x1 : Int32) (μ : zM) (Q : (zM → Prop)), pX4_readAtom d th x1 μ Q → Met l yX4_readAtom (ws_ yX4_readAtom cX4_readAtom 2 none) { frames := 9 * d, cells := 0, slots := 0, locals := 193 * d } (va_Pc [.ref th, .int x1] (zPre Γ (tSh th) μ)) (va_Qv Q (zPost Γ (tSh th) μ) (zA μ)) 0 0 (zA μ) := by
  intro d
  induction d with
  | zero => intro l Γ th x1 μ Q h; exact h.elim
  | succ d ih => intro l Γ th x1 μ Q h; exact mX4_readAtom_of (pX4_readAtom d) (9 * d) (193 * d) ih l Γ th x1 μ Q h
def pX4_sinksBy_36 (th : Nat) (x1 : Int32) (x2 : Int32) (x3 : Int32) (x4 : Int32) (Q : Int32 → zM → Prop) : Nat → Int32 → Int32 → zM → Prop
  | 0, _, _, _ => False
  | n + 1, x5, x6, μ => (if x2 ≤ x6 then (vp_in (nI 0) 10 ∧ zpI μ (th + 6) (nI 0).toNatClampNeg (x4 - x4 / (nI 12) * (nI 12)) fun μ1 => (vp_in (nI 1) 10 ∧ zpI μ1 (th + 6) (nI 1).toNatClampNeg x1 fun μ2 => (vp_in (nI 2) 10 ∧ zpI μ2 (th + 6) (nI 2).toNatClampNeg x2 fun μ3 => (vp_in (nI 3) 10 ∧ zpI μ3 (th + 6) (nI 3).toNatClampNeg x3 fun μ4 => (vp_in (nI 4) 10 ∧ zpI μ4 (th + 6) (nI 4).toNatClampNeg x5 fun μ5 => (pX4_reckons th (nI 0) μ5 fun r7 μ6 => (if 0 ≤ r7 then (if r7 ≤ (nI 144) then Q r7 μ6 else Q (nI 144) μ6) else Q (nI 0) μ6))))))) else (pX4_isBuried th x6 x3 μ fun r9 μ8 => (if r9 = 0 then pX4_sinksBy_36 th x1 x2 x3 x4 Q n (x5 + (nI 0)) (x6 + (nI 1)) μ8 else pX4_sinksBy_36 th x1 x2 x3 x4 Q n (x5 + (nI 1)) (x6 + (nI 1)) μ8)))
set_option maxHeartbeats 4000000 in
set_option maxRecDepth 100000 in
theorem wX4_sinksBy_36 {p : Program} {l : Launch} {e : Env} {s : State} {m : MethodId} {args : Array Value} {below : List Frame} {meth : Method} {c : Code} {Γ : zG} {μ0 : zM} {Q : Int32 → zM → Prop} (X : zCx p m c cX4_sinksBy 7 s args RX4 meth (some .int)) (th : Nat) (x1 : Int32) (x2 : Int32) (x3 : Int32) (x4 : Int32) : ∀ (n : Nat) (x5 : Int32) (x6 : Int32) (μ : zM) (H : Heap) (locs : List Loc) (ls : Array Slot), pX4_sinksBy_36 th x1 x2 x3 x4 Q n x5 x6 μ → zB Γ (tSh th) (zA μ0) μ0 s μ H locs → lv_has ls 7 [(0, .ref th), (1, .int x1), (2, .int x2), (3, .int x3), (4, .int x4), (5, .int x5), (6, .int x6)] → W p l e ({ frames := 2, cells := 0, slots := 0, locals := 48 } : Room) s m args below meth c H locs 0 0 (MQ below (va_Qi Q (zPost Γ (tSh th) μ0) (zA μ0)) args s 0 0 (zA μ0)) (F0 m 36 ls []) := by
  have S := X.1
  obtain ⟨hx, hb, hml, hown, hts⟩ := X.1
  intro n
  induction n with
  | zero =>
    intro x5 x6 μ H locs ls hp
    exact hp.elim
  | succ n ih =>
    intro x5 x6 μ H locs ls hp hB hl
    unfold pX4_sinksBy_36 at hp
    refine lv_iload hx hb dX4_sinksBy_36 (lv_at hl 6 rfl) ?_
    refine lv_iload_n hx hb dX4_sinksBy_38 rfl (lv_at hl 2 rfl) ?_
    refine lv_icmp_ge (tgt := 67) hx hb dX4_sinksBy_39 rfl (fun c0 => ?_) (fun c0 => ?_)
    · have hp := zit hp c0
      refine lv_aload_n hx hb dX4_sinksBy_67 rfl (lv_at hl 0 rfl) ?_
      refine g_getr S hB (tT hB) rfl (T := TX4) (N := 38) (C := RX4) rfl in_X4 17 (by decide) (by decide) q1409 (fun _ h9 => h9) (fun _ => rfl) (tA hB 5 rfl).1 dX4_sinksBy_68 ?_
      refine lv_iconst (v := (nI 0)) hx hb dX4_sinksBy_71 rfl ?_
      refine lv_iload hx hb dX4_sinksBy_72 (lv_at hl 4 rfl) ?_
      refine lv_bipush (v := (nI 12)) hx hb dX4_sinksBy_74 rfl ?_
      refine lv_irem hx hb dX4_sinksBy_76 (by decide) ?_
      obtain ⟨hi, hp⟩ := hp
      obtain ⟨μ1, eμ1, hp⟩ := zpI_e hp
      refine g_iast S hB (tA hB 5 rfl).2 hi dX4_sinksBy_77 (fun H locs hB => ?_)
      rw [← eμ1] at hB
      refine lv_aload_n hx hb dX4_sinksBy_78 rfl (lv_at hl 0 rfl) ?_
      refine g_getr S hB (tT hB) rfl (T := TX4) (N := 38) (C := RX4) rfl in_X4 17 (by decide) (by decide) q1409 (fun _ h9 => h9) (fun _ => rfl) (tA hB 5 rfl).1 dX4_sinksBy_79 ?_
      refine lv_iconst (v := (nI 1)) hx hb dX4_sinksBy_82 rfl ?_
      refine lv_iload_n hx hb dX4_sinksBy_83 rfl (lv_at hl 1 rfl) ?_
      obtain ⟨hi, hp⟩ := hp
      obtain ⟨μ2, eμ2, hp⟩ := zpI_e hp
      refine g_iast S hB (tA hB 5 rfl).2 hi dX4_sinksBy_84 (fun H locs hB => ?_)
      rw [← eμ2] at hB
      refine lv_aload_n hx hb dX4_sinksBy_85 rfl (lv_at hl 0 rfl) ?_
      refine g_getr S hB (tT hB) rfl (T := TX4) (N := 38) (C := RX4) rfl in_X4 17 (by decide) (by decide) q1409 (fun _ h9 => h9) (fun _ => rfl) (tA hB 5 rfl).1 dX4_sinksBy_86 ?_
      refine lv_iconst (v := (nI 2)) hx hb dX4_sinksBy_89 rfl ?_
      refine lv_iload_n hx hb dX4_sinksBy_90 rfl (lv_at hl 2 rfl) ?_
      obtain ⟨hi, hp⟩ := hp
      obtain ⟨μ3, eμ3, hp⟩ := zpI_e hp
      refine g_iast S hB (tA hB 5 rfl).2 hi dX4_sinksBy_91 (fun H locs hB => ?_)
      rw [← eμ3] at hB
      refine lv_aload_n hx hb dX4_sinksBy_92 rfl (lv_at hl 0 rfl) ?_
      refine g_getr S hB (tT hB) rfl (T := TX4) (N := 38) (C := RX4) rfl in_X4 17 (by decide) (by decide) q1409 (fun _ h9 => h9) (fun _ => rfl) (tA hB 5 rfl).1 dX4_sinksBy_93 ?_
      refine lv_iconst (v := (nI 3)) hx hb dX4_sinksBy_96 rfl ?_
      refine lv_iload_n hx hb dX4_sinksBy_97 rfl (lv_at hl 3 rfl) ?_
      obtain ⟨hi, hp⟩ := hp
      obtain ⟨μ4, eμ4, hp⟩ := zpI_e hp
      refine g_iast S hB (tA hB 5 rfl).2 hi dX4_sinksBy_98 (fun H locs hB => ?_)
      rw [← eμ4] at hB
      refine lv_aload_n hx hb dX4_sinksBy_99 rfl (lv_at hl 0 rfl) ?_
      refine g_getr S hB (tT hB) rfl (T := TX4) (N := 38) (C := RX4) rfl in_X4 17 (by decide) (by decide) q1409 (fun _ h9 => h9) (fun _ => rfl) (tA hB 5 rfl).1 dX4_sinksBy_100 ?_
      refine lv_iconst (v := (nI 4)) hx hb dX4_sinksBy_103 rfl ?_
      refine lv_iload hx hb dX4_sinksBy_104 (lv_at hl 5 rfl) ?_
      obtain ⟨hi, hp⟩ := hp
      obtain ⟨μ5, eμ5, hp⟩ := zpI_e hp
      refine g_iast S hB (tA hB 5 rfl).2 hi dX4_sinksBy_106 (fun H locs hB => ?_)
      rw [← eμ5] at hB
      refine lv_aload_n hx hb dX4_sinksBy_107 rfl (lv_at hl 0 rfl) ?_
      refine lv_iconst (v := (nI 0)) hx hb dX4_sinksBy_108 rfl ?_
      refine z_calli (va_runV (As := [.int (nI 0)]) (rest := []) S (mX4_reckons l Γ th (nI 0) μ5 _ hp) (cwV 1 hts (lw_V q1653 q1655 qs84 q132 q1656) rfl rfl rfl hX4_reckons ⟨Nat.le_of_ble_eq_true rfl, Nat.le_of_ble_eq_true rfl⟩) (hB.preV (tT hB) rfl rfl) rfl rfl hl.1 rfl (lv_room (Nat.le_of_ble_eq_true rfl)) dX4_sinksBy_109 ⟨Nat.le_refl _, Nat.le_refl _⟩) hB (fun r7 μ6 H locs hp hB => ?_)
      refine lv_istore (lv' := [(6, .int r7), (0, .ref th), (1, .int x1), (2, .int x2), (3, .int x3), (4, .int x4), (5, .int x5)]) hx hb dX4_sinksBy_112 hl (by decide) rfl (fun ls hl => ?_)
      refine lv_iload hx hb dX4_sinksBy_114 (lv_at hl 0 rfl) ?_
      refine lv_if_ge (tgt := 123) hx hb dX4_sinksBy_116 rfl (fun c0 => ?_) (fun c0 => ?_)
      · have hp := zit hp c0
        refine lv_iload hx hb dX4_sinksBy_123 (lv_at hl 0 rfl) ?_
        refine lv_sipush (v := (nI 144)) hx hb dX4_sinksBy_125 rfl ?_
        refine lv_icmp_le (tgt := 137) hx hb dX4_sinksBy_128 rfl (fun c0 => ?_) (fun c0 => ?_)
        · have hp := zit hp c0
          refine lv_iload hx hb dX4_sinksBy_137 (lv_at hl 0 rfl) ?_
          exact zret_i X hB hp dX4_sinksBy_139
        · have hp := zif hp c0
          refine lv_sipush (v := (nI 144)) hx hb dX4_sinksBy_131 rfl ?_
          refine lv_goto (tgt := 139) hx hb dX4_sinksBy_134 rfl ?_
          exact zret_i X hB hp dX4_sinksBy_139
      · have hp := zif hp c0
        refine lv_iconst (v := (nI 0)) hx hb dX4_sinksBy_119 rfl ?_
        refine lv_goto (tgt := 139) hx hb dX4_sinksBy_120 rfl ?_
        exact zret_i X hB hp dX4_sinksBy_139
    · have hp := zif hp c0
      refine lv_iload hx hb dX4_sinksBy_42 (lv_at hl 5 rfl) ?_
      refine lv_iload hx hb dX4_sinksBy_44 (lv_at hl 6 rfl) ?_
      refine lv_iload_n hx hb dX4_sinksBy_46 rfl (lv_at hl 3 rfl) ?_
      refine z_calli (va_runS (As := [.int x6, .int x3]) (rest := [.int x5]) S (mX4_isBuried l Γ th x6 x3 μ _ hp) (va_cwS 2 hts (lw_S q1626 q1627 q132 q1628) rfl rfl rfl hX4_isBuried ⟨Nat.le_of_ble_eq_true rfl, Nat.le_of_ble_eq_true rfl⟩) hB.preS rfl rfl hl.1 rfl (lv_room (Nat.le_of_ble_eq_true rfl)) dX4_sinksBy_47 ⟨Nat.le_refl _, Nat.le_refl _⟩) hB (fun r9 μ8 H locs hp hB => ?_)
      refine lv_if_eq (tgt := 57) hx hb dX4_sinksBy_50 rfl (fun c0 => ?_) (fun c0 => ?_)
      · have hp := zit hp c0
        refine lv_iconst (v := (nI 0)) hx hb dX4_sinksBy_57 rfl ?_
        refine lv_iadd hx hb dX4_sinksBy_58 ?_
        refine lv_istore (lv' := [(5, .int (x5 + (nI 0))), (0, .ref th), (1, .int x1), (2, .int x2), (3, .int x3), (4, .int x4), (6, .int x6)]) hx hb dX4_sinksBy_59 hl (by decide) rfl (fun ls hl => ?_)
        refine lv_iinc (v := (x6 + (nI 1))) (lv' := [(6, .int (x6 + (nI 1))), (5, .int (x5 + (nI 0))), (0, .ref th), (1, .int x1), (2, .int x2), (3, .int x3), (4, .int x4)]) hx hb dX4_sinksBy_61 hl (k := 6) rfl rfl (by decide) rfl (fun ls hl => ?_)
        refine lv_goto (tgt := 36) hx hb dX4_sinksBy_64 rfl ?_
        exact ih (x5 + (nI 0)) (x6 + (nI 1)) μ8 _ _ _ hp hB (lv_sub hl [2, 3, 4, 5, 6, 1, 0] rfl)
      · have hp := zif hp c0
        refine lv_iconst (v := (nI 1)) hx hb dX4_sinksBy_53 rfl ?_
        refine lv_goto (tgt := 58) hx hb dX4_sinksBy_54 rfl ?_
        refine lv_iadd hx hb dX4_sinksBy_58 ?_
        refine lv_istore (lv' := [(5, .int (x5 + (nI 1))), (0, .ref th), (1, .int x1), (2, .int x2), (3, .int x3), (4, .int x4), (6, .int x6)]) hx hb dX4_sinksBy_59 hl (by decide) rfl (fun ls hl => ?_)
        refine lv_iinc (v := (x6 + (nI 1))) (lv' := [(6, .int (x6 + (nI 1))), (5, .int (x5 + (nI 1))), (0, .ref th), (1, .int x1), (2, .int x2), (3, .int x3), (4, .int x4)]) hx hb dX4_sinksBy_61 hl (k := 6) rfl rfl (by decide) rfl (fun ls hl => ?_)
        refine lv_goto (tgt := 36) hx hb dX4_sinksBy_64 rfl ?_
        exact ih (x5 + (nI 1)) (x6 + (nI 1)) μ8 _ _ _ hp hB (lv_sub hl [2, 3, 4, 5, 6, 1, 0] rfl)
def pX4_sinksBy (th : Nat) (x1 : Int32) (x2 : Int32) (x3 : Int32) (x4 : Int32) (μ : zM) (Q : Int32 → zM → Prop) : Prop := (vp_in (nI 5) 3594 ∧ (if (zI μ (th + 1) (nI 5).toNatClampNeg) = 0 then (if (x1 / (nI 100)) ≤ (nI 144) then Q (x1 / (nI 100)) μ else Q (nI 144) μ) else ∃ k1, pX4_sinksBy_36 th x1 x2 x3 x4 Q k1 (nI 0) (nI 0) μ))
theorem hX4_sinksBy : yX4_sinksBy.cls = "SunkTowerModel" ∧ yX4_sinksBy.cls ≠ "java/lang/invoke/MethodHandle" ∧ yX4_sinksBy.cls ≠ "java/lang/invoke/VarHandle" ∧ (parseMethodDescriptor yX4_sinksBy.desc).map (fun d => d.parameters.length) = some 4 := by decide +kernel
set_option maxHeartbeats 4000000 in
set_option maxRecDepth 100000 in
theorem mX4_sinksBy (l : Launch) (Γ : zG) (th : Nat) (x1 : Int32) (x2 : Int32) (x3 : Int32) (x4 : Int32) (μ : zM) (Q : Int32 → zM → Prop) (hp : pX4_sinksBy th x1 x2 x3 x4 μ Q) : Met l yX4_sinksBy (ws_ yX4_sinksBy cX4_sinksBy 7 (some .int)) ({ frames := 2, cells := 0, slots := 0, locals := 48 } : Room) (va_Pc [.ref th, .int x1, .int x2, .int x3, .int x4] (zPre Γ (tSh th) μ)) (va_Qi Q (zPost Γ (tSh th) μ) (zA μ)) 0 0 (zA μ) := by
  refine zstart (by decide) (Nat.le_of_ble_eq_true rfl) ?_
  intro p e s m below meth c ls X hnm hB hl
  have X : zCx p m c cX4_sinksBy 7 s [.ref th, .int x1, .int x2, .int x3, .int x4].toArray RX4 meth (some .int) := X
  have S := X.1
  obtain ⟨hx, hb, hml, hown, hts⟩ := X.1
  have hl : lv_has ls 7 [(0, .ref th), (1, .int x1), (2, .int x2), (3, .int x3), (4, .int x4)] := hl
  unfold pX4_sinksBy at hp
  refine lv_aload_n hx hb dX4_sinksBy_0 rfl (lv_at hl 0 rfl) ?_
  refine g_getr S hB (tT hB) rfl (T := TX4) (N := 38) (C := RX4) rfl in_X4 1 (by decide) (by decide) q1393 (fun _ h9 => h9) (fun _ => rfl) (tA hB 0 rfl).1 dX4_sinksBy_1 ?_
  refine lv_iconst (v := (nI 5)) hx hb dX4_sinksBy_4 rfl ?_
  obtain ⟨hi, hp⟩ := hp
  refine g_iald S hB (tA hB 0 rfl).2 hi dX4_sinksBy_5 ?_
  refine lv_if_ne (tgt := 30) hx hb dX4_sinksBy_6 rfl (fun c0 => ?_) (fun c0 => ?_)
  · have hp := zif hp c0
    refine lv_iconst (v := (nI 0)) hx hb dX4_sinksBy_30 rfl ?_
    refine lv_istore (lv' := [(5, .int (nI 0)), (0, .ref th), (1, .int x1), (2, .int x2), (3, .int x3), (4, .int x4)]) hx hb dX4_sinksBy_31 hl (by decide) rfl (fun ls hl => ?_)
    refine lv_iconst (v := (nI 0)) hx hb dX4_sinksBy_33 rfl ?_
    refine lv_istore (lv' := [(6, .int (nI 0)), (5, .int (nI 0)), (0, .ref th), (1, .int x1), (2, .int x2), (3, .int x3), (4, .int x4)]) hx hb dX4_sinksBy_34 hl (by decide) rfl (fun ls hl => ?_)
    obtain ⟨n1, hp⟩ := hp
    exact wX4_sinksBy_36 X th x1 x2 x3 x4 n1 (nI 0) (nI 0) μ _ _ _ hp hB (lv_sub hl [2, 3, 4, 5, 6, 1, 0] rfl)
  · have hp := zit hp c0
    refine lv_iload_n hx hb dX4_sinksBy_9 rfl (lv_at hl 1 rfl) ?_
    refine lv_bipush (v := (nI 100)) hx hb dX4_sinksBy_10 rfl ?_
    refine lv_idiv hx hb dX4_sinksBy_12 (by decide) ?_
    refine lv_sipush (v := (nI 144)) hx hb dX4_sinksBy_13 rfl ?_
    refine lv_icmp_le (tgt := 25) hx hb dX4_sinksBy_16 rfl (fun c0 => ?_) (fun c0 => ?_)
    · have hp := zit hp c0
      refine lv_iload_n hx hb dX4_sinksBy_25 rfl (lv_at hl 1 rfl) ?_
      refine lv_bipush (v := (nI 100)) hx hb dX4_sinksBy_26 rfl ?_
      refine lv_idiv hx hb dX4_sinksBy_28 (by decide) ?_
      exact zret_i X hB hp dX4_sinksBy_29
    · have hp := zif hp c0
      refine lv_sipush (v := (nI 144)) hx hb dX4_sinksBy_19 rfl ?_
      refine lv_goto (tgt := 29) hx hb dX4_sinksBy_22 rfl ?_
      exact zret_i X hB hp dX4_sinksBy_29
def pX4_pays (th : Nat) (x1 : Int32) (μ : zM) (Q : Int32 → zM → Prop) : Prop := (zpI μ th 0 (nI 0) fun μ1 => (pX4_isStorey th (x1.toInt64) μ1 fun r3 μ2 => (if r3 = 0 then Q (-90000002 : Int32) μ2 else (vp_in (nI 41) 3594 ∧ (vp_in (nI 42) 3594 ∧ (pX4_paysOf th x1 (zI μ2 (th + 1) (nI 41).toNatClampNeg) (zI μ2 (th + 1) (nI 42).toNatClampNeg) μ2 fun r5 μ4 => Q r5 μ4))))))
theorem hX4_pays : yX4_pays.cls = "SunkTowerModel" ∧ yX4_pays.cls ≠ "java/lang/invoke/MethodHandle" ∧ yX4_pays.cls ≠ "java/lang/invoke/VarHandle" ∧ (parseMethodDescriptor yX4_pays.desc).map (fun d => d.parameters.length) = some 1 := by decide +kernel
set_option maxHeartbeats 4000000 in
set_option maxRecDepth 100000 in
theorem mX4_pays (l : Launch) (Γ : zG) (th : Nat) (x1 : Int32) (μ : zM) (Q : Int32 → zM → Prop) (hp : pX4_pays th x1 μ Q) : Met l yX4_pays (ws_ yX4_pays cX4_pays 2 (some .int)) ({ frames := 3, cells := 0, slots := 0, locals := 71 } : Room) (va_Pc [.ref th, .int x1] (zPre Γ (tSh th) μ)) (va_Qi Q (zPost Γ (tSh th) μ) (zA μ)) 0 0 (zA μ) := by
  refine zstart (by decide) (Nat.le_of_ble_eq_true rfl) ?_
  intro p e s m below meth c ls X hnm hB hl
  have X : zCx p m c cX4_pays 2 s [.ref th, .int x1].toArray RX4 meth (some .int) := X
  have S := X.1
  obtain ⟨hx, hb, hml, hown, hts⟩ := X.1
  have hl : lv_has ls 2 [(0, .ref th), (1, .int x1)] := hl
  unfold pX4_pays at hp
  refine lv_aload_n hx hb dX4_pays_0 rfl (lv_at hl 0 rfl) ?_
  refine lv_iconst (v := (nI 0)) hx hb dX4_pays_1 rfl ?_
  obtain ⟨μ1, eμ1, hp⟩ := zpI_e hp
  refine g_putI S hB (tT hB) rfl (T := TX4) (N := 38) (C := RX4) rfl in_X4 0 (by decide) (by decide) (x := (nI 0)) tyX4 tyX4_ok nmX4 q1392 (fun _ h9 => h9) rfl (ty := .int) (by decide +kernel) rfl rfl (fun _ _ => rfl) dX4_pays_2 (fun H locs hB => ?_)
  rw [← eμ1] at hB
  refine lv_aload_n hx hb dX4_pays_5 rfl (lv_at hl 0 rfl) ?_
  refine lv_iload_n hx hb dX4_pays_6 rfl (lv_at hl 1 rfl) ?_
  refine lv_i2l hx hb dX4_pays_7 rfl ?_
  refine z_calli (va_runV (As := [.long (x1.toInt64)]) (rest := []) S (mX4_isStorey l Γ th (x1.toInt64) μ1 _ hp) (cwV 1 hts (lw_V q1617 q1619 qs79 q132 q1620) rfl rfl rfl hX4_isStorey ⟨Nat.le_of_ble_eq_true rfl, Nat.le_of_ble_eq_true rfl⟩) (hB.preV (tT hB) rfl rfl) rfl rfl hl.1 rfl (lv_room (Nat.le_of_ble_eq_true rfl)) dX4_pays_8 ⟨Nat.le_refl _, Nat.le_refl _⟩) hB (fun r3 μ2 H locs hp hB => ?_)
  refine lv_if_eq (tgt := 36) hx hb dX4_pays_11 rfl (fun c0 => ?_) (fun c0 => ?_)
  · have hp := zit hp c0
    refine lv_ldc (v := (-90000002 : Int32)) hx hb hown (hts _ q1673) dX4_pays_36 ?_
    exact zret_i X hB hp dX4_pays_38
  · have hp := zif hp c0
    refine lv_aload_n hx hb dX4_pays_14 rfl (lv_at hl 0 rfl) ?_
    refine lv_iload_n hx hb dX4_pays_15 rfl (lv_at hl 1 rfl) ?_
    refine lv_aload_n hx hb dX4_pays_16 rfl (lv_at hl 0 rfl) ?_
    refine g_getr S hB (tT hB) rfl (T := TX4) (N := 38) (C := RX4) rfl in_X4 1 (by decide) (by decide) q1393 (fun _ h9 => h9) (fun _ => rfl) (tA hB 0 rfl).1 dX4_pays_17 ?_
    refine lv_bipush (v := (nI 41)) hx hb dX4_pays_20 rfl ?_
    obtain ⟨hi, hp⟩ := hp
    refine g_iald S hB (tA hB 0 rfl).2 hi dX4_pays_22 ?_
    refine lv_aload_n hx hb dX4_pays_23 rfl (lv_at hl 0 rfl) ?_
    refine g_getr S hB (tT hB) rfl (T := TX4) (N := 38) (C := RX4) rfl in_X4 1 (by decide) (by decide) q1393 (fun _ h9 => h9) (fun _ => rfl) (tA hB 0 rfl).1 dX4_pays_24 ?_
    refine lv_bipush (v := (nI 42)) hx hb dX4_pays_27 rfl ?_
    obtain ⟨hi, hp⟩ := hp
    refine g_iald S hB (tA hB 0 rfl).2 hi dX4_pays_29 ?_
    refine z_calli (va_runV (As := [.int x1, .int (zI μ2 (th + 1) (nI 41).toNatClampNeg), .int (zI μ2 (th + 1) (nI 42).toNatClampNeg)]) (rest := []) S (mX4_paysOf l Γ th x1 (zI μ2 (th + 1) (nI 41).toNatClampNeg) (zI μ2 (th + 1) (nI 42).toNatClampNeg) μ2 _ hp) (cwV 3 hts (lw_V q1666 q1668 qs85 q132 q1669) rfl rfl rfl hX4_paysOf ⟨Nat.le_of_ble_eq_true rfl, Nat.le_of_ble_eq_true rfl⟩) (hB.preV (tT hB) rfl rfl) rfl rfl hl.1 rfl (lv_room (Nat.le_of_ble_eq_true rfl)) dX4_pays_30 ⟨Nat.le_refl _, Nat.le_refl _⟩) hB (fun r5 μ4 H locs hp hB => ?_)
    refine lv_goto (tgt := 38) hx hb dX4_pays_33 rfl ?_
    exact zret_i X hB hp dX4_pays_38
def pX4_worthNow (th : Nat) (x1 : Int32) (x2 : Int32) (μ : zM) (Q : Int32 → zM → Prop) : Prop := (vp_in (nI 41) 3594 ∧ (vp_in (nI 42) 3594 ∧ (pX4_worthOf th x1 x2 (zI μ (th + 1) (nI 41).toNatClampNeg) (zI μ (th + 1) (nI 42).toNatClampNeg) μ fun r2 μ1 => Q r2 μ1)))
theorem hX4_worthNow : yX4_worthNow.cls = "SunkTowerModel" ∧ yX4_worthNow.cls ≠ "java/lang/invoke/MethodHandle" ∧ yX4_worthNow.cls ≠ "java/lang/invoke/VarHandle" ∧ (parseMethodDescriptor yX4_worthNow.desc).map (fun d => d.parameters.length) = some 2 := by decide +kernel
set_option maxHeartbeats 4000000 in
set_option maxRecDepth 100000 in
theorem mX4_worthNow (l : Launch) (Γ : zG) (th : Nat) (x1 : Int32) (x2 : Int32) (μ : zM) (Q : Int32 → zM → Prop) (hp : pX4_worthNow th x1 x2 μ Q) : Met l yX4_worthNow (ws_ yX4_worthNow cX4_worthNow 3 (some .int)) ({ frames := 3, cells := 0, slots := 0, locals := 72 } : Room) (va_Pc [.ref th, .int x1, .int x2] (zPre Γ (tSh th) μ)) (va_Qi Q (zPost Γ (tSh th) μ) (zA μ)) 0 0 (zA μ) := by
  refine zstart (by decide) (Nat.le_of_ble_eq_true rfl) ?_
  intro p e s m below meth c ls X hnm hB hl
  have X : zCx p m c cX4_worthNow 3 s [.ref th, .int x1, .int x2].toArray RX4 meth (some .int) := X
  have S := X.1
  obtain ⟨hx, hb, hml, hown, hts⟩ := X.1
  have hl : lv_has ls 3 [(0, .ref th), (1, .int x1), (2, .int x2)] := hl
  unfold pX4_worthNow at hp
  refine lv_aload_n hx hb dX4_worthNow_0 rfl (lv_at hl 0 rfl) ?_
  refine lv_iload_n hx hb dX4_worthNow_1 rfl (lv_at hl 1 rfl) ?_
  refine lv_iload_n hx hb dX4_worthNow_2 rfl (lv_at hl 2 rfl) ?_
  refine lv_aload_n hx hb dX4_worthNow_3 rfl (lv_at hl 0 rfl) ?_
  refine g_getr S hB (tT hB) rfl (T := TX4) (N := 38) (C := RX4) rfl in_X4 1 (by decide) (by decide) q1393 (fun _ h9 => h9) (fun _ => rfl) (tA hB 0 rfl).1 dX4_worthNow_4 ?_
  refine lv_bipush (v := (nI 41)) hx hb dX4_worthNow_7 rfl ?_
  obtain ⟨hi, hp⟩ := hp
  refine g_iald S hB (tA hB 0 rfl).2 hi dX4_worthNow_9 ?_
  refine lv_aload_n hx hb dX4_worthNow_10 rfl (lv_at hl 0 rfl) ?_
  refine g_getr S hB (tT hB) rfl (T := TX4) (N := 38) (C := RX4) rfl in_X4 1 (by decide) (by decide) q1393 (fun _ h9 => h9) (fun _ => rfl) (tA hB 0 rfl).1 dX4_worthNow_11 ?_
  refine lv_bipush (v := (nI 42)) hx hb dX4_worthNow_14 rfl ?_
  obtain ⟨hi, hp⟩ := hp
  refine g_iald S hB (tA hB 0 rfl).2 hi dX4_worthNow_16 ?_
  refine z_calli (va_runV (As := [.int x1, .int x2, .int (zI μ (th + 1) (nI 41).toNatClampNeg), .int (zI μ (th + 1) (nI 42).toNatClampNeg)]) (rest := []) S (mX4_worthOf l Γ th x1 x2 (zI μ (th + 1) (nI 41).toNatClampNeg) (zI μ (th + 1) (nI 42).toNatClampNeg) μ _ hp) (cwV 4 hts (lw_V q1682 q1684 qs87 q132 q1685) rfl rfl rfl hX4_worthOf ⟨Nat.le_of_ble_eq_true rfl, Nat.le_of_ble_eq_true rfl⟩) (hB.preV (tT hB) rfl rfl) rfl rfl hl.1 rfl (lv_room (Nat.le_of_ble_eq_true rfl)) dX4_worthNow_17 ⟨Nat.le_refl _, Nat.le_refl _⟩) hB (fun r2 μ1 H locs hp hB => ?_)
  exact zret_i X hB hp dX4_worthNow_20
def pX4_goesMonth (th : Nat) (μ : zM) (Q : zM → Prop) : Prop := (vp_in (nI 41) 3594 ∧ (pX4_weightOf th (-1 : Int32) μ fun r2 μ1 => (vp_in (nI 20) 3594 ∧ (vp_in (nI 41) 3594 ∧ (vp_in (nI 42) 3594 ∧ (pX4_sinksBy th r2 (zI μ1 (th + 1) (nI 20).toNatClampNeg) (zI μ1 (th + 1) (nI 41).toNatClampNeg) (zI μ1 (th + 1) (nI 42).toNatClampNeg) μ1 fun r4 μ3 => (pX4_deeper th (zI μ (th + 1) (nI 41).toNatClampNeg) r4 μ3 fun r6 μ5 => (vp_in (nI 41) 3594 ∧ zpI μ5 (th + 1) (nI 41).toNatClampNeg r6 fun μ7 => (vp_in (nI 42) 3594 ∧ (vp_in (nI 42) 3594 ∧ zpI μ7 (th + 1) (nI 42).toNatClampNeg ((zI μ7 (th + 1) (nI 42).toNatClampNeg) + (nI 1)) fun μ8 => Q μ8))))))))))
theorem hX4_goesMonth : yX4_goesMonth.cls = "SunkTowerModel" ∧ yX4_goesMonth.cls ≠ "java/lang/invoke/MethodHandle" ∧ yX4_goesMonth.cls ≠ "java/lang/invoke/VarHandle" ∧ (parseMethodDescriptor yX4_goesMonth.desc).map (fun d => d.parameters.length) = some 0 := by decide +kernel
set_option maxHeartbeats 4000000 in
set_option maxRecDepth 100000 in
theorem mX4_goesMonth (l : Launch) (Γ : zG) (th : Nat) (μ : zM) (Q : zM → Prop) (hp : pX4_goesMonth th μ Q) : Met l yX4_goesMonth (ws_ yX4_goesMonth cX4_goesMonth 1 none) ({ frames := 3, cells := 0, slots := 0, locals := 74 } : Room) (va_Pc [.ref th] (zPre Γ (tSh th) μ)) (va_Qv Q (zPost Γ (tSh th) μ) (zA μ)) 0 0 (zA μ) := by
  refine zstart (by decide) (Nat.le_of_ble_eq_true rfl) ?_
  intro p e s m below meth c ls X hnm hB hl
  have X : zCx p m c cX4_goesMonth 1 s [.ref th].toArray RX4 meth none := X
  have S := X.1
  obtain ⟨hx, hb, hml, hown, hts⟩ := X.1
  have hl : lv_has ls 1 [(0, .ref th)] := hl
  unfold pX4_goesMonth at hp
  refine lv_aload_n hx hb dX4_goesMonth_0 rfl (lv_at hl 0 rfl) ?_
  refine g_getr S hB (tT hB) rfl (T := TX4) (N := 38) (C := RX4) rfl in_X4 1 (by decide) (by decide) q1393 (fun _ h9 => h9) (fun _ => rfl) (tA hB 0 rfl).1 dX4_goesMonth_1 ?_
  refine lv_bipush (v := (nI 41)) hx hb dX4_goesMonth_4 rfl ?_
  refine lv_aload_n hx hb dX4_goesMonth_6 rfl (lv_at hl 0 rfl) ?_
  refine g_getr S hB (tT hB) rfl (T := TX4) (N := 38) (C := RX4) rfl in_X4 1 (by decide) (by decide) q1393 (fun _ h9 => h9) (fun _ => rfl) (tA hB 0 rfl).1 dX4_goesMonth_7 ?_
  refine lv_bipush (v := (nI 41)) hx hb dX4_goesMonth_10 rfl ?_
  obtain ⟨hi, hp⟩ := hp
  refine g_iald S hB (tA hB 0 rfl).2 hi dX4_goesMonth_12 ?_
  refine lv_aload_n hx hb dX4_goesMonth_13 rfl (lv_at hl 0 rfl) ?_
  refine lv_aload_n hx hb dX4_goesMonth_14 rfl (lv_at hl 0 rfl) ?_
  refine lv_iconst (v := (-1 : Int32)) hx hb dX4_goesMonth_15 rfl ?_
  refine z_calli (va_runV (As := [.int (-1 : Int32)]) (rest := [.ref th, .int (zI μ (th + 1) (nI 41).toNatClampNeg), .int (nI 41), .ref (th + 1)]) S (mX4_weightOf l Γ th (-1 : Int32) μ _ hp) (cwV 1 hts (lw_V q1641 q1643 qs82 q132 q1644) rfl rfl rfl hX4_weightOf ⟨Nat.le_of_ble_eq_true rfl, Nat.le_of_ble_eq_true rfl⟩) (hB.preV (tT hB) rfl rfl) rfl rfl hl.1 rfl (lv_room (Nat.le_of_ble_eq_true rfl)) dX4_goesMonth_16 ⟨Nat.le_refl _, Nat.le_refl _⟩) hB (fun r2 μ1 H locs hp hB => ?_)
  refine lv_aload_n hx hb dX4_goesMonth_19 rfl (lv_at hl 0 rfl) ?_
  refine g_getr S hB (tT hB) rfl (T := TX4) (N := 38) (C := RX4) rfl in_X4 1 (by decide) (by decide) q1393 (fun _ h9 => h9) (fun _ => rfl) (tA hB 0 rfl).1 dX4_goesMonth_20 ?_
  refine lv_bipush (v := (nI 20)) hx hb dX4_goesMonth_23 rfl ?_
  obtain ⟨hi, hp⟩ := hp
  refine g_iald S hB (tA hB 0 rfl).2 hi dX4_goesMonth_25 ?_
  refine lv_aload_n hx hb dX4_goesMonth_26 rfl (lv_at hl 0 rfl) ?_
  refine g_getr S hB (tT hB) rfl (T := TX4) (N := 38) (C := RX4) rfl in_X4 1 (by decide) (by decide) q1393 (fun _ h9 => h9) (fun _ => rfl) (tA hB 0 rfl).1 dX4_goesMonth_27 ?_
  refine lv_bipush (v := (nI 41)) hx hb dX4_goesMonth_30 rfl ?_
  obtain ⟨hi, hp⟩ := hp
  refine g_iald S hB (tA hB 0 rfl).2 hi dX4_goesMonth_32 ?_
  refine lv_aload_n hx hb dX4_goesMonth_33 rfl (lv_at hl 0 rfl) ?_
  refine g_getr S hB (tT hB) rfl (T := TX4) (N := 38) (C := RX4) rfl in_X4 1 (by decide) (by decide) q1393 (fun _ h9 => h9) (fun _ => rfl) (tA hB 0 rfl).1 dX4_goesMonth_34 ?_
  refine lv_bipush (v := (nI 42)) hx hb dX4_goesMonth_37 rfl ?_
  obtain ⟨hi, hp⟩ := hp
  refine g_iald S hB (tA hB 0 rfl).2 hi dX4_goesMonth_39 ?_
  refine z_calli (va_runV (As := [.int r2, .int (zI μ1 (th + 1) (nI 20).toNatClampNeg), .int (zI μ1 (th + 1) (nI 41).toNatClampNeg), .int (zI μ1 (th + 1) (nI 42).toNatClampNeg)]) (rest := [.int (zI μ (th + 1) (nI 41).toNatClampNeg), .int (nI 41), .ref (th + 1)]) S (mX4_sinksBy l Γ th r2 (zI μ1 (th + 1) (nI 20).toNatClampNeg) (zI μ1 (th + 1) (nI 41).toNatClampNeg) (zI μ1 (th + 1) (nI 42).toNatClampNeg) μ1 _ hp) (cwV 4 hts (lw_V q1649 q1651 qs83 q132 q1652) rfl rfl rfl hX4_sinksBy ⟨Nat.le_of_ble_eq_true rfl, Nat.le_of_ble_eq_true rfl⟩) (hB.preV (tT hB) rfl rfl) rfl rfl hl.1 rfl (lv_room (Nat.le_of_ble_eq_true rfl)) dX4_goesMonth_40 ⟨Nat.le_refl _, Nat.le_refl _⟩) hB (fun r4 μ3 H locs hp hB => ?_)
  refine z_calli (va_runS (As := [.int (zI μ (th + 1) (nI 41).toNatClampNeg), .int r4]) (rest := [.int (nI 41), .ref (th + 1)]) S (mX4_deeper l Γ th (zI μ (th + 1) (nI 41).toNatClampNeg) r4 μ3 _ hp) (va_cwS 2 hts (lw_S q1699 q1700 q132 q1701) rfl rfl rfl hX4_deeper ⟨Nat.le_of_ble_eq_true rfl, Nat.le_of_ble_eq_true rfl⟩) hB.preS rfl rfl hl.1 rfl (lv_room (Nat.le_of_ble_eq_true rfl)) dX4_goesMonth_43 ⟨Nat.le_refl _, Nat.le_refl _⟩) hB (fun r6 μ5 H locs hp hB => ?_)
  obtain ⟨hi, hp⟩ := hp
  obtain ⟨μ7, eμ7, hp⟩ := zpI_e hp
  refine g_iast S hB (tA hB 0 rfl).2 hi dX4_goesMonth_46 (fun H locs hB => ?_)
  rw [← eμ7] at hB
  refine lv_aload_n hx hb dX4_goesMonth_47 rfl (lv_at hl 0 rfl) ?_
  refine g_getr S hB (tT hB) rfl (T := TX4) (N := 38) (C := RX4) rfl in_X4 1 (by decide) (by decide) q1393 (fun _ h9 => h9) (fun _ => rfl) (tA hB 0 rfl).1 dX4_goesMonth_48 ?_
  refine lv_bipush (v := (nI 42)) hx hb dX4_goesMonth_51 rfl ?_
  refine lv_dup2_11 hx hb dX4_goesMonth_53 rfl rfl ?_
  obtain ⟨hi, hp⟩ := hp
  refine g_iald S hB (tA hB 0 rfl).2 hi dX4_goesMonth_54 ?_
  refine lv_iconst (v := (nI 1)) hx hb dX4_goesMonth_55 rfl ?_
  refine lv_iadd hx hb dX4_goesMonth_56 ?_
  obtain ⟨hi, hp⟩ := hp
  obtain ⟨μ8, eμ8, hp⟩ := zpI_e hp
  refine g_iast S hB (tA hB 0 rfl).2 hi dX4_goesMonth_57 (fun H locs hB => ?_)
  rw [← eμ8] at hB
  exact zret_v X hB hp dX4_goesMonth_58
def pX4_pointsAt_13 (th : Nat) (x1 : Int32) (x2 : Int32) (Q : Int32 → zM → Prop) : Nat → Int32 → Int32 → zM → Prop
  | 0, _, _, _ => False
  | n + 1, x3, x4, μ => (if x4 < 0 then Q x3 μ else (pX4_livesOn th x4 μ fun r2 μ1 => (if r2 = (-1 : Int32) then pX4_pointsAt_13 th x1 x2 Q n x3 (x4 - (nI 1)) μ1 else (pX4_isIn th (x2.toInt64) r2 μ1 fun r4 μ3 => (if r4 = 0 then pX4_pointsAt_13 th x1 x2 Q n x3 (x4 - (nI 1)) μ3 else (if x3 = (-1 : Int32) then pX4_pointsAt_13 th x1 x2 Q n r2 (x4 - (nI 1)) μ3 else (pX4_worthNow th x1 x4 μ3 fun r6 μ5 => (vp_in ((nI 35) + x3) 3594 ∧ (pX4_worthNow th x1 (zI μ5 (th + 1) ((nI 35) + x3).toNatClampNeg) μ5 fun r8 μ7 => (if r6 ≤ r8 then pX4_pointsAt_13 th x1 x2 Q n x3 (x4 - (nI 1)) μ7 else pX4_pointsAt_13 th x1 x2 Q n r2 (x4 - (nI 1)) μ7))))))))))
set_option maxHeartbeats 4000000 in
set_option maxRecDepth 100000 in
theorem wX4_pointsAt_13 {p : Program} {l : Launch} {e : Env} {s : State} {m : MethodId} {args : Array Value} {below : List Frame} {meth : Method} {c : Code} {Γ : zG} {μ0 : zM} {Q : Int32 → zM → Prop} (X : zCx p m c cX4_pointsAt 6 s args RX4 meth (some .int)) (th : Nat) (x1 : Int32) (x2 : Int32) : ∀ (n : Nat) (x3 : Int32) (x4 : Int32) (μ : zM) (H : Heap) (locs : List Loc) (ls : Array Slot), pX4_pointsAt_13 th x1 x2 Q n x3 x4 μ → zB Γ (tSh th) (zA μ0) μ0 s μ H locs → lv_has ls 6 [(0, .ref th), (1, .int x1), (2, .int x2), (3, .int x3), (4, .int x4)] → W p l e ({ frames := 4, cells := 0, slots := 0, locals := 94 } : Room) s m args below meth c H locs 0 0 (MQ below (va_Qi Q (zPost Γ (tSh th) μ0) (zA μ0)) args s 0 0 (zA μ0)) (F0 m 13 ls []) := by
  have S := X.1
  obtain ⟨hx, hb, hml, hown, hts⟩ := X.1
  intro n
  induction n with
  | zero =>
    intro x3 x4 μ H locs ls hp
    exact hp.elim
  | succ n ih =>
    intro x3 x4 μ H locs ls hp hB hl
    unfold pX4_pointsAt_13 at hp
    refine lv_iload hx hb dX4_pointsAt_13 (lv_at hl 4 rfl) ?_
    refine lv_if_lt (tgt := 83) hx hb dX4_pointsAt_15 rfl (fun c0 => ?_) (fun c0 => ?_)
    · have hp := zit hp c0
      refine lv_iload_n hx hb dX4_pointsAt_83 rfl (lv_at hl 3 rfl) ?_
      exact zret_i X hB hp dX4_pointsAt_84
    · have hp := zif hp c0
      refine lv_aload_n hx hb dX4_pointsAt_18 rfl (lv_at hl 0 rfl) ?_
      refine lv_iload hx hb dX4_pointsAt_19 (lv_at hl 4 rfl) ?_
      refine z_calli (va_runV (As := [.int x4]) (rest := []) S (mX4_livesOn l Γ th x4 μ _ hp) (cwV 1 hts (lw_V q1622 q1624 qs80 q132 q1625) rfl rfl rfl hX4_livesOn ⟨Nat.le_of_ble_eq_true rfl, Nat.le_of_ble_eq_true rfl⟩) (hB.preV (tT hB) rfl rfl) rfl rfl hl.1 rfl (lv_room (Nat.le_of_ble_eq_true rfl)) dX4_pointsAt_21 ⟨Nat.le_refl _, Nat.le_refl _⟩) hB (fun r2 μ1 H locs hp hB => ?_)
      refine lv_istore (lv' := [(5, .int r2), (0, .ref th), (1, .int x1), (2, .int x2), (3, .int x3), (4, .int x4)]) hx hb dX4_pointsAt_24 hl (by decide) rfl (fun ls hl => ?_)
      refine lv_iload hx hb dX4_pointsAt_26 (lv_at hl 0 rfl) ?_
      refine lv_iconst (v := (-1 : Int32)) hx hb dX4_pointsAt_28 rfl ?_
      refine lv_icmp_eq (tgt := 77) hx hb dX4_pointsAt_29 rfl (fun c0 => ?_) (fun c0 => ?_)
      · have hp := zit hp c0
        refine lv_iinc (v := (x4 - (nI 1))) (lv' := [(4, .int (x4 - (nI 1))), (5, .int r2), (0, .ref th), (1, .int x1), (2, .int x2), (3, .int x3)]) hx hb dX4_pointsAt_77 hl (k := 5) rfl (by rw [Int32.sub_eq_add_neg]; rfl) (by decide) rfl (fun ls hl => ?_)
        refine lv_goto (tgt := 13) hx hb dX4_pointsAt_80 rfl ?_
        exact ih x3 (x4 - (nI 1)) μ1 _ _ _ hp hB (lv_sub hl [2, 3, 4, 5, 0] rfl)
      · have hp := zif hp c0
        refine lv_iload_n hx hb dX4_pointsAt_32 rfl (lv_at hl 3 rfl) ?_
        refine lv_i2l hx hb dX4_pointsAt_33 rfl ?_
        refine lv_iload hx hb dX4_pointsAt_34 (lv_at hl 0 rfl) ?_
        refine z_calli (va_runS (As := [.long (x2.toInt64), .int r2]) (rest := []) S (mX4_isIn l Γ th (x2.toInt64) r2 μ1 _ hp) (va_cwS 2 hts (lw_S q1748 q1749 q132 q1750) rfl rfl rfl hX4_isIn ⟨Nat.le_of_ble_eq_true rfl, Nat.le_of_ble_eq_true rfl⟩) hB.preS rfl rfl hl.1 rfl (lv_room (Nat.le_of_ble_eq_true rfl)) dX4_pointsAt_36 ⟨Nat.le_refl _, Nat.le_refl _⟩) hB (fun r4 μ3 H locs hp hB => ?_)
        refine lv_if_ne (tgt := 45) hx hb dX4_pointsAt_39 rfl (fun c0 => ?_) (fun c0 => ?_)
        · have hp := zif hp c0
          refine lv_iload_n hx hb dX4_pointsAt_45 rfl (lv_at hl 4 rfl) ?_
          refine lv_iconst (v := (-1 : Int32)) hx hb dX4_pointsAt_46 rfl ?_
          refine lv_icmp_eq (tgt := 74) hx hb dX4_pointsAt_47 rfl (fun c0 => ?_) (fun c0 => ?_)
          · have hp := zit hp c0
            refine lv_iload hx hb dX4_pointsAt_74 (lv_at hl 0 rfl) ?_
            refine lv_istore_n (lv' := [(3, .int r2), (5, .int r2), (0, .ref th), (1, .int x1), (2, .int x2), (4, .int x4)]) hx hb dX4_pointsAt_76 rfl hl (by decide) rfl (fun ls hl => ?_)
            refine lv_iinc (v := (x4 - (nI 1))) (lv' := [(4, .int (x4 - (nI 1))), (3, .int r2), (5, .int r2), (0, .ref th), (1, .int x1), (2, .int x2)]) hx hb dX4_pointsAt_77 hl (k := 5) rfl (by rw [Int32.sub_eq_add_neg]; rfl) (by decide) rfl (fun ls hl => ?_)
            refine lv_goto (tgt := 13) hx hb dX4_pointsAt_80 rfl ?_
            exact ih r2 (x4 - (nI 1)) μ3 _ _ _ hp hB (lv_sub hl [3, 4, 5, 1, 0] rfl)
          · have hp := zif hp c0
            refine lv_aload_n hx hb dX4_pointsAt_50 rfl (lv_at hl 1 rfl) ?_
            refine lv_iload_n hx hb dX4_pointsAt_51 rfl (lv_at hl 2 rfl) ?_
            refine lv_iload hx hb dX4_pointsAt_52 (lv_at hl 5 rfl) ?_
            refine z_calli (va_runV (As := [.int x1, .int x4]) (rest := []) S (mX4_worthNow l Γ th x1 x4 μ3 _ hp) (cwV 2 hts (lw_V q1678 q1680 qs86 q132 q1681) rfl rfl rfl hX4_worthNow ⟨Nat.le_of_ble_eq_true rfl, Nat.le_of_ble_eq_true rfl⟩) (hB.preV (tT hB) rfl rfl) rfl rfl hl.1 rfl (lv_room (Nat.le_of_ble_eq_true rfl)) dX4_pointsAt_54 ⟨Nat.le_refl _, Nat.le_refl _⟩) hB (fun r6 μ5 H locs hp hB => ?_)
            refine lv_aload_n hx hb dX4_pointsAt_57 rfl (lv_at hl 1 rfl) ?_
            refine lv_iload_n hx hb dX4_pointsAt_58 rfl (lv_at hl 2 rfl) ?_
            refine lv_aload_n hx hb dX4_pointsAt_59 rfl (lv_at hl 1 rfl) ?_
            refine g_getr S hB (tT hB) rfl (T := TX4) (N := 38) (C := RX4) rfl in_X4 1 (by decide) (by decide) q1393 (fun _ h9 => h9) (fun _ => rfl) (tA hB 0 rfl).1 dX4_pointsAt_60 ?_
            refine lv_bipush (v := (nI 35)) hx hb dX4_pointsAt_63 rfl ?_
            refine lv_iload_n hx hb dX4_pointsAt_65 rfl (lv_at hl 4 rfl) ?_
            refine lv_iadd hx hb dX4_pointsAt_66 ?_
            obtain ⟨hi, hp⟩ := hp
            refine g_iald S hB (tA hB 0 rfl).2 hi dX4_pointsAt_67 ?_
            refine z_calli (va_runV (As := [.int x1, .int (zI μ5 (th + 1) ((nI 35) + x3).toNatClampNeg)]) (rest := [.int r6]) S (mX4_worthNow l Γ th x1 (zI μ5 (th + 1) ((nI 35) + x3).toNatClampNeg) μ5 _ hp) (cwV 2 hts (lw_V q1678 q1680 qs86 q132 q1681) rfl rfl rfl hX4_worthNow ⟨Nat.le_of_ble_eq_true rfl, Nat.le_of_ble_eq_true rfl⟩) (hB.preV (tT hB) rfl rfl) rfl rfl hl.1 rfl (lv_room (Nat.le_of_ble_eq_true rfl)) dX4_pointsAt_68 ⟨Nat.le_refl _, Nat.le_refl _⟩) hB (fun r8 μ7 H locs hp hB => ?_)
            refine lv_icmp_le (tgt := 77) hx hb dX4_pointsAt_71 rfl (fun c0 => ?_) (fun c0 => ?_)
            · have hp := zit hp c0
              refine lv_iinc (v := (x4 - (nI 1))) (lv' := [(4, .int (x4 - (nI 1))), (5, .int r2), (0, .ref th), (1, .int x1), (2, .int x2), (3, .int x3)]) hx hb dX4_pointsAt_77 hl (k := 5) rfl (by rw [Int32.sub_eq_add_neg]; rfl) (by decide) rfl (fun ls hl => ?_)
              refine lv_goto (tgt := 13) hx hb dX4_pointsAt_80 rfl ?_
              exact ih x3 (x4 - (nI 1)) μ7 _ _ _ hp hB (lv_sub hl [2, 3, 4, 5, 0] rfl)
            · have hp := zif hp c0
              refine lv_iload hx hb dX4_pointsAt_74 (lv_at hl 0 rfl) ?_
              refine lv_istore_n (lv' := [(3, .int r2), (5, .int r2), (0, .ref th), (1, .int x1), (2, .int x2), (4, .int x4)]) hx hb dX4_pointsAt_76 rfl hl (by decide) rfl (fun ls hl => ?_)
              refine lv_iinc (v := (x4 - (nI 1))) (lv' := [(4, .int (x4 - (nI 1))), (3, .int r2), (5, .int r2), (0, .ref th), (1, .int x1), (2, .int x2)]) hx hb dX4_pointsAt_77 hl (k := 5) rfl (by rw [Int32.sub_eq_add_neg]; rfl) (by decide) rfl (fun ls hl => ?_)
              refine lv_goto (tgt := 13) hx hb dX4_pointsAt_80 rfl ?_
              exact ih r2 (x4 - (nI 1)) μ7 _ _ _ hp hB (lv_sub hl [3, 4, 5, 1, 0] rfl)
        · have hp := zit hp c0
          refine lv_goto (tgt := 77) hx hb dX4_pointsAt_42 rfl ?_
          refine lv_iinc (v := (x4 - (nI 1))) (lv' := [(4, .int (x4 - (nI 1))), (5, .int r2), (0, .ref th), (1, .int x1), (2, .int x2), (3, .int x3)]) hx hb dX4_pointsAt_77 hl (k := 5) rfl (by rw [Int32.sub_eq_add_neg]; rfl) (by decide) rfl (fun ls hl => ?_)
          refine lv_goto (tgt := 13) hx hb dX4_pointsAt_80 rfl ?_
          exact ih x3 (x4 - (nI 1)) μ3 _ _ _ hp hB (lv_sub hl [2, 3, 4, 5, 0] rfl)
def pX4_pointsAt (th : Nat) (x1 : Int32) (x2 : Int32) (μ : zM) (Q : Int32 → zM → Prop) : Prop := (vp_in (nI 20) 3594 ∧ ∃ k1, pX4_pointsAt_13 th x1 x2 Q k1 (-1 : Int32) ((zI μ (th + 1) (nI 20).toNatClampNeg) - (nI 1)) μ)
theorem hX4_pointsAt : yX4_pointsAt.cls = "SunkTowerModel" ∧ yX4_pointsAt.cls ≠ "java/lang/invoke/MethodHandle" ∧ yX4_pointsAt.cls ≠ "java/lang/invoke/VarHandle" ∧ (parseMethodDescriptor yX4_pointsAt.desc).map (fun d => d.parameters.length) = some 2 := by decide +kernel
set_option maxHeartbeats 4000000 in
set_option maxRecDepth 100000 in
theorem mX4_pointsAt (l : Launch) (Γ : zG) (th : Nat) (x1 : Int32) (x2 : Int32) (μ : zM) (Q : Int32 → zM → Prop) (hp : pX4_pointsAt th x1 x2 μ Q) : Met l yX4_pointsAt (ws_ yX4_pointsAt cX4_pointsAt 6 (some .int)) ({ frames := 4, cells := 0, slots := 0, locals := 94 } : Room) (va_Pc [.ref th, .int x1, .int x2] (zPre Γ (tSh th) μ)) (va_Qi Q (zPost Γ (tSh th) μ) (zA μ)) 0 0 (zA μ) := by
  refine zstart (by decide) (Nat.le_of_ble_eq_true rfl) ?_
  intro p e s m below meth c ls X hnm hB hl
  have X : zCx p m c cX4_pointsAt 6 s [.ref th, .int x1, .int x2].toArray RX4 meth (some .int) := X
  have S := X.1
  obtain ⟨hx, hb, hml, hown, hts⟩ := X.1
  have hl : lv_has ls 6 [(0, .ref th), (1, .int x1), (2, .int x2)] := hl
  unfold pX4_pointsAt at hp
  refine lv_iconst (v := (-1 : Int32)) hx hb dX4_pointsAt_0 rfl ?_
  refine lv_istore_n (lv' := [(3, .int (-1 : Int32)), (0, .ref th), (1, .int x1), (2, .int x2)]) hx hb dX4_pointsAt_1 rfl hl (by decide) rfl (fun ls hl => ?_)
  refine lv_aload_n hx hb dX4_pointsAt_2 rfl (lv_at hl 1 rfl) ?_
  refine g_getr S hB (tT hB) rfl (T := TX4) (N := 38) (C := RX4) rfl in_X4 1 (by decide) (by decide) q1393 (fun _ h9 => h9) (fun _ => rfl) (tA hB 0 rfl).1 dX4_pointsAt_3 ?_
  refine lv_bipush (v := (nI 20)) hx hb dX4_pointsAt_6 rfl ?_
  obtain ⟨hi, hp⟩ := hp
  refine g_iald S hB (tA hB 0 rfl).2 hi dX4_pointsAt_8 ?_
  refine lv_iconst (v := (nI 1)) hx hb dX4_pointsAt_9 rfl ?_
  refine lv_isub hx hb dX4_pointsAt_10 ?_
  refine lv_istore (lv' := [(4, .int ((zI μ (th + 1) (nI 20).toNatClampNeg) - (nI 1))), (3, .int (-1 : Int32)), (0, .ref th), (1, .int x1), (2, .int x2)]) hx hb dX4_pointsAt_11 hl (by decide) rfl (fun ls hl => ?_)
  obtain ⟨n1, hp⟩ := hp
  exact wX4_pointsAt_13 X th x1 x2 n1 (-1 : Int32) ((zI μ (th + 1) (nI 20).toNatClampNeg) - (nI 1)) μ _ _ _ hp hB (lv_sub hl [2, 3, 4, 1, 0] rfl)
def pX4_laysSunk_15 (th : Nat) (x1 : Int32) (x2 : Int32) (Q : zM → Prop) : Nat → Int32 → zM → Prop
  | 0, _, _ => False
  | n + 1, x3, μ => (if x1 ≤ x3 then Q μ else (vp_in x3 602 ∧ (vp_in (nI 20) 3594 ∧ (vp_in x3 602 ∧ (vp_in (nI 42) 3594 ∧ (pX4_sinksBy th x2 (zI μ (th + 1) (nI 20).toNatClampNeg) (zI μ (th + 9) x3.toNatClampNeg) ((zI μ (th + 1) (nI 42).toNatClampNeg) + x3) μ fun r2 μ1 => (pX4_deeper th (zI μ (th + 9) x3.toNatClampNeg) r2 μ1 fun r4 μ3 => (vp_in (x3 + (nI 1)) 602 ∧ zpI μ3 (th + 9) (x3 + (nI 1)).toNatClampNeg r4 fun μ5 => pX4_laysSunk_15 th x1 x2 Q n (x3 + (nI 1)) μ5))))))))
set_option maxHeartbeats 4000000 in
set_option maxRecDepth 100000 in
theorem wX4_laysSunk_15 {p : Program} {l : Launch} {e : Env} {s : State} {m : MethodId} {args : Array Value} {below : List Frame} {meth : Method} {c : Code} {Γ : zG} {μ0 : zM} {Q : zM → Prop} (X : zCx p m c cX4_laysSunk 4 s args RX4 meth none) (th : Nat) (x1 : Int32) (x2 : Int32) : ∀ (n : Nat) (x3 : Int32) (μ : zM) (H : Heap) (locs : List Loc) (ls : Array Slot), pX4_laysSunk_15 th x1 x2 Q n x3 μ → zB Γ (tSh th) (zA μ0) μ0 s μ H locs → lv_has ls 4 [(0, .ref th), (1, .int x1), (2, .int x2), (3, .int x3)] → W p l e ({ frames := 3, cells := 0, slots := 0, locals := 74 } : Room) s m args below meth c H locs 0 0 (MQ below (va_Qv Q (zPost Γ (tSh th) μ0) (zA μ0)) args s 0 0 (zA μ0)) (F0 m 15 ls []) := by
  have S := X.1
  obtain ⟨hx, hb, hml, hown, hts⟩ := X.1
  intro n
  induction n with
  | zero =>
    intro x3 μ H locs ls hp
    exact hp.elim
  | succ n ih =>
    intro x3 μ H locs ls hp hB hl
    unfold pX4_laysSunk_15 at hp
    refine lv_iload_n hx hb dX4_laysSunk_15 rfl (lv_at hl 3 rfl) ?_
    refine lv_iload_n hx hb dX4_laysSunk_16 rfl (lv_at hl 1 rfl) ?_
    refine lv_icmp_ge (tgt := 70) hx hb dX4_laysSunk_17 rfl (fun c0 => ?_) (fun c0 => ?_)
    · have hp := zit hp c0
      exact zret_v X hB hp dX4_laysSunk_70
    · have hp := zif hp c0
      refine lv_aload_n hx hb dX4_laysSunk_20 rfl (lv_at hl 0 rfl) ?_
      refine g_getr S hB (tT hB) rfl (T := TX4) (N := 38) (C := RX4) rfl in_X4 23 (by decide) (by decide) q1415 (fun _ h9 => h9) (fun _ => rfl) (tA hB 8 rfl).1 dX4_laysSunk_21 ?_
      refine lv_iload_n hx hb dX4_laysSunk_24 rfl (lv_at hl 3 rfl) ?_
      refine lv_iconst (v := (nI 1)) hx hb dX4_laysSunk_25 rfl ?_
      refine lv_iadd hx hb dX4_laysSunk_26 ?_
      refine lv_aload_n hx hb dX4_laysSunk_27 rfl (lv_at hl 0 rfl) ?_
      refine g_getr S hB (tT hB) rfl (T := TX4) (N := 38) (C := RX4) rfl in_X4 23 (by decide) (by decide) q1415 (fun _ h9 => h9) (fun _ => rfl) (tA hB 8 rfl).1 dX4_laysSunk_28 ?_
      refine lv_iload_n hx hb dX4_laysSunk_31 rfl (lv_at hl 3 rfl) ?_
      obtain ⟨hi, hp⟩ := hp
      refine g_iald S hB (tA hB 8 rfl).2 hi dX4_laysSunk_32 ?_
      refine lv_aload_n hx hb dX4_laysSunk_33 rfl (lv_at hl 0 rfl) ?_
      refine lv_iload_n hx hb dX4_laysSunk_34 rfl (lv_at hl 2 rfl) ?_
      refine lv_aload_n hx hb dX4_laysSunk_35 rfl (lv_at hl 0 rfl) ?_
      refine g_getr S hB (tT hB) rfl (T := TX4) (N := 38) (C := RX4) rfl in_X4 1 (by decide) (by decide) q1393 (fun _ h9 => h9) (fun _ => rfl) (tA hB 0 rfl).1 dX4_laysSunk_36 ?_
      refine lv_bipush (v := (nI 20)) hx hb dX4_laysSunk_39 rfl ?_
      obtain ⟨hi, hp⟩ := hp
      refine g_iald S hB (tA hB 0 rfl).2 hi dX4_laysSunk_41 ?_
      refine lv_aload_n hx hb dX4_laysSunk_42 rfl (lv_at hl 0 rfl) ?_
      refine g_getr S hB (tT hB) rfl (T := TX4) (N := 38) (C := RX4) rfl in_X4 23 (by decide) (by decide) q1415 (fun _ h9 => h9) (fun _ => rfl) (tA hB 8 rfl).1 dX4_laysSunk_43 ?_
      refine lv_iload_n hx hb dX4_laysSunk_46 rfl (lv_at hl 3 rfl) ?_
      obtain ⟨hi, hp⟩ := hp
      refine g_iald S hB (tA hB 8 rfl).2 hi dX4_laysSunk_47 ?_
      refine lv_aload_n hx hb dX4_laysSunk_48 rfl (lv_at hl 0 rfl) ?_
      refine g_getr S hB (tT hB) rfl (T := TX4) (N := 38) (C := RX4) rfl in_X4 1 (by decide) (by decide) q1393 (fun _ h9 => h9) (fun _ => rfl) (tA hB 0 rfl).1 dX4_laysSunk_49 ?_
      refine lv_bipush (v := (nI 42)) hx hb dX4_laysSunk_52 rfl ?_
      obtain ⟨hi, hp⟩ := hp
      refine g_iald S hB (tA hB 0 rfl).2 hi dX4_laysSunk_54 ?_
      refine lv_iload_n hx hb dX4_laysSunk_55 rfl (lv_at hl 3 rfl) ?_
      refine lv_iadd hx hb dX4_laysSunk_56 ?_
      refine z_calli (va_runV (As := [.int x2, .int (zI μ (th + 1) (nI 20).toNatClampNeg), .int (zI μ (th + 9) x3.toNatClampNeg), .int ((zI μ (th + 1) (nI 42).toNatClampNeg) + x3)]) (rest := [.int (zI μ (th + 9) x3.toNatClampNeg), .int (x3 + (nI 1)), .ref (th + 9)]) S (mX4_sinksBy l Γ th x2 (zI μ (th + 1) (nI 20).toNatClampNeg) (zI μ (th + 9) x3.toNatClampNeg) ((zI μ (th + 1) (nI 42).toNatClampNeg) + x3) μ _ hp) (cwV 4 hts (lw_V q1649 q1651 qs83 q132 q1652) rfl rfl rfl hX4_sinksBy ⟨Nat.le_of_ble_eq_true rfl, Nat.le_of_ble_eq_true rfl⟩) (hB.preV (tT hB) rfl rfl) rfl rfl hl.1 rfl (lv_room (Nat.le_of_ble_eq_true rfl)) dX4_laysSunk_57 ⟨Nat.le_refl _, Nat.le_refl _⟩) hB (fun r2 μ1 H locs hp hB => ?_)
      refine z_calli (va_runS (As := [.int (zI μ (th + 9) x3.toNatClampNeg), .int r2]) (rest := [.int (x3 + (nI 1)), .ref (th + 9)]) S (mX4_deeper l Γ th (zI μ (th + 9) x3.toNatClampNeg) r2 μ1 _ hp) (va_cwS 2 hts (lw_S q1699 q1700 q132 q1701) rfl rfl rfl hX4_deeper ⟨Nat.le_of_ble_eq_true rfl, Nat.le_of_ble_eq_true rfl⟩) hB.preS rfl rfl hl.1 rfl (lv_room (Nat.le_of_ble_eq_true rfl)) dX4_laysSunk_60 ⟨Nat.le_refl _, Nat.le_refl _⟩) hB (fun r4 μ3 H locs hp hB => ?_)
      obtain ⟨hi, hp⟩ := hp
      obtain ⟨μ5, eμ5, hp⟩ := zpI_e hp
      refine g_iast S hB (tA hB 8 rfl).2 hi dX4_laysSunk_63 (fun H locs hB => ?_)
      rw [← eμ5] at hB
      refine lv_iinc (v := (x3 + (nI 1))) (lv' := [(3, .int (x3 + (nI 1))), (0, .ref th), (1, .int x1), (2, .int x2)]) hx hb dX4_laysSunk_64 hl (k := 3) rfl rfl (by decide) rfl (fun ls hl => ?_)
      refine lv_goto (tgt := 15) hx hb dX4_laysSunk_67 rfl ?_
      exact ih (x3 + (nI 1)) μ5 _ _ _ hp hB (lv_sub hl [1, 2, 3, 0] rfl)
def pX4_laysSunk (th : Nat) (x1 : Int32) (x2 : Int32) (μ : zM) (Q : zM → Prop) : Prop := (vp_in (nI 41) 3594 ∧ (vp_in (nI 0) 602 ∧ zpI μ (th + 9) (nI 0).toNatClampNeg (zI μ (th + 1) (nI 41).toNatClampNeg) fun μ1 => ∃ k1, pX4_laysSunk_15 th x1 x2 Q k1 (nI 0) μ1))
theorem hX4_laysSunk : yX4_laysSunk.cls = "SunkTowerModel" ∧ yX4_laysSunk.cls ≠ "java/lang/invoke/MethodHandle" ∧ yX4_laysSunk.cls ≠ "java/lang/invoke/VarHandle" ∧ (parseMethodDescriptor yX4_laysSunk.desc).map (fun d => d.parameters.length) = some 2 := by decide +kernel
set_option maxHeartbeats 4000000 in
set_option maxRecDepth 100000 in
theorem mX4_laysSunk (l : Launch) (Γ : zG) (th : Nat) (x1 : Int32) (x2 : Int32) (μ : zM) (Q : zM → Prop) (hp : pX4_laysSunk th x1 x2 μ Q) : Met l yX4_laysSunk (ws_ yX4_laysSunk cX4_laysSunk 4 none) ({ frames := 3, cells := 0, slots := 0, locals := 74 } : Room) (va_Pc [.ref th, .int x1, .int x2] (zPre Γ (tSh th) μ)) (va_Qv Q (zPost Γ (tSh th) μ) (zA μ)) 0 0 (zA μ) := by
  refine zstart (by decide) (Nat.le_of_ble_eq_true rfl) ?_
  intro p e s m below meth c ls X hnm hB hl
  have X : zCx p m c cX4_laysSunk 4 s [.ref th, .int x1, .int x2].toArray RX4 meth none := X
  have S := X.1
  obtain ⟨hx, hb, hml, hown, hts⟩ := X.1
  have hl : lv_has ls 4 [(0, .ref th), (1, .int x1), (2, .int x2)] := hl
  unfold pX4_laysSunk at hp
  refine lv_aload_n hx hb dX4_laysSunk_0 rfl (lv_at hl 0 rfl) ?_
  refine g_getr S hB (tT hB) rfl (T := TX4) (N := 38) (C := RX4) rfl in_X4 23 (by decide) (by decide) q1415 (fun _ h9 => h9) (fun _ => rfl) (tA hB 8 rfl).1 dX4_laysSunk_1 ?_
  refine lv_iconst (v := (nI 0)) hx hb dX4_laysSunk_4 rfl ?_
  refine lv_aload_n hx hb dX4_laysSunk_5 rfl (lv_at hl 0 rfl) ?_
  refine g_getr S hB (tT hB) rfl (T := TX4) (N := 38) (C := RX4) rfl in_X4 1 (by decide) (by decide) q1393 (fun _ h9 => h9) (fun _ => rfl) (tA hB 0 rfl).1 dX4_laysSunk_6 ?_
  refine lv_bipush (v := (nI 41)) hx hb dX4_laysSunk_9 rfl ?_
  obtain ⟨hi, hp⟩ := hp
  refine g_iald S hB (tA hB 0 rfl).2 hi dX4_laysSunk_11 ?_
  obtain ⟨hi, hp⟩ := hp
  obtain ⟨μ1, eμ1, hp⟩ := zpI_e hp
  refine g_iast S hB (tA hB 8 rfl).2 hi dX4_laysSunk_12 (fun H locs hB => ?_)
  rw [← eμ1] at hB
  refine lv_iconst (v := (nI 0)) hx hb dX4_laysSunk_13 rfl ?_
  refine lv_istore_n (lv' := [(3, .int (nI 0)), (0, .ref th), (1, .int x1), (2, .int x2)]) hx hb dX4_laysSunk_14 rfl hl (by decide) rfl (fun ls hl => ?_)
  obtain ⟨n1, hp⟩ := hp
  exact wX4_laysSunk_15 X th x1 x2 n1 (nI 0) μ1 _ _ _ hp hB (lv_sub hl [1, 2, 3, 0] rfl)
def pX4_bears_35 (th : Nat) (x1 : Int32) (x2 : Int32) (Q : Int32 → zM → Prop) : Nat → Int32 → Int32 → zM → Prop
  | 0, _, _, _ => False
  | n + 1, x3, x4, μ => (if x4 < 0 then Q (-1 : Int32) μ else (pX4_laysSunk th x2 (x3 + x4) μ fun μ1 => (vp_in x2 602 ∧ (vp_in (nI 41) 3594 ∧ (if x1 < ((zI μ1 (th + 9) x2.toNatClampNeg) - (zI μ1 (th + 1) (nI 41).toNatClampNeg)) then pX4_bears_35 th x1 x2 Q n x3 (x4 - (nI 1)) μ1 else Q x4 μ1)))))
set_option maxHeartbeats 4000000 in
set_option maxRecDepth 100000 in
theorem wX4_bears_35 {p : Program} {l : Launch} {e : Env} {s : State} {m : MethodId} {args : Array Value} {below : List Frame} {meth : Method} {c : Code} {Γ : zG} {μ0 : zM} {Q : Int32 → zM → Prop} (X : zCx p m c cX4_bears 5 s args RX4 meth (some .int)) (th : Nat) (x1 : Int32) (x2 : Int32) : ∀ (n : Nat) (x3 : Int32) (x4 : Int32) (μ : zM) (H : Heap) (locs : List Loc) (ls : Array Slot), pX4_bears_35 th x1 x2 Q n x3 x4 μ → zB Γ (tSh th) (zA μ0) μ0 s μ H locs → lv_has ls 5 [(0, .ref th), (1, .int x1), (2, .int x2), (3, .int x3), (4, .int x4)] → W p l e ({ frames := 4, cells := 0, slots := 0, locals := 97 } : Room) s m args below meth c H locs 0 0 (MQ below (va_Qi Q (zPost Γ (tSh th) μ0) (zA μ0)) args s 0 0 (zA μ0)) (F0 m 35 ls []) := by
  have S := X.1
  obtain ⟨hx, hb, hml, hown, hts⟩ := X.1
  intro n
  induction n with
  | zero =>
    intro x3 x4 μ H locs ls hp
    exact hp.elim
  | succ n ih =>
    intro x3 x4 μ H locs ls hp hB hl
    unfold pX4_bears_35 at hp
    refine lv_iload hx hb dX4_bears_35 (lv_at hl 4 rfl) ?_
    refine lv_if_lt (tgt := 76) hx hb dX4_bears_37 rfl (fun c0 => ?_) (fun c0 => ?_)
    · have hp := zit hp c0
      refine lv_iconst (v := (-1 : Int32)) hx hb dX4_bears_76 rfl ?_
      exact zret_i X hB hp dX4_bears_77
    · have hp := zif hp c0
      refine lv_aload_n hx hb dX4_bears_40 rfl (lv_at hl 0 rfl) ?_
      refine lv_iload_n hx hb dX4_bears_41 rfl (lv_at hl 2 rfl) ?_
      refine lv_iload_n hx hb dX4_bears_42 rfl (lv_at hl 3 rfl) ?_
      refine lv_iload hx hb dX4_bears_43 (lv_at hl 4 rfl) ?_
      refine lv_iadd hx hb dX4_bears_45 ?_
      refine z_callv (va_runV (As := [.int x2, .int (x3 + x4)]) (rest := []) S (mX4_laysSunk l Γ th x2 (x3 + x4) μ _ hp) (cwV 2 hts (lw_V q1821 q1823 qs105 q132 q1824) rfl rfl rfl hX4_laysSunk ⟨Nat.le_of_ble_eq_true rfl, Nat.le_of_ble_eq_true rfl⟩) (hB.preV (tT hB) rfl rfl) rfl rfl hl.1 rfl (lv_room (Nat.le_of_ble_eq_true rfl)) dX4_bears_46 ⟨Nat.le_refl _, Nat.le_refl _⟩) hB (fun μ1 H locs hp hB => ?_)
      refine lv_aload_n hx hb dX4_bears_49 rfl (lv_at hl 0 rfl) ?_
      refine g_getr S hB (tT hB) rfl (T := TX4) (N := 38) (C := RX4) rfl in_X4 23 (by decide) (by decide) q1415 (fun _ h9 => h9) (fun _ => rfl) (tA hB 8 rfl).1 dX4_bears_50 ?_
      refine lv_iload_n hx hb dX4_bears_53 rfl (lv_at hl 2 rfl) ?_
      obtain ⟨hi, hp⟩ := hp
      refine g_iald S hB (tA hB 8 rfl).2 hi dX4_bears_54 ?_
      refine lv_aload_n hx hb dX4_bears_55 rfl (lv_at hl 0 rfl) ?_
      refine g_getr S hB (tT hB) rfl (T := TX4) (N := 38) (C := RX4) rfl in_X4 1 (by decide) (by decide) q1393 (fun _ h9 => h9) (fun _ => rfl) (tA hB 0 rfl).1 dX4_bears_56 ?_
      refine lv_bipush (v := (nI 41)) hx hb dX4_bears_59 rfl ?_
      obtain ⟨hi, hp⟩ := hp
      refine g_iald S hB (tA hB 0 rfl).2 hi dX4_bears_61 ?_
      refine lv_isub hx hb dX4_bears_62 ?_
      refine lv_iload_n hx hb dX4_bears_63 rfl (lv_at hl 1 rfl) ?_
      refine lv_icmp_gt (tgt := 70) hx hb dX4_bears_64 rfl (fun c0 => ?_) (fun c0 => ?_)
      · have hp := zit hp c0
        refine lv_iinc (v := (x4 - (nI 1))) (lv' := [(4, .int (x4 - (nI 1))), (0, .ref th), (1, .int x1), (2, .int x2), (3, .int x3)]) hx hb dX4_bears_70 hl (k := 4) rfl (by rw [Int32.sub_eq_add_neg]; rfl) (by decide) rfl (fun ls hl => ?_)
        refine lv_goto (tgt := 35) hx hb dX4_bears_73 rfl ?_
        exact ih x3 (x4 - (nI 1)) μ1 _ _ _ hp hB (lv_sub hl [1, 2, 3, 4, 0] rfl)
      · have hp := zif hp c0
        refine lv_iload hx hb dX4_bears_67 (lv_at hl 4 rfl) ?_
        exact zret_i X hB hp dX4_bears_69
def pX4_bears (th : Nat) (x1 : Int32) (x2 : Int32) (μ : zM) (Q : Int32 → zM → Prop) : Prop := (zpI μ th 0 (nI 0) fun μ1 => (if x1 < 0 then Q (-3 : Int32) μ1 else (pX4_within th (x2.toInt64) (1 : Int64) (60 : Int64) μ1 fun r3 μ2 => (if r3 = 0 then Q (-3 : Int32) μ2 else (pX4_weightOf th (-1 : Int32) μ2 fun r5 μ4 => ∃ k1, pX4_bears_35 th x1 x2 Q k1 r5 (nI 999) μ4)))))
theorem hX4_bears : yX4_bears.cls = "SunkTowerModel" ∧ yX4_bears.cls ≠ "java/lang/invoke/MethodHandle" ∧ yX4_bears.cls ≠ "java/lang/invoke/VarHandle" ∧ (parseMethodDescriptor yX4_bears.desc).map (fun d => d.parameters.length) = some 2 := by decide +kernel
set_option maxHeartbeats 4000000 in
set_option maxRecDepth 100000 in
theorem mX4_bears (l : Launch) (Γ : zG) (th : Nat) (x1 : Int32) (x2 : Int32) (μ : zM) (Q : Int32 → zM → Prop) (hp : pX4_bears th x1 x2 μ Q) : Met l yX4_bears (ws_ yX4_bears cX4_bears 5 (some .int)) ({ frames := 4, cells := 0, slots := 0, locals := 97 } : Room) (va_Pc [.ref th, .int x1, .int x2] (zPre Γ (tSh th) μ)) (va_Qi Q (zPost Γ (tSh th) μ) (zA μ)) 0 0 (zA μ) := by
  refine zstart (by decide) (Nat.le_of_ble_eq_true rfl) ?_
  intro p e s m below meth c ls X hnm hB hl
  have X : zCx p m c cX4_bears 5 s [.ref th, .int x1, .int x2].toArray RX4 meth (some .int) := X
  have S := X.1
  obtain ⟨hx, hb, hml, hown, hts⟩ := X.1
  have hl : lv_has ls 5 [(0, .ref th), (1, .int x1), (2, .int x2)] := hl
  unfold pX4_bears at hp
  refine lv_aload_n hx hb dX4_bears_0 rfl (lv_at hl 0 rfl) ?_
  refine lv_iconst (v := (nI 0)) hx hb dX4_bears_1 rfl ?_
  obtain ⟨μ1, eμ1, hp⟩ := zpI_e hp
  refine g_putI S hB (tT hB) rfl (T := TX4) (N := 38) (C := RX4) rfl in_X4 0 (by decide) (by decide) (x := (nI 0)) tyX4 tyX4_ok nmX4 q1392 (fun _ h9 => h9) rfl (ty := .int) (by decide +kernel) rfl rfl (fun _ _ => rfl) dX4_bears_2 (fun H locs hB => ?_)
  rw [← eμ1] at hB
  refine lv_iload_n hx hb dX4_bears_5 rfl (lv_at hl 1 rfl) ?_
  refine lv_if_lt (tgt := 21) hx hb dX4_bears_6 rfl (fun c0 => ?_) (fun c0 => ?_)
  · have hp := zit hp c0
    refine lv_bipush (v := (-3 : Int32)) hx hb dX4_bears_21 rfl ?_
    exact zret_i X hB hp dX4_bears_23
  · have hp := zif hp c0
    refine lv_iload_n hx hb dX4_bears_9 rfl (lv_at hl 2 rfl) ?_
    refine lv_i2l hx hb dX4_bears_10 rfl ?_
    refine lv_lconst (v := (1 : Int64)) hx hb dX4_bears_11 rfl ?_
    refine lv_ldc2 (v := (60 : Int64)) hx hb hown (hts _ q1871) dX4_bears_12 ?_
    refine z_calli (va_runS (As := [.long (x2.toInt64), .long (1 : Int64), .long (60 : Int64)]) (rest := []) S (mX4_within l Γ th (x2.toInt64) (1 : Int64) (60 : Int64) μ1 _ hp) (va_cwS 3 hts (lw_S q1516 q1517 q132 q1518) rfl rfl rfl hX4_within ⟨Nat.le_of_ble_eq_true rfl, Nat.le_of_ble_eq_true rfl⟩) hB.preS rfl rfl hl.1 rfl (lv_room (Nat.le_of_ble_eq_true rfl)) dX4_bears_15 ⟨Nat.le_refl _, Nat.le_refl _⟩) hB (fun r3 μ2 H locs hp hB => ?_)
    refine lv_if_ne (tgt := 24) hx hb dX4_bears_18 rfl (fun c0 => ?_) (fun c0 => ?_)
    · have hp := zif hp c0
      refine lv_aload_n hx hb dX4_bears_24 rfl (lv_at hl 0 rfl) ?_
      refine lv_iconst (v := (-1 : Int32)) hx hb dX4_bears_25 rfl ?_
      refine z_calli (va_runV (As := [.int (-1 : Int32)]) (rest := []) S (mX4_weightOf l Γ th (-1 : Int32) μ2 _ hp) (cwV 1 hts (lw_V q1641 q1643 qs82 q132 q1644) rfl rfl rfl hX4_weightOf ⟨Nat.le_of_ble_eq_true rfl, Nat.le_of_ble_eq_true rfl⟩) (hB.preV (tT hB) rfl rfl) rfl rfl hl.1 rfl (lv_room (Nat.le_of_ble_eq_true rfl)) dX4_bears_26 ⟨Nat.le_refl _, Nat.le_refl _⟩) hB (fun r5 μ4 H locs hp hB => ?_)
      refine lv_istore_n (lv' := [(3, .int r5), (0, .ref th), (1, .int x1), (2, .int x2)]) hx hb dX4_bears_29 rfl hl (by decide) rfl (fun ls hl => ?_)
      refine lv_sipush (v := (nI 999)) hx hb dX4_bears_30 rfl ?_
      refine lv_istore (lv' := [(4, .int (nI 999)), (3, .int r5), (0, .ref th), (1, .int x1), (2, .int x2)]) hx hb dX4_bears_33 hl (by decide) rfl (fun ls hl => ?_)
      obtain ⟨n1, hp⟩ := hp
      exact wX4_bears_35 X th x1 x2 n1 r5 (nI 999) μ4 _ _ _ hp hB (lv_sub hl [2, 3, 4, 1, 0] rfl)
    · have hp := zit hp c0
      refine lv_bipush (v := (-3 : Int32)) hx hb dX4_bears_21 rfl ?_
      exact zret_i X hB hp dX4_bears_23
def pX4_goesBy_25 (th : Nat) (x2 : Int32) (x4 : Int32) (Q : Int64 → zM → Prop) (y2 : Int64) (y1 : Int64) (μ : zM) : Prop := (vp_in (((nI 9) * (x2 + (nI 1))) + x4) 549 ∧ Q ((y1 - y2) + (zJ μ (th + 10) (((nI 9) * (x2 + (nI 1))) + x4).toNatClampNeg)) μ)
set_option maxHeartbeats 4000000 in
set_option maxRecDepth 100000 in
theorem wX4_goesBy_25 {p : Program} {l : Launch} {e : Env} {s : State} {m : MethodId} {args : Array Value} {below : List Frame} {meth : Method} {c : Code} {Γ : zG} {μ0 : zM} {Q : Int64 → zM → Prop} (X : zCx p m c cX4_goesBy 5 s args RX4 meth (some .long)) (th : Nat) (x2 : Int32) (x4 : Int32) : ∀ (y2 : Int64) (y1 : Int64) (μ : zM) (H : Heap) (locs : List Loc) (ls : Array Slot), pX4_goesBy_25 th x2 x4 Q y2 y1 μ → zB Γ (tSh th) (zA μ0) μ0 s μ H locs → lv_has ls 5 [(0, .ref th), (2, .int x2), (4, .int x4)] → W p l e ({ frames := 4, cells := 0, slots := 0, locals := 96 } : Room) s m args below meth c H locs 0 0 (MQ below (va_Ql Q (zPost Γ (tSh th) μ0) (zA μ0)) args s 0 0 (zA μ0)) (F0 m 25 ls [.long y2, .long y1]) := by
  have S := X.1
  obtain ⟨hx, hb, hml, hown, hts⟩ := X.1
  intro y2 y1 μ H locs ls hp hB hl
  unfold pX4_goesBy_25 at hp
  refine lv_lsub hx hb dX4_goesBy_25 ?_
  refine lv_aload_n hx hb dX4_goesBy_26 rfl (lv_at hl 0 rfl) ?_
  refine g_getr S hB (tT hB) rfl (T := TX4) (N := 38) (C := RX4) rfl in_X4 24 (by decide) (by decide) q1416 (fun _ h9 => h9) (fun _ => rfl) (tA hB 9 rfl).1 dX4_goesBy_27 ?_
  refine lv_bipush (v := (nI 9)) hx hb dX4_goesBy_30 rfl ?_
  refine lv_iload_n hx hb dX4_goesBy_32 rfl (lv_at hl 1 rfl) ?_
  refine lv_iconst (v := (nI 1)) hx hb dX4_goesBy_33 rfl ?_
  refine lv_iadd hx hb dX4_goesBy_34 ?_
  refine lv_imul hx hb dX4_goesBy_35 ?_
  refine lv_iload hx hb dX4_goesBy_36 (lv_at hl 2 rfl) ?_
  refine lv_iadd hx hb dX4_goesBy_38 ?_
  obtain ⟨hi, hp⟩ := hp
  refine g_lald S hB (tA hB 9 rfl).2 hi dX4_goesBy_39 ?_
  refine lv_ladd hx hb dX4_goesBy_40 ?_
  exact zret_l X hB hp dX4_goesBy_41
def pX4_goesBy (th : Nat) (x1 : Int32) (x2 : Int32) (x3 : Int32) (x4 : Int32) (μ : zM) (Q : Int64 → zM → Prop) : Prop := (pX4_gainIn th x1 x2 x4 μ fun r2 μ1 => (if x3 = x4 then pX4_goesBy_25 th x2 x4 Q (0 : Int64) r2 μ1 else (vp_in (nI 4) 3594 ∧ pX4_goesBy_25 th x2 x4 Q ((zI μ1 (th + 1) (nI 4).toNatClampNeg).toInt64) r2 μ1)))
theorem hX4_goesBy : yX4_goesBy.cls = "SunkTowerModel" ∧ yX4_goesBy.cls ≠ "java/lang/invoke/MethodHandle" ∧ yX4_goesBy.cls ≠ "java/lang/invoke/VarHandle" ∧ (parseMethodDescriptor yX4_goesBy.desc).map (fun d => d.parameters.length) = some 4 := by decide +kernel
set_option maxHeartbeats 4000000 in
set_option maxRecDepth 100000 in
theorem mX4_goesBy (l : Launch) (Γ : zG) (th : Nat) (x1 : Int32) (x2 : Int32) (x3 : Int32) (x4 : Int32) (μ : zM) (Q : Int64 → zM → Prop) (hp : pX4_goesBy th x1 x2 x3 x4 μ Q) : Met l yX4_goesBy (ws_ yX4_goesBy cX4_goesBy 5 (some .long)) ({ frames := 4, cells := 0, slots := 0, locals := 96 } : Room) (va_Pc [.ref th, .int x1, .int x2, .int x3, .int x4] (zPre Γ (tSh th) μ)) (va_Ql Q (zPost Γ (tSh th) μ) (zA μ)) 0 0 (zA μ) := by
  refine zstart (by decide) (Nat.le_of_ble_eq_true rfl) ?_
  intro p e s m below meth c ls X hnm hB hl
  have X : zCx p m c cX4_goesBy 5 s [.ref th, .int x1, .int x2, .int x3, .int x4].toArray RX4 meth (some .long) := X
  have S := X.1
  obtain ⟨hx, hb, hml, hown, hts⟩ := X.1
  have hl : lv_has ls 5 [(0, .ref th), (1, .int x1), (2, .int x2), (3, .int x3), (4, .int x4)] := hl
  unfold pX4_goesBy at hp
  refine lv_aload_n hx hb dX4_goesBy_0 rfl (lv_at hl 0 rfl) ?_
  refine lv_iload_n hx hb dX4_goesBy_1 rfl (lv_at hl 1 rfl) ?_
  refine lv_iload_n hx hb dX4_goesBy_2 rfl (lv_at hl 2 rfl) ?_
  refine lv_iload hx hb dX4_goesBy_3 (lv_at hl 4 rfl) ?_
  refine z_calll (va_runV (As := [.int x1, .int x2, .int x4]) (rest := []) S (mX4_gainIn l Γ th x1 x2 x4 μ _ hp) (cwV 3 hts (lw_V q1895 q1897 qs112 q132 q1898) rfl rfl rfl hX4_gainIn ⟨Nat.le_of_ble_eq_true rfl, Nat.le_of_ble_eq_true rfl⟩) (hB.preV (tT hB) rfl rfl) rfl rfl hl.1 rfl (lv_room (Nat.le_of_ble_eq_true rfl)) dX4_goesBy_5 ⟨Nat.le_refl _, Nat.le_refl _⟩) hB (fun r2 μ1 H locs hp hB => ?_)
  refine lv_iload_n hx hb dX4_goesBy_8 rfl (lv_at hl 3 rfl) ?_
  refine lv_iload hx hb dX4_goesBy_9 (lv_at hl 4 rfl) ?_
  refine lv_icmp_ne (tgt := 18) hx hb dX4_goesBy_11 rfl (fun c0 => ?_) (fun c0 => ?_)
  · have hp := zif hp c0
    refine lv_aload_n hx hb dX4_goesBy_18 rfl (lv_at hl 0 rfl) ?_
    refine g_getr S hB (tT hB) rfl (T := TX4) (N := 38) (C := RX4) rfl in_X4 1 (by decide) (by decide) q1393 (fun _ h9 => h9) (fun _ => rfl) (tA hB 0 rfl).1 dX4_goesBy_19 ?_
    refine lv_iconst (v := (nI 4)) hx hb dX4_goesBy_22 rfl ?_
    obtain ⟨hi, hp⟩ := hp
    refine g_iald S hB (tA hB 0 rfl).2 hi dX4_goesBy_23 ?_
    refine lv_i2l hx hb dX4_goesBy_24 rfl ?_
    exact wX4_goesBy_25 X th x2 x4 ((zI μ1 (th + 1) (nI 4).toNatClampNeg).toInt64) r2 μ1 _ _ _ hp hB (lv_sub hl [0, 2, 4] rfl)
  · have hp := zit hp c0
    refine lv_lconst (v := (0 : Int64)) hx hb dX4_goesBy_14 rfl ?_
    refine lv_goto (tgt := 25) hx hb dX4_goesBy_15 rfl ?_
    exact wX4_goesBy_25 X th x2 x4 (0 : Int64) r2 μ1 _ _ _ hp hB (lv_sub hl [0, 2, 4] rfl)
def pX4_goesIn_2_41 (th : Nat) (x1 : Int32) (x2 : Int32) (x3 : Int32) (Q : Int32 → zM → Prop) : Nat → Int32 → zM → Prop
  | 0, _, _ => False
  | n + 1, x4, μ => (vp_in (nI 20) 3594 ∧ (if (zI μ (th + 1) (nI 20).toNatClampNeg) ≤ x4 then Q x3 μ else (pX4_mayGo th x2 x3 x4 μ fun r2 μ1 => (if r2 = 0 then pX4_goesIn_2_41 th x1 x2 x3 Q n (x4 + (nI 1)) μ1 else (pX4_goesBy th x1 x2 x3 x4 μ1 fun r4 μ3 => (vp_in (((nI 9) * x2) + x3) 549 ∧ (if (lg_cmp r4 (zJ μ3 (th + 10) (((nI 9) * x2) + x3).toNatClampNeg)) = 0 then Q x4 μ3 else pX4_goesIn_2_41 th x1 x2 x3 Q n (x4 + (nI 1)) μ3)))))))
set_option maxHeartbeats 4000000 in
set_option maxRecDepth 100000 in
theorem wX4_goesIn_2_41 {p : Program} {l : Launch} {e : Env} {s : State} {m : MethodId} {args : Array Value} {below : List Frame} {meth : Method} {c : Code} {Γ : zG} {μ0 : zM} {Q : Int32 → zM → Prop} (X : zCx p m c cX4_goesIn_2 5 s args RX4 meth (some .int)) (th : Nat) (x1 : Int32) (x2 : Int32) (x3 : Int32) : ∀ (n : Nat) (x4 : Int32) (μ : zM) (H : Heap) (locs : List Loc) (ls : Array Slot), pX4_goesIn_2_41 th x1 x2 x3 Q n x4 μ → zB Γ (tSh th) (zA μ0) μ0 s μ H locs → lv_has ls 5 [(0, .ref th), (1, .int x1), (2, .int x2), (3, .int x3), (4, .int x4)] → W p l e ({ frames := 5, cells := 0, slots := 0, locals := 120 } : Room) s m args below meth c H locs 0 0 (MQ below (va_Qi Q (zPost Γ (tSh th) μ0) (zA μ0)) args s 0 0 (zA μ0)) (F0 m 41 ls []) := by
  have S := X.1
  obtain ⟨hx, hb, hml, hown, hts⟩ := X.1
  intro n
  induction n with
  | zero =>
    intro x4 μ H locs ls hp
    exact hp.elim
  | succ n ih =>
    intro x4 μ H locs ls hp hB hl
    unfold pX4_goesIn_2_41 at hp
    refine lv_iload hx hb dX4_goesIn_2_41 (lv_at hl 4 rfl) ?_
    refine lv_aload_n hx hb dX4_goesIn_2_43 rfl (lv_at hl 0 rfl) ?_
    refine g_getr S hB (tT hB) rfl (T := TX4) (N := 38) (C := RX4) rfl in_X4 1 (by decide) (by decide) q1393 (fun _ h9 => h9) (fun _ => rfl) (tA hB 0 rfl).1 dX4_goesIn_2_44 ?_
    refine lv_bipush (v := (nI 20)) hx hb dX4_goesIn_2_47 rfl ?_
    obtain ⟨hi, hp⟩ := hp
    refine g_iald S hB (tA hB 0 rfl).2 hi dX4_goesIn_2_49 ?_
    refine lv_icmp_ge (tgt := 97) hx hb dX4_goesIn_2_50 rfl (fun c0 => ?_) (fun c0 => ?_)
    · have hp := zit hp c0
      refine lv_iload_n hx hb dX4_goesIn_2_97 rfl (lv_at hl 3 rfl) ?_
      exact zret_i X hB hp dX4_goesIn_2_98
    · have hp := zif hp c0
      refine lv_aload_n hx hb dX4_goesIn_2_53 rfl (lv_at hl 0 rfl) ?_
      refine lv_iload_n hx hb dX4_goesIn_2_54 rfl (lv_at hl 2 rfl) ?_
      refine lv_iload_n hx hb dX4_goesIn_2_55 rfl (lv_at hl 3 rfl) ?_
      refine lv_iload hx hb dX4_goesIn_2_56 (lv_at hl 4 rfl) ?_
      refine z_calli (va_runV (As := [.int x2, .int x3, .int x4]) (rest := []) S (mX4_mayGo l Γ th x2 x3 x4 μ _ hp) (cwV 3 hts (lw_V q1883 q1885 qs109 q132 q1886) rfl rfl rfl hX4_mayGo ⟨Nat.le_of_ble_eq_true rfl, Nat.le_of_ble_eq_true rfl⟩) (hB.preV (tT hB) rfl rfl) rfl rfl hl.1 rfl (lv_room (Nat.le_of_ble_eq_true rfl)) dX4_goesIn_2_58 ⟨Nat.le_refl _, Nat.le_refl _⟩) hB (fun r2 μ1 H locs hp hB => ?_)
      refine lv_if_eq (tgt := 91) hx hb dX4_goesIn_2_61 rfl (fun c0 => ?_) (fun c0 => ?_)
      · have hp := zit hp c0
        refine lv_iinc (v := (x4 + (nI 1))) (lv' := [(4, .int (x4 + (nI 1))), (0, .ref th), (1, .int x1), (2, .int x2), (3, .int x3)]) hx hb dX4_goesIn_2_91 hl (k := 4) rfl rfl (by decide) rfl (fun ls hl => ?_)
        refine lv_goto (tgt := 41) hx hb dX4_goesIn_2_94 rfl ?_
        exact ih (x4 + (nI 1)) μ1 _ _ _ hp hB (lv_sub hl [1, 2, 3, 4, 0] rfl)
      · have hp := zif hp c0
        refine lv_aload_n hx hb dX4_goesIn_2_64 rfl (lv_at hl 0 rfl) ?_
        refine lv_iload_n hx hb dX4_goesIn_2_65 rfl (lv_at hl 1 rfl) ?_
        refine lv_iload_n hx hb dX4_goesIn_2_66 rfl (lv_at hl 2 rfl) ?_
        refine lv_iload_n hx hb dX4_goesIn_2_67 rfl (lv_at hl 3 rfl) ?_
        refine lv_iload hx hb dX4_goesIn_2_68 (lv_at hl 4 rfl) ?_
        refine z_calll (va_runV (As := [.int x1, .int x2, .int x3, .int x4]) (rest := []) S (mX4_goesBy l Γ th x1 x2 x3 x4 μ1 _ hp) (cwV 4 hts (lw_V q1891 q1893 qs111 q132 q1894) rfl rfl rfl hX4_goesBy ⟨Nat.le_of_ble_eq_true rfl, Nat.le_of_ble_eq_true rfl⟩) (hB.preV (tT hB) rfl rfl) rfl rfl hl.1 rfl (lv_room (Nat.le_of_ble_eq_true rfl)) dX4_goesIn_2_70 ⟨Nat.le_refl _, Nat.le_refl _⟩) hB (fun r4 μ3 H locs hp hB => ?_)
        refine lv_aload_n hx hb dX4_goesIn_2_73 rfl (lv_at hl 0 rfl) ?_
        refine g_getr S hB (tT hB) rfl (T := TX4) (N := 38) (C := RX4) rfl in_X4 24 (by decide) (by decide) q1416 (fun _ h9 => h9) (fun _ => rfl) (tA hB 9 rfl).1 dX4_goesIn_2_74 ?_
        refine lv_bipush (v := (nI 9)) hx hb dX4_goesIn_2_77 rfl ?_
        refine lv_iload_n hx hb dX4_goesIn_2_79 rfl (lv_at hl 2 rfl) ?_
        refine lv_imul hx hb dX4_goesIn_2_80 ?_
        refine lv_iload_n hx hb dX4_goesIn_2_81 rfl (lv_at hl 3 rfl) ?_
        refine lv_iadd hx hb dX4_goesIn_2_82 ?_
        obtain ⟨hi, hp⟩ := hp
        refine g_lald S hB (tA hB 9 rfl).2 hi dX4_goesIn_2_83 ?_
        refine W.lcmp hx hb dX4_goesIn_2_84 ?_
        refine lv_if_ne (tgt := 91) hx hb dX4_goesIn_2_85 rfl (fun c0 => ?_) (fun c0 => ?_)
        · have hp := zif hp c0
          refine lv_iinc (v := (x4 + (nI 1))) (lv' := [(4, .int (x4 + (nI 1))), (0, .ref th), (1, .int x1), (2, .int x2), (3, .int x3)]) hx hb dX4_goesIn_2_91 hl (k := 4) rfl rfl (by decide) rfl (fun ls hl => ?_)
          refine lv_goto (tgt := 41) hx hb dX4_goesIn_2_94 rfl ?_
          exact ih (x4 + (nI 1)) μ3 _ _ _ hp hB (lv_sub hl [1, 2, 3, 4, 0] rfl)
        · have hp := zit hp c0
          refine lv_iload hx hb dX4_goesIn_2_88 (lv_at hl 4 rfl) ?_
          exact zret_i X hB hp dX4_goesIn_2_90
def pX4_goesIn_2 (th : Nat) (x1 : Int32) (x2 : Int32) (x3 : Int32) (μ : zM) (Q : Int32 → zM → Prop) : Prop := (pX4_mayGo th x2 x3 (nI 8) μ fun r2 μ1 => (if r2 = 0 then ∃ k1, pX4_goesIn_2_41 th x1 x2 x3 Q k1 (nI 0) μ1 else (pX4_goesBy th x1 x2 x3 (nI 8) μ1 fun r4 μ3 => (vp_in (((nI 9) * x2) + x3) 549 ∧ (if (lg_cmp r4 (zJ μ3 (th + 10) (((nI 9) * x2) + x3).toNatClampNeg)) = 0 then Q (nI 8) μ3 else ∃ k1, pX4_goesIn_2_41 th x1 x2 x3 Q k1 (nI 0) μ3)))))
theorem hX4_goesIn_2 : yX4_goesIn_2.cls = "SunkTowerModel" ∧ yX4_goesIn_2.cls ≠ "java/lang/invoke/MethodHandle" ∧ yX4_goesIn_2.cls ≠ "java/lang/invoke/VarHandle" ∧ (parseMethodDescriptor yX4_goesIn_2.desc).map (fun d => d.parameters.length) = some 3 := by decide +kernel
set_option maxHeartbeats 4000000 in
set_option maxRecDepth 100000 in
theorem mX4_goesIn_2 (l : Launch) (Γ : zG) (th : Nat) (x1 : Int32) (x2 : Int32) (x3 : Int32) (μ : zM) (Q : Int32 → zM → Prop) (hp : pX4_goesIn_2 th x1 x2 x3 μ Q) : Met l yX4_goesIn_2 (ws_ yX4_goesIn_2 cX4_goesIn_2 5 (some .int)) ({ frames := 5, cells := 0, slots := 0, locals := 120 } : Room) (va_Pc [.ref th, .int x1, .int x2, .int x3] (zPre Γ (tSh th) μ)) (va_Qi Q (zPost Γ (tSh th) μ) (zA μ)) 0 0 (zA μ) := by
  refine zstart (by decide) (Nat.le_of_ble_eq_true rfl) ?_
  intro p e s m below meth c ls X hnm hB hl
  have X : zCx p m c cX4_goesIn_2 5 s [.ref th, .int x1, .int x2, .int x3].toArray RX4 meth (some .int) := X
  have S := X.1
  obtain ⟨hx, hb, hml, hown, hts⟩ := X.1
  have hl : lv_has ls 5 [(0, .ref th), (1, .int x1), (2, .int x2), (3, .int x3)] := hl
  unfold pX4_goesIn_2 at hp
  refine lv_aload_n hx hb dX4_goesIn_2_0 rfl (lv_at hl 0 rfl) ?_
  refine lv_iload_n hx hb dX4_goesIn_2_1 rfl (lv_at hl 2 rfl) ?_
  refine lv_iload_n hx hb dX4_goesIn_2_2 rfl (lv_at hl 3 rfl) ?_
  refine lv_bipush (v := (nI 8)) hx hb dX4_goesIn_2_3 rfl ?_
  refine z_calli (va_runV (As := [.int x2, .int x3, .int (nI 8)]) (rest := []) S (mX4_mayGo l Γ th x2 x3 (nI 8) μ _ hp) (cwV 3 hts (lw_V q1883 q1885 qs109 q132 q1886) rfl rfl rfl hX4_mayGo ⟨Nat.le_of_ble_eq_true rfl, Nat.le_of_ble_eq_true rfl⟩) (hB.preV (tT hB) rfl rfl) rfl rfl hl.1 rfl (lv_room (Nat.le_of_ble_eq_true rfl)) dX4_goesIn_2_5 ⟨Nat.le_refl _, Nat.le_refl _⟩) hB (fun r2 μ1 H locs hp hB => ?_)
  refine lv_if_eq (tgt := 38) hx hb dX4_goesIn_2_8 rfl (fun c0 => ?_) (fun c0 => ?_)
  · have hp := zit hp c0
    refine lv_iconst (v := (nI 0)) hx hb dX4_goesIn_2_38 rfl ?_
    refine lv_istore (lv' := [(4, .int (nI 0)), (0, .ref th), (1, .int x1), (2, .int x2), (3, .int x3)]) hx hb dX4_goesIn_2_39 hl (by decide) rfl (fun ls hl => ?_)
    obtain ⟨n1, hp⟩ := hp
    exact wX4_goesIn_2_41 X th x1 x2 x3 n1 (nI 0) μ1 _ _ _ hp hB (lv_sub hl [1, 2, 3, 4, 0] rfl)
  · have hp := zif hp c0
    refine lv_aload_n hx hb dX4_goesIn_2_11 rfl (lv_at hl 0 rfl) ?_
    refine lv_iload_n hx hb dX4_goesIn_2_12 rfl (lv_at hl 1 rfl) ?_
    refine lv_iload_n hx hb dX4_goesIn_2_13 rfl (lv_at hl 2 rfl) ?_
    refine lv_iload_n hx hb dX4_goesIn_2_14 rfl (lv_at hl 3 rfl) ?_
    refine lv_bipush (v := (nI 8)) hx hb dX4_goesIn_2_15 rfl ?_
    refine z_calll (va_runV (As := [.int x1, .int x2, .int x3, .int (nI 8)]) (rest := []) S (mX4_goesBy l Γ th x1 x2 x3 (nI 8) μ1 _ hp) (cwV 4 hts (lw_V q1891 q1893 qs111 q132 q1894) rfl rfl rfl hX4_goesBy ⟨Nat.le_of_ble_eq_true rfl, Nat.le_of_ble_eq_true rfl⟩) (hB.preV (tT hB) rfl rfl) rfl rfl hl.1 rfl (lv_room (Nat.le_of_ble_eq_true rfl)) dX4_goesIn_2_17 ⟨Nat.le_refl _, Nat.le_refl _⟩) hB (fun r4 μ3 H locs hp hB => ?_)
    refine lv_aload_n hx hb dX4_goesIn_2_20 rfl (lv_at hl 0 rfl) ?_
    refine g_getr S hB (tT hB) rfl (T := TX4) (N := 38) (C := RX4) rfl in_X4 24 (by decide) (by decide) q1416 (fun _ h9 => h9) (fun _ => rfl) (tA hB 9 rfl).1 dX4_goesIn_2_21 ?_
    refine lv_bipush (v := (nI 9)) hx hb dX4_goesIn_2_24 rfl ?_
    refine lv_iload_n hx hb dX4_goesIn_2_26 rfl (lv_at hl 2 rfl) ?_
    refine lv_imul hx hb dX4_goesIn_2_27 ?_
    refine lv_iload_n hx hb dX4_goesIn_2_28 rfl (lv_at hl 3 rfl) ?_
    refine lv_iadd hx hb dX4_goesIn_2_29 ?_
    obtain ⟨hi, hp⟩ := hp
    refine g_lald S hB (tA hB 9 rfl).2 hi dX4_goesIn_2_30 ?_
    refine W.lcmp hx hb dX4_goesIn_2_31 ?_
    refine lv_if_ne (tgt := 38) hx hb dX4_goesIn_2_32 rfl (fun c0 => ?_) (fun c0 => ?_)
    · have hp := zif hp c0
      refine lv_iconst (v := (nI 0)) hx hb dX4_goesIn_2_38 rfl ?_
      refine lv_istore (lv' := [(4, .int (nI 0)), (0, .ref th), (1, .int x1), (2, .int x2), (3, .int x3)]) hx hb dX4_goesIn_2_39 hl (by decide) rfl (fun ls hl => ?_)
      obtain ⟨n1, hp⟩ := hp
      exact wX4_goesIn_2_41 X th x1 x2 x3 n1 (nI 0) μ3 _ _ _ hp hB (lv_sub hl [1, 2, 3, 4, 0] rfl)
    · have hp := zit hp c0
      refine lv_bipush (v := (nI 8)) hx hb dX4_goesIn_2_35 rfl ?_
      exact zret_i X hB hp dX4_goesIn_2_37
def pX4_sumOf_90 (th : Nat) (x1 : Int32) (x2 : Int32) (K46 : Int64 → Int32 → Int32 → Int32 → Int32 → Int32 → zM → Prop) (Q : Int64 → zM → Prop) : Nat → Int64 → Int32 → Int32 → Int32 → Int32 → Int32 → Int32 → zM → Prop
  | 0, _, _, _, _, _, _, _, _ => False
  | n + 1, x3, x5, x6, x7, x8, x9, x10, μ => (if x7 ≤ x10 then (vp_in (nI 42) 3594 ∧ (pX4_sinksBy th x5 x7 x6 ((zI μ (th + 1) (nI 42).toNatClampNeg) + x9) μ fun r2 μ1 => (pX4_deeper th x6 r2 μ1 fun r4 μ3 => K46 x3 x5 r4 x7 x8 (x9 + (nI 1)) μ3))) else (vp_in (nI 42) 3594 ∧ (pX4_paysOf th x10 x6 ((zI μ (th + 1) (nI 42).toNatClampNeg) + x9) μ fun r6 μ5 => pX4_sumOf_90 th x1 x2 K46 Q n (x3 + (r6.toInt64)) x5 x6 x7 x8 x9 (x10 + (nI 1)) μ5)))
set_option maxHeartbeats 4000000 in
set_option maxRecDepth 100000 in
theorem wX4_sumOf_90 {p : Program} {l : Launch} {e : Env} {s : State} {m : MethodId} {args : Array Value} {below : List Frame} {meth : Method} {c : Code} {Γ : zG} {μ0 : zM} {Q : Int64 → zM → Prop} {K46 : Int64 → Int32 → Int32 → Int32 → Int32 → Int32 → zM → Prop} (X : zCx p m c cX4_sumOf 11 s args RX4 meth (some .long)) (th : Nat) (x1 : Int32) (x2 : Int32) (hK46 : ∀ (x3 : Int64) (x5 : Int32) (x6 : Int32) (x7 : Int32) (x8 : Int32) (x9 : Int32) (μ : zM) (H : Heap) (locs : List Loc) (ls : Array Slot), K46 x3 x5 x6 x7 x8 x9 μ → zB Γ (tSh th) (zA μ0) μ0 s μ H locs → lv_has ls 11 [(0, .ref th), (1, .int x1), (2, .int x2), (3, .long x3), (5, .int x5), (6, .int x6), (7, .int x7), (8, .int x8), (9, .int x9)] → W p l e ({ frames := 3, cells := 0, slots := 0, locals := 74 } : Room) s m args below meth c H locs 0 0 (MQ below (va_Ql Q (zPost Γ (tSh th) μ0) (zA μ0)) args s 0 0 (zA μ0)) (F0 m 46 ls [])) : ∀ (n : Nat) (x3 : Int64) (x5 : Int32) (x6 : Int32) (x7 : Int32) (x8 : Int32) (x9 : Int32) (x10 : Int32) (μ : zM) (H : Heap) (locs : List Loc) (ls : Array Slot), pX4_sumOf_90 th x1 x2 K46 Q n x3 x5 x6 x7 x8 x9 x10 μ → zB Γ (tSh th) (zA μ0) μ0 s μ H locs → lv_has ls 11 [(0, .ref th), (1, .int x1), (2, .int x2), (3, .long x3), (5, .int x5), (6, .int x6), (7, .int x7), (8, .int x8), (9, .int x9), (10, .int x10)] → W p l e ({ frames := 3, cells := 0, slots := 0, locals := 74 } : Room) s m args below meth c H locs 0 0 (MQ below (va_Ql Q (zPost Γ (tSh th) μ0) (zA μ0)) args s 0 0 (zA μ0)) (F0 m 90 ls []) := by
  have S := X.1
  obtain ⟨hx, hb, hml, hown, hts⟩ := X.1
  intro n
  induction n with
  | zero =>
    intro x3 x5 x6 x7 x8 x9 x10 μ H locs ls hp
    exact hp.elim
  | succ n ih =>
    intro x3 x5 x6 x7 x8 x9 x10 μ H locs ls hp hB hl
    unfold pX4_sumOf_90 at hp
    refine lv_iload hx hb dX4_sumOf_90 (lv_at hl 9 rfl) ?_
    refine lv_iload hx hb dX4_sumOf_92 (lv_at hl 6 rfl) ?_
    refine lv_icmp_ge (tgt := 125) hx hb dX4_sumOf_94 rfl (fun c0 => ?_) (fun c0 => ?_)
    · have hp := zit hp c0
      refine lv_iload hx hb dX4_sumOf_125 (lv_at hl 5 rfl) ?_
      refine lv_aload_n hx hb dX4_sumOf_127 rfl (lv_at hl 0 rfl) ?_
      refine lv_iload hx hb dX4_sumOf_128 (lv_at hl 4 rfl) ?_
      refine lv_iload hx hb dX4_sumOf_130 (lv_at hl 6 rfl) ?_
      refine lv_iload hx hb dX4_sumOf_132 (lv_at hl 5 rfl) ?_
      refine lv_aload_n hx hb dX4_sumOf_134 rfl (lv_at hl 0 rfl) ?_
      refine g_getr S hB (tT hB) rfl (T := TX4) (N := 38) (C := RX4) rfl in_X4 1 (by decide) (by decide) q1393 (fun _ h9 => h9) (fun _ => rfl) (tA hB 0 rfl).1 dX4_sumOf_135 ?_
      refine lv_bipush (v := (nI 42)) hx hb dX4_sumOf_138 rfl ?_
      obtain ⟨hi, hp⟩ := hp
      refine g_iald S hB (tA hB 0 rfl).2 hi dX4_sumOf_140 ?_
      refine lv_iload hx hb dX4_sumOf_141 (lv_at hl 8 rfl) ?_
      refine lv_iadd hx hb dX4_sumOf_143 ?_
      refine z_calli (va_runV (As := [.int x5, .int x7, .int x6, .int ((zI μ (th + 1) (nI 42).toNatClampNeg) + x9)]) (rest := [.int x6]) S (mX4_sinksBy l Γ th x5 x7 x6 ((zI μ (th + 1) (nI 42).toNatClampNeg) + x9) μ _ hp) (cwV 4 hts (lw_V q1649 q1651 qs83 q132 q1652) rfl rfl rfl hX4_sinksBy ⟨Nat.le_of_ble_eq_true rfl, Nat.le_of_ble_eq_true rfl⟩) (hB.preV (tT hB) rfl rfl) rfl rfl hl.1 rfl (lv_room (Nat.le_of_ble_eq_true rfl)) dX4_sumOf_144 ⟨Nat.le_refl _, Nat.le_refl _⟩) hB (fun r2 μ1 H locs hp hB => ?_)
      refine z_calli (va_runS (As := [.int x6, .int r2]) (rest := []) S (mX4_deeper l Γ th x6 r2 μ1 _ hp) (va_cwS 2 hts (lw_S q1699 q1700 q132 q1701) rfl rfl rfl hX4_deeper ⟨Nat.le_of_ble_eq_true rfl, Nat.le_of_ble_eq_true rfl⟩) hB.preS rfl rfl hl.1 rfl (lv_room (Nat.le_of_ble_eq_true rfl)) dX4_sumOf_147 ⟨Nat.le_refl _, Nat.le_refl _⟩) hB (fun r4 μ3 H locs hp hB => ?_)
      refine lv_istore (lv' := [(6, .int r4), (0, .ref th), (1, .int x1), (2, .int x2), (3, .long x3), (5, .int x5), (7, .int x7), (8, .int x8), (9, .int x9), (10, .int x10)]) hx hb dX4_sumOf_150 hl (by decide) rfl (fun ls hl => ?_)
      refine lv_iinc (v := (x9 + (nI 1))) (lv' := [(9, .int (x9 + (nI 1))), (6, .int r4), (0, .ref th), (1, .int x1), (2, .int x2), (3, .long x3), (5, .int x5), (7, .int x7), (8, .int x8), (10, .int x10)]) hx hb dX4_sumOf_152 hl (k := 8) rfl rfl (by decide) rfl (fun ls hl => ?_)
      refine lv_goto (tgt := 46) hx hb dX4_sumOf_155 rfl ?_
      exact hK46 x3 x5 r4 x7 x8 (x9 + (nI 1)) μ3 _ _ _ hp hB (lv_sub hl [2, 3, 4, 5, 6, 1, 7, 8, 0] rfl)
    · have hp := zif hp c0
      refine lv_lload_n hx hb dX4_sumOf_97 rfl (lv_at hl 3 rfl) ?_
      refine lv_aload_n hx hb dX4_sumOf_98 rfl (lv_at hl 0 rfl) ?_
      refine lv_iload hx hb dX4_sumOf_99 (lv_at hl 9 rfl) ?_
      refine lv_iload hx hb dX4_sumOf_101 (lv_at hl 5 rfl) ?_
      refine lv_aload_n hx hb dX4_sumOf_103 rfl (lv_at hl 0 rfl) ?_
      refine g_getr S hB (tT hB) rfl (T := TX4) (N := 38) (C := RX4) rfl in_X4 1 (by decide) (by decide) q1393 (fun _ h9 => h9) (fun _ => rfl) (tA hB 0 rfl).1 dX4_sumOf_104 ?_
      refine lv_bipush (v := (nI 42)) hx hb dX4_sumOf_107 rfl ?_
      obtain ⟨hi, hp⟩ := hp
      refine g_iald S hB (tA hB 0 rfl).2 hi dX4_sumOf_109 ?_
      refine lv_iload hx hb dX4_sumOf_110 (lv_at hl 8 rfl) ?_
      refine lv_iadd hx hb dX4_sumOf_112 ?_
      refine z_calli (va_runV (As := [.int x10, .int x6, .int ((zI μ (th + 1) (nI 42).toNatClampNeg) + x9)]) (rest := [.long x3]) S (mX4_paysOf l Γ th x10 x6 ((zI μ (th + 1) (nI 42).toNatClampNeg) + x9) μ _ hp) (cwV 3 hts (lw_V q1666 q1668 qs85 q132 q1669) rfl rfl rfl hX4_paysOf ⟨Nat.le_of_ble_eq_true rfl, Nat.le_of_ble_eq_true rfl⟩) (hB.preV (tT hB) rfl rfl) rfl rfl hl.1 rfl (lv_room (Nat.le_of_ble_eq_true rfl)) dX4_sumOf_113 ⟨Nat.le_refl _, Nat.le_refl _⟩) hB (fun r6 μ5 H locs hp hB => ?_)
      refine lv_i2l hx hb dX4_sumOf_116 rfl ?_
      refine lv_ladd hx hb dX4_sumOf_117 ?_
      refine lv_lstore_n (lv' := [(3, .long (x3 + (r6.toInt64))), (0, .ref th), (1, .int x1), (2, .int x2), (5, .int x5), (6, .int x6), (7, .int x7), (8, .int x8), (9, .int x9), (10, .int x10)]) hx hb dX4_sumOf_118 rfl hl (by decide) rfl (fun ls hl => ?_)
      refine lv_iinc (v := (x10 + (nI 1))) (lv' := [(10, .int (x10 + (nI 1))), (3, .long (x3 + (r6.toInt64))), (0, .ref th), (1, .int x1), (2, .int x2), (5, .int x5), (6, .int x6), (7, .int x7), (8, .int x8), (9, .int x9)]) hx hb dX4_sumOf_119 hl (k := 9) rfl rfl (by decide) rfl (fun ls hl => ?_)
      refine lv_goto (tgt := 90) hx hb dX4_sumOf_122 rfl ?_
      exact ih (x3 + (r6.toInt64)) x5 x6 x7 x8 x9 (x10 + (nI 1)) μ5 _ _ _ hp hB (lv_sub hl [2, 3, 4, 1, 5, 6, 7, 8, 9, 0] rfl)
def pX4_sumOf_46 (th : Nat) (x1 : Int32) (x2 : Int32) (Q : Int64 → zM → Prop) : Nat → Int64 → Int32 → Int32 → Int32 → Int32 → Int32 → zM → Prop
  | 0, _, _, _, _, _, _, _ => False
  | n + 1, x3, x5, x6, x7, x8, x9, μ => (if x1 ≤ x9 then Q x3 μ else (if x2 ≤ x8 then ∃ k1, pX4_sumOf_90 th x1 x2 (fun v0 v1 v2 v3 v4 v5 ν => pX4_sumOf_46 th x1 x2 Q n v0 v1 v2 v3 v4 v5 ν) Q k1 x3 x5 x6 x7 x8 x9 (nI 0) μ else (vp_in x8 3 ∧ (if (zI μ (th + 11) x8.toNatClampNeg) = x9 then (vp_in (nI 2) 3594 ∧ ∃ k1, pX4_sumOf_90 th x1 x2 (fun v0 v1 v2 v3 v4 v5 ν => pX4_sumOf_46 th x1 x2 Q n v0 v1 v2 v3 v4 v5 ν) Q k1 x3 (x5 + (zI μ (th + 1) (nI 2).toNatClampNeg)) x6 (x7 + (nI 1)) (x8 + (nI 1)) x9 (nI 0) μ) else ∃ k1, pX4_sumOf_90 th x1 x2 (fun v0 v1 v2 v3 v4 v5 ν => pX4_sumOf_46 th x1 x2 Q n v0 v1 v2 v3 v4 v5 ν) Q k1 x3 x5 x6 x7 x8 x9 (nI 0) μ))))
set_option maxHeartbeats 4000000 in
set_option maxRecDepth 100000 in
theorem wX4_sumOf_46 {p : Program} {l : Launch} {e : Env} {s : State} {m : MethodId} {args : Array Value} {below : List Frame} {meth : Method} {c : Code} {Γ : zG} {μ0 : zM} {Q : Int64 → zM → Prop} (X : zCx p m c cX4_sumOf 11 s args RX4 meth (some .long)) (th : Nat) (x1 : Int32) (x2 : Int32) : ∀ (n : Nat) (x3 : Int64) (x5 : Int32) (x6 : Int32) (x7 : Int32) (x8 : Int32) (x9 : Int32) (μ : zM) (H : Heap) (locs : List Loc) (ls : Array Slot), pX4_sumOf_46 th x1 x2 Q n x3 x5 x6 x7 x8 x9 μ → zB Γ (tSh th) (zA μ0) μ0 s μ H locs → lv_has ls 11 [(0, .ref th), (1, .int x1), (2, .int x2), (3, .long x3), (5, .int x5), (6, .int x6), (7, .int x7), (8, .int x8), (9, .int x9)] → W p l e ({ frames := 3, cells := 0, slots := 0, locals := 74 } : Room) s m args below meth c H locs 0 0 (MQ below (va_Ql Q (zPost Γ (tSh th) μ0) (zA μ0)) args s 0 0 (zA μ0)) (F0 m 46 ls []) := by
  have S := X.1
  obtain ⟨hx, hb, hml, hown, hts⟩ := X.1
  intro n
  induction n with
  | zero =>
    intro x3 x5 x6 x7 x8 x9 μ H locs ls hp
    exact hp.elim
  | succ n ih =>
    intro x3 x5 x6 x7 x8 x9 μ H locs ls hp hB hl
    unfold pX4_sumOf_46 at hp
    refine lv_iload hx hb dX4_sumOf_46 (lv_at hl 8 rfl) ?_
    refine lv_iload_n hx hb dX4_sumOf_48 rfl (lv_at hl 1 rfl) ?_
    refine lv_icmp_ge (tgt := 158) hx hb dX4_sumOf_49 rfl (fun c0 => ?_) (fun c0 => ?_)
    · have hp := zit hp c0
      refine lv_lload_n hx hb dX4_sumOf_158 rfl (lv_at hl 3 rfl) ?_
      exact zret_l X hB hp dX4_sumOf_159
    · have hp := zif hp c0
      refine lv_iload hx hb dX4_sumOf_52 (lv_at hl 7 rfl) ?_
      refine lv_iload_n hx hb dX4_sumOf_54 rfl (lv_at hl 2 rfl) ?_
      refine lv_icmp_ge (tgt := 87) hx hb dX4_sumOf_55 rfl (fun c0 => ?_) (fun c0 => ?_)
      · have hp := zit hp c0
        refine lv_iconst (v := (nI 0)) hx hb dX4_sumOf_87 rfl ?_
        refine lv_istore (lv' := [(10, .int (nI 0)), (0, .ref th), (1, .int x1), (2, .int x2), (3, .long x3), (5, .int x5), (6, .int x6), (7, .int x7), (8, .int x8), (9, .int x9)]) hx hb dX4_sumOf_88 hl (by decide) rfl (fun ls hl => ?_)
        obtain ⟨n1, hp⟩ := hp
        exact wX4_sumOf_90 X th x1 x2 (fun v0 v1 v2 v3 v4 v5 ν H2 L2 ls2 h2 b2 l2 => ih v0 v1 v2 v3 v4 v5 ν H2 L2 ls2 h2 b2 l2) n1 x3 x5 x6 x7 x8 x9 (nI 0) μ _ _ _ hp hB (lv_sub hl [1, 2, 3, 4, 5, 6, 7, 8, 9, 0] rfl)
      · have hp := zif hp c0
        refine lv_aload_n hx hb dX4_sumOf_58 rfl (lv_at hl 0 rfl) ?_
        refine g_getr S hB (tT hB) rfl (T := TX4) (N := 38) (C := RX4) rfl in_X4 27 (by decide) (by decide) q1419 (fun _ h9 => h9) (fun _ => rfl) (tA hB 10 rfl).1 dX4_sumOf_59 ?_
        refine lv_iload hx hb dX4_sumOf_62 (lv_at hl 7 rfl) ?_
        obtain ⟨hi, hp⟩ := hp
        refine g_iald S hB (tA hB 10 rfl).2 hi dX4_sumOf_64 ?_
        refine lv_iload hx hb dX4_sumOf_65 (lv_at hl 8 rfl) ?_
        refine lv_icmp_ne (tgt := 87) hx hb dX4_sumOf_67 rfl (fun c0 => ?_) (fun c0 => ?_)
        · have hp := zif hp c0
          refine lv_iconst (v := (nI 0)) hx hb dX4_sumOf_87 rfl ?_
          refine lv_istore (lv' := [(10, .int (nI 0)), (0, .ref th), (1, .int x1), (2, .int x2), (3, .long x3), (5, .int x5), (6, .int x6), (7, .int x7), (8, .int x8), (9, .int x9)]) hx hb dX4_sumOf_88 hl (by decide) rfl (fun ls hl => ?_)
          obtain ⟨n1, hp⟩ := hp
          exact wX4_sumOf_90 X th x1 x2 (fun v0 v1 v2 v3 v4 v5 ν H2 L2 ls2 h2 b2 l2 => ih v0 v1 v2 v3 v4 v5 ν H2 L2 ls2 h2 b2 l2) n1 x3 x5 x6 x7 x8 x9 (nI 0) μ _ _ _ hp hB (lv_sub hl [1, 2, 3, 4, 5, 6, 7, 8, 9, 0] rfl)
        · have hp := zit hp c0
          refine lv_iinc (v := (x8 + (nI 1))) (lv' := [(8, .int (x8 + (nI 1))), (0, .ref th), (1, .int x1), (2, .int x2), (3, .long x3), (5, .int x5), (6, .int x6), (7, .int x7), (9, .int x9)]) hx hb dX4_sumOf_70 hl (k := 7) rfl rfl (by decide) rfl (fun ls hl => ?_)
          refine lv_iinc (v := (x7 + (nI 1))) (lv' := [(7, .int (x7 + (nI 1))), (8, .int (x8 + (nI 1))), (0, .ref th), (1, .int x1), (2, .int x2), (3, .long x3), (5, .int x5), (6, .int x6), (9, .int x9)]) hx hb dX4_sumOf_73 hl (k := 7) rfl rfl (by decide) rfl (fun ls hl => ?_)
          refine lv_iload hx hb dX4_sumOf_76 (lv_at hl 6 rfl) ?_
          refine lv_aload_n hx hb dX4_sumOf_78 rfl (lv_at hl 2 rfl) ?_
          refine g_getr S hB (tT hB) rfl (T := TX4) (N := 38) (C := RX4) rfl in_X4 1 (by decide) (by decide) q1393 (fun _ h9 => h9) (fun _ => rfl) (tA hB 0 rfl).1 dX4_sumOf_79 ?_
          refine lv_iconst (v := (nI 2)) hx hb dX4_sumOf_82 rfl ?_
          obtain ⟨hi, hp⟩ := hp
          refine g_iald S hB (tA hB 0 rfl).2 hi dX4_sumOf_83 ?_
          refine lv_iadd hx hb dX4_sumOf_84 ?_
          refine lv_istore (lv' := [(5, .int (x5 + (zI μ (th + 1) (nI 2).toNatClampNeg))), (7, .int (x7 + (nI 1))), (8, .int (x8 + (nI 1))), (0, .ref th), (1, .int x1), (2, .int x2), (3, .long x3), (6, .int x6), (9, .int x9)]) hx hb dX4_sumOf_85 hl (by decide) rfl (fun ls hl => ?_)
          refine lv_iconst (v := (nI 0)) hx hb dX4_sumOf_87 rfl ?_
          refine lv_istore (lv' := [(10, .int (nI 0)), (5, .int (x5 + (zI μ (th + 1) (nI 2).toNatClampNeg))), (7, .int (x7 + (nI 1))), (8, .int (x8 + (nI 1))), (0, .ref th), (1, .int x1), (2, .int x2), (3, .long x3), (6, .int x6), (9, .int x9)]) hx hb dX4_sumOf_88 hl (by decide) rfl (fun ls hl => ?_)
          obtain ⟨n1, hp⟩ := hp
          exact wX4_sumOf_90 X th x1 x2 (fun v0 v1 v2 v3 v4 v5 ν H2 L2 ls2 h2 b2 l2 => ih v0 v1 v2 v3 v4 v5 ν H2 L2 ls2 h2 b2 l2) n1 x3 (x5 + (zI μ (th + 1) (nI 2).toNatClampNeg)) x6 (x7 + (nI 1)) (x8 + (nI 1)) x9 (nI 0) μ _ _ _ hp hB (lv_sub hl [4, 5, 6, 7, 1, 8, 2, 3, 9, 0] rfl)
def pX4_sumOf (th : Nat) (x1 : Int32) (x2 : Int32) (μ : zM) (Q : Int64 → zM → Prop) : Prop := (vp_in (nI 3) 3594 ∧ znm (((-1 : Int64) * (x2.toInt64)) * ((zI μ (th + 1) (nI 3).toNatClampNeg).toInt64)) fun v1 => (pX4_weightOf th (-1 : Int32) μ fun r3 μ2 => (vp_in (nI 41) 3594 ∧ (vp_in (nI 20) 3594 ∧ ∃ k1, pX4_sumOf_46 th x1 x2 Q k1 v1 r3 (zI μ2 (th + 1) (nI 41).toNatClampNeg) (zI μ2 (th + 1) (nI 20).toNatClampNeg) (nI 0) (nI 0) μ2))))
theorem hX4_sumOf : yX4_sumOf.cls = "SunkTowerModel" ∧ yX4_sumOf.cls ≠ "java/lang/invoke/MethodHandle" ∧ yX4_sumOf.cls ≠ "java/lang/invoke/VarHandle" ∧ (parseMethodDescriptor yX4_sumOf.desc).map (fun d => d.parameters.length) = some 2 := by decide +kernel
set_option maxHeartbeats 4000000 in
set_option maxRecDepth 100000 in
theorem mX4_sumOf (l : Launch) (Γ : zG) (th : Nat) (x1 : Int32) (x2 : Int32) (μ : zM) (Q : Int64 → zM → Prop) (hp : pX4_sumOf th x1 x2 μ Q) : Met l yX4_sumOf (ws_ yX4_sumOf cX4_sumOf 11 (some .long)) ({ frames := 3, cells := 0, slots := 0, locals := 74 } : Room) (va_Pc [.ref th, .int x1, .int x2] (zPre Γ (tSh th) μ)) (va_Ql Q (zPost Γ (tSh th) μ) (zA μ)) 0 0 (zA μ) := by
  refine zstart (by decide) (Nat.le_of_ble_eq_true rfl) ?_
  intro p e s m below meth c ls X hnm hB hl
  have X : zCx p m c cX4_sumOf 11 s [.ref th, .int x1, .int x2].toArray RX4 meth (some .long) := X
  have S := X.1
  obtain ⟨hx, hb, hml, hown, hts⟩ := X.1
  have hl : lv_has ls 11 [(0, .ref th), (1, .int x1), (2, .int x2)] := hl
  unfold pX4_sumOf at hp
  refine lv_ldc2 (v := (-1 : Int64)) hx hb hown (hts _ q1777) dX4_sumOf_0 ?_
  refine lv_iload_n hx hb dX4_sumOf_3 rfl (lv_at hl 2 rfl) ?_
  refine lv_i2l hx hb dX4_sumOf_4 rfl ?_
  refine lv_lmul hx hb dX4_sumOf_5 ?_
  refine lv_aload_n hx hb dX4_sumOf_6 rfl (lv_at hl 0 rfl) ?_
  refine g_getr S hB (tT hB) rfl (T := TX4) (N := 38) (C := RX4) rfl in_X4 1 (by decide) (by decide) q1393 (fun _ h9 => h9) (fun _ => rfl) (tA hB 0 rfl).1 dX4_sumOf_7 ?_
  refine lv_iconst (v := (nI 3)) hx hb dX4_sumOf_10 rfl ?_
  obtain ⟨hi, hp⟩ := hp
  refine g_iald S hB (tA hB 0 rfl).2 hi dX4_sumOf_11 ?_
  refine lv_i2l hx hb dX4_sumOf_12 rfl ?_
  refine lv_lmul hx hb dX4_sumOf_13 ?_
  obtain ⟨v1, ev1, hp⟩ := znm_e hp
  rw [← ev1]
  refine lv_lstore_n (lv' := [(3, .long v1), (0, .ref th), (1, .int x1), (2, .int x2)]) hx hb dX4_sumOf_14 rfl hl (by decide) rfl (fun ls hl => ?_)
  refine lv_aload_n hx hb dX4_sumOf_15 rfl (lv_at hl 1 rfl) ?_
  refine lv_iconst (v := (-1 : Int32)) hx hb dX4_sumOf_16 rfl ?_
  refine z_calli (va_runV (As := [.int (-1 : Int32)]) (rest := []) S (mX4_weightOf l Γ th (-1 : Int32) μ _ hp) (cwV 1 hts (lw_V q1641 q1643 qs82 q132 q1644) rfl rfl rfl hX4_weightOf ⟨Nat.le_of_ble_eq_true rfl, Nat.le_of_ble_eq_true rfl⟩) (hB.preV (tT hB) rfl rfl) rfl rfl hl.1 rfl (lv_room (Nat.le_of_ble_eq_true rfl)) dX4_sumOf_17 ⟨Nat.le_refl _, Nat.le_refl _⟩) hB (fun r3 μ2 H locs hp hB => ?_)
  refine lv_istore (lv' := [(5, .int r3), (3, .long v1), (0, .ref th), (1, .int x1), (2, .int x2)]) hx hb dX4_sumOf_20 hl (by decide) rfl (fun ls hl => ?_)
  refine lv_aload_n hx hb dX4_sumOf_22 rfl (lv_at hl 2 rfl) ?_
  refine g_getr S hB (tT hB) rfl (T := TX4) (N := 38) (C := RX4) rfl in_X4 1 (by decide) (by decide) q1393 (fun _ h9 => h9) (fun _ => rfl) (tA hB 0 rfl).1 dX4_sumOf_23 ?_
  refine lv_bipush (v := (nI 41)) hx hb dX4_sumOf_26 rfl ?_
  obtain ⟨hi, hp⟩ := hp
  refine g_iald S hB (tA hB 0 rfl).2 hi dX4_sumOf_28 ?_
  refine lv_istore (lv' := [(6, .int (zI μ2 (th + 1) (nI 41).toNatClampNeg)), (5, .int r3), (3, .long v1), (0, .ref th), (1, .int x1), (2, .int x2)]) hx hb dX4_sumOf_29 hl (by decide) rfl (fun ls hl => ?_)
  refine lv_aload_n hx hb dX4_sumOf_31 rfl (lv_at hl 3 rfl) ?_
  refine g_getr S hB (tT hB) rfl (T := TX4) (N := 38) (C := RX4) rfl in_X4 1 (by decide) (by decide) q1393 (fun _ h9 => h9) (fun _ => rfl) (tA hB 0 rfl).1 dX4_sumOf_32 ?_
  refine lv_bipush (v := (nI 20)) hx hb dX4_sumOf_35 rfl ?_
  obtain ⟨hi, hp⟩ := hp
  refine g_iald S hB (tA hB 0 rfl).2 hi dX4_sumOf_37 ?_
  refine lv_istore (lv' := [(7, .int (zI μ2 (th + 1) (nI 20).toNatClampNeg)), (6, .int (zI μ2 (th + 1) (nI 41).toNatClampNeg)), (5, .int r3), (3, .long v1), (0, .ref th), (1, .int x1), (2, .int x2)]) hx hb dX4_sumOf_38 hl (by decide) rfl (fun ls hl => ?_)
  refine lv_iconst (v := (nI 0)) hx hb dX4_sumOf_40 rfl ?_
  refine lv_istore (lv' := [(8, .int (nI 0)), (7, .int (zI μ2 (th + 1) (nI 20).toNatClampNeg)), (6, .int (zI μ2 (th + 1) (nI 41).toNatClampNeg)), (5, .int r3), (3, .long v1), (0, .ref th), (1, .int x1), (2, .int x2)]) hx hb dX4_sumOf_41 hl (by decide) rfl (fun ls hl => ?_)
  refine lv_iconst (v := (nI 0)) hx hb dX4_sumOf_43 rfl ?_
  refine lv_istore (lv' := [(9, .int (nI 0)), (8, .int (nI 0)), (7, .int (zI μ2 (th + 1) (nI 20).toNatClampNeg)), (6, .int (zI μ2 (th + 1) (nI 41).toNatClampNeg)), (5, .int r3), (3, .long v1), (0, .ref th), (1, .int x1), (2, .int x2)]) hx hb dX4_sumOf_44 hl (by decide) rfl (fun ls hl => ?_)
  obtain ⟨n1, hp⟩ := hp
  exact wX4_sumOf_46 X th x1 x2 n1 v1 r3 (zI μ2 (th + 1) (nI 41).toNatClampNeg) (zI μ2 (th + 1) (nI 20).toNatClampNeg) (nI 0) (nI 0) μ2 _ _ _ hp hB (lv_sub hl [6, 7, 8, 5, 4, 3, 2, 1, 0] rfl)
def pX4_envies_21 (th : Nat) (x1 : Int32) (Q : Int32 → zM → Prop) : Nat → Int32 → Int32 → zM → Prop
  | 0, _, _, _ => False
  | n + 1, x2, x3, μ => (vp_in (nI 1) 3594 ∧ (if (zI μ (th + 1) (nI 1).toNatClampNeg) ≤ x3 then Q x2 μ else (vp_in ((nI 35) + x1) 3594 ∧ (if (zI μ (th + 1) ((nI 35) + x1).toNatClampNeg) = (-1 : Int32) then Q x2 μ else (if x3 = x1 then pX4_envies_21 th x1 Q n x2 (x3 + (nI 1)) μ else (vp_in ((nI 35) + x3) 3594 ∧ (if (zI μ (th + 1) ((nI 35) + x3).toNatClampNeg) = (-1 : Int32) then pX4_envies_21 th x1 Q n x2 (x3 + (nI 1)) μ else (vp_in ((nI 35) + x3) 3594 ∧ (pX4_worthNow th x1 (zI μ (th + 1) ((nI 35) + x3).toNatClampNeg) μ fun r2 μ1 => (vp_in ((nI 35) + x1) 3594 ∧ (pX4_worthNow th x1 (zI μ1 (th + 1) ((nI 35) + x1).toNatClampNeg) μ1 fun r4 μ3 => (if r2 ≤ r4 then pX4_envies_21 th x1 Q n x2 (x3 + (nI 1)) μ3 else pX4_envies_21 th x1 Q n (x2 ||| ((nI 1) <<< (x3 &&& 31))) (x3 + (nI 1)) μ3))))))))))))
set_option maxHeartbeats 4000000 in
set_option maxRecDepth 100000 in
theorem wX4_envies_21 {p : Program} {l : Launch} {e : Env} {s : State} {m : MethodId} {args : Array Value} {below : List Frame} {meth : Method} {c : Code} {Γ : zG} {μ0 : zM} {Q : Int32 → zM → Prop} (X : zCx p m c cX4_envies 4 s args RX4 meth (some .int)) (th : Nat) (x1 : Int32) : ∀ (n : Nat) (x2 : Int32) (x3 : Int32) (μ : zM) (H : Heap) (locs : List Loc) (ls : Array Slot), pX4_envies_21 th x1 Q n x2 x3 μ → zB Γ (tSh th) (zA μ0) μ0 s μ H locs → lv_has ls 4 [(0, .ref th), (1, .int x1), (2, .int x2), (3, .int x3)] → W p l e ({ frames := 4, cells := 0, slots := 0, locals := 94 } : Room) s m args below meth c H locs 0 0 (MQ below (va_Qi Q (zPost Γ (tSh th) μ0) (zA μ0)) args s 0 0 (zA μ0)) (F0 m 21 ls []) := by
  have S := X.1
  obtain ⟨hx, hb, hml, hown, hts⟩ := X.1
  intro n
  induction n with
  | zero =>
    intro x2 x3 μ H locs ls hp
    exact hp.elim
  | succ n ih =>
    intro x2 x3 μ H locs ls hp hB hl
    unfold pX4_envies_21 at hp
    refine lv_iload_n hx hb dX4_envies_21 rfl (lv_at hl 3 rfl) ?_
    refine lv_aload_n hx hb dX4_envies_22 rfl (lv_at hl 0 rfl) ?_
    refine g_getr S hB (tT hB) rfl (T := TX4) (N := 38) (C := RX4) rfl in_X4 1 (by decide) (by decide) q1393 (fun _ h9 => h9) (fun _ => rfl) (tA hB 0 rfl).1 dX4_envies_23 ?_
    refine lv_iconst (v := (nI 1)) hx hb dX4_envies_26 rfl ?_
    obtain ⟨hi, hp⟩ := hp
    refine g_iald S hB (tA hB 0 rfl).2 hi dX4_envies_27 ?_
    refine lv_icmp_ge (tgt := 105) hx hb dX4_envies_28 rfl (fun c0 => ?_) (fun c0 => ?_)
    · have hp := zit hp c0
      refine lv_iload_n hx hb dX4_envies_105 rfl (lv_at hl 2 rfl) ?_
      exact zret_i X hB hp dX4_envies_106
    · have hp := zif hp c0
      refine lv_aload_n hx hb dX4_envies_31 rfl (lv_at hl 0 rfl) ?_
      refine g_getr S hB (tT hB) rfl (T := TX4) (N := 38) (C := RX4) rfl in_X4 1 (by decide) (by decide) q1393 (fun _ h9 => h9) (fun _ => rfl) (tA hB 0 rfl).1 dX4_envies_32 ?_
      refine lv_bipush (v := (nI 35)) hx hb dX4_envies_35 rfl ?_
      refine lv_iload_n hx hb dX4_envies_37 rfl (lv_at hl 1 rfl) ?_
      refine lv_iadd hx hb dX4_envies_38 ?_
      obtain ⟨hi, hp⟩ := hp
      refine g_iald S hB (tA hB 0 rfl).2 hi dX4_envies_39 ?_
      refine lv_iconst (v := (-1 : Int32)) hx hb dX4_envies_40 rfl ?_
      refine lv_icmp_eq (tgt := 105) hx hb dX4_envies_41 rfl (fun c0 => ?_) (fun c0 => ?_)
      · have hp := zit hp c0
        refine lv_iload_n hx hb dX4_envies_105 rfl (lv_at hl 2 rfl) ?_
        exact zret_i X hB hp dX4_envies_106
      · have hp := zif hp c0
        refine lv_iload_n hx hb dX4_envies_44 rfl (lv_at hl 3 rfl) ?_
        refine lv_iload_n hx hb dX4_envies_45 rfl (lv_at hl 1 rfl) ?_
        refine lv_icmp_eq (tgt := 99) hx hb dX4_envies_46 rfl (fun c0 => ?_) (fun c0 => ?_)
        · have hp := zit hp c0
          refine lv_iinc (v := (x3 + (nI 1))) (lv' := [(3, .int (x3 + (nI 1))), (0, .ref th), (1, .int x1), (2, .int x2)]) hx hb dX4_envies_99 hl (k := 3) rfl rfl (by decide) rfl (fun ls hl => ?_)
          refine lv_goto (tgt := 21) hx hb dX4_envies_102 rfl ?_
          exact ih x2 (x3 + (nI 1)) μ _ _ _ hp hB (lv_sub hl [1, 2, 3, 0] rfl)
        · have hp := zif hp c0
          refine lv_aload_n hx hb dX4_envies_49 rfl (lv_at hl 0 rfl) ?_
          refine g_getr S hB (tT hB) rfl (T := TX4) (N := 38) (C := RX4) rfl in_X4 1 (by decide) (by decide) q1393 (fun _ h9 => h9) (fun _ => rfl) (tA hB 0 rfl).1 dX4_envies_50 ?_
          refine lv_bipush (v := (nI 35)) hx hb dX4_envies_53 rfl ?_
          refine lv_iload_n hx hb dX4_envies_55 rfl (lv_at hl 3 rfl) ?_
          refine lv_iadd hx hb dX4_envies_56 ?_
          obtain ⟨hi, hp⟩ := hp
          refine g_iald S hB (tA hB 0 rfl).2 hi dX4_envies_57 ?_
          refine lv_iconst (v := (-1 : Int32)) hx hb dX4_envies_58 rfl ?_
          refine lv_icmp_eq (tgt := 99) hx hb dX4_envies_59 rfl (fun c0 => ?_) (fun c0 => ?_)
          · have hp := zit hp c0
            refine lv_iinc (v := (x3 + (nI 1))) (lv' := [(3, .int (x3 + (nI 1))), (0, .ref th), (1, .int x1), (2, .int x2)]) hx hb dX4_envies_99 hl (k := 3) rfl rfl (by decide) rfl (fun ls hl => ?_)
            refine lv_goto (tgt := 21) hx hb dX4_envies_102 rfl ?_
            exact ih x2 (x3 + (nI 1)) μ _ _ _ hp hB (lv_sub hl [1, 2, 3, 0] rfl)
          · have hp := zif hp c0
            refine lv_aload_n hx hb dX4_envies_62 rfl (lv_at hl 0 rfl) ?_
            refine lv_iload_n hx hb dX4_envies_63 rfl (lv_at hl 1 rfl) ?_
            refine lv_aload_n hx hb dX4_envies_64 rfl (lv_at hl 0 rfl) ?_
            refine g_getr S hB (tT hB) rfl (T := TX4) (N := 38) (C := RX4) rfl in_X4 1 (by decide) (by decide) q1393 (fun _ h9 => h9) (fun _ => rfl) (tA hB 0 rfl).1 dX4_envies_65 ?_
            refine lv_bipush (v := (nI 35)) hx hb dX4_envies_68 rfl ?_
            refine lv_iload_n hx hb dX4_envies_70 rfl (lv_at hl 3 rfl) ?_
            refine lv_iadd hx hb dX4_envies_71 ?_
            obtain ⟨hi, hp⟩ := hp
            refine g_iald S hB (tA hB 0 rfl).2 hi dX4_envies_72 ?_
            refine z_calli (va_runV (As := [.int x1, .int (zI μ (th + 1) ((nI 35) + x3).toNatClampNeg)]) (rest := []) S (mX4_worthNow l Γ th x1 (zI μ (th + 1) ((nI 35) + x3).toNatClampNeg) μ _ hp) (cwV 2 hts (lw_V q1678 q1680 qs86 q132 q1681) rfl rfl rfl hX4_worthNow ⟨Nat.le_of_ble_eq_true rfl, Nat.le_of_ble_eq_true rfl⟩) (hB.preV (tT hB) rfl rfl) rfl rfl hl.1 rfl (lv_room (Nat.le_of_ble_eq_true rfl)) dX4_envies_73 ⟨Nat.le_refl _, Nat.le_refl _⟩) hB (fun r2 μ1 H locs hp hB => ?_)
            refine lv_aload_n hx hb dX4_envies_76 rfl (lv_at hl 0 rfl) ?_
            refine lv_iload_n hx hb dX4_envies_77 rfl (lv_at hl 1 rfl) ?_
            refine lv_aload_n hx hb dX4_envies_78 rfl (lv_at hl 0 rfl) ?_
            refine g_getr S hB (tT hB) rfl (T := TX4) (N := 38) (C := RX4) rfl in_X4 1 (by decide) (by decide) q1393 (fun _ h9 => h9) (fun _ => rfl) (tA hB 0 rfl).1 dX4_envies_79 ?_
            refine lv_bipush (v := (nI 35)) hx hb dX4_envies_82 rfl ?_
            refine lv_iload_n hx hb dX4_envies_84 rfl (lv_at hl 1 rfl) ?_
            refine lv_iadd hx hb dX4_envies_85 ?_
            obtain ⟨hi, hp⟩ := hp
            refine g_iald S hB (tA hB 0 rfl).2 hi dX4_envies_86 ?_
            refine z_calli (va_runV (As := [.int x1, .int (zI μ1 (th + 1) ((nI 35) + x1).toNatClampNeg)]) (rest := [.int r2]) S (mX4_worthNow l Γ th x1 (zI μ1 (th + 1) ((nI 35) + x1).toNatClampNeg) μ1 _ hp) (cwV 2 hts (lw_V q1678 q1680 qs86 q132 q1681) rfl rfl rfl hX4_worthNow ⟨Nat.le_of_ble_eq_true rfl, Nat.le_of_ble_eq_true rfl⟩) (hB.preV (tT hB) rfl rfl) rfl rfl hl.1 rfl (lv_room (Nat.le_of_ble_eq_true rfl)) dX4_envies_87 ⟨Nat.le_refl _, Nat.le_refl _⟩) hB (fun r4 μ3 H locs hp hB => ?_)
            refine lv_icmp_le (tgt := 99) hx hb dX4_envies_90 rfl (fun c0 => ?_) (fun c0 => ?_)
            · have hp := zit hp c0
              refine lv_iinc (v := (x3 + (nI 1))) (lv' := [(3, .int (x3 + (nI 1))), (0, .ref th), (1, .int x1), (2, .int x2)]) hx hb dX4_envies_99 hl (k := 3) rfl rfl (by decide) rfl (fun ls hl => ?_)
              refine lv_goto (tgt := 21) hx hb dX4_envies_102 rfl ?_
              exact ih x2 (x3 + (nI 1)) μ3 _ _ _ hp hB (lv_sub hl [1, 2, 3, 0] rfl)
            · have hp := zif hp c0
              refine lv_iload_n hx hb dX4_envies_93 rfl (lv_at hl 2 rfl) ?_
              refine lv_iconst (v := (nI 1)) hx hb dX4_envies_94 rfl ?_
              refine lv_iload_n hx hb dX4_envies_95 rfl (lv_at hl 3 rfl) ?_
              refine lv_ishl hx hb dX4_envies_96 ?_
              refine lv_ior hx hb dX4_envies_97 ?_
              refine lv_istore_n (lv' := [(2, .int (x2 ||| ((nI 1) <<< (x3 &&& 31)))), (0, .ref th), (1, .int x1), (3, .int x3)]) hx hb dX4_envies_98 rfl hl (by decide) rfl (fun ls hl => ?_)
              refine lv_iinc (v := (x3 + (nI 1))) (lv' := [(3, .int (x3 + (nI 1))), (2, .int (x2 ||| ((nI 1) <<< (x3 &&& 31)))), (0, .ref th), (1, .int x1)]) hx hb dX4_envies_99 hl (k := 3) rfl rfl (by decide) rfl (fun ls hl => ?_)
              refine lv_goto (tgt := 21) hx hb dX4_envies_102 rfl ?_
              exact ih (x2 ||| ((nI 1) <<< (x3 &&& 31))) (x3 + (nI 1)) μ3 _ _ _ hp hB (lv_sub hl [2, 3, 1, 0] rfl)
def pX4_envies (th : Nat) (x1 : Int32) (μ : zM) (Q : Int32 → zM → Prop) : Prop := (zpI μ th 0 (nI 0) fun μ1 => (pX4_isTenant th (x1.toInt64) μ1 fun r3 μ2 => (if r3 = 0 then Q (-2 : Int32) μ2 else ∃ k1, pX4_envies_21 th x1 Q k1 (nI 0) (nI 0) μ2)))
theorem hX4_envies : yX4_envies.cls = "SunkTowerModel" ∧ yX4_envies.cls ≠ "java/lang/invoke/MethodHandle" ∧ yX4_envies.cls ≠ "java/lang/invoke/VarHandle" ∧ (parseMethodDescriptor yX4_envies.desc).map (fun d => d.parameters.length) = some 1 := by decide +kernel
set_option maxHeartbeats 4000000 in
set_option maxRecDepth 100000 in
theorem mX4_envies (l : Launch) (Γ : zG) (th : Nat) (x1 : Int32) (μ : zM) (Q : Int32 → zM → Prop) (hp : pX4_envies th x1 μ Q) : Met l yX4_envies (ws_ yX4_envies cX4_envies 4 (some .int)) ({ frames := 4, cells := 0, slots := 0, locals := 94 } : Room) (va_Pc [.ref th, .int x1] (zPre Γ (tSh th) μ)) (va_Qi Q (zPost Γ (tSh th) μ) (zA μ)) 0 0 (zA μ) := by
  refine zstart (by decide) (Nat.le_of_ble_eq_true rfl) ?_
  intro p e s m below meth c ls X hnm hB hl
  have X : zCx p m c cX4_envies 4 s [.ref th, .int x1].toArray RX4 meth (some .int) := X
  have S := X.1
  obtain ⟨hx, hb, hml, hown, hts⟩ := X.1
  have hl : lv_has ls 4 [(0, .ref th), (1, .int x1)] := hl
  unfold pX4_envies at hp
  refine lv_aload_n hx hb dX4_envies_0 rfl (lv_at hl 0 rfl) ?_
  refine lv_iconst (v := (nI 0)) hx hb dX4_envies_1 rfl ?_
  obtain ⟨μ1, eμ1, hp⟩ := zpI_e hp
  refine g_putI S hB (tT hB) rfl (T := TX4) (N := 38) (C := RX4) rfl in_X4 0 (by decide) (by decide) (x := (nI 0)) tyX4 tyX4_ok nmX4 q1392 (fun _ h9 => h9) rfl (ty := .int) (by decide +kernel) rfl rfl (fun _ _ => rfl) dX4_envies_2 (fun H locs hB => ?_)
  rw [← eμ1] at hB
  refine lv_aload_n hx hb dX4_envies_5 rfl (lv_at hl 0 rfl) ?_
  refine lv_iload_n hx hb dX4_envies_6 rfl (lv_at hl 1 rfl) ?_
  refine lv_i2l hx hb dX4_envies_7 rfl ?_
  refine z_calli (va_runV (As := [.long (x1.toInt64)]) (rest := []) S (mX4_isTenant l Γ th (x1.toInt64) μ1 _ hp) (cwV 1 hts (lw_V q1633 q1635 qs81 q132 q1636) rfl rfl rfl hX4_isTenant ⟨Nat.le_of_ble_eq_true rfl, Nat.le_of_ble_eq_true rfl⟩) (hB.preV (tT hB) rfl rfl) rfl rfl hl.1 rfl (lv_room (Nat.le_of_ble_eq_true rfl)) dX4_envies_8 ⟨Nat.le_refl _, Nat.le_refl _⟩) hB (fun r3 μ2 H locs hp hB => ?_)
  refine lv_if_ne (tgt := 17) hx hb dX4_envies_11 rfl (fun c0 => ?_) (fun c0 => ?_)
  · have hp := zif hp c0
    refine lv_iconst (v := (nI 0)) hx hb dX4_envies_17 rfl ?_
    refine lv_istore_n (lv' := [(2, .int (nI 0)), (0, .ref th), (1, .int x1)]) hx hb dX4_envies_18 rfl hl (by decide) rfl (fun ls hl => ?_)
    refine lv_iconst (v := (nI 0)) hx hb dX4_envies_19 rfl ?_
    refine lv_istore_n (lv' := [(3, .int (nI 0)), (2, .int (nI 0)), (0, .ref th), (1, .int x1)]) hx hb dX4_envies_20 rfl hl (by decide) rfl (fun ls hl => ?_)
    obtain ⟨n1, hp⟩ := hp
    exact wX4_envies_21 X th x1 n1 (nI 0) (nI 0) μ2 _ _ _ hp hB (lv_sub hl [2, 3, 1, 0] rfl)
  · have hp := zit hp c0
    refine lv_bipush (v := (-2 : Int32)) hx hb dX4_envies_14 rfl ?_
    exact zret_i X hB hp dX4_envies_16
def pX4_laysDepths_31 (th : Nat) (K10 : Int32 → Int32 → Int32 → zM → Prop) (Q : zM → Prop) : Nat → Int32 → Int32 → Int32 → Int32 → Int32 → zM → Prop
  | 0, _, _, _, _, _, _ => False
  | n + 1, x1, x2, x3, x4, x5, μ => (if (nI 60) < x5 then K10 x1 x2 (x3 + (nI 1)) μ else (vp_in (((nI 61) * x3) + x5) 61000 ∧ zpI μ (th + 13) (((nI 61) * x3) + x5).toNatClampNeg x4 fun μ1 => (vp_in (nI 43) 3594 ∧ (vp_in (x1 + (nI 42)) 3594 ∧ (pX4_sinksBy th (x2 + x3) (zI μ1 (th + 1) (nI 43).toNatClampNeg) x4 ((zI μ1 (th + 1) (x1 + (nI 42)).toNatClampNeg) + x5) μ1 fun r3 μ2 => (pX4_deeper th x4 r3 μ2 fun r5 μ4 => pX4_laysDepths_31 th K10 Q n x1 x2 x3 r5 (x5 + (nI 1)) μ4))))))
set_option maxHeartbeats 4000000 in
set_option maxRecDepth 100000 in
theorem wX4_laysDepths_31 {p : Program} {l : Launch} {e : Env} {s : State} {m : MethodId} {args : Array Value} {below : List Frame} {meth : Method} {c : Code} {Γ : zG} {μ0 : zM} {Q : zM → Prop} {K10 : Int32 → Int32 → Int32 → zM → Prop} (X : zCx p m c cX4_laysDepths 6 s args RX4 meth none) (th : Nat) (hK10 : ∀ (x1 : Int32) (x2 : Int32) (x3 : Int32) (μ : zM) (H : Heap) (locs : List Loc) (ls : Array Slot), K10 x1 x2 x3 μ → zB Γ (tSh th) (zA μ0) μ0 s μ H locs → lv_has ls 6 [(0, .ref th), (1, .int x1), (2, .int x2), (3, .int x3)] → W p l e ({ frames := 3, cells := 0, slots := 0, locals := 74 } : Room) s m args below meth c H locs 0 0 (MQ below (va_Qv Q (zPost Γ (tSh th) μ0) (zA μ0)) args s 0 0 (zA μ0)) (F0 m 10 ls [])) : ∀ (n : Nat) (x1 : Int32) (x2 : Int32) (x3 : Int32) (x4 : Int32) (x5 : Int32) (μ : zM) (H : Heap) (locs : List Loc) (ls : Array Slot), pX4_laysDepths_31 th K10 Q n x1 x2 x3 x4 x5 μ → zB Γ (tSh th) (zA μ0) μ0 s μ H locs → lv_has ls 6 [(0, .ref th), (1, .int x1), (2, .int x2), (3, .int x3), (4, .int x4), (5, .int x5)] → W p l e ({ frames := 3, cells := 0, slots := 0, locals := 74 } : Room) s m args below meth c H locs 0 0 (MQ below (va_Qv Q (zPost Γ (tSh th) μ0) (zA μ0)) args s 0 0 (zA μ0)) (F0 m 31 ls []) := by
  have S := X.1
  obtain ⟨hx, hb, hml, hown, hts⟩ := X.1
  intro n
  induction n with
  | zero =>
    intro x1 x2 x3 x4 x5 μ H locs ls hp
    exact hp.elim
  | succ n ih =>
    intro x1 x2 x3 x4 x5 μ H locs ls hp hB hl
    unfold pX4_laysDepths_31 at hp
    refine lv_iload hx hb dX4_laysDepths_31 (lv_at hl 5 rfl) ?_
    refine lv_bipush (v := (nI 60)) hx hb dX4_laysDepths_33 rfl ?_
    refine lv_icmp_gt (tgt := 93) hx hb dX4_laysDepths_35 rfl (fun c0 => ?_) (fun c0 => ?_)
    · have hp := zit hp c0
      refine lv_iinc (v := (x3 + (nI 1))) (lv' := [(3, .int (x3 + (nI 1))), (0, .ref th), (1, .int x1), (2, .int x2), (4, .int x4), (5, .int x5)]) hx hb dX4_laysDepths_93 hl (k := 3) rfl rfl (by decide) rfl (fun ls hl => ?_)
      refine lv_goto (tgt := 10) hx hb dX4_laysDepths_96 rfl ?_
      exact hK10 x1 x2 (x3 + (nI 1)) μ _ _ _ hp hB (lv_sub hl [1, 2, 3, 0] rfl)
    · have hp := zif hp c0
      refine lv_aload_n hx hb dX4_laysDepths_38 rfl (lv_at hl 0 rfl) ?_
      refine g_getr S hB (tT hB) rfl (T := TX4) (N := 38) (C := RX4) rfl in_X4 32 (by decide) (by decide) q1424 (fun _ h9 => h9) (fun _ => rfl) (tA hB 12 rfl).1 dX4_laysDepths_39 ?_
      refine lv_bipush (v := (nI 61)) hx hb dX4_laysDepths_42 rfl ?_
      refine lv_iload_n hx hb dX4_laysDepths_44 rfl (lv_at hl 3 rfl) ?_
      refine lv_imul hx hb dX4_laysDepths_45 ?_
      refine lv_iload hx hb dX4_laysDepths_46 (lv_at hl 5 rfl) ?_
      refine lv_iadd hx hb dX4_laysDepths_48 ?_
      refine lv_iload hx hb dX4_laysDepths_49 (lv_at hl 4 rfl) ?_
      obtain ⟨hi, hp⟩ := hp
      obtain ⟨μ1, eμ1, hp⟩ := zpI_e hp
      refine g_iast S hB (tA hB 12 rfl).2 hi dX4_laysDepths_51 (fun H locs hB => ?_)
      rw [← eμ1] at hB
      refine lv_iload hx hb dX4_laysDepths_52 (lv_at hl 4 rfl) ?_
      refine lv_aload_n hx hb dX4_laysDepths_54 rfl (lv_at hl 0 rfl) ?_
      refine lv_iload_n hx hb dX4_laysDepths_55 rfl (lv_at hl 2 rfl) ?_
      refine lv_iload_n hx hb dX4_laysDepths_56 rfl (lv_at hl 3 rfl) ?_
      refine lv_iadd hx hb dX4_laysDepths_57 ?_
      refine lv_aload_n hx hb dX4_laysDepths_58 rfl (lv_at hl 0 rfl) ?_
      refine g_getr S hB (tT hB) rfl (T := TX4) (N := 38) (C := RX4) rfl in_X4 1 (by decide) (by decide) q1393 (fun _ h9 => h9) (fun _ => rfl) (tA hB 0 rfl).1 dX4_laysDepths_59 ?_
      refine lv_bipush (v := (nI 43)) hx hb dX4_laysDepths_62 rfl ?_
      obtain ⟨hi, hp⟩ := hp
      refine g_iald S hB (tA hB 0 rfl).2 hi dX4_laysDepths_64 ?_
      refine lv_iload hx hb dX4_laysDepths_65 (lv_at hl 4 rfl) ?_
      refine lv_aload_n hx hb dX4_laysDepths_67 rfl (lv_at hl 0 rfl) ?_
      refine g_getr S hB (tT hB) rfl (T := TX4) (N := 38) (C := RX4) rfl in_X4 1 (by decide) (by decide) q1393 (fun _ h9 => h9) (fun _ => rfl) (tA hB 0 rfl).1 dX4_laysDepths_68 ?_
      refine lv_iload_n hx hb dX4_laysDepths_71 rfl (lv_at hl 1 rfl) ?_
      refine lv_bipush (v := (nI 42)) hx hb dX4_laysDepths_72 rfl ?_
      refine lv_iadd hx hb dX4_laysDepths_74 ?_
      obtain ⟨hi, hp⟩ := hp
      refine g_iald S hB (tA hB 0 rfl).2 hi dX4_laysDepths_75 ?_
      refine lv_iload hx hb dX4_laysDepths_76 (lv_at hl 5 rfl) ?_
      refine lv_iadd hx hb dX4_laysDepths_78 ?_
      refine z_calli (va_runV (As := [.int (x2 + x3), .int (zI μ1 (th + 1) (nI 43).toNatClampNeg), .int x4, .int ((zI μ1 (th + 1) (x1 + (nI 42)).toNatClampNeg) + x5)]) (rest := [.int x4]) S (mX4_sinksBy l Γ th (x2 + x3) (zI μ1 (th + 1) (nI 43).toNatClampNeg) x4 ((zI μ1 (th + 1) (x1 + (nI 42)).toNatClampNeg) + x5) μ1 _ hp) (cwV 4 hts (lw_V q1649 q1651 qs83 q132 q1652) rfl rfl rfl hX4_sinksBy ⟨Nat.le_of_ble_eq_true rfl, Nat.le_of_ble_eq_true rfl⟩) (hB.preV (tT hB) rfl rfl) rfl rfl hl.1 rfl (lv_room (Nat.le_of_ble_eq_true rfl)) dX4_laysDepths_79 ⟨Nat.le_refl _, Nat.le_refl _⟩) hB (fun r3 μ2 H locs hp hB => ?_)
      refine z_calli (va_runS (As := [.int x4, .int r3]) (rest := []) S (mX4_deeper l Γ th x4 r3 μ2 _ hp) (va_cwS 2 hts (lw_S q1699 q1700 q132 q1701) rfl rfl rfl hX4_deeper ⟨Nat.le_of_ble_eq_true rfl, Nat.le_of_ble_eq_true rfl⟩) hB.preS rfl rfl hl.1 rfl (lv_room (Nat.le_of_ble_eq_true rfl)) dX4_laysDepths_82 ⟨Nat.le_refl _, Nat.le_refl _⟩) hB (fun r5 μ4 H locs hp hB => ?_)
      refine lv_istore (lv' := [(4, .int r5), (0, .ref th), (1, .int x1), (2, .int x2), (3, .int x3), (5, .int x5)]) hx hb dX4_laysDepths_85 hl (by decide) rfl (fun ls hl => ?_)
      refine lv_iinc (v := (x5 + (nI 1))) (lv' := [(5, .int (x5 + (nI 1))), (4, .int r5), (0, .ref th), (1, .int x1), (2, .int x2), (3, .int x3)]) hx hb dX4_laysDepths_87 hl (k := 5) rfl rfl (by decide) rfl (fun ls hl => ?_)
      refine lv_goto (tgt := 31) hx hb dX4_laysDepths_90 rfl ?_
      exact ih x1 x2 x3 r5 (x5 + (nI 1)) μ4 _ _ _ hp hB (lv_sub hl [2, 3, 4, 5, 1, 0] rfl)
def pX4_laysDepths_10 (th : Nat) (Q : zM → Prop) : Nat → Int32 → Int32 → Int32 → zM → Prop
  | 0, _, _, _, _ => False
  | n + 1, x1, x2, x3, μ => (if (nI 1000) ≤ x3 then Q μ else (vp_in (x1 + (nI 41)) 3594 ∧ ∃ k1, pX4_laysDepths_31 th (fun v0 v1 v2 ν => pX4_laysDepths_10 th Q n v0 v1 v2 ν) Q k1 x1 x2 x3 (zI μ (th + 1) (x1 + (nI 41)).toNatClampNeg) (nI 0) μ))
set_option maxHeartbeats 4000000 in
set_option maxRecDepth 100000 in
theorem wX4_laysDepths_10 {p : Program} {l : Launch} {e : Env} {s : State} {m : MethodId} {args : Array Value} {below : List Frame} {meth : Method} {c : Code} {Γ : zG} {μ0 : zM} {Q : zM → Prop} (X : zCx p m c cX4_laysDepths 6 s args RX4 meth none) (th : Nat) : ∀ (n : Nat) (x1 : Int32) (x2 : Int32) (x3 : Int32) (μ : zM) (H : Heap) (locs : List Loc) (ls : Array Slot), pX4_laysDepths_10 th Q n x1 x2 x3 μ → zB Γ (tSh th) (zA μ0) μ0 s μ H locs → lv_has ls 6 [(0, .ref th), (1, .int x1), (2, .int x2), (3, .int x3)] → W p l e ({ frames := 3, cells := 0, slots := 0, locals := 74 } : Room) s m args below meth c H locs 0 0 (MQ below (va_Qv Q (zPost Γ (tSh th) μ0) (zA μ0)) args s 0 0 (zA μ0)) (F0 m 10 ls []) := by
  have S := X.1
  obtain ⟨hx, hb, hml, hown, hts⟩ := X.1
  intro n
  induction n with
  | zero =>
    intro x1 x2 x3 μ H locs ls hp
    exact hp.elim
  | succ n ih =>
    intro x1 x2 x3 μ H locs ls hp hB hl
    unfold pX4_laysDepths_10 at hp
    refine lv_iload_n hx hb dX4_laysDepths_10 rfl (lv_at hl 3 rfl) ?_
    refine lv_sipush (v := (nI 1000)) hx hb dX4_laysDepths_11 rfl ?_
    refine lv_icmp_ge (tgt := 99) hx hb dX4_laysDepths_14 rfl (fun c0 => ?_) (fun c0 => ?_)
    · have hp := zit hp c0
      exact zret_v X hB hp dX4_laysDepths_99
    · have hp := zif hp c0
      refine lv_aload_n hx hb dX4_laysDepths_17 rfl (lv_at hl 0 rfl) ?_
      refine g_getr S hB (tT hB) rfl (T := TX4) (N := 38) (C := RX4) rfl in_X4 1 (by decide) (by decide) q1393 (fun _ h9 => h9) (fun _ => rfl) (tA hB 0 rfl).1 dX4_laysDepths_18 ?_
      refine lv_iload_n hx hb dX4_laysDepths_21 rfl (lv_at hl 1 rfl) ?_
      refine lv_bipush (v := (nI 41)) hx hb dX4_laysDepths_22 rfl ?_
      refine lv_iadd hx hb dX4_laysDepths_24 ?_
      obtain ⟨hi, hp⟩ := hp
      refine g_iald S hB (tA hB 0 rfl).2 hi dX4_laysDepths_25 ?_
      refine lv_istore (lv' := [(4, .int (zI μ (th + 1) (x1 + (nI 41)).toNatClampNeg)), (0, .ref th), (1, .int x1), (2, .int x2), (3, .int x3)]) hx hb dX4_laysDepths_26 hl (by decide) rfl (fun ls hl => ?_)
      refine lv_iconst (v := (nI 0)) hx hb dX4_laysDepths_28 rfl ?_
      refine lv_istore (lv' := [(5, .int (nI 0)), (4, .int (zI μ (th + 1) (x1 + (nI 41)).toNatClampNeg)), (0, .ref th), (1, .int x1), (2, .int x2), (3, .int x3)]) hx hb dX4_laysDepths_29 hl (by decide) rfl (fun ls hl => ?_)
      obtain ⟨n1, hp⟩ := hp
      exact wX4_laysDepths_31 X th (fun v0 v1 v2 ν H2 L2 ls2 h2 b2 l2 => ih v0 v1 v2 ν H2 L2 ls2 h2 b2 l2) n1 x1 x2 x3 (zI μ (th + 1) (x1 + (nI 41)).toNatClampNeg) (nI 0) μ _ _ _ hp hB (lv_sub hl [2, 3, 4, 5, 1, 0] rfl)
def pX4_laysDepths (th : Nat) (μ : zM) (Q : zM → Prop) : Prop := (pX4_firstWeight th μ fun r2 μ1 => ∃ k1, pX4_laysDepths_10 th Q k1 (nI 23) r2 (nI 0) μ1)
theorem hX4_laysDepths : yX4_laysDepths.cls = "SunkTowerModel" ∧ yX4_laysDepths.cls ≠ "java/lang/invoke/MethodHandle" ∧ yX4_laysDepths.cls ≠ "java/lang/invoke/VarHandle" ∧ (parseMethodDescriptor yX4_laysDepths.desc).map (fun d => d.parameters.length) = some 0 := by decide +kernel
set_option maxHeartbeats 4000000 in
set_option maxRecDepth 100000 in
theorem mX4_laysDepths (l : Launch) (Γ : zG) (th : Nat) (μ : zM) (Q : zM → Prop) (hp : pX4_laysDepths th μ Q) : Met l yX4_laysDepths (ws_ yX4_laysDepths cX4_laysDepths 6 none) ({ frames := 3, cells := 0, slots := 0, locals := 74 } : Room) (va_Pc [.ref th] (zPre Γ (tSh th) μ)) (va_Qv Q (zPost Γ (tSh th) μ) (zA μ)) 0 0 (zA μ) := by
  refine zstart (by decide) (Nat.le_of_ble_eq_true rfl) ?_
  intro p e s m below meth c ls X hnm hB hl
  have X : zCx p m c cX4_laysDepths 6 s [.ref th].toArray RX4 meth none := X
  have S := X.1
  obtain ⟨hx, hb, hml, hown, hts⟩ := X.1
  have hl : lv_has ls 6 [(0, .ref th)] := hl
  unfold pX4_laysDepths at hp
  refine lv_bipush (v := (nI 23)) hx hb dX4_laysDepths_0 rfl ?_
  refine lv_istore_n (lv' := [(1, .int (nI 23)), (0, .ref th)]) hx hb dX4_laysDepths_2 rfl hl (by decide) rfl (fun ls hl => ?_)
  refine lv_aload_n hx hb dX4_laysDepths_3 rfl (lv_at hl 1 rfl) ?_
  refine z_calli (va_runV (As := []) (rest := []) S (mX4_firstWeight l Γ th μ _ hp) (cwV 0 hts (lw_V q1971 q1973 qs121 q132 q1974) rfl rfl rfl hX4_firstWeight ⟨Nat.le_of_ble_eq_true rfl, Nat.le_of_ble_eq_true rfl⟩) (hB.preV (tT hB) rfl rfl) rfl rfl hl.1 rfl (lv_room (Nat.le_of_ble_eq_true rfl)) dX4_laysDepths_4 ⟨Nat.le_refl _, Nat.le_refl _⟩) hB (fun r2 μ1 H locs hp hB => ?_)
  refine lv_istore_n (lv' := [(2, .int r2), (1, .int (nI 23)), (0, .ref th)]) hx hb dX4_laysDepths_7 rfl hl (by decide) rfl (fun ls hl => ?_)
  refine lv_iconst (v := (nI 0)) hx hb dX4_laysDepths_8 rfl ?_
  refine lv_istore_n (lv' := [(3, .int (nI 0)), (2, .int r2), (1, .int (nI 23)), (0, .ref th)]) hx hb dX4_laysDepths_9 rfl hl (by decide) rfl (fun ls hl => ?_)
  obtain ⟨n1, hp⟩ := hp
  exact wX4_laysDepths_10 X th n1 (nI 23) r2 (nI 0) μ1 _ _ _ hp hB (lv_sub hl [3, 2, 1, 0] rfl)
def pX4_falseMark_39 (th : Nat) (x1 : Int32) (K23 : Int32 → zM → Prop) (Q : Int32 → zM → Prop) : Nat → Int32 → Int32 → Int32 → zM → Prop
  | 0, _, _, _, _ => False
  | n + 1, x3, x4, x5, μ => (if (nI 1000) ≤ x5 then (if x4 = 0 then Q (x3 / (nI 2)) μ else K23 (x3 + (nI 2)) μ) else (pX4_isMark th x1 x3 x5 μ fun r2 μ1 => pX4_falseMark_39 th x1 K23 Q n x3 (x4 ||| r2) (x5 + (nI 1)) μ1))
set_option maxHeartbeats 4000000 in
set_option maxRecDepth 100000 in
theorem wX4_falseMark_39 {p : Program} {l : Launch} {e : Env} {s : State} {m : MethodId} {args : Array Value} {below : List Frame} {meth : Method} {c : Code} {Γ : zG} {μ0 : zM} {Q : Int32 → zM → Prop} {K23 : Int32 → zM → Prop} (X : zCx p m c cX4_falseMark 6 s args RX4 meth (some .int)) (th : Nat) (x1 : Int32) (hK23 : ∀ (x3 : Int32) (μ : zM) (H : Heap) (locs : List Loc) (ls : Array Slot), K23 x3 μ → zB Γ (tSh th) (zA μ0) μ0 s μ H locs → lv_has ls 6 [(0, .ref th), (1, .int x1), (3, .int x3)] → W p l e ({ frames := 4, cells := 0, slots := 0, locals := 99 } : Room) s m args below meth c H locs 0 0 (MQ below (va_Qi Q (zPost Γ (tSh th) μ0) (zA μ0)) args s 0 0 (zA μ0)) (F0 m 23 ls [])) : ∀ (n : Nat) (x3 : Int32) (x4 : Int32) (x5 : Int32) (μ : zM) (H : Heap) (locs : List Loc) (ls : Array Slot), pX4_falseMark_39 th x1 K23 Q n x3 x4 x5 μ → zB Γ (tSh th) (zA μ0) μ0 s μ H locs → lv_has ls 6 [(0, .ref th), (1, .int x1), (3, .int x3), (4, .int x4), (5, .int x5)] → W p l e ({ frames := 4, cells := 0, slots := 0, locals := 99 } : Room) s m args below meth c H locs 0 0 (MQ below (va_Qi Q (zPost Γ (tSh th) μ0) (zA μ0)) args s 0 0 (zA μ0)) (F0 m 39 ls []) := by
  have S := X.1
  obtain ⟨hx, hb, hml, hown, hts⟩ := X.1
  intro n
  induction n with
  | zero =>
    intro x3 x4 x5 μ H locs ls hp
    exact hp.elim
  | succ n ih =>
    intro x3 x4 x5 μ H locs ls hp hB hl
    unfold pX4_falseMark_39 at hp
    refine lv_iload hx hb dX4_falseMark_39 (lv_at hl 4 rfl) ?_
    refine lv_sipush (v := (nI 1000)) hx hb dX4_falseMark_41 rfl ?_
    refine lv_icmp_ge (tgt := 66) hx hb dX4_falseMark_44 rfl (fun c0 => ?_) (fun c0 => ?_)
    · have hp := zit hp c0
      refine lv_iload hx hb dX4_falseMark_66 (lv_at hl 3 rfl) ?_
      refine lv_if_ne (tgt := 75) hx hb dX4_falseMark_68 rfl (fun c0 => ?_) (fun c0 => ?_)
      · have hp := zif hp c0
        refine lv_iinc (v := (x3 + (nI 2))) (lv' := [(3, .int (x3 + (nI 2))), (0, .ref th), (1, .int x1), (4, .int x4), (5, .int x5)]) hx hb dX4_falseMark_75 hl (k := 2) rfl rfl (by decide) rfl (fun ls hl => ?_)
        refine lv_goto (tgt := 23) hx hb dX4_falseMark_78 rfl ?_
        exact hK23 (x3 + (nI 2)) μ _ _ _ hp hB (lv_sub hl [1, 2, 0] rfl)
      · have hp := zit hp c0
        refine lv_iload_n hx hb dX4_falseMark_71 rfl (lv_at hl 2 rfl) ?_
        refine lv_iconst (v := (nI 2)) hx hb dX4_falseMark_72 rfl ?_
        refine lv_idiv hx hb dX4_falseMark_73 (by decide) ?_
        exact zret_i X hB hp dX4_falseMark_74
    · have hp := zif hp c0
      refine lv_iload hx hb dX4_falseMark_47 (lv_at hl 3 rfl) ?_
      refine lv_aload_n hx hb dX4_falseMark_49 rfl (lv_at hl 0 rfl) ?_
      refine lv_iload_n hx hb dX4_falseMark_50 rfl (lv_at hl 1 rfl) ?_
      refine lv_iload_n hx hb dX4_falseMark_51 rfl (lv_at hl 2 rfl) ?_
      refine lv_iload hx hb dX4_falseMark_52 (lv_at hl 4 rfl) ?_
      refine z_calli (va_runV (As := [.int x1, .int x3, .int x5]) (rest := [.int x4]) S (mX4_isMark l Γ th x1 x3 x5 μ _ hp) (cwV 3 hts (lw_V q1975 q1977 qs122 q132 q1978) rfl rfl rfl hX4_isMark ⟨Nat.le_of_ble_eq_true rfl, Nat.le_of_ble_eq_true rfl⟩) (hB.preV (tT hB) rfl rfl) rfl rfl hl.1 rfl (lv_room (Nat.le_of_ble_eq_true rfl)) dX4_falseMark_54 ⟨Nat.le_refl _, Nat.le_refl _⟩) hB (fun r2 μ1 H locs hp hB => ?_)
      refine lv_ior hx hb dX4_falseMark_57 ?_
      refine lv_istore (lv' := [(4, .int (x4 ||| r2)), (0, .ref th), (1, .int x1), (3, .int x3), (5, .int x5)]) hx hb dX4_falseMark_58 hl (by decide) rfl (fun ls hl => ?_)
      refine lv_iinc (v := (x5 + (nI 1))) (lv' := [(5, .int (x5 + (nI 1))), (4, .int (x4 ||| r2)), (0, .ref th), (1, .int x1), (3, .int x3)]) hx hb dX4_falseMark_60 hl (k := 4) rfl rfl (by decide) rfl (fun ls hl => ?_)
      refine lv_goto (tgt := 39) hx hb dX4_falseMark_63 rfl ?_
      exact ih x3 (x4 ||| r2) (x5 + (nI 1)) μ1 _ _ _ hp hB (lv_sub hl [2, 3, 4, 1, 0] rfl)
def pX4_falseMark_23 (th : Nat) (x1 : Int32) (Q : Int32 → zM → Prop) : Nat → Int32 → zM → Prop
  | 0, _, _ => False
  | n + 1, x3, μ => (vp_in x1 4 ∧ (if (zI μ (th + 17) x1.toNatClampNeg) ≤ x3 then Q (-1 : Int32) μ else ∃ k1, pX4_falseMark_39 th x1 (fun v0 ν => pX4_falseMark_23 th x1 Q n v0 ν) Q k1 x3 (nI 0) (nI 0) μ))
set_option maxHeartbeats 4000000 in
set_option maxRecDepth 100000 in
theorem wX4_falseMark_23 {p : Program} {l : Launch} {e : Env} {s : State} {m : MethodId} {args : Array Value} {below : List Frame} {meth : Method} {c : Code} {Γ : zG} {μ0 : zM} {Q : Int32 → zM → Prop} (X : zCx p m c cX4_falseMark 6 s args RX4 meth (some .int)) (th : Nat) (x1 : Int32) : ∀ (n : Nat) (x3 : Int32) (μ : zM) (H : Heap) (locs : List Loc) (ls : Array Slot), pX4_falseMark_23 th x1 Q n x3 μ → zB Γ (tSh th) (zA μ0) μ0 s μ H locs → lv_has ls 6 [(0, .ref th), (1, .int x1), (3, .int x3)] → W p l e ({ frames := 4, cells := 0, slots := 0, locals := 99 } : Room) s m args below meth c H locs 0 0 (MQ below (va_Qi Q (zPost Γ (tSh th) μ0) (zA μ0)) args s 0 0 (zA μ0)) (F0 m 23 ls []) := by
  have S := X.1
  obtain ⟨hx, hb, hml, hown, hts⟩ := X.1
  intro n
  induction n with
  | zero =>
    intro x3 μ H locs ls hp
    exact hp.elim
  | succ n ih =>
    intro x3 μ H locs ls hp hB hl
    unfold pX4_falseMark_23 at hp
    refine lv_iload_n hx hb dX4_falseMark_23 rfl (lv_at hl 2 rfl) ?_
    refine lv_aload_n hx hb dX4_falseMark_24 rfl (lv_at hl 0 rfl) ?_
    refine g_getr S hB (tT hB) rfl (T := TX4) (N := 38) (C := RX4) rfl in_X4 36 (by decide) (by decide) q1428 (fun _ h9 => h9) (fun _ => rfl) (tA hB 16 rfl).1 dX4_falseMark_25 ?_
    refine lv_iload_n hx hb dX4_falseMark_28 rfl (lv_at hl 1 rfl) ?_
    obtain ⟨hi, hp⟩ := hp
    refine g_iald S hB (tA hB 16 rfl).2 hi dX4_falseMark_29 ?_
    refine lv_icmp_ge (tgt := 81) hx hb dX4_falseMark_30 rfl (fun c0 => ?_) (fun c0 => ?_)
    · have hp := zit hp c0
      refine lv_iconst (v := (-1 : Int32)) hx hb dX4_falseMark_81 rfl ?_
      exact zret_i X hB hp dX4_falseMark_82
    · have hp := zif hp c0
      refine lv_iconst (v := (nI 0)) hx hb dX4_falseMark_33 rfl ?_
      refine lv_istore (lv' := [(4, .int (nI 0)), (0, .ref th), (1, .int x1), (3, .int x3)]) hx hb dX4_falseMark_34 hl (by decide) rfl (fun ls hl => ?_)
      refine lv_iconst (v := (nI 0)) hx hb dX4_falseMark_36 rfl ?_
      refine lv_istore (lv' := [(5, .int (nI 0)), (4, .int (nI 0)), (0, .ref th), (1, .int x1), (3, .int x3)]) hx hb dX4_falseMark_37 hl (by decide) rfl (fun ls hl => ?_)
      obtain ⟨n1, hp⟩ := hp
      exact wX4_falseMark_39 X th x1 (fun v0 ν H2 L2 ls2 h2 b2 l2 => ih v0 ν H2 L2 ls2 h2 b2 l2) n1 x3 (nI 0) (nI 0) μ _ _ _ hp hB (lv_sub hl [2, 3, 4, 1, 0] rfl)
def pX4_falseMark (th : Nat) (x1 : Int32) (μ : zM) (Q : Int32 → zM → Prop) : Prop := (zpI μ th 0 (nI 0) fun μ1 => (pX4_noMarks th x1 μ1 fun r3 μ2 => (if r3 = 0 then (pX4_laysDepths th μ2 fun μ4 => ∃ k1, pX4_falseMark_23 th x1 Q k1 (nI 0) μ4) else Q r3 μ2)))
theorem hX4_falseMark : yX4_falseMark.cls = "SunkTowerModel" ∧ yX4_falseMark.cls ≠ "java/lang/invoke/MethodHandle" ∧ yX4_falseMark.cls ≠ "java/lang/invoke/VarHandle" ∧ (parseMethodDescriptor yX4_falseMark.desc).map (fun d => d.parameters.length) = some 1 := by decide +kernel
set_option maxHeartbeats 4000000 in
set_option maxRecDepth 100000 in
theorem mX4_falseMark (l : Launch) (Γ : zG) (th : Nat) (x1 : Int32) (μ : zM) (Q : Int32 → zM → Prop) (hp : pX4_falseMark th x1 μ Q) : Met l yX4_falseMark (ws_ yX4_falseMark cX4_falseMark 6 (some .int)) ({ frames := 4, cells := 0, slots := 0, locals := 99 } : Room) (va_Pc [.ref th, .int x1] (zPre Γ (tSh th) μ)) (va_Qi Q (zPost Γ (tSh th) μ) (zA μ)) 0 0 (zA μ) := by
  refine zstart (by decide) (Nat.le_of_ble_eq_true rfl) ?_
  intro p e s m below meth c ls X hnm hB hl
  have X : zCx p m c cX4_falseMark 6 s [.ref th, .int x1].toArray RX4 meth (some .int) := X
  have S := X.1
  obtain ⟨hx, hb, hml, hown, hts⟩ := X.1
  have hl : lv_has ls 6 [(0, .ref th), (1, .int x1)] := hl
  unfold pX4_falseMark at hp
  refine lv_aload_n hx hb dX4_falseMark_0 rfl (lv_at hl 0 rfl) ?_
  refine lv_iconst (v := (nI 0)) hx hb dX4_falseMark_1 rfl ?_
  obtain ⟨μ1, eμ1, hp⟩ := zpI_e hp
  refine g_putI S hB (tT hB) rfl (T := TX4) (N := 38) (C := RX4) rfl in_X4 0 (by decide) (by decide) (x := (nI 0)) tyX4 tyX4_ok nmX4 q1392 (fun _ h9 => h9) rfl (ty := .int) (by decide +kernel) rfl rfl (fun _ _ => rfl) dX4_falseMark_2 (fun H locs hB => ?_)
  rw [← eμ1] at hB
  refine lv_aload_n hx hb dX4_falseMark_5 rfl (lv_at hl 0 rfl) ?_
  refine lv_iload_n hx hb dX4_falseMark_6 rfl (lv_at hl 1 rfl) ?_
  refine z_calli (va_runV (As := [.int x1]) (rest := []) S (mX4_noMarks l Γ th x1 μ1 _ hp) (cwV 1 hts (lw_V q1957 q1959 qs118 q132 q1960) rfl rfl rfl hX4_noMarks ⟨Nat.le_of_ble_eq_true rfl, Nat.le_of_ble_eq_true rfl⟩) (hB.preV (tT hB) rfl rfl) rfl rfl hl.1 rfl (lv_room (Nat.le_of_ble_eq_true rfl)) dX4_falseMark_7 ⟨Nat.le_refl _, Nat.le_refl _⟩) hB (fun r3 μ2 H locs hp hB => ?_)
  refine lv_istore_n (lv' := [(2, .int r3), (0, .ref th), (1, .int x1)]) hx hb dX4_falseMark_10 rfl hl (by decide) rfl (fun ls hl => ?_)
  refine lv_iload_n hx hb dX4_falseMark_11 rfl (lv_at hl 0 rfl) ?_
  refine lv_if_eq (tgt := 17) hx hb dX4_falseMark_12 rfl (fun c0 => ?_) (fun c0 => ?_)
  · have hp := zit hp c0
    refine lv_aload_n hx hb dX4_falseMark_17 rfl (lv_at hl 1 rfl) ?_
    refine z_callv (va_runV (As := []) (rest := []) S (mX4_laysDepths l Γ th μ2 _ hp) (cwV 0 hts (lw_V q1967 q1969 qs120 q132 q1970) rfl rfl rfl hX4_laysDepths ⟨Nat.le_of_ble_eq_true rfl, Nat.le_of_ble_eq_true rfl⟩) (hB.preV (tT hB) rfl rfl) rfl rfl hl.1 rfl (lv_room (Nat.le_of_ble_eq_true rfl)) dX4_falseMark_18 ⟨Nat.le_refl _, Nat.le_refl _⟩) hB (fun μ4 H locs hp hB => ?_)
    refine lv_iconst (v := (nI 0)) hx hb dX4_falseMark_21 rfl ?_
    refine lv_istore_n (lv' := [(3, .int (nI 0)), (2, .int r3), (0, .ref th), (1, .int x1)]) hx hb dX4_falseMark_22 rfl hl (by decide) rfl (fun ls hl => ?_)
    obtain ⟨n1, hp⟩ := hp
    exact wX4_falseMark_23 X th x1 n1 (nI 0) μ4 _ _ _ hp hB (lv_sub hl [2, 3, 0] rfl)
  · have hp := zif hp c0
    refine lv_iload_n hx hb dX4_falseMark_15 rfl (lv_at hl 0 rfl) ?_
    exact zret_i X hB hp dX4_falseMark_16
def pX4_readLaw_18 (th : Nat) (x1 : Int32) (Q : zM → Prop) (μ : zM) : Prop := (vp_in (nI 297) 1198 ∧ (zpI μ th 15 x1 fun μ1 => (pX4_readSum_of (pX4_readAtom 8) th (nI 0) μ1 fun μ2 => (if (zI μ2 th 11) = 0 then (vp_in ((nI 5) + x1) 1198 ∧ zpI μ2 (th + 4) ((nI 5) + x1).toNatClampNeg (nI 1) fun μ3 => (vp_in ((nI 8) + x1) 1198 ∧ zpI μ3 (th + 4) ((nI 8) + x1).toNatClampNeg (zI μ (th + 4) (nI 297).toNatClampNeg) fun μ4 => (vp_in (nI 297) 1198 ∧ (vp_in ((nI 11) + x1) 1198 ∧ zpI μ4 (th + 4) ((nI 11) + x1).toNatClampNeg ((zI μ4 (th + 4) (nI 297).toNatClampNeg) - (zI μ (th + 4) (nI 297).toNatClampNeg)) fun μ5 => Q μ5)))) else Q μ2))))
set_option maxHeartbeats 4000000 in
set_option maxRecDepth 100000 in
theorem wX4_readLaw_18 {p : Program} {l : Launch} {e : Env} {s : State} {m : MethodId} {args : Array Value} {below : List Frame} {meth : Method} {c : Code} {Γ : zG} {μ0 : zM} {Q : zM → Prop} (X : zCx p m c cX4_readLaw 3 s args RX4 meth none) (th : Nat) (x1 : Int32) : ∀ (μ : zM) (H : Heap) (locs : List Loc) (ls : Array Slot), pX4_readLaw_18 th x1 Q  μ → zB Γ (tSh th) (zA μ0) μ0 s μ H locs → lv_has ls 3 [(0, .ref th), (1, .int x1)] → W p l e ({ frames := 81, cells := 0, slots := 0, locals := 1737 } : Room) s m args below meth c H locs 0 0 (MQ below (va_Qv Q (zPost Γ (tSh th) μ0) (zA μ0)) args s 0 0 (zA μ0)) (F0 m 18 ls []) := by
  have S := X.1
  obtain ⟨hx, hb, hml, hown, hts⟩ := X.1
  intro  μ H locs ls hp hB hl
  unfold pX4_readLaw_18 at hp
  refine lv_aload_n hx hb dX4_readLaw_18 rfl (lv_at hl 0 rfl) ?_
  refine g_getr S hB (tT hB) rfl (T := TX4) (N := 38) (C := RX4) rfl in_X4 4 (by decide) (by decide) q1396 (fun _ h9 => h9) (fun _ => rfl) (tA hB 3 rfl).1 dX4_readLaw_19 ?_
  refine lv_sipush (v := (nI 297)) hx hb dX4_readLaw_22 rfl ?_
  obtain ⟨hi, hp⟩ := hp
  refine g_iald S hB (tA hB 3 rfl).2 hi dX4_readLaw_25 ?_
  refine lv_istore_n (lv' := [(2, .int (zI μ (th + 4) (nI 297).toNatClampNeg)), (0, .ref th), (1, .int x1)]) hx hb dX4_readLaw_26 rfl hl (by decide) rfl (fun ls hl => ?_)
  refine lv_aload_n hx hb dX4_readLaw_27 rfl (lv_at hl 1 rfl) ?_
  refine lv_iload_n hx hb dX4_readLaw_28 rfl (lv_at hl 2 rfl) ?_
  obtain ⟨μ1, eμ1, hp⟩ := zpI_e hp
  refine g_putI S hB (tT hB) rfl (T := TX4) (N := 38) (C := RX4) rfl in_X4 15 (by decide) (by decide) (x := x1) tyX4 tyX4_ok nmX4 q1407 (fun _ h9 => h9) rfl (ty := .int) (by decide +kernel) rfl rfl (fun _ _ => rfl) dX4_readLaw_29 (fun H locs hB => ?_)
  rw [← eμ1] at hB
  refine lv_aload_n hx hb dX4_readLaw_32 rfl (lv_at hl 1 rfl) ?_
  refine lv_iconst (v := (nI 0)) hx hb dX4_readLaw_33 rfl ?_
  refine z_callv (va_runV (As := [.int (nI 0)]) (rest := []) S (mX4_readSum_of (pX4_readAtom 8) (9 * 8) (193 * 8) (mX4_readAtom 8) l Γ th (nI 0) μ1 _ hp) (cwV 1 hts (lw_V q1577 q1579 qs71 q132 q1580) rfl rfl rfl hX4_readSum ⟨Nat.le_of_ble_eq_true rfl, Nat.le_of_ble_eq_true rfl⟩) (hB.preV (tT hB) rfl rfl) rfl rfl hl.1 rfl (lv_room (Nat.le_of_ble_eq_true rfl)) dX4_readLaw_34 ⟨Nat.le_refl _, Nat.le_refl _⟩) hB (fun μ2 H locs hp hB => ?_)
  refine lv_aload_n hx hb dX4_readLaw_37 rfl (lv_at hl 1 rfl) ?_
  refine g_get S hB (tT hB) rfl (T := TX4) (N := 38) (C := RX4) rfl in_X4 11 (by decide) (by decide) q1403 (fun _ h9 => h9) (v := .int (zI μ2 th 11)) rfl dX4_readLaw_38 ?_
  refine lv_if_eq (tgt := 45) hx hb dX4_readLaw_41 rfl (fun c0 => ?_) (fun c0 => ?_)
  · have hp := zit hp c0
    refine lv_aload_n hx hb dX4_readLaw_45 rfl (lv_at hl 1 rfl) ?_
    refine g_getr S hB (tT hB) rfl (T := TX4) (N := 38) (C := RX4) rfl in_X4 4 (by decide) (by decide) q1396 (fun _ h9 => h9) (fun _ => rfl) (tA hB 3 rfl).1 dX4_readLaw_46 ?_
    refine lv_iconst (v := (nI 5)) hx hb dX4_readLaw_49 rfl ?_
    refine lv_iload_n hx hb dX4_readLaw_50 rfl (lv_at hl 2 rfl) ?_
    refine lv_iadd hx hb dX4_readLaw_51 ?_
    refine lv_iconst (v := (nI 1)) hx hb dX4_readLaw_52 rfl ?_
    obtain ⟨hi, hp⟩ := hp
    obtain ⟨μ3, eμ3, hp⟩ := zpI_e hp
    refine g_iast S hB (tA hB 3 rfl).2 hi dX4_readLaw_53 (fun H locs hB => ?_)
    rw [← eμ3] at hB
    refine lv_aload_n hx hb dX4_readLaw_54 rfl (lv_at hl 1 rfl) ?_
    refine g_getr S hB (tT hB) rfl (T := TX4) (N := 38) (C := RX4) rfl in_X4 4 (by decide) (by decide) q1396 (fun _ h9 => h9) (fun _ => rfl) (tA hB 3 rfl).1 dX4_readLaw_55 ?_
    refine lv_bipush (v := (nI 8)) hx hb dX4_readLaw_58 rfl ?_
    refine lv_iload_n hx hb dX4_readLaw_60 rfl (lv_at hl 2 rfl) ?_
    refine lv_iadd hx hb dX4_readLaw_61 ?_
    refine lv_iload_n hx hb dX4_readLaw_62 rfl (lv_at hl 0 rfl) ?_
    obtain ⟨hi, hp⟩ := hp
    obtain ⟨μ4, eμ4, hp⟩ := zpI_e hp
    refine g_iast S hB (tA hB 3 rfl).2 hi dX4_readLaw_63 (fun H locs hB => ?_)
    rw [← eμ4] at hB
    refine lv_aload_n hx hb dX4_readLaw_64 rfl (lv_at hl 1 rfl) ?_
    refine g_getr S hB (tT hB) rfl (T := TX4) (N := 38) (C := RX4) rfl in_X4 4 (by decide) (by decide) q1396 (fun _ h9 => h9) (fun _ => rfl) (tA hB 3 rfl).1 dX4_readLaw_65 ?_
    refine lv_bipush (v := (nI 11)) hx hb dX4_readLaw_68 rfl ?_
    refine lv_iload_n hx hb dX4_readLaw_70 rfl (lv_at hl 2 rfl) ?_
    refine lv_iadd hx hb dX4_readLaw_71 ?_
    refine lv_aload_n hx hb dX4_readLaw_72 rfl (lv_at hl 1 rfl) ?_
    refine g_getr S hB (tT hB) rfl (T := TX4) (N := 38) (C := RX4) rfl in_X4 4 (by decide) (by decide) q1396 (fun _ h9 => h9) (fun _ => rfl) (tA hB 3 rfl).1 dX4_readLaw_73 ?_
    refine lv_sipush (v := (nI 297)) hx hb dX4_readLaw_76 rfl ?_
    obtain ⟨hi, hp⟩ := hp
    refine g_iald S hB (tA hB 3 rfl).2 hi dX4_readLaw_79 ?_
    refine lv_iload_n hx hb dX4_readLaw_80 rfl (lv_at hl 0 rfl) ?_
    refine lv_isub hx hb dX4_readLaw_81 ?_
    obtain ⟨hi, hp⟩ := hp
    obtain ⟨μ5, eμ5, hp⟩ := zpI_e hp
    refine g_iast S hB (tA hB 3 rfl).2 hi dX4_readLaw_82 (fun H locs hB => ?_)
    rw [← eμ5] at hB
    exact zret_v X hB hp dX4_readLaw_83
  · have hp := zif hp c0
    exact zret_v X hB hp dX4_readLaw_44
def pX4_readLaw (th : Nat) (x1 : Int32) (μ : zM) (Q : zM → Prop) : Prop := (pX4_next th μ fun μ1 => (pX4_eats th (nI 31) μ1 fun r3 μ2 => (if r3 = 0 then (pX4_fails th (nI 2) μ2 fun μ4 => pX4_readLaw_18 th x1 Q μ4) else pX4_readLaw_18 th x1 Q μ2)))
theorem hX4_readLaw : yX4_readLaw.cls = "SunkTowerModel" ∧ yX4_readLaw.cls ≠ "java/lang/invoke/MethodHandle" ∧ yX4_readLaw.cls ≠ "java/lang/invoke/VarHandle" ∧ (parseMethodDescriptor yX4_readLaw.desc).map (fun d => d.parameters.length) = some 1 := by decide +kernel
set_option maxHeartbeats 4000000 in
set_option maxRecDepth 100000 in
theorem mX4_readLaw (l : Launch) (Γ : zG) (th : Nat) (x1 : Int32) (μ : zM) (Q : zM → Prop) (hp : pX4_readLaw th x1 μ Q) : Met l yX4_readLaw (ws_ yX4_readLaw cX4_readLaw 3 none) ({ frames := 81, cells := 0, slots := 0, locals := 1737 } : Room) (va_Pc [.ref th, .int x1] (zPre Γ (tSh th) μ)) (va_Qv Q (zPost Γ (tSh th) μ) (zA μ)) 0 0 (zA μ) := by
  refine zstart (by decide) (Nat.le_of_ble_eq_true rfl) ?_
  intro p e s m below meth c ls X hnm hB hl
  have X : zCx p m c cX4_readLaw 3 s [.ref th, .int x1].toArray RX4 meth none := X
  have S := X.1
  obtain ⟨hx, hb, hml, hown, hts⟩ := X.1
  have hl : lv_has ls 3 [(0, .ref th), (1, .int x1)] := hl
  unfold pX4_readLaw at hp
  refine lv_aload_n hx hb dX4_readLaw_0 rfl (lv_at hl 0 rfl) ?_
  refine z_callv (va_runV (As := []) (rest := []) S (mX4_next l Γ th μ _ hp) (cwV 0 hts (lw_V q1519 q1521 qs59 q132 q1522) rfl rfl rfl hX4_next ⟨Nat.le_of_ble_eq_true rfl, Nat.le_of_ble_eq_true rfl⟩) (hB.preV (tT hB) rfl rfl) rfl rfl hl.1 rfl (lv_room (Nat.le_of_ble_eq_true rfl)) dX4_readLaw_1 ⟨Nat.le_refl _, Nat.le_refl _⟩) hB (fun μ1 H locs hp hB => ?_)
  refine lv_aload_n hx hb dX4_readLaw_4 rfl (lv_at hl 0 rfl) ?_
  refine lv_bipush (v := (nI 31)) hx hb dX4_readLaw_5 rfl ?_
  refine z_calli (va_runV (As := [.int (nI 31)]) (rest := []) S (mX4_eats l Γ th (nI 31) μ1 _ hp) (cwV 1 hts (lw_V q1565 q1567 qs68 q132 q1568) rfl rfl rfl hX4_eats ⟨Nat.le_of_ble_eq_true rfl, Nat.le_of_ble_eq_true rfl⟩) (hB.preV (tT hB) rfl rfl) rfl rfl hl.1 rfl (lv_room (Nat.le_of_ble_eq_true rfl)) dX4_readLaw_7 ⟨Nat.le_refl _, Nat.le_refl _⟩) hB (fun r3 μ2 H locs hp hB => ?_)
  refine lv_if_ne (tgt := 18) hx hb dX4_readLaw_10 rfl (fun c0 => ?_) (fun c0 => ?_)
  · have hp := zif hp c0
    exact wX4_readLaw_18 X th x1 μ2 _ _ _ hp hB (lv_sub hl [0, 1] rfl)
  · have hp := zit hp c0
    refine lv_aload_n hx hb dX4_readLaw_13 rfl (lv_at hl 0 rfl) ?_
    refine lv_iconst (v := (nI 2)) hx hb dX4_readLaw_14 rfl ?_
    refine z_callv (va_runV (As := [.int (nI 2)]) (rest := []) S (mX4_fails l Γ th (nI 2) μ2 _ hp) (cwV 1 hts (lw_V q1549 q1551 qs64 q132 q1552) rfl rfl rfl hX4_fails ⟨Nat.le_of_ble_eq_true rfl, Nat.le_of_ble_eq_true rfl⟩) (hB.preV (tT hB) rfl rfl) rfl rfl hl.1 rfl (lv_room (Nat.le_of_ble_eq_true rfl)) dX4_readLaw_15 ⟨Nat.le_refl _, Nat.le_refl _⟩) hB (fun μ4 H locs hp hB => ?_)
    exact wX4_readLaw_18 X th x1 μ4 _ _ _ hp hB (lv_sub hl [0, 1] rfl)
def pX4_sinks (th : Nat) (μ : zM) (Q : Int32 → zM → Prop) : Prop := (zpI μ th 0 (nI 0) fun μ1 => (pX4_weightOf th (-1 : Int32) μ1 fun r3 μ2 => (vp_in (nI 20) 3594 ∧ (vp_in (nI 41) 3594 ∧ (vp_in (nI 42) 3594 ∧ (pX4_sinksBy th r3 (zI μ2 (th + 1) (nI 20).toNatClampNeg) (zI μ2 (th + 1) (nI 41).toNatClampNeg) (zI μ2 (th + 1) (nI 42).toNatClampNeg) μ2 fun r5 μ4 => Q r5 μ4))))))
theorem hX4_sinks : yX4_sinks.cls = "SunkTowerModel" ∧ yX4_sinks.cls ≠ "java/lang/invoke/MethodHandle" ∧ yX4_sinks.cls ≠ "java/lang/invoke/VarHandle" ∧ (parseMethodDescriptor yX4_sinks.desc).map (fun d => d.parameters.length) = some 0 := by decide +kernel
set_option maxHeartbeats 4000000 in
set_option maxRecDepth 100000 in
theorem mX4_sinks (l : Launch) (Γ : zG) (th : Nat) (μ : zM) (Q : Int32 → zM → Prop) (hp : pX4_sinks th μ Q) : Met l yX4_sinks (ws_ yX4_sinks cX4_sinks 1 (some .int)) ({ frames := 3, cells := 0, slots := 0, locals := 74 } : Room) (va_Pc [.ref th] (zPre Γ (tSh th) μ)) (va_Qi Q (zPost Γ (tSh th) μ) (zA μ)) 0 0 (zA μ) := by
  refine zstart (by decide) (Nat.le_of_ble_eq_true rfl) ?_
  intro p e s m below meth c ls X hnm hB hl
  have X : zCx p m c cX4_sinks 1 s [.ref th].toArray RX4 meth (some .int) := X
  have S := X.1
  obtain ⟨hx, hb, hml, hown, hts⟩ := X.1
  have hl : lv_has ls 1 [(0, .ref th)] := hl
  unfold pX4_sinks at hp
  refine lv_aload_n hx hb dX4_sinks_0 rfl (lv_at hl 0 rfl) ?_
  refine lv_iconst (v := (nI 0)) hx hb dX4_sinks_1 rfl ?_
  obtain ⟨μ1, eμ1, hp⟩ := zpI_e hp
  refine g_putI S hB (tT hB) rfl (T := TX4) (N := 38) (C := RX4) rfl in_X4 0 (by decide) (by decide) (x := (nI 0)) tyX4 tyX4_ok nmX4 q1392 (fun _ h9 => h9) rfl (ty := .int) (by decide +kernel) rfl rfl (fun _ _ => rfl) dX4_sinks_2 (fun H locs hB => ?_)
  rw [← eμ1] at hB
  refine lv_aload_n hx hb dX4_sinks_5 rfl (lv_at hl 0 rfl) ?_
  refine lv_aload_n hx hb dX4_sinks_6 rfl (lv_at hl 0 rfl) ?_
  refine lv_iconst (v := (-1 : Int32)) hx hb dX4_sinks_7 rfl ?_
  refine z_calli (va_runV (As := [.int (-1 : Int32)]) (rest := [.ref th]) S (mX4_weightOf l Γ th (-1 : Int32) μ1 _ hp) (cwV 1 hts (lw_V q1641 q1643 qs82 q132 q1644) rfl rfl rfl hX4_weightOf ⟨Nat.le_of_ble_eq_true rfl, Nat.le_of_ble_eq_true rfl⟩) (hB.preV (tT hB) rfl rfl) rfl rfl hl.1 rfl (lv_room (Nat.le_of_ble_eq_true rfl)) dX4_sinks_8 ⟨Nat.le_refl _, Nat.le_refl _⟩) hB (fun r3 μ2 H locs hp hB => ?_)
  refine lv_aload_n hx hb dX4_sinks_11 rfl (lv_at hl 0 rfl) ?_
  refine g_getr S hB (tT hB) rfl (T := TX4) (N := 38) (C := RX4) rfl in_X4 1 (by decide) (by decide) q1393 (fun _ h9 => h9) (fun _ => rfl) (tA hB 0 rfl).1 dX4_sinks_12 ?_
  refine lv_bipush (v := (nI 20)) hx hb dX4_sinks_15 rfl ?_
  obtain ⟨hi, hp⟩ := hp
  refine g_iald S hB (tA hB 0 rfl).2 hi dX4_sinks_17 ?_
  refine lv_aload_n hx hb dX4_sinks_18 rfl (lv_at hl 0 rfl) ?_
  refine g_getr S hB (tT hB) rfl (T := TX4) (N := 38) (C := RX4) rfl in_X4 1 (by decide) (by decide) q1393 (fun _ h9 => h9) (fun _ => rfl) (tA hB 0 rfl).1 dX4_sinks_19 ?_
  refine lv_bipush (v := (nI 41)) hx hb dX4_sinks_22 rfl ?_
  obtain ⟨hi, hp⟩ := hp
  refine g_iald S hB (tA hB 0 rfl).2 hi dX4_sinks_24 ?_
  refine lv_aload_n hx hb dX4_sinks_25 rfl (lv_at hl 0 rfl) ?_
  refine g_getr S hB (tT hB) rfl (T := TX4) (N := 38) (C := RX4) rfl in_X4 1 (by decide) (by decide) q1393 (fun _ h9 => h9) (fun _ => rfl) (tA hB 0 rfl).1 dX4_sinks_26 ?_
  refine lv_bipush (v := (nI 42)) hx hb dX4_sinks_29 rfl ?_
  obtain ⟨hi, hp⟩ := hp
  refine g_iald S hB (tA hB 0 rfl).2 hi dX4_sinks_31 ?_
  refine z_calli (va_runV (As := [.int r3, .int (zI μ2 (th + 1) (nI 20).toNatClampNeg), .int (zI μ2 (th + 1) (nI 41).toNatClampNeg), .int (zI μ2 (th + 1) (nI 42).toNatClampNeg)]) (rest := []) S (mX4_sinksBy l Γ th r3 (zI μ2 (th + 1) (nI 20).toNatClampNeg) (zI μ2 (th + 1) (nI 41).toNatClampNeg) (zI μ2 (th + 1) (nI 42).toNatClampNeg) μ2 _ hp) (cwV 4 hts (lw_V q1649 q1651 qs83 q132 q1652) rfl rfl rfl hX4_sinksBy ⟨Nat.le_of_ble_eq_true rfl, Nat.le_of_ble_eq_true rfl⟩) (hB.preV (tT hB) rfl rfl) rfl rfl hl.1 rfl (lv_room (Nat.le_of_ble_eq_true rfl)) dX4_sinks_32 ⟨Nat.le_refl _, Nat.le_refl _⟩) hB (fun r5 μ4 H locs hp hB => ?_)
  exact zret_i X hB hp dX4_sinks_35
def pX4_worth (th : Nat) (x1 : Int32) (x2 : Int32) (μ : zM) (Q : Int32 → zM → Prop) : Prop := (zpI μ th 0 (nI 0) fun μ1 => (pX4_isTenant th (x1.toInt64) μ1 fun r3 μ2 => (if r3 = 0 then Q (-90000002 : Int32) μ2 else (pX4_isStorey th (x2.toInt64) μ2 fun r5 μ4 => (if r5 = 0 then Q (-90000002 : Int32) μ4 else (pX4_worthNow th x1 x2 μ4 fun r7 μ6 => Q r7 μ6))))))
theorem hX4_worth : yX4_worth.cls = "SunkTowerModel" ∧ yX4_worth.cls ≠ "java/lang/invoke/MethodHandle" ∧ yX4_worth.cls ≠ "java/lang/invoke/VarHandle" ∧ (parseMethodDescriptor yX4_worth.desc).map (fun d => d.parameters.length) = some 2 := by decide +kernel
set_option maxHeartbeats 4000000 in
set_option maxRecDepth 100000 in
theorem mX4_worth (l : Launch) (Γ : zG) (th : Nat) (x1 : Int32) (x2 : Int32) (μ : zM) (Q : Int32 → zM → Prop) (hp : pX4_worth th x1 x2 μ Q) : Met l yX4_worth (ws_ yX4_worth cX4_worth 3 (some .int)) ({ frames := 4, cells := 0, slots := 0, locals := 94 } : Room) (va_Pc [.ref th, .int x1, .int x2] (zPre Γ (tSh th) μ)) (va_Qi Q (zPost Γ (tSh th) μ) (zA μ)) 0 0 (zA μ) := by
  refine zstart (by decide) (Nat.le_of_ble_eq_true rfl) ?_
  intro p e s m below meth c ls X hnm hB hl
  have X : zCx p m c cX4_worth 3 s [.ref th, .int x1, .int x2].toArray RX4 meth (some .int) := X
  have S := X.1
  obtain ⟨hx, hb, hml, hown, hts⟩ := X.1
  have hl : lv_has ls 3 [(0, .ref th), (1, .int x1), (2, .int x2)] := hl
  unfold pX4_worth at hp
  refine lv_aload_n hx hb dX4_worth_0 rfl (lv_at hl 0 rfl) ?_
  refine lv_iconst (v := (nI 0)) hx hb dX4_worth_1 rfl ?_
  obtain ⟨μ1, eμ1, hp⟩ := zpI_e hp
  refine g_putI S hB (tT hB) rfl (T := TX4) (N := 38) (C := RX4) rfl in_X4 0 (by decide) (by decide) (x := (nI 0)) tyX4 tyX4_ok nmX4 q1392 (fun _ h9 => h9) rfl (ty := .int) (by decide +kernel) rfl rfl (fun _ _ => rfl) dX4_worth_2 (fun H locs hB => ?_)
  rw [← eμ1] at hB
  refine lv_aload_n hx hb dX4_worth_5 rfl (lv_at hl 0 rfl) ?_
  refine lv_iload_n hx hb dX4_worth_6 rfl (lv_at hl 1 rfl) ?_
  refine lv_i2l hx hb dX4_worth_7 rfl ?_
  refine z_calli (va_runV (As := [.long (x1.toInt64)]) (rest := []) S (mX4_isTenant l Γ th (x1.toInt64) μ1 _ hp) (cwV 1 hts (lw_V q1633 q1635 qs81 q132 q1636) rfl rfl rfl hX4_isTenant ⟨Nat.le_of_ble_eq_true rfl, Nat.le_of_ble_eq_true rfl⟩) (hB.preV (tT hB) rfl rfl) rfl rfl hl.1 rfl (lv_room (Nat.le_of_ble_eq_true rfl)) dX4_worth_8 ⟨Nat.le_refl _, Nat.le_refl _⟩) hB (fun r3 μ2 H locs hp hB => ?_)
  refine lv_if_eq (tgt := 32) hx hb dX4_worth_11 rfl (fun c0 => ?_) (fun c0 => ?_)
  · have hp := zit hp c0
    refine lv_ldc (v := (-90000002 : Int32)) hx hb hown (hts _ q1673) dX4_worth_32 ?_
    exact zret_i X hB hp dX4_worth_34
  · have hp := zif hp c0
    refine lv_aload_n hx hb dX4_worth_14 rfl (lv_at hl 0 rfl) ?_
    refine lv_iload_n hx hb dX4_worth_15 rfl (lv_at hl 2 rfl) ?_
    refine lv_i2l hx hb dX4_worth_16 rfl ?_
    refine z_calli (va_runV (As := [.long (x2.toInt64)]) (rest := []) S (mX4_isStorey l Γ th (x2.toInt64) μ2 _ hp) (cwV 1 hts (lw_V q1617 q1619 qs79 q132 q1620) rfl rfl rfl hX4_isStorey ⟨Nat.le_of_ble_eq_true rfl, Nat.le_of_ble_eq_true rfl⟩) (hB.preV (tT hB) rfl rfl) rfl rfl hl.1 rfl (lv_room (Nat.le_of_ble_eq_true rfl)) dX4_worth_17 ⟨Nat.le_refl _, Nat.le_refl _⟩) hB (fun r5 μ4 H locs hp hB => ?_)
    refine lv_if_eq (tgt := 32) hx hb dX4_worth_20 rfl (fun c0 => ?_) (fun c0 => ?_)
    · have hp := zit hp c0
      refine lv_ldc (v := (-90000002 : Int32)) hx hb hown (hts _ q1673) dX4_worth_32 ?_
      exact zret_i X hB hp dX4_worth_34
    · have hp := zif hp c0
      refine lv_aload_n hx hb dX4_worth_23 rfl (lv_at hl 0 rfl) ?_
      refine lv_iload_n hx hb dX4_worth_24 rfl (lv_at hl 1 rfl) ?_
      refine lv_iload_n hx hb dX4_worth_25 rfl (lv_at hl 2 rfl) ?_
      refine z_calli (va_runV (As := [.int x1, .int x2]) (rest := []) S (mX4_worthNow l Γ th x1 x2 μ4 _ hp) (cwV 2 hts (lw_V q1678 q1680 qs86 q132 q1681) rfl rfl rfl hX4_worthNow ⟨Nat.le_of_ble_eq_true rfl, Nat.le_of_ble_eq_true rfl⟩) (hB.preV (tT hB) rfl rfl) rfl rfl hl.1 rfl (lv_room (Nat.le_of_ble_eq_true rfl)) dX4_worth_26 ⟨Nat.le_refl _, Nat.le_refl _⟩) hB (fun r7 μ6 H locs hp hB => ?_)
      refine lv_goto (tgt := 34) hx hb dX4_worth_29 rfl ?_
      exact zret_i X hB hp dX4_worth_34
def pX4_months_26 (th : Nat) (x1 : Int32) (Q : Int32 → zM → Prop) : Nat → Int32 → zM → Prop
  | 0, _, _ => False
  | n + 1, x2, μ => (if x1 ≤ x2 then (pX4_notes th μ fun μ1 => (vp_in (nI 41) 3594 ∧ (vp_in (nI 21) 23 ∧ Q ((zI μ1 (th + 1) (nI 41).toNatClampNeg) - (zI μ1 (th + 7) (nI 21).toNatClampNeg)) μ1))) else (pX4_goesMonth th μ fun μ2 => pX4_months_26 th x1 Q n (x2 + (nI 1)) μ2))
set_option maxHeartbeats 4000000 in
set_option maxRecDepth 100000 in
theorem wX4_months_26 {p : Program} {l : Launch} {e : Env} {s : State} {m : MethodId} {args : Array Value} {below : List Frame} {meth : Method} {c : Code} {Γ : zG} {μ0 : zM} {Q : Int32 → zM → Prop} (X : zCx p m c cX4_months 3 s args RX4 meth (some .int)) (th : Nat) (x1 : Int32) : ∀ (n : Nat) (x2 : Int32) (μ : zM) (H : Heap) (locs : List Loc) (ls : Array Slot), pX4_months_26 th x1 Q n x2 μ → zB Γ (tSh th) (zA μ0) μ0 s μ H locs → lv_has ls 3 [(0, .ref th), (1, .int x1), (2, .int x2)] → W p l e ({ frames := 4, cells := 0, slots := 0, locals := 94 } : Room) s m args below meth c H locs 0 0 (MQ below (va_Qi Q (zPost Γ (tSh th) μ0) (zA μ0)) args s 0 0 (zA μ0)) (F0 m 26 ls []) := by
  have S := X.1
  obtain ⟨hx, hb, hml, hown, hts⟩ := X.1
  intro n
  induction n with
  | zero =>
    intro x2 μ H locs ls hp
    exact hp.elim
  | succ n ih =>
    intro x2 μ H locs ls hp hB hl
    unfold pX4_months_26 at hp
    refine lv_iload_n hx hb dX4_months_26 rfl (lv_at hl 2 rfl) ?_
    refine lv_iload_n hx hb dX4_months_27 rfl (lv_at hl 1 rfl) ?_
    refine lv_icmp_ge (tgt := 41) hx hb dX4_months_28 rfl (fun c0 => ?_) (fun c0 => ?_)
    · have hp := zit hp c0
      refine lv_aload_n hx hb dX4_months_41 rfl (lv_at hl 0 rfl) ?_
      refine z_callv (va_runV (As := []) (rest := []) S (mX4_notes l Γ th μ _ hp) (cwV 0 hts (lw_V q1703 q1705 qs90 q132 q1706) rfl rfl rfl hX4_notes ⟨Nat.le_of_ble_eq_true rfl, Nat.le_of_ble_eq_true rfl⟩) (hB.preV (tT hB) rfl rfl) rfl rfl hl.1 rfl (lv_room (Nat.le_of_ble_eq_true rfl)) dX4_months_42 ⟨Nat.le_refl _, Nat.le_refl _⟩) hB (fun μ1 H locs hp hB => ?_)
      refine lv_aload_n hx hb dX4_months_45 rfl (lv_at hl 0 rfl) ?_
      refine g_getr S hB (tT hB) rfl (T := TX4) (N := 38) (C := RX4) rfl in_X4 1 (by decide) (by decide) q1393 (fun _ h9 => h9) (fun _ => rfl) (tA hB 0 rfl).1 dX4_months_46 ?_
      refine lv_bipush (v := (nI 41)) hx hb dX4_months_49 rfl ?_
      obtain ⟨hi, hp⟩ := hp
      refine g_iald S hB (tA hB 0 rfl).2 hi dX4_months_51 ?_
      refine lv_aload_n hx hb dX4_months_52 rfl (lv_at hl 0 rfl) ?_
      refine g_getr S hB (tT hB) rfl (T := TX4) (N := 38) (C := RX4) rfl in_X4 18 (by decide) (by decide) q1410 (fun _ h9 => h9) (fun _ => rfl) (tA hB 6 rfl).1 dX4_months_53 ?_
      refine lv_bipush (v := (nI 21)) hx hb dX4_months_56 rfl ?_
      obtain ⟨hi, hp⟩ := hp
      refine g_iald S hB (tA hB 6 rfl).2 hi dX4_months_58 ?_
      refine lv_isub hx hb dX4_months_59 ?_
      exact zret_i X hB hp dX4_months_60
    · have hp := zif hp c0
      refine lv_aload_n hx hb dX4_months_31 rfl (lv_at hl 0 rfl) ?_
      refine z_callv (va_runV (As := []) (rest := []) S (mX4_goesMonth l Γ th μ _ hp) (cwV 0 hts (lw_V q1695 q1697 qs89 q132 q1698) rfl rfl rfl hX4_goesMonth ⟨Nat.le_of_ble_eq_true rfl, Nat.le_of_ble_eq_true rfl⟩) (hB.preV (tT hB) rfl rfl) rfl rfl hl.1 rfl (lv_room (Nat.le_of_ble_eq_true rfl)) dX4_months_32 ⟨Nat.le_refl _, Nat.le_refl _⟩) hB (fun μ2 H locs hp hB => ?_)
      refine lv_iinc (v := (x2 + (nI 1))) (lv' := [(2, .int (x2 + (nI 1))), (0, .ref th), (1, .int x1)]) hx hb dX4_months_35 hl (k := 2) rfl rfl (by decide) rfl (fun ls hl => ?_)
      refine lv_goto (tgt := 26) hx hb dX4_months_38 rfl ?_
      exact ih (x2 + (nI 1)) μ2 _ _ _ hp hB (lv_sub hl [1, 2, 0] rfl)
def pX4_months (th : Nat) (x1 : Int32) (μ : zM) (Q : Int32 → zM → Prop) : Prop := (zpI μ th 0 (nI 0) fun μ1 => (pX4_within th (x1.toInt64) (1 : Int64) (99 : Int64) μ1 fun r3 μ2 => (if r3 = 0 then Q (-3 : Int32) μ2 else (pX4_keeps th μ2 fun μ4 => ∃ k1, pX4_months_26 th x1 Q k1 (nI 0) μ4))))
theorem hX4_months : yX4_months.cls = "SunkTowerModel" ∧ yX4_months.cls ≠ "java/lang/invoke/MethodHandle" ∧ yX4_months.cls ≠ "java/lang/invoke/VarHandle" ∧ (parseMethodDescriptor yX4_months.desc).map (fun d => d.parameters.length) = some 1 := by decide +kernel
set_option maxHeartbeats 4000000 in
set_option maxRecDepth 100000 in
theorem mX4_months (l : Launch) (Γ : zG) (th : Nat) (x1 : Int32) (μ : zM) (Q : Int32 → zM → Prop) (hp : pX4_months th x1 μ Q) : Met l yX4_months (ws_ yX4_months cX4_months 3 (some .int)) ({ frames := 4, cells := 0, slots := 0, locals := 94 } : Room) (va_Pc [.ref th, .int x1] (zPre Γ (tSh th) μ)) (va_Qi Q (zPost Γ (tSh th) μ) (zA μ)) 0 0 (zA μ) := by
  refine zstart (by decide) (Nat.le_of_ble_eq_true rfl) ?_
  intro p e s m below meth c ls X hnm hB hl
  have X : zCx p m c cX4_months 3 s [.ref th, .int x1].toArray RX4 meth (some .int) := X
  have S := X.1
  obtain ⟨hx, hb, hml, hown, hts⟩ := X.1
  have hl : lv_has ls 3 [(0, .ref th), (1, .int x1)] := hl
  unfold pX4_months at hp
  refine lv_aload_n hx hb dX4_months_0 rfl (lv_at hl 0 rfl) ?_
  refine lv_iconst (v := (nI 0)) hx hb dX4_months_1 rfl ?_
  obtain ⟨μ1, eμ1, hp⟩ := zpI_e hp
  refine g_putI S hB (tT hB) rfl (T := TX4) (N := 38) (C := RX4) rfl in_X4 0 (by decide) (by decide) (x := (nI 0)) tyX4 tyX4_ok nmX4 q1392 (fun _ h9 => h9) rfl (ty := .int) (by decide +kernel) rfl rfl (fun _ _ => rfl) dX4_months_2 (fun H locs hB => ?_)
  rw [← eμ1] at hB
  refine lv_iload_n hx hb dX4_months_5 rfl (lv_at hl 1 rfl) ?_
  refine lv_i2l hx hb dX4_months_6 rfl ?_
  refine lv_lconst (v := (1 : Int64)) hx hb dX4_months_7 rfl ?_
  refine lv_ldc2 (v := (99 : Int64)) hx hb hown (hts _ q1690) dX4_months_8 ?_
  refine z_calli (va_runS (As := [.long (x1.toInt64), .long (1 : Int64), .long (99 : Int64)]) (rest := []) S (mX4_within l Γ th (x1.toInt64) (1 : Int64) (99 : Int64) μ1 _ hp) (va_cwS 3 hts (lw_S q1516 q1517 q132 q1518) rfl rfl rfl hX4_within ⟨Nat.le_of_ble_eq_true rfl, Nat.le_of_ble_eq_true rfl⟩) hB.preS rfl rfl hl.1 rfl (lv_room (Nat.le_of_ble_eq_true rfl)) dX4_months_11 ⟨Nat.le_refl _, Nat.le_refl _⟩) hB (fun r3 μ2 H locs hp hB => ?_)
  refine lv_if_ne (tgt := 20) hx hb dX4_months_14 rfl (fun c0 => ?_) (fun c0 => ?_)
  · have hp := zif hp c0
    refine lv_aload_n hx hb dX4_months_20 rfl (lv_at hl 0 rfl) ?_
    refine z_callv (va_runV (As := []) (rest := []) S (mX4_keeps l Γ th μ2 _ hp) (cwV 0 hts (lw_V q1691 q1693 qs88 q132 q1694) rfl rfl rfl hX4_keeps ⟨Nat.le_of_ble_eq_true rfl, Nat.le_of_ble_eq_true rfl⟩) (hB.preV (tT hB) rfl rfl) rfl rfl hl.1 rfl (lv_room (Nat.le_of_ble_eq_true rfl)) dX4_months_21 ⟨Nat.le_refl _, Nat.le_refl _⟩) hB (fun μ4 H locs hp hB => ?_)
    refine lv_iconst (v := (nI 0)) hx hb dX4_months_24 rfl ?_
    refine lv_istore_n (lv' := [(2, .int (nI 0)), (0, .ref th), (1, .int x1)]) hx hb dX4_months_25 rfl hl (by decide) rfl (fun ls hl => ?_)
    obtain ⟨n1, hp⟩ := hp
    exact wX4_months_26 X th x1 n1 (nI 0) μ4 _ _ _ hp hB (lv_sub hl [1, 2, 0] rfl)
  · have hp := zit hp c0
    refine lv_bipush (v := (-3 : Int32)) hx hb dX4_months_17 rfl ?_
    exact zret_i X hB hp dX4_months_19
def pX4_laysRings_169 (th : Nat) (K63 : Int32 → zM → Prop) (Q : zM → Prop) (x1 : Int32) (x3 : Int32) (y3 : Int32) (y2 : Int32) (μ : zM) : Prop := (zpI μ th 20 (y2 + y3) fun μ1 => K63 (x1 &&& (x3 ^^^ (-1 : Int32))) μ1)
set_option maxHeartbeats 4000000 in
set_option maxRecDepth 100000 in
theorem wX4_laysRings_169 {p : Program} {l : Launch} {e : Env} {s : State} {m : MethodId} {args : Array Value} {below : List Frame} {meth : Method} {c : Code} {Γ : zG} {μ0 : zM} {Q : zM → Prop} {K63 : Int32 → zM → Prop} (X : zCx p m c cX4_laysRings 5 s args RX4 meth none) (th : Nat) (hK63 : ∀ (x1 : Int32) (μ : zM) (H : Heap) (locs : List Loc) (ls : Array Slot), K63 x1 μ → zB Γ (tSh th) (zA μ0) μ0 s μ H locs → lv_has ls 5 [(0, .ref th), (1, .int x1)] → W p l e ({ frames := 5, cells := 0, slots := 0, locals := 119 } : Room) s m args below meth c H locs 0 0 (MQ below (va_Qv Q (zPost Γ (tSh th) μ0) (zA μ0)) args s 0 0 (zA μ0)) (F0 m 63 ls [])) : ∀ (x1 : Int32) (x3 : Int32) (y3 : Int32) (y2 : Int32) (μ : zM) (H : Heap) (locs : List Loc) (ls : Array Slot), pX4_laysRings_169 th K63 Q x1 x3 y3 y2 μ → zB Γ (tSh th) (zA μ0) μ0 s μ H locs → lv_has ls 5 [(0, .ref th), (1, .int x1), (3, .int x3)] → W p l e ({ frames := 5, cells := 0, slots := 0, locals := 119 } : Room) s m args below meth c H locs 0 0 (MQ below (va_Qv Q (zPost Γ (tSh th) μ0) (zA μ0)) args s 0 0 (zA μ0)) (F0 m 169 ls [.int y3, .int y2, .ref th]) := by
  have S := X.1
  obtain ⟨hx, hb, hml, hown, hts⟩ := X.1
  intro x1 x3 y3 y2 μ H locs ls hp hB hl
  unfold pX4_laysRings_169 at hp
  refine lv_iadd hx hb dX4_laysRings_169 ?_
  obtain ⟨μ1, eμ1, hp⟩ := zpI_e hp
  refine g_putI S hB (tT hB) rfl (T := TX4) (N := 38) (C := RX4) rfl in_X4 20 (by decide) (by decide) (x := (y2 + y3)) tyX4 tyX4_ok nmX4 q1412 (fun _ h9 => h9) rfl (ty := .int) (by decide +kernel) rfl rfl (fun _ _ => rfl) dX4_laysRings_170 (fun H locs hB => ?_)
  rw [← eμ1] at hB
  refine lv_iload_n hx hb dX4_laysRings_173 rfl (lv_at hl 1 rfl) ?_
  refine lv_iload_n hx hb dX4_laysRings_174 rfl (lv_at hl 2 rfl) ?_
  refine lv_iconst (v := (-1 : Int32)) hx hb dX4_laysRings_175 rfl ?_
  refine lv_ixor hx hb dX4_laysRings_176 ?_
  refine lv_iand hx hb dX4_laysRings_177 ?_
  refine lv_istore_n (lv' := [(1, .int (x1 &&& (x3 ^^^ (-1 : Int32)))), (0, .ref th), (3, .int x3)]) hx hb dX4_laysRings_178 rfl hl (by decide) rfl (fun ls hl => ?_)
  refine lv_goto (tgt := 63) hx hb dX4_laysRings_179 rfl ?_
  exact hK63 (x1 &&& (x3 ^^^ (-1 : Int32))) μ1 _ _ _ hp hB (lv_sub hl [1, 0] rfl)
def pX4_laysRings_107 (th : Nat) (K63 : Int32 → zM → Prop) (Q : zM → Prop) : Nat → Int32 → Int32 → Int32 → zM → Prop
  | 0, _, _, _, _ => False
  | n + 1, x1, x2, x3, μ => (pX4_isIn th (x3.toInt64) x2 μ fun r2 μ1 => (if r2 = 0 then (pX4_pointsAt th x2 x1 μ1 fun r4 μ3 => (vp_in ((nI 35) + r4) 3594 ∧ (vp_in x2 6 ∧ zpI μ3 (th + 8) x2.toNatClampNeg (zI μ3 (th + 1) ((nI 35) + r4).toNatClampNeg) fun μ5 => pX4_laysRings_107 th K63 Q n x1 r4 (x3 ||| ((nI 1) <<< (x2 &&& 31))) μ5))) else (if x3 = ((nI 1) <<< (x2 &&& 31)) then pX4_laysRings_169 th K63 Q x1 x3 (nI 0) (zI μ1 th 20) μ1 else pX4_laysRings_169 th K63 Q x1 x3 (nI 1) (zI μ1 th 20) μ1)))
set_option maxHeartbeats 4000000 in
set_option maxRecDepth 100000 in
theorem wX4_laysRings_107 {p : Program} {l : Launch} {e : Env} {s : State} {m : MethodId} {args : Array Value} {below : List Frame} {meth : Method} {c : Code} {Γ : zG} {μ0 : zM} {Q : zM → Prop} {K63 : Int32 → zM → Prop} (X : zCx p m c cX4_laysRings 5 s args RX4 meth none) (th : Nat) (hK63 : ∀ (x1 : Int32) (μ : zM) (H : Heap) (locs : List Loc) (ls : Array Slot), K63 x1 μ → zB Γ (tSh th) (zA μ0) μ0 s μ H locs → lv_has ls 5 [(0, .ref th), (1, .int x1)] → W p l e ({ frames := 5, cells := 0, slots := 0, locals := 119 } : Room) s m args below meth c H locs 0 0 (MQ below (va_Qv Q (zPost Γ (tSh th) μ0) (zA μ0)) args s 0 0 (zA μ0)) (F0 m 63 ls [])) : ∀ (n : Nat) (x1 : Int32) (x2 : Int32) (x3 : Int32) (μ : zM) (H : Heap) (locs : List Loc) (ls : Array Slot), pX4_laysRings_107 th K63 Q n x1 x2 x3 μ → zB Γ (tSh th) (zA μ0) μ0 s μ H locs → lv_has ls 5 [(0, .ref th), (1, .int x1), (2, .int x2), (3, .int x3)] → W p l e ({ frames := 5, cells := 0, slots := 0, locals := 119 } : Room) s m args below meth c H locs 0 0 (MQ below (va_Qv Q (zPost Γ (tSh th) μ0) (zA μ0)) args s 0 0 (zA μ0)) (F0 m 107 ls []) := by
  have S := X.1
  obtain ⟨hx, hb, hml, hown, hts⟩ := X.1
  intro n
  induction n with
  | zero =>
    intro x1 x2 x3 μ H locs ls hp
    exact hp.elim
  | succ n ih =>
    intro x1 x2 x3 μ H locs ls hp hB hl
    unfold pX4_laysRings_107 at hp
    refine lv_iload_n hx hb dX4_laysRings_107 rfl (lv_at hl 3 rfl) ?_
    refine lv_i2l hx hb dX4_laysRings_108 rfl ?_
    refine lv_iload_n hx hb dX4_laysRings_109 rfl (lv_at hl 2 rfl) ?_
    refine z_calli (va_runS (As := [.long (x3.toInt64), .int x2]) (rest := []) S (mX4_isIn l Γ th (x3.toInt64) x2 μ _ hp) (va_cwS 2 hts (lw_S q1748 q1749 q132 q1750) rfl rfl rfl hX4_isIn ⟨Nat.le_of_ble_eq_true rfl, Nat.le_of_ble_eq_true rfl⟩) hB.preS rfl rfl hl.1 rfl (lv_room (Nat.le_of_ble_eq_true rfl)) dX4_laysRings_110 ⟨Nat.le_refl _, Nat.le_refl _⟩) hB (fun r2 μ1 H locs hp hB => ?_)
    refine lv_if_ne (tgt := 152) hx hb dX4_laysRings_113 rfl (fun c0 => ?_) (fun c0 => ?_)
    · have hp := zif hp c0
      refine lv_aload_n hx hb dX4_laysRings_152 rfl (lv_at hl 0 rfl) ?_
      refine lv_dup hx hb dX4_laysRings_153 rfl ?_
      refine g_get S hB (tT hB) rfl (T := TX4) (N := 38) (C := RX4) rfl in_X4 20 (by decide) (by decide) q1412 (fun _ h9 => h9) (v := .int (zI μ1 th 20)) rfl dX4_laysRings_154 ?_
      refine lv_iload_n hx hb dX4_laysRings_157 rfl (lv_at hl 3 rfl) ?_
      refine lv_iconst (v := (nI 1)) hx hb dX4_laysRings_158 rfl ?_
      refine lv_iload_n hx hb dX4_laysRings_159 rfl (lv_at hl 2 rfl) ?_
      refine lv_ishl hx hb dX4_laysRings_160 ?_
      refine lv_icmp_ne (tgt := 168) hx hb dX4_laysRings_161 rfl (fun c0 => ?_) (fun c0 => ?_)
      · have hp := zif hp c0
        refine lv_iconst (v := (nI 1)) hx hb dX4_laysRings_168 rfl ?_
        exact wX4_laysRings_169 X th hK63 x1 x3 (nI 1) (zI μ1 th 20) μ1 _ _ _ hp hB (lv_sub hl [0, 1, 3] rfl)
      · have hp := zit hp c0
        refine lv_iconst (v := (nI 0)) hx hb dX4_laysRings_164 rfl ?_
        refine lv_goto (tgt := 169) hx hb dX4_laysRings_165 rfl ?_
        exact wX4_laysRings_169 X th hK63 x1 x3 (nI 0) (zI μ1 th 20) μ1 _ _ _ hp hB (lv_sub hl [0, 1, 3] rfl)
    · have hp := zit hp c0
      refine lv_iload_n hx hb dX4_laysRings_116 rfl (lv_at hl 3 rfl) ?_
      refine lv_iconst (v := (nI 1)) hx hb dX4_laysRings_117 rfl ?_
      refine lv_iload_n hx hb dX4_laysRings_118 rfl (lv_at hl 2 rfl) ?_
      refine lv_ishl hx hb dX4_laysRings_119 ?_
      refine lv_ior hx hb dX4_laysRings_120 ?_
      refine lv_istore_n (lv' := [(3, .int (x3 ||| ((nI 1) <<< (x2 &&& 31)))), (0, .ref th), (1, .int x1), (2, .int x2)]) hx hb dX4_laysRings_121 rfl hl (by decide) rfl (fun ls hl => ?_)
      refine lv_aload_n hx hb dX4_laysRings_122 rfl (lv_at hl 1 rfl) ?_
      refine lv_iload_n hx hb dX4_laysRings_123 rfl (lv_at hl 3 rfl) ?_
      refine lv_iload_n hx hb dX4_laysRings_124 rfl (lv_at hl 2 rfl) ?_
      refine z_calli (va_runV (As := [.int x2, .int x1]) (rest := []) S (mX4_pointsAt l Γ th x2 x1 μ1 _ hp) (cwV 2 hts (lw_V q1751 q1753 qs96 q132 q1754) rfl rfl rfl hX4_pointsAt ⟨Nat.le_of_ble_eq_true rfl, Nat.le_of_ble_eq_true rfl⟩) (hB.preV (tT hB) rfl rfl) rfl rfl hl.1 rfl (lv_room (Nat.le_of_ble_eq_true rfl)) dX4_laysRings_125 ⟨Nat.le_refl _, Nat.le_refl _⟩) hB (fun r4 μ3 H locs hp hB => ?_)
      refine lv_istore (lv' := [(4, .int r4), (3, .int (x3 ||| ((nI 1) <<< (x2 &&& 31)))), (0, .ref th), (1, .int x1), (2, .int x2)]) hx hb dX4_laysRings_128 hl (by decide) rfl (fun ls hl => ?_)
      refine lv_aload_n hx hb dX4_laysRings_130 rfl (lv_at hl 2 rfl) ?_
      refine g_getr S hB (tT hB) rfl (T := TX4) (N := 38) (C := RX4) rfl in_X4 19 (by decide) (by decide) q1411 (fun _ h9 => h9) (fun _ => rfl) (tA hB 7 rfl).1 dX4_laysRings_131 ?_
      refine lv_iload_n hx hb dX4_laysRings_134 rfl (lv_at hl 4 rfl) ?_
      refine lv_aload_n hx hb dX4_laysRings_135 rfl (lv_at hl 2 rfl) ?_
      refine g_getr S hB (tT hB) rfl (T := TX4) (N := 38) (C := RX4) rfl in_X4 1 (by decide) (by decide) q1393 (fun _ h9 => h9) (fun _ => rfl) (tA hB 0 rfl).1 dX4_laysRings_136 ?_
      refine lv_bipush (v := (nI 35)) hx hb dX4_laysRings_139 rfl ?_
      refine lv_iload hx hb dX4_laysRings_141 (lv_at hl 0 rfl) ?_
      refine lv_iadd hx hb dX4_laysRings_143 ?_
      obtain ⟨hi, hp⟩ := hp
      refine g_iald S hB (tA hB 0 rfl).2 hi dX4_laysRings_144 ?_
      obtain ⟨hi, hp⟩ := hp
      obtain ⟨μ5, eμ5, hp⟩ := zpI_e hp
      refine g_iast S hB (tA hB 7 rfl).2 hi dX4_laysRings_145 (fun H locs hB => ?_)
      rw [← eμ5] at hB
      refine lv_iload hx hb dX4_laysRings_146 (lv_at hl 0 rfl) ?_
      refine lv_istore_n (lv' := [(2, .int r4), (4, .int r4), (3, .int (x3 ||| ((nI 1) <<< (x2 &&& 31)))), (0, .ref th), (1, .int x1)]) hx hb dX4_laysRings_148 rfl hl (by decide) rfl (fun ls hl => ?_)
      refine lv_goto (tgt := 107) hx hb dX4_laysRings_149 rfl ?_
      exact ih x1 r4 (x3 ||| ((nI 1) <<< (x2 &&& 31))) μ5 _ _ _ hp hB (lv_sub hl [3, 4, 0, 2] rfl)
def pX4_laysRings_86 (th : Nat) (K63 : Int32 → zM → Prop) (Q : zM → Prop) : Nat → Int32 → Int32 → Int32 → zM → Prop
  | 0, _, _, _, _ => False
  | n + 1, x1, x2, x3, μ => (if (nI 6) ≤ x3 then ∃ k1, pX4_laysRings_107 th K63 Q k1 x1 x2 (nI 0) μ else (pX4_pointsAt th x2 x1 μ fun r2 μ1 => pX4_laysRings_86 th K63 Q n x1 r2 (x3 + (nI 1)) μ1))
set_option maxHeartbeats 4000000 in
set_option maxRecDepth 100000 in
theorem wX4_laysRings_86 {p : Program} {l : Launch} {e : Env} {s : State} {m : MethodId} {args : Array Value} {below : List Frame} {meth : Method} {c : Code} {Γ : zG} {μ0 : zM} {Q : zM → Prop} {K63 : Int32 → zM → Prop} (X : zCx p m c cX4_laysRings 5 s args RX4 meth none) (th : Nat) (hK63 : ∀ (x1 : Int32) (μ : zM) (H : Heap) (locs : List Loc) (ls : Array Slot), K63 x1 μ → zB Γ (tSh th) (zA μ0) μ0 s μ H locs → lv_has ls 5 [(0, .ref th), (1, .int x1)] → W p l e ({ frames := 5, cells := 0, slots := 0, locals := 119 } : Room) s m args below meth c H locs 0 0 (MQ below (va_Qv Q (zPost Γ (tSh th) μ0) (zA μ0)) args s 0 0 (zA μ0)) (F0 m 63 ls [])) : ∀ (n : Nat) (x1 : Int32) (x2 : Int32) (x3 : Int32) (μ : zM) (H : Heap) (locs : List Loc) (ls : Array Slot), pX4_laysRings_86 th K63 Q n x1 x2 x3 μ → zB Γ (tSh th) (zA μ0) μ0 s μ H locs → lv_has ls 5 [(0, .ref th), (1, .int x1), (2, .int x2), (3, .int x3)] → W p l e ({ frames := 5, cells := 0, slots := 0, locals := 119 } : Room) s m args below meth c H locs 0 0 (MQ below (va_Qv Q (zPost Γ (tSh th) μ0) (zA μ0)) args s 0 0 (zA μ0)) (F0 m 86 ls []) := by
  have S := X.1
  obtain ⟨hx, hb, hml, hown, hts⟩ := X.1
  intro n
  induction n with
  | zero =>
    intro x1 x2 x3 μ H locs ls hp
    exact hp.elim
  | succ n ih =>
    intro x1 x2 x3 μ H locs ls hp hB hl
    unfold pX4_laysRings_86 at hp
    refine lv_iload_n hx hb dX4_laysRings_86 rfl (lv_at hl 3 rfl) ?_
    refine lv_bipush (v := (nI 6)) hx hb dX4_laysRings_87 rfl ?_
    refine lv_icmp_ge (tgt := 105) hx hb dX4_laysRings_89 rfl (fun c0 => ?_) (fun c0 => ?_)
    · have hp := zit hp c0
      refine lv_iconst (v := (nI 0)) hx hb dX4_laysRings_105 rfl ?_
      refine lv_istore_n (lv' := [(3, .int (nI 0)), (0, .ref th), (1, .int x1), (2, .int x2)]) hx hb dX4_laysRings_106 rfl hl (by decide) rfl (fun ls hl => ?_)
      obtain ⟨n1, hp⟩ := hp
      exact wX4_laysRings_107 X th hK63 n1 x1 x2 (nI 0) μ _ _ _ hp hB (lv_sub hl [1, 2, 3, 0] rfl)
    · have hp := zif hp c0
      refine lv_aload_n hx hb dX4_laysRings_92 rfl (lv_at hl 0 rfl) ?_
      refine lv_iload_n hx hb dX4_laysRings_93 rfl (lv_at hl 2 rfl) ?_
      refine lv_iload_n hx hb dX4_laysRings_94 rfl (lv_at hl 1 rfl) ?_
      refine z_calli (va_runV (As := [.int x2, .int x1]) (rest := []) S (mX4_pointsAt l Γ th x2 x1 μ _ hp) (cwV 2 hts (lw_V q1751 q1753 qs96 q132 q1754) rfl rfl rfl hX4_pointsAt ⟨Nat.le_of_ble_eq_true rfl, Nat.le_of_ble_eq_true rfl⟩) (hB.preV (tT hB) rfl rfl) rfl rfl hl.1 rfl (lv_room (Nat.le_of_ble_eq_true rfl)) dX4_laysRings_95 ⟨Nat.le_refl _, Nat.le_refl _⟩) hB (fun r2 μ1 H locs hp hB => ?_)
      refine lv_istore_n (lv' := [(2, .int r2), (0, .ref th), (1, .int x1), (3, .int x3)]) hx hb dX4_laysRings_98 rfl hl (by decide) rfl (fun ls hl => ?_)
      refine lv_iinc (v := (x3 + (nI 1))) (lv' := [(3, .int (x3 + (nI 1))), (2, .int r2), (0, .ref th), (1, .int x1)]) hx hb dX4_laysRings_99 hl (k := 3) rfl rfl (by decide) rfl (fun ls hl => ?_)
      refine lv_goto (tgt := 86) hx hb dX4_laysRings_102 rfl ?_
      exact ih x1 r2 (x3 + (nI 1)) μ1 _ _ _ hp hB (lv_sub hl [2, 3, 1, 0] rfl)
def pX4_laysRings_69 (th : Nat) (K63 : Int32 → zM → Prop) (Q : zM → Prop) : Nat → Int32 → Int32 → zM → Prop
  | 0, _, _, _ => False
  | n + 1, x1, x2, μ => (pX4_isIn th (x1.toInt64) x2 μ fun r2 μ1 => (if r2 = 0 then pX4_laysRings_69 th K63 Q n x1 (x2 + (nI 1)) μ1 else ∃ k1, pX4_laysRings_86 th K63 Q k1 x1 x2 (nI 0) μ1))
set_option maxHeartbeats 4000000 in
set_option maxRecDepth 100000 in
theorem wX4_laysRings_69 {p : Program} {l : Launch} {e : Env} {s : State} {m : MethodId} {args : Array Value} {below : List Frame} {meth : Method} {c : Code} {Γ : zG} {μ0 : zM} {Q : zM → Prop} {K63 : Int32 → zM → Prop} (X : zCx p m c cX4_laysRings 5 s args RX4 meth none) (th : Nat) (hK63 : ∀ (x1 : Int32) (μ : zM) (H : Heap) (locs : List Loc) (ls : Array Slot), K63 x1 μ → zB Γ (tSh th) (zA μ0) μ0 s μ H locs → lv_has ls 5 [(0, .ref th), (1, .int x1)] → W p l e ({ frames := 5, cells := 0, slots := 0, locals := 119 } : Room) s m args below meth c H locs 0 0 (MQ below (va_Qv Q (zPost Γ (tSh th) μ0) (zA μ0)) args s 0 0 (zA μ0)) (F0 m 63 ls [])) : ∀ (n : Nat) (x1 : Int32) (x2 : Int32) (μ : zM) (H : Heap) (locs : List Loc) (ls : Array Slot), pX4_laysRings_69 th K63 Q n x1 x2 μ → zB Γ (tSh th) (zA μ0) μ0 s μ H locs → lv_has ls 5 [(0, .ref th), (1, .int x1), (2, .int x2)] → W p l e ({ frames := 5, cells := 0, slots := 0, locals := 119 } : Room) s m args below meth c H locs 0 0 (MQ below (va_Qv Q (zPost Γ (tSh th) μ0) (zA μ0)) args s 0 0 (zA μ0)) (F0 m 69 ls []) := by
  have S := X.1
  obtain ⟨hx, hb, hml, hown, hts⟩ := X.1
  intro n
  induction n with
  | zero =>
    intro x1 x2 μ H locs ls hp
    exact hp.elim
  | succ n ih =>
    intro x1 x2 μ H locs ls hp hB hl
    unfold pX4_laysRings_69 at hp
    refine lv_iload_n hx hb dX4_laysRings_69 rfl (lv_at hl 1 rfl) ?_
    refine lv_i2l hx hb dX4_laysRings_70 rfl ?_
    refine lv_iload_n hx hb dX4_laysRings_71 rfl (lv_at hl 2 rfl) ?_
    refine z_calli (va_runS (As := [.long (x1.toInt64), .int x2]) (rest := []) S (mX4_isIn l Γ th (x1.toInt64) x2 μ _ hp) (va_cwS 2 hts (lw_S q1748 q1749 q132 q1750) rfl rfl rfl hX4_isIn ⟨Nat.le_of_ble_eq_true rfl, Nat.le_of_ble_eq_true rfl⟩) hB.preS rfl rfl hl.1 rfl (lv_room (Nat.le_of_ble_eq_true rfl)) dX4_laysRings_72 ⟨Nat.le_refl _, Nat.le_refl _⟩) hB (fun r2 μ1 H locs hp hB => ?_)
    refine lv_if_ne (tgt := 84) hx hb dX4_laysRings_75 rfl (fun c0 => ?_) (fun c0 => ?_)
    · have hp := zif hp c0
      refine lv_iconst (v := (nI 0)) hx hb dX4_laysRings_84 rfl ?_
      refine lv_istore_n (lv' := [(3, .int (nI 0)), (0, .ref th), (1, .int x1), (2, .int x2)]) hx hb dX4_laysRings_85 rfl hl (by decide) rfl (fun ls hl => ?_)
      obtain ⟨n1, hp⟩ := hp
      exact wX4_laysRings_86 X th hK63 n1 x1 x2 (nI 0) μ1 _ _ _ hp hB (lv_sub hl [1, 2, 3, 0] rfl)
    · have hp := zit hp c0
      refine lv_iinc (v := (x2 + (nI 1))) (lv' := [(2, .int (x2 + (nI 1))), (0, .ref th), (1, .int x1)]) hx hb dX4_laysRings_78 hl (k := 2) rfl rfl (by decide) rfl (fun ls hl => ?_)
      refine lv_goto (tgt := 69) hx hb dX4_laysRings_81 rfl ?_
      exact ih x1 (x2 + (nI 1)) μ1 _ _ _ hp hB (lv_sub hl [1, 2, 0] rfl)
def pX4_laysRings_63 (th : Nat) (Q : zM → Prop) : Nat → Int32 → zM → Prop
  | 0, _, _ => False
  | n + 1, x1, μ => (if x1 = 0 then Q μ else ∃ k1, pX4_laysRings_69 th (fun v0 ν => pX4_laysRings_63 th Q n v0 ν) Q k1 x1 (nI 0) μ)
set_option maxHeartbeats 4000000 in
set_option maxRecDepth 100000 in
theorem wX4_laysRings_63 {p : Program} {l : Launch} {e : Env} {s : State} {m : MethodId} {args : Array Value} {below : List Frame} {meth : Method} {c : Code} {Γ : zG} {μ0 : zM} {Q : zM → Prop} (X : zCx p m c cX4_laysRings 5 s args RX4 meth none) (th : Nat) : ∀ (n : Nat) (x1 : Int32) (μ : zM) (H : Heap) (locs : List Loc) (ls : Array Slot), pX4_laysRings_63 th Q n x1 μ → zB Γ (tSh th) (zA μ0) μ0 s μ H locs → lv_has ls 5 [(0, .ref th), (1, .int x1)] → W p l e ({ frames := 5, cells := 0, slots := 0, locals := 119 } : Room) s m args below meth c H locs 0 0 (MQ below (va_Qv Q (zPost Γ (tSh th) μ0) (zA μ0)) args s 0 0 (zA μ0)) (F0 m 63 ls []) := by
  have S := X.1
  obtain ⟨hx, hb, hml, hown, hts⟩ := X.1
  intro n
  induction n with
  | zero =>
    intro x1 μ H locs ls hp
    exact hp.elim
  | succ n ih =>
    intro x1 μ H locs ls hp hB hl
    unfold pX4_laysRings_63 at hp
    refine lv_iload_n hx hb dX4_laysRings_63 rfl (lv_at hl 1 rfl) ?_
    refine lv_if_eq (tgt := 182) hx hb dX4_laysRings_64 rfl (fun c0 => ?_) (fun c0 => ?_)
    · have hp := zit hp c0
      exact zret_v X hB hp dX4_laysRings_182
    · have hp := zif hp c0
      refine lv_iconst (v := (nI 0)) hx hb dX4_laysRings_67 rfl ?_
      refine lv_istore_n (lv' := [(2, .int (nI 0)), (0, .ref th), (1, .int x1)]) hx hb dX4_laysRings_68 rfl hl (by decide) rfl (fun ls hl => ?_)
      obtain ⟨n1, hp⟩ := hp
      exact wX4_laysRings_69 X th (fun v0 ν H2 L2 ls2 h2 b2 l2 => ih v0 ν H2 L2 ls2 h2 b2 l2) n1 x1 (nI 0) μ _ _ _ hp hB (lv_sub hl [1, 2, 0] rfl)
def pX4_laysRings_9 (th : Nat) (Q : zM → Prop) : Nat → Int32 → Int32 → zM → Prop
  | 0, _, _, _ => False
  | n + 1, x1, x2, μ => (vp_in (nI 1) 3594 ∧ (if (zI μ (th + 1) (nI 1).toNatClampNeg) ≤ x2 then ∃ k1, pX4_laysRings_63 th Q k1 x1 μ else (vp_in ((nI 35) + x2) 3594 ∧ (vp_in x2 6 ∧ zpI μ (th + 8) x2.toNatClampNeg (zI μ (th + 1) ((nI 35) + x2).toNatClampNeg) fun μ1 => (vp_in ((nI 35) + x2) 3594 ∧ (if (zI μ1 (th + 1) ((nI 35) + x2).toNatClampNeg) = (-1 : Int32) then pX4_laysRings_9 th Q n (x1 ||| (nI 0)) (x2 + (nI 1)) μ1 else pX4_laysRings_9 th Q n (x1 ||| ((nI 1) <<< (x2 &&& 31))) (x2 + (nI 1)) μ1))))))
set_option maxHeartbeats 4000000 in
set_option maxRecDepth 100000 in
theorem wX4_laysRings_9 {p : Program} {l : Launch} {e : Env} {s : State} {m : MethodId} {args : Array Value} {below : List Frame} {meth : Method} {c : Code} {Γ : zG} {μ0 : zM} {Q : zM → Prop} (X : zCx p m c cX4_laysRings 5 s args RX4 meth none) (th : Nat) : ∀ (n : Nat) (x1 : Int32) (x2 : Int32) (μ : zM) (H : Heap) (locs : List Loc) (ls : Array Slot), pX4_laysRings_9 th Q n x1 x2 μ → zB Γ (tSh th) (zA μ0) μ0 s μ H locs → lv_has ls 5 [(0, .ref th), (1, .int x1), (2, .int x2)] → W p l e ({ frames := 5, cells := 0, slots := 0, locals := 119 } : Room) s m args below meth c H locs 0 0 (MQ below (va_Qv Q (zPost Γ (tSh th) μ0) (zA μ0)) args s 0 0 (zA μ0)) (F0 m 9 ls []) := by
  have S := X.1
  obtain ⟨hx, hb, hml, hown, hts⟩ := X.1
  intro n
  induction n with
  | zero =>
    intro x1 x2 μ H locs ls hp
    exact hp.elim
  | succ n ih =>
    intro x1 x2 μ H locs ls hp hB hl
    unfold pX4_laysRings_9 at hp
    refine lv_iload_n hx hb dX4_laysRings_9 rfl (lv_at hl 2 rfl) ?_
    refine lv_aload_n hx hb dX4_laysRings_10 rfl (lv_at hl 0 rfl) ?_
    refine g_getr S hB (tT hB) rfl (T := TX4) (N := 38) (C := RX4) rfl in_X4 1 (by decide) (by decide) q1393 (fun _ h9 => h9) (fun _ => rfl) (tA hB 0 rfl).1 dX4_laysRings_11 ?_
    refine lv_iconst (v := (nI 1)) hx hb dX4_laysRings_14 rfl ?_
    obtain ⟨hi, hp⟩ := hp
    refine g_iald S hB (tA hB 0 rfl).2 hi dX4_laysRings_15 ?_
    refine lv_icmp_ge (tgt := 63) hx hb dX4_laysRings_16 rfl (fun c0 => ?_) (fun c0 => ?_)
    · have hp := zit hp c0
      obtain ⟨n1, hp⟩ := hp
      exact wX4_laysRings_63 X th n1 x1 μ _ _ _ hp hB (lv_sub hl [0, 1] rfl)
    · have hp := zif hp c0
      refine lv_aload_n hx hb dX4_laysRings_19 rfl (lv_at hl 0 rfl) ?_
      refine g_getr S hB (tT hB) rfl (T := TX4) (N := 38) (C := RX4) rfl in_X4 19 (by decide) (by decide) q1411 (fun _ h9 => h9) (fun _ => rfl) (tA hB 7 rfl).1 dX4_laysRings_20 ?_
      refine lv_iload_n hx hb dX4_laysRings_23 rfl (lv_at hl 2 rfl) ?_
      refine lv_aload_n hx hb dX4_laysRings_24 rfl (lv_at hl 0 rfl) ?_
      refine g_getr S hB (tT hB) rfl (T := TX4) (N := 38) (C := RX4) rfl in_X4 1 (by decide) (by decide) q1393 (fun _ h9 => h9) (fun _ => rfl) (tA hB 0 rfl).1 dX4_laysRings_25 ?_
      refine lv_bipush (v := (nI 35)) hx hb dX4_laysRings_28 rfl ?_
      refine lv_iload_n hx hb dX4_laysRings_30 rfl (lv_at hl 2 rfl) ?_
      refine lv_iadd hx hb dX4_laysRings_31 ?_
      obtain ⟨hi, hp⟩ := hp
      refine g_iald S hB (tA hB 0 rfl).2 hi dX4_laysRings_32 ?_
      obtain ⟨hi, hp⟩ := hp
      obtain ⟨μ1, eμ1, hp⟩ := zpI_e hp
      refine g_iast S hB (tA hB 7 rfl).2 hi dX4_laysRings_33 (fun H locs hB => ?_)
      rw [← eμ1] at hB
      refine lv_iload_n hx hb dX4_laysRings_34 rfl (lv_at hl 1 rfl) ?_
      refine lv_aload_n hx hb dX4_laysRings_35 rfl (lv_at hl 0 rfl) ?_
      refine g_getr S hB (tT hB) rfl (T := TX4) (N := 38) (C := RX4) rfl in_X4 1 (by decide) (by decide) q1393 (fun _ h9 => h9) (fun _ => rfl) (tA hB 0 rfl).1 dX4_laysRings_36 ?_
      refine lv_bipush (v := (nI 35)) hx hb dX4_laysRings_39 rfl ?_
      refine lv_iload_n hx hb dX4_laysRings_41 rfl (lv_at hl 2 rfl) ?_
      refine lv_iadd hx hb dX4_laysRings_42 ?_
      obtain ⟨hi, hp⟩ := hp
      refine g_iald S hB (tA hB 0 rfl).2 hi dX4_laysRings_43 ?_
      refine lv_iconst (v := (-1 : Int32)) hx hb dX4_laysRings_44 rfl ?_
      refine lv_icmp_ne (tgt := 52) hx hb dX4_laysRings_45 rfl (fun c0 => ?_) (fun c0 => ?_)
      · have hp := zif hp c0
        refine lv_iconst (v := (nI 1)) hx hb dX4_laysRings_52 rfl ?_
        refine lv_iload_n hx hb dX4_laysRings_53 rfl (lv_at hl 2 rfl) ?_
        refine lv_ishl hx hb dX4_laysRings_54 ?_
        refine lv_ior hx hb dX4_laysRings_55 ?_
        refine lv_istore_n (lv' := [(1, .int (x1 ||| ((nI 1) <<< (x2 &&& 31)))), (0, .ref th), (2, .int x2)]) hx hb dX4_laysRings_56 rfl hl (by decide) rfl (fun ls hl => ?_)
        refine lv_iinc (v := (x2 + (nI 1))) (lv' := [(2, .int (x2 + (nI 1))), (1, .int (x1 ||| ((nI 1) <<< (x2 &&& 31)))), (0, .ref th)]) hx hb dX4_laysRings_57 hl (k := 2) rfl rfl (by decide) rfl (fun ls hl => ?_)
        refine lv_goto (tgt := 9) hx hb dX4_laysRings_60 rfl ?_
        exact ih (x1 ||| ((nI 1) <<< (x2 &&& 31))) (x2 + (nI 1)) μ1 _ _ _ hp hB (lv_sub hl [2, 1, 0] rfl)
      · have hp := zit hp c0
        refine lv_iconst (v := (nI 0)) hx hb dX4_laysRings_48 rfl ?_
        refine lv_goto (tgt := 55) hx hb dX4_laysRings_49 rfl ?_
        refine lv_ior hx hb dX4_laysRings_55 ?_
        refine lv_istore_n (lv' := [(1, .int (x1 ||| (nI 0))), (0, .ref th), (2, .int x2)]) hx hb dX4_laysRings_56 rfl hl (by decide) rfl (fun ls hl => ?_)
        refine lv_iinc (v := (x2 + (nI 1))) (lv' := [(2, .int (x2 + (nI 1))), (1, .int (x1 ||| (nI 0))), (0, .ref th)]) hx hb dX4_laysRings_57 hl (k := 2) rfl rfl (by decide) rfl (fun ls hl => ?_)
        refine lv_goto (tgt := 9) hx hb dX4_laysRings_60 rfl ?_
        exact ih (x1 ||| (nI 0)) (x2 + (nI 1)) μ1 _ _ _ hp hB (lv_sub hl [2, 1, 0] rfl)
def pX4_laysRings (th : Nat) (μ : zM) (Q : zM → Prop) : Prop := (zpI μ th 20 (nI 0) fun μ1 => ∃ k1, pX4_laysRings_9 th Q k1 (nI 0) (nI 0) μ1)
theorem hX4_laysRings : yX4_laysRings.cls = "SunkTowerModel" ∧ yX4_laysRings.cls ≠ "java/lang/invoke/MethodHandle" ∧ yX4_laysRings.cls ≠ "java/lang/invoke/VarHandle" ∧ (parseMethodDescriptor yX4_laysRings.desc).map (fun d => d.parameters.length) = some 0 := by decide +kernel
set_option maxHeartbeats 4000000 in
set_option maxRecDepth 100000 in
theorem mX4_laysRings (l : Launch) (Γ : zG) (th : Nat) (μ : zM) (Q : zM → Prop) (hp : pX4_laysRings th μ Q) : Met l yX4_laysRings (ws_ yX4_laysRings cX4_laysRings 5 none) ({ frames := 5, cells := 0, slots := 0, locals := 119 } : Room) (va_Pc [.ref th] (zPre Γ (tSh th) μ)) (va_Qv Q (zPost Γ (tSh th) μ) (zA μ)) 0 0 (zA μ) := by
  refine zstart (by decide) (Nat.le_of_ble_eq_true rfl) ?_
  intro p e s m below meth c ls X hnm hB hl
  have X : zCx p m c cX4_laysRings 5 s [.ref th].toArray RX4 meth none := X
  have S := X.1
  obtain ⟨hx, hb, hml, hown, hts⟩ := X.1
  have hl : lv_has ls 5 [(0, .ref th)] := hl
  unfold pX4_laysRings at hp
  refine lv_aload_n hx hb dX4_laysRings_0 rfl (lv_at hl 0 rfl) ?_
  refine lv_iconst (v := (nI 0)) hx hb dX4_laysRings_1 rfl ?_
  obtain ⟨μ1, eμ1, hp⟩ := zpI_e hp
  refine g_putI S hB (tT hB) rfl (T := TX4) (N := 38) (C := RX4) rfl in_X4 20 (by decide) (by decide) (x := (nI 0)) tyX4 tyX4_ok nmX4 q1412 (fun _ h9 => h9) rfl (ty := .int) (by decide +kernel) rfl rfl (fun _ _ => rfl) dX4_laysRings_2 (fun H locs hB => ?_)
  rw [← eμ1] at hB
  refine lv_iconst (v := (nI 0)) hx hb dX4_laysRings_5 rfl ?_
  refine lv_istore_n (lv' := [(1, .int (nI 0)), (0, .ref th)]) hx hb dX4_laysRings_6 rfl hl (by decide) rfl (fun ls hl => ?_)
  refine lv_iconst (v := (nI 0)) hx hb dX4_laysRings_7 rfl ?_
  refine lv_istore_n (lv' := [(2, .int (nI 0)), (1, .int (nI 0)), (0, .ref th)]) hx hb dX4_laysRings_8 rfl hl (by decide) rfl (fun ls hl => ?_)
  obtain ⟨n1, hp⟩ := hp
  exact wX4_laysRings_9 X th n1 (nI 0) (nI 0) μ1 _ _ _ hp hB (lv_sub hl [2, 1, 0] rfl)
def pX4_laysAll (th : Nat) (x1 : Int32) (μ : zM) (Q : zM → Prop) : Prop := (pX4_weightOf th (-1 : Int32) μ fun r2 μ1 => (pX4_laysSunk th x1 r2 μ1 fun μ3 => Q μ3))
theorem hX4_laysAll : yX4_laysAll.cls = "SunkTowerModel" ∧ yX4_laysAll.cls ≠ "java/lang/invoke/MethodHandle" ∧ yX4_laysAll.cls ≠ "java/lang/invoke/VarHandle" ∧ (parseMethodDescriptor yX4_laysAll.desc).map (fun d => d.parameters.length) = some 1 := by decide +kernel
set_option maxHeartbeats 4000000 in
set_option maxRecDepth 100000 in
theorem mX4_laysAll (l : Launch) (Γ : zG) (th : Nat) (x1 : Int32) (μ : zM) (Q : zM → Prop) (hp : pX4_laysAll th x1 μ Q) : Met l yX4_laysAll (ws_ yX4_laysAll cX4_laysAll 2 none) ({ frames := 4, cells := 0, slots := 0, locals := 97 } : Room) (va_Pc [.ref th, .int x1] (zPre Γ (tSh th) μ)) (va_Qv Q (zPost Γ (tSh th) μ) (zA μ)) 0 0 (zA μ) := by
  refine zstart (by decide) (Nat.le_of_ble_eq_true rfl) ?_
  intro p e s m below meth c ls X hnm hB hl
  have X : zCx p m c cX4_laysAll 2 s [.ref th, .int x1].toArray RX4 meth none := X
  have S := X.1
  obtain ⟨hx, hb, hml, hown, hts⟩ := X.1
  have hl : lv_has ls 2 [(0, .ref th), (1, .int x1)] := hl
  unfold pX4_laysAll at hp
  refine lv_aload_n hx hb dX4_laysAll_0 rfl (lv_at hl 0 rfl) ?_
  refine lv_iload_n hx hb dX4_laysAll_1 rfl (lv_at hl 1 rfl) ?_
  refine lv_aload_n hx hb dX4_laysAll_2 rfl (lv_at hl 0 rfl) ?_
  refine lv_iconst (v := (-1 : Int32)) hx hb dX4_laysAll_3 rfl ?_
  refine z_calli (va_runV (As := [.int (-1 : Int32)]) (rest := [.int x1, .ref th]) S (mX4_weightOf l Γ th (-1 : Int32) μ _ hp) (cwV 1 hts (lw_V q1641 q1643 qs82 q132 q1644) rfl rfl rfl hX4_weightOf ⟨Nat.le_of_ble_eq_true rfl, Nat.le_of_ble_eq_true rfl⟩) (hB.preV (tT hB) rfl rfl) rfl rfl hl.1 rfl (lv_room (Nat.le_of_ble_eq_true rfl)) dX4_laysAll_4 ⟨Nat.le_refl _, Nat.le_refl _⟩) hB (fun r2 μ1 H locs hp hB => ?_)
  refine z_callv (va_runV (As := [.int x1, .int r2]) (rest := []) S (mX4_laysSunk l Γ th x1 r2 μ1 _ hp) (cwV 2 hts (lw_V q1821 q1823 qs105 q132 q1824) rfl rfl rfl hX4_laysSunk ⟨Nat.le_of_ble_eq_true rfl, Nat.le_of_ble_eq_true rfl⟩) (hB.preV (tT hB) rfl rfl) rfl rfl hl.1 rfl (lv_room (Nat.le_of_ble_eq_true rfl)) dX4_laysAll_7 ⟨Nat.le_refl _, Nat.le_refl _⟩) hB (fun μ3 H locs hp hB => ?_)
  exact zret_v X hB hp dX4_laysAll_10
def pX4_heightIn (th : Nat) (x1 : Int32) (x2 : Int32) (μ : zM) (Q : Int32 → zM → Prop) : Prop := (zpI μ th 0 (nI 0) fun μ1 => (pX4_isStorey th (x1.toInt64) μ1 fun r3 μ2 => (if r3 = 0 then Q (-90000002 : Int32) μ2 else (pX4_within th (x2.toInt64) (0 : Int64) (600 : Int64) μ2 fun r5 μ4 => (if r5 = 0 then Q (-90000003 : Int32) μ4 else (pX4_laysAll th x2 μ4 fun μ6 => (vp_in x2 602 ∧ (pX4_heightOf th x1 (zI μ6 (th + 9) x2.toNatClampNeg) μ6 fun r8 μ7 => Q r8 μ7))))))))
theorem hX4_heightIn : yX4_heightIn.cls = "SunkTowerModel" ∧ yX4_heightIn.cls ≠ "java/lang/invoke/MethodHandle" ∧ yX4_heightIn.cls ≠ "java/lang/invoke/VarHandle" ∧ (parseMethodDescriptor yX4_heightIn.desc).map (fun d => d.parameters.length) = some 2 := by decide +kernel
set_option maxHeartbeats 4000000 in
set_option maxRecDepth 100000 in
theorem mX4_heightIn (l : Launch) (Γ : zG) (th : Nat) (x1 : Int32) (x2 : Int32) (μ : zM) (Q : Int32 → zM → Prop) (hp : pX4_heightIn th x1 x2 μ Q) : Met l yX4_heightIn (ws_ yX4_heightIn cX4_heightIn 3 (some .int)) ({ frames := 5, cells := 0, slots := 0, locals := 118 } : Room) (va_Pc [.ref th, .int x1, .int x2] (zPre Γ (tSh th) μ)) (va_Qi Q (zPost Γ (tSh th) μ) (zA μ)) 0 0 (zA μ) := by
  refine zstart (by decide) (Nat.le_of_ble_eq_true rfl) ?_
  intro p e s m below meth c ls X hnm hB hl
  have X : zCx p m c cX4_heightIn 3 s [.ref th, .int x1, .int x2].toArray RX4 meth (some .int) := X
  have S := X.1
  obtain ⟨hx, hb, hml, hown, hts⟩ := X.1
  have hl : lv_has ls 3 [(0, .ref th), (1, .int x1), (2, .int x2)] := hl
  unfold pX4_heightIn at hp
  refine lv_aload_n hx hb dX4_heightIn_0 rfl (lv_at hl 0 rfl) ?_
  refine lv_iconst (v := (nI 0)) hx hb dX4_heightIn_1 rfl ?_
  obtain ⟨μ1, eμ1, hp⟩ := zpI_e hp
  refine g_putI S hB (tT hB) rfl (T := TX4) (N := 38) (C := RX4) rfl in_X4 0 (by decide) (by decide) (x := (nI 0)) tyX4 tyX4_ok nmX4 q1392 (fun _ h9 => h9) rfl (ty := .int) (by decide +kernel) rfl rfl (fun _ _ => rfl) dX4_heightIn_2 (fun H locs hB => ?_)
  rw [← eμ1] at hB
  refine lv_aload_n hx hb dX4_heightIn_5 rfl (lv_at hl 0 rfl) ?_
  refine lv_iload_n hx hb dX4_heightIn_6 rfl (lv_at hl 1 rfl) ?_
  refine lv_i2l hx hb dX4_heightIn_7 rfl ?_
  refine z_calli (va_runV (As := [.long (x1.toInt64)]) (rest := []) S (mX4_isStorey l Γ th (x1.toInt64) μ1 _ hp) (cwV 1 hts (lw_V q1617 q1619 qs79 q132 q1620) rfl rfl rfl hX4_isStorey ⟨Nat.le_of_ble_eq_true rfl, Nat.le_of_ble_eq_true rfl⟩) (hB.preV (tT hB) rfl rfl) rfl rfl hl.1 rfl (lv_room (Nat.le_of_ble_eq_true rfl)) dX4_heightIn_8 ⟨Nat.le_refl _, Nat.le_refl _⟩) hB (fun r3 μ2 H locs hp hB => ?_)
  refine lv_if_ne (tgt := 17) hx hb dX4_heightIn_11 rfl (fun c0 => ?_) (fun c0 => ?_)
  · have hp := zif hp c0
    refine lv_iload_n hx hb dX4_heightIn_17 rfl (lv_at hl 2 rfl) ?_
    refine lv_i2l hx hb dX4_heightIn_18 rfl ?_
    refine lv_lconst (v := (0 : Int64)) hx hb dX4_heightIn_19 rfl ?_
    refine lv_ldc2 (v := (600 : Int64)) hx hb hown (hts _ q1816) dX4_heightIn_20 ?_
    refine z_calli (va_runS (As := [.long (x2.toInt64), .long (0 : Int64), .long (600 : Int64)]) (rest := []) S (mX4_within l Γ th (x2.toInt64) (0 : Int64) (600 : Int64) μ2 _ hp) (va_cwS 3 hts (lw_S q1516 q1517 q132 q1518) rfl rfl rfl hX4_within ⟨Nat.le_of_ble_eq_true rfl, Nat.le_of_ble_eq_true rfl⟩) hB.preS rfl rfl hl.1 rfl (lv_room (Nat.le_of_ble_eq_true rfl)) dX4_heightIn_23 ⟨Nat.le_refl _, Nat.le_refl _⟩) hB (fun r5 μ4 H locs hp hB => ?_)
    refine lv_if_ne (tgt := 33) hx hb dX4_heightIn_26 rfl (fun c0 => ?_) (fun c0 => ?_)
    · have hp := zif hp c0
      refine lv_aload_n hx hb dX4_heightIn_33 rfl (lv_at hl 0 rfl) ?_
      refine lv_iload_n hx hb dX4_heightIn_34 rfl (lv_at hl 2 rfl) ?_
      refine z_callv (va_runV (As := [.int x2]) (rest := []) S (mX4_laysAll l Γ th x2 μ4 _ hp) (cwV 1 hts (lw_V q1817 q1819 qs104 q132 q1820) rfl rfl rfl hX4_laysAll ⟨Nat.le_of_ble_eq_true rfl, Nat.le_of_ble_eq_true rfl⟩) (hB.preV (tT hB) rfl rfl) rfl rfl hl.1 rfl (lv_room (Nat.le_of_ble_eq_true rfl)) dX4_heightIn_35 ⟨Nat.le_refl _, Nat.le_refl _⟩) hB (fun μ6 H locs hp hB => ?_)
      refine lv_iload_n hx hb dX4_heightIn_38 rfl (lv_at hl 1 rfl) ?_
      refine lv_aload_n hx hb dX4_heightIn_39 rfl (lv_at hl 0 rfl) ?_
      refine g_getr S hB (tT hB) rfl (T := TX4) (N := 38) (C := RX4) rfl in_X4 23 (by decide) (by decide) q1415 (fun _ h9 => h9) (fun _ => rfl) (tA hB 8 rfl).1 dX4_heightIn_40 ?_
      refine lv_iload_n hx hb dX4_heightIn_43 rfl (lv_at hl 2 rfl) ?_
      obtain ⟨hi, hp⟩ := hp
      refine g_iald S hB (tA hB 8 rfl).2 hi dX4_heightIn_44 ?_
      refine z_calli (va_runS (As := [.int x1, .int (zI μ6 (th + 9) x2.toNatClampNeg)]) (rest := []) S (mX4_heightOf l Γ th x1 (zI μ6 (th + 9) x2.toNatClampNeg) μ6 _ hp) (va_cwS 2 hts (lw_S q1670 q1671 q132 q1672) rfl rfl rfl hX4_heightOf ⟨Nat.le_of_ble_eq_true rfl, Nat.le_of_ble_eq_true rfl⟩) hB.preS rfl rfl hl.1 rfl (lv_room (Nat.le_of_ble_eq_true rfl)) dX4_heightIn_45 ⟨Nat.le_refl _, Nat.le_refl _⟩) hB (fun r8 μ7 H locs hp hB => ?_)
      exact zret_i X hB hp dX4_heightIn_48
    · have hp := zit hp c0
      refine lv_ldcw (v := (-90000003 : Int32)) hx hb hown (hts _ q1829) dX4_heightIn_29 ?_
      exact zret_i X hB hp dX4_heightIn_32
  · have hp := zit hp c0
    refine lv_ldc (v := (-90000002 : Int32)) hx hb hown (hts _ q1673) dX4_heightIn_14 ?_
    exact zret_i X hB hp dX4_heightIn_16
def pX4_doorIn_27 (th : Nat) (x1 : Int32) (Q : Int32 → zM → Prop) : Nat → Int32 → zM → Prop
  | 0, _, _ => False
  | n + 1, x2, μ => (vp_in (nI 20) 3594 ∧ (if (zI μ (th + 1) (nI 20).toNatClampNeg) ≤ x2 then Q (-1 : Int32) μ else (vp_in x1 602 ∧ (pX4_isBuried th x2 (zI μ (th + 9) x1.toNatClampNeg) μ fun r2 μ1 => (if r2 = 0 then Q x2 μ1 else pX4_doorIn_27 th x1 Q n (x2 + (nI 1)) μ1)))))
set_option maxHeartbeats 4000000 in
set_option maxRecDepth 100000 in
theorem wX4_doorIn_27 {p : Program} {l : Launch} {e : Env} {s : State} {m : MethodId} {args : Array Value} {below : List Frame} {meth : Method} {c : Code} {Γ : zG} {μ0 : zM} {Q : Int32 → zM → Prop} (X : zCx p m c cX4_doorIn 3 s args RX4 meth (some .int)) (th : Nat) (x1 : Int32) : ∀ (n : Nat) (x2 : Int32) (μ : zM) (H : Heap) (locs : List Loc) (ls : Array Slot), pX4_doorIn_27 th x1 Q n x2 μ → zB Γ (tSh th) (zA μ0) μ0 s μ H locs → lv_has ls 3 [(0, .ref th), (1, .int x1), (2, .int x2)] → W p l e ({ frames := 5, cells := 0, slots := 0, locals := 118 } : Room) s m args below meth c H locs 0 0 (MQ below (va_Qi Q (zPost Γ (tSh th) μ0) (zA μ0)) args s 0 0 (zA μ0)) (F0 m 27 ls []) := by
  have S := X.1
  obtain ⟨hx, hb, hml, hown, hts⟩ := X.1
  intro n
  induction n with
  | zero =>
    intro x2 μ H locs ls hp
    exact hp.elim
  | succ n ih =>
    intro x2 μ H locs ls hp hB hl
    unfold pX4_doorIn_27 at hp
    refine lv_iload_n hx hb dX4_doorIn_27 rfl (lv_at hl 2 rfl) ?_
    refine lv_aload_n hx hb dX4_doorIn_28 rfl (lv_at hl 0 rfl) ?_
    refine g_getr S hB (tT hB) rfl (T := TX4) (N := 38) (C := RX4) rfl in_X4 1 (by decide) (by decide) q1393 (fun _ h9 => h9) (fun _ => rfl) (tA hB 0 rfl).1 dX4_doorIn_29 ?_
    refine lv_bipush (v := (nI 20)) hx hb dX4_doorIn_32 rfl ?_
    obtain ⟨hi, hp⟩ := hp
    refine g_iald S hB (tA hB 0 rfl).2 hi dX4_doorIn_34 ?_
    refine lv_icmp_ge (tgt := 59) hx hb dX4_doorIn_35 rfl (fun c0 => ?_) (fun c0 => ?_)
    · have hp := zit hp c0
      refine lv_iconst (v := (-1 : Int32)) hx hb dX4_doorIn_59 rfl ?_
      exact zret_i X hB hp dX4_doorIn_60
    · have hp := zif hp c0
      refine lv_iload_n hx hb dX4_doorIn_38 rfl (lv_at hl 2 rfl) ?_
      refine lv_aload_n hx hb dX4_doorIn_39 rfl (lv_at hl 0 rfl) ?_
      refine g_getr S hB (tT hB) rfl (T := TX4) (N := 38) (C := RX4) rfl in_X4 23 (by decide) (by decide) q1415 (fun _ h9 => h9) (fun _ => rfl) (tA hB 8 rfl).1 dX4_doorIn_40 ?_
      refine lv_iload_n hx hb dX4_doorIn_43 rfl (lv_at hl 1 rfl) ?_
      obtain ⟨hi, hp⟩ := hp
      refine g_iald S hB (tA hB 8 rfl).2 hi dX4_doorIn_44 ?_
      refine z_calli (va_runS (As := [.int x2, .int (zI μ (th + 9) x1.toNatClampNeg)]) (rest := []) S (mX4_isBuried l Γ th x2 (zI μ (th + 9) x1.toNatClampNeg) μ _ hp) (va_cwS 2 hts (lw_S q1626 q1627 q132 q1628) rfl rfl rfl hX4_isBuried ⟨Nat.le_of_ble_eq_true rfl, Nat.le_of_ble_eq_true rfl⟩) hB.preS rfl rfl hl.1 rfl (lv_room (Nat.le_of_ble_eq_true rfl)) dX4_doorIn_45 ⟨Nat.le_refl _, Nat.le_refl _⟩) hB (fun r2 μ1 H locs hp hB => ?_)
      refine lv_if_ne (tgt := 53) hx hb dX4_doorIn_48 rfl (fun c0 => ?_) (fun c0 => ?_)
      · have hp := zif hp c0
        refine lv_iinc (v := (x2 + (nI 1))) (lv' := [(2, .int (x2 + (nI 1))), (0, .ref th), (1, .int x1)]) hx hb dX4_doorIn_53 hl (k := 2) rfl rfl (by decide) rfl (fun ls hl => ?_)
        refine lv_goto (tgt := 27) hx hb dX4_doorIn_56 rfl ?_
        exact ih (x2 + (nI 1)) μ1 _ _ _ hp hB (lv_sub hl [1, 2, 0] rfl)
      · have hp := zit hp c0
        refine lv_iload_n hx hb dX4_doorIn_51 rfl (lv_at hl 2 rfl) ?_
        exact zret_i X hB hp dX4_doorIn_52
def pX4_doorIn (th : Nat) (x1 : Int32) (μ : zM) (Q : Int32 → zM → Prop) : Prop := (zpI μ th 0 (nI 0) fun μ1 => (pX4_within th (x1.toInt64) (0 : Int64) (600 : Int64) μ1 fun r3 μ2 => (if r3 = 0 then Q (-3 : Int32) μ2 else (pX4_laysAll th x1 μ2 fun μ4 => ∃ k1, pX4_doorIn_27 th x1 Q k1 (nI 0) μ4))))
theorem hX4_doorIn : yX4_doorIn.cls = "SunkTowerModel" ∧ yX4_doorIn.cls ≠ "java/lang/invoke/MethodHandle" ∧ yX4_doorIn.cls ≠ "java/lang/invoke/VarHandle" ∧ (parseMethodDescriptor yX4_doorIn.desc).map (fun d => d.parameters.length) = some 1 := by decide +kernel
set_option maxHeartbeats 4000000 in
set_option maxRecDepth 100000 in
theorem mX4_doorIn (l : Launch) (Γ : zG) (th : Nat) (x1 : Int32) (μ : zM) (Q : Int32 → zM → Prop) (hp : pX4_doorIn th x1 μ Q) : Met l yX4_doorIn (ws_ yX4_doorIn cX4_doorIn 3 (some .int)) ({ frames := 5, cells := 0, slots := 0, locals := 118 } : Room) (va_Pc [.ref th, .int x1] (zPre Γ (tSh th) μ)) (va_Qi Q (zPost Γ (tSh th) μ) (zA μ)) 0 0 (zA μ) := by
  refine zstart (by decide) (Nat.le_of_ble_eq_true rfl) ?_
  intro p e s m below meth c ls X hnm hB hl
  have X : zCx p m c cX4_doorIn 3 s [.ref th, .int x1].toArray RX4 meth (some .int) := X
  have S := X.1
  obtain ⟨hx, hb, hml, hown, hts⟩ := X.1
  have hl : lv_has ls 3 [(0, .ref th), (1, .int x1)] := hl
  unfold pX4_doorIn at hp
  refine lv_aload_n hx hb dX4_doorIn_0 rfl (lv_at hl 0 rfl) ?_
  refine lv_iconst (v := (nI 0)) hx hb dX4_doorIn_1 rfl ?_
  obtain ⟨μ1, eμ1, hp⟩ := zpI_e hp
  refine g_putI S hB (tT hB) rfl (T := TX4) (N := 38) (C := RX4) rfl in_X4 0 (by decide) (by decide) (x := (nI 0)) tyX4 tyX4_ok nmX4 q1392 (fun _ h9 => h9) rfl (ty := .int) (by decide +kernel) rfl rfl (fun _ _ => rfl) dX4_doorIn_2 (fun H locs hB => ?_)
  rw [← eμ1] at hB
  refine lv_iload_n hx hb dX4_doorIn_5 rfl (lv_at hl 1 rfl) ?_
  refine lv_i2l hx hb dX4_doorIn_6 rfl ?_
  refine lv_lconst (v := (0 : Int64)) hx hb dX4_doorIn_7 rfl ?_
  refine lv_ldc2 (v := (600 : Int64)) hx hb hown (hts _ q1816) dX4_doorIn_8 ?_
  refine z_calli (va_runS (As := [.long (x1.toInt64), .long (0 : Int64), .long (600 : Int64)]) (rest := []) S (mX4_within l Γ th (x1.toInt64) (0 : Int64) (600 : Int64) μ1 _ hp) (va_cwS 3 hts (lw_S q1516 q1517 q132 q1518) rfl rfl rfl hX4_within ⟨Nat.le_of_ble_eq_true rfl, Nat.le_of_ble_eq_true rfl⟩) hB.preS rfl rfl hl.1 rfl (lv_room (Nat.le_of_ble_eq_true rfl)) dX4_doorIn_11 ⟨Nat.le_refl _, Nat.le_refl _⟩) hB (fun r3 μ2 H locs hp hB => ?_)
  refine lv_if_ne (tgt := 20) hx hb dX4_doorIn_14 rfl (fun c0 => ?_) (fun c0 => ?_)
  · have hp := zif hp c0
    refine lv_aload_n hx hb dX4_doorIn_20 rfl (lv_at hl 0 rfl) ?_
    refine lv_iload_n hx hb dX4_doorIn_21 rfl (lv_at hl 1 rfl) ?_
    refine z_callv (va_runV (As := [.int x1]) (rest := []) S (mX4_laysAll l Γ th x1 μ2 _ hp) (cwV 1 hts (lw_V q1817 q1819 qs104 q132 q1820) rfl rfl rfl hX4_laysAll ⟨Nat.le_of_ble_eq_true rfl, Nat.le_of_ble_eq_true rfl⟩) (hB.preV (tT hB) rfl rfl) rfl rfl hl.1 rfl (lv_room (Nat.le_of_ble_eq_true rfl)) dX4_doorIn_22 ⟨Nat.le_refl _, Nat.le_refl _⟩) hB (fun μ4 H locs hp hB => ?_)
    refine lv_iconst (v := (nI 0)) hx hb dX4_doorIn_25 rfl ?_
    refine lv_istore_n (lv' := [(2, .int (nI 0)), (0, .ref th), (1, .int x1)]) hx hb dX4_doorIn_26 rfl hl (by decide) rfl (fun ls hl => ?_)
    obtain ⟨n1, hp⟩ := hp
    exact wX4_doorIn_27 X th x1 n1 (nI 0) μ4 _ _ _ hp hB (lv_sub hl [1, 2, 0] rfl)
  · have hp := zit hp c0
    refine lv_bipush (v := (-3 : Int32)) hx hb dX4_doorIn_17 rfl ?_
    exact zret_i X hB hp dX4_doorIn_19
def pX4_sunkFirst_9 (th : Nat) (x1 : Int32) (Q : Int32 → zM → Prop) : Nat → Int32 → zM → Prop
  | 0, _, _ => False
  | n + 1, x2, μ => (if (nI 600) < x2 then Q (-1 : Int32) μ else (vp_in x2 602 ∧ (if (zI μ (th + 9) x2.toNatClampNeg) < x1 then pX4_sunkFirst_9 th x1 Q n (x2 + (nI 1)) μ else Q x2 μ)))
set_option maxHeartbeats 4000000 in
set_option maxRecDepth 100000 in
theorem wX4_sunkFirst_9 {p : Program} {l : Launch} {e : Env} {s : State} {m : MethodId} {args : Array Value} {below : List Frame} {meth : Method} {c : Code} {Γ : zG} {μ0 : zM} {Q : Int32 → zM → Prop} (X : zCx p m c cX4_sunkFirst 3 s args RX4 meth (some .int)) (th : Nat) (x1 : Int32) : ∀ (n : Nat) (x2 : Int32) (μ : zM) (H : Heap) (locs : List Loc) (ls : Array Slot), pX4_sunkFirst_9 th x1 Q n x2 μ → zB Γ (tSh th) (zA μ0) μ0 s μ H locs → lv_has ls 3 [(0, .ref th), (1, .int x1), (2, .int x2)] → W p l e ({ frames := 5, cells := 0, slots := 0, locals := 118 } : Room) s m args below meth c H locs 0 0 (MQ below (va_Qi Q (zPost Γ (tSh th) μ0) (zA μ0)) args s 0 0 (zA μ0)) (F0 m 9 ls []) := by
  have S := X.1
  obtain ⟨hx, hb, hml, hown, hts⟩ := X.1
  intro n
  induction n with
  | zero =>
    intro x2 μ H locs ls hp
    exact hp.elim
  | succ n ih =>
    intro x2 μ H locs ls hp hB hl
    unfold pX4_sunkFirst_9 at hp
    refine lv_iload_n hx hb dX4_sunkFirst_9 rfl (lv_at hl 2 rfl) ?_
    refine lv_sipush (v := (nI 600)) hx hb dX4_sunkFirst_10 rfl ?_
    refine lv_icmp_gt (tgt := 34) hx hb dX4_sunkFirst_13 rfl (fun c0 => ?_) (fun c0 => ?_)
    · have hp := zit hp c0
      refine lv_iconst (v := (-1 : Int32)) hx hb dX4_sunkFirst_34 rfl ?_
      exact zret_i X hB hp dX4_sunkFirst_35
    · have hp := zif hp c0
      refine lv_aload_n hx hb dX4_sunkFirst_16 rfl (lv_at hl 0 rfl) ?_
      refine g_getr S hB (tT hB) rfl (T := TX4) (N := 38) (C := RX4) rfl in_X4 23 (by decide) (by decide) q1415 (fun _ h9 => h9) (fun _ => rfl) (tA hB 8 rfl).1 dX4_sunkFirst_17 ?_
      refine lv_iload_n hx hb dX4_sunkFirst_20 rfl (lv_at hl 2 rfl) ?_
      obtain ⟨hi, hp⟩ := hp
      refine g_iald S hB (tA hB 8 rfl).2 hi dX4_sunkFirst_21 ?_
      refine lv_iload_n hx hb dX4_sunkFirst_22 rfl (lv_at hl 1 rfl) ?_
      refine lv_icmp_lt (tgt := 28) hx hb dX4_sunkFirst_23 rfl (fun c0 => ?_) (fun c0 => ?_)
      · have hp := zit hp c0
        refine lv_iinc (v := (x2 + (nI 1))) (lv' := [(2, .int (x2 + (nI 1))), (0, .ref th), (1, .int x1)]) hx hb dX4_sunkFirst_28 hl (k := 2) rfl rfl (by decide) rfl (fun ls hl => ?_)
        refine lv_goto (tgt := 9) hx hb dX4_sunkFirst_31 rfl ?_
        exact ih (x2 + (nI 1)) μ _ _ _ hp hB (lv_sub hl [1, 2, 0] rfl)
      · have hp := zif hp c0
        refine lv_iload_n hx hb dX4_sunkFirst_26 rfl (lv_at hl 2 rfl) ?_
        exact zret_i X hB hp dX4_sunkFirst_27
def pX4_sunkFirst (th : Nat) (x1 : Int32) (μ : zM) (Q : Int32 → zM → Prop) : Prop := (pX4_laysAll th (nI 600) μ fun μ1 => ∃ k1, pX4_sunkFirst_9 th x1 Q k1 (nI 0) μ1)
theorem hX4_sunkFirst : yX4_sunkFirst.cls = "SunkTowerModel" ∧ yX4_sunkFirst.cls ≠ "java/lang/invoke/MethodHandle" ∧ yX4_sunkFirst.cls ≠ "java/lang/invoke/VarHandle" ∧ (parseMethodDescriptor yX4_sunkFirst.desc).map (fun d => d.parameters.length) = some 1 := by decide +kernel
set_option maxHeartbeats 4000000 in
set_option maxRecDepth 100000 in
theorem mX4_sunkFirst (l : Launch) (Γ : zG) (th : Nat) (x1 : Int32) (μ : zM) (Q : Int32 → zM → Prop) (hp : pX4_sunkFirst th x1 μ Q) : Met l yX4_sunkFirst (ws_ yX4_sunkFirst cX4_sunkFirst 3 (some .int)) ({ frames := 5, cells := 0, slots := 0, locals := 118 } : Room) (va_Pc [.ref th, .int x1] (zPre Γ (tSh th) μ)) (va_Qi Q (zPost Γ (tSh th) μ) (zA μ)) 0 0 (zA μ) := by
  refine zstart (by decide) (Nat.le_of_ble_eq_true rfl) ?_
  intro p e s m below meth c ls X hnm hB hl
  have X : zCx p m c cX4_sunkFirst 3 s [.ref th, .int x1].toArray RX4 meth (some .int) := X
  have S := X.1
  obtain ⟨hx, hb, hml, hown, hts⟩ := X.1
  have hl : lv_has ls 3 [(0, .ref th), (1, .int x1)] := hl
  unfold pX4_sunkFirst at hp
  refine lv_aload_n hx hb dX4_sunkFirst_0 rfl (lv_at hl 0 rfl) ?_
  refine lv_sipush (v := (nI 600)) hx hb dX4_sunkFirst_1 rfl ?_
  refine z_callv (va_runV (As := [.int (nI 600)]) (rest := []) S (mX4_laysAll l Γ th (nI 600) μ _ hp) (cwV 1 hts (lw_V q1817 q1819 qs104 q132 q1820) rfl rfl rfl hX4_laysAll ⟨Nat.le_of_ble_eq_true rfl, Nat.le_of_ble_eq_true rfl⟩) (hB.preV (tT hB) rfl rfl) rfl rfl hl.1 rfl (lv_room (Nat.le_of_ble_eq_true rfl)) dX4_sunkFirst_4 ⟨Nat.le_refl _, Nat.le_refl _⟩) hB (fun μ1 H locs hp hB => ?_)
  refine lv_iconst (v := (nI 0)) hx hb dX4_sunkFirst_7 rfl ?_
  refine lv_istore_n (lv' := [(2, .int (nI 0)), (0, .ref th), (1, .int x1)]) hx hb dX4_sunkFirst_8 rfl hl (by decide) rfl (fun ls hl => ?_)
  obtain ⟨n1, hp⟩ := hp
  exact wX4_sunkFirst_9 X th x1 n1 (nI 0) μ1 _ _ _ hp hB (lv_sub hl [1, 2, 0] rfl)
def pX4_sunkBy (th : Nat) (x1 : Int32) (μ : zM) (Q : Int32 → zM → Prop) : Prop := (zpI μ th 0 (nI 0) fun μ1 => (if 0 ≤ x1 then (pX4_sunkFirst th x1 μ1 fun r3 μ2 => Q r3 μ2) else Q (-3 : Int32) μ1))
theorem hX4_sunkBy : yX4_sunkBy.cls = "SunkTowerModel" ∧ yX4_sunkBy.cls ≠ "java/lang/invoke/MethodHandle" ∧ yX4_sunkBy.cls ≠ "java/lang/invoke/VarHandle" ∧ (parseMethodDescriptor yX4_sunkBy.desc).map (fun d => d.parameters.length) = some 1 := by decide +kernel
set_option maxHeartbeats 4000000 in
set_option maxRecDepth 100000 in
theorem mX4_sunkBy (l : Launch) (Γ : zG) (th : Nat) (x1 : Int32) (μ : zM) (Q : Int32 → zM → Prop) (hp : pX4_sunkBy th x1 μ Q) : Met l yX4_sunkBy (ws_ yX4_sunkBy cX4_sunkBy 2 (some .int)) ({ frames := 6, cells := 0, slots := 0, locals := 140 } : Room) (va_Pc [.ref th, .int x1] (zPre Γ (tSh th) μ)) (va_Qi Q (zPost Γ (tSh th) μ) (zA μ)) 0 0 (zA μ) := by
  refine zstart (by decide) (Nat.le_of_ble_eq_true rfl) ?_
  intro p e s m below meth c ls X hnm hB hl
  have X : zCx p m c cX4_sunkBy 2 s [.ref th, .int x1].toArray RX4 meth (some .int) := X
  have S := X.1
  obtain ⟨hx, hb, hml, hown, hts⟩ := X.1
  have hl : lv_has ls 2 [(0, .ref th), (1, .int x1)] := hl
  unfold pX4_sunkBy at hp
  refine lv_aload_n hx hb dX4_sunkBy_0 rfl (lv_at hl 0 rfl) ?_
  refine lv_iconst (v := (nI 0)) hx hb dX4_sunkBy_1 rfl ?_
  obtain ⟨μ1, eμ1, hp⟩ := zpI_e hp
  refine g_putI S hB (tT hB) rfl (T := TX4) (N := 38) (C := RX4) rfl in_X4 0 (by decide) (by decide) (x := (nI 0)) tyX4 tyX4_ok nmX4 q1392 (fun _ h9 => h9) rfl (ty := .int) (by decide +kernel) rfl rfl (fun _ _ => rfl) dX4_sunkBy_2 (fun H locs hB => ?_)
  rw [← eμ1] at hB
  refine lv_iload_n hx hb dX4_sunkBy_5 rfl (lv_at hl 1 rfl) ?_
  refine lv_if_ge (tgt := 14) hx hb dX4_sunkBy_6 rfl (fun c0 => ?_) (fun c0 => ?_)
  · have hp := zit hp c0
    refine lv_aload_n hx hb dX4_sunkBy_14 rfl (lv_at hl 0 rfl) ?_
    refine lv_iload_n hx hb dX4_sunkBy_15 rfl (lv_at hl 1 rfl) ?_
    refine z_calli (va_runV (As := [.int x1]) (rest := []) S (mX4_sunkFirst l Γ th x1 μ1 _ hp) (cwV 1 hts (lw_V q1838 q1840 qs106 q132 q1841) rfl rfl rfl hX4_sunkFirst ⟨Nat.le_of_ble_eq_true rfl, Nat.le_of_ble_eq_true rfl⟩) (hB.preV (tT hB) rfl rfl) rfl rfl hl.1 rfl (lv_room (Nat.le_of_ble_eq_true rfl)) dX4_sunkBy_16 ⟨Nat.le_refl _, Nat.le_refl _⟩) hB (fun r3 μ2 H locs hp hB => ?_)
    exact zret_i X hB hp dX4_sunkBy_19
  · have hp := zif hp c0
    refine lv_bipush (v := (-3 : Int32)) hx hb dX4_sunkBy_9 rfl ?_
    refine lv_goto (tgt := 19) hx hb dX4_sunkBy_11 rfl ?_
    exact zret_i X hB hp dX4_sunkBy_19
def pX4_fastest_16 (th : Nat) (Q : Int32 → zM → Prop) : Nat → Int32 → Int32 → zM → Prop
  | 0, _, _, _ => False
  | n + 1, x1, x2, μ => (if (nI 600) < x2 then Q x1 μ else (vp_in (x2 + (nI 1)) 602 ∧ (vp_in x2 602 ∧ (vp_in (x1 + (nI 1)) 602 ∧ (vp_in x1 602 ∧ (if ((zI μ (th + 9) (x2 + (nI 1)).toNatClampNeg) - (zI μ (th + 9) x2.toNatClampNeg)) ≤ ((zI μ (th + 9) (x1 + (nI 1)).toNatClampNeg) - (zI μ (th + 9) x1.toNatClampNeg)) then pX4_fastest_16 th Q n x1 (x2 + (nI 1)) μ else pX4_fastest_16 th Q n x2 (x2 + (nI 1)) μ))))))
set_option maxHeartbeats 4000000 in
set_option maxRecDepth 100000 in
theorem wX4_fastest_16 {p : Program} {l : Launch} {e : Env} {s : State} {m : MethodId} {args : Array Value} {below : List Frame} {meth : Method} {c : Code} {Γ : zG} {μ0 : zM} {Q : Int32 → zM → Prop} (X : zCx p m c cX4_fastest 3 s args RX4 meth (some .int)) (th : Nat) : ∀ (n : Nat) (x1 : Int32) (x2 : Int32) (μ : zM) (H : Heap) (locs : List Loc) (ls : Array Slot), pX4_fastest_16 th Q n x1 x2 μ → zB Γ (tSh th) (zA μ0) μ0 s μ H locs → lv_has ls 3 [(0, .ref th), (1, .int x1), (2, .int x2)] → W p l e ({ frames := 5, cells := 0, slots := 0, locals := 118 } : Room) s m args below meth c H locs 0 0 (MQ below (va_Qi Q (zPost Γ (tSh th) μ0) (zA μ0)) args s 0 0 (zA μ0)) (F0 m 16 ls []) := by
  have S := X.1
  obtain ⟨hx, hb, hml, hown, hts⟩ := X.1
  intro n
  induction n with
  | zero =>
    intro x1 x2 μ H locs ls hp
    exact hp.elim
  | succ n ih =>
    intro x1 x2 μ H locs ls hp hB hl
    unfold pX4_fastest_16 at hp
    refine lv_iload_n hx hb dX4_fastest_16 rfl (lv_at hl 2 rfl) ?_
    refine lv_sipush (v := (nI 600)) hx hb dX4_fastest_17 rfl ?_
    refine lv_icmp_gt (tgt := 64) hx hb dX4_fastest_20 rfl (fun c0 => ?_) (fun c0 => ?_)
    · have hp := zit hp c0
      refine lv_iload_n hx hb dX4_fastest_64 rfl (lv_at hl 1 rfl) ?_
      exact zret_i X hB hp dX4_fastest_65
    · have hp := zif hp c0
      refine lv_aload_n hx hb dX4_fastest_23 rfl (lv_at hl 0 rfl) ?_
      refine g_getr S hB (tT hB) rfl (T := TX4) (N := 38) (C := RX4) rfl in_X4 23 (by decide) (by decide) q1415 (fun _ h9 => h9) (fun _ => rfl) (tA hB 8 rfl).1 dX4_fastest_24 ?_
      refine lv_iload_n hx hb dX4_fastest_27 rfl (lv_at hl 2 rfl) ?_
      refine lv_iconst (v := (nI 1)) hx hb dX4_fastest_28 rfl ?_
      refine lv_iadd hx hb dX4_fastest_29 ?_
      obtain ⟨hi, hp⟩ := hp
      refine g_iald S hB (tA hB 8 rfl).2 hi dX4_fastest_30 ?_
      refine lv_aload_n hx hb dX4_fastest_31 rfl (lv_at hl 0 rfl) ?_
      refine g_getr S hB (tT hB) rfl (T := TX4) (N := 38) (C := RX4) rfl in_X4 23 (by decide) (by decide) q1415 (fun _ h9 => h9) (fun _ => rfl) (tA hB 8 rfl).1 dX4_fastest_32 ?_
      refine lv_iload_n hx hb dX4_fastest_35 rfl (lv_at hl 2 rfl) ?_
      obtain ⟨hi, hp⟩ := hp
      refine g_iald S hB (tA hB 8 rfl).2 hi dX4_fastest_36 ?_
      refine lv_isub hx hb dX4_fastest_37 ?_
      refine lv_aload_n hx hb dX4_fastest_38 rfl (lv_at hl 0 rfl) ?_
      refine g_getr S hB (tT hB) rfl (T := TX4) (N := 38) (C := RX4) rfl in_X4 23 (by decide) (by decide) q1415 (fun _ h9 => h9) (fun _ => rfl) (tA hB 8 rfl).1 dX4_fastest_39 ?_
      refine lv_iload_n hx hb dX4_fastest_42 rfl (lv_at hl 1 rfl) ?_
      refine lv_iconst (v := (nI 1)) hx hb dX4_fastest_43 rfl ?_
      refine lv_iadd hx hb dX4_fastest_44 ?_
      obtain ⟨hi, hp⟩ := hp
      refine g_iald S hB (tA hB 8 rfl).2 hi dX4_fastest_45 ?_
      refine lv_aload_n hx hb dX4_fastest_46 rfl (lv_at hl 0 rfl) ?_
      refine g_getr S hB (tT hB) rfl (T := TX4) (N := 38) (C := RX4) rfl in_X4 23 (by decide) (by decide) q1415 (fun _ h9 => h9) (fun _ => rfl) (tA hB 8 rfl).1 dX4_fastest_47 ?_
      refine lv_iload_n hx hb dX4_fastest_50 rfl (lv_at hl 1 rfl) ?_
      obtain ⟨hi, hp⟩ := hp
      refine g_iald S hB (tA hB 8 rfl).2 hi dX4_fastest_51 ?_
      refine lv_isub hx hb dX4_fastest_52 ?_
      refine lv_icmp_le (tgt := 58) hx hb dX4_fastest_53 rfl (fun c0 => ?_) (fun c0 => ?_)
      · have hp := zit hp c0
        refine lv_iinc (v := (x2 + (nI 1))) (lv' := [(2, .int (x2 + (nI 1))), (0, .ref th), (1, .int x1)]) hx hb dX4_fastest_58 hl (k := 2) rfl rfl (by decide) rfl (fun ls hl => ?_)
        refine lv_goto (tgt := 16) hx hb dX4_fastest_61 rfl ?_
        exact ih x1 (x2 + (nI 1)) μ _ _ _ hp hB (lv_sub hl [1, 2, 0] rfl)
      · have hp := zif hp c0
        refine lv_iload_n hx hb dX4_fastest_56 rfl (lv_at hl 2 rfl) ?_
        refine lv_istore_n (lv' := [(1, .int x2), (0, .ref th), (2, .int x2)]) hx hb dX4_fastest_57 rfl hl (by decide) rfl (fun ls hl => ?_)
        refine lv_iinc (v := (x2 + (nI 1))) (lv' := [(2, .int (x2 + (nI 1))), (1, .int x2), (0, .ref th)]) hx hb dX4_fastest_58 hl (k := 2) rfl rfl (by decide) rfl (fun ls hl => ?_)
        refine lv_goto (tgt := 16) hx hb dX4_fastest_61 rfl ?_
        exact ih x2 (x2 + (nI 1)) μ _ _ _ hp hB (lv_sub hl [2, 1, 0] rfl)
def pX4_fastest (th : Nat) (μ : zM) (Q : Int32 → zM → Prop) : Prop := (zpI μ th 0 (nI 0) fun μ1 => (pX4_laysAll th (nI 601) μ1 fun μ2 => ∃ k1, pX4_fastest_16 th Q k1 (nI 0) (nI 1) μ2))
theorem hX4_fastest : yX4_fastest.cls = "SunkTowerModel" ∧ yX4_fastest.cls ≠ "java/lang/invoke/MethodHandle" ∧ yX4_fastest.cls ≠ "java/lang/invoke/VarHandle" ∧ (parseMethodDescriptor yX4_fastest.desc).map (fun d => d.parameters.length) = some 0 := by decide +kernel
set_option maxHeartbeats 4000000 in
set_option maxRecDepth 100000 in
theorem mX4_fastest (l : Launch) (Γ : zG) (th : Nat) (μ : zM) (Q : Int32 → zM → Prop) (hp : pX4_fastest th μ Q) : Met l yX4_fastest (ws_ yX4_fastest cX4_fastest 3 (some .int)) ({ frames := 5, cells := 0, slots := 0, locals := 118 } : Room) (va_Pc [.ref th] (zPre Γ (tSh th) μ)) (va_Qi Q (zPost Γ (tSh th) μ) (zA μ)) 0 0 (zA μ) := by
  refine zstart (by decide) (Nat.le_of_ble_eq_true rfl) ?_
  intro p e s m below meth c ls X hnm hB hl
  have X : zCx p m c cX4_fastest 3 s [.ref th].toArray RX4 meth (some .int) := X
  have S := X.1
  obtain ⟨hx, hb, hml, hown, hts⟩ := X.1
  have hl : lv_has ls 3 [(0, .ref th)] := hl
  unfold pX4_fastest at hp
  refine lv_aload_n hx hb dX4_fastest_0 rfl (lv_at hl 0 rfl) ?_
  refine lv_iconst (v := (nI 0)) hx hb dX4_fastest_1 rfl ?_
  obtain ⟨μ1, eμ1, hp⟩ := zpI_e hp
  refine g_putI S hB (tT hB) rfl (T := TX4) (N := 38) (C := RX4) rfl in_X4 0 (by decide) (by decide) (x := (nI 0)) tyX4 tyX4_ok nmX4 q1392 (fun _ h9 => h9) rfl (ty := .int) (by decide +kernel) rfl rfl (fun _ _ => rfl) dX4_fastest_2 (fun H locs hB => ?_)
  rw [← eμ1] at hB
  refine lv_aload_n hx hb dX4_fastest_5 rfl (lv_at hl 0 rfl) ?_
  refine lv_sipush (v := (nI 601)) hx hb dX4_fastest_6 rfl ?_
  refine z_callv (va_runV (As := [.int (nI 601)]) (rest := []) S (mX4_laysAll l Γ th (nI 601) μ1 _ hp) (cwV 1 hts (lw_V q1817 q1819 qs104 q132 q1820) rfl rfl rfl hX4_laysAll ⟨Nat.le_of_ble_eq_true rfl, Nat.le_of_ble_eq_true rfl⟩) (hB.preV (tT hB) rfl rfl) rfl rfl hl.1 rfl (lv_room (Nat.le_of_ble_eq_true rfl)) dX4_fastest_9 ⟨Nat.le_refl _, Nat.le_refl _⟩) hB (fun μ2 H locs hp hB => ?_)
  refine lv_iconst (v := (nI 0)) hx hb dX4_fastest_12 rfl ?_
  refine lv_istore_n (lv' := [(1, .int (nI 0)), (0, .ref th)]) hx hb dX4_fastest_13 rfl hl (by decide) rfl (fun ls hl => ?_)
  refine lv_iconst (v := (nI 1)) hx hb dX4_fastest_14 rfl ?_
  refine lv_istore_n (lv' := [(2, .int (nI 1)), (1, .int (nI 0)), (0, .ref th)]) hx hb dX4_fastest_15 rfl hl (by decide) rfl (fun ls hl => ?_)
  obtain ⟨n1, hp⟩ := hp
  exact wX4_fastest_16 X th n1 (nI 0) (nI 1) μ2 _ _ _ hp hB (lv_sub hl [2, 1, 0] rfl)
def pX4_paid_40 (th : Nat) (x1 : Int32) (K31 : Int64 → Int32 → zM → Prop) (Q : Int64 → zM → Prop) : Nat → Int64 → Int32 → Int32 → zM → Prop
  | 0, _, _, _, _ => False
  | n + 1, x2, x4, x5, μ => (vp_in (nI 20) 3594 ∧ (if (zI μ (th + 1) (nI 20).toNatClampNeg) ≤ x5 then K31 x2 (x4 + (nI 1)) μ else (pX4_livesOn th x5 μ fun r2 μ1 => (if r2 = (-1 : Int32) then pX4_paid_40 th x1 K31 Q n x2 x4 (x5 + (nI 1)) μ1 else (vp_in x4 602 ∧ (vp_in (nI 42) 3594 ∧ (pX4_paysOf th x5 (zI μ1 (th + 9) x4.toNatClampNeg) ((zI μ1 (th + 1) (nI 42).toNatClampNeg) + x4) μ1 fun r4 μ3 => pX4_paid_40 th x1 K31 Q n (x2 + (r4.toInt64)) x4 (x5 + (nI 1)) μ3)))))))
set_option maxHeartbeats 4000000 in
set_option maxRecDepth 100000 in
theorem wX4_paid_40 {p : Program} {l : Launch} {e : Env} {s : State} {m : MethodId} {args : Array Value} {below : List Frame} {meth : Method} {c : Code} {Γ : zG} {μ0 : zM} {Q : Int64 → zM → Prop} {K31 : Int64 → Int32 → zM → Prop} (X : zCx p m c cX4_paid 6 s args RX4 meth (some .long)) (th : Nat) (x1 : Int32) (hK31 : ∀ (x2 : Int64) (x4 : Int32) (μ : zM) (H : Heap) (locs : List Loc) (ls : Array Slot), K31 x2 x4 μ → zB Γ (tSh th) (zA μ0) μ0 s μ H locs → lv_has ls 6 [(0, .ref th), (1, .int x1), (2, .long x2), (4, .int x4)] → W p l e ({ frames := 5, cells := 0, slots := 0, locals := 118 } : Room) s m args below meth c H locs 0 0 (MQ below (va_Ql Q (zPost Γ (tSh th) μ0) (zA μ0)) args s 0 0 (zA μ0)) (F0 m 31 ls [])) : ∀ (n : Nat) (x2 : Int64) (x4 : Int32) (x5 : Int32) (μ : zM) (H : Heap) (locs : List Loc) (ls : Array Slot), pX4_paid_40 th x1 K31 Q n x2 x4 x5 μ → zB Γ (tSh th) (zA μ0) μ0 s μ H locs → lv_has ls 6 [(0, .ref th), (1, .int x1), (2, .long x2), (4, .int x4), (5, .int x5)] → W p l e ({ frames := 5, cells := 0, slots := 0, locals := 118 } : Room) s m args below meth c H locs 0 0 (MQ below (va_Ql Q (zPost Γ (tSh th) μ0) (zA μ0)) args s 0 0 (zA μ0)) (F0 m 40 ls []) := by
  have S := X.1
  obtain ⟨hx, hb, hml, hown, hts⟩ := X.1
  intro n
  induction n with
  | zero =>
    intro x2 x4 x5 μ H locs ls hp
    exact hp.elim
  | succ n ih =>
    intro x2 x4 x5 μ H locs ls hp hB hl
    unfold pX4_paid_40 at hp
    refine lv_iload hx hb dX4_paid_40 (lv_at hl 4 rfl) ?_
    refine lv_aload_n hx hb dX4_paid_42 rfl (lv_at hl 0 rfl) ?_
    refine g_getr S hB (tT hB) rfl (T := TX4) (N := 38) (C := RX4) rfl in_X4 1 (by decide) (by decide) q1393 (fun _ h9 => h9) (fun _ => rfl) (tA hB 0 rfl).1 dX4_paid_43 ?_
    refine lv_bipush (v := (nI 20)) hx hb dX4_paid_46 rfl ?_
    obtain ⟨hi, hp⟩ := hp
    refine g_iald S hB (tA hB 0 rfl).2 hi dX4_paid_48 ?_
    refine lv_icmp_ge (tgt := 95) hx hb dX4_paid_49 rfl (fun c0 => ?_) (fun c0 => ?_)
    · have hp := zit hp c0
      refine lv_iinc (v := (x4 + (nI 1))) (lv' := [(4, .int (x4 + (nI 1))), (0, .ref th), (1, .int x1), (2, .long x2), (5, .int x5)]) hx hb dX4_paid_95 hl (k := 3) rfl rfl (by decide) rfl (fun ls hl => ?_)
      refine lv_goto (tgt := 31) hx hb dX4_paid_98 rfl ?_
      exact hK31 x2 (x4 + (nI 1)) μ _ _ _ hp hB (lv_sub hl [1, 2, 3, 0] rfl)
    · have hp := zif hp c0
      refine lv_aload_n hx hb dX4_paid_52 rfl (lv_at hl 0 rfl) ?_
      refine lv_iload hx hb dX4_paid_53 (lv_at hl 4 rfl) ?_
      refine z_calli (va_runV (As := [.int x5]) (rest := []) S (mX4_livesOn l Γ th x5 μ _ hp) (cwV 1 hts (lw_V q1622 q1624 qs80 q132 q1625) rfl rfl rfl hX4_livesOn ⟨Nat.le_of_ble_eq_true rfl, Nat.le_of_ble_eq_true rfl⟩) (hB.preV (tT hB) rfl rfl) rfl rfl hl.1 rfl (lv_room (Nat.le_of_ble_eq_true rfl)) dX4_paid_55 ⟨Nat.le_refl _, Nat.le_refl _⟩) hB (fun r2 μ1 H locs hp hB => ?_)
      refine lv_iconst (v := (-1 : Int32)) hx hb dX4_paid_58 rfl ?_
      refine lv_icmp_eq (tgt := 89) hx hb dX4_paid_59 rfl (fun c0 => ?_) (fun c0 => ?_)
      · have hp := zit hp c0
        refine lv_iinc (v := (x5 + (nI 1))) (lv' := [(5, .int (x5 + (nI 1))), (0, .ref th), (1, .int x1), (2, .long x2), (4, .int x4)]) hx hb dX4_paid_89 hl (k := 4) rfl rfl (by decide) rfl (fun ls hl => ?_)
        refine lv_goto (tgt := 40) hx hb dX4_paid_92 rfl ?_
        exact ih x2 x4 (x5 + (nI 1)) μ1 _ _ _ hp hB (lv_sub hl [1, 2, 3, 4, 0] rfl)
      · have hp := zif hp c0
        refine lv_lload_n hx hb dX4_paid_62 rfl (lv_at hl 2 rfl) ?_
        refine lv_aload_n hx hb dX4_paid_63 rfl (lv_at hl 0 rfl) ?_
        refine lv_iload hx hb dX4_paid_64 (lv_at hl 4 rfl) ?_
        refine lv_aload_n hx hb dX4_paid_66 rfl (lv_at hl 0 rfl) ?_
        refine g_getr S hB (tT hB) rfl (T := TX4) (N := 38) (C := RX4) rfl in_X4 23 (by decide) (by decide) q1415 (fun _ h9 => h9) (fun _ => rfl) (tA hB 8 rfl).1 dX4_paid_67 ?_
        refine lv_iload hx hb dX4_paid_70 (lv_at hl 3 rfl) ?_
        obtain ⟨hi, hp⟩ := hp
        refine g_iald S hB (tA hB 8 rfl).2 hi dX4_paid_72 ?_
        refine lv_aload_n hx hb dX4_paid_73 rfl (lv_at hl 0 rfl) ?_
        refine g_getr S hB (tT hB) rfl (T := TX4) (N := 38) (C := RX4) rfl in_X4 1 (by decide) (by decide) q1393 (fun _ h9 => h9) (fun _ => rfl) (tA hB 0 rfl).1 dX4_paid_74 ?_
        refine lv_bipush (v := (nI 42)) hx hb dX4_paid_77 rfl ?_
        obtain ⟨hi, hp⟩ := hp
        refine g_iald S hB (tA hB 0 rfl).2 hi dX4_paid_79 ?_
        refine lv_iload hx hb dX4_paid_80 (lv_at hl 3 rfl) ?_
        refine lv_iadd hx hb dX4_paid_82 ?_
        refine z_calli (va_runV (As := [.int x5, .int (zI μ1 (th + 9) x4.toNatClampNeg), .int ((zI μ1 (th + 1) (nI 42).toNatClampNeg) + x4)]) (rest := [.long x2]) S (mX4_paysOf l Γ th x5 (zI μ1 (th + 9) x4.toNatClampNeg) ((zI μ1 (th + 1) (nI 42).toNatClampNeg) + x4) μ1 _ hp) (cwV 3 hts (lw_V q1666 q1668 qs85 q132 q1669) rfl rfl rfl hX4_paysOf ⟨Nat.le_of_ble_eq_true rfl, Nat.le_of_ble_eq_true rfl⟩) (hB.preV (tT hB) rfl rfl) rfl rfl hl.1 rfl (lv_room (Nat.le_of_ble_eq_true rfl)) dX4_paid_83 ⟨Nat.le_refl _, Nat.le_refl _⟩) hB (fun r4 μ3 H locs hp hB => ?_)
        refine lv_i2l hx hb dX4_paid_86 rfl ?_
        refine lv_ladd hx hb dX4_paid_87 ?_
        refine lv_lstore_n (lv' := [(2, .long (x2 + (r4.toInt64))), (0, .ref th), (1, .int x1), (4, .int x4), (5, .int x5)]) hx hb dX4_paid_88 rfl hl (by decide) rfl (fun ls hl => ?_)
        refine lv_iinc (v := (x5 + (nI 1))) (lv' := [(5, .int (x5 + (nI 1))), (2, .long (x2 + (r4.toInt64))), (0, .ref th), (1, .int x1), (4, .int x4)]) hx hb dX4_paid_89 hl (k := 4) rfl rfl (by decide) rfl (fun ls hl => ?_)
        refine lv_goto (tgt := 40) hx hb dX4_paid_92 rfl ?_
        exact ih (x2 + (r4.toInt64)) x4 (x5 + (nI 1)) μ3 _ _ _ hp hB (lv_sub hl [2, 3, 1, 4, 0] rfl)
def pX4_paid_31 (th : Nat) (x1 : Int32) (Q : Int64 → zM → Prop) : Nat → Int64 → Int32 → zM → Prop
  | 0, _, _, _ => False
  | n + 1, x2, x4, μ => (if x1 ≤ x4 then Q x2 μ else ∃ k1, pX4_paid_40 th x1 (fun v0 v1 ν => pX4_paid_31 th x1 Q n v0 v1 ν) Q k1 x2 x4 (nI 0) μ)
set_option maxHeartbeats 4000000 in
set_option maxRecDepth 100000 in
theorem wX4_paid_31 {p : Program} {l : Launch} {e : Env} {s : State} {m : MethodId} {args : Array Value} {below : List Frame} {meth : Method} {c : Code} {Γ : zG} {μ0 : zM} {Q : Int64 → zM → Prop} (X : zCx p m c cX4_paid 6 s args RX4 meth (some .long)) (th : Nat) (x1 : Int32) : ∀ (n : Nat) (x2 : Int64) (x4 : Int32) (μ : zM) (H : Heap) (locs : List Loc) (ls : Array Slot), pX4_paid_31 th x1 Q n x2 x4 μ → zB Γ (tSh th) (zA μ0) μ0 s μ H locs → lv_has ls 6 [(0, .ref th), (1, .int x1), (2, .long x2), (4, .int x4)] → W p l e ({ frames := 5, cells := 0, slots := 0, locals := 118 } : Room) s m args below meth c H locs 0 0 (MQ below (va_Ql Q (zPost Γ (tSh th) μ0) (zA μ0)) args s 0 0 (zA μ0)) (F0 m 31 ls []) := by
  have S := X.1
  obtain ⟨hx, hb, hml, hown, hts⟩ := X.1
  intro n
  induction n with
  | zero =>
    intro x2 x4 μ H locs ls hp
    exact hp.elim
  | succ n ih =>
    intro x2 x4 μ H locs ls hp hB hl
    unfold pX4_paid_31 at hp
    refine lv_iload hx hb dX4_paid_31 (lv_at hl 3 rfl) ?_
    refine lv_iload_n hx hb dX4_paid_33 rfl (lv_at hl 1 rfl) ?_
    refine lv_icmp_ge (tgt := 101) hx hb dX4_paid_34 rfl (fun c0 => ?_) (fun c0 => ?_)
    · have hp := zit hp c0
      refine lv_lload_n hx hb dX4_paid_101 rfl (lv_at hl 2 rfl) ?_
      exact zret_l X hB hp dX4_paid_102
    · have hp := zif hp c0
      refine lv_iconst (v := (nI 0)) hx hb dX4_paid_37 rfl ?_
      refine lv_istore (lv' := [(5, .int (nI 0)), (0, .ref th), (1, .int x1), (2, .long x2), (4, .int x4)]) hx hb dX4_paid_38 hl (by decide) rfl (fun ls hl => ?_)
      obtain ⟨n1, hp⟩ := hp
      exact wX4_paid_40 X th x1 (fun v0 v1 ν H2 L2 ls2 h2 b2 l2 => ih v0 v1 ν H2 L2 ls2 h2 b2 l2) n1 x2 x4 (nI 0) μ _ _ _ hp hB (lv_sub hl [1, 2, 3, 4, 0] rfl)
def pX4_paid (th : Nat) (x1 : Int32) (μ : zM) (Q : Int64 → zM → Prop) : Prop := (zpI μ th 0 (nI 0) fun μ1 => (pX4_within th (x1.toInt64) (1 : Int64) (600 : Int64) μ1 fun r3 μ2 => (if r3 = 0 then Q (-90000000003 : Int64) μ2 else (pX4_laysAll th x1 μ2 fun μ4 => ∃ k1, pX4_paid_31 th x1 Q k1 (0 : Int64) (nI 0) μ4))))
theorem hX4_paid : yX4_paid.cls = "SunkTowerModel" ∧ yX4_paid.cls ≠ "java/lang/invoke/MethodHandle" ∧ yX4_paid.cls ≠ "java/lang/invoke/VarHandle" ∧ (parseMethodDescriptor yX4_paid.desc).map (fun d => d.parameters.length) = some 1 := by decide +kernel
set_option maxHeartbeats 4000000 in
set_option maxRecDepth 100000 in
theorem mX4_paid (l : Launch) (Γ : zG) (th : Nat) (x1 : Int32) (μ : zM) (Q : Int64 → zM → Prop) (hp : pX4_paid th x1 μ Q) : Met l yX4_paid (ws_ yX4_paid cX4_paid 6 (some .long)) ({ frames := 5, cells := 0, slots := 0, locals := 118 } : Room) (va_Pc [.ref th, .int x1] (zPre Γ (tSh th) μ)) (va_Ql Q (zPost Γ (tSh th) μ) (zA μ)) 0 0 (zA μ) := by
  refine zstart (by decide) (Nat.le_of_ble_eq_true rfl) ?_
  intro p e s m below meth c ls X hnm hB hl
  have X : zCx p m c cX4_paid 6 s [.ref th, .int x1].toArray RX4 meth (some .long) := X
  have S := X.1
  obtain ⟨hx, hb, hml, hown, hts⟩ := X.1
  have hl : lv_has ls 6 [(0, .ref th), (1, .int x1)] := hl
  unfold pX4_paid at hp
  refine lv_aload_n hx hb dX4_paid_0 rfl (lv_at hl 0 rfl) ?_
  refine lv_iconst (v := (nI 0)) hx hb dX4_paid_1 rfl ?_
  obtain ⟨μ1, eμ1, hp⟩ := zpI_e hp
  refine g_putI S hB (tT hB) rfl (T := TX4) (N := 38) (C := RX4) rfl in_X4 0 (by decide) (by decide) (x := (nI 0)) tyX4 tyX4_ok nmX4 q1392 (fun _ h9 => h9) rfl (ty := .int) (by decide +kernel) rfl rfl (fun _ _ => rfl) dX4_paid_2 (fun H locs hB => ?_)
  rw [← eμ1] at hB
  refine lv_iload_n hx hb dX4_paid_5 rfl (lv_at hl 1 rfl) ?_
  refine lv_i2l hx hb dX4_paid_6 rfl ?_
  refine lv_lconst (v := (1 : Int64)) hx hb dX4_paid_7 rfl ?_
  refine lv_ldc2 (v := (600 : Int64)) hx hb hown (hts _ q1816) dX4_paid_8 ?_
  refine z_calli (va_runS (As := [.long (x1.toInt64), .long (1 : Int64), .long (600 : Int64)]) (rest := []) S (mX4_within l Γ th (x1.toInt64) (1 : Int64) (600 : Int64) μ1 _ hp) (va_cwS 3 hts (lw_S q1516 q1517 q132 q1518) rfl rfl rfl hX4_within ⟨Nat.le_of_ble_eq_true rfl, Nat.le_of_ble_eq_true rfl⟩) hB.preS rfl rfl hl.1 rfl (lv_room (Nat.le_of_ble_eq_true rfl)) dX4_paid_11 ⟨Nat.le_refl _, Nat.le_refl _⟩) hB (fun r3 μ2 H locs hp hB => ?_)
  refine lv_if_ne (tgt := 21) hx hb dX4_paid_14 rfl (fun c0 => ?_) (fun c0 => ?_)
  · have hp := zif hp c0
    refine lv_aload_n hx hb dX4_paid_21 rfl (lv_at hl 0 rfl) ?_
    refine lv_iload_n hx hb dX4_paid_22 rfl (lv_at hl 1 rfl) ?_
    refine z_callv (va_runV (As := [.int x1]) (rest := []) S (mX4_laysAll l Γ th x1 μ2 _ hp) (cwV 1 hts (lw_V q1817 q1819 qs104 q132 q1820) rfl rfl rfl hX4_laysAll ⟨Nat.le_of_ble_eq_true rfl, Nat.le_of_ble_eq_true rfl⟩) (hB.preV (tT hB) rfl rfl) rfl rfl hl.1 rfl (lv_room (Nat.le_of_ble_eq_true rfl)) dX4_paid_23 ⟨Nat.le_refl _, Nat.le_refl _⟩) hB (fun μ4 H locs hp hB => ?_)
    refine lv_lconst (v := (0 : Int64)) hx hb dX4_paid_26 rfl ?_
    refine lv_lstore_n (lv' := [(2, .long (0 : Int64)), (0, .ref th), (1, .int x1)]) hx hb dX4_paid_27 rfl hl (by decide) rfl (fun ls hl => ?_)
    refine lv_iconst (v := (nI 0)) hx hb dX4_paid_28 rfl ?_
    refine lv_istore (lv' := [(4, .int (nI 0)), (2, .long (0 : Int64)), (0, .ref th), (1, .int x1)]) hx hb dX4_paid_29 hl (by decide) rfl (fun ls hl => ?_)
    obtain ⟨n1, hp⟩ := hp
    exact wX4_paid_31 X th x1 n1 (0 : Int64) (nI 0) μ4 _ _ _ hp hB (lv_sub hl [2, 3, 1, 0] rfl)
  · have hp := zit hp c0
    refine lv_ldc2 (v := (-90000000003 : Int64)) hx hb hown (hts _ q1854) dX4_paid_17 ?_
    exact zret_l X hB hp dX4_paid_20
def pX4_shareOf (th : Nat) (x1 : Int32) (x2 : Int32) (μ : zM) (Q : Int32 → zM → Prop) : Prop := (vp_in ((nI 35) + x1) 3594 ∧ (if (zI μ (th + 1) ((nI 35) + x1).toNatClampNeg) = (-1 : Int32) then Q (nI 0) μ else (pX4_laysAll th x2 μ fun μ1 => (vp_in x2 602 ∧ (pX4_weightOf th x1 μ1 fun r3 μ2 => (pX4_laysSunk th x2 r3 μ2 fun μ4 => (vp_in x2 602 ∧ Q ((zI μ1 (th + 9) x2.toNatClampNeg) - (zI μ4 (th + 9) x2.toNatClampNeg)) μ4)))))))
theorem hX4_shareOf : yX4_shareOf.cls = "SunkTowerModel" ∧ yX4_shareOf.cls ≠ "java/lang/invoke/MethodHandle" ∧ yX4_shareOf.cls ≠ "java/lang/invoke/VarHandle" ∧ (parseMethodDescriptor yX4_shareOf.desc).map (fun d => d.parameters.length) = some 2 := by decide +kernel
set_option maxHeartbeats 4000000 in
set_option maxRecDepth 100000 in
theorem mX4_shareOf (l : Launch) (Γ : zG) (th : Nat) (x1 : Int32) (x2 : Int32) (μ : zM) (Q : Int32 → zM → Prop) (hp : pX4_shareOf th x1 x2 μ Q) : Met l yX4_shareOf (ws_ yX4_shareOf cX4_shareOf 4 (some .int)) ({ frames := 5, cells := 0, slots := 0, locals := 118 } : Room) (va_Pc [.ref th, .int x1, .int x2] (zPre Γ (tSh th) μ)) (va_Qi Q (zPost Γ (tSh th) μ) (zA μ)) 0 0 (zA μ) := by
  refine zstart (by decide) (Nat.le_of_ble_eq_true rfl) ?_
  intro p e s m below meth c ls X hnm hB hl
  have X : zCx p m c cX4_shareOf 4 s [.ref th, .int x1, .int x2].toArray RX4 meth (some .int) := X
  have S := X.1
  obtain ⟨hx, hb, hml, hown, hts⟩ := X.1
  have hl : lv_has ls 4 [(0, .ref th), (1, .int x1), (2, .int x2)] := hl
  unfold pX4_shareOf at hp
  refine lv_aload_n hx hb dX4_shareOf_0 rfl (lv_at hl 0 rfl) ?_
  refine g_getr S hB (tT hB) rfl (T := TX4) (N := 38) (C := RX4) rfl in_X4 1 (by decide) (by decide) q1393 (fun _ h9 => h9) (fun _ => rfl) (tA hB 0 rfl).1 dX4_shareOf_1 ?_
  refine lv_bipush (v := (nI 35)) hx hb dX4_shareOf_4 rfl ?_
  refine lv_iload_n hx hb dX4_shareOf_6 rfl (lv_at hl 1 rfl) ?_
  refine lv_iadd hx hb dX4_shareOf_7 ?_
  obtain ⟨hi, hp⟩ := hp
  refine g_iald S hB (tA hB 0 rfl).2 hi dX4_shareOf_8 ?_
  refine lv_iconst (v := (-1 : Int32)) hx hb dX4_shareOf_9 rfl ?_
  refine lv_icmp_ne (tgt := 15) hx hb dX4_shareOf_10 rfl (fun c0 => ?_) (fun c0 => ?_)
  · have hp := zif hp c0
    refine lv_aload_n hx hb dX4_shareOf_15 rfl (lv_at hl 0 rfl) ?_
    refine lv_iload_n hx hb dX4_shareOf_16 rfl (lv_at hl 2 rfl) ?_
    refine z_callv (va_runV (As := [.int x2]) (rest := []) S (mX4_laysAll l Γ th x2 μ _ hp) (cwV 1 hts (lw_V q1817 q1819 qs104 q132 q1820) rfl rfl rfl hX4_laysAll ⟨Nat.le_of_ble_eq_true rfl, Nat.le_of_ble_eq_true rfl⟩) (hB.preV (tT hB) rfl rfl) rfl rfl hl.1 rfl (lv_room (Nat.le_of_ble_eq_true rfl)) dX4_shareOf_17 ⟨Nat.le_refl _, Nat.le_refl _⟩) hB (fun μ1 H locs hp hB => ?_)
    refine lv_aload_n hx hb dX4_shareOf_20 rfl (lv_at hl 0 rfl) ?_
    refine g_getr S hB (tT hB) rfl (T := TX4) (N := 38) (C := RX4) rfl in_X4 23 (by decide) (by decide) q1415 (fun _ h9 => h9) (fun _ => rfl) (tA hB 8 rfl).1 dX4_shareOf_21 ?_
    refine lv_iload_n hx hb dX4_shareOf_24 rfl (lv_at hl 2 rfl) ?_
    obtain ⟨hi, hp⟩ := hp
    refine g_iald S hB (tA hB 8 rfl).2 hi dX4_shareOf_25 ?_
    refine lv_istore_n (lv' := [(3, .int (zI μ1 (th + 9) x2.toNatClampNeg)), (0, .ref th), (1, .int x1), (2, .int x2)]) hx hb dX4_shareOf_26 rfl hl (by decide) rfl (fun ls hl => ?_)
    refine lv_aload_n hx hb dX4_shareOf_27 rfl (lv_at hl 1 rfl) ?_
    refine lv_iload_n hx hb dX4_shareOf_28 rfl (lv_at hl 3 rfl) ?_
    refine lv_aload_n hx hb dX4_shareOf_29 rfl (lv_at hl 1 rfl) ?_
    refine lv_iload_n hx hb dX4_shareOf_30 rfl (lv_at hl 2 rfl) ?_
    refine z_calli (va_runV (As := [.int x1]) (rest := [.int x2, .ref th]) S (mX4_weightOf l Γ th x1 μ1 _ hp) (cwV 1 hts (lw_V q1641 q1643 qs82 q132 q1644) rfl rfl rfl hX4_weightOf ⟨Nat.le_of_ble_eq_true rfl, Nat.le_of_ble_eq_true rfl⟩) (hB.preV (tT hB) rfl rfl) rfl rfl hl.1 rfl (lv_room (Nat.le_of_ble_eq_true rfl)) dX4_shareOf_31 ⟨Nat.le_refl _, Nat.le_refl _⟩) hB (fun r3 μ2 H locs hp hB => ?_)
    refine z_callv (va_runV (As := [.int x2, .int r3]) (rest := []) S (mX4_laysSunk l Γ th x2 r3 μ2 _ hp) (cwV 2 hts (lw_V q1821 q1823 qs105 q132 q1824) rfl rfl rfl hX4_laysSunk ⟨Nat.le_of_ble_eq_true rfl, Nat.le_of_ble_eq_true rfl⟩) (hB.preV (tT hB) rfl rfl) rfl rfl hl.1 rfl (lv_room (Nat.le_of_ble_eq_true rfl)) dX4_shareOf_34 ⟨Nat.le_refl _, Nat.le_refl _⟩) hB (fun μ4 H locs hp hB => ?_)
    refine lv_iload_n hx hb dX4_shareOf_37 rfl (lv_at hl 0 rfl) ?_
    refine lv_aload_n hx hb dX4_shareOf_38 rfl (lv_at hl 1 rfl) ?_
    refine g_getr S hB (tT hB) rfl (T := TX4) (N := 38) (C := RX4) rfl in_X4 23 (by decide) (by decide) q1415 (fun _ h9 => h9) (fun _ => rfl) (tA hB 8 rfl).1 dX4_shareOf_39 ?_
    refine lv_iload_n hx hb dX4_shareOf_42 rfl (lv_at hl 3 rfl) ?_
    obtain ⟨hi, hp⟩ := hp
    refine g_iald S hB (tA hB 8 rfl).2 hi dX4_shareOf_43 ?_
    refine lv_isub hx hb dX4_shareOf_44 ?_
    exact zret_i X hB hp dX4_shareOf_45
  · have hp := zit hp c0
    refine lv_iconst (v := (nI 0)) hx hb dX4_shareOf_13 rfl ?_
    exact zret_i X hB hp dX4_shareOf_14
def pX4_heaviest_27 (th : Nat) (x1 : Int32) (Q : Int32 → zM → Prop) : Nat → Int32 → Int32 → Int32 → zM → Prop
  | 0, _, _, _, _ => False
  | n + 1, x2, x3, x4, μ => (vp_in (nI 1) 3594 ∧ (if (zI μ (th + 1) (nI 1).toNatClampNeg) ≤ x4 then Q x2 μ else (pX4_shareOf th x4 x1 μ fun r2 μ1 => (if x3 < r2 then pX4_heaviest_27 th x1 Q n x4 r2 (x4 + (nI 1)) μ1 else pX4_heaviest_27 th x1 Q n x2 x3 (x4 + (nI 1)) μ1))))
set_option maxHeartbeats 4000000 in
set_option maxRecDepth 100000 in
theorem wX4_heaviest_27 {p : Program} {l : Launch} {e : Env} {s : State} {m : MethodId} {args : Array Value} {below : List Frame} {meth : Method} {c : Code} {Γ : zG} {μ0 : zM} {Q : Int32 → zM → Prop} (X : zCx p m c cX4_heaviest 6 s args RX4 meth (some .int)) (th : Nat) (x1 : Int32) : ∀ (n : Nat) (x2 : Int32) (x3 : Int32) (x4 : Int32) (μ : zM) (H : Heap) (locs : List Loc) (ls : Array Slot), pX4_heaviest_27 th x1 Q n x2 x3 x4 μ → zB Γ (tSh th) (zA μ0) μ0 s μ H locs → lv_has ls 6 [(0, .ref th), (1, .int x1), (2, .int x2), (3, .int x3), (4, .int x4)] → W p l e ({ frames := 6, cells := 0, slots := 0, locals := 141 } : Room) s m args below meth c H locs 0 0 (MQ below (va_Qi Q (zPost Γ (tSh th) μ0) (zA μ0)) args s 0 0 (zA μ0)) (F0 m 27 ls []) := by
  have S := X.1
  obtain ⟨hx, hb, hml, hown, hts⟩ := X.1
  intro n
  induction n with
  | zero =>
    intro x2 x3 x4 μ H locs ls hp
    exact hp.elim
  | succ n ih =>
    intro x2 x3 x4 μ H locs ls hp hB hl
    unfold pX4_heaviest_27 at hp
    refine lv_iload hx hb dX4_heaviest_27 (lv_at hl 4 rfl) ?_
    refine lv_aload_n hx hb dX4_heaviest_29 rfl (lv_at hl 0 rfl) ?_
    refine g_getr S hB (tT hB) rfl (T := TX4) (N := 38) (C := RX4) rfl in_X4 1 (by decide) (by decide) q1393 (fun _ h9 => h9) (fun _ => rfl) (tA hB 0 rfl).1 dX4_heaviest_30 ?_
    refine lv_iconst (v := (nI 1)) hx hb dX4_heaviest_33 rfl ?_
    obtain ⟨hi, hp⟩ := hp
    refine g_iald S hB (tA hB 0 rfl).2 hi dX4_heaviest_34 ?_
    refine lv_icmp_ge (tgt := 68) hx hb dX4_heaviest_35 rfl (fun c0 => ?_) (fun c0 => ?_)
    · have hp := zit hp c0
      refine lv_iload_n hx hb dX4_heaviest_68 rfl (lv_at hl 2 rfl) ?_
      exact zret_i X hB hp dX4_heaviest_69
    · have hp := zif hp c0
      refine lv_aload_n hx hb dX4_heaviest_38 rfl (lv_at hl 0 rfl) ?_
      refine lv_iload hx hb dX4_heaviest_39 (lv_at hl 4 rfl) ?_
      refine lv_iload_n hx hb dX4_heaviest_41 rfl (lv_at hl 1 rfl) ?_
      refine z_calli (va_runV (As := [.int x4, .int x1]) (rest := []) S (mX4_shareOf l Γ th x4 x1 μ _ hp) (cwV 2 hts (lw_V q1859 q1861 qs107 q132 q1862) rfl rfl rfl hX4_shareOf ⟨Nat.le_of_ble_eq_true rfl, Nat.le_of_ble_eq_true rfl⟩) (hB.preV (tT hB) rfl rfl) rfl rfl hl.1 rfl (lv_room (Nat.le_of_ble_eq_true rfl)) dX4_heaviest_42 ⟨Nat.le_refl _, Nat.le_refl _⟩) hB (fun r2 μ1 H locs hp hB => ?_)
      refine lv_istore (lv' := [(5, .int r2), (0, .ref th), (1, .int x1), (2, .int x2), (3, .int x3), (4, .int x4)]) hx hb dX4_heaviest_45 hl (by decide) rfl (fun ls hl => ?_)
      refine lv_iload hx hb dX4_heaviest_47 (lv_at hl 0 rfl) ?_
      refine lv_iload_n hx hb dX4_heaviest_49 rfl (lv_at hl 4 rfl) ?_
      refine lv_icmp_gt (tgt := 56) hx hb dX4_heaviest_50 rfl (fun c0 => ?_) (fun c0 => ?_)
      · have hp := zit hp c0
        refine lv_iload hx hb dX4_heaviest_56 (lv_at hl 5 rfl) ?_
        refine lv_istore_n (lv' := [(2, .int x4), (5, .int r2), (0, .ref th), (1, .int x1), (3, .int x3), (4, .int x4)]) hx hb dX4_heaviest_58 rfl hl (by decide) rfl (fun ls hl => ?_)
        refine lv_iload hx hb dX4_heaviest_59 (lv_at hl 1 rfl) ?_
        refine lv_istore_n (lv' := [(3, .int r2), (2, .int x4), (5, .int r2), (0, .ref th), (1, .int x1), (4, .int x4)]) hx hb dX4_heaviest_61 rfl hl (by decide) rfl (fun ls hl => ?_)
        refine lv_iinc (v := (x4 + (nI 1))) (lv' := [(4, .int (x4 + (nI 1))), (3, .int r2), (2, .int x4), (5, .int r2), (0, .ref th), (1, .int x1)]) hx hb dX4_heaviest_62 hl (k := 5) rfl rfl (by decide) rfl (fun ls hl => ?_)
        refine lv_goto (tgt := 27) hx hb dX4_heaviest_65 rfl ?_
        exact ih x4 r2 (x4 + (nI 1)) μ1 _ _ _ hp hB (lv_sub hl [4, 5, 2, 1, 0] rfl)
      · have hp := zif hp c0
        refine lv_goto (tgt := 62) hx hb dX4_heaviest_53 rfl ?_
        refine lv_iinc (v := (x4 + (nI 1))) (lv' := [(4, .int (x4 + (nI 1))), (5, .int r2), (0, .ref th), (1, .int x1), (2, .int x2), (3, .int x3)]) hx hb dX4_heaviest_62 hl (k := 5) rfl rfl (by decide) rfl (fun ls hl => ?_)
        refine lv_goto (tgt := 27) hx hb dX4_heaviest_65 rfl ?_
        exact ih x2 x3 (x4 + (nI 1)) μ1 _ _ _ hp hB (lv_sub hl [2, 3, 4, 5, 0] rfl)
def pX4_heaviest (th : Nat) (x1 : Int32) (μ : zM) (Q : Int32 → zM → Prop) : Prop := (zpI μ th 0 (nI 0) fun μ1 => (pX4_within th (x1.toInt64) (1 : Int64) (600 : Int64) μ1 fun r3 μ2 => (if r3 = 0 then Q (-3 : Int32) μ2 else ∃ k1, pX4_heaviest_27 th x1 Q k1 (-1 : Int32) (nI 0) (nI 0) μ2)))
theorem hX4_heaviest : yX4_heaviest.cls = "SunkTowerModel" ∧ yX4_heaviest.cls ≠ "java/lang/invoke/MethodHandle" ∧ yX4_heaviest.cls ≠ "java/lang/invoke/VarHandle" ∧ (parseMethodDescriptor yX4_heaviest.desc).map (fun d => d.parameters.length) = some 1 := by decide +kernel
set_option maxHeartbeats 4000000 in
set_option maxRecDepth 100000 in
theorem mX4_heaviest (l : Launch) (Γ : zG) (th : Nat) (x1 : Int32) (μ : zM) (Q : Int32 → zM → Prop) (hp : pX4_heaviest th x1 μ Q) : Met l yX4_heaviest (ws_ yX4_heaviest cX4_heaviest 6 (some .int)) ({ frames := 6, cells := 0, slots := 0, locals := 141 } : Room) (va_Pc [.ref th, .int x1] (zPre Γ (tSh th) μ)) (va_Qi Q (zPost Γ (tSh th) μ) (zA μ)) 0 0 (zA μ) := by
  refine zstart (by decide) (Nat.le_of_ble_eq_true rfl) ?_
  intro p e s m below meth c ls X hnm hB hl
  have X : zCx p m c cX4_heaviest 6 s [.ref th, .int x1].toArray RX4 meth (some .int) := X
  have S := X.1
  obtain ⟨hx, hb, hml, hown, hts⟩ := X.1
  have hl : lv_has ls 6 [(0, .ref th), (1, .int x1)] := hl
  unfold pX4_heaviest at hp
  refine lv_aload_n hx hb dX4_heaviest_0 rfl (lv_at hl 0 rfl) ?_
  refine lv_iconst (v := (nI 0)) hx hb dX4_heaviest_1 rfl ?_
  obtain ⟨μ1, eμ1, hp⟩ := zpI_e hp
  refine g_putI S hB (tT hB) rfl (T := TX4) (N := 38) (C := RX4) rfl in_X4 0 (by decide) (by decide) (x := (nI 0)) tyX4 tyX4_ok nmX4 q1392 (fun _ h9 => h9) rfl (ty := .int) (by decide +kernel) rfl rfl (fun _ _ => rfl) dX4_heaviest_2 (fun H locs hB => ?_)
  rw [← eμ1] at hB
  refine lv_iload_n hx hb dX4_heaviest_5 rfl (lv_at hl 1 rfl) ?_
  refine lv_i2l hx hb dX4_heaviest_6 rfl ?_
  refine lv_lconst (v := (1 : Int64)) hx hb dX4_heaviest_7 rfl ?_
  refine lv_ldc2 (v := (600 : Int64)) hx hb hown (hts _ q1816) dX4_heaviest_8 ?_
  refine z_calli (va_runS (As := [.long (x1.toInt64), .long (1 : Int64), .long (600 : Int64)]) (rest := []) S (mX4_within l Γ th (x1.toInt64) (1 : Int64) (600 : Int64) μ1 _ hp) (va_cwS 3 hts (lw_S q1516 q1517 q132 q1518) rfl rfl rfl hX4_within ⟨Nat.le_of_ble_eq_true rfl, Nat.le_of_ble_eq_true rfl⟩) hB.preS rfl rfl hl.1 rfl (lv_room (Nat.le_of_ble_eq_true rfl)) dX4_heaviest_11 ⟨Nat.le_refl _, Nat.le_refl _⟩) hB (fun r3 μ2 H locs hp hB => ?_)
  refine lv_if_ne (tgt := 20) hx hb dX4_heaviest_14 rfl (fun c0 => ?_) (fun c0 => ?_)
  · have hp := zif hp c0
    refine lv_iconst (v := (-1 : Int32)) hx hb dX4_heaviest_20 rfl ?_
    refine lv_istore_n (lv' := [(2, .int (-1 : Int32)), (0, .ref th), (1, .int x1)]) hx hb dX4_heaviest_21 rfl hl (by decide) rfl (fun ls hl => ?_)
    refine lv_iconst (v := (nI 0)) hx hb dX4_heaviest_22 rfl ?_
    refine lv_istore_n (lv' := [(3, .int (nI 0)), (2, .int (-1 : Int32)), (0, .ref th), (1, .int x1)]) hx hb dX4_heaviest_23 rfl hl (by decide) rfl (fun ls hl => ?_)
    refine lv_iconst (v := (nI 0)) hx hb dX4_heaviest_24 rfl ?_
    refine lv_istore (lv' := [(4, .int (nI 0)), (3, .int (nI 0)), (2, .int (-1 : Int32)), (0, .ref th), (1, .int x1)]) hx hb dX4_heaviest_25 hl (by decide) rfl (fun ls hl => ?_)
    obtain ⟨n1, hp⟩ := hp
    exact wX4_heaviest_27 X th x1 n1 (-1 : Int32) (nI 0) (nI 0) μ2 _ _ _ hp hB (lv_sub hl [3, 4, 2, 1, 0] rfl)
  · have hp := zit hp c0
    refine lv_bipush (v := (-3 : Int32)) hx hb dX4_heaviest_17 rfl ?_
    exact zret_i X hB hp dX4_heaviest_19
def pX4_laysMost_64 (th : Nat) (x1 : Int32) (K23 : Int32 → zM → Prop) (Q : zM → Prop) (x3 : Int32) (y3 : Int32) (y2 : Int32) (μ : zM) : Prop := (zpI μ th 25 (y2 ||| y3) fun μ1 => K23 (x3 + (nI 1)) μ1)
set_option maxHeartbeats 4000000 in
set_option maxRecDepth 100000 in
theorem wX4_laysMost_64 {p : Program} {l : Launch} {e : Env} {s : State} {m : MethodId} {args : Array Value} {below : List Frame} {meth : Method} {c : Code} {Γ : zG} {μ0 : zM} {Q : zM → Prop} {K23 : Int32 → zM → Prop} (X : zCx p m c cX4_laysMost 10 s args RX4 meth none) (th : Nat) (x1 : Int32) (hK23 : ∀ (x3 : Int32) (μ : zM) (H : Heap) (locs : List Loc) (ls : Array Slot), K23 x3 μ → zB Γ (tSh th) (zA μ0) μ0 s μ H locs → lv_has ls 10 [(0, .ref th), (1, .int x1), (3, .int x3)] → W p l e ({ frames := 5, cells := 0, slots := 0, locals := 120 } : Room) s m args below meth c H locs 0 0 (MQ below (va_Qv Q (zPost Γ (tSh th) μ0) (zA μ0)) args s 0 0 (zA μ0)) (F0 m 23 ls [])) : ∀ (x3 : Int32) (y3 : Int32) (y2 : Int32) (μ : zM) (H : Heap) (locs : List Loc) (ls : Array Slot), pX4_laysMost_64 th x1 K23 Q x3 y3 y2 μ → zB Γ (tSh th) (zA μ0) μ0 s μ H locs → lv_has ls 10 [(0, .ref th), (1, .int x1), (3, .int x3)] → W p l e ({ frames := 5, cells := 0, slots := 0, locals := 120 } : Room) s m args below meth c H locs 0 0 (MQ below (va_Qv Q (zPost Γ (tSh th) μ0) (zA μ0)) args s 0 0 (zA μ0)) (F0 m 64 ls [.int y3, .int y2, .ref th]) := by
  have S := X.1
  obtain ⟨hx, hb, hml, hown, hts⟩ := X.1
  intro x3 y3 y2 μ H locs ls hp hB hl
  unfold pX4_laysMost_64 at hp
  refine lv_ior hx hb dX4_laysMost_64 ?_
  obtain ⟨μ1, eμ1, hp⟩ := zpI_e hp
  refine g_putI S hB (tT hB) rfl (T := TX4) (N := 38) (C := RX4) rfl in_X4 25 (by decide) (by decide) (x := (y2 ||| y3)) tyX4 tyX4_ok nmX4 q1417 (fun _ h9 => h9) rfl (ty := .int) (by decide +kernel) rfl rfl (fun _ _ => rfl) dX4_laysMost_65 (fun H locs hB => ?_)
  rw [← eμ1] at hB
  refine lv_iinc (v := (x3 + (nI 1))) (lv' := [(3, .int (x3 + (nI 1))), (0, .ref th), (1, .int x1)]) hx hb dX4_laysMost_68 hl (k := 2) rfl rfl (by decide) rfl (fun ls hl => ?_)
  refine lv_goto (tgt := 23) hx hb dX4_laysMost_71 rfl ?_
  exact hK23 (x3 + (nI 1)) μ1 _ _ _ hp hB (lv_sub hl [1, 2, 0] rfl)
def pX4_laysMost_57 (th : Nat) (x1 : Int32) (K23 : Int32 → zM → Prop) (Q : zM → Prop) (x3 : Int32) (y2 : Int32) (μ : zM) : Prop := pX4_laysMost_64 th x1 K23 Q x3 ((nI 1) <<< (x3 &&& 31)) y2 μ
set_option maxHeartbeats 4000000 in
set_option maxRecDepth 100000 in
theorem wX4_laysMost_57 {p : Program} {l : Launch} {e : Env} {s : State} {m : MethodId} {args : Array Value} {below : List Frame} {meth : Method} {c : Code} {Γ : zG} {μ0 : zM} {Q : zM → Prop} {K23 : Int32 → zM → Prop} (X : zCx p m c cX4_laysMost 10 s args RX4 meth none) (th : Nat) (x1 : Int32) (hK23 : ∀ (x3 : Int32) (μ : zM) (H : Heap) (locs : List Loc) (ls : Array Slot), K23 x3 μ → zB Γ (tSh th) (zA μ0) μ0 s μ H locs → lv_has ls 10 [(0, .ref th), (1, .int x1), (3, .int x3)] → W p l e ({ frames := 5, cells := 0, slots := 0, locals := 120 } : Room) s m args below meth c H locs 0 0 (MQ below (va_Qv Q (zPost Γ (tSh th) μ0) (zA μ0)) args s 0 0 (zA μ0)) (F0 m 23 ls [])) : ∀ (x3 : Int32) (y2 : Int32) (μ : zM) (H : Heap) (locs : List Loc) (ls : Array Slot), pX4_laysMost_57 th x1 K23 Q x3 y2 μ → zB Γ (tSh th) (zA μ0) μ0 s μ H locs → lv_has ls 10 [(0, .ref th), (1, .int x1), (3, .int x3)] → W p l e ({ frames := 5, cells := 0, slots := 0, locals := 120 } : Room) s m args below meth c H locs 0 0 (MQ below (va_Qv Q (zPost Γ (tSh th) μ0) (zA μ0)) args s 0 0 (zA μ0)) (F0 m 57 ls [.int y2, .ref th]) := by
  have S := X.1
  obtain ⟨hx, hb, hml, hown, hts⟩ := X.1
  intro x3 y2 μ H locs ls hp hB hl
  unfold pX4_laysMost_57 at hp
  refine lv_iconst (v := (nI 1)) hx hb dX4_laysMost_57 rfl ?_
  refine lv_iload_n hx hb dX4_laysMost_58 rfl (lv_at hl 2 rfl) ?_
  refine lv_ishl hx hb dX4_laysMost_59 ?_
  refine lv_goto (tgt := 64) hx hb dX4_laysMost_60 rfl ?_
  exact wX4_laysMost_64 X th x1 hK23 x3 ((nI 1) <<< (x3 &&& 31)) y2 μ _ _ _ hp hB (lv_sub hl [0, 1, 2] rfl)
def pX4_laysMost_158 (th : Nat) (x1 : Int32) (K110 : Int32 → zM → Prop) (K117 : Int32 → Int32 → zM → Prop) (K132 : Int32 → Int32 → Int64 → Int32 → zM → Prop) (Q : zM → Prop) (x3 : Int32) (x4 : Int32) (x5 : Int64) (x7 : Int32) (μ : zM) : Prop := (pX4_mayGo th x3 x4 x7 μ fun r2 μ1 => (if r2 = 0 then K132 x3 x4 x5 (x7 + (nI 1)) μ1 else (pX4_goesBy th x1 x3 x4 x7 μ1 fun r4 μ3 => (if (lg_cmp r4 x5) ≤ 0 then K132 x3 x4 x5 (x7 + (nI 1)) μ3 else K132 x3 x4 r4 (x7 + (nI 1)) μ3))))
set_option maxHeartbeats 4000000 in
set_option maxRecDepth 100000 in
theorem wX4_laysMost_158 {p : Program} {l : Launch} {e : Env} {s : State} {m : MethodId} {args : Array Value} {below : List Frame} {meth : Method} {c : Code} {Γ : zG} {μ0 : zM} {Q : zM → Prop} {K110 : Int32 → zM → Prop} {K117 : Int32 → Int32 → zM → Prop} {K132 : Int32 → Int32 → Int64 → Int32 → zM → Prop} (X : zCx p m c cX4_laysMost 10 s args RX4 meth none) (th : Nat) (x1 : Int32) (hK110 : ∀ (x3 : Int32) (μ : zM) (H : Heap) (locs : List Loc) (ls : Array Slot), K110 x3 μ → zB Γ (tSh th) (zA μ0) μ0 s μ H locs → lv_has ls 10 [(0, .ref th), (1, .int x1), (3, .int x3)] → W p l e ({ frames := 5, cells := 0, slots := 0, locals := 120 } : Room) s m args below meth c H locs 0 0 (MQ below (va_Qv Q (zPost Γ (tSh th) μ0) (zA μ0)) args s 0 0 (zA μ0)) (F0 m 110 ls [])) (hK117 : ∀ (x3 : Int32) (x4 : Int32) (μ : zM) (H : Heap) (locs : List Loc) (ls : Array Slot), K117 x3 x4 μ → zB Γ (tSh th) (zA μ0) μ0 s μ H locs → lv_has ls 10 [(0, .ref th), (1, .int x1), (3, .int x3), (4, .int x4)] → W p l e ({ frames := 5, cells := 0, slots := 0, locals := 120 } : Room) s m args below meth c H locs 0 0 (MQ below (va_Qv Q (zPost Γ (tSh th) μ0) (zA μ0)) args s 0 0 (zA μ0)) (F0 m 117 ls [])) (hK132 : ∀ (x3 : Int32) (x4 : Int32) (x5 : Int64) (x7 : Int32) (μ : zM) (H : Heap) (locs : List Loc) (ls : Array Slot), K132 x3 x4 x5 x7 μ → zB Γ (tSh th) (zA μ0) μ0 s μ H locs → lv_has ls 10 [(0, .ref th), (1, .int x1), (3, .int x3), (4, .int x4), (5, .long x5), (7, .int x7)] → W p l e ({ frames := 5, cells := 0, slots := 0, locals := 120 } : Room) s m args below meth c H locs 0 0 (MQ below (va_Qv Q (zPost Γ (tSh th) μ0) (zA μ0)) args s 0 0 (zA μ0)) (F0 m 132 ls [])) : ∀ (x3 : Int32) (x4 : Int32) (x5 : Int64) (x7 : Int32) (μ : zM) (H : Heap) (locs : List Loc) (ls : Array Slot), pX4_laysMost_158 th x1 K110 K117 K132 Q x3 x4 x5 x7 μ → zB Γ (tSh th) (zA μ0) μ0 s μ H locs → lv_has ls 10 [(0, .ref th), (1, .int x1), (3, .int x3), (4, .int x4), (5, .long x5), (7, .int x7)] → W p l e ({ frames := 5, cells := 0, slots := 0, locals := 120 } : Room) s m args below meth c H locs 0 0 (MQ below (va_Qv Q (zPost Γ (tSh th) μ0) (zA μ0)) args s 0 0 (zA μ0)) (F0 m 158 ls []) := by
  have S := X.1
  obtain ⟨hx, hb, hml, hown, hts⟩ := X.1
  intro x3 x4 x5 x7 μ H locs ls hp hB hl
  unfold pX4_laysMost_158 at hp
  refine lv_aload_n hx hb dX4_laysMost_158 rfl (lv_at hl 0 rfl) ?_
  refine lv_iload_n hx hb dX4_laysMost_159 rfl (lv_at hl 2 rfl) ?_
  refine lv_iload hx hb dX4_laysMost_160 (lv_at hl 3 rfl) ?_
  refine lv_iload hx hb dX4_laysMost_162 (lv_at hl 5 rfl) ?_
  refine z_calli (va_runV (As := [.int x3, .int x4, .int x7]) (rest := []) S (mX4_mayGo l Γ th x3 x4 x7 μ _ hp) (cwV 3 hts (lw_V q1883 q1885 qs109 q132 q1886) rfl rfl rfl hX4_mayGo ⟨Nat.le_of_ble_eq_true rfl, Nat.le_of_ble_eq_true rfl⟩) (hB.preV (tT hB) rfl rfl) rfl rfl hl.1 rfl (lv_room (Nat.le_of_ble_eq_true rfl)) dX4_laysMost_164 ⟨Nat.le_refl _, Nat.le_refl _⟩) hB (fun r2 μ1 H locs hp hB => ?_)
  refine lv_if_ne (tgt := 173) hx hb dX4_laysMost_167 rfl (fun c0 => ?_) (fun c0 => ?_)
  · have hp := zif hp c0
    refine lv_aload_n hx hb dX4_laysMost_173 rfl (lv_at hl 0 rfl) ?_
    refine lv_iload_n hx hb dX4_laysMost_174 rfl (lv_at hl 1 rfl) ?_
    refine lv_iload_n hx hb dX4_laysMost_175 rfl (lv_at hl 2 rfl) ?_
    refine lv_iload hx hb dX4_laysMost_176 (lv_at hl 3 rfl) ?_
    refine lv_iload hx hb dX4_laysMost_178 (lv_at hl 5 rfl) ?_
    refine z_calll (va_runV (As := [.int x1, .int x3, .int x4, .int x7]) (rest := []) S (mX4_goesBy l Γ th x1 x3 x4 x7 μ1 _ hp) (cwV 4 hts (lw_V q1891 q1893 qs111 q132 q1894) rfl rfl rfl hX4_goesBy ⟨Nat.le_of_ble_eq_true rfl, Nat.le_of_ble_eq_true rfl⟩) (hB.preV (tT hB) rfl rfl) rfl rfl hl.1 rfl (lv_room (Nat.le_of_ble_eq_true rfl)) dX4_laysMost_180 ⟨Nat.le_refl _, Nat.le_refl _⟩) hB (fun r4 μ3 H locs hp hB => ?_)
    refine lv_lstore (lv' := [(8, .long r4), (0, .ref th), (1, .int x1), (3, .int x3), (4, .int x4), (5, .long x5), (7, .int x7)]) hx hb dX4_laysMost_183 hl (by decide) rfl (fun ls hl => ?_)
    refine lv_lload hx hb dX4_laysMost_185 (lv_at hl 0 rfl) ?_
    refine lv_lload hx hb dX4_laysMost_187 (lv_at hl 5 rfl) ?_
    refine W.lcmp hx hb dX4_laysMost_189 ?_
    refine lv_if_le (tgt := 198) hx hb dX4_laysMost_190 rfl (fun c0 => ?_) (fun c0 => ?_)
    · have hp := zit hp c0
      refine lv_lload hx hb dX4_laysMost_198 (lv_at hl 5 rfl) ?_
      refine lv_lstore (lv' := [(5, .long x5), (8, .long r4), (0, .ref th), (1, .int x1), (3, .int x3), (4, .int x4), (7, .int x7)]) hx hb dX4_laysMost_200 hl (by decide) rfl (fun ls hl => ?_)
      refine lv_iinc (v := (x7 + (nI 1))) (lv' := [(7, .int (x7 + (nI 1))), (5, .long x5), (8, .long r4), (0, .ref th), (1, .int x1), (3, .int x3), (4, .int x4)]) hx hb dX4_laysMost_202 hl (k := 6) rfl rfl (by decide) rfl (fun ls hl => ?_)
      refine lv_goto (tgt := 132) hx hb dX4_laysMost_205 rfl ?_
      exact hK132 x3 x4 x5 (x7 + (nI 1)) μ3 _ _ _ hp hB (lv_sub hl [3, 4, 5, 6, 1, 0] rfl)
    · have hp := zif hp c0
      refine lv_lload hx hb dX4_laysMost_193 (lv_at hl 0 rfl) ?_
      refine lv_goto (tgt := 200) hx hb dX4_laysMost_195 rfl ?_
      refine lv_lstore (lv' := [(5, .long r4), (8, .long r4), (0, .ref th), (1, .int x1), (3, .int x3), (4, .int x4), (7, .int x7)]) hx hb dX4_laysMost_200 hl (by decide) rfl (fun ls hl => ?_)
      refine lv_iinc (v := (x7 + (nI 1))) (lv' := [(7, .int (x7 + (nI 1))), (5, .long r4), (8, .long r4), (0, .ref th), (1, .int x1), (3, .int x3), (4, .int x4)]) hx hb dX4_laysMost_202 hl (k := 6) rfl rfl (by decide) rfl (fun ls hl => ?_)
      refine lv_goto (tgt := 132) hx hb dX4_laysMost_205 rfl ?_
      exact hK132 x3 x4 r4 (x7 + (nI 1)) μ3 _ _ _ hp hB (lv_sub hl [3, 4, 5, 6, 1, 0] rfl)
  · have hp := zit hp c0
    refine lv_goto (tgt := 202) hx hb dX4_laysMost_170 rfl ?_
    refine lv_iinc (v := (x7 + (nI 1))) (lv' := [(7, .int (x7 + (nI 1))), (0, .ref th), (1, .int x1), (3, .int x3), (4, .int x4), (5, .long x5)]) hx hb dX4_laysMost_202 hl (k := 5) rfl rfl (by decide) rfl (fun ls hl => ?_)
    refine lv_goto (tgt := 132) hx hb dX4_laysMost_205 rfl ?_
    exact hK132 x3 x4 x5 (x7 + (nI 1)) μ1 _ _ _ hp hB (lv_sub hl [1, 2, 3, 4, 5, 0] rfl)
def pX4_laysMost_132 (th : Nat) (x1 : Int32) (K110 : Int32 → zM → Prop) (K117 : Int32 → Int32 → zM → Prop) (Q : zM → Prop) : Nat → Int32 → Int32 → Int64 → Int32 → zM → Prop
  | 0, _, _, _, _, _ => False
  | n + 1, x3, x4, x5, x7, μ => (if (nI 8) < x7 then (vp_in (((nI 9) * x3) + x4) 549 ∧ zpJ μ (th + 10) (((nI 9) * x3) + x4).toNatClampNeg x5 fun μ1 => K117 x3 (x4 + (nI 1)) μ1) else (if x4 = (nI 8) then pX4_laysMost_158 th x1 K110 K117 (fun v0 v1 v2 v3 ν => pX4_laysMost_132 th x1 K110 K117 Q n v0 v1 v2 v3 ν) Q x3 x4 x5 x7 μ else (vp_in (nI 20) 3594 ∧ (if (zI μ (th + 1) (nI 20).toNatClampNeg) ≤ x4 then pX4_laysMost_132 th x1 K110 K117 Q n x3 x4 x5 (x7 + (nI 1)) μ else pX4_laysMost_158 th x1 K110 K117 (fun v0 v1 v2 v3 ν => pX4_laysMost_132 th x1 K110 K117 Q n v0 v1 v2 v3 ν) Q x3 x4 x5 x7 μ))))
set_option maxHeartbeats 4000000 in
set_option maxRecDepth 100000 in
theorem wX4_laysMost_132 {p : Program} {l : Launch} {e : Env} {s : State} {m : MethodId} {args : Array Value} {below : List Frame} {meth : Method} {c : Code} {Γ : zG} {μ0 : zM} {Q : zM → Prop} {K110 : Int32 → zM → Prop} {K117 : Int32 → Int32 → zM → Prop} (X : zCx p m c cX4_laysMost 10 s args RX4 meth none) (th : Nat) (x1 : Int32) (hK110 : ∀ (x3 : Int32) (μ : zM) (H : Heap) (locs : List Loc) (ls : Array Slot), K110 x3 μ → zB Γ (tSh th) (zA μ0) μ0 s μ H locs → lv_has ls 10 [(0, .ref th), (1, .int x1), (3, .int x3)] → W p l e ({ frames := 5, cells := 0, slots := 0, locals := 120 } : Room) s m args below meth c H locs 0 0 (MQ below (va_Qv Q (zPost Γ (tSh th) μ0) (zA μ0)) args s 0 0 (zA μ0)) (F0 m 110 ls [])) (hK117 : ∀ (x3 : Int32) (x4 : Int32) (μ : zM) (H : Heap) (locs : List Loc) (ls : Array Slot), K117 x3 x4 μ → zB Γ (tSh th) (zA μ0) μ0 s μ H locs → lv_has ls 10 [(0, .ref th), (1, .int x1), (3, .int x3), (4, .int x4)] → W p l e ({ frames := 5, cells := 0, slots := 0, locals := 120 } : Room) s m args below meth c H locs 0 0 (MQ below (va_Qv Q (zPost Γ (tSh th) μ0) (zA μ0)) args s 0 0 (zA μ0)) (F0 m 117 ls [])) : ∀ (n : Nat) (x3 : Int32) (x4 : Int32) (x5 : Int64) (x7 : Int32) (μ : zM) (H : Heap) (locs : List Loc) (ls : Array Slot), pX4_laysMost_132 th x1 K110 K117 Q n x3 x4 x5 x7 μ → zB Γ (tSh th) (zA μ0) μ0 s μ H locs → lv_has ls 10 [(0, .ref th), (1, .int x1), (3, .int x3), (4, .int x4), (5, .long x5), (7, .int x7)] → W p l e ({ frames := 5, cells := 0, slots := 0, locals := 120 } : Room) s m args below meth c H locs 0 0 (MQ below (va_Qv Q (zPost Γ (tSh th) μ0) (zA μ0)) args s 0 0 (zA μ0)) (F0 m 132 ls []) := by
  have S := X.1
  obtain ⟨hx, hb, hml, hown, hts⟩ := X.1
  intro n
  induction n with
  | zero =>
    intro x3 x4 x5 x7 μ H locs ls hp
    exact hp.elim
  | succ n ih =>
    intro x3 x4 x5 x7 μ H locs ls hp hB hl
    unfold pX4_laysMost_132 at hp
    refine lv_iload hx hb dX4_laysMost_132 (lv_at hl 5 rfl) ?_
    refine lv_bipush (v := (nI 8)) hx hb dX4_laysMost_134 rfl ?_
    refine lv_icmp_gt (tgt := 208) hx hb dX4_laysMost_136 rfl (fun c0 => ?_) (fun c0 => ?_)
    · have hp := zit hp c0
      refine lv_aload_n hx hb dX4_laysMost_208 rfl (lv_at hl 0 rfl) ?_
      refine g_getr S hB (tT hB) rfl (T := TX4) (N := 38) (C := RX4) rfl in_X4 24 (by decide) (by decide) q1416 (fun _ h9 => h9) (fun _ => rfl) (tA hB 9 rfl).1 dX4_laysMost_209 ?_
      refine lv_bipush (v := (nI 9)) hx hb dX4_laysMost_212 rfl ?_
      refine lv_iload_n hx hb dX4_laysMost_214 rfl (lv_at hl 2 rfl) ?_
      refine lv_imul hx hb dX4_laysMost_215 ?_
      refine lv_iload hx hb dX4_laysMost_216 (lv_at hl 3 rfl) ?_
      refine lv_iadd hx hb dX4_laysMost_218 ?_
      refine lv_lload hx hb dX4_laysMost_219 (lv_at hl 4 rfl) ?_
      obtain ⟨hi, hp⟩ := hp
      obtain ⟨μ1, eμ1, hp⟩ := zpJ_e hp
      refine g_last S hB (tA hB 9 rfl).2 hi dX4_laysMost_221 (fun H locs hB => ?_)
      rw [← eμ1] at hB
      refine lv_iinc (v := (x4 + (nI 1))) (lv' := [(4, .int (x4 + (nI 1))), (0, .ref th), (1, .int x1), (3, .int x3), (5, .long x5), (7, .int x7)]) hx hb dX4_laysMost_222 hl (k := 3) rfl rfl (by decide) rfl (fun ls hl => ?_)
      refine lv_goto (tgt := 117) hx hb dX4_laysMost_225 rfl ?_
      exact hK117 x3 (x4 + (nI 1)) μ1 _ _ _ hp hB (lv_sub hl [1, 2, 3, 0] rfl)
    · have hp := zif hp c0
      refine lv_iload hx hb dX4_laysMost_139 (lv_at hl 3 rfl) ?_
      refine lv_bipush (v := (nI 8)) hx hb dX4_laysMost_141 rfl ?_
      refine lv_icmp_eq (tgt := 158) hx hb dX4_laysMost_143 rfl (fun c0 => ?_) (fun c0 => ?_)
      · have hp := zit hp c0
        exact wX4_laysMost_158 X th x1 hK110 hK117 (fun v0 v1 v2 v3 ν H2 L2 ls2 h2 b2 l2 => ih v0 v1 v2 v3 ν H2 L2 ls2 h2 b2 l2) x3 x4 x5 x7 μ _ _ _ hp hB (lv_sub hl [0, 1, 2, 3, 4, 5] rfl)
      · have hp := zif hp c0
        refine lv_iload hx hb dX4_laysMost_146 (lv_at hl 3 rfl) ?_
        refine lv_aload_n hx hb dX4_laysMost_148 rfl (lv_at hl 0 rfl) ?_
        refine g_getr S hB (tT hB) rfl (T := TX4) (N := 38) (C := RX4) rfl in_X4 1 (by decide) (by decide) q1393 (fun _ h9 => h9) (fun _ => rfl) (tA hB 0 rfl).1 dX4_laysMost_149 ?_
        refine lv_bipush (v := (nI 20)) hx hb dX4_laysMost_152 rfl ?_
        obtain ⟨hi, hp⟩ := hp
        refine g_iald S hB (tA hB 0 rfl).2 hi dX4_laysMost_154 ?_
        refine lv_icmp_ge (tgt := 202) hx hb dX4_laysMost_155 rfl (fun c0 => ?_) (fun c0 => ?_)
        · have hp := zit hp c0
          refine lv_iinc (v := (x7 + (nI 1))) (lv' := [(7, .int (x7 + (nI 1))), (0, .ref th), (1, .int x1), (3, .int x3), (4, .int x4), (5, .long x5)]) hx hb dX4_laysMost_202 hl (k := 5) rfl rfl (by decide) rfl (fun ls hl => ?_)
          refine lv_goto (tgt := 132) hx hb dX4_laysMost_205 rfl ?_
          exact ih x3 x4 x5 (x7 + (nI 1)) μ _ _ _ hp hB (lv_sub hl [1, 2, 3, 4, 5, 0] rfl)
        · have hp := zif hp c0
          exact wX4_laysMost_158 X th x1 hK110 hK117 (fun v0 v1 v2 v3 ν H2 L2 ls2 h2 b2 l2 => ih v0 v1 v2 v3 ν H2 L2 ls2 h2 b2 l2) x3 x4 x5 x7 μ _ _ _ hp hB (lv_sub hl [0, 1, 2, 3, 4, 5] rfl)
def pX4_laysMost_117 (th : Nat) (x1 : Int32) (K110 : Int32 → zM → Prop) (Q : zM → Prop) : Nat → Int32 → Int32 → zM → Prop
  | 0, _, _, _ => False
  | n + 1, x3, x4, μ => (if (nI 8) < x4 then K110 (x3 - (nI 1)) μ else ∃ k1, pX4_laysMost_132 th x1 K110 (fun v0 v1 ν => pX4_laysMost_117 th x1 K110 Q n v0 v1 ν) Q k1 x3 x4 (-1000000000000000 : Int64) (nI 0) μ)
set_option maxHeartbeats 4000000 in
set_option maxRecDepth 100000 in
theorem wX4_laysMost_117 {p : Program} {l : Launch} {e : Env} {s : State} {m : MethodId} {args : Array Value} {below : List Frame} {meth : Method} {c : Code} {Γ : zG} {μ0 : zM} {Q : zM → Prop} {K110 : Int32 → zM → Prop} (X : zCx p m c cX4_laysMost 10 s args RX4 meth none) (th : Nat) (x1 : Int32) (hK110 : ∀ (x3 : Int32) (μ : zM) (H : Heap) (locs : List Loc) (ls : Array Slot), K110 x3 μ → zB Γ (tSh th) (zA μ0) μ0 s μ H locs → lv_has ls 10 [(0, .ref th), (1, .int x1), (3, .int x3)] → W p l e ({ frames := 5, cells := 0, slots := 0, locals := 120 } : Room) s m args below meth c H locs 0 0 (MQ below (va_Qv Q (zPost Γ (tSh th) μ0) (zA μ0)) args s 0 0 (zA μ0)) (F0 m 110 ls [])) : ∀ (n : Nat) (x3 : Int32) (x4 : Int32) (μ : zM) (H : Heap) (locs : List Loc) (ls : Array Slot), pX4_laysMost_117 th x1 K110 Q n x3 x4 μ → zB Γ (tSh th) (zA μ0) μ0 s μ H locs → lv_has ls 10 [(0, .ref th), (1, .int x1), (3, .int x3), (4, .int x4)] → W p l e ({ frames := 5, cells := 0, slots := 0, locals := 120 } : Room) s m args below meth c H locs 0 0 (MQ below (va_Qv Q (zPost Γ (tSh th) μ0) (zA μ0)) args s 0 0 (zA μ0)) (F0 m 117 ls []) := by
  have S := X.1
  obtain ⟨hx, hb, hml, hown, hts⟩ := X.1
  intro n
  induction n with
  | zero =>
    intro x3 x4 μ H locs ls hp
    exact hp.elim
  | succ n ih =>
    intro x3 x4 μ H locs ls hp hB hl
    unfold pX4_laysMost_117 at hp
    refine lv_iload hx hb dX4_laysMost_117 (lv_at hl 3 rfl) ?_
    refine lv_bipush (v := (nI 8)) hx hb dX4_laysMost_119 rfl ?_
    refine lv_icmp_gt (tgt := 228) hx hb dX4_laysMost_121 rfl (fun c0 => ?_) (fun c0 => ?_)
    · have hp := zit hp c0
      refine lv_iinc (v := (x3 - (nI 1))) (lv' := [(3, .int (x3 - (nI 1))), (0, .ref th), (1, .int x1), (4, .int x4)]) hx hb dX4_laysMost_228 hl (k := 2) rfl (by rw [Int32.sub_eq_add_neg]; rfl) (by decide) rfl (fun ls hl => ?_)
      refine lv_goto (tgt := 110) hx hb dX4_laysMost_231 rfl ?_
      exact hK110 (x3 - (nI 1)) μ _ _ _ hp hB (lv_sub hl [1, 2, 0] rfl)
    · have hp := zif hp c0
      refine lv_ldc2 (v := (-1000000000000000 : Int64)) hx hb hown (hts _ q1882) dX4_laysMost_124 ?_
      refine lv_lstore (lv' := [(5, .long (-1000000000000000 : Int64)), (0, .ref th), (1, .int x1), (3, .int x3), (4, .int x4)]) hx hb dX4_laysMost_127 hl (by decide) rfl (fun ls hl => ?_)
      refine lv_iconst (v := (nI 0)) hx hb dX4_laysMost_129 rfl ?_
      refine lv_istore (lv' := [(7, .int (nI 0)), (5, .long (-1000000000000000 : Int64)), (0, .ref th), (1, .int x1), (3, .int x3), (4, .int x4)]) hx hb dX4_laysMost_130 hl (by decide) rfl (fun ls hl => ?_)
      obtain ⟨n1, hp⟩ := hp
      exact wX4_laysMost_132 X th x1 hK110 (fun v0 v1 ν H2 L2 ls2 h2 b2 l2 => ih v0 v1 ν H2 L2 ls2 h2 b2 l2) n1 x3 x4 (-1000000000000000 : Int64) (nI 0) μ _ _ _ hp hB (lv_sub hl [2, 3, 4, 5, 1, 0] rfl)
def pX4_laysMost_110 (th : Nat) (x1 : Int32) (Q : zM → Prop) : Nat → Int32 → zM → Prop
  | 0, _, _ => False
  | n + 1, x3, μ => (if x3 < 0 then Q μ else ∃ k1, pX4_laysMost_117 th x1 (fun v0 ν => pX4_laysMost_110 th x1 Q n v0 ν) Q k1 x3 (nI 0) μ)
set_option maxHeartbeats 4000000 in
set_option maxRecDepth 100000 in
theorem wX4_laysMost_110 {p : Program} {l : Launch} {e : Env} {s : State} {m : MethodId} {args : Array Value} {below : List Frame} {meth : Method} {c : Code} {Γ : zG} {μ0 : zM} {Q : zM → Prop} (X : zCx p m c cX4_laysMost 10 s args RX4 meth none) (th : Nat) (x1 : Int32) : ∀ (n : Nat) (x3 : Int32) (μ : zM) (H : Heap) (locs : List Loc) (ls : Array Slot), pX4_laysMost_110 th x1 Q n x3 μ → zB Γ (tSh th) (zA μ0) μ0 s μ H locs → lv_has ls 10 [(0, .ref th), (1, .int x1), (3, .int x3)] → W p l e ({ frames := 5, cells := 0, slots := 0, locals := 120 } : Room) s m args below meth c H locs 0 0 (MQ below (va_Qv Q (zPost Γ (tSh th) μ0) (zA μ0)) args s 0 0 (zA μ0)) (F0 m 110 ls []) := by
  have S := X.1
  obtain ⟨hx, hb, hml, hown, hts⟩ := X.1
  intro n
  induction n with
  | zero =>
    intro x3 μ H locs ls hp
    exact hp.elim
  | succ n ih =>
    intro x3 μ H locs ls hp hB hl
    unfold pX4_laysMost_110 at hp
    refine lv_iload_n hx hb dX4_laysMost_110 rfl (lv_at hl 2 rfl) ?_
    refine lv_if_lt (tgt := 234) hx hb dX4_laysMost_111 rfl (fun c0 => ?_) (fun c0 => ?_)
    · have hp := zit hp c0
      exact zret_v X hB hp dX4_laysMost_234
    · have hp := zif hp c0
      refine lv_iconst (v := (nI 0)) hx hb dX4_laysMost_114 rfl ?_
      refine lv_istore (lv' := [(4, .int (nI 0)), (0, .ref th), (1, .int x1), (3, .int x3)]) hx hb dX4_laysMost_115 hl (by decide) rfl (fun ls hl => ?_)
      obtain ⟨n1, hp⟩ := hp
      exact wX4_laysMost_117 X th x1 (fun v0 ν H2 L2 ls2 h2 b2 l2 => ih v0 ν H2 L2 ls2 h2 b2 l2) n1 x3 (nI 0) μ _ _ _ hp hB (lv_sub hl [1, 2, 3, 0] rfl)
def pX4_laysMost_76 (th : Nat) (x1 : Int32) (Q : zM → Prop) : Nat → Int32 → zM → Prop
  | 0, _, _ => False
  | n + 1, x3, μ => (if (nI 8) < x3 then ∃ k1, pX4_laysMost_110 th x1 Q k1 ((zI μ th 26) - (nI 1)) μ else (vp_in (((nI 9) * (zI μ th 26)) + x3) 549 ∧ zpJ μ (th + 10) (((nI 9) * (zI μ th 26)) + x3).toNatClampNeg (0 : Int64) fun μ1 => pX4_laysMost_76 th x1 Q n (x3 + (nI 1)) μ1))
set_option maxHeartbeats 4000000 in
set_option maxRecDepth 100000 in
theorem wX4_laysMost_76 {p : Program} {l : Launch} {e : Env} {s : State} {m : MethodId} {args : Array Value} {below : List Frame} {meth : Method} {c : Code} {Γ : zG} {μ0 : zM} {Q : zM → Prop} (X : zCx p m c cX4_laysMost 10 s args RX4 meth none) (th : Nat) (x1 : Int32) : ∀ (n : Nat) (x3 : Int32) (μ : zM) (H : Heap) (locs : List Loc) (ls : Array Slot), pX4_laysMost_76 th x1 Q n x3 μ → zB Γ (tSh th) (zA μ0) μ0 s μ H locs → lv_has ls 10 [(0, .ref th), (1, .int x1), (3, .int x3)] → W p l e ({ frames := 5, cells := 0, slots := 0, locals := 120 } : Room) s m args below meth c H locs 0 0 (MQ below (va_Qv Q (zPost Γ (tSh th) μ0) (zA μ0)) args s 0 0 (zA μ0)) (F0 m 76 ls []) := by
  have S := X.1
  obtain ⟨hx, hb, hml, hown, hts⟩ := X.1
  intro n
  induction n with
  | zero =>
    intro x3 μ H locs ls hp
    exact hp.elim
  | succ n ih =>
    intro x3 μ H locs ls hp hB hl
    unfold pX4_laysMost_76 at hp
    refine lv_iload_n hx hb dX4_laysMost_76 rfl (lv_at hl 2 rfl) ?_
    refine lv_bipush (v := (nI 8)) hx hb dX4_laysMost_77 rfl ?_
    refine lv_icmp_gt (tgt := 103) hx hb dX4_laysMost_79 rfl (fun c0 => ?_) (fun c0 => ?_)
    · have hp := zit hp c0
      refine lv_aload_n hx hb dX4_laysMost_103 rfl (lv_at hl 0 rfl) ?_
      refine g_get S hB (tT hB) rfl (T := TX4) (N := 38) (C := RX4) rfl in_X4 26 (by decide) (by decide) q1418 (fun _ h9 => h9) (v := .int (zI μ th 26)) rfl dX4_laysMost_104 ?_
      refine lv_iconst (v := (nI 1)) hx hb dX4_laysMost_107 rfl ?_
      refine lv_isub hx hb dX4_laysMost_108 ?_
      refine lv_istore_n (lv' := [(3, .int ((zI μ th 26) - (nI 1))), (0, .ref th), (1, .int x1)]) hx hb dX4_laysMost_109 rfl hl (by decide) rfl (fun ls hl => ?_)
      obtain ⟨n1, hp⟩ := hp
      exact wX4_laysMost_110 X th x1 n1 ((zI μ th 26) - (nI 1)) μ _ _ _ hp hB (lv_sub hl [1, 2, 0] rfl)
    · have hp := zif hp c0
      refine lv_aload_n hx hb dX4_laysMost_82 rfl (lv_at hl 0 rfl) ?_
      refine g_getr S hB (tT hB) rfl (T := TX4) (N := 38) (C := RX4) rfl in_X4 24 (by decide) (by decide) q1416 (fun _ h9 => h9) (fun _ => rfl) (tA hB 9 rfl).1 dX4_laysMost_83 ?_
      refine lv_bipush (v := (nI 9)) hx hb dX4_laysMost_86 rfl ?_
      refine lv_aload_n hx hb dX4_laysMost_88 rfl (lv_at hl 0 rfl) ?_
      refine g_get S hB (tT hB) rfl (T := TX4) (N := 38) (C := RX4) rfl in_X4 26 (by decide) (by decide) q1418 (fun _ h9 => h9) (v := .int (zI μ th 26)) rfl dX4_laysMost_89 ?_
      refine lv_imul hx hb dX4_laysMost_92 ?_
      refine lv_iload_n hx hb dX4_laysMost_93 rfl (lv_at hl 2 rfl) ?_
      refine lv_iadd hx hb dX4_laysMost_94 ?_
      refine lv_lconst (v := (0 : Int64)) hx hb dX4_laysMost_95 rfl ?_
      obtain ⟨hi, hp⟩ := hp
      obtain ⟨μ1, eμ1, hp⟩ := zpJ_e hp
      refine g_last S hB (tA hB 9 rfl).2 hi dX4_laysMost_96 (fun H locs hB => ?_)
      rw [← eμ1] at hB
      refine lv_iinc (v := (x3 + (nI 1))) (lv' := [(3, .int (x3 + (nI 1))), (0, .ref th), (1, .int x1)]) hx hb dX4_laysMost_97 hl (k := 2) rfl rfl (by decide) rfl (fun ls hl => ?_)
      refine lv_goto (tgt := 76) hx hb dX4_laysMost_100 rfl ?_
      exact ih (x3 + (nI 1)) μ1 _ _ _ hp hB (lv_sub hl [1, 2, 0] rfl)
def pX4_laysMost_23 (th : Nat) (x1 : Int32) (Q : zM → Prop) : Nat → Int32 → zM → Prop
  | 0, _, _ => False
  | n + 1, x3, μ => (vp_in (nI 20) 3594 ∧ (if (zI μ (th + 1) (nI 20).toNatClampNeg) ≤ x3 then ∃ k1, pX4_laysMost_76 th x1 Q k1 (nI 0) μ else (pX4_livesOn th x3 μ fun r2 μ1 => (if r2 = (-1 : Int32) then pX4_laysMost_57 th x1 (fun v0 ν => pX4_laysMost_23 th x1 Q n v0 ν) Q x3 (zI μ th 25) μ1 else (pX4_livesOn th x3 μ1 fun r4 μ3 => (if r4 = x1 then pX4_laysMost_57 th x1 (fun v0 ν => pX4_laysMost_23 th x1 Q n v0 ν) Q x3 (zI μ th 25) μ3 else pX4_laysMost_64 th x1 (fun v0 ν => pX4_laysMost_23 th x1 Q n v0 ν) Q x3 (nI 0) (zI μ th 25) μ3))))))
set_option maxHeartbeats 4000000 in
set_option maxRecDepth 100000 in
theorem wX4_laysMost_23 {p : Program} {l : Launch} {e : Env} {s : State} {m : MethodId} {args : Array Value} {below : List Frame} {meth : Method} {c : Code} {Γ : zG} {μ0 : zM} {Q : zM → Prop} (X : zCx p m c cX4_laysMost 10 s args RX4 meth none) (th : Nat) (x1 : Int32) : ∀ (n : Nat) (x3 : Int32) (μ : zM) (H : Heap) (locs : List Loc) (ls : Array Slot), pX4_laysMost_23 th x1 Q n x3 μ → zB Γ (tSh th) (zA μ0) μ0 s μ H locs → lv_has ls 10 [(0, .ref th), (1, .int x1), (3, .int x3)] → W p l e ({ frames := 5, cells := 0, slots := 0, locals := 120 } : Room) s m args below meth c H locs 0 0 (MQ below (va_Qv Q (zPost Γ (tSh th) μ0) (zA μ0)) args s 0 0 (zA μ0)) (F0 m 23 ls []) := by
  have S := X.1
  obtain ⟨hx, hb, hml, hown, hts⟩ := X.1
  intro n
  induction n with
  | zero =>
    intro x3 μ H locs ls hp
    exact hp.elim
  | succ n ih =>
    intro x3 μ H locs ls hp hB hl
    unfold pX4_laysMost_23 at hp
    refine lv_iload_n hx hb dX4_laysMost_23 rfl (lv_at hl 2 rfl) ?_
    refine lv_aload_n hx hb dX4_laysMost_24 rfl (lv_at hl 0 rfl) ?_
    refine g_getr S hB (tT hB) rfl (T := TX4) (N := 38) (C := RX4) rfl in_X4 1 (by decide) (by decide) q1393 (fun _ h9 => h9) (fun _ => rfl) (tA hB 0 rfl).1 dX4_laysMost_25 ?_
    refine lv_bipush (v := (nI 20)) hx hb dX4_laysMost_28 rfl ?_
    obtain ⟨hi, hp⟩ := hp
    refine g_iald S hB (tA hB 0 rfl).2 hi dX4_laysMost_30 ?_
    refine lv_icmp_ge (tgt := 74) hx hb dX4_laysMost_31 rfl (fun c0 => ?_) (fun c0 => ?_)
    · have hp := zit hp c0
      refine lv_iconst (v := (nI 0)) hx hb dX4_laysMost_74 rfl ?_
      refine lv_istore_n (lv' := [(3, .int (nI 0)), (0, .ref th), (1, .int x1)]) hx hb dX4_laysMost_75 rfl hl (by decide) rfl (fun ls hl => ?_)
      obtain ⟨n1, hp⟩ := hp
      exact wX4_laysMost_76 X th x1 n1 (nI 0) μ _ _ _ hp hB (lv_sub hl [1, 2, 0] rfl)
    · have hp := zif hp c0
      refine lv_aload_n hx hb dX4_laysMost_34 rfl (lv_at hl 0 rfl) ?_
      refine lv_dup hx hb dX4_laysMost_35 rfl ?_
      refine g_get S hB (tT hB) rfl (T := TX4) (N := 38) (C := RX4) rfl in_X4 25 (by decide) (by decide) q1417 (fun _ h9 => h9) (v := .int (zI μ th 25)) rfl dX4_laysMost_36 ?_
      refine lv_aload_n hx hb dX4_laysMost_39 rfl (lv_at hl 0 rfl) ?_
      refine lv_iload_n hx hb dX4_laysMost_40 rfl (lv_at hl 2 rfl) ?_
      refine z_calli (va_runV (As := [.int x3]) (rest := [.int (zI μ th 25), .ref th]) S (mX4_livesOn l Γ th x3 μ _ hp) (cwV 1 hts (lw_V q1622 q1624 qs80 q132 q1625) rfl rfl rfl hX4_livesOn ⟨Nat.le_of_ble_eq_true rfl, Nat.le_of_ble_eq_true rfl⟩) (hB.preV (tT hB) rfl rfl) rfl rfl hl.1 rfl (lv_room (Nat.le_of_ble_eq_true rfl)) dX4_laysMost_41 ⟨Nat.le_refl _, Nat.le_refl _⟩) hB (fun r2 μ1 H locs hp hB => ?_)
      refine lv_iconst (v := (-1 : Int32)) hx hb dX4_laysMost_44 rfl ?_
      refine lv_icmp_eq (tgt := 57) hx hb dX4_laysMost_45 rfl (fun c0 => ?_) (fun c0 => ?_)
      · have hp := zit hp c0
        exact wX4_laysMost_57 X th x1 (fun v0 ν H2 L2 ls2 h2 b2 l2 => ih v0 ν H2 L2 ls2 h2 b2 l2) x3 (zI μ th 25) μ1 _ _ _ hp hB (lv_sub hl [0, 1, 2] rfl)
      · have hp := zif hp c0
        refine lv_aload_n hx hb dX4_laysMost_48 rfl (lv_at hl 0 rfl) ?_
        refine lv_iload_n hx hb dX4_laysMost_49 rfl (lv_at hl 2 rfl) ?_
        refine z_calli (va_runV (As := [.int x3]) (rest := [.int (zI μ th 25), .ref th]) S (mX4_livesOn l Γ th x3 μ1 _ hp) (cwV 1 hts (lw_V q1622 q1624 qs80 q132 q1625) rfl rfl rfl hX4_livesOn ⟨Nat.le_of_ble_eq_true rfl, Nat.le_of_ble_eq_true rfl⟩) (hB.preV (tT hB) rfl rfl) rfl rfl hl.1 rfl (lv_room (Nat.le_of_ble_eq_true rfl)) dX4_laysMost_50 ⟨Nat.le_refl _, Nat.le_refl _⟩) hB (fun r4 μ3 H locs hp hB => ?_)
        refine lv_iload_n hx hb dX4_laysMost_53 rfl (lv_at hl 1 rfl) ?_
        refine lv_icmp_ne (tgt := 63) hx hb dX4_laysMost_54 rfl (fun c0 => ?_) (fun c0 => ?_)
        · have hp := zif hp c0
          refine lv_iconst (v := (nI 0)) hx hb dX4_laysMost_63 rfl ?_
          exact wX4_laysMost_64 X th x1 (fun v0 ν H2 L2 ls2 h2 b2 l2 => ih v0 ν H2 L2 ls2 h2 b2 l2) x3 (nI 0) (zI μ th 25) μ3 _ _ _ hp hB (lv_sub hl [0, 1, 2] rfl)
        · have hp := zit hp c0
          exact wX4_laysMost_57 X th x1 (fun v0 ν H2 L2 ls2 h2 b2 l2 => ih v0 ν H2 L2 ls2 h2 b2 l2) x3 (zI μ th 25) μ3 _ _ _ hp hB (lv_sub hl [0, 1, 2] rfl)
def pX4_laysMost (th : Nat) (x1 : Int32) (x2 : Int32) (μ : zM) (Q : zM → Prop) : Prop := (zpI μ th 26 ((nI 12) * x2) fun μ1 => (pX4_laysAll th (zI μ1 th 26) μ1 fun μ2 => (zpI μ2 th 25 (nI 0) fun μ3 => ∃ k1, pX4_laysMost_23 th x1 Q k1 (nI 0) μ3)))
theorem hX4_laysMost : yX4_laysMost.cls = "SunkTowerModel" ∧ yX4_laysMost.cls ≠ "java/lang/invoke/MethodHandle" ∧ yX4_laysMost.cls ≠ "java/lang/invoke/VarHandle" ∧ (parseMethodDescriptor yX4_laysMost.desc).map (fun d => d.parameters.length) = some 2 := by decide +kernel
set_option maxHeartbeats 4000000 in
set_option maxRecDepth 100000 in
theorem mX4_laysMost (l : Launch) (Γ : zG) (th : Nat) (x1 : Int32) (x2 : Int32) (μ : zM) (Q : zM → Prop) (hp : pX4_laysMost th x1 x2 μ Q) : Met l yX4_laysMost (ws_ yX4_laysMost cX4_laysMost 10 none) ({ frames := 5, cells := 0, slots := 0, locals := 120 } : Room) (va_Pc [.ref th, .int x1, .int x2] (zPre Γ (tSh th) μ)) (va_Qv Q (zPost Γ (tSh th) μ) (zA μ)) 0 0 (zA μ) := by
  refine zstart (by decide) (Nat.le_of_ble_eq_true rfl) ?_
  intro p e s m below meth c ls X hnm hB hl
  have X : zCx p m c cX4_laysMost 10 s [.ref th, .int x1, .int x2].toArray RX4 meth none := X
  have S := X.1
  obtain ⟨hx, hb, hml, hown, hts⟩ := X.1
  have hl : lv_has ls 10 [(0, .ref th), (1, .int x1), (2, .int x2)] := hl
  unfold pX4_laysMost at hp
  refine lv_aload_n hx hb dX4_laysMost_0 rfl (lv_at hl 0 rfl) ?_
  refine lv_bipush (v := (nI 12)) hx hb dX4_laysMost_1 rfl ?_
  refine lv_iload_n hx hb dX4_laysMost_3 rfl (lv_at hl 2 rfl) ?_
  refine lv_imul hx hb dX4_laysMost_4 ?_
  obtain ⟨μ1, eμ1, hp⟩ := zpI_e hp
  refine g_putI S hB (tT hB) rfl (T := TX4) (N := 38) (C := RX4) rfl in_X4 26 (by decide) (by decide) (x := ((nI 12) * x2)) tyX4 tyX4_ok nmX4 q1418 (fun _ h9 => h9) rfl (ty := .int) (by decide +kernel) rfl rfl (fun _ _ => rfl) dX4_laysMost_5 (fun H locs hB => ?_)
  rw [← eμ1] at hB
  refine lv_aload_n hx hb dX4_laysMost_8 rfl (lv_at hl 0 rfl) ?_
  refine lv_aload_n hx hb dX4_laysMost_9 rfl (lv_at hl 0 rfl) ?_
  refine g_get S hB (tT hB) rfl (T := TX4) (N := 38) (C := RX4) rfl in_X4 26 (by decide) (by decide) q1418 (fun _ h9 => h9) (v := .int (zI μ1 th 26)) rfl dX4_laysMost_10 ?_
  refine z_callv (va_runV (As := [.int (zI μ1 th 26)]) (rest := []) S (mX4_laysAll l Γ th (zI μ1 th 26) μ1 _ hp) (cwV 1 hts (lw_V q1817 q1819 qs104 q132 q1820) rfl rfl rfl hX4_laysAll ⟨Nat.le_of_ble_eq_true rfl, Nat.le_of_ble_eq_true rfl⟩) (hB.preV (tT hB) rfl rfl) rfl rfl hl.1 rfl (lv_room (Nat.le_of_ble_eq_true rfl)) dX4_laysMost_13 ⟨Nat.le_refl _, Nat.le_refl _⟩) hB (fun μ2 H locs hp hB => ?_)
  refine lv_aload_n hx hb dX4_laysMost_16 rfl (lv_at hl 0 rfl) ?_
  refine lv_iconst (v := (nI 0)) hx hb dX4_laysMost_17 rfl ?_
  obtain ⟨μ3, eμ3, hp⟩ := zpI_e hp
  refine g_putI S hB (tT hB) rfl (T := TX4) (N := 38) (C := RX4) rfl in_X4 25 (by decide) (by decide) (x := (nI 0)) tyX4 tyX4_ok nmX4 q1417 (fun _ h9 => h9) rfl (ty := .int) (by decide +kernel) rfl rfl (fun _ _ => rfl) dX4_laysMost_18 (fun H locs hB => ?_)
  rw [← eμ3] at hB
  refine lv_iconst (v := (nI 0)) hx hb dX4_laysMost_21 rfl ?_
  refine lv_istore_n (lv' := [(3, .int (nI 0)), (0, .ref th), (1, .int x1), (2, .int x2)]) hx hb dX4_laysMost_22 rfl hl (by decide) rfl (fun ls hl => ?_)
  obtain ⟨n1, hp⟩ := hp
  exact wX4_laysMost_23 X th x1 n1 (nI 0) μ3 _ _ _ hp hB (lv_sub hl [1, 2, 0] rfl)
def pX4_goesTo_55 (th : Nat) (x1 : Int32) (Q : Int32 → zM → Prop) : Nat → Int32 → Int32 → Int32 → zM → Prop
  | 0, _, _, _, _ => False
  | n + 1, x4, x5, x6, μ => (if (zI μ th 26) ≤ x6 then Q (-1 : Int32) μ else (pX4_goesIn_2 th x1 x6 x4 μ fun r2 μ1 => (pX4_isMay th x6 μ1 fun r4 μ3 => (if r4 = 0 then pX4_goesTo_55 th x1 Q n r2 x5 (x6 + (nI 1)) μ3 else (if x5 = 0 then (if r2 = (nI 8) then Q (-1 : Int32) μ3 else Q r2 μ3) else pX4_goesTo_55 th x1 Q n r2 (x5 - (nI 1)) (x6 + (nI 1)) μ3)))))
set_option maxHeartbeats 4000000 in
set_option maxRecDepth 100000 in
theorem wX4_goesTo_55 {p : Program} {l : Launch} {e : Env} {s : State} {m : MethodId} {args : Array Value} {below : List Frame} {meth : Method} {c : Code} {Γ : zG} {μ0 : zM} {Q : Int32 → zM → Prop} (X : zCx p m c cX4_goesTo 7 s args RX4 meth (some .int)) (th : Nat) (x1 : Int32) : ∀ (n : Nat) (x4 : Int32) (x5 : Int32) (x6 : Int32) (μ : zM) (H : Heap) (locs : List Loc) (ls : Array Slot), pX4_goesTo_55 th x1 Q n x4 x5 x6 μ → zB Γ (tSh th) (zA μ0) μ0 s μ H locs → lv_has ls 7 [(0, .ref th), (1, .int x1), (4, .int x4), (5, .int x5), (6, .int x6)] → W p l e ({ frames := 6, cells := 0, slots := 0, locals := 149 } : Room) s m args below meth c H locs 0 0 (MQ below (va_Qi Q (zPost Γ (tSh th) μ0) (zA μ0)) args s 0 0 (zA μ0)) (F0 m 55 ls []) := by
  have S := X.1
  obtain ⟨hx, hb, hml, hown, hts⟩ := X.1
  intro n
  induction n with
  | zero =>
    intro x4 x5 x6 μ H locs ls hp
    exact hp.elim
  | succ n ih =>
    intro x4 x5 x6 μ H locs ls hp hB hl
    unfold pX4_goesTo_55 at hp
    refine lv_iload hx hb dX4_goesTo_55 (lv_at hl 4 rfl) ?_
    refine lv_aload_n hx hb dX4_goesTo_57 rfl (lv_at hl 0 rfl) ?_
    refine g_get S hB (tT hB) rfl (T := TX4) (N := 38) (C := RX4) rfl in_X4 26 (by decide) (by decide) q1418 (fun _ h9 => h9) (v := .int (zI μ th 26)) rfl dX4_goesTo_58 ?_
    refine lv_icmp_ge (tgt := 115) hx hb dX4_goesTo_61 rfl (fun c0 => ?_) (fun c0 => ?_)
    · have hp := zit hp c0
      refine lv_iconst (v := (-1 : Int32)) hx hb dX4_goesTo_115 rfl ?_
      exact zret_i X hB hp dX4_goesTo_116
    · have hp := zif hp c0
      refine lv_aload_n hx hb dX4_goesTo_64 rfl (lv_at hl 0 rfl) ?_
      refine lv_iload_n hx hb dX4_goesTo_65 rfl (lv_at hl 1 rfl) ?_
      refine lv_iload hx hb dX4_goesTo_66 (lv_at hl 4 rfl) ?_
      refine lv_iload hx hb dX4_goesTo_68 (lv_at hl 2 rfl) ?_
      refine z_calli (va_runV (As := [.int x1, .int x6, .int x4]) (rest := []) S (mX4_goesIn_2 l Γ th x1 x6 x4 μ _ hp) (cwV 3 hts (lw_V q1907 q1909 qs114 q132 q1910) rfl rfl rfl hX4_goesIn_2 ⟨Nat.le_of_ble_eq_true rfl, Nat.le_of_ble_eq_true rfl⟩) (hB.preV (tT hB) rfl rfl) rfl rfl hl.1 rfl (lv_room (Nat.le_of_ble_eq_true rfl)) dX4_goesTo_70 ⟨Nat.le_refl _, Nat.le_refl _⟩) hB (fun r2 μ1 H locs hp hB => ?_)
      refine lv_istore (lv' := [(4, .int r2), (0, .ref th), (1, .int x1), (5, .int x5), (6, .int x6)]) hx hb dX4_goesTo_73 hl (by decide) rfl (fun ls hl => ?_)
      refine lv_aload_n hx hb dX4_goesTo_75 rfl (lv_at hl 1 rfl) ?_
      refine lv_iload hx hb dX4_goesTo_76 (lv_at hl 4 rfl) ?_
      refine z_calli (va_runV (As := [.int x6]) (rest := []) S (mX4_isMay l Γ th x6 μ1 _ hp) (cwV 1 hts (lw_V q1887 q1889 qs110 q132 q1890) rfl rfl rfl hX4_isMay ⟨Nat.le_of_ble_eq_true rfl, Nat.le_of_ble_eq_true rfl⟩) (hB.preV (tT hB) rfl rfl) rfl rfl hl.1 rfl (lv_room (Nat.le_of_ble_eq_true rfl)) dX4_goesTo_78 ⟨Nat.le_refl _, Nat.le_refl _⟩) hB (fun r4 μ3 H locs hp hB => ?_)
      refine lv_if_ne (tgt := 87) hx hb dX4_goesTo_81 rfl (fun c0 => ?_) (fun c0 => ?_)
      · have hp := zif hp c0
        refine lv_iload hx hb dX4_goesTo_87 (lv_at hl 3 rfl) ?_
        refine lv_if_ne (tgt := 106) hx hb dX4_goesTo_89 rfl (fun c0 => ?_) (fun c0 => ?_)
        · have hp := zif hp c0
          refine lv_iinc (v := (x5 - (nI 1))) (lv' := [(5, .int (x5 - (nI 1))), (4, .int r2), (0, .ref th), (1, .int x1), (6, .int x6)]) hx hb dX4_goesTo_106 hl (k := 3) rfl (by rw [Int32.sub_eq_add_neg]; rfl) (by decide) rfl (fun ls hl => ?_)
          refine lv_iinc (v := (x6 + (nI 1))) (lv' := [(6, .int (x6 + (nI 1))), (5, .int (x5 - (nI 1))), (4, .int r2), (0, .ref th), (1, .int x1)]) hx hb dX4_goesTo_109 hl (k := 4) rfl rfl (by decide) rfl (fun ls hl => ?_)
          refine lv_goto (tgt := 55) hx hb dX4_goesTo_112 rfl ?_
          exact ih r2 (x5 - (nI 1)) (x6 + (nI 1)) μ3 _ _ _ hp hB (lv_sub hl [3, 4, 2, 1, 0] rfl)
        · have hp := zit hp c0
          refine lv_iload hx hb dX4_goesTo_92 (lv_at hl 0 rfl) ?_
          refine lv_bipush (v := (nI 8)) hx hb dX4_goesTo_94 rfl ?_
          refine lv_icmp_ne (tgt := 103) hx hb dX4_goesTo_96 rfl (fun c0 => ?_) (fun c0 => ?_)
          · have hp := zif hp c0
            refine lv_iload hx hb dX4_goesTo_103 (lv_at hl 0 rfl) ?_
            exact zret_i X hB hp dX4_goesTo_105
          · have hp := zit hp c0
            refine lv_iconst (v := (-1 : Int32)) hx hb dX4_goesTo_99 rfl ?_
            refine lv_goto (tgt := 105) hx hb dX4_goesTo_100 rfl ?_
            exact zret_i X hB hp dX4_goesTo_105
      · have hp := zit hp c0
        refine lv_goto (tgt := 109) hx hb dX4_goesTo_84 rfl ?_
        refine lv_iinc (v := (x6 + (nI 1))) (lv' := [(6, .int (x6 + (nI 1))), (4, .int r2), (0, .ref th), (1, .int x1), (5, .int x5)]) hx hb dX4_goesTo_109 hl (k := 4) rfl rfl (by decide) rfl (fun ls hl => ?_)
        refine lv_goto (tgt := 55) hx hb dX4_goesTo_112 rfl ?_
        exact ih r2 x5 (x6 + (nI 1)) μ3 _ _ _ hp hB (lv_sub hl [2, 3, 1, 4, 0] rfl)
def pX4_goesTo (th : Nat) (x1 : Int32) (x2 : Int32) (x3 : Int32) (μ : zM) (Q : Int32 → zM → Prop) : Prop := (zpI μ th 0 (nI 0) fun μ1 => (pX4_isTenant th (x1.toInt64) μ1 fun r3 μ2 => (if r3 = 0 then Q (-2 : Int32) μ2 else (pX4_within th (x2.toInt64) (1 : Int64) (5 : Int64) μ2 fun r5 μ4 => (if r5 = 0 then Q (-3 : Int32) μ4 else (if 0 ≤ x3 then (pX4_laysMost th x1 x2 μ4 fun μ6 => (pX4_whereNow th x1 μ6 fun r8 μ7 => ∃ k1, pX4_goesTo_55 th x1 Q k1 r8 x3 (nI 0) μ7)) else Q (-3 : Int32) μ4))))))
theorem hX4_goesTo : yX4_goesTo.cls = "SunkTowerModel" ∧ yX4_goesTo.cls ≠ "java/lang/invoke/MethodHandle" ∧ yX4_goesTo.cls ≠ "java/lang/invoke/VarHandle" ∧ (parseMethodDescriptor yX4_goesTo.desc).map (fun d => d.parameters.length) = some 3 := by decide +kernel
set_option maxHeartbeats 4000000 in
set_option maxRecDepth 100000 in
theorem mX4_goesTo (l : Launch) (Γ : zG) (th : Nat) (x1 : Int32) (x2 : Int32) (x3 : Int32) (μ : zM) (Q : Int32 → zM → Prop) (hp : pX4_goesTo th x1 x2 x3 μ Q) : Met l yX4_goesTo (ws_ yX4_goesTo cX4_goesTo 7 (some .int)) ({ frames := 6, cells := 0, slots := 0, locals := 149 } : Room) (va_Pc [.ref th, .int x1, .int x2, .int x3] (zPre Γ (tSh th) μ)) (va_Qi Q (zPost Γ (tSh th) μ) (zA μ)) 0 0 (zA μ) := by
  refine zstart (by decide) (Nat.le_of_ble_eq_true rfl) ?_
  intro p e s m below meth c ls X hnm hB hl
  have X : zCx p m c cX4_goesTo 7 s [.ref th, .int x1, .int x2, .int x3].toArray RX4 meth (some .int) := X
  have S := X.1
  obtain ⟨hx, hb, hml, hown, hts⟩ := X.1
  have hl : lv_has ls 7 [(0, .ref th), (1, .int x1), (2, .int x2), (3, .int x3)] := hl
  unfold pX4_goesTo at hp
  refine lv_aload_n hx hb dX4_goesTo_0 rfl (lv_at hl 0 rfl) ?_
  refine lv_iconst (v := (nI 0)) hx hb dX4_goesTo_1 rfl ?_
  obtain ⟨μ1, eμ1, hp⟩ := zpI_e hp
  refine g_putI S hB (tT hB) rfl (T := TX4) (N := 38) (C := RX4) rfl in_X4 0 (by decide) (by decide) (x := (nI 0)) tyX4 tyX4_ok nmX4 q1392 (fun _ h9 => h9) rfl (ty := .int) (by decide +kernel) rfl rfl (fun _ _ => rfl) dX4_goesTo_2 (fun H locs hB => ?_)
  rw [← eμ1] at hB
  refine lv_aload_n hx hb dX4_goesTo_5 rfl (lv_at hl 0 rfl) ?_
  refine lv_iload_n hx hb dX4_goesTo_6 rfl (lv_at hl 1 rfl) ?_
  refine lv_i2l hx hb dX4_goesTo_7 rfl ?_
  refine z_calli (va_runV (As := [.long (x1.toInt64)]) (rest := []) S (mX4_isTenant l Γ th (x1.toInt64) μ1 _ hp) (cwV 1 hts (lw_V q1633 q1635 qs81 q132 q1636) rfl rfl rfl hX4_isTenant ⟨Nat.le_of_ble_eq_true rfl, Nat.le_of_ble_eq_true rfl⟩) (hB.preV (tT hB) rfl rfl) rfl rfl hl.1 rfl (lv_room (Nat.le_of_ble_eq_true rfl)) dX4_goesTo_8 ⟨Nat.le_refl _, Nat.le_refl _⟩) hB (fun r3 μ2 H locs hp hB => ?_)
  refine lv_if_ne (tgt := 17) hx hb dX4_goesTo_11 rfl (fun c0 => ?_) (fun c0 => ?_)
  · have hp := zif hp c0
    refine lv_iload_n hx hb dX4_goesTo_17 rfl (lv_at hl 2 rfl) ?_
    refine lv_i2l hx hb dX4_goesTo_18 rfl ?_
    refine lv_lconst (v := (1 : Int64)) hx hb dX4_goesTo_19 rfl ?_
    refine lv_ldc2 (v := (5 : Int64)) hx hb hown (hts _ q1877) dX4_goesTo_20 ?_
    refine z_calli (va_runS (As := [.long (x2.toInt64), .long (1 : Int64), .long (5 : Int64)]) (rest := []) S (mX4_within l Γ th (x2.toInt64) (1 : Int64) (5 : Int64) μ2 _ hp) (va_cwS 3 hts (lw_S q1516 q1517 q132 q1518) rfl rfl rfl hX4_within ⟨Nat.le_of_ble_eq_true rfl, Nat.le_of_ble_eq_true rfl⟩) hB.preS rfl rfl hl.1 rfl (lv_room (Nat.le_of_ble_eq_true rfl)) dX4_goesTo_23 ⟨Nat.le_refl _, Nat.le_refl _⟩) hB (fun r5 μ4 H locs hp hB => ?_)
    refine lv_if_eq (tgt := 33) hx hb dX4_goesTo_26 rfl (fun c0 => ?_) (fun c0 => ?_)
    · have hp := zit hp c0
      refine lv_bipush (v := (-3 : Int32)) hx hb dX4_goesTo_33 rfl ?_
      exact zret_i X hB hp dX4_goesTo_35
    · have hp := zif hp c0
      refine lv_iload_n hx hb dX4_goesTo_29 rfl (lv_at hl 3 rfl) ?_
      refine lv_if_ge (tgt := 36) hx hb dX4_goesTo_30 rfl (fun c0 => ?_) (fun c0 => ?_)
      · have hp := zit hp c0
        refine lv_aload_n hx hb dX4_goesTo_36 rfl (lv_at hl 0 rfl) ?_
        refine lv_iload_n hx hb dX4_goesTo_37 rfl (lv_at hl 1 rfl) ?_
        refine lv_iload_n hx hb dX4_goesTo_38 rfl (lv_at hl 2 rfl) ?_
        refine z_callv (va_runV (As := [.int x1, .int x2]) (rest := []) S (mX4_laysMost l Γ th x1 x2 μ4 _ hp) (cwV 2 hts (lw_V q1878 q1880 qs108 q132 q1881) rfl rfl rfl hX4_laysMost ⟨Nat.le_of_ble_eq_true rfl, Nat.le_of_ble_eq_true rfl⟩) (hB.preV (tT hB) rfl rfl) rfl rfl hl.1 rfl (lv_room (Nat.le_of_ble_eq_true rfl)) dX4_goesTo_39 ⟨Nat.le_refl _, Nat.le_refl _⟩) hB (fun μ6 H locs hp hB => ?_)
        refine lv_aload_n hx hb dX4_goesTo_42 rfl (lv_at hl 0 rfl) ?_
        refine lv_iload_n hx hb dX4_goesTo_43 rfl (lv_at hl 1 rfl) ?_
        refine z_calli (va_runV (As := [.int x1]) (rest := []) S (mX4_whereNow l Γ th x1 μ6 _ hp) (cwV 1 hts (lw_V q1899 q1901 qs113 q132 q1902) rfl rfl rfl hX4_whereNow ⟨Nat.le_of_ble_eq_true rfl, Nat.le_of_ble_eq_true rfl⟩) (hB.preV (tT hB) rfl rfl) rfl rfl hl.1 rfl (lv_room (Nat.le_of_ble_eq_true rfl)) dX4_goesTo_44 ⟨Nat.le_refl _, Nat.le_refl _⟩) hB (fun r8 μ7 H locs hp hB => ?_)
        refine lv_istore (lv' := [(4, .int r8), (0, .ref th), (1, .int x1), (2, .int x2), (3, .int x3)]) hx hb dX4_goesTo_47 hl (by decide) rfl (fun ls hl => ?_)
        refine lv_iload_n hx hb dX4_goesTo_49 rfl (lv_at hl 4 rfl) ?_
        refine lv_istore (lv' := [(5, .int x3), (4, .int r8), (0, .ref th), (1, .int x1), (2, .int x2), (3, .int x3)]) hx hb dX4_goesTo_50 hl (by decide) rfl (fun ls hl => ?_)
        refine lv_iconst (v := (nI 0)) hx hb dX4_goesTo_52 rfl ?_
        refine lv_istore (lv' := [(6, .int (nI 0)), (5, .int x3), (4, .int r8), (0, .ref th), (1, .int x1), (2, .int x2), (3, .int x3)]) hx hb dX4_goesTo_53 hl (by decide) rfl (fun ls hl => ?_)
        obtain ⟨n1, hp⟩ := hp
        exact wX4_goesTo_55 X th x1 n1 r8 x3 (nI 0) μ7 _ _ _ hp hB (lv_sub hl [3, 4, 2, 1, 0] rfl)
      · have hp := zif hp c0
        refine lv_bipush (v := (-3 : Int32)) hx hb dX4_goesTo_33 rfl ?_
        exact zret_i X hB hp dX4_goesTo_35
  · have hp := zit hp c0
    refine lv_bipush (v := (-2 : Int32)) hx hb dX4_goesTo_14 rfl ?_
    exact zret_i X hB hp dX4_goesTo_16
def pX4_movesMany_50 (th : Nat) (x1 : Int32) (Q : Int32 → zM → Prop) : Nat → Int32 → Int32 → Int32 → zM → Prop
  | 0, _, _, _, _ => False
  | n + 1, x3, x4, x5, μ => (if (zI μ th 26) ≤ x5 then Q x4 μ else (pX4_goesIn_2 th x1 x5 x3 μ fun r2 μ1 => (if r2 = x3 then pX4_movesMany_50 th x1 Q n r2 (x4 + (nI 0)) (x5 + (nI 1)) μ1 else pX4_movesMany_50 th x1 Q n r2 (x4 + (nI 1)) (x5 + (nI 1)) μ1)))
set_option maxHeartbeats 4000000 in
set_option maxRecDepth 100000 in
theorem wX4_movesMany_50 {p : Program} {l : Launch} {e : Env} {s : State} {m : MethodId} {args : Array Value} {below : List Frame} {meth : Method} {c : Code} {Γ : zG} {μ0 : zM} {Q : Int32 → zM → Prop} (X : zCx p m c cX4_movesMany 7 s args RX4 meth (some .int)) (th : Nat) (x1 : Int32) : ∀ (n : Nat) (x3 : Int32) (x4 : Int32) (x5 : Int32) (μ : zM) (H : Heap) (locs : List Loc) (ls : Array Slot), pX4_movesMany_50 th x1 Q n x3 x4 x5 μ → zB Γ (tSh th) (zA μ0) μ0 s μ H locs → lv_has ls 7 [(0, .ref th), (1, .int x1), (3, .int x3), (4, .int x4), (5, .int x5)] → W p l e ({ frames := 6, cells := 0, slots := 0, locals := 149 } : Room) s m args below meth c H locs 0 0 (MQ below (va_Qi Q (zPost Γ (tSh th) μ0) (zA μ0)) args s 0 0 (zA μ0)) (F0 m 50 ls []) := by
  have S := X.1
  obtain ⟨hx, hb, hml, hown, hts⟩ := X.1
  intro n
  induction n with
  | zero =>
    intro x3 x4 x5 μ H locs ls hp
    exact hp.elim
  | succ n ih =>
    intro x3 x4 x5 μ H locs ls hp hB hl
    unfold pX4_movesMany_50 at hp
    refine lv_iload hx hb dX4_movesMany_50 (lv_at hl 4 rfl) ?_
    refine lv_aload_n hx hb dX4_movesMany_52 rfl (lv_at hl 0 rfl) ?_
    refine g_get S hB (tT hB) rfl (T := TX4) (N := 38) (C := RX4) rfl in_X4 26 (by decide) (by decide) q1418 (fun _ h9 => h9) (v := .int (zI μ th 26)) rfl dX4_movesMany_53 ?_
    refine lv_icmp_ge (tgt := 94) hx hb dX4_movesMany_56 rfl (fun c0 => ?_) (fun c0 => ?_)
    · have hp := zit hp c0
      refine lv_iload hx hb dX4_movesMany_94 (lv_at hl 3 rfl) ?_
      exact zret_i X hB hp dX4_movesMany_96
    · have hp := zif hp c0
      refine lv_aload_n hx hb dX4_movesMany_59 rfl (lv_at hl 0 rfl) ?_
      refine lv_iload_n hx hb dX4_movesMany_60 rfl (lv_at hl 1 rfl) ?_
      refine lv_iload hx hb dX4_movesMany_61 (lv_at hl 4 rfl) ?_
      refine lv_iload_n hx hb dX4_movesMany_63 rfl (lv_at hl 2 rfl) ?_
      refine z_calli (va_runV (As := [.int x1, .int x5, .int x3]) (rest := []) S (mX4_goesIn_2 l Γ th x1 x5 x3 μ _ hp) (cwV 3 hts (lw_V q1907 q1909 qs114 q132 q1910) rfl rfl rfl hX4_goesIn_2 ⟨Nat.le_of_ble_eq_true rfl, Nat.le_of_ble_eq_true rfl⟩) (hB.preV (tT hB) rfl rfl) rfl rfl hl.1 rfl (lv_room (Nat.le_of_ble_eq_true rfl)) dX4_movesMany_64 ⟨Nat.le_refl _, Nat.le_refl _⟩) hB (fun r2 μ1 H locs hp hB => ?_)
      refine lv_istore (lv' := [(6, .int r2), (0, .ref th), (1, .int x1), (3, .int x3), (4, .int x4), (5, .int x5)]) hx hb dX4_movesMany_67 hl (by decide) rfl (fun ls hl => ?_)
      refine lv_iload hx hb dX4_movesMany_69 (lv_at hl 4 rfl) ?_
      refine lv_iload hx hb dX4_movesMany_71 (lv_at hl 0 rfl) ?_
      refine lv_iload_n hx hb dX4_movesMany_73 rfl (lv_at hl 3 rfl) ?_
      refine lv_icmp_ne (tgt := 81) hx hb dX4_movesMany_74 rfl (fun c0 => ?_) (fun c0 => ?_)
      · have hp := zif hp c0
        refine lv_iconst (v := (nI 1)) hx hb dX4_movesMany_81 rfl ?_
        refine lv_iadd hx hb dX4_movesMany_82 ?_
        refine lv_istore (lv' := [(4, .int (x4 + (nI 1))), (6, .int r2), (0, .ref th), (1, .int x1), (3, .int x3), (5, .int x5)]) hx hb dX4_movesMany_83 hl (by decide) rfl (fun ls hl => ?_)
        refine lv_iload hx hb dX4_movesMany_85 (lv_at hl 1 rfl) ?_
        refine lv_istore_n (lv' := [(3, .int r2), (4, .int (x4 + (nI 1))), (6, .int r2), (0, .ref th), (1, .int x1), (5, .int x5)]) hx hb dX4_movesMany_87 rfl hl (by decide) rfl (fun ls hl => ?_)
        refine lv_iinc (v := (x5 + (nI 1))) (lv' := [(5, .int (x5 + (nI 1))), (3, .int r2), (4, .int (x4 + (nI 1))), (6, .int r2), (0, .ref th), (1, .int x1)]) hx hb dX4_movesMany_88 hl (k := 5) rfl rfl (by decide) rfl (fun ls hl => ?_)
        refine lv_goto (tgt := 50) hx hb dX4_movesMany_91 rfl ?_
        exact ih r2 (x4 + (nI 1)) (x5 + (nI 1)) μ1 _ _ _ hp hB (lv_sub hl [4, 5, 1, 2, 0] rfl)
      · have hp := zit hp c0
        refine lv_iconst (v := (nI 0)) hx hb dX4_movesMany_77 rfl ?_
        refine lv_goto (tgt := 82) hx hb dX4_movesMany_78 rfl ?_
        refine lv_iadd hx hb dX4_movesMany_82 ?_
        refine lv_istore (lv' := [(4, .int (x4 + (nI 0))), (6, .int r2), (0, .ref th), (1, .int x1), (3, .int x3), (5, .int x5)]) hx hb dX4_movesMany_83 hl (by decide) rfl (fun ls hl => ?_)
        refine lv_iload hx hb dX4_movesMany_85 (lv_at hl 1 rfl) ?_
        refine lv_istore_n (lv' := [(3, .int r2), (4, .int (x4 + (nI 0))), (6, .int r2), (0, .ref th), (1, .int x1), (5, .int x5)]) hx hb dX4_movesMany_87 rfl hl (by decide) rfl (fun ls hl => ?_)
        refine lv_iinc (v := (x5 + (nI 1))) (lv' := [(5, .int (x5 + (nI 1))), (3, .int r2), (4, .int (x4 + (nI 0))), (6, .int r2), (0, .ref th), (1, .int x1)]) hx hb dX4_movesMany_88 hl (k := 5) rfl rfl (by decide) rfl (fun ls hl => ?_)
        refine lv_goto (tgt := 50) hx hb dX4_movesMany_91 rfl ?_
        exact ih r2 (x4 + (nI 0)) (x5 + (nI 1)) μ1 _ _ _ hp hB (lv_sub hl [4, 5, 1, 2, 0] rfl)
def pX4_movesMany (th : Nat) (x1 : Int32) (x2 : Int32) (μ : zM) (Q : Int32 → zM → Prop) : Prop := (zpI μ th 0 (nI 0) fun μ1 => (pX4_isTenant th (x1.toInt64) μ1 fun r3 μ2 => (if r3 = 0 then Q (-2 : Int32) μ2 else (pX4_within th (x2.toInt64) (1 : Int64) (5 : Int64) μ2 fun r5 μ4 => (if r5 = 0 then Q (-3 : Int32) μ4 else (pX4_laysMost th x1 x2 μ4 fun μ6 => (pX4_whereNow th x1 μ6 fun r8 μ7 => ∃ k1, pX4_movesMany_50 th x1 Q k1 r8 (nI 0) (nI 0) μ7)))))))
theorem hX4_movesMany : yX4_movesMany.cls = "SunkTowerModel" ∧ yX4_movesMany.cls ≠ "java/lang/invoke/MethodHandle" ∧ yX4_movesMany.cls ≠ "java/lang/invoke/VarHandle" ∧ (parseMethodDescriptor yX4_movesMany.desc).map (fun d => d.parameters.length) = some 2 := by decide +kernel
set_option maxHeartbeats 4000000 in
set_option maxRecDepth 100000 in
theorem mX4_movesMany (l : Launch) (Γ : zG) (th : Nat) (x1 : Int32) (x2 : Int32) (μ : zM) (Q : Int32 → zM → Prop) (hp : pX4_movesMany th x1 x2 μ Q) : Met l yX4_movesMany (ws_ yX4_movesMany cX4_movesMany 7 (some .int)) ({ frames := 6, cells := 0, slots := 0, locals := 149 } : Room) (va_Pc [.ref th, .int x1, .int x2] (zPre Γ (tSh th) μ)) (va_Qi Q (zPost Γ (tSh th) μ) (zA μ)) 0 0 (zA μ) := by
  refine zstart (by decide) (Nat.le_of_ble_eq_true rfl) ?_
  intro p e s m below meth c ls X hnm hB hl
  have X : zCx p m c cX4_movesMany 7 s [.ref th, .int x1, .int x2].toArray RX4 meth (some .int) := X
  have S := X.1
  obtain ⟨hx, hb, hml, hown, hts⟩ := X.1
  have hl : lv_has ls 7 [(0, .ref th), (1, .int x1), (2, .int x2)] := hl
  unfold pX4_movesMany at hp
  refine lv_aload_n hx hb dX4_movesMany_0 rfl (lv_at hl 0 rfl) ?_
  refine lv_iconst (v := (nI 0)) hx hb dX4_movesMany_1 rfl ?_
  obtain ⟨μ1, eμ1, hp⟩ := zpI_e hp
  refine g_putI S hB (tT hB) rfl (T := TX4) (N := 38) (C := RX4) rfl in_X4 0 (by decide) (by decide) (x := (nI 0)) tyX4 tyX4_ok nmX4 q1392 (fun _ h9 => h9) rfl (ty := .int) (by decide +kernel) rfl rfl (fun _ _ => rfl) dX4_movesMany_2 (fun H locs hB => ?_)
  rw [← eμ1] at hB
  refine lv_aload_n hx hb dX4_movesMany_5 rfl (lv_at hl 0 rfl) ?_
  refine lv_iload_n hx hb dX4_movesMany_6 rfl (lv_at hl 1 rfl) ?_
  refine lv_i2l hx hb dX4_movesMany_7 rfl ?_
  refine z_calli (va_runV (As := [.long (x1.toInt64)]) (rest := []) S (mX4_isTenant l Γ th (x1.toInt64) μ1 _ hp) (cwV 1 hts (lw_V q1633 q1635 qs81 q132 q1636) rfl rfl rfl hX4_isTenant ⟨Nat.le_of_ble_eq_true rfl, Nat.le_of_ble_eq_true rfl⟩) (hB.preV (tT hB) rfl rfl) rfl rfl hl.1 rfl (lv_room (Nat.le_of_ble_eq_true rfl)) dX4_movesMany_8 ⟨Nat.le_refl _, Nat.le_refl _⟩) hB (fun r3 μ2 H locs hp hB => ?_)
  refine lv_if_ne (tgt := 17) hx hb dX4_movesMany_11 rfl (fun c0 => ?_) (fun c0 => ?_)
  · have hp := zif hp c0
    refine lv_iload_n hx hb dX4_movesMany_17 rfl (lv_at hl 2 rfl) ?_
    refine lv_i2l hx hb dX4_movesMany_18 rfl ?_
    refine lv_lconst (v := (1 : Int64)) hx hb dX4_movesMany_19 rfl ?_
    refine lv_ldc2 (v := (5 : Int64)) hx hb hown (hts _ q1877) dX4_movesMany_20 ?_
    refine z_calli (va_runS (As := [.long (x2.toInt64), .long (1 : Int64), .long (5 : Int64)]) (rest := []) S (mX4_within l Γ th (x2.toInt64) (1 : Int64) (5 : Int64) μ2 _ hp) (va_cwS 3 hts (lw_S q1516 q1517 q132 q1518) rfl rfl rfl hX4_within ⟨Nat.le_of_ble_eq_true rfl, Nat.le_of_ble_eq_true rfl⟩) hB.preS rfl rfl hl.1 rfl (lv_room (Nat.le_of_ble_eq_true rfl)) dX4_movesMany_23 ⟨Nat.le_refl _, Nat.le_refl _⟩) hB (fun r5 μ4 H locs hp hB => ?_)
    refine lv_if_ne (tgt := 32) hx hb dX4_movesMany_26 rfl (fun c0 => ?_) (fun c0 => ?_)
    · have hp := zif hp c0
      refine lv_aload_n hx hb dX4_movesMany_32 rfl (lv_at hl 0 rfl) ?_
      refine lv_iload_n hx hb dX4_movesMany_33 rfl (lv_at hl 1 rfl) ?_
      refine lv_iload_n hx hb dX4_movesMany_34 rfl (lv_at hl 2 rfl) ?_
      refine z_callv (va_runV (As := [.int x1, .int x2]) (rest := []) S (mX4_laysMost l Γ th x1 x2 μ4 _ hp) (cwV 2 hts (lw_V q1878 q1880 qs108 q132 q1881) rfl rfl rfl hX4_laysMost ⟨Nat.le_of_ble_eq_true rfl, Nat.le_of_ble_eq_true rfl⟩) (hB.preV (tT hB) rfl rfl) rfl rfl hl.1 rfl (lv_room (Nat.le_of_ble_eq_true rfl)) dX4_movesMany_35 ⟨Nat.le_refl _, Nat.le_refl _⟩) hB (fun μ6 H locs hp hB => ?_)
      refine lv_aload_n hx hb dX4_movesMany_38 rfl (lv_at hl 0 rfl) ?_
      refine lv_iload_n hx hb dX4_movesMany_39 rfl (lv_at hl 1 rfl) ?_
      refine z_calli (va_runV (As := [.int x1]) (rest := []) S (mX4_whereNow l Γ th x1 μ6 _ hp) (cwV 1 hts (lw_V q1899 q1901 qs113 q132 q1902) rfl rfl rfl hX4_whereNow ⟨Nat.le_of_ble_eq_true rfl, Nat.le_of_ble_eq_true rfl⟩) (hB.preV (tT hB) rfl rfl) rfl rfl hl.1 rfl (lv_room (Nat.le_of_ble_eq_true rfl)) dX4_movesMany_40 ⟨Nat.le_refl _, Nat.le_refl _⟩) hB (fun r8 μ7 H locs hp hB => ?_)
      refine lv_istore_n (lv' := [(3, .int r8), (0, .ref th), (1, .int x1), (2, .int x2)]) hx hb dX4_movesMany_43 rfl hl (by decide) rfl (fun ls hl => ?_)
      refine lv_iconst (v := (nI 0)) hx hb dX4_movesMany_44 rfl ?_
      refine lv_istore (lv' := [(4, .int (nI 0)), (3, .int r8), (0, .ref th), (1, .int x1), (2, .int x2)]) hx hb dX4_movesMany_45 hl (by decide) rfl (fun ls hl => ?_)
      refine lv_iconst (v := (nI 0)) hx hb dX4_movesMany_47 rfl ?_
      refine lv_istore (lv' := [(5, .int (nI 0)), (4, .int (nI 0)), (3, .int r8), (0, .ref th), (1, .int x1), (2, .int x2)]) hx hb dX4_movesMany_48 hl (by decide) rfl (fun ls hl => ?_)
      obtain ⟨n1, hp⟩ := hp
      exact wX4_movesMany_50 X th x1 n1 r8 (nI 0) (nI 0) μ7 _ _ _ hp hB (lv_sub hl [3, 4, 2, 1, 0] rfl)
    · have hp := zit hp c0
      refine lv_bipush (v := (-3 : Int32)) hx hb dX4_movesMany_29 rfl ?_
      exact zret_i X hB hp dX4_movesMany_31
  · have hp := zit hp c0
    refine lv_bipush (v := (-2 : Int32)) hx hb dX4_movesMany_14 rfl ?_
    exact zret_i X hB hp dX4_movesMany_16
def pX4_best_39 (th : Nat) (x1 : Int32) (Q : Int32 → zM → Prop) : Nat → Int32 → Int64 → Int32 → zM → Prop
  | 0, _, _, _, _ => False
  | n + 1, x2, x3, x5, μ => (vp_in (nI 20) 3594 ∧ (if (zI μ (th + 1) (nI 20).toNatClampNeg) ≤ x5 then Q x2 μ else (pX4_livesOn th x5 μ fun r2 μ1 => (if r2 = (-1 : Int32) then (vp_in (nI 41) 3594 ∧ (pX4_isBuried th x5 (zI μ1 (th + 1) (nI 41).toNatClampNeg) μ1 fun r4 μ3 => (if r4 = 0 then (pX4_gainIn th x1 (nI 0) x5 μ3 fun r6 μ5 => (if (lg_cmp r6 x3) < 0 then pX4_best_39 th x1 Q n x2 x3 (x5 + (nI 1)) μ5 else (if (lg_cmp r6 x3) = 0 then (if x2 = (-1 : Int32) then pX4_best_39 th x1 Q n x2 x3 (x5 + (nI 1)) μ5 else pX4_best_39 th x1 Q n x5 r6 (x5 + (nI 1)) μ5) else pX4_best_39 th x1 Q n x5 r6 (x5 + (nI 1)) μ5))) else pX4_best_39 th x1 Q n x2 x3 (x5 + (nI 1)) μ3))) else pX4_best_39 th x1 Q n x2 x3 (x5 + (nI 1)) μ1))))
set_option maxHeartbeats 4000000 in
set_option maxRecDepth 100000 in
theorem wX4_best_39 {p : Program} {l : Launch} {e : Env} {s : State} {m : MethodId} {args : Array Value} {below : List Frame} {meth : Method} {c : Code} {Γ : zG} {μ0 : zM} {Q : Int32 → zM → Prop} (X : zCx p m c cX4_best 8 s args RX4 meth (some .int)) (th : Nat) (x1 : Int32) : ∀ (n : Nat) (x2 : Int32) (x3 : Int64) (x5 : Int32) (μ : zM) (H : Heap) (locs : List Loc) (ls : Array Slot), pX4_best_39 th x1 Q n x2 x3 x5 μ → zB Γ (tSh th) (zA μ0) μ0 s μ H locs → lv_has ls 8 [(0, .ref th), (1, .int x1), (2, .int x2), (3, .long x3), (5, .int x5)] → W p l e ({ frames := 5, cells := 0, slots := 0, locals := 118 } : Room) s m args below meth c H locs 0 0 (MQ below (va_Qi Q (zPost Γ (tSh th) μ0) (zA μ0)) args s 0 0 (zA μ0)) (F0 m 39 ls []) := by
  have S := X.1
  obtain ⟨hx, hb, hml, hown, hts⟩ := X.1
  intro n
  induction n with
  | zero =>
    intro x2 x3 x5 μ H locs ls hp
    exact hp.elim
  | succ n ih =>
    intro x2 x3 x5 μ H locs ls hp hB hl
    unfold pX4_best_39 at hp
    refine lv_iload hx hb dX4_best_39 (lv_at hl 4 rfl) ?_
    refine lv_aload_n hx hb dX4_best_41 rfl (lv_at hl 0 rfl) ?_
    refine g_getr S hB (tT hB) rfl (T := TX4) (N := 38) (C := RX4) rfl in_X4 1 (by decide) (by decide) q1393 (fun _ h9 => h9) (fun _ => rfl) (tA hB 0 rfl).1 dX4_best_42 ?_
    refine lv_bipush (v := (nI 20)) hx hb dX4_best_45 rfl ?_
    obtain ⟨hi, hp⟩ := hp
    refine g_iald S hB (tA hB 0 rfl).2 hi dX4_best_47 ?_
    refine lv_icmp_ge (tgt := 123) hx hb dX4_best_48 rfl (fun c0 => ?_) (fun c0 => ?_)
    · have hp := zit hp c0
      refine lv_iload_n hx hb dX4_best_123 rfl (lv_at hl 2 rfl) ?_
      exact zret_i X hB hp dX4_best_124
    · have hp := zif hp c0
      refine lv_aload_n hx hb dX4_best_51 rfl (lv_at hl 0 rfl) ?_
      refine lv_iload hx hb dX4_best_52 (lv_at hl 4 rfl) ?_
      refine z_calli (va_runV (As := [.int x5]) (rest := []) S (mX4_livesOn l Γ th x5 μ _ hp) (cwV 1 hts (lw_V q1622 q1624 qs80 q132 q1625) rfl rfl rfl hX4_livesOn ⟨Nat.le_of_ble_eq_true rfl, Nat.le_of_ble_eq_true rfl⟩) (hB.preV (tT hB) rfl rfl) rfl rfl hl.1 rfl (lv_room (Nat.le_of_ble_eq_true rfl)) dX4_best_54 ⟨Nat.le_refl _, Nat.le_refl _⟩) hB (fun r2 μ1 H locs hp hB => ?_)
      refine lv_iconst (v := (-1 : Int32)) hx hb dX4_best_57 rfl ?_
      refine lv_icmp_ne (tgt := 117) hx hb dX4_best_58 rfl (fun c0 => ?_) (fun c0 => ?_)
      · have hp := zif hp c0
        refine lv_iinc (v := (x5 + (nI 1))) (lv' := [(5, .int (x5 + (nI 1))), (0, .ref th), (1, .int x1), (2, .int x2), (3, .long x3)]) hx hb dX4_best_117 hl (k := 4) rfl rfl (by decide) rfl (fun ls hl => ?_)
        refine lv_goto (tgt := 39) hx hb dX4_best_120 rfl ?_
        exact ih x2 x3 (x5 + (nI 1)) μ1 _ _ _ hp hB (lv_sub hl [1, 2, 3, 4, 0] rfl)
      · have hp := zit hp c0
        refine lv_iload hx hb dX4_best_61 (lv_at hl 4 rfl) ?_
        refine lv_aload_n hx hb dX4_best_63 rfl (lv_at hl 0 rfl) ?_
        refine g_getr S hB (tT hB) rfl (T := TX4) (N := 38) (C := RX4) rfl in_X4 1 (by decide) (by decide) q1393 (fun _ h9 => h9) (fun _ => rfl) (tA hB 0 rfl).1 dX4_best_64 ?_
        refine lv_bipush (v := (nI 41)) hx hb dX4_best_67 rfl ?_
        obtain ⟨hi, hp⟩ := hp
        refine g_iald S hB (tA hB 0 rfl).2 hi dX4_best_69 ?_
        refine z_calli (va_runS (As := [.int x5, .int (zI μ1 (th + 1) (nI 41).toNatClampNeg)]) (rest := []) S (mX4_isBuried l Γ th x5 (zI μ1 (th + 1) (nI 41).toNatClampNeg) μ1 _ hp) (va_cwS 2 hts (lw_S q1626 q1627 q132 q1628) rfl rfl rfl hX4_isBuried ⟨Nat.le_of_ble_eq_true rfl, Nat.le_of_ble_eq_true rfl⟩) hB.preS rfl rfl hl.1 rfl (lv_room (Nat.le_of_ble_eq_true rfl)) dX4_best_70 ⟨Nat.le_refl _, Nat.le_refl _⟩) hB (fun r4 μ3 H locs hp hB => ?_)
        refine lv_if_eq (tgt := 79) hx hb dX4_best_73 rfl (fun c0 => ?_) (fun c0 => ?_)
        · have hp := zit hp c0
          refine lv_aload_n hx hb dX4_best_79 rfl (lv_at hl 0 rfl) ?_
          refine lv_iload_n hx hb dX4_best_80 rfl (lv_at hl 1 rfl) ?_
          refine lv_iconst (v := (nI 0)) hx hb dX4_best_81 rfl ?_
          refine lv_iload hx hb dX4_best_82 (lv_at hl 4 rfl) ?_
          refine z_calll (va_runV (As := [.int x1, .int (nI 0), .int x5]) (rest := []) S (mX4_gainIn l Γ th x1 (nI 0) x5 μ3 _ hp) (cwV 3 hts (lw_V q1895 q1897 qs112 q132 q1898) rfl rfl rfl hX4_gainIn ⟨Nat.le_of_ble_eq_true rfl, Nat.le_of_ble_eq_true rfl⟩) (hB.preV (tT hB) rfl rfl) rfl rfl hl.1 rfl (lv_room (Nat.le_of_ble_eq_true rfl)) dX4_best_84 ⟨Nat.le_refl _, Nat.le_refl _⟩) hB (fun r6 μ5 H locs hp hB => ?_)
          refine lv_lstore (lv' := [(6, .long r6), (0, .ref th), (1, .int x1), (2, .int x2), (3, .long x3), (5, .int x5)]) hx hb dX4_best_87 hl (by decide) rfl (fun ls hl => ?_)
          refine lv_lload hx hb dX4_best_89 (lv_at hl 0 rfl) ?_
          refine lv_lload_n hx hb dX4_best_91 rfl (lv_at hl 4 rfl) ?_
          refine W.lcmp hx hb dX4_best_92 ?_
          refine lv_if_lt (tgt := 117) hx hb dX4_best_93 rfl (fun c0 => ?_) (fun c0 => ?_)
          · have hp := zit hp c0
            refine lv_iinc (v := (x5 + (nI 1))) (lv' := [(5, .int (x5 + (nI 1))), (6, .long r6), (0, .ref th), (1, .int x1), (2, .int x2), (3, .long x3)]) hx hb dX4_best_117 hl (k := 5) rfl rfl (by decide) rfl (fun ls hl => ?_)
            refine lv_goto (tgt := 39) hx hb dX4_best_120 rfl ?_
            exact ih x2 x3 (x5 + (nI 1)) μ5 _ _ _ hp hB (lv_sub hl [2, 3, 4, 5, 0] rfl)
          · have hp := zif hp c0
            refine lv_lload hx hb dX4_best_96 (lv_at hl 0 rfl) ?_
            refine lv_lload_n hx hb dX4_best_98 rfl (lv_at hl 4 rfl) ?_
            refine W.lcmp hx hb dX4_best_99 ?_
            refine lv_if_ne (tgt := 111) hx hb dX4_best_100 rfl (fun c0 => ?_) (fun c0 => ?_)
            · have hp := zif hp c0
              refine lv_iload hx hb dX4_best_111 (lv_at hl 5 rfl) ?_
              refine lv_istore_n (lv' := [(2, .int x5), (6, .long r6), (0, .ref th), (1, .int x1), (3, .long x3), (5, .int x5)]) hx hb dX4_best_113 rfl hl (by decide) rfl (fun ls hl => ?_)
              refine lv_lload hx hb dX4_best_114 (lv_at hl 1 rfl) ?_
              refine lv_lstore_n (lv' := [(3, .long r6), (2, .int x5), (6, .long r6), (0, .ref th), (1, .int x1), (5, .int x5)]) hx hb dX4_best_116 rfl hl (by decide) rfl (fun ls hl => ?_)
              refine lv_iinc (v := (x5 + (nI 1))) (lv' := [(5, .int (x5 + (nI 1))), (3, .long r6), (2, .int x5), (6, .long r6), (0, .ref th), (1, .int x1)]) hx hb dX4_best_117 hl (k := 5) rfl rfl (by decide) rfl (fun ls hl => ?_)
              refine lv_goto (tgt := 39) hx hb dX4_best_120 rfl ?_
              exact ih x5 r6 (x5 + (nI 1)) μ5 _ _ _ hp hB (lv_sub hl [4, 5, 2, 1, 0] rfl)
            · have hp := zit hp c0
              refine lv_iload_n hx hb dX4_best_103 rfl (lv_at hl 3 rfl) ?_
              refine lv_iconst (v := (-1 : Int32)) hx hb dX4_best_104 rfl ?_
              refine lv_icmp_ne (tgt := 111) hx hb dX4_best_105 rfl (fun c0 => ?_) (fun c0 => ?_)
              · have hp := zif hp c0
                refine lv_iload hx hb dX4_best_111 (lv_at hl 5 rfl) ?_
                refine lv_istore_n (lv' := [(2, .int x5), (6, .long r6), (0, .ref th), (1, .int x1), (3, .long x3), (5, .int x5)]) hx hb dX4_best_113 rfl hl (by decide) rfl (fun ls hl => ?_)
                refine lv_lload hx hb dX4_best_114 (lv_at hl 1 rfl) ?_
                refine lv_lstore_n (lv' := [(3, .long r6), (2, .int x5), (6, .long r6), (0, .ref th), (1, .int x1), (5, .int x5)]) hx hb dX4_best_116 rfl hl (by decide) rfl (fun ls hl => ?_)
                refine lv_iinc (v := (x5 + (nI 1))) (lv' := [(5, .int (x5 + (nI 1))), (3, .long r6), (2, .int x5), (6, .long r6), (0, .ref th), (1, .int x1)]) hx hb dX4_best_117 hl (k := 5) rfl rfl (by decide) rfl (fun ls hl => ?_)
                refine lv_goto (tgt := 39) hx hb dX4_best_120 rfl ?_
                exact ih x5 r6 (x5 + (nI 1)) μ5 _ _ _ hp hB (lv_sub hl [4, 5, 2, 1, 0] rfl)
              · have hp := zit hp c0
                refine lv_goto (tgt := 117) hx hb dX4_best_108 rfl ?_
                refine lv_iinc (v := (x5 + (nI 1))) (lv' := [(5, .int (x5 + (nI 1))), (6, .long r6), (0, .ref th), (1, .int x1), (2, .int x2), (3, .long x3)]) hx hb dX4_best_117 hl (k := 5) rfl rfl (by decide) rfl (fun ls hl => ?_)
                refine lv_goto (tgt := 39) hx hb dX4_best_120 rfl ?_
                exact ih x2 x3 (x5 + (nI 1)) μ5 _ _ _ hp hB (lv_sub hl [2, 3, 4, 5, 0] rfl)
        · have hp := zif hp c0
          refine lv_goto (tgt := 117) hx hb dX4_best_76 rfl ?_
          refine lv_iinc (v := (x5 + (nI 1))) (lv' := [(5, .int (x5 + (nI 1))), (0, .ref th), (1, .int x1), (2, .int x2), (3, .long x3)]) hx hb dX4_best_117 hl (k := 4) rfl rfl (by decide) rfl (fun ls hl => ?_)
          refine lv_goto (tgt := 39) hx hb dX4_best_120 rfl ?_
          exact ih x2 x3 (x5 + (nI 1)) μ3 _ _ _ hp hB (lv_sub hl [1, 2, 3, 4, 0] rfl)
def pX4_best (th : Nat) (x1 : Int32) (μ : zM) (Q : Int32 → zM → Prop) : Prop := (zpI μ th 0 (nI 0) fun μ1 => (pX4_isTenant th (x1.toInt64) μ1 fun r3 μ2 => (if r3 = 0 then Q (-2 : Int32) μ2 else (pX4_laysAll th (nI 0) μ2 fun μ4 => (pX4_whereNow th x1 μ4 fun r6 μ5 => (pX4_gainIn th x1 (nI 0) r6 μ5 fun r8 μ7 => ∃ k1, pX4_best_39 th x1 Q k1 (-1 : Int32) r8 (nI 0) μ7))))))
theorem hX4_best : yX4_best.cls = "SunkTowerModel" ∧ yX4_best.cls ≠ "java/lang/invoke/MethodHandle" ∧ yX4_best.cls ≠ "java/lang/invoke/VarHandle" ∧ (parseMethodDescriptor yX4_best.desc).map (fun d => d.parameters.length) = some 1 := by decide +kernel
set_option maxHeartbeats 4000000 in
set_option maxRecDepth 100000 in
theorem mX4_best (l : Launch) (Γ : zG) (th : Nat) (x1 : Int32) (μ : zM) (Q : Int32 → zM → Prop) (hp : pX4_best th x1 μ Q) : Met l yX4_best (ws_ yX4_best cX4_best 8 (some .int)) ({ frames := 5, cells := 0, slots := 0, locals := 118 } : Room) (va_Pc [.ref th, .int x1] (zPre Γ (tSh th) μ)) (va_Qi Q (zPost Γ (tSh th) μ) (zA μ)) 0 0 (zA μ) := by
  refine zstart (by decide) (Nat.le_of_ble_eq_true rfl) ?_
  intro p e s m below meth c ls X hnm hB hl
  have X : zCx p m c cX4_best 8 s [.ref th, .int x1].toArray RX4 meth (some .int) := X
  have S := X.1
  obtain ⟨hx, hb, hml, hown, hts⟩ := X.1
  have hl : lv_has ls 8 [(0, .ref th), (1, .int x1)] := hl
  unfold pX4_best at hp
  refine lv_aload_n hx hb dX4_best_0 rfl (lv_at hl 0 rfl) ?_
  refine lv_iconst (v := (nI 0)) hx hb dX4_best_1 rfl ?_
  obtain ⟨μ1, eμ1, hp⟩ := zpI_e hp
  refine g_putI S hB (tT hB) rfl (T := TX4) (N := 38) (C := RX4) rfl in_X4 0 (by decide) (by decide) (x := (nI 0)) tyX4 tyX4_ok nmX4 q1392 (fun _ h9 => h9) rfl (ty := .int) (by decide +kernel) rfl rfl (fun _ _ => rfl) dX4_best_2 (fun H locs hB => ?_)
  rw [← eμ1] at hB
  refine lv_aload_n hx hb dX4_best_5 rfl (lv_at hl 0 rfl) ?_
  refine lv_iload_n hx hb dX4_best_6 rfl (lv_at hl 1 rfl) ?_
  refine lv_i2l hx hb dX4_best_7 rfl ?_
  refine z_calli (va_runV (As := [.long (x1.toInt64)]) (rest := []) S (mX4_isTenant l Γ th (x1.toInt64) μ1 _ hp) (cwV 1 hts (lw_V q1633 q1635 qs81 q132 q1636) rfl rfl rfl hX4_isTenant ⟨Nat.le_of_ble_eq_true rfl, Nat.le_of_ble_eq_true rfl⟩) (hB.preV (tT hB) rfl rfl) rfl rfl hl.1 rfl (lv_room (Nat.le_of_ble_eq_true rfl)) dX4_best_8 ⟨Nat.le_refl _, Nat.le_refl _⟩) hB (fun r3 μ2 H locs hp hB => ?_)
  refine lv_if_ne (tgt := 17) hx hb dX4_best_11 rfl (fun c0 => ?_) (fun c0 => ?_)
  · have hp := zif hp c0
    refine lv_aload_n hx hb dX4_best_17 rfl (lv_at hl 0 rfl) ?_
    refine lv_iconst (v := (nI 0)) hx hb dX4_best_18 rfl ?_
    refine z_callv (va_runV (As := [.int (nI 0)]) (rest := []) S (mX4_laysAll l Γ th (nI 0) μ2 _ hp) (cwV 1 hts (lw_V q1817 q1819 qs104 q132 q1820) rfl rfl rfl hX4_laysAll ⟨Nat.le_of_ble_eq_true rfl, Nat.le_of_ble_eq_true rfl⟩) (hB.preV (tT hB) rfl rfl) rfl rfl hl.1 rfl (lv_room (Nat.le_of_ble_eq_true rfl)) dX4_best_19 ⟨Nat.le_refl _, Nat.le_refl _⟩) hB (fun μ4 H locs hp hB => ?_)
    refine lv_iconst (v := (-1 : Int32)) hx hb dX4_best_22 rfl ?_
    refine lv_istore_n (lv' := [(2, .int (-1 : Int32)), (0, .ref th), (1, .int x1)]) hx hb dX4_best_23 rfl hl (by decide) rfl (fun ls hl => ?_)
    refine lv_aload_n hx hb dX4_best_24 rfl (lv_at hl 1 rfl) ?_
    refine lv_iload_n hx hb dX4_best_25 rfl (lv_at hl 2 rfl) ?_
    refine lv_iconst (v := (nI 0)) hx hb dX4_best_26 rfl ?_
    refine lv_aload_n hx hb dX4_best_27 rfl (lv_at hl 1 rfl) ?_
    refine lv_iload_n hx hb dX4_best_28 rfl (lv_at hl 2 rfl) ?_
    refine z_calli (va_runV (As := [.int x1]) (rest := [.int (nI 0), .int x1, .ref th]) S (mX4_whereNow l Γ th x1 μ4 _ hp) (cwV 1 hts (lw_V q1899 q1901 qs113 q132 q1902) rfl rfl rfl hX4_whereNow ⟨Nat.le_of_ble_eq_true rfl, Nat.le_of_ble_eq_true rfl⟩) (hB.preV (tT hB) rfl rfl) rfl rfl hl.1 rfl (lv_room (Nat.le_of_ble_eq_true rfl)) dX4_best_29 ⟨Nat.le_refl _, Nat.le_refl _⟩) hB (fun r6 μ5 H locs hp hB => ?_)
    refine z_calll (va_runV (As := [.int x1, .int (nI 0), .int r6]) (rest := []) S (mX4_gainIn l Γ th x1 (nI 0) r6 μ5 _ hp) (cwV 3 hts (lw_V q1895 q1897 qs112 q132 q1898) rfl rfl rfl hX4_gainIn ⟨Nat.le_of_ble_eq_true rfl, Nat.le_of_ble_eq_true rfl⟩) (hB.preV (tT hB) rfl rfl) rfl rfl hl.1 rfl (lv_room (Nat.le_of_ble_eq_true rfl)) dX4_best_32 ⟨Nat.le_refl _, Nat.le_refl _⟩) hB (fun r8 μ7 H locs hp hB => ?_)
    refine lv_lstore_n (lv' := [(3, .long r8), (2, .int (-1 : Int32)), (0, .ref th), (1, .int x1)]) hx hb dX4_best_35 rfl hl (by decide) rfl (fun ls hl => ?_)
    refine lv_iconst (v := (nI 0)) hx hb dX4_best_36 rfl ?_
    refine lv_istore (lv' := [(5, .int (nI 0)), (3, .long r8), (2, .int (-1 : Int32)), (0, .ref th), (1, .int x1)]) hx hb dX4_best_37 hl (by decide) rfl (fun ls hl => ?_)
    obtain ⟨n1, hp⟩ := hp
    exact wX4_best_39 X th x1 n1 (-1 : Int32) r8 (nI 0) μ7 _ _ _ hp hB (lv_sub hl [3, 4, 2, 1, 0] rfl)
  · have hp := zit hp c0
    refine lv_bipush (v := (-2 : Int32)) hx hb dX4_best_14 rfl ?_
    exact zret_i X hB hp dX4_best_16
theorem hX4_goesBuild : yX4_goesBuild.cls = "SunkTowerModel" ∧ yX4_goesBuild.cls ≠ "java/lang/invoke/MethodHandle" ∧ yX4_goesBuild.cls ≠ "java/lang/invoke/VarHandle" ∧ (parseMethodDescriptor yX4_goesBuild.desc).map (fun d => d.parameters.length) = some 4 := by decide +kernel
def pX4_goesBuild_103 (A : Nat → Int32 → Int32 → Int32 → Int32 → zM → (zM → Prop) → Prop) (th : Nat) (x2 : Int32) (Q : zM → Prop) : Nat → Int32 → zM → Prop
  | 0, _, _ => False
  | n + 1, x7, μ => (if x2 ≤ x7 then Q μ else (vp_in x7 3 ∧ (vp_in x7 3 ∧ zpI μ (th + 12) x7.toNatClampNeg (zI μ (th + 11) x7.toNatClampNeg) fun μ1 => pX4_goesBuild_103 A th x2 Q n (x7 + (nI 1)) μ1)))
set_option maxHeartbeats 4000000 in
set_option maxRecDepth 100000 in
theorem wX4_goesBuild_103 {p : Program} {l : Launch} {e : Env} {s : State} {m : MethodId} {args : Array Value} {below : List Frame} {meth : Method} {c : Code} {Γ : zG} {μ0 : zM} {Q : zM → Prop} (X : zCx p m c cX4_goesBuild 8 s args RX4 meth none) (A : Nat → Int32 → Int32 → Int32 → Int32 → zM → (zM → Prop) → Prop) (fa la : Nat) (hA : ∀ (l : Launch) (Γ : zG) (th : Nat) (x1 : Int32) (x2 : Int32) (x3 : Int32) (x4 : Int32) (μ : zM) (Q : (zM → Prop)), A th x1 x2 x3 x4 μ Q → Met l yX4_goesBuild (ws_ yX4_goesBuild cX4_goesBuild 8 none) { frames := fa, cells := 0, slots := 0, locals := la } (va_Pc [.ref th, .int x1, .int x2, .int x3, .int x4] (zPre Γ (tSh th) μ)) (va_Qv Q (zPost Γ (tSh th) μ) (zA μ)) 0 0 (zA μ)) (th : Nat) (x2 : Int32) : ∀ (n : Nat) (x7 : Int32) (μ : zM) (H : Heap) (locs : List Loc) (ls : Array Slot), pX4_goesBuild_103 A th x2 Q n x7 μ → zB Γ (tSh th) (zA μ0) μ0 s μ H locs → lv_has ls 8 [(0, .ref th), (2, .int x2), (7, .int x7)] → W p l e ({ frames := fa + 4, cells := 0, slots := 0, locals := la + 104 } : Room) s m args below meth c H locs 0 0 (MQ below (va_Qv Q (zPost Γ (tSh th) μ0) (zA μ0)) args s 0 0 (zA μ0)) (F0 m 103 ls []) := by
  have S := X.1
  obtain ⟨hx, hb, hml, hown, hts⟩ := X.1
  intro n
  induction n with
  | zero =>
    intro x7 μ H locs ls hp
    exact hp.elim
  | succ n ih =>
    intro x7 μ H locs ls hp hB hl
    unfold pX4_goesBuild_103 at hp
    refine lv_iload hx hb dX4_goesBuild_103 (lv_at hl 2 rfl) ?_
    refine lv_iload_n hx hb dX4_goesBuild_105 rfl (lv_at hl 1 rfl) ?_
    refine lv_icmp_ge (tgt := 129) hx hb dX4_goesBuild_106 rfl (fun c0 => ?_) (fun c0 => ?_)
    · have hp := zit hp c0
      exact zret_v X hB hp dX4_goesBuild_129
    · have hp := zif hp c0
      refine lv_aload_n hx hb dX4_goesBuild_109 rfl (lv_at hl 0 rfl) ?_
      refine g_getr S hB (tT hB) rfl (T := TX4) (N := 38) (C := RX4) rfl in_X4 28 (by decide) (by decide) q1420 (fun _ h9 => h9) (fun _ => rfl) (tA hB 11 rfl).1 dX4_goesBuild_110 ?_
      refine lv_iload hx hb dX4_goesBuild_113 (lv_at hl 2 rfl) ?_
      refine lv_aload_n hx hb dX4_goesBuild_115 rfl (lv_at hl 0 rfl) ?_
      refine g_getr S hB (tT hB) rfl (T := TX4) (N := 38) (C := RX4) rfl in_X4 27 (by decide) (by decide) q1419 (fun _ h9 => h9) (fun _ => rfl) (tA hB 10 rfl).1 dX4_goesBuild_116 ?_
      refine lv_iload hx hb dX4_goesBuild_119 (lv_at hl 2 rfl) ?_
      obtain ⟨hi, hp⟩ := hp
      refine g_iald S hB (tA hB 10 rfl).2 hi dX4_goesBuild_121 ?_
      obtain ⟨hi, hp⟩ := hp
      obtain ⟨μ1, eμ1, hp⟩ := zpI_e hp
      refine g_iast S hB (tA hB 11 rfl).2 hi dX4_goesBuild_122 (fun H locs hB => ?_)
      rw [← eμ1] at hB
      refine lv_iinc (v := (x7 + (nI 1))) (lv' := [(7, .int (x7 + (nI 1))), (0, .ref th), (2, .int x2)]) hx hb dX4_goesBuild_123 hl (k := 2) rfl rfl (by decide) rfl (fun ls hl => ?_)
      refine lv_goto (tgt := 103) hx hb dX4_goesBuild_126 rfl ?_
      exact ih (x7 + (nI 1)) μ1 _ _ _ hp hB (lv_sub hl [1, 2, 0] rfl)
def pX4_goesBuild_89 (A : Nat → Int32 → Int32 → Int32 → Int32 → zM → (zM → Prop) → Prop) (th : Nat) (x2 : Int32) (Q : zM → Prop) (x5 : Int64) (μ : zM) : Prop := (zpJ μ th 31 x5 fun μ1 => (zpI μ1 th 29 x2 fun μ2 => ∃ k1, pX4_goesBuild_103 A th x2 Q k1 (nI 0) μ2))
set_option maxHeartbeats 4000000 in
set_option maxRecDepth 100000 in
theorem wX4_goesBuild_89 {p : Program} {l : Launch} {e : Env} {s : State} {m : MethodId} {args : Array Value} {below : List Frame} {meth : Method} {c : Code} {Γ : zG} {μ0 : zM} {Q : zM → Prop} (X : zCx p m c cX4_goesBuild 8 s args RX4 meth none) (A : Nat → Int32 → Int32 → Int32 → Int32 → zM → (zM → Prop) → Prop) (fa la : Nat) (hA : ∀ (l : Launch) (Γ : zG) (th : Nat) (x1 : Int32) (x2 : Int32) (x3 : Int32) (x4 : Int32) (μ : zM) (Q : (zM → Prop)), A th x1 x2 x3 x4 μ Q → Met l yX4_goesBuild (ws_ yX4_goesBuild cX4_goesBuild 8 none) { frames := fa, cells := 0, slots := 0, locals := la } (va_Pc [.ref th, .int x1, .int x2, .int x3, .int x4] (zPre Γ (tSh th) μ)) (va_Qv Q (zPost Γ (tSh th) μ) (zA μ)) 0 0 (zA μ)) (th : Nat) (x2 : Int32) : ∀ (x5 : Int64) (μ : zM) (H : Heap) (locs : List Loc) (ls : Array Slot), pX4_goesBuild_89 A th x2 Q x5 μ → zB Γ (tSh th) (zA μ0) μ0 s μ H locs → lv_has ls 8 [(0, .ref th), (2, .int x2), (5, .long x5)] → W p l e ({ frames := fa + 4, cells := 0, slots := 0, locals := la + 104 } : Room) s m args below meth c H locs 0 0 (MQ below (va_Qv Q (zPost Γ (tSh th) μ0) (zA μ0)) args s 0 0 (zA μ0)) (F0 m 89 ls []) := by
  have S := X.1
  obtain ⟨hx, hb, hml, hown, hts⟩ := X.1
  intro x5 μ H locs ls hp hB hl
  unfold pX4_goesBuild_89 at hp
  refine lv_aload_n hx hb dX4_goesBuild_89 rfl (lv_at hl 0 rfl) ?_
  refine lv_lload hx hb dX4_goesBuild_90 (lv_at hl 2 rfl) ?_
  obtain ⟨μ1, eμ1, hp⟩ := zpJ_e hp
  refine g_putJ S hB (tT hB) rfl (T := TX4) (N := 38) (C := RX4) rfl in_X4 31 (by decide) (by decide) (x := x5) tyX4 tyX4_ok nmX4 q1423 (fun _ h9 => h9) rfl (ty := .long) (by decide +kernel) rfl rfl (fun _ _ => rfl) dX4_goesBuild_92 (fun H locs hB => ?_)
  rw [← eμ1] at hB
  refine lv_aload_n hx hb dX4_goesBuild_95 rfl (lv_at hl 0 rfl) ?_
  refine lv_iload_n hx hb dX4_goesBuild_96 rfl (lv_at hl 1 rfl) ?_
  obtain ⟨μ2, eμ2, hp⟩ := zpI_e hp
  refine g_putI S hB (tT hB) rfl (T := TX4) (N := 38) (C := RX4) rfl in_X4 29 (by decide) (by decide) (x := x2) tyX4 tyX4_ok nmX4 q1421 (fun _ h9 => h9) rfl (ty := .int) (by decide +kernel) rfl rfl (fun _ _ => rfl) dX4_goesBuild_97 (fun H locs hB => ?_)
  rw [← eμ2] at hB
  refine lv_iconst (v := (nI 0)) hx hb dX4_goesBuild_100 rfl ?_
  refine lv_istore (lv' := [(7, .int (nI 0)), (0, .ref th), (2, .int x2), (5, .long x5)]) hx hb dX4_goesBuild_101 hl (by decide) rfl (fun ls hl => ?_)
  obtain ⟨n1, hp⟩ := hp
  exact wX4_goesBuild_103 X A fa la hA th x2 n1 (nI 0) μ2 _ _ _ hp hB (lv_sub hl [1, 2, 0] rfl)
def pX4_goesBuild_67 (A : Nat → Int32 → Int32 → Int32 → Int32 → zM → (zM → Prop) → Prop) (th : Nat) (x2 : Int32) (Q : zM → Prop) (x5 : Int64) (y2 : Int32) (μ : zM) : Prop := (zpI μ th 30 y2 fun μ1 => (if (zI μ1 th 29) = (-1 : Int32) then pX4_goesBuild_89 A th x2 Q x5 μ1 else (if 0 < (lg_cmp x5 (zJ μ1 th 31)) then pX4_goesBuild_89 A th x2 Q x5 μ1 else Q μ1)))
set_option maxHeartbeats 4000000 in
set_option maxRecDepth 100000 in
theorem wX4_goesBuild_67 {p : Program} {l : Launch} {e : Env} {s : State} {m : MethodId} {args : Array Value} {below : List Frame} {meth : Method} {c : Code} {Γ : zG} {μ0 : zM} {Q : zM → Prop} (X : zCx p m c cX4_goesBuild 8 s args RX4 meth none) (A : Nat → Int32 → Int32 → Int32 → Int32 → zM → (zM → Prop) → Prop) (fa la : Nat) (hA : ∀ (l : Launch) (Γ : zG) (th : Nat) (x1 : Int32) (x2 : Int32) (x3 : Int32) (x4 : Int32) (μ : zM) (Q : (zM → Prop)), A th x1 x2 x3 x4 μ Q → Met l yX4_goesBuild (ws_ yX4_goesBuild cX4_goesBuild 8 none) { frames := fa, cells := 0, slots := 0, locals := la } (va_Pc [.ref th, .int x1, .int x2, .int x3, .int x4] (zPre Γ (tSh th) μ)) (va_Qv Q (zPost Γ (tSh th) μ) (zA μ)) 0 0 (zA μ)) (th : Nat) (x2 : Int32) : ∀ (x5 : Int64) (y2 : Int32) (μ : zM) (H : Heap) (locs : List Loc) (ls : Array Slot), pX4_goesBuild_67 A th x2 Q x5 y2 μ → zB Γ (tSh th) (zA μ0) μ0 s μ H locs → lv_has ls 8 [(0, .ref th), (2, .int x2), (5, .long x5)] → W p l e ({ frames := fa + 4, cells := 0, slots := 0, locals := la + 104 } : Room) s m args below meth c H locs 0 0 (MQ below (va_Qv Q (zPost Γ (tSh th) μ0) (zA μ0)) args s 0 0 (zA μ0)) (F0 m 67 ls [.int y2, .ref th]) := by
  have S := X.1
  obtain ⟨hx, hb, hml, hown, hts⟩ := X.1
  intro x5 y2 μ H locs ls hp hB hl
  unfold pX4_goesBuild_67 at hp
  obtain ⟨μ1, eμ1, hp⟩ := zpI_e hp
  refine g_putI S hB (tT hB) rfl (T := TX4) (N := 38) (C := RX4) rfl in_X4 30 (by decide) (by decide) (x := y2) tyX4 tyX4_ok nmX4 q1422 (fun _ h9 => h9) rfl (ty := .int) (by decide +kernel) rfl rfl (fun _ _ => rfl) dX4_goesBuild_67 (fun H locs hB => ?_)
  rw [← eμ1] at hB
  refine lv_aload_n hx hb dX4_goesBuild_70 rfl (lv_at hl 0 rfl) ?_
  refine g_get S hB (tT hB) rfl (T := TX4) (N := 38) (C := RX4) rfl in_X4 29 (by decide) (by decide) q1421 (fun _ h9 => h9) (v := .int (zI μ1 th 29)) rfl dX4_goesBuild_71 ?_
  refine lv_iconst (v := (-1 : Int32)) hx hb dX4_goesBuild_74 rfl ?_
  refine lv_icmp_eq (tgt := 89) hx hb dX4_goesBuild_75 rfl (fun c0 => ?_) (fun c0 => ?_)
  · have hp := zit hp c0
    exact wX4_goesBuild_89 X A fa la hA th x2 x5 μ1 _ _ _ hp hB (lv_sub hl [0, 1, 2] rfl)
  · have hp := zif hp c0
    refine lv_lload hx hb dX4_goesBuild_78 (lv_at hl 2 rfl) ?_
    refine lv_aload_n hx hb dX4_goesBuild_80 rfl (lv_at hl 0 rfl) ?_
    refine g_get S hB (tT hB) rfl (T := TX4) (N := 38) (C := RX4) rfl in_X4 31 (by decide) (by decide) q1423 (fun _ h9 => h9) (v := .long (zJ μ1 th 31)) rfl dX4_goesBuild_81 ?_
    refine W.lcmp hx hb dX4_goesBuild_84 ?_
    refine lv_if_gt (tgt := 89) hx hb dX4_goesBuild_85 rfl (fun c0 => ?_) (fun c0 => ?_)
    · have hp := zit hp c0
      exact wX4_goesBuild_89 X A fa la hA th x2 x5 μ1 _ _ _ hp hB (lv_sub hl [0, 1, 2] rfl)
    · have hp := zif hp c0
      exact zret_v X hB hp dX4_goesBuild_88
def pX4_goesBuild_59 (A : Nat → Int32 → Int32 → Int32 → Int32 → zM → (zM → Prop) → Prop) (th : Nat) (x2 : Int32) (Q : zM → Prop) (x5 : Int64) (μ : zM) : Prop := pX4_goesBuild_67 A th x2 Q x5 (nI 1) μ
set_option maxHeartbeats 4000000 in
set_option maxRecDepth 100000 in
theorem wX4_goesBuild_59 {p : Program} {l : Launch} {e : Env} {s : State} {m : MethodId} {args : Array Value} {below : List Frame} {meth : Method} {c : Code} {Γ : zG} {μ0 : zM} {Q : zM → Prop} (X : zCx p m c cX4_goesBuild 8 s args RX4 meth none) (A : Nat → Int32 → Int32 → Int32 → Int32 → zM → (zM → Prop) → Prop) (fa la : Nat) (hA : ∀ (l : Launch) (Γ : zG) (th : Nat) (x1 : Int32) (x2 : Int32) (x3 : Int32) (x4 : Int32) (μ : zM) (Q : (zM → Prop)), A th x1 x2 x3 x4 μ Q → Met l yX4_goesBuild (ws_ yX4_goesBuild cX4_goesBuild 8 none) { frames := fa, cells := 0, slots := 0, locals := la } (va_Pc [.ref th, .int x1, .int x2, .int x3, .int x4] (zPre Γ (tSh th) μ)) (va_Qv Q (zPost Γ (tSh th) μ) (zA μ)) 0 0 (zA μ)) (th : Nat) (x2 : Int32) : ∀ (x5 : Int64) (μ : zM) (H : Heap) (locs : List Loc) (ls : Array Slot), pX4_goesBuild_59 A th x2 Q x5 μ → zB Γ (tSh th) (zA μ0) μ0 s μ H locs → lv_has ls 8 [(0, .ref th), (2, .int x2), (5, .long x5)] → W p l e ({ frames := fa + 4, cells := 0, slots := 0, locals := la + 104 } : Room) s m args below meth c H locs 0 0 (MQ below (va_Qv Q (zPost Γ (tSh th) μ0) (zA μ0)) args s 0 0 (zA μ0)) (F0 m 59 ls [.ref th]) := by
  have S := X.1
  obtain ⟨hx, hb, hml, hown, hts⟩ := X.1
  intro x5 μ H locs ls hp hB hl
  unfold pX4_goesBuild_59 at hp
  refine lv_iconst (v := (nI 1)) hx hb dX4_goesBuild_59 rfl ?_
  refine lv_goto (tgt := 67) hx hb dX4_goesBuild_60 rfl ?_
  exact wX4_goesBuild_67 X A fa la hA th x2 x5 (nI 1) μ _ _ _ hp hB (lv_sub hl [0, 1, 2] rfl)
def pX4_goesBuild_41 (A : Nat → Int32 → Int32 → Int32 → Int32 → zM → (zM → Prop) → Prop) (th : Nat) (x2 : Int32) (Q : zM → Prop) (x5 : Int64) (μ : zM) : Prop := (if 0 < (lg_cmp x5 (zJ μ th 31)) then pX4_goesBuild_59 A th x2 Q x5 μ else (if (zI μ th 29) = (-1 : Int32) then pX4_goesBuild_59 A th x2 Q x5 μ else pX4_goesBuild_67 A th x2 Q x5 (zI μ th 30) μ))
set_option maxHeartbeats 4000000 in
set_option maxRecDepth 100000 in
theorem wX4_goesBuild_41 {p : Program} {l : Launch} {e : Env} {s : State} {m : MethodId} {args : Array Value} {below : List Frame} {meth : Method} {c : Code} {Γ : zG} {μ0 : zM} {Q : zM → Prop} (X : zCx p m c cX4_goesBuild 8 s args RX4 meth none) (A : Nat → Int32 → Int32 → Int32 → Int32 → zM → (zM → Prop) → Prop) (fa la : Nat) (hA : ∀ (l : Launch) (Γ : zG) (th : Nat) (x1 : Int32) (x2 : Int32) (x3 : Int32) (x4 : Int32) (μ : zM) (Q : (zM → Prop)), A th x1 x2 x3 x4 μ Q → Met l yX4_goesBuild (ws_ yX4_goesBuild cX4_goesBuild 8 none) { frames := fa, cells := 0, slots := 0, locals := la } (va_Pc [.ref th, .int x1, .int x2, .int x3, .int x4] (zPre Γ (tSh th) μ)) (va_Qv Q (zPost Γ (tSh th) μ) (zA μ)) 0 0 (zA μ)) (th : Nat) (x2 : Int32) : ∀ (x5 : Int64) (μ : zM) (H : Heap) (locs : List Loc) (ls : Array Slot), pX4_goesBuild_41 A th x2 Q x5 μ → zB Γ (tSh th) (zA μ0) μ0 s μ H locs → lv_has ls 8 [(0, .ref th), (2, .int x2), (5, .long x5)] → W p l e ({ frames := fa + 4, cells := 0, slots := 0, locals := la + 104 } : Room) s m args below meth c H locs 0 0 (MQ below (va_Qv Q (zPost Γ (tSh th) μ0) (zA μ0)) args s 0 0 (zA μ0)) (F0 m 41 ls [.ref th]) := by
  have S := X.1
  obtain ⟨hx, hb, hml, hown, hts⟩ := X.1
  intro x5 μ H locs ls hp hB hl
  unfold pX4_goesBuild_41 at hp
  refine lv_lload hx hb dX4_goesBuild_41 (lv_at hl 2 rfl) ?_
  refine lv_aload_n hx hb dX4_goesBuild_43 rfl (lv_at hl 0 rfl) ?_
  refine g_get S hB (tT hB) rfl (T := TX4) (N := 38) (C := RX4) rfl in_X4 31 (by decide) (by decide) q1423 (fun _ h9 => h9) (v := .long (zJ μ th 31)) rfl dX4_goesBuild_44 ?_
  refine W.lcmp hx hb dX4_goesBuild_47 ?_
  refine lv_if_gt (tgt := 59) hx hb dX4_goesBuild_48 rfl (fun c0 => ?_) (fun c0 => ?_)
  · have hp := zit hp c0
    exact wX4_goesBuild_59 X A fa la hA th x2 x5 μ _ _ _ hp hB (lv_sub hl [0, 1, 2] rfl)
  · have hp := zif hp c0
    refine lv_aload_n hx hb dX4_goesBuild_51 rfl (lv_at hl 0 rfl) ?_
    refine g_get S hB (tT hB) rfl (T := TX4) (N := 38) (C := RX4) rfl in_X4 29 (by decide) (by decide) q1421 (fun _ h9 => h9) (v := .int (zI μ th 29)) rfl dX4_goesBuild_52 ?_
    refine lv_iconst (v := (-1 : Int32)) hx hb dX4_goesBuild_55 rfl ?_
    refine lv_icmp_ne (tgt := 63) hx hb dX4_goesBuild_56 rfl (fun c0 => ?_) (fun c0 => ?_)
    · have hp := zif hp c0
      refine lv_aload_n hx hb dX4_goesBuild_63 rfl (lv_at hl 0 rfl) ?_
      refine g_get S hB (tT hB) rfl (T := TX4) (N := 38) (C := RX4) rfl in_X4 30 (by decide) (by decide) q1422 (fun _ h9 => h9) (v := .int (zI μ th 30)) rfl dX4_goesBuild_64 ?_
      exact wX4_goesBuild_67 X A fa la hA th x2 x5 (zI μ th 30) μ _ _ _ hp hB (lv_sub hl [0, 1, 2] rfl)
    · have hp := zit hp c0
      exact wX4_goesBuild_59 X A fa la hA th x2 x5 μ _ _ _ hp hB (lv_sub hl [0, 1, 2] rfl)
def pX4_goesBuild_134 (A : Nat → Int32 → Int32 → Int32 → Int32 → zM → (zM → Prop) → Prop) (th : Nat) (x1 : Int32) (x2 : Int32) (x3 : Int32) (Q : zM → Prop) : Nat → Int32 → zM → Prop
  | 0, _, _ => False
  | n + 1, x5, μ => (if x1 ≤ x5 then Q μ else (vp_in x3 3 ∧ zpI μ (th + 11) x3.toNatClampNeg x5 fun μ1 => (A th x1 x2 (x3 + (nI 1)) (x5 + (nI 1)) μ1 fun μ2 => pX4_goesBuild_134 A th x1 x2 x3 Q n (x5 + (nI 1)) μ2)))
set_option maxHeartbeats 4000000 in
set_option maxRecDepth 100000 in
theorem wX4_goesBuild_134 {p : Program} {l : Launch} {e : Env} {s : State} {m : MethodId} {args : Array Value} {below : List Frame} {meth : Method} {c : Code} {Γ : zG} {μ0 : zM} {Q : zM → Prop} (X : zCx p m c cX4_goesBuild 8 s args RX4 meth none) (A : Nat → Int32 → Int32 → Int32 → Int32 → zM → (zM → Prop) → Prop) (fa la : Nat) (hA : ∀ (l : Launch) (Γ : zG) (th : Nat) (x1 : Int32) (x2 : Int32) (x3 : Int32) (x4 : Int32) (μ : zM) (Q : (zM → Prop)), A th x1 x2 x3 x4 μ Q → Met l yX4_goesBuild (ws_ yX4_goesBuild cX4_goesBuild 8 none) { frames := fa, cells := 0, slots := 0, locals := la } (va_Pc [.ref th, .int x1, .int x2, .int x3, .int x4] (zPre Γ (tSh th) μ)) (va_Qv Q (zPost Γ (tSh th) μ) (zA μ)) 0 0 (zA μ)) (th : Nat) (x1 : Int32) (x2 : Int32) (x3 : Int32) : ∀ (n : Nat) (x5 : Int32) (μ : zM) (H : Heap) (locs : List Loc) (ls : Array Slot), pX4_goesBuild_134 A th x1 x2 x3 Q n x5 μ → zB Γ (tSh th) (zA μ0) μ0 s μ H locs → lv_has ls 8 [(0, .ref th), (1, .int x1), (2, .int x2), (3, .int x3), (5, .int x5)] → W p l e ({ frames := fa + 4, cells := 0, slots := 0, locals := la + 104 } : Room) s m args below meth c H locs 0 0 (MQ below (va_Qv Q (zPost Γ (tSh th) μ0) (zA μ0)) args s 0 0 (zA μ0)) (F0 m 134 ls []) := by
  have S := X.1
  obtain ⟨hx, hb, hml, hown, hts⟩ := X.1
  intro n
  induction n with
  | zero =>
    intro x5 μ H locs ls hp
    exact hp.elim
  | succ n ih =>
    intro x5 μ H locs ls hp hB hl
    unfold pX4_goesBuild_134 at hp
    refine lv_iload hx hb dX4_goesBuild_134 (lv_at hl 4 rfl) ?_
    refine lv_iload_n hx hb dX4_goesBuild_136 rfl (lv_at hl 1 rfl) ?_
    refine lv_icmp_ge (tgt := 167) hx hb dX4_goesBuild_137 rfl (fun c0 => ?_) (fun c0 => ?_)
    · have hp := zit hp c0
      exact zret_v X hB hp dX4_goesBuild_167
    · have hp := zif hp c0
      refine lv_aload_n hx hb dX4_goesBuild_140 rfl (lv_at hl 0 rfl) ?_
      refine g_getr S hB (tT hB) rfl (T := TX4) (N := 38) (C := RX4) rfl in_X4 27 (by decide) (by decide) q1419 (fun _ h9 => h9) (fun _ => rfl) (tA hB 10 rfl).1 dX4_goesBuild_141 ?_
      refine lv_iload_n hx hb dX4_goesBuild_144 rfl (lv_at hl 3 rfl) ?_
      refine lv_iload hx hb dX4_goesBuild_145 (lv_at hl 4 rfl) ?_
      obtain ⟨hi, hp⟩ := hp
      obtain ⟨μ1, eμ1, hp⟩ := zpI_e hp
      refine g_iast S hB (tA hB 10 rfl).2 hi dX4_goesBuild_147 (fun H locs hB => ?_)
      rw [← eμ1] at hB
      refine lv_aload_n hx hb dX4_goesBuild_148 rfl (lv_at hl 0 rfl) ?_
      refine lv_iload_n hx hb dX4_goesBuild_149 rfl (lv_at hl 1 rfl) ?_
      refine lv_iload_n hx hb dX4_goesBuild_150 rfl (lv_at hl 2 rfl) ?_
      refine lv_iload_n hx hb dX4_goesBuild_151 rfl (lv_at hl 3 rfl) ?_
      refine lv_iconst (v := (nI 1)) hx hb dX4_goesBuild_152 rfl ?_
      refine lv_iadd hx hb dX4_goesBuild_153 ?_
      refine lv_iload hx hb dX4_goesBuild_154 (lv_at hl 4 rfl) ?_
      refine lv_iconst (v := (nI 1)) hx hb dX4_goesBuild_156 rfl ?_
      refine lv_iadd hx hb dX4_goesBuild_157 ?_
      refine z_callv (va_runV (As := [.int x1, .int x2, .int (x3 + (nI 1)), .int (x5 + (nI 1))]) (rest := []) S (hA l Γ th x1 x2 (x3 + (nI 1)) (x5 + (nI 1)) μ1 _ hp) (cwV 4 hts (lw_V q1929 q1931 qs116 q132 q1932) rfl rfl rfl hX4_goesBuild ⟨by dsimp only; omega, by dsimp only; omega⟩) (hB.preV (tT hB) rfl rfl) rfl rfl hl.1 rfl (lv_room (Nat.le_of_ble_eq_true rfl)) dX4_goesBuild_158 ⟨Nat.le_refl _, Nat.le_refl _⟩) hB (fun μ2 H locs hp hB => ?_)
      refine lv_iinc (v := (x5 + (nI 1))) (lv' := [(5, .int (x5 + (nI 1))), (0, .ref th), (1, .int x1), (2, .int x2), (3, .int x3)]) hx hb dX4_goesBuild_161 hl (k := 4) rfl rfl (by decide) rfl (fun ls hl => ?_)
      refine lv_goto (tgt := 134) hx hb dX4_goesBuild_164 rfl ?_
      exact ih (x5 + (nI 1)) μ2 _ _ _ hp hB (lv_sub hl [1, 2, 3, 4, 0] rfl)
def pX4_goesBuild_of (A : Nat → Int32 → Int32 → Int32 → Int32 → zM → (zM → Prop) → Prop) (th : Nat) (x1 : Int32) (x2 : Int32) (x3 : Int32) (x4 : Int32) (μ : zM) (Q : zM → Prop) : Prop := (if x3 = x2 then (pX4_sumOf th x1 x2 μ fun r2 μ1 => (if (lg_cmp r2 (zJ μ1 th 31)) = 0 then (if (zI μ1 th 29) = (-1 : Int32) then pX4_goesBuild_41 A th x2 Q r2 μ1 else pX4_goesBuild_67 A th x2 Q r2 ((zI μ1 th 30) + (nI 1)) μ1) else pX4_goesBuild_41 A th x2 Q r2 μ1)) else ∃ k1, pX4_goesBuild_134 A th x1 x2 x3 Q k1 x4 μ)
set_option maxHeartbeats 4000000 in
set_option maxRecDepth 100000 in
theorem mX4_goesBuild_of (A : Nat → Int32 → Int32 → Int32 → Int32 → zM → (zM → Prop) → Prop) (fa la : Nat) (hA : ∀ (l : Launch) (Γ : zG) (th : Nat) (x1 : Int32) (x2 : Int32) (x3 : Int32) (x4 : Int32) (μ : zM) (Q : (zM → Prop)), A th x1 x2 x3 x4 μ Q → Met l yX4_goesBuild (ws_ yX4_goesBuild cX4_goesBuild 8 none) { frames := fa, cells := 0, slots := 0, locals := la } (va_Pc [.ref th, .int x1, .int x2, .int x3, .int x4] (zPre Γ (tSh th) μ)) (va_Qv Q (zPost Γ (tSh th) μ) (zA μ)) 0 0 (zA μ)) (l : Launch) (Γ : zG) (th : Nat) (x1 : Int32) (x2 : Int32) (x3 : Int32) (x4 : Int32) (μ : zM) (Q : zM → Prop) (hp : pX4_goesBuild_of A th x1 x2 x3 x4 μ Q) : Met l yX4_goesBuild (ws_ yX4_goesBuild cX4_goesBuild 8 none) ({ frames := fa + 4, cells := 0, slots := 0, locals := la + 104 } : Room) (va_Pc [.ref th, .int x1, .int x2, .int x3, .int x4] (zPre Γ (tSh th) μ)) (va_Qv Q (zPost Γ (tSh th) μ) (zA μ)) 0 0 (zA μ) := by
  refine zstart (by decide) (Nat.le_of_ble_eq_true rfl) ?_
  intro p e s m below meth c ls X hnm hB hl
  have X : zCx p m c cX4_goesBuild 8 s [.ref th, .int x1, .int x2, .int x3, .int x4].toArray RX4 meth none := X
  have S := X.1
  obtain ⟨hx, hb, hml, hown, hts⟩ := X.1
  have hl : lv_has ls 8 [(0, .ref th), (1, .int x1), (2, .int x2), (3, .int x3), (4, .int x4)] := hl
  unfold pX4_goesBuild_of at hp
  refine lv_iload_n hx hb dX4_goesBuild_0 rfl (lv_at hl 3 rfl) ?_
  refine lv_iload_n hx hb dX4_goesBuild_1 rfl (lv_at hl 2 rfl) ?_
  refine lv_icmp_ne (tgt := 130) hx hb dX4_goesBuild_2 rfl (fun c0 => ?_) (fun c0 => ?_)
  · have hp := zif hp c0
    refine lv_iload hx hb dX4_goesBuild_130 (lv_at hl 4 rfl) ?_
    refine lv_istore (lv' := [(5, .int x4), (0, .ref th), (1, .int x1), (2, .int x2), (3, .int x3), (4, .int x4)]) hx hb dX4_goesBuild_132 hl (by decide) rfl (fun ls hl => ?_)
    obtain ⟨n1, hp⟩ := hp
    exact wX4_goesBuild_134 X A fa la hA th x1 x2 x3 n1 x4 μ _ _ _ hp hB (lv_sub hl [1, 2, 3, 4, 0] rfl)
  · have hp := zit hp c0
    refine lv_aload_n hx hb dX4_goesBuild_5 rfl (lv_at hl 0 rfl) ?_
    refine lv_iload_n hx hb dX4_goesBuild_6 rfl (lv_at hl 1 rfl) ?_
    refine lv_iload_n hx hb dX4_goesBuild_7 rfl (lv_at hl 2 rfl) ?_
    refine z_calll (va_runV (As := [.int x1, .int x2]) (rest := []) S (mX4_sumOf l Γ th x1 x2 μ _ hp) (cwV 2 hts (lw_V q1933 q1935 qs117 q132 q1936) rfl rfl rfl hX4_sumOf ⟨by dsimp only; omega, by dsimp only; omega⟩) (hB.preV (tT hB) rfl rfl) rfl rfl hl.1 rfl (lv_room (Nat.le_of_ble_eq_true rfl)) dX4_goesBuild_8 ⟨Nat.le_refl _, Nat.le_refl _⟩) hB (fun r2 μ1 H locs hp hB => ?_)
    refine lv_lstore (lv' := [(5, .long r2), (0, .ref th), (1, .int x1), (2, .int x2), (3, .int x3), (4, .int x4)]) hx hb dX4_goesBuild_11 hl (by decide) rfl (fun ls hl => ?_)
    refine lv_aload_n hx hb dX4_goesBuild_13 rfl (lv_at hl 1 rfl) ?_
    refine lv_lload hx hb dX4_goesBuild_14 (lv_at hl 0 rfl) ?_
    refine lv_aload_n hx hb dX4_goesBuild_16 rfl (lv_at hl 1 rfl) ?_
    refine g_get S hB (tT hB) rfl (T := TX4) (N := 38) (C := RX4) rfl in_X4 31 (by decide) (by decide) q1423 (fun _ h9 => h9) (v := .long (zJ μ1 th 31)) rfl dX4_goesBuild_17 ?_
    refine W.lcmp hx hb dX4_goesBuild_20 ?_
    refine lv_if_ne (tgt := 41) hx hb dX4_goesBuild_21 rfl (fun c0 => ?_) (fun c0 => ?_)
    · have hp := zif hp c0
      exact wX4_goesBuild_41 X A fa la hA th x2 r2 μ1 _ _ _ hp hB (lv_sub hl [1, 3, 0] rfl)
    · have hp := zit hp c0
      refine lv_aload_n hx hb dX4_goesBuild_24 rfl (lv_at hl 1 rfl) ?_
      refine g_get S hB (tT hB) rfl (T := TX4) (N := 38) (C := RX4) rfl in_X4 29 (by decide) (by decide) q1421 (fun _ h9 => h9) (v := .int (zI μ1 th 29)) rfl dX4_goesBuild_25 ?_
      refine lv_iconst (v := (-1 : Int32)) hx hb dX4_goesBuild_28 rfl ?_
      refine lv_icmp_eq (tgt := 41) hx hb dX4_goesBuild_29 rfl (fun c0 => ?_) (fun c0 => ?_)
      · have hp := zit hp c0
        exact wX4_goesBuild_41 X A fa la hA th x2 r2 μ1 _ _ _ hp hB (lv_sub hl [1, 3, 0] rfl)
      · have hp := zif hp c0
        refine lv_aload_n hx hb dX4_goesBuild_32 rfl (lv_at hl 1 rfl) ?_
        refine g_get S hB (tT hB) rfl (T := TX4) (N := 38) (C := RX4) rfl in_X4 30 (by decide) (by decide) q1422 (fun _ h9 => h9) (v := .int (zI μ1 th 30)) rfl dX4_goesBuild_33 ?_
        refine lv_iconst (v := (nI 1)) hx hb dX4_goesBuild_36 rfl ?_
        refine lv_iadd hx hb dX4_goesBuild_37 ?_
        refine lv_goto (tgt := 67) hx hb dX4_goesBuild_38 rfl ?_
        exact wX4_goesBuild_67 X A fa la hA th x2 r2 ((zI μ1 th 30) + (nI 1)) μ1 _ _ _ hp hB (lv_sub hl [1, 3, 0] rfl)
def pX4_goesBuild : Nat → Nat → Int32 → Int32 → Int32 → Int32 → zM → (zM → Prop) → Prop
  | 0 => fun _ _ _ _ _ _ _ => False
  | d + 1 => fun th x1 x2 x3 x4 μ Q => pX4_goesBuild_of (pX4_goesBuild d) th x1 x2 x3 x4 μ Q
theorem mX4_goesBuild : ∀ (d : Nat) (l : Launch) (Γ : zG) (th : Nat) (x1 : Int32) (x2 : Int32) (x3 : Int32) (x4 : Int32) (μ : zM) (Q : (zM → Prop)), pX4_goesBuild d th x1 x2 x3 x4 μ Q → Met l yX4_goesBuild (ws_ yX4_goesBuild cX4_goesBuild 8 none) { frames := 4 * d, cells := 0, slots := 0, locals := 104 * d } (va_Pc [.ref th, .int x1, .int x2, .int x3, .int x4] (zPre Γ (tSh th) μ)) (va_Qv Q (zPost Γ (tSh th) μ) (zA μ)) 0 0 (zA μ) := by
  intro d
  induction d with
  | zero => intro l Γ th x1 x2 x3 x4 μ Q h; exact h.elim
  | succ d ih => intro l Γ th x1 x2 x3 x4 μ Q h; exact mX4_goesBuild_of (pX4_goesBuild d) (4 * d) (104 * d) ih l Γ th x1 x2 x3 x4 μ Q h
def pX4_byRings (th : Nat) (x1 : Int32) (μ : zM) (Q : Int32 → zM → Prop) : Prop := (zpI μ th 0 (nI 0) fun μ1 => (pX4_isTenant th (x1.toInt64) μ1 fun r3 μ2 => (if r3 = 0 then Q (-2 : Int32) μ2 else (pX4_laysRings th μ2 fun μ4 => (vp_in x1 6 ∧ Q (zI μ4 (th + 8) x1.toNatClampNeg) μ4)))))
theorem hX4_byRings : yX4_byRings.cls = "SunkTowerModel" ∧ yX4_byRings.cls ≠ "java/lang/invoke/MethodHandle" ∧ yX4_byRings.cls ≠ "java/lang/invoke/VarHandle" ∧ (parseMethodDescriptor yX4_byRings.desc).map (fun d => d.parameters.length) = some 1 := by decide +kernel
set_option maxHeartbeats 4000000 in
set_option maxRecDepth 100000 in
theorem mX4_byRings (l : Launch) (Γ : zG) (th : Nat) (x1 : Int32) (μ : zM) (Q : Int32 → zM → Prop) (hp : pX4_byRings th x1 μ Q) : Met l yX4_byRings (ws_ yX4_byRings cX4_byRings 2 (some .int)) ({ frames := 6, cells := 0, slots := 0, locals := 143 } : Room) (va_Pc [.ref th, .int x1] (zPre Γ (tSh th) μ)) (va_Qi Q (zPost Γ (tSh th) μ) (zA μ)) 0 0 (zA μ) := by
  refine zstart (by decide) (Nat.le_of_ble_eq_true rfl) ?_
  intro p e s m below meth c ls X hnm hB hl
  have X : zCx p m c cX4_byRings 2 s [.ref th, .int x1].toArray RX4 meth (some .int) := X
  have S := X.1
  obtain ⟨hx, hb, hml, hown, hts⟩ := X.1
  have hl : lv_has ls 2 [(0, .ref th), (1, .int x1)] := hl
  unfold pX4_byRings at hp
  refine lv_aload_n hx hb dX4_byRings_0 rfl (lv_at hl 0 rfl) ?_
  refine lv_iconst (v := (nI 0)) hx hb dX4_byRings_1 rfl ?_
  obtain ⟨μ1, eμ1, hp⟩ := zpI_e hp
  refine g_putI S hB (tT hB) rfl (T := TX4) (N := 38) (C := RX4) rfl in_X4 0 (by decide) (by decide) (x := (nI 0)) tyX4 tyX4_ok nmX4 q1392 (fun _ h9 => h9) rfl (ty := .int) (by decide +kernel) rfl rfl (fun _ _ => rfl) dX4_byRings_2 (fun H locs hB => ?_)
  rw [← eμ1] at hB
  refine lv_aload_n hx hb dX4_byRings_5 rfl (lv_at hl 0 rfl) ?_
  refine lv_iload_n hx hb dX4_byRings_6 rfl (lv_at hl 1 rfl) ?_
  refine lv_i2l hx hb dX4_byRings_7 rfl ?_
  refine z_calli (va_runV (As := [.long (x1.toInt64)]) (rest := []) S (mX4_isTenant l Γ th (x1.toInt64) μ1 _ hp) (cwV 1 hts (lw_V q1633 q1635 qs81 q132 q1636) rfl rfl rfl hX4_isTenant ⟨Nat.le_of_ble_eq_true rfl, Nat.le_of_ble_eq_true rfl⟩) (hB.preV (tT hB) rfl rfl) rfl rfl hl.1 rfl (lv_room (Nat.le_of_ble_eq_true rfl)) dX4_byRings_8 ⟨Nat.le_refl _, Nat.le_refl _⟩) hB (fun r3 μ2 H locs hp hB => ?_)
  refine lv_if_ne (tgt := 17) hx hb dX4_byRings_11 rfl (fun c0 => ?_) (fun c0 => ?_)
  · have hp := zif hp c0
    refine lv_aload_n hx hb dX4_byRings_17 rfl (lv_at hl 0 rfl) ?_
    refine z_callv (va_runV (As := []) (rest := []) S (mX4_laysRings l Γ th μ2 _ hp) (cwV 0 hts (lw_V q1744 q1746 qs95 q132 q1747) rfl rfl rfl hX4_laysRings ⟨Nat.le_of_ble_eq_true rfl, Nat.le_of_ble_eq_true rfl⟩) (hB.preV (tT hB) rfl rfl) rfl rfl hl.1 rfl (lv_room (Nat.le_of_ble_eq_true rfl)) dX4_byRings_18 ⟨Nat.le_refl _, Nat.le_refl _⟩) hB (fun μ4 H locs hp hB => ?_)
    refine lv_aload_n hx hb dX4_byRings_21 rfl (lv_at hl 0 rfl) ?_
    refine g_getr S hB (tT hB) rfl (T := TX4) (N := 38) (C := RX4) rfl in_X4 19 (by decide) (by decide) q1411 (fun _ h9 => h9) (fun _ => rfl) (tA hB 7 rfl).1 dX4_byRings_22 ?_
    refine lv_iload_n hx hb dX4_byRings_25 rfl (lv_at hl 1 rfl) ?_
    obtain ⟨hi, hp⟩ := hp
    refine g_iald S hB (tA hB 7 rfl).2 hi dX4_byRings_26 ?_
    exact zret_i X hB hp dX4_byRings_27
  · have hp := zit hp c0
    refine lv_bipush (v := (-2 : Int32)) hx hb dX4_byRings_14 rfl ?_
    exact zret_i X hB hp dX4_byRings_16
def pX4_ringsMany (th : Nat) (μ : zM) (Q : Int32 → zM → Prop) : Prop := (zpI μ th 0 (nI 0) fun μ1 => (pX4_laysRings th μ1 fun μ2 => Q (zI μ2 th 20) μ2))
theorem hX4_ringsMany : yX4_ringsMany.cls = "SunkTowerModel" ∧ yX4_ringsMany.cls ≠ "java/lang/invoke/MethodHandle" ∧ yX4_ringsMany.cls ≠ "java/lang/invoke/VarHandle" ∧ (parseMethodDescriptor yX4_ringsMany.desc).map (fun d => d.parameters.length) = some 0 := by decide +kernel
set_option maxHeartbeats 4000000 in
set_option maxRecDepth 100000 in
theorem mX4_ringsMany (l : Launch) (Γ : zG) (th : Nat) (μ : zM) (Q : Int32 → zM → Prop) (hp : pX4_ringsMany th μ Q) : Met l yX4_ringsMany (ws_ yX4_ringsMany cX4_ringsMany 1 (some .int)) ({ frames := 6, cells := 0, slots := 0, locals := 143 } : Room) (va_Pc [.ref th] (zPre Γ (tSh th) μ)) (va_Qi Q (zPost Γ (tSh th) μ) (zA μ)) 0 0 (zA μ) := by
  refine zstart (by decide) (Nat.le_of_ble_eq_true rfl) ?_
  intro p e s m below meth c ls X hnm hB hl
  have X : zCx p m c cX4_ringsMany 1 s [.ref th].toArray RX4 meth (some .int) := X
  have S := X.1
  obtain ⟨hx, hb, hml, hown, hts⟩ := X.1
  have hl : lv_has ls 1 [(0, .ref th)] := hl
  unfold pX4_ringsMany at hp
  refine lv_aload_n hx hb dX4_ringsMany_0 rfl (lv_at hl 0 rfl) ?_
  refine lv_iconst (v := (nI 0)) hx hb dX4_ringsMany_1 rfl ?_
  obtain ⟨μ1, eμ1, hp⟩ := zpI_e hp
  refine g_putI S hB (tT hB) rfl (T := TX4) (N := 38) (C := RX4) rfl in_X4 0 (by decide) (by decide) (x := (nI 0)) tyX4 tyX4_ok nmX4 q1392 (fun _ h9 => h9) rfl (ty := .int) (by decide +kernel) rfl rfl (fun _ _ => rfl) dX4_ringsMany_2 (fun H locs hB => ?_)
  rw [← eμ1] at hB
  refine lv_aload_n hx hb dX4_ringsMany_5 rfl (lv_at hl 0 rfl) ?_
  refine z_callv (va_runV (As := []) (rest := []) S (mX4_laysRings l Γ th μ1 _ hp) (cwV 0 hts (lw_V q1744 q1746 qs95 q132 q1747) rfl rfl rfl hX4_laysRings ⟨Nat.le_of_ble_eq_true rfl, Nat.le_of_ble_eq_true rfl⟩) (hB.preV (tT hB) rfl rfl) rfl rfl hl.1 rfl (lv_room (Nat.le_of_ble_eq_true rfl)) dX4_ringsMany_6 ⟨Nat.le_refl _, Nat.le_refl _⟩) hB (fun μ2 H locs hp hB => ?_)
  refine lv_aload_n hx hb dX4_ringsMany_9 rfl (lv_at hl 0 rfl) ?_
  refine g_get S hB (tT hB) rfl (T := TX4) (N := 38) (C := RX4) rfl in_X4 20 (by decide) (by decide) q1412 (fun _ h9 => h9) (v := .int (zI μ2 th 20)) rfl dX4_ringsMany_10 ?_
  exact zret_i X hB hp dX4_ringsMany_13
def pX4_laysFits_25 (th : Nat) (x1 : Int32) (K8 : Int32 → Int32 → zM → Prop) (Q : Int32 → zM → Prop) : Nat → Int32 → Int32 → Int32 → zM → Prop
  | 0, _, _, _, _ => False
  | n + 1, x2, x3, x4, μ => (vp_in x1 4 ∧ (if (zI μ (th + 17) x1.toNatClampNeg) ≤ x4 then (vp_in x3 1000 ∧ (if (zI μ (th + 15) x3.toNatClampNeg) = 0 then K8 (x2 + (nI 0)) (x3 + (nI 1)) μ else K8 (x2 + (nI 1)) (x3 + (nI 1)) μ)) else (vp_in x3 1000 ∧ (pX4_isMark th x1 x4 x3 μ fun r2 μ1 => (vp_in x3 1000 ∧ zpI μ1 (th + 15) x3.toNatClampNeg (vp_nar .boolean ((zI μ (th + 15) x3.toNatClampNeg) &&& r2)) fun μ3 => pX4_laysFits_25 th x1 K8 Q n x2 x3 (x4 + (nI 2)) μ3)))))
set_option maxHeartbeats 4000000 in
set_option maxRecDepth 100000 in
theorem wX4_laysFits_25 {p : Program} {l : Launch} {e : Env} {s : State} {m : MethodId} {args : Array Value} {below : List Frame} {meth : Method} {c : Code} {Γ : zG} {μ0 : zM} {Q : Int32 → zM → Prop} {K8 : Int32 → Int32 → zM → Prop} (X : zCx p m c cX4_laysFits 5 s args RX4 meth (some .int)) (th : Nat) (x1 : Int32) (hK8 : ∀ (x2 : Int32) (x3 : Int32) (μ : zM) (H : Heap) (locs : List Loc) (ls : Array Slot), K8 x2 x3 μ → zB Γ (tSh th) (zA μ0) μ0 s μ H locs → lv_has ls 5 [(0, .ref th), (1, .int x1), (2, .int x2), (3, .int x3)] → W p l e ({ frames := 4, cells := 0, slots := 0, locals := 99 } : Room) s m args below meth c H locs 0 0 (MQ below (va_Qi Q (zPost Γ (tSh th) μ0) (zA μ0)) args s 0 0 (zA μ0)) (F0 m 8 ls [])) : ∀ (n : Nat) (x2 : Int32) (x3 : Int32) (x4 : Int32) (μ : zM) (H : Heap) (locs : List Loc) (ls : Array Slot), pX4_laysFits_25 th x1 K8 Q n x2 x3 x4 μ → zB Γ (tSh th) (zA μ0) μ0 s μ H locs → lv_has ls 5 [(0, .ref th), (1, .int x1), (2, .int x2), (3, .int x3), (4, .int x4)] → W p l e ({ frames := 4, cells := 0, slots := 0, locals := 99 } : Room) s m args below meth c H locs 0 0 (MQ below (va_Qi Q (zPost Γ (tSh th) μ0) (zA μ0)) args s 0 0 (zA μ0)) (F0 m 25 ls []) := by
  have S := X.1
  obtain ⟨hx, hb, hml, hown, hts⟩ := X.1
  intro n
  induction n with
  | zero =>
    intro x2 x3 x4 μ H locs ls hp
    exact hp.elim
  | succ n ih =>
    intro x2 x3 x4 μ H locs ls hp hB hl
    unfold pX4_laysFits_25 at hp
    refine lv_iload hx hb dX4_laysFits_25 (lv_at hl 4 rfl) ?_
    refine lv_aload_n hx hb dX4_laysFits_27 rfl (lv_at hl 0 rfl) ?_
    refine g_getr S hB (tT hB) rfl (T := TX4) (N := 38) (C := RX4) rfl in_X4 36 (by decide) (by decide) q1428 (fun _ h9 => h9) (fun _ => rfl) (tA hB 16 rfl).1 dX4_laysFits_28 ?_
    refine lv_iload_n hx hb dX4_laysFits_31 rfl (lv_at hl 1 rfl) ?_
    obtain ⟨hi, hp⟩ := hp
    refine g_iald S hB (tA hB 16 rfl).2 hi dX4_laysFits_32 ?_
    refine lv_icmp_ge (tgt := 59) hx hb dX4_laysFits_33 rfl (fun c0 => ?_) (fun c0 => ?_)
    · have hp := zit hp c0
      refine lv_iload_n hx hb dX4_laysFits_59 rfl (lv_at hl 2 rfl) ?_
      refine lv_aload_n hx hb dX4_laysFits_60 rfl (lv_at hl 0 rfl) ?_
      refine g_getr S hB (tT hB) rfl (T := TX4) (N := 38) (C := RX4) rfl in_X4 34 (by decide) (by decide) q1426 (fun _ h9 => h9) (fun _ => rfl) (tA hB 14 rfl).1 dX4_laysFits_61 ?_
      refine lv_iload_n hx hb dX4_laysFits_64 rfl (lv_at hl 3 rfl) ?_
      obtain ⟨hi, hp⟩ := hp
      refine g_zald S hB (tA hB 14 rfl).2 hi dX4_laysFits_65 ?_
      refine lv_if_eq (tgt := 73) hx hb dX4_laysFits_66 rfl (fun c0 => ?_) (fun c0 => ?_)
      · have hp := zit hp c0
        refine lv_iconst (v := (nI 0)) hx hb dX4_laysFits_73 rfl ?_
        refine lv_iadd hx hb dX4_laysFits_74 ?_
        refine lv_istore_n (lv' := [(2, .int (x2 + (nI 0))), (0, .ref th), (1, .int x1), (3, .int x3), (4, .int x4)]) hx hb dX4_laysFits_75 rfl hl (by decide) rfl (fun ls hl => ?_)
        refine lv_iinc (v := (x3 + (nI 1))) (lv' := [(3, .int (x3 + (nI 1))), (2, .int (x2 + (nI 0))), (0, .ref th), (1, .int x1), (4, .int x4)]) hx hb dX4_laysFits_76 hl (k := 3) rfl rfl (by decide) rfl (fun ls hl => ?_)
        refine lv_goto (tgt := 8) hx hb dX4_laysFits_79 rfl ?_
        exact hK8 (x2 + (nI 0)) (x3 + (nI 1)) μ _ _ _ hp hB (lv_sub hl [2, 3, 1, 0] rfl)
      · have hp := zif hp c0
        refine lv_iconst (v := (nI 1)) hx hb dX4_laysFits_69 rfl ?_
        refine lv_goto (tgt := 74) hx hb dX4_laysFits_70 rfl ?_
        refine lv_iadd hx hb dX4_laysFits_74 ?_
        refine lv_istore_n (lv' := [(2, .int (x2 + (nI 1))), (0, .ref th), (1, .int x1), (3, .int x3), (4, .int x4)]) hx hb dX4_laysFits_75 rfl hl (by decide) rfl (fun ls hl => ?_)
        refine lv_iinc (v := (x3 + (nI 1))) (lv' := [(3, .int (x3 + (nI 1))), (2, .int (x2 + (nI 1))), (0, .ref th), (1, .int x1), (4, .int x4)]) hx hb dX4_laysFits_76 hl (k := 3) rfl rfl (by decide) rfl (fun ls hl => ?_)
        refine lv_goto (tgt := 8) hx hb dX4_laysFits_79 rfl ?_
        exact hK8 (x2 + (nI 1)) (x3 + (nI 1)) μ _ _ _ hp hB (lv_sub hl [2, 3, 1, 0] rfl)
    · have hp := zif hp c0
      refine lv_aload_n hx hb dX4_laysFits_36 rfl (lv_at hl 0 rfl) ?_
      refine g_getr S hB (tT hB) rfl (T := TX4) (N := 38) (C := RX4) rfl in_X4 34 (by decide) (by decide) q1426 (fun _ h9 => h9) (fun _ => rfl) (tA hB 14 rfl).1 dX4_laysFits_37 ?_
      refine lv_iload_n hx hb dX4_laysFits_40 rfl (lv_at hl 3 rfl) ?_
      refine lv_dup2_11 hx hb dX4_laysFits_41 rfl rfl ?_
      obtain ⟨hi, hp⟩ := hp
      refine g_zald S hB (tA hB 14 rfl).2 hi dX4_laysFits_42 ?_
      refine lv_aload_n hx hb dX4_laysFits_43 rfl (lv_at hl 0 rfl) ?_
      refine lv_iload_n hx hb dX4_laysFits_44 rfl (lv_at hl 1 rfl) ?_
      refine lv_iload hx hb dX4_laysFits_45 (lv_at hl 4 rfl) ?_
      refine lv_iload_n hx hb dX4_laysFits_47 rfl (lv_at hl 3 rfl) ?_
      refine z_calli (va_runV (As := [.int x1, .int x4, .int x3]) (rest := [.int (zI μ (th + 15) x3.toNatClampNeg), .int x3, .ref (th + 15)]) S (mX4_isMark l Γ th x1 x4 x3 μ _ hp) (cwV 3 hts (lw_V q1975 q1977 qs122 q132 q1978) rfl rfl rfl hX4_isMark ⟨Nat.le_of_ble_eq_true rfl, Nat.le_of_ble_eq_true rfl⟩) (hB.preV (tT hB) rfl rfl) rfl rfl hl.1 rfl (lv_room (Nat.le_of_ble_eq_true rfl)) dX4_laysFits_48 ⟨Nat.le_refl _, Nat.le_refl _⟩) hB (fun r2 μ1 H locs hp hB => ?_)
      refine lv_iand hx hb dX4_laysFits_51 ?_
      obtain ⟨hi, hp⟩ := hp
      obtain ⟨μ3, eμ3, hp⟩ := zpI_e hp
      refine g_zast S hB (tA hB 14 rfl).2 hi dX4_laysFits_52 (fun H locs hB => ?_)
      rw [← eμ3] at hB
      refine lv_iinc (v := (x4 + (nI 2))) (lv' := [(4, .int (x4 + (nI 2))), (0, .ref th), (1, .int x1), (2, .int x2), (3, .int x3)]) hx hb dX4_laysFits_53 hl (k := 4) rfl rfl (by decide) rfl (fun ls hl => ?_)
      refine lv_goto (tgt := 25) hx hb dX4_laysFits_56 rfl ?_
      exact ih x2 x3 (x4 + (nI 2)) μ3 _ _ _ hp hB (lv_sub hl [1, 2, 3, 4, 0] rfl)
def pX4_laysFits_8 (th : Nat) (x1 : Int32) (Q : Int32 → zM → Prop) : Nat → Int32 → Int32 → zM → Prop
  | 0, _, _, _ => False
  | n + 1, x2, x3, μ => (if (nI 1000) ≤ x3 then Q x2 μ else (vp_in x3 1000 ∧ zpI μ (th + 15) x3.toNatClampNeg (vp_nar .boolean (nI 1)) fun μ1 => ∃ k1, pX4_laysFits_25 th x1 (fun v0 v1 ν => pX4_laysFits_8 th x1 Q n v0 v1 ν) Q k1 x2 x3 (nI 0) μ1))
set_option maxHeartbeats 4000000 in
set_option maxRecDepth 100000 in
theorem wX4_laysFits_8 {p : Program} {l : Launch} {e : Env} {s : State} {m : MethodId} {args : Array Value} {below : List Frame} {meth : Method} {c : Code} {Γ : zG} {μ0 : zM} {Q : Int32 → zM → Prop} (X : zCx p m c cX4_laysFits 5 s args RX4 meth (some .int)) (th : Nat) (x1 : Int32) : ∀ (n : Nat) (x2 : Int32) (x3 : Int32) (μ : zM) (H : Heap) (locs : List Loc) (ls : Array Slot), pX4_laysFits_8 th x1 Q n x2 x3 μ → zB Γ (tSh th) (zA μ0) μ0 s μ H locs → lv_has ls 5 [(0, .ref th), (1, .int x1), (2, .int x2), (3, .int x3)] → W p l e ({ frames := 4, cells := 0, slots := 0, locals := 99 } : Room) s m args below meth c H locs 0 0 (MQ below (va_Qi Q (zPost Γ (tSh th) μ0) (zA μ0)) args s 0 0 (zA μ0)) (F0 m 8 ls []) := by
  have S := X.1
  obtain ⟨hx, hb, hml, hown, hts⟩ := X.1
  intro n
  induction n with
  | zero =>
    intro x2 x3 μ H locs ls hp
    exact hp.elim
  | succ n ih =>
    intro x2 x3 μ H locs ls hp hB hl
    unfold pX4_laysFits_8 at hp
    refine lv_iload_n hx hb dX4_laysFits_8 rfl (lv_at hl 3 rfl) ?_
    refine lv_sipush (v := (nI 1000)) hx hb dX4_laysFits_9 rfl ?_
    refine lv_icmp_ge (tgt := 82) hx hb dX4_laysFits_12 rfl (fun c0 => ?_) (fun c0 => ?_)
    · have hp := zit hp c0
      refine lv_iload_n hx hb dX4_laysFits_82 rfl (lv_at hl 2 rfl) ?_
      exact zret_i X hB hp dX4_laysFits_83
    · have hp := zif hp c0
      refine lv_aload_n hx hb dX4_laysFits_15 rfl (lv_at hl 0 rfl) ?_
      refine g_getr S hB (tT hB) rfl (T := TX4) (N := 38) (C := RX4) rfl in_X4 34 (by decide) (by decide) q1426 (fun _ h9 => h9) (fun _ => rfl) (tA hB 14 rfl).1 dX4_laysFits_16 ?_
      refine lv_iload_n hx hb dX4_laysFits_19 rfl (lv_at hl 3 rfl) ?_
      refine lv_iconst (v := (nI 1)) hx hb dX4_laysFits_20 rfl ?_
      obtain ⟨hi, hp⟩ := hp
      obtain ⟨μ1, eμ1, hp⟩ := zpI_e hp
      refine g_zast S hB (tA hB 14 rfl).2 hi dX4_laysFits_21 (fun H locs hB => ?_)
      rw [← eμ1] at hB
      refine lv_iconst (v := (nI 0)) hx hb dX4_laysFits_22 rfl ?_
      refine lv_istore (lv' := [(4, .int (nI 0)), (0, .ref th), (1, .int x1), (2, .int x2), (3, .int x3)]) hx hb dX4_laysFits_23 hl (by decide) rfl (fun ls hl => ?_)
      obtain ⟨n1, hp⟩ := hp
      exact wX4_laysFits_25 X th x1 (fun v0 v1 ν H2 L2 ls2 h2 b2 l2 => ih v0 v1 ν H2 L2 ls2 h2 b2 l2) n1 x2 x3 (nI 0) μ1 _ _ _ hp hB (lv_sub hl [1, 2, 3, 4, 0] rfl)
def pX4_laysFits (th : Nat) (x1 : Int32) (μ : zM) (Q : Int32 → zM → Prop) : Prop := (pX4_laysDepths th μ fun μ1 => ∃ k1, pX4_laysFits_8 th x1 Q k1 (nI 0) (nI 0) μ1)
theorem hX4_laysFits : yX4_laysFits.cls = "SunkTowerModel" ∧ yX4_laysFits.cls ≠ "java/lang/invoke/MethodHandle" ∧ yX4_laysFits.cls ≠ "java/lang/invoke/VarHandle" ∧ (parseMethodDescriptor yX4_laysFits.desc).map (fun d => d.parameters.length) = some 1 := by decide +kernel
set_option maxHeartbeats 4000000 in
set_option maxRecDepth 100000 in
theorem mX4_laysFits (l : Launch) (Γ : zG) (th : Nat) (x1 : Int32) (μ : zM) (Q : Int32 → zM → Prop) (hp : pX4_laysFits th x1 μ Q) : Met l yX4_laysFits (ws_ yX4_laysFits cX4_laysFits 5 (some .int)) ({ frames := 4, cells := 0, slots := 0, locals := 99 } : Room) (va_Pc [.ref th, .int x1] (zPre Γ (tSh th) μ)) (va_Qi Q (zPost Γ (tSh th) μ) (zA μ)) 0 0 (zA μ) := by
  refine zstart (by decide) (Nat.le_of_ble_eq_true rfl) ?_
  intro p e s m below meth c ls X hnm hB hl
  have X : zCx p m c cX4_laysFits 5 s [.ref th, .int x1].toArray RX4 meth (some .int) := X
  have S := X.1
  obtain ⟨hx, hb, hml, hown, hts⟩ := X.1
  have hl : lv_has ls 5 [(0, .ref th), (1, .int x1)] := hl
  unfold pX4_laysFits at hp
  refine lv_aload_n hx hb dX4_laysFits_0 rfl (lv_at hl 0 rfl) ?_
  refine z_callv (va_runV (As := []) (rest := []) S (mX4_laysDepths l Γ th μ _ hp) (cwV 0 hts (lw_V q1967 q1969 qs120 q132 q1970) rfl rfl rfl hX4_laysDepths ⟨Nat.le_of_ble_eq_true rfl, Nat.le_of_ble_eq_true rfl⟩) (hB.preV (tT hB) rfl rfl) rfl rfl hl.1 rfl (lv_room (Nat.le_of_ble_eq_true rfl)) dX4_laysFits_1 ⟨Nat.le_refl _, Nat.le_refl _⟩) hB (fun μ1 H locs hp hB => ?_)
  refine lv_iconst (v := (nI 0)) hx hb dX4_laysFits_4 rfl ?_
  refine lv_istore_n (lv' := [(2, .int (nI 0)), (0, .ref th), (1, .int x1)]) hx hb dX4_laysFits_5 rfl hl (by decide) rfl (fun ls hl => ?_)
  refine lv_iconst (v := (nI 0)) hx hb dX4_laysFits_6 rfl ?_
  refine lv_istore_n (lv' := [(3, .int (nI 0)), (2, .int (nI 0)), (0, .ref th), (1, .int x1)]) hx hb dX4_laysFits_7 rfl hl (by decide) rfl (fun ls hl => ?_)
  obtain ⟨n1, hp⟩ := hp
  exact wX4_laysFits_8 X th x1 n1 (nI 0) (nI 0) μ1 _ _ _ hp hB (lv_sub hl [2, 3, 1, 0] rfl)
def pX4_hidden_36 (th : Nat) (Q : Int32 → zM → Prop) : Nat → Int32 → Int32 → zM → Prop
  | 0, _, _, _ => False
  | n + 1, x4, x5, μ => (if (nI 1000) ≤ x5 then Q (-1 : Int32) μ else (vp_in x5 1000 ∧ (if (zI μ (th + 15) x5.toNatClampNeg) = 0 then pX4_hidden_36 th Q n x4 (x5 + (nI 1)) μ else (if x4 = 0 then Q x5 μ else pX4_hidden_36 th Q n (x4 - (nI 1)) (x5 + (nI 1)) μ))))
set_option maxHeartbeats 4000000 in
set_option maxRecDepth 100000 in
theorem wX4_hidden_36 {p : Program} {l : Launch} {e : Env} {s : State} {m : MethodId} {args : Array Value} {below : List Frame} {meth : Method} {c : Code} {Γ : zG} {μ0 : zM} {Q : Int32 → zM → Prop} (X : zCx p m c cX4_hidden 6 s args RX4 meth (some .int)) (th : Nat) : ∀ (n : Nat) (x4 : Int32) (x5 : Int32) (μ : zM) (H : Heap) (locs : List Loc) (ls : Array Slot), pX4_hidden_36 th Q n x4 x5 μ → zB Γ (tSh th) (zA μ0) μ0 s μ H locs → lv_has ls 6 [(0, .ref th), (4, .int x4), (5, .int x5)] → W p l e ({ frames := 5, cells := 0, slots := 0, locals := 123 } : Room) s m args below meth c H locs 0 0 (MQ below (va_Qi Q (zPost Γ (tSh th) μ0) (zA μ0)) args s 0 0 (zA μ0)) (F0 m 36 ls []) := by
  have S := X.1
  obtain ⟨hx, hb, hml, hown, hts⟩ := X.1
  intro n
  induction n with
  | zero =>
    intro x4 x5 μ H locs ls hp
    exact hp.elim
  | succ n ih =>
    intro x4 x5 μ H locs ls hp hB hl
    unfold pX4_hidden_36 at hp
    refine lv_iload hx hb dX4_hidden_36 (lv_at hl 2 rfl) ?_
    refine lv_sipush (v := (nI 1000)) hx hb dX4_hidden_38 rfl ?_
    refine lv_icmp_ge (tgt := 74) hx hb dX4_hidden_41 rfl (fun c0 => ?_) (fun c0 => ?_)
    · have hp := zit hp c0
      refine lv_iconst (v := (-1 : Int32)) hx hb dX4_hidden_74 rfl ?_
      exact zret_i X hB hp dX4_hidden_75
    · have hp := zif hp c0
      refine lv_aload_n hx hb dX4_hidden_44 rfl (lv_at hl 0 rfl) ?_
      refine g_getr S hB (tT hB) rfl (T := TX4) (N := 38) (C := RX4) rfl in_X4 34 (by decide) (by decide) q1426 (fun _ h9 => h9) (fun _ => rfl) (tA hB 14 rfl).1 dX4_hidden_45 ?_
      refine lv_iload hx hb dX4_hidden_48 (lv_at hl 2 rfl) ?_
      obtain ⟨hi, hp⟩ := hp
      refine g_zald S hB (tA hB 14 rfl).2 hi dX4_hidden_50 ?_
      refine lv_if_ne (tgt := 57) hx hb dX4_hidden_51 rfl (fun c0 => ?_) (fun c0 => ?_)
      · have hp := zif hp c0
        refine lv_iload hx hb dX4_hidden_57 (lv_at hl 1 rfl) ?_
        refine lv_if_ne (tgt := 65) hx hb dX4_hidden_59 rfl (fun c0 => ?_) (fun c0 => ?_)
        · have hp := zif hp c0
          refine lv_iinc (v := (x4 - (nI 1))) (lv' := [(4, .int (x4 - (nI 1))), (0, .ref th), (5, .int x5)]) hx hb dX4_hidden_65 hl (k := 1) rfl (by rw [Int32.sub_eq_add_neg]; rfl) (by decide) rfl (fun ls hl => ?_)
          refine lv_iinc (v := (x5 + (nI 1))) (lv' := [(5, .int (x5 + (nI 1))), (4, .int (x4 - (nI 1))), (0, .ref th)]) hx hb dX4_hidden_68 hl (k := 2) rfl rfl (by decide) rfl (fun ls hl => ?_)
          refine lv_goto (tgt := 36) hx hb dX4_hidden_71 rfl ?_
          exact ih (x4 - (nI 1)) (x5 + (nI 1)) μ _ _ _ hp hB (lv_sub hl [2, 1, 0] rfl)
        · have hp := zit hp c0
          refine lv_iload hx hb dX4_hidden_62 (lv_at hl 2 rfl) ?_
          exact zret_i X hB hp dX4_hidden_64
      · have hp := zit hp c0
        refine lv_goto (tgt := 68) hx hb dX4_hidden_54 rfl ?_
        refine lv_iinc (v := (x5 + (nI 1))) (lv' := [(5, .int (x5 + (nI 1))), (0, .ref th), (4, .int x4)]) hx hb dX4_hidden_68 hl (k := 2) rfl rfl (by decide) rfl (fun ls hl => ?_)
        refine lv_goto (tgt := 36) hx hb dX4_hidden_71 rfl ?_
        exact ih x4 (x5 + (nI 1)) μ _ _ _ hp hB (lv_sub hl [1, 2, 0] rfl)
def pX4_hidden (th : Nat) (x1 : Int32) (x2 : Int32) (μ : zM) (Q : Int32 → zM → Prop) : Prop := (zpI μ th 0 (nI 0) fun μ1 => (pX4_noMarks th x1 μ1 fun r3 μ2 => (if r3 = 0 then (if 0 ≤ x2 then (pX4_laysFits th x1 μ2 fun r5 μ4 => ∃ k1, pX4_hidden_36 th Q k1 x2 (nI 0) μ4) else Q (-3 : Int32) μ2) else Q r3 μ2)))
theorem hX4_hidden : yX4_hidden.cls = "SunkTowerModel" ∧ yX4_hidden.cls ≠ "java/lang/invoke/MethodHandle" ∧ yX4_hidden.cls ≠ "java/lang/invoke/VarHandle" ∧ (parseMethodDescriptor yX4_hidden.desc).map (fun d => d.parameters.length) = some 2 := by decide +kernel
set_option maxHeartbeats 4000000 in
set_option maxRecDepth 100000 in
theorem mX4_hidden (l : Launch) (Γ : zG) (th : Nat) (x1 : Int32) (x2 : Int32) (μ : zM) (Q : Int32 → zM → Prop) (hp : pX4_hidden th x1 x2 μ Q) : Met l yX4_hidden (ws_ yX4_hidden cX4_hidden 6 (some .int)) ({ frames := 5, cells := 0, slots := 0, locals := 123 } : Room) (va_Pc [.ref th, .int x1, .int x2] (zPre Γ (tSh th) μ)) (va_Qi Q (zPost Γ (tSh th) μ) (zA μ)) 0 0 (zA μ) := by
  refine zstart (by decide) (Nat.le_of_ble_eq_true rfl) ?_
  intro p e s m below meth c ls X hnm hB hl
  have X : zCx p m c cX4_hidden 6 s [.ref th, .int x1, .int x2].toArray RX4 meth (some .int) := X
  have S := X.1
  obtain ⟨hx, hb, hml, hown, hts⟩ := X.1
  have hl : lv_has ls 6 [(0, .ref th), (1, .int x1), (2, .int x2)] := hl
  unfold pX4_hidden at hp
  refine lv_aload_n hx hb dX4_hidden_0 rfl (lv_at hl 0 rfl) ?_
  refine lv_iconst (v := (nI 0)) hx hb dX4_hidden_1 rfl ?_
  obtain ⟨μ1, eμ1, hp⟩ := zpI_e hp
  refine g_putI S hB (tT hB) rfl (T := TX4) (N := 38) (C := RX4) rfl in_X4 0 (by decide) (by decide) (x := (nI 0)) tyX4 tyX4_ok nmX4 q1392 (fun _ h9 => h9) rfl (ty := .int) (by decide +kernel) rfl rfl (fun _ _ => rfl) dX4_hidden_2 (fun H locs hB => ?_)
  rw [← eμ1] at hB
  refine lv_aload_n hx hb dX4_hidden_5 rfl (lv_at hl 0 rfl) ?_
  refine lv_iload_n hx hb dX4_hidden_6 rfl (lv_at hl 1 rfl) ?_
  refine z_calli (va_runV (As := [.int x1]) (rest := []) S (mX4_noMarks l Γ th x1 μ1 _ hp) (cwV 1 hts (lw_V q1957 q1959 qs118 q132 q1960) rfl rfl rfl hX4_noMarks ⟨Nat.le_of_ble_eq_true rfl, Nat.le_of_ble_eq_true rfl⟩) (hB.preV (tT hB) rfl rfl) rfl rfl hl.1 rfl (lv_room (Nat.le_of_ble_eq_true rfl)) dX4_hidden_7 ⟨Nat.le_refl _, Nat.le_refl _⟩) hB (fun r3 μ2 H locs hp hB => ?_)
  refine lv_istore_n (lv' := [(3, .int r3), (0, .ref th), (1, .int x1), (2, .int x2)]) hx hb dX4_hidden_10 rfl hl (by decide) rfl (fun ls hl => ?_)
  refine lv_iload_n hx hb dX4_hidden_11 rfl (lv_at hl 0 rfl) ?_
  refine lv_if_eq (tgt := 17) hx hb dX4_hidden_12 rfl (fun c0 => ?_) (fun c0 => ?_)
  · have hp := zit hp c0
    refine lv_iload_n hx hb dX4_hidden_17 rfl (lv_at hl 3 rfl) ?_
    refine lv_if_ge (tgt := 24) hx hb dX4_hidden_18 rfl (fun c0 => ?_) (fun c0 => ?_)
    · have hp := zit hp c0
      refine lv_aload_n hx hb dX4_hidden_24 rfl (lv_at hl 1 rfl) ?_
      refine lv_iload_n hx hb dX4_hidden_25 rfl (lv_at hl 2 rfl) ?_
      refine z_calli (va_runV (As := [.int x1]) (rest := []) S (mX4_laysFits l Γ th x1 μ2 _ hp) (cwV 1 hts (lw_V q1963 q1965 qs119 q132 q1966) rfl rfl rfl hX4_laysFits ⟨Nat.le_of_ble_eq_true rfl, Nat.le_of_ble_eq_true rfl⟩) (hB.preV (tT hB) rfl rfl) rfl rfl hl.1 rfl (lv_room (Nat.le_of_ble_eq_true rfl)) dX4_hidden_26 ⟨Nat.le_refl _, Nat.le_refl _⟩) hB (fun r5 μ4 H locs hp hB => ?_)
      refine lv_pop hx hb dX4_hidden_29 rfl ?_
      refine lv_iload_n hx hb dX4_hidden_30 rfl (lv_at hl 3 rfl) ?_
      refine lv_istore (lv' := [(4, .int x2), (3, .int r3), (0, .ref th), (1, .int x1), (2, .int x2)]) hx hb dX4_hidden_31 hl (by decide) rfl (fun ls hl => ?_)
      refine lv_iconst (v := (nI 0)) hx hb dX4_hidden_33 rfl ?_
      refine lv_istore (lv' := [(5, .int (nI 0)), (4, .int x2), (3, .int r3), (0, .ref th), (1, .int x1), (2, .int x2)]) hx hb dX4_hidden_34 hl (by decide) rfl (fun ls hl => ?_)
      obtain ⟨n1, hp⟩ := hp
      exact wX4_hidden_36 X th n1 x2 (nI 0) μ4 _ _ _ hp hB (lv_sub hl [3, 1, 0] rfl)
    · have hp := zif hp c0
      refine lv_bipush (v := (-3 : Int32)) hx hb dX4_hidden_21 rfl ?_
      exact zret_i X hB hp dX4_hidden_23
  · have hp := zif hp c0
    refine lv_iload_n hx hb dX4_hidden_15 rfl (lv_at hl 0 rfl) ?_
    exact zret_i X hB hp dX4_hidden_16
def pX4_look_39 (th : Nat) (Q : Int32 → zM → Prop) : Nat → Int32 → Int32 → Int32 → zM → Prop
  | 0, _, _, _, _ => False
  | n + 1, x3, x4, x5, μ => (if (nI 60) < x5 then Q x3 μ else (pX4_mostAlike th x5 μ fun r2 μ1 => (if r2 < x4 then pX4_look_39 th Q n x5 r2 (x5 + (nI 1)) μ1 else pX4_look_39 th Q n x3 x4 (x5 + (nI 1)) μ1)))
set_option maxHeartbeats 4000000 in
set_option maxRecDepth 100000 in
theorem wX4_look_39 {p : Program} {l : Launch} {e : Env} {s : State} {m : MethodId} {args : Array Value} {below : List Frame} {meth : Method} {c : Code} {Γ : zG} {μ0 : zM} {Q : Int32 → zM → Prop} (X : zCx p m c cX4_look 7 s args RX4 meth (some .int)) (th : Nat) : ∀ (n : Nat) (x3 : Int32) (x4 : Int32) (x5 : Int32) (μ : zM) (H : Heap) (locs : List Loc) (ls : Array Slot), pX4_look_39 th Q n x3 x4 x5 μ → zB Γ (tSh th) (zA μ0) μ0 s μ H locs → lv_has ls 7 [(0, .ref th), (3, .int x3), (4, .int x4), (5, .int x5)] → W p l e ({ frames := 5, cells := 0, slots := 0, locals := 123 } : Room) s m args below meth c H locs 0 0 (MQ below (va_Qi Q (zPost Γ (tSh th) μ0) (zA μ0)) args s 0 0 (zA μ0)) (F0 m 39 ls []) := by
  have S := X.1
  obtain ⟨hx, hb, hml, hown, hts⟩ := X.1
  intro n
  induction n with
  | zero =>
    intro x3 x4 x5 μ H locs ls hp
    exact hp.elim
  | succ n ih =>
    intro x3 x4 x5 μ H locs ls hp hB hl
    unfold pX4_look_39 at hp
    refine lv_iload hx hb dX4_look_39 (lv_at hl 3 rfl) ?_
    refine lv_bipush (v := (nI 60)) hx hb dX4_look_41 rfl ?_
    refine lv_icmp_gt (tgt := 77) hx hb dX4_look_43 rfl (fun c0 => ?_) (fun c0 => ?_)
    · have hp := zit hp c0
      refine lv_iload_n hx hb dX4_look_77 rfl (lv_at hl 1 rfl) ?_
      exact zret_i X hB hp dX4_look_78
    · have hp := zif hp c0
      refine lv_aload_n hx hb dX4_look_46 rfl (lv_at hl 0 rfl) ?_
      refine lv_iload hx hb dX4_look_47 (lv_at hl 3 rfl) ?_
      refine z_calli (va_runV (As := [.int x5]) (rest := []) S (mX4_mostAlike l Γ th x5 μ _ hp) (cwV 1 hts (lw_V q1987 q1989 qs123 q132 q1990) rfl rfl rfl hX4_mostAlike ⟨Nat.le_of_ble_eq_true rfl, Nat.le_of_ble_eq_true rfl⟩) (hB.preV (tT hB) rfl rfl) rfl rfl hl.1 rfl (lv_room (Nat.le_of_ble_eq_true rfl)) dX4_look_49 ⟨Nat.le_refl _, Nat.le_refl _⟩) hB (fun r2 μ1 H locs hp hB => ?_)
      refine lv_istore (lv' := [(6, .int r2), (0, .ref th), (3, .int x3), (4, .int x4), (5, .int x5)]) hx hb dX4_look_52 hl (by decide) rfl (fun ls hl => ?_)
      refine lv_iload hx hb dX4_look_54 (lv_at hl 0 rfl) ?_
      refine lv_iload hx hb dX4_look_56 (lv_at hl 3 rfl) ?_
      refine lv_icmp_lt (tgt := 64) hx hb dX4_look_58 rfl (fun c0 => ?_) (fun c0 => ?_)
      · have hp := zit hp c0
        refine lv_iload hx hb dX4_look_64 (lv_at hl 4 rfl) ?_
        refine lv_istore_n (lv' := [(3, .int x5), (6, .int r2), (0, .ref th), (4, .int x4), (5, .int x5)]) hx hb dX4_look_66 rfl hl (by decide) rfl (fun ls hl => ?_)
        refine lv_iload hx hb dX4_look_67 (lv_at hl 1 rfl) ?_
        refine lv_istore (lv' := [(4, .int r2), (3, .int x5), (6, .int r2), (0, .ref th), (5, .int x5)]) hx hb dX4_look_69 hl (by decide) rfl (fun ls hl => ?_)
        refine lv_iinc (v := (x5 + (nI 1))) (lv' := [(5, .int (x5 + (nI 1))), (4, .int r2), (3, .int x5), (6, .int r2), (0, .ref th)]) hx hb dX4_look_71 hl (k := 4) rfl rfl (by decide) rfl (fun ls hl => ?_)
        refine lv_goto (tgt := 39) hx hb dX4_look_74 rfl ?_
        exact ih x5 r2 (x5 + (nI 1)) μ1 _ _ _ hp hB (lv_sub hl [4, 2, 1, 0] rfl)
      · have hp := zif hp c0
        refine lv_goto (tgt := 71) hx hb dX4_look_61 rfl ?_
        refine lv_iinc (v := (x5 + (nI 1))) (lv' := [(5, .int (x5 + (nI 1))), (6, .int r2), (0, .ref th), (3, .int x3), (4, .int x4)]) hx hb dX4_look_71 hl (k := 4) rfl rfl (by decide) rfl (fun ls hl => ?_)
        refine lv_goto (tgt := 39) hx hb dX4_look_74 rfl ?_
        exact ih x3 x4 (x5 + (nI 1)) μ1 _ _ _ hp hB (lv_sub hl [2, 3, 4, 0] rfl)
def pX4_look (th : Nat) (x1 : Int32) (μ : zM) (Q : Int32 → zM → Prop) : Prop := (zpI μ th 0 (nI 0) fun μ1 => (pX4_noMarks th x1 μ1 fun r3 μ2 => (if r3 = 0 then (pX4_laysFits th x1 μ2 fun r5 μ4 => (if r5 = 0 then Q (-1 : Int32) μ4 else (pX4_mostAlike th (nI 1) μ4 fun r7 μ6 => ∃ k1, pX4_look_39 th Q k1 (nI 1) r7 (nI 2) μ6))) else Q r3 μ2)))
theorem hX4_look : yX4_look.cls = "SunkTowerModel" ∧ yX4_look.cls ≠ "java/lang/invoke/MethodHandle" ∧ yX4_look.cls ≠ "java/lang/invoke/VarHandle" ∧ (parseMethodDescriptor yX4_look.desc).map (fun d => d.parameters.length) = some 1 := by decide +kernel
set_option maxHeartbeats 4000000 in
set_option maxRecDepth 100000 in
theorem mX4_look (l : Launch) (Γ : zG) (th : Nat) (x1 : Int32) (μ : zM) (Q : Int32 → zM → Prop) (hp : pX4_look th x1 μ Q) : Met l yX4_look (ws_ yX4_look cX4_look 7 (some .int)) ({ frames := 5, cells := 0, slots := 0, locals := 123 } : Room) (va_Pc [.ref th, .int x1] (zPre Γ (tSh th) μ)) (va_Qi Q (zPost Γ (tSh th) μ) (zA μ)) 0 0 (zA μ) := by
  refine zstart (by decide) (Nat.le_of_ble_eq_true rfl) ?_
  intro p e s m below meth c ls X hnm hB hl
  have X : zCx p m c cX4_look 7 s [.ref th, .int x1].toArray RX4 meth (some .int) := X
  have S := X.1
  obtain ⟨hx, hb, hml, hown, hts⟩ := X.1
  have hl : lv_has ls 7 [(0, .ref th), (1, .int x1)] := hl
  unfold pX4_look at hp
  refine lv_aload_n hx hb dX4_look_0 rfl (lv_at hl 0 rfl) ?_
  refine lv_iconst (v := (nI 0)) hx hb dX4_look_1 rfl ?_
  obtain ⟨μ1, eμ1, hp⟩ := zpI_e hp
  refine g_putI S hB (tT hB) rfl (T := TX4) (N := 38) (C := RX4) rfl in_X4 0 (by decide) (by decide) (x := (nI 0)) tyX4 tyX4_ok nmX4 q1392 (fun _ h9 => h9) rfl (ty := .int) (by decide +kernel) rfl rfl (fun _ _ => rfl) dX4_look_2 (fun H locs hB => ?_)
  rw [← eμ1] at hB
  refine lv_aload_n hx hb dX4_look_5 rfl (lv_at hl 0 rfl) ?_
  refine lv_iload_n hx hb dX4_look_6 rfl (lv_at hl 1 rfl) ?_
  refine z_calli (va_runV (As := [.int x1]) (rest := []) S (mX4_noMarks l Γ th x1 μ1 _ hp) (cwV 1 hts (lw_V q1957 q1959 qs118 q132 q1960) rfl rfl rfl hX4_noMarks ⟨Nat.le_of_ble_eq_true rfl, Nat.le_of_ble_eq_true rfl⟩) (hB.preV (tT hB) rfl rfl) rfl rfl hl.1 rfl (lv_room (Nat.le_of_ble_eq_true rfl)) dX4_look_7 ⟨Nat.le_refl _, Nat.le_refl _⟩) hB (fun r3 μ2 H locs hp hB => ?_)
  refine lv_istore_n (lv' := [(2, .int r3), (0, .ref th), (1, .int x1)]) hx hb dX4_look_10 rfl hl (by decide) rfl (fun ls hl => ?_)
  refine lv_iload_n hx hb dX4_look_11 rfl (lv_at hl 0 rfl) ?_
  refine lv_if_eq (tgt := 17) hx hb dX4_look_12 rfl (fun c0 => ?_) (fun c0 => ?_)
  · have hp := zit hp c0
    refine lv_aload_n hx hb dX4_look_17 rfl (lv_at hl 1 rfl) ?_
    refine lv_iload_n hx hb dX4_look_18 rfl (lv_at hl 2 rfl) ?_
    refine z_calli (va_runV (As := [.int x1]) (rest := []) S (mX4_laysFits l Γ th x1 μ2 _ hp) (cwV 1 hts (lw_V q1963 q1965 qs119 q132 q1966) rfl rfl rfl hX4_laysFits ⟨Nat.le_of_ble_eq_true rfl, Nat.le_of_ble_eq_true rfl⟩) (hB.preV (tT hB) rfl rfl) rfl rfl hl.1 rfl (lv_room (Nat.le_of_ble_eq_true rfl)) dX4_look_19 ⟨Nat.le_refl _, Nat.le_refl _⟩) hB (fun r5 μ4 H locs hp hB => ?_)
    refine lv_if_ne (tgt := 27) hx hb dX4_look_22 rfl (fun c0 => ?_) (fun c0 => ?_)
    · have hp := zif hp c0
      refine lv_iconst (v := (nI 1)) hx hb dX4_look_27 rfl ?_
      refine lv_istore_n (lv' := [(3, .int (nI 1)), (2, .int r3), (0, .ref th), (1, .int x1)]) hx hb dX4_look_28 rfl hl (by decide) rfl (fun ls hl => ?_)
      refine lv_aload_n hx hb dX4_look_29 rfl (lv_at hl 2 rfl) ?_
      refine lv_iconst (v := (nI 1)) hx hb dX4_look_30 rfl ?_
      refine z_calli (va_runV (As := [.int (nI 1)]) (rest := []) S (mX4_mostAlike l Γ th (nI 1) μ4 _ hp) (cwV 1 hts (lw_V q1987 q1989 qs123 q132 q1990) rfl rfl rfl hX4_mostAlike ⟨Nat.le_of_ble_eq_true rfl, Nat.le_of_ble_eq_true rfl⟩) (hB.preV (tT hB) rfl rfl) rfl rfl hl.1 rfl (lv_room (Nat.le_of_ble_eq_true rfl)) dX4_look_31 ⟨Nat.le_refl _, Nat.le_refl _⟩) hB (fun r7 μ6 H locs hp hB => ?_)
      refine lv_istore (lv' := [(4, .int r7), (3, .int (nI 1)), (2, .int r3), (0, .ref th), (1, .int x1)]) hx hb dX4_look_34 hl (by decide) rfl (fun ls hl => ?_)
      refine lv_iconst (v := (nI 2)) hx hb dX4_look_36 rfl ?_
      refine lv_istore (lv' := [(5, .int (nI 2)), (4, .int r7), (3, .int (nI 1)), (2, .int r3), (0, .ref th), (1, .int x1)]) hx hb dX4_look_37 hl (by decide) rfl (fun ls hl => ?_)
      obtain ⟨n1, hp⟩ := hp
      exact wX4_look_39 X th n1 (nI 1) r7 (nI 2) μ6 _ _ _ hp hB (lv_sub hl [4, 2, 1, 0] rfl)
    · have hp := zit hp c0
      refine lv_iconst (v := (-1 : Int32)) hx hb dX4_look_25 rfl ?_
      exact zret_i X hB hp dX4_look_26
  · have hp := zif hp c0
    refine lv_iload_n hx hb dX4_look_15 rfl (lv_at hl 0 rfl) ?_
    exact zret_i X hB hp dX4_look_16
def pX4_lists_25 (th : Nat) (x1 : Int32) (Q : Int32 → zM → Prop) : Nat → Int32 → zM → Prop
  | 0, _, _ => False
  | n + 1, x3, μ => (vp_in x1 4 ∧ (if (zI μ (th + 17) x1.toNatClampNeg) ≤ x3 then (vp_in x1 4 ∧ Q (zI μ (th + 17) x1.toNatClampNeg) μ) else (vp_in x3 602 ∧ (vp_in x1 4 ∧ (pX4_cut th ((zI μ (th + 9) x3.toNatClampNeg).toInt64) (zI μ (th + 16) x1.toNatClampNeg) μ fun r2 μ1 => (vp_in (((nI 40) * x1) + x3) 160 ∧ zpJ μ1 (th + 18) (((nI 40) * x1) + x3).toNatClampNeg r2 fun μ3 => pX4_lists_25 th x1 Q n (x3 + (nI 1)) μ3))))))
set_option maxHeartbeats 4000000 in
set_option maxRecDepth 100000 in
theorem wX4_lists_25 {p : Program} {l : Launch} {e : Env} {s : State} {m : MethodId} {args : Array Value} {below : List Frame} {meth : Method} {c : Code} {Γ : zG} {μ0 : zM} {Q : Int32 → zM → Prop} (X : zCx p m c cX4_lists 4 s args RX4 meth (some .int)) (th : Nat) (x1 : Int32) : ∀ (n : Nat) (x3 : Int32) (μ : zM) (H : Heap) (locs : List Loc) (ls : Array Slot), pX4_lists_25 th x1 Q n x3 μ → zB Γ (tSh th) (zA μ0) μ0 s μ H locs → lv_has ls 4 [(0, .ref th), (1, .int x1), (3, .int x3)] → W p l e ({ frames := 5, cells := 0, slots := 0, locals := 118 } : Room) s m args below meth c H locs 0 0 (MQ below (va_Qi Q (zPost Γ (tSh th) μ0) (zA μ0)) args s 0 0 (zA μ0)) (F0 m 25 ls []) := by
  have S := X.1
  obtain ⟨hx, hb, hml, hown, hts⟩ := X.1
  intro n
  induction n with
  | zero =>
    intro x3 μ H locs ls hp
    exact hp.elim
  | succ n ih =>
    intro x3 μ H locs ls hp hB hl
    unfold pX4_lists_25 at hp
    refine lv_iload_n hx hb dX4_lists_25 rfl (lv_at hl 2 rfl) ?_
    refine lv_aload_n hx hb dX4_lists_26 rfl (lv_at hl 0 rfl) ?_
    refine g_getr S hB (tT hB) rfl (T := TX4) (N := 38) (C := RX4) rfl in_X4 36 (by decide) (by decide) q1428 (fun _ h9 => h9) (fun _ => rfl) (tA hB 16 rfl).1 dX4_lists_27 ?_
    refine lv_iload_n hx hb dX4_lists_30 rfl (lv_at hl 1 rfl) ?_
    obtain ⟨hi, hp⟩ := hp
    refine g_iald S hB (tA hB 16 rfl).2 hi dX4_lists_31 ?_
    refine lv_icmp_ge (tgt := 68) hx hb dX4_lists_32 rfl (fun c0 => ?_) (fun c0 => ?_)
    · have hp := zit hp c0
      refine lv_aload_n hx hb dX4_lists_68 rfl (lv_at hl 0 rfl) ?_
      refine g_getr S hB (tT hB) rfl (T := TX4) (N := 38) (C := RX4) rfl in_X4 36 (by decide) (by decide) q1428 (fun _ h9 => h9) (fun _ => rfl) (tA hB 16 rfl).1 dX4_lists_69 ?_
      refine lv_iload_n hx hb dX4_lists_72 rfl (lv_at hl 1 rfl) ?_
      obtain ⟨hi, hp⟩ := hp
      refine g_iald S hB (tA hB 16 rfl).2 hi dX4_lists_73 ?_
      exact zret_i X hB hp dX4_lists_74
    · have hp := zif hp c0
      refine lv_aload_n hx hb dX4_lists_35 rfl (lv_at hl 0 rfl) ?_
      refine g_getr S hB (tT hB) rfl (T := TX4) (N := 38) (C := RX4) rfl in_X4 37 (by decide) (by decide) q1429 (fun _ h9 => h9) (fun _ => rfl) (tA hB 17 rfl).1 dX4_lists_36 ?_
      refine lv_bipush (v := (nI 40)) hx hb dX4_lists_39 rfl ?_
      refine lv_iload_n hx hb dX4_lists_41 rfl (lv_at hl 1 rfl) ?_
      refine lv_imul hx hb dX4_lists_42 ?_
      refine lv_iload_n hx hb dX4_lists_43 rfl (lv_at hl 2 rfl) ?_
      refine lv_iadd hx hb dX4_lists_44 ?_
      refine lv_aload_n hx hb dX4_lists_45 rfl (lv_at hl 0 rfl) ?_
      refine g_getr S hB (tT hB) rfl (T := TX4) (N := 38) (C := RX4) rfl in_X4 23 (by decide) (by decide) q1415 (fun _ h9 => h9) (fun _ => rfl) (tA hB 8 rfl).1 dX4_lists_46 ?_
      refine lv_iload_n hx hb dX4_lists_49 rfl (lv_at hl 2 rfl) ?_
      obtain ⟨hi, hp⟩ := hp
      refine g_iald S hB (tA hB 8 rfl).2 hi dX4_lists_50 ?_
      refine lv_i2l hx hb dX4_lists_51 rfl ?_
      refine lv_aload_n hx hb dX4_lists_52 rfl (lv_at hl 0 rfl) ?_
      refine g_getr S hB (tT hB) rfl (T := TX4) (N := 38) (C := RX4) rfl in_X4 35 (by decide) (by decide) q1427 (fun _ h9 => h9) (fun _ => rfl) (tA hB 15 rfl).1 dX4_lists_53 ?_
      refine lv_iload_n hx hb dX4_lists_56 rfl (lv_at hl 1 rfl) ?_
      obtain ⟨hi, hp⟩ := hp
      refine g_iald S hB (tA hB 15 rfl).2 hi dX4_lists_57 ?_
      refine z_calll (va_runS (As := [.long ((zI μ (th + 9) x3.toNatClampNeg).toInt64), .int (zI μ (th + 16) x1.toNatClampNeg)]) (rest := [.int (((nI 40) * x1) + x3), .ref (th + 18)]) S (mX4_cut l Γ th ((zI μ (th + 9) x3.toNatClampNeg).toInt64) (zI μ (th + 16) x1.toNatClampNeg) μ _ hp) (va_cwS 2 hts (lw_S q2005 q2006 q132 q2007) rfl rfl rfl hX4_cut ⟨Nat.le_of_ble_eq_true rfl, Nat.le_of_ble_eq_true rfl⟩) hB.preS rfl rfl hl.1 rfl (lv_room (Nat.le_of_ble_eq_true rfl)) dX4_lists_58 ⟨Nat.le_refl _, Nat.le_refl _⟩) hB (fun r2 μ1 H locs hp hB => ?_)
      obtain ⟨hi, hp⟩ := hp
      obtain ⟨μ3, eμ3, hp⟩ := zpJ_e hp
      refine g_last S hB (tA hB 17 rfl).2 hi dX4_lists_61 (fun H locs hB => ?_)
      rw [← eμ3] at hB
      refine lv_iinc (v := (x3 + (nI 1))) (lv' := [(3, .int (x3 + (nI 1))), (0, .ref th), (1, .int x1)]) hx hb dX4_lists_62 hl (k := 2) rfl rfl (by decide) rfl (fun ls hl => ?_)
      refine lv_goto (tgt := 25) hx hb dX4_lists_65 rfl ?_
      exact ih (x3 + (nI 1)) μ3 _ _ _ hp hB (lv_sub hl [1, 2, 0] rfl)
def pX4_lists (th : Nat) (x1 : Int32) (μ : zM) (Q : Int32 → zM → Prop) : Prop := (zpI μ th 0 (nI 0) fun μ1 => (pX4_noTray th x1 μ1 fun r3 μ2 => (if r3 = 0 then (pX4_laysAll th (nI 40) μ2 fun μ4 => ∃ k1, pX4_lists_25 th x1 Q k1 (nI 0) μ4) else Q r3 μ2)))
theorem hX4_lists : yX4_lists.cls = "SunkTowerModel" ∧ yX4_lists.cls ≠ "java/lang/invoke/MethodHandle" ∧ yX4_lists.cls ≠ "java/lang/invoke/VarHandle" ∧ (parseMethodDescriptor yX4_lists.desc).map (fun d => d.parameters.length) = some 1 := by decide +kernel
set_option maxHeartbeats 4000000 in
set_option maxRecDepth 100000 in
theorem mX4_lists (l : Launch) (Γ : zG) (th : Nat) (x1 : Int32) (μ : zM) (Q : Int32 → zM → Prop) (hp : pX4_lists th x1 μ Q) : Met l yX4_lists (ws_ yX4_lists cX4_lists 4 (some .int)) ({ frames := 5, cells := 0, slots := 0, locals := 118 } : Room) (va_Pc [.ref th, .int x1] (zPre Γ (tSh th) μ)) (va_Qi Q (zPost Γ (tSh th) μ) (zA μ)) 0 0 (zA μ) := by
  refine zstart (by decide) (Nat.le_of_ble_eq_true rfl) ?_
  intro p e s m below meth c ls X hnm hB hl
  have X : zCx p m c cX4_lists 4 s [.ref th, .int x1].toArray RX4 meth (some .int) := X
  have S := X.1
  obtain ⟨hx, hb, hml, hown, hts⟩ := X.1
  have hl : lv_has ls 4 [(0, .ref th), (1, .int x1)] := hl
  unfold pX4_lists at hp
  refine lv_aload_n hx hb dX4_lists_0 rfl (lv_at hl 0 rfl) ?_
  refine lv_iconst (v := (nI 0)) hx hb dX4_lists_1 rfl ?_
  obtain ⟨μ1, eμ1, hp⟩ := zpI_e hp
  refine g_putI S hB (tT hB) rfl (T := TX4) (N := 38) (C := RX4) rfl in_X4 0 (by decide) (by decide) (x := (nI 0)) tyX4 tyX4_ok nmX4 q1392 (fun _ h9 => h9) rfl (ty := .int) (by decide +kernel) rfl rfl (fun _ _ => rfl) dX4_lists_2 (fun H locs hB => ?_)
  rw [← eμ1] at hB
  refine lv_aload_n hx hb dX4_lists_5 rfl (lv_at hl 0 rfl) ?_
  refine lv_iload_n hx hb dX4_lists_6 rfl (lv_at hl 1 rfl) ?_
  refine z_calli (va_runV (As := [.int x1]) (rest := []) S (mX4_noTray l Γ th x1 μ1 _ hp) (cwV 1 hts (lw_V q1765 q1767 qs97 q132 q1768) rfl rfl rfl hX4_noTray ⟨Nat.le_of_ble_eq_true rfl, Nat.le_of_ble_eq_true rfl⟩) (hB.preV (tT hB) rfl rfl) rfl rfl hl.1 rfl (lv_room (Nat.le_of_ble_eq_true rfl)) dX4_lists_7 ⟨Nat.le_refl _, Nat.le_refl _⟩) hB (fun r3 μ2 H locs hp hB => ?_)
  refine lv_istore_n (lv' := [(2, .int r3), (0, .ref th), (1, .int x1)]) hx hb dX4_lists_10 rfl hl (by decide) rfl (fun ls hl => ?_)
  refine lv_iload_n hx hb dX4_lists_11 rfl (lv_at hl 0 rfl) ?_
  refine lv_if_eq (tgt := 17) hx hb dX4_lists_12 rfl (fun c0 => ?_) (fun c0 => ?_)
  · have hp := zit hp c0
    refine lv_aload_n hx hb dX4_lists_17 rfl (lv_at hl 1 rfl) ?_
    refine lv_bipush (v := (nI 40)) hx hb dX4_lists_18 rfl ?_
    refine z_callv (va_runV (As := [.int (nI 40)]) (rest := []) S (mX4_laysAll l Γ th (nI 40) μ2 _ hp) (cwV 1 hts (lw_V q1817 q1819 qs104 q132 q1820) rfl rfl rfl hX4_laysAll ⟨Nat.le_of_ble_eq_true rfl, Nat.le_of_ble_eq_true rfl⟩) (hB.preV (tT hB) rfl rfl) rfl rfl hl.1 rfl (lv_room (Nat.le_of_ble_eq_true rfl)) dX4_lists_20 ⟨Nat.le_refl _, Nat.le_refl _⟩) hB (fun μ4 H locs hp hB => ?_)
    refine lv_iconst (v := (nI 0)) hx hb dX4_lists_23 rfl ?_
    refine lv_istore_n (lv' := [(3, .int (nI 0)), (2, .int r3), (0, .ref th), (1, .int x1)]) hx hb dX4_lists_24 rfl hl (by decide) rfl (fun ls hl => ?_)
    obtain ⟨n1, hp⟩ := hp
    exact wX4_lists_25 X th x1 n1 (nI 0) μ4 _ _ _ hp hB (lv_sub hl [2, 3, 0] rfl)
  · have hp := zif hp c0
    refine lv_iload_n hx hb dX4_lists_15 rfl (lv_at hl 0 rfl) ?_
    exact zret_i X hB hp dX4_lists_16
def pX4_readLine (th : Nat) (μ : zM) (Q : zM → Prop) : Prop := (if (zI μ th 11) = 0 then (if (zI μ th 9) = (nI 0) then (pX4_readStorey th μ fun μ1 => Q μ1) else (if (zI μ th 9) = (nI 1) then (pX4_readTenant th μ fun μ2 => Q μ2) else (if (zI μ th 9) = (nI 2) then (pX4_fails th (nI 2) μ fun μ3 => Q μ3) else (if (zI μ th 9) = (nI 3) then (pX4_fails th (nI 2) μ fun μ4 => Q μ4) else (if (zI μ th 9) = (nI 4) then (pX4_readLaw th ((zI μ th 9) - (nI 4)) μ fun μ5 => Q μ5) else (if (zI μ th 9) = (nI 5) then (pX4_readLaw th ((zI μ th 9) - (nI 4)) μ fun μ6 => Q μ6) else (if (zI μ th 9) = (nI 6) then (pX4_readLaw th ((zI μ th 9) - (nI 4)) μ fun μ7 => Q μ7) else (if (zI μ th 9) = (nI 7) then (pX4_readOne th (nI 41) μ fun μ8 => Q μ8) else (if (zI μ th 9) = (nI 8) then (pX4_readOne th (nI 42) μ fun μ9 => Q μ9) else (if (zI μ th 9) = (nI 9) then (pX4_readBuild th μ fun μ10 => Q μ10) else (if (zI μ th 9) = (nI 10) then (pX4_fails th (nI 2) μ fun μ11 => Q μ11) else (if (zI μ th 9) = (nI 11) then (pX4_readOne th (nI 4) μ fun μ12 => Q μ12) else (pX4_fails th (nI 2) μ fun μ13 => Q μ13))))))))))))) else Q μ)
theorem hX4_readLine : yX4_readLine.cls = "SunkTowerModel" ∧ yX4_readLine.cls ≠ "java/lang/invoke/MethodHandle" ∧ yX4_readLine.cls ≠ "java/lang/invoke/VarHandle" ∧ (parseMethodDescriptor yX4_readLine.desc).map (fun d => d.parameters.length) = some 0 := by decide +kernel
set_option maxHeartbeats 4000000 in
set_option maxRecDepth 100000 in
theorem mX4_readLine (l : Launch) (Γ : zG) (th : Nat) (μ : zM) (Q : zM → Prop) (hp : pX4_readLine th μ Q) : Met l yX4_readLine (ws_ yX4_readLine cX4_readLine 1 none) ({ frames := 82, cells := 0, slots := 0, locals := 1759 } : Room) (va_Pc [.ref th] (zPre Γ (tSh th) μ)) (va_Qv Q (zPost Γ (tSh th) μ) (zA μ)) 0 0 (zA μ) := by
  refine zstart (by decide) (Nat.le_of_ble_eq_true rfl) ?_
  intro p e s m below meth c ls X hnm hB hl
  have X : zCx p m c cX4_readLine 1 s [.ref th].toArray RX4 meth none := X
  have S := X.1
  obtain ⟨hx, hb, hml, hown, hts⟩ := X.1
  have hl : lv_has ls 1 [(0, .ref th)] := hl
  unfold pX4_readLine at hp
  refine lv_aload_n hx hb dX4_readLine_0 rfl (lv_at hl 0 rfl) ?_
  refine g_get S hB (tT hB) rfl (T := TX4) (N := 38) (C := RX4) rfl in_X4 11 (by decide) (by decide) q1403 (fun _ h9 => h9) (v := .int (zI μ th 11)) rfl dX4_readLine_1 ?_
  refine lv_if_eq (tgt := 8) hx hb dX4_readLine_4 rfl (fun c0 => ?_) (fun c0 => ?_)
  · have hp := zit hp c0
    refine lv_aload_n hx hb dX4_readLine_8 rfl (lv_at hl 0 rfl) ?_
    refine g_get S hB (tT hB) rfl (T := TX4) (N := 38) (C := RX4) rfl in_X4 9 (by decide) (by decide) q1401 (fun _ h9 => h9) (v := .int (zI μ th 9)) rfl dX4_readLine_9 ?_
    by_cases c0 : (zI μ th 9) = (nI 0)
    · have hp := zit hp c0
      refine lv_tableIn (tgt := 76) hx hb dX4_readLine_12 (by rw [c0]; decide) (by rw [c0]; decide) (by rw [c0]; rfl) rfl ?_
      refine lv_aload_n hx hb dX4_readLine_76 rfl (lv_at hl 0 rfl) ?_
      refine z_callv (va_runV (As := []) (rest := []) S (mX4_readStorey l Γ th μ _ hp) (cwV 0 hts (lw_V q1545 q1547 qs63 q132 q1548) rfl rfl rfl hX4_readStorey ⟨Nat.le_of_ble_eq_true rfl, Nat.le_of_ble_eq_true rfl⟩) (hB.preV (tT hB) rfl rfl) rfl rfl hl.1 rfl (lv_room (Nat.le_of_ble_eq_true rfl)) dX4_readLine_77 ⟨Nat.le_refl _, Nat.le_refl _⟩) hB (fun μ1 H locs hp hB => ?_)
      refine lv_goto (tgt := 141) hx hb dX4_readLine_80 rfl ?_
      exact zret_v X hB hp dX4_readLine_141
    have hp := zif hp c0
    by_cases c1 : (zI μ th 9) = (nI 1)
    · have hp := zit hp c1
      refine lv_tableIn (tgt := 83) hx hb dX4_readLine_12 (by rw [c1]; decide) (by rw [c1]; decide) (by rw [c1]; rfl) rfl ?_
      refine lv_aload_n hx hb dX4_readLine_83 rfl (lv_at hl 0 rfl) ?_
      refine z_callv (va_runV (As := []) (rest := []) S (mX4_readTenant l Γ th μ _ hp) (cwV 0 hts (lw_V q1561 q1563 qs67 q132 q1564) rfl rfl rfl hX4_readTenant ⟨Nat.le_of_ble_eq_true rfl, Nat.le_of_ble_eq_true rfl⟩) (hB.preV (tT hB) rfl rfl) rfl rfl hl.1 rfl (lv_room (Nat.le_of_ble_eq_true rfl)) dX4_readLine_84 ⟨Nat.le_refl _, Nat.le_refl _⟩) hB (fun μ2 H locs hp hB => ?_)
      refine lv_goto (tgt := 141) hx hb dX4_readLine_87 rfl ?_
      exact zret_v X hB hp dX4_readLine_141
    have hp := zif hp c1
    by_cases c2 : (zI μ th 9) = (nI 2)
    · have hp := zit hp c2
      refine lv_tableIn (tgt := 136) hx hb dX4_readLine_12 (by rw [c2]; decide) (by rw [c2]; decide) (by rw [c2]; rfl) rfl ?_
      refine lv_aload_n hx hb dX4_readLine_136 rfl (lv_at hl 0 rfl) ?_
      refine lv_iconst (v := (nI 2)) hx hb dX4_readLine_137 rfl ?_
      refine z_callv (va_runV (As := [.int (nI 2)]) (rest := []) S (mX4_fails l Γ th (nI 2) μ _ hp) (cwV 1 hts (lw_V q1549 q1551 qs64 q132 q1552) rfl rfl rfl hX4_fails ⟨Nat.le_of_ble_eq_true rfl, Nat.le_of_ble_eq_true rfl⟩) (hB.preV (tT hB) rfl rfl) rfl rfl hl.1 rfl (lv_room (Nat.le_of_ble_eq_true rfl)) dX4_readLine_138 ⟨Nat.le_refl _, Nat.le_refl _⟩) hB (fun μ3 H locs hp hB => ?_)
      exact zret_v X hB hp dX4_readLine_141
    have hp := zif hp c2
    by_cases c3 : (zI μ th 9) = (nI 3)
    · have hp := zit hp c3
      refine lv_tableIn (tgt := 136) hx hb dX4_readLine_12 (by rw [c3]; decide) (by rw [c3]; decide) (by rw [c3]; rfl) rfl ?_
      refine lv_aload_n hx hb dX4_readLine_136 rfl (lv_at hl 0 rfl) ?_
      refine lv_iconst (v := (nI 2)) hx hb dX4_readLine_137 rfl ?_
      refine z_callv (va_runV (As := [.int (nI 2)]) (rest := []) S (mX4_fails l Γ th (nI 2) μ _ hp) (cwV 1 hts (lw_V q1549 q1551 qs64 q132 q1552) rfl rfl rfl hX4_fails ⟨Nat.le_of_ble_eq_true rfl, Nat.le_of_ble_eq_true rfl⟩) (hB.preV (tT hB) rfl rfl) rfl rfl hl.1 rfl (lv_room (Nat.le_of_ble_eq_true rfl)) dX4_readLine_138 ⟨Nat.le_refl _, Nat.le_refl _⟩) hB (fun μ4 H locs hp hB => ?_)
      exact zret_v X hB hp dX4_readLine_141
    have hp := zif hp c3
    by_cases c4 : (zI μ th 9) = (nI 4)
    · have hp := zit hp c4
      refine lv_tableIn (tgt := 90) hx hb dX4_readLine_12 (by rw [c4]; decide) (by rw [c4]; decide) (by rw [c4]; rfl) rfl ?_
      refine lv_aload_n hx hb dX4_readLine_90 rfl (lv_at hl 0 rfl) ?_
      refine lv_aload_n hx hb dX4_readLine_91 rfl (lv_at hl 0 rfl) ?_
      refine g_get S hB (tT hB) rfl (T := TX4) (N := 38) (C := RX4) rfl in_X4 9 (by decide) (by decide) q1401 (fun _ h9 => h9) (v := .int (zI μ th 9)) rfl dX4_readLine_92 ?_
      refine lv_iconst (v := (nI 4)) hx hb dX4_readLine_95 rfl ?_
      refine lv_isub hx hb dX4_readLine_96 ?_
      refine z_callv (va_runV (As := [.int ((zI μ th 9) - (nI 4))]) (rest := []) S (mX4_readLaw l Γ th ((zI μ th 9) - (nI 4)) μ _ hp) (cwV 1 hts (lw_V q1573 q1575 qs70 q132 q1576) rfl rfl rfl hX4_readLaw ⟨Nat.le_of_ble_eq_true rfl, Nat.le_of_ble_eq_true rfl⟩) (hB.preV (tT hB) rfl rfl) rfl rfl hl.1 rfl (lv_room (Nat.le_of_ble_eq_true rfl)) dX4_readLine_97 ⟨Nat.le_refl _, Nat.le_refl _⟩) hB (fun μ5 H locs hp hB => ?_)
      refine lv_goto (tgt := 141) hx hb dX4_readLine_100 rfl ?_
      exact zret_v X hB hp dX4_readLine_141
    have hp := zif hp c4
    by_cases c5 : (zI μ th 9) = (nI 5)
    · have hp := zit hp c5
      refine lv_tableIn (tgt := 90) hx hb dX4_readLine_12 (by rw [c5]; decide) (by rw [c5]; decide) (by rw [c5]; rfl) rfl ?_
      refine lv_aload_n hx hb dX4_readLine_90 rfl (lv_at hl 0 rfl) ?_
      refine lv_aload_n hx hb dX4_readLine_91 rfl (lv_at hl 0 rfl) ?_
      refine g_get S hB (tT hB) rfl (T := TX4) (N := 38) (C := RX4) rfl in_X4 9 (by decide) (by decide) q1401 (fun _ h9 => h9) (v := .int (zI μ th 9)) rfl dX4_readLine_92 ?_
      refine lv_iconst (v := (nI 4)) hx hb dX4_readLine_95 rfl ?_
      refine lv_isub hx hb dX4_readLine_96 ?_
      refine z_callv (va_runV (As := [.int ((zI μ th 9) - (nI 4))]) (rest := []) S (mX4_readLaw l Γ th ((zI μ th 9) - (nI 4)) μ _ hp) (cwV 1 hts (lw_V q1573 q1575 qs70 q132 q1576) rfl rfl rfl hX4_readLaw ⟨Nat.le_of_ble_eq_true rfl, Nat.le_of_ble_eq_true rfl⟩) (hB.preV (tT hB) rfl rfl) rfl rfl hl.1 rfl (lv_room (Nat.le_of_ble_eq_true rfl)) dX4_readLine_97 ⟨Nat.le_refl _, Nat.le_refl _⟩) hB (fun μ6 H locs hp hB => ?_)
      refine lv_goto (tgt := 141) hx hb dX4_readLine_100 rfl ?_
      exact zret_v X hB hp dX4_readLine_141
    have hp := zif hp c5
    by_cases c6 : (zI μ th 9) = (nI 6)
    · have hp := zit hp c6
      refine lv_tableIn (tgt := 90) hx hb dX4_readLine_12 (by rw [c6]; decide) (by rw [c6]; decide) (by rw [c6]; rfl) rfl ?_
      refine lv_aload_n hx hb dX4_readLine_90 rfl (lv_at hl 0 rfl) ?_
      refine lv_aload_n hx hb dX4_readLine_91 rfl (lv_at hl 0 rfl) ?_
      refine g_get S hB (tT hB) rfl (T := TX4) (N := 38) (C := RX4) rfl in_X4 9 (by decide) (by decide) q1401 (fun _ h9 => h9) (v := .int (zI μ th 9)) rfl dX4_readLine_92 ?_
      refine lv_iconst (v := (nI 4)) hx hb dX4_readLine_95 rfl ?_
      refine lv_isub hx hb dX4_readLine_96 ?_
      refine z_callv (va_runV (As := [.int ((zI μ th 9) - (nI 4))]) (rest := []) S (mX4_readLaw l Γ th ((zI μ th 9) - (nI 4)) μ _ hp) (cwV 1 hts (lw_V q1573 q1575 qs70 q132 q1576) rfl rfl rfl hX4_readLaw ⟨Nat.le_of_ble_eq_true rfl, Nat.le_of_ble_eq_true rfl⟩) (hB.preV (tT hB) rfl rfl) rfl rfl hl.1 rfl (lv_room (Nat.le_of_ble_eq_true rfl)) dX4_readLine_97 ⟨Nat.le_refl _, Nat.le_refl _⟩) hB (fun μ7 H locs hp hB => ?_)
      refine lv_goto (tgt := 141) hx hb dX4_readLine_100 rfl ?_
      exact zret_v X hB hp dX4_readLine_141
    have hp := zif hp c6
    by_cases c7 : (zI μ th 9) = (nI 7)
    · have hp := zit hp c7
      refine lv_tableIn (tgt := 103) hx hb dX4_readLine_12 (by rw [c7]; decide) (by rw [c7]; decide) (by rw [c7]; rfl) rfl ?_
      refine lv_aload_n hx hb dX4_readLine_103 rfl (lv_at hl 0 rfl) ?_
      refine lv_bipush (v := (nI 41)) hx hb dX4_readLine_104 rfl ?_
      refine z_callv (va_runV (As := [.int (nI 41)]) (rest := []) S (mX4_readOne l Γ th (nI 41) μ _ hp) (cwV 1 hts (lw_V q1601 q1603 qs77 q132 q1604) rfl rfl rfl hX4_readOne ⟨Nat.le_of_ble_eq_true rfl, Nat.le_of_ble_eq_true rfl⟩) (hB.preV (tT hB) rfl rfl) rfl rfl hl.1 rfl (lv_room (Nat.le_of_ble_eq_true rfl)) dX4_readLine_106 ⟨Nat.le_refl _, Nat.le_refl _⟩) hB (fun μ8 H locs hp hB => ?_)
      refine lv_goto (tgt := 141) hx hb dX4_readLine_109 rfl ?_
      exact zret_v X hB hp dX4_readLine_141
    have hp := zif hp c7
    by_cases c8 : (zI μ th 9) = (nI 8)
    · have hp := zit hp c8
      refine lv_tableIn (tgt := 112) hx hb dX4_readLine_12 (by rw [c8]; decide) (by rw [c8]; decide) (by rw [c8]; rfl) rfl ?_
      refine lv_aload_n hx hb dX4_readLine_112 rfl (lv_at hl 0 rfl) ?_
      refine lv_bipush (v := (nI 42)) hx hb dX4_readLine_113 rfl ?_
      refine z_callv (va_runV (As := [.int (nI 42)]) (rest := []) S (mX4_readOne l Γ th (nI 42) μ _ hp) (cwV 1 hts (lw_V q1601 q1603 qs77 q132 q1604) rfl rfl rfl hX4_readOne ⟨Nat.le_of_ble_eq_true rfl, Nat.le_of_ble_eq_true rfl⟩) (hB.preV (tT hB) rfl rfl) rfl rfl hl.1 rfl (lv_room (Nat.le_of_ble_eq_true rfl)) dX4_readLine_115 ⟨Nat.le_refl _, Nat.le_refl _⟩) hB (fun μ9 H locs hp hB => ?_)
      refine lv_goto (tgt := 141) hx hb dX4_readLine_118 rfl ?_
      exact zret_v X hB hp dX4_readLine_141
    have hp := zif hp c8
    by_cases c9 : (zI μ th 9) = (nI 9)
    · have hp := zit hp c9
      refine lv_tableIn (tgt := 121) hx hb dX4_readLine_12 (by rw [c9]; decide) (by rw [c9]; decide) (by rw [c9]; rfl) rfl ?_
      refine lv_aload_n hx hb dX4_readLine_121 rfl (lv_at hl 0 rfl) ?_
      refine z_callv (va_runV (As := []) (rest := []) S (mX4_readBuild l Γ th μ _ hp) (cwV 0 hts (lw_V q1605 q1607 qs78 q132 q1608) rfl rfl rfl hX4_readBuild ⟨Nat.le_of_ble_eq_true rfl, Nat.le_of_ble_eq_true rfl⟩) (hB.preV (tT hB) rfl rfl) rfl rfl hl.1 rfl (lv_room (Nat.le_of_ble_eq_true rfl)) dX4_readLine_122 ⟨Nat.le_refl _, Nat.le_refl _⟩) hB (fun μ10 H locs hp hB => ?_)
      refine lv_goto (tgt := 141) hx hb dX4_readLine_125 rfl ?_
      exact zret_v X hB hp dX4_readLine_141
    have hp := zif hp c9
    by_cases c10 : (zI μ th 9) = (nI 10)
    · have hp := zit hp c10
      refine lv_tableIn (tgt := 136) hx hb dX4_readLine_12 (by rw [c10]; decide) (by rw [c10]; decide) (by rw [c10]; rfl) rfl ?_
      refine lv_aload_n hx hb dX4_readLine_136 rfl (lv_at hl 0 rfl) ?_
      refine lv_iconst (v := (nI 2)) hx hb dX4_readLine_137 rfl ?_
      refine z_callv (va_runV (As := [.int (nI 2)]) (rest := []) S (mX4_fails l Γ th (nI 2) μ _ hp) (cwV 1 hts (lw_V q1549 q1551 qs64 q132 q1552) rfl rfl rfl hX4_fails ⟨Nat.le_of_ble_eq_true rfl, Nat.le_of_ble_eq_true rfl⟩) (hB.preV (tT hB) rfl rfl) rfl rfl hl.1 rfl (lv_room (Nat.le_of_ble_eq_true rfl)) dX4_readLine_138 ⟨Nat.le_refl _, Nat.le_refl _⟩) hB (fun μ11 H locs hp hB => ?_)
      exact zret_v X hB hp dX4_readLine_141
    have hp := zif hp c10
    by_cases c11 : (zI μ th 9) = (nI 11)
    · have hp := zit hp c11
      refine lv_tableIn (tgt := 128) hx hb dX4_readLine_12 (by rw [c11]; decide) (by rw [c11]; decide) (by rw [c11]; rfl) rfl ?_
      refine lv_aload_n hx hb dX4_readLine_128 rfl (lv_at hl 0 rfl) ?_
      refine lv_iconst (v := (nI 4)) hx hb dX4_readLine_129 rfl ?_
      refine z_callv (va_runV (As := [.int (nI 4)]) (rest := []) S (mX4_readOne l Γ th (nI 4) μ _ hp) (cwV 1 hts (lw_V q1601 q1603 qs77 q132 q1604) rfl rfl rfl hX4_readOne ⟨Nat.le_of_ble_eq_true rfl, Nat.le_of_ble_eq_true rfl⟩) (hB.preV (tT hB) rfl rfl) rfl rfl hl.1 rfl (lv_room (Nat.le_of_ble_eq_true rfl)) dX4_readLine_130 ⟨Nat.le_refl _, Nat.le_refl _⟩) hB (fun μ12 H locs hp hB => ?_)
      refine lv_goto (tgt := 141) hx hb dX4_readLine_133 rfl ?_
      exact zret_v X hB hp dX4_readLine_141
    have hp := zif hp c11
    refine lv_tableOut (tgt := 136) hx hb dX4_readLine_12 (zswN (x := (zI μ th 9)) 0 11 (fun k h1 h2 => by rcases (show k = 0 ∨ k = 1 ∨ k = 2 ∨ k = 3 ∨ k = 4 ∨ k = 5 ∨ k = 6 ∨ k = 7 ∨ k = 8 ∨ k = 9 ∨ k = 10 ∨ k = 11 by omega) with rfl | rfl | rfl | rfl | rfl | rfl | rfl | rfl | rfl | rfl | rfl | rfl <;> assumption) (by decide)) rfl ?_
    refine lv_aload_n hx hb dX4_readLine_136 rfl (lv_at hl 0 rfl) ?_
    refine lv_iconst (v := (nI 2)) hx hb dX4_readLine_137 rfl ?_
    refine z_callv (va_runV (As := [.int (nI 2)]) (rest := []) S (mX4_fails l Γ th (nI 2) μ _ hp) (cwV 1 hts (lw_V q1549 q1551 qs64 q132 q1552) rfl rfl rfl hX4_fails ⟨Nat.le_of_ble_eq_true rfl, Nat.le_of_ble_eq_true rfl⟩) (hB.preV (tT hB) rfl rfl) rfl rfl hl.1 rfl (lv_room (Nat.le_of_ble_eq_true rfl)) dX4_readLine_138 ⟨Nat.le_refl _, Nat.le_refl _⟩) hB (fun μ13 H locs hp hB => ?_)
    exact zret_v X hB hp dX4_readLine_141
  · have hp := zif hp c0
    exact zret_v X hB hp dX4_readLine_7
def pX4_goesRings_42 (th : Nat) (K8 : Int32 → Int32 → zM → Prop) (Q : Int32 → zM → Prop) (x2 : Int32) (y2 : Int32) (y1 : Int32) (μ : zM) : Prop := (vp_in x2 6 ∧ (vp_in ((nI 35) + x2) 3594 ∧ zpI μ (th + 1) ((nI 35) + x2).toNatClampNeg (zI μ (th + 8) x2.toNatClampNeg) fun μ1 => K8 (y1 + y2) (x2 + (nI 1)) μ1))
set_option maxHeartbeats 4000000 in
set_option maxRecDepth 100000 in
theorem wX4_goesRings_42 {p : Program} {l : Launch} {e : Env} {s : State} {m : MethodId} {args : Array Value} {below : List Frame} {meth : Method} {c : Code} {Γ : zG} {μ0 : zM} {Q : Int32 → zM → Prop} {K8 : Int32 → Int32 → zM → Prop} (X : zCx p m c cX4_goesRings 3 s args RX4 meth (some .int)) (th : Nat) (hK8 : ∀ (x1 : Int32) (x2 : Int32) (μ : zM) (H : Heap) (locs : List Loc) (ls : Array Slot), K8 x1 x2 μ → zB Γ (tSh th) (zA μ0) μ0 s μ H locs → lv_has ls 3 [(0, .ref th), (1, .int x1), (2, .int x2)] → W p l e ({ frames := 6, cells := 0, slots := 0, locals := 143 } : Room) s m args below meth c H locs 0 0 (MQ below (va_Qi Q (zPost Γ (tSh th) μ0) (zA μ0)) args s 0 0 (zA μ0)) (F0 m 8 ls [])) : ∀ (x2 : Int32) (y2 : Int32) (y1 : Int32) (μ : zM) (H : Heap) (locs : List Loc) (ls : Array Slot), pX4_goesRings_42 th K8 Q x2 y2 y1 μ → zB Γ (tSh th) (zA μ0) μ0 s μ H locs → lv_has ls 3 [(0, .ref th), (2, .int x2)] → W p l e ({ frames := 6, cells := 0, slots := 0, locals := 143 } : Room) s m args below meth c H locs 0 0 (MQ below (va_Qi Q (zPost Γ (tSh th) μ0) (zA μ0)) args s 0 0 (zA μ0)) (F0 m 42 ls [.int y2, .int y1]) := by
  have S := X.1
  obtain ⟨hx, hb, hml, hown, hts⟩ := X.1
  intro x2 y2 y1 μ H locs ls hp hB hl
  unfold pX4_goesRings_42 at hp
  refine lv_iadd hx hb dX4_goesRings_42 ?_
  refine lv_istore_n (lv' := [(1, .int (y1 + y2)), (0, .ref th), (2, .int x2)]) hx hb dX4_goesRings_43 rfl hl (by decide) rfl (fun ls hl => ?_)
  refine lv_aload_n hx hb dX4_goesRings_44 rfl (lv_at hl 1 rfl) ?_
  refine g_getr S hB (tT hB) rfl (T := TX4) (N := 38) (C := RX4) rfl in_X4 1 (by decide) (by decide) q1393 (fun _ h9 => h9) (fun _ => rfl) (tA hB 0 rfl).1 dX4_goesRings_45 ?_
  refine lv_bipush (v := (nI 35)) hx hb dX4_goesRings_48 rfl ?_
  refine lv_iload_n hx hb dX4_goesRings_50 rfl (lv_at hl 2 rfl) ?_
  refine lv_iadd hx hb dX4_goesRings_51 ?_
  refine lv_aload_n hx hb dX4_goesRings_52 rfl (lv_at hl 1 rfl) ?_
  refine g_getr S hB (tT hB) rfl (T := TX4) (N := 38) (C := RX4) rfl in_X4 19 (by decide) (by decide) q1411 (fun _ h9 => h9) (fun _ => rfl) (tA hB 7 rfl).1 dX4_goesRings_53 ?_
  refine lv_iload_n hx hb dX4_goesRings_56 rfl (lv_at hl 2 rfl) ?_
  obtain ⟨hi, hp⟩ := hp
  refine g_iald S hB (tA hB 7 rfl).2 hi dX4_goesRings_57 ?_
  obtain ⟨hi, hp⟩ := hp
  obtain ⟨μ1, eμ1, hp⟩ := zpI_e hp
  refine g_iast S hB (tA hB 0 rfl).2 hi dX4_goesRings_58 (fun H locs hB => ?_)
  rw [← eμ1] at hB
  refine lv_iinc (v := (x2 + (nI 1))) (lv' := [(2, .int (x2 + (nI 1))), (1, .int (y1 + y2)), (0, .ref th)]) hx hb dX4_goesRings_59 hl (k := 2) rfl rfl (by decide) rfl (fun ls hl => ?_)
  refine lv_goto (tgt := 8) hx hb dX4_goesRings_62 rfl ?_
  exact hK8 (y1 + y2) (x2 + (nI 1)) μ1 _ _ _ hp hB (lv_sub hl [2, 1, 0] rfl)
def pX4_goesRings_8 (th : Nat) (Q : Int32 → zM → Prop) : Nat → Int32 → Int32 → zM → Prop
  | 0, _, _, _ => False
  | n + 1, x1, x2, μ => (vp_in (nI 1) 3594 ∧ (if (zI μ (th + 1) (nI 1).toNatClampNeg) ≤ x2 then Q x1 μ else (vp_in ((nI 35) + x2) 3594 ∧ (vp_in x2 6 ∧ (if (zI μ (th + 1) ((nI 35) + x2).toNatClampNeg) = (zI μ (th + 8) x2.toNatClampNeg) then pX4_goesRings_42 th (fun v0 v1 ν => pX4_goesRings_8 th Q n v0 v1 ν) Q x2 (nI 0) x1 μ else pX4_goesRings_42 th (fun v0 v1 ν => pX4_goesRings_8 th Q n v0 v1 ν) Q x2 (nI 1) x1 μ)))))
set_option maxHeartbeats 4000000 in
set_option maxRecDepth 100000 in
theorem wX4_goesRings_8 {p : Program} {l : Launch} {e : Env} {s : State} {m : MethodId} {args : Array Value} {below : List Frame} {meth : Method} {c : Code} {Γ : zG} {μ0 : zM} {Q : Int32 → zM → Prop} (X : zCx p m c cX4_goesRings 3 s args RX4 meth (some .int)) (th : Nat) : ∀ (n : Nat) (x1 : Int32) (x2 : Int32) (μ : zM) (H : Heap) (locs : List Loc) (ls : Array Slot), pX4_goesRings_8 th Q n x1 x2 μ → zB Γ (tSh th) (zA μ0) μ0 s μ H locs → lv_has ls 3 [(0, .ref th), (1, .int x1), (2, .int x2)] → W p l e ({ frames := 6, cells := 0, slots := 0, locals := 143 } : Room) s m args below meth c H locs 0 0 (MQ below (va_Qi Q (zPost Γ (tSh th) μ0) (zA μ0)) args s 0 0 (zA μ0)) (F0 m 8 ls []) := by
  have S := X.1
  obtain ⟨hx, hb, hml, hown, hts⟩ := X.1
  intro n
  induction n with
  | zero =>
    intro x1 x2 μ H locs ls hp
    exact hp.elim
  | succ n ih =>
    intro x1 x2 μ H locs ls hp hB hl
    unfold pX4_goesRings_8 at hp
    refine lv_iload_n hx hb dX4_goesRings_8 rfl (lv_at hl 2 rfl) ?_
    refine lv_aload_n hx hb dX4_goesRings_9 rfl (lv_at hl 0 rfl) ?_
    refine g_getr S hB (tT hB) rfl (T := TX4) (N := 38) (C := RX4) rfl in_X4 1 (by decide) (by decide) q1393 (fun _ h9 => h9) (fun _ => rfl) (tA hB 0 rfl).1 dX4_goesRings_10 ?_
    refine lv_iconst (v := (nI 1)) hx hb dX4_goesRings_13 rfl ?_
    obtain ⟨hi, hp⟩ := hp
    refine g_iald S hB (tA hB 0 rfl).2 hi dX4_goesRings_14 ?_
    refine lv_icmp_ge (tgt := 65) hx hb dX4_goesRings_15 rfl (fun c0 => ?_) (fun c0 => ?_)
    · have hp := zit hp c0
      refine lv_iload_n hx hb dX4_goesRings_65 rfl (lv_at hl 1 rfl) ?_
      exact zret_i X hB hp dX4_goesRings_66
    · have hp := zif hp c0
      refine lv_iload_n hx hb dX4_goesRings_18 rfl (lv_at hl 1 rfl) ?_
      refine lv_aload_n hx hb dX4_goesRings_19 rfl (lv_at hl 0 rfl) ?_
      refine g_getr S hB (tT hB) rfl (T := TX4) (N := 38) (C := RX4) rfl in_X4 1 (by decide) (by decide) q1393 (fun _ h9 => h9) (fun _ => rfl) (tA hB 0 rfl).1 dX4_goesRings_20 ?_
      refine lv_bipush (v := (nI 35)) hx hb dX4_goesRings_23 rfl ?_
      refine lv_iload_n hx hb dX4_goesRings_25 rfl (lv_at hl 2 rfl) ?_
      refine lv_iadd hx hb dX4_goesRings_26 ?_
      obtain ⟨hi, hp⟩ := hp
      refine g_iald S hB (tA hB 0 rfl).2 hi dX4_goesRings_27 ?_
      refine lv_aload_n hx hb dX4_goesRings_28 rfl (lv_at hl 0 rfl) ?_
      refine g_getr S hB (tT hB) rfl (T := TX4) (N := 38) (C := RX4) rfl in_X4 19 (by decide) (by decide) q1411 (fun _ h9 => h9) (fun _ => rfl) (tA hB 7 rfl).1 dX4_goesRings_29 ?_
      refine lv_iload_n hx hb dX4_goesRings_32 rfl (lv_at hl 2 rfl) ?_
      obtain ⟨hi, hp⟩ := hp
      refine g_iald S hB (tA hB 7 rfl).2 hi dX4_goesRings_33 ?_
      refine lv_icmp_ne (tgt := 41) hx hb dX4_goesRings_34 rfl (fun c0 => ?_) (fun c0 => ?_)
      · have hp := zif hp c0
        refine lv_iconst (v := (nI 1)) hx hb dX4_goesRings_41 rfl ?_
        exact wX4_goesRings_42 X th (fun v0 v1 ν H2 L2 ls2 h2 b2 l2 => ih v0 v1 ν H2 L2 ls2 h2 b2 l2) x2 (nI 1) x1 μ _ _ _ hp hB (lv_sub hl [0, 2] rfl)
      · have hp := zit hp c0
        refine lv_iconst (v := (nI 0)) hx hb dX4_goesRings_37 rfl ?_
        refine lv_goto (tgt := 42) hx hb dX4_goesRings_38 rfl ?_
        exact wX4_goesRings_42 X th (fun v0 v1 ν H2 L2 ls2 h2 b2 l2 => ih v0 v1 ν H2 L2 ls2 h2 b2 l2) x2 (nI 0) x1 μ _ _ _ hp hB (lv_sub hl [0, 2] rfl)
def pX4_goesRings (th : Nat) (μ : zM) (Q : Int32 → zM → Prop) : Prop := (pX4_laysRings th μ fun μ1 => ∃ k1, pX4_goesRings_8 th Q k1 (nI 0) (nI 0) μ1)
theorem hX4_goesRings : yX4_goesRings.cls = "SunkTowerModel" ∧ yX4_goesRings.cls ≠ "java/lang/invoke/MethodHandle" ∧ yX4_goesRings.cls ≠ "java/lang/invoke/VarHandle" ∧ (parseMethodDescriptor yX4_goesRings.desc).map (fun d => d.parameters.length) = some 0 := by decide +kernel
set_option maxHeartbeats 4000000 in
set_option maxRecDepth 100000 in
theorem mX4_goesRings (l : Launch) (Γ : zG) (th : Nat) (μ : zM) (Q : Int32 → zM → Prop) (hp : pX4_goesRings th μ Q) : Met l yX4_goesRings (ws_ yX4_goesRings cX4_goesRings 3 (some .int)) ({ frames := 6, cells := 0, slots := 0, locals := 143 } : Room) (va_Pc [.ref th] (zPre Γ (tSh th) μ)) (va_Qi Q (zPost Γ (tSh th) μ) (zA μ)) 0 0 (zA μ) := by
  refine zstart (by decide) (Nat.le_of_ble_eq_true rfl) ?_
  intro p e s m below meth c ls X hnm hB hl
  have X : zCx p m c cX4_goesRings 3 s [.ref th].toArray RX4 meth (some .int) := X
  have S := X.1
  obtain ⟨hx, hb, hml, hown, hts⟩ := X.1
  have hl : lv_has ls 3 [(0, .ref th)] := hl
  unfold pX4_goesRings at hp
  refine lv_aload_n hx hb dX4_goesRings_0 rfl (lv_at hl 0 rfl) ?_
  refine z_callv (va_runV (As := []) (rest := []) S (mX4_laysRings l Γ th μ _ hp) (cwV 0 hts (lw_V q1744 q1746 qs95 q132 q1747) rfl rfl rfl hX4_laysRings ⟨Nat.le_of_ble_eq_true rfl, Nat.le_of_ble_eq_true rfl⟩) (hB.preV (tT hB) rfl rfl) rfl rfl hl.1 rfl (lv_room (Nat.le_of_ble_eq_true rfl)) dX4_goesRings_1 ⟨Nat.le_refl _, Nat.le_refl _⟩) hB (fun μ1 H locs hp hB => ?_)
  refine lv_iconst (v := (nI 0)) hx hb dX4_goesRings_4 rfl ?_
  refine lv_istore_n (lv' := [(1, .int (nI 0)), (0, .ref th)]) hx hb dX4_goesRings_5 rfl hl (by decide) rfl (fun ls hl => ?_)
  refine lv_iconst (v := (nI 0)) hx hb dX4_goesRings_6 rfl ?_
  refine lv_istore_n (lv' := [(2, .int (nI 0)), (1, .int (nI 0)), (0, .ref th)]) hx hb dX4_goesRings_7 rfl hl (by decide) rfl (fun ls hl => ?_)
  obtain ⟨n1, hp⟩ := hp
  exact wX4_goesRings_8 X th n1 (nI 0) (nI 0) μ1 _ _ _ hp hB (lv_sub hl [2, 1, 0] rfl)
def pX4_does (th : Nat) (x1 : Int32) (μ : zM) (Q : zM → Prop) : Prop := (if x1 = (-1 : Int32) then (pX4_goesMonth th μ fun μ7 => Q μ7) else (if (nI 1000) ≤ x1 then (if (nI 2000) ≤ x1 then (if x1 = (nI 2000) then (pX4_goesUp th μ fun μ4 => Q μ4) else (if x1 = (nI 3000) then (pX4_goesRings th μ fun r3 μ2 => Q μ2) else (vp_in ((nI 29) + ((x1 - (nI 10000)) / (nI 1000))) 3594 ∧ zpI μ (th + 1) ((nI 29) + ((x1 - (nI 10000)) / (nI 1000))).toNatClampNeg (x1 - x1 / (nI 1000) * (nI 1000)) fun μ1 => Q μ1))) else (vp_in (((nI 35) + x1) - (nI 1000)) 3594 ∧ zpI μ (th + 1) (((nI 35) + x1) - (nI 1000)).toNatClampNeg (-1 : Int32) fun μ5 => Q μ5)) else (vp_in ((nI 35) + (x1 / (nI 100))) 3594 ∧ zpI μ (th + 1) ((nI 35) + (x1 / (nI 100))).toNatClampNeg (x1 - x1 / (nI 100) * (nI 100)) fun μ6 => Q μ6)))
theorem hX4_does : yX4_does.cls = "SunkTowerModel" ∧ yX4_does.cls ≠ "java/lang/invoke/MethodHandle" ∧ yX4_does.cls ≠ "java/lang/invoke/VarHandle" ∧ (parseMethodDescriptor yX4_does.desc).map (fun d => d.parameters.length) = some 1 := by decide +kernel
set_option maxHeartbeats 4000000 in
set_option maxRecDepth 100000 in
theorem mX4_does (l : Launch) (Γ : zG) (th : Nat) (x1 : Int32) (μ : zM) (Q : zM → Prop) (hp : pX4_does th x1 μ Q) : Met l yX4_does (ws_ yX4_does cX4_does 2 none) ({ frames := 7, cells := 0, slots := 0, locals := 165 } : Room) (va_Pc [.ref th, .int x1] (zPre Γ (tSh th) μ)) (va_Qv Q (zPost Γ (tSh th) μ) (zA μ)) 0 0 (zA μ) := by
  refine zstart (by decide) (Nat.le_of_ble_eq_true rfl) ?_
  intro p e s m below meth c ls X hnm hB hl
  have X : zCx p m c cX4_does 2 s [.ref th, .int x1].toArray RX4 meth none := X
  have S := X.1
  obtain ⟨hx, hb, hml, hown, hts⟩ := X.1
  have hl : lv_has ls 2 [(0, .ref th), (1, .int x1)] := hl
  unfold pX4_does at hp
  refine lv_iload_n hx hb dX4_does_0 rfl (lv_at hl 1 rfl) ?_
  refine lv_iconst (v := (-1 : Int32)) hx hb dX4_does_1 rfl ?_
  refine lv_icmp_ne (tgt := 12) hx hb dX4_does_2 rfl (fun c0 => ?_) (fun c0 => ?_)
  · have hp := zif hp c0
    refine lv_iload_n hx hb dX4_does_12 rfl (lv_at hl 1 rfl) ?_
    refine lv_sipush (v := (nI 1000)) hx hb dX4_does_13 rfl ?_
    refine lv_icmp_ge (tgt := 38) hx hb dX4_does_16 rfl (fun c0 => ?_) (fun c0 => ?_)
    · have hp := zit hp c0
      refine lv_iload_n hx hb dX4_does_38 rfl (lv_at hl 1 rfl) ?_
      refine lv_sipush (v := (nI 2000)) hx hb dX4_does_39 rfl ?_
      refine lv_icmp_ge (tgt := 62) hx hb dX4_does_42 rfl (fun c0 => ?_) (fun c0 => ?_)
      · have hp := zit hp c0
        refine lv_iload_n hx hb dX4_does_62 rfl (lv_at hl 1 rfl) ?_
        refine lv_sipush (v := (nI 2000)) hx hb dX4_does_63 rfl ?_
        refine lv_icmp_ne (tgt := 76) hx hb dX4_does_66 rfl (fun c0 => ?_) (fun c0 => ?_)
        · have hp := zif hp c0
          refine lv_iload_n hx hb dX4_does_76 rfl (lv_at hl 1 rfl) ?_
          refine lv_sipush (v := (nI 3000)) hx hb dX4_does_77 rfl ?_
          refine lv_icmp_ne (tgt := 91) hx hb dX4_does_80 rfl (fun c0 => ?_) (fun c0 => ?_)
          · have hp := zif hp c0
            refine lv_aload_n hx hb dX4_does_91 rfl (lv_at hl 0 rfl) ?_
            refine g_getr S hB (tT hB) rfl (T := TX4) (N := 38) (C := RX4) rfl in_X4 1 (by decide) (by decide) q1393 (fun _ h9 => h9) (fun _ => rfl) (tA hB 0 rfl).1 dX4_does_92 ?_
            refine lv_bipush (v := (nI 29)) hx hb dX4_does_95 rfl ?_
            refine lv_iload_n hx hb dX4_does_97 rfl (lv_at hl 1 rfl) ?_
            refine lv_sipush (v := (nI 10000)) hx hb dX4_does_98 rfl ?_
            refine lv_isub hx hb dX4_does_101 ?_
            refine lv_sipush (v := (nI 1000)) hx hb dX4_does_102 rfl ?_
            refine lv_idiv hx hb dX4_does_105 (by decide) ?_
            refine lv_iadd hx hb dX4_does_106 ?_
            refine lv_iload_n hx hb dX4_does_107 rfl (lv_at hl 1 rfl) ?_
            refine lv_sipush (v := (nI 1000)) hx hb dX4_does_108 rfl ?_
            refine lv_irem hx hb dX4_does_111 (by decide) ?_
            obtain ⟨hi, hp⟩ := hp
            obtain ⟨μ1, eμ1, hp⟩ := zpI_e hp
            refine g_iast S hB (tA hB 0 rfl).2 hi dX4_does_112 (fun H locs hB => ?_)
            rw [← eμ1] at hB
            exact zret_v X hB hp dX4_does_113
          · have hp := zit hp c0
            refine lv_aload_n hx hb dX4_does_83 rfl (lv_at hl 0 rfl) ?_
            refine z_calli (va_runV (As := []) (rest := []) S (mX4_goesRings l Γ th μ _ hp) (cwV 0 hts (lw_V q1740 q1742 qs94 q132 q1743) rfl rfl rfl hX4_goesRings ⟨Nat.le_of_ble_eq_true rfl, Nat.le_of_ble_eq_true rfl⟩) (hB.preV (tT hB) rfl rfl) rfl rfl hl.1 rfl (lv_room (Nat.le_of_ble_eq_true rfl)) dX4_does_84 ⟨Nat.le_refl _, Nat.le_refl _⟩) hB (fun r3 μ2 H locs hp hB => ?_)
            refine lv_pop hx hb dX4_does_87 rfl ?_
            refine lv_goto (tgt := 113) hx hb dX4_does_88 rfl ?_
            exact zret_v X hB hp dX4_does_113
        · have hp := zit hp c0
          refine lv_aload_n hx hb dX4_does_69 rfl (lv_at hl 0 rfl) ?_
          refine z_callv (va_runV (As := []) (rest := []) S (mX4_goesUp l Γ th μ _ hp) (cwV 0 hts (lw_V q1711 q1713 qs91 q132 q1714) rfl rfl rfl hX4_goesUp ⟨Nat.le_of_ble_eq_true rfl, Nat.le_of_ble_eq_true rfl⟩) (hB.preV (tT hB) rfl rfl) rfl rfl hl.1 rfl (lv_room (Nat.le_of_ble_eq_true rfl)) dX4_does_70 ⟨Nat.le_refl _, Nat.le_refl _⟩) hB (fun μ4 H locs hp hB => ?_)
          refine lv_goto (tgt := 113) hx hb dX4_does_73 rfl ?_
          exact zret_v X hB hp dX4_does_113
      · have hp := zif hp c0
        refine lv_aload_n hx hb dX4_does_45 rfl (lv_at hl 0 rfl) ?_
        refine g_getr S hB (tT hB) rfl (T := TX4) (N := 38) (C := RX4) rfl in_X4 1 (by decide) (by decide) q1393 (fun _ h9 => h9) (fun _ => rfl) (tA hB 0 rfl).1 dX4_does_46 ?_
        refine lv_bipush (v := (nI 35)) hx hb dX4_does_49 rfl ?_
        refine lv_iload_n hx hb dX4_does_51 rfl (lv_at hl 1 rfl) ?_
        refine lv_iadd hx hb dX4_does_52 ?_
        refine lv_sipush (v := (nI 1000)) hx hb dX4_does_53 rfl ?_
        refine lv_isub hx hb dX4_does_56 ?_
        refine lv_iconst (v := (-1 : Int32)) hx hb dX4_does_57 rfl ?_
        obtain ⟨hi, hp⟩ := hp
        obtain ⟨μ5, eμ5, hp⟩ := zpI_e hp
        refine g_iast S hB (tA hB 0 rfl).2 hi dX4_does_58 (fun H locs hB => ?_)
        rw [← eμ5] at hB
        refine lv_goto (tgt := 113) hx hb dX4_does_59 rfl ?_
        exact zret_v X hB hp dX4_does_113
    · have hp := zif hp c0
      refine lv_aload_n hx hb dX4_does_19 rfl (lv_at hl 0 rfl) ?_
      refine g_getr S hB (tT hB) rfl (T := TX4) (N := 38) (C := RX4) rfl in_X4 1 (by decide) (by decide) q1393 (fun _ h9 => h9) (fun _ => rfl) (tA hB 0 rfl).1 dX4_does_20 ?_
      refine lv_bipush (v := (nI 35)) hx hb dX4_does_23 rfl ?_
      refine lv_iload_n hx hb dX4_does_25 rfl (lv_at hl 1 rfl) ?_
      refine lv_bipush (v := (nI 100)) hx hb dX4_does_26 rfl ?_
      refine lv_idiv hx hb dX4_does_28 (by decide) ?_
      refine lv_iadd hx hb dX4_does_29 ?_
      refine lv_iload_n hx hb dX4_does_30 rfl (lv_at hl 1 rfl) ?_
      refine lv_bipush (v := (nI 100)) hx hb dX4_does_31 rfl ?_
      refine lv_irem hx hb dX4_does_33 (by decide) ?_
      obtain ⟨hi, hp⟩ := hp
      obtain ⟨μ6, eμ6, hp⟩ := zpI_e hp
      refine g_iast S hB (tA hB 0 rfl).2 hi dX4_does_34 (fun H locs hB => ?_)
      rw [← eμ6] at hB
      refine lv_goto (tgt := 113) hx hb dX4_does_35 rfl ?_
      exact zret_v X hB hp dX4_does_113
  · have hp := zit hp c0
    refine lv_aload_n hx hb dX4_does_5 rfl (lv_at hl 0 rfl) ?_
    refine z_callv (va_runV (As := []) (rest := []) S (mX4_goesMonth l Γ th μ _ hp) (cwV 0 hts (lw_V q1695 q1697 qs89 q132 q1698) rfl rfl rfl hX4_goesMonth ⟨Nat.le_of_ble_eq_true rfl, Nat.le_of_ble_eq_true rfl⟩) (hB.preV (tT hB) rfl rfl) rfl rfl hl.1 rfl (lv_room (Nat.le_of_ble_eq_true rfl)) dX4_does_6 ⟨Nat.le_refl _, Nat.le_refl _⟩) hB (fun μ7 H locs hp hB => ?_)
    refine lv_goto (tgt := 113) hx hb dX4_does_9 rfl ?_
    exact zret_v X hB hp dX4_does_113
def pX4_years_56 (th : Nat) (x2 : Int32) (Q : Int32 → zM → Prop) : Nat → Int32 → Int32 → zM → Prop
  | 0, _, _, _ => False
  | n + 1, x3, x4, μ => (if x2 ≤ x4 then (if x3 ≤ 0 then Q x3 μ else (pX4_notes th μ fun μ1 => Q x3 μ1)) else (pX4_drawn th μ fun r3 μ2 => (pX4_whyNot th (r3.toInt64) μ2 fun r5 μ4 => (if r5 = 0 then (pX4_does th r3 μ4 fun μ6 => pX4_years_56 th x2 Q n (x3 + (nI 1)) (x4 + (nI 1)) μ6) else pX4_years_56 th x2 Q n x3 (x4 + (nI 1)) μ4))))
set_option maxHeartbeats 4000000 in
set_option maxRecDepth 100000 in
theorem wX4_years_56 {p : Program} {l : Launch} {e : Env} {s : State} {m : MethodId} {args : Array Value} {below : List Frame} {meth : Method} {c : Code} {Γ : zG} {μ0 : zM} {Q : Int32 → zM → Prop} (X : zCx p m c cX4_years 6 s args RX4 meth (some .int)) (th : Nat) (x2 : Int32) : ∀ (n : Nat) (x3 : Int32) (x4 : Int32) (μ : zM) (H : Heap) (locs : List Loc) (ls : Array Slot), pX4_years_56 th x2 Q n x3 x4 μ → zB Γ (tSh th) (zA μ0) μ0 s μ H locs → lv_has ls 6 [(0, .ref th), (2, .int x2), (3, .int x3), (4, .int x4)] → W p l e ({ frames := 8, cells := 0, slots := 0, locals := 186 } : Room) s m args below meth c H locs 0 0 (MQ below (va_Qi Q (zPost Γ (tSh th) μ0) (zA μ0)) args s 0 0 (zA μ0)) (F0 m 56 ls []) := by
  have S := X.1
  obtain ⟨hx, hb, hml, hown, hts⟩ := X.1
  intro n
  induction n with
  | zero =>
    intro x3 x4 μ H locs ls hp
    exact hp.elim
  | succ n ih =>
    intro x3 x4 μ H locs ls hp hB hl
    unfold pX4_years_56 at hp
    refine lv_iload hx hb dX4_years_56 (lv_at hl 3 rfl) ?_
    refine lv_iload_n hx hb dX4_years_58 rfl (lv_at hl 1 rfl) ?_
    refine lv_icmp_ge (tgt := 96) hx hb dX4_years_59 rfl (fun c0 => ?_) (fun c0 => ?_)
    · have hp := zit hp c0
      refine lv_iload_n hx hb dX4_years_96 rfl (lv_at hl 2 rfl) ?_
      refine lv_if_le (tgt := 104) hx hb dX4_years_97 rfl (fun c0 => ?_) (fun c0 => ?_)
      · have hp := zit hp c0
        refine lv_iload_n hx hb dX4_years_104 rfl (lv_at hl 2 rfl) ?_
        exact zret_i X hB hp dX4_years_105
      · have hp := zif hp c0
        refine lv_aload_n hx hb dX4_years_100 rfl (lv_at hl 0 rfl) ?_
        refine z_callv (va_runV (As := []) (rest := []) S (mX4_notes l Γ th μ _ hp) (cwV 0 hts (lw_V q1703 q1705 qs90 q132 q1706) rfl rfl rfl hX4_notes ⟨Nat.le_of_ble_eq_true rfl, Nat.le_of_ble_eq_true rfl⟩) (hB.preV (tT hB) rfl rfl) rfl rfl hl.1 rfl (lv_room (Nat.le_of_ble_eq_true rfl)) dX4_years_101 ⟨Nat.le_refl _, Nat.le_refl _⟩) hB (fun μ1 H locs hp hB => ?_)
        refine lv_iload_n hx hb dX4_years_104 rfl (lv_at hl 2 rfl) ?_
        exact zret_i X hB hp dX4_years_105
    · have hp := zif hp c0
      refine lv_aload_n hx hb dX4_years_62 rfl (lv_at hl 0 rfl) ?_
      refine z_calli (va_runV (As := []) (rest := []) S (mX4_drawn l Γ th μ _ hp) (cwV 0 hts (lw_V q1803 q1805 qs102 q132 q1806) rfl rfl rfl hX4_drawn ⟨Nat.le_of_ble_eq_true rfl, Nat.le_of_ble_eq_true rfl⟩) (hB.preV (tT hB) rfl rfl) rfl rfl hl.1 rfl (lv_room (Nat.le_of_ble_eq_true rfl)) dX4_years_63 ⟨Nat.le_refl _, Nat.le_refl _⟩) hB (fun r3 μ2 H locs hp hB => ?_)
      refine lv_istore (lv' := [(5, .int r3), (0, .ref th), (2, .int x2), (3, .int x3), (4, .int x4)]) hx hb dX4_years_66 hl (by decide) rfl (fun ls hl => ?_)
      refine lv_aload_n hx hb dX4_years_68 rfl (lv_at hl 1 rfl) ?_
      refine lv_iload hx hb dX4_years_69 (lv_at hl 0 rfl) ?_
      refine lv_i2l hx hb dX4_years_71 rfl ?_
      refine z_calli (va_runV (As := [.long (r3.toInt64)]) (rest := []) S (mX4_whyNot l Γ th (r3.toInt64) μ2 _ hp) (cwV 1 hts (lw_V q1773 q1775 qs99 q132 q1776) rfl rfl rfl hX4_whyNot ⟨Nat.le_of_ble_eq_true rfl, Nat.le_of_ble_eq_true rfl⟩) (hB.preV (tT hB) rfl rfl) rfl rfl hl.1 rfl (lv_room (Nat.le_of_ble_eq_true rfl)) dX4_years_72 ⟨Nat.le_refl _, Nat.le_refl _⟩) hB (fun r5 μ4 H locs hp hB => ?_)
      refine lv_if_eq (tgt := 81) hx hb dX4_years_75 rfl (fun c0 => ?_) (fun c0 => ?_)
      · have hp := zit hp c0
        refine lv_aload_n hx hb dX4_years_81 rfl (lv_at hl 1 rfl) ?_
        refine lv_iload hx hb dX4_years_82 (lv_at hl 0 rfl) ?_
        refine z_callv (va_runV (As := [.int r3]) (rest := []) S (mX4_does l Γ th r3 μ4 _ hp) (cwV 1 hts (lw_V q1786 q1788 qs100 q132 q1789) rfl rfl rfl hX4_does ⟨Nat.le_of_ble_eq_true rfl, Nat.le_of_ble_eq_true rfl⟩) (hB.preV (tT hB) rfl rfl) rfl rfl hl.1 rfl (lv_room (Nat.le_of_ble_eq_true rfl)) dX4_years_84 ⟨Nat.le_refl _, Nat.le_refl _⟩) hB (fun μ6 H locs hp hB => ?_)
        refine lv_iinc (v := (x3 + (nI 1))) (lv' := [(3, .int (x3 + (nI 1))), (5, .int r3), (0, .ref th), (2, .int x2), (4, .int x4)]) hx hb dX4_years_87 hl (k := 3) rfl rfl (by decide) rfl (fun ls hl => ?_)
        refine lv_iinc (v := (x4 + (nI 1))) (lv' := [(4, .int (x4 + (nI 1))), (3, .int (x3 + (nI 1))), (5, .int r3), (0, .ref th), (2, .int x2)]) hx hb dX4_years_90 hl (k := 4) rfl rfl (by decide) rfl (fun ls hl => ?_)
        refine lv_goto (tgt := 56) hx hb dX4_years_93 rfl ?_
        exact ih (x3 + (nI 1)) (x4 + (nI 1)) μ6 _ _ _ hp hB (lv_sub hl [3, 4, 1, 0] rfl)
      · have hp := zif hp c0
        refine lv_goto (tgt := 90) hx hb dX4_years_78 rfl ?_
        refine lv_iinc (v := (x4 + (nI 1))) (lv' := [(4, .int (x4 + (nI 1))), (5, .int r3), (0, .ref th), (2, .int x2), (3, .int x3)]) hx hb dX4_years_90 hl (k := 4) rfl rfl (by decide) rfl (fun ls hl => ?_)
        refine lv_goto (tgt := 56) hx hb dX4_years_93 rfl ?_
        exact ih x3 (x4 + (nI 1)) μ4 _ _ _ hp hB (lv_sub hl [2, 3, 4, 0] rfl)
def pX4_years (th : Nat) (x1 : Int32) (x2 : Int32) (μ : zM) (Q : Int32 → zM → Prop) : Prop := (zpI μ th 0 (nI 0) fun μ1 => (pX4_within th (x2.toInt64) (1 : Int64) (30 : Int64) μ1 fun r3 μ2 => (if r3 = 0 then Q (-3 : Int32) μ2 else (vp_in (nI 20) 3594 ∧ (if (zI μ2 (th + 1) (nI 20).toNatClampNeg) = 0 then Q (-5 : Int32) μ2 else (vp_in (nI 1) 3594 ∧ (if (zI μ2 (th + 1) (nI 1).toNatClampNeg) = 0 then Q (-5 : Int32) μ2 else (pX4_keeps th μ2 fun μ4 => (zpI μ4 th 22 x1 fun μ5 => ∃ k1, pX4_years_56 th x2 Q k1 (nI 0) (nI 0) μ5)))))))))
theorem hX4_years : yX4_years.cls = "SunkTowerModel" ∧ yX4_years.cls ≠ "java/lang/invoke/MethodHandle" ∧ yX4_years.cls ≠ "java/lang/invoke/VarHandle" ∧ (parseMethodDescriptor yX4_years.desc).map (fun d => d.parameters.length) = some 2 := by decide +kernel
set_option maxHeartbeats 4000000 in
set_option maxRecDepth 100000 in
theorem mX4_years (l : Launch) (Γ : zG) (th : Nat) (x1 : Int32) (x2 : Int32) (μ : zM) (Q : Int32 → zM → Prop) (hp : pX4_years th x1 x2 μ Q) : Met l yX4_years (ws_ yX4_years cX4_years 6 (some .int)) ({ frames := 8, cells := 0, slots := 0, locals := 186 } : Room) (va_Pc [.ref th, .int x1, .int x2] (zPre Γ (tSh th) μ)) (va_Qi Q (zPost Γ (tSh th) μ) (zA μ)) 0 0 (zA μ) := by
  refine zstart (by decide) (Nat.le_of_ble_eq_true rfl) ?_
  intro p e s m below meth c ls X hnm hB hl
  have X : zCx p m c cX4_years 6 s [.ref th, .int x1, .int x2].toArray RX4 meth (some .int) := X
  have S := X.1
  obtain ⟨hx, hb, hml, hown, hts⟩ := X.1
  have hl : lv_has ls 6 [(0, .ref th), (1, .int x1), (2, .int x2)] := hl
  unfold pX4_years at hp
  refine lv_aload_n hx hb dX4_years_0 rfl (lv_at hl 0 rfl) ?_
  refine lv_iconst (v := (nI 0)) hx hb dX4_years_1 rfl ?_
  obtain ⟨μ1, eμ1, hp⟩ := zpI_e hp
  refine g_putI S hB (tT hB) rfl (T := TX4) (N := 38) (C := RX4) rfl in_X4 0 (by decide) (by decide) (x := (nI 0)) tyX4 tyX4_ok nmX4 q1392 (fun _ h9 => h9) rfl (ty := .int) (by decide +kernel) rfl rfl (fun _ _ => rfl) dX4_years_2 (fun H locs hB => ?_)
  rw [← eμ1] at hB
  refine lv_iload_n hx hb dX4_years_5 rfl (lv_at hl 2 rfl) ?_
  refine lv_i2l hx hb dX4_years_6 rfl ?_
  refine lv_lconst (v := (1 : Int64)) hx hb dX4_years_7 rfl ?_
  refine lv_ldc2 (v := (30 : Int64)) hx hb hown (hts _ q1802) dX4_years_8 ?_
  refine z_calli (va_runS (As := [.long (x2.toInt64), .long (1 : Int64), .long (30 : Int64)]) (rest := []) S (mX4_within l Γ th (x2.toInt64) (1 : Int64) (30 : Int64) μ1 _ hp) (va_cwS 3 hts (lw_S q1516 q1517 q132 q1518) rfl rfl rfl hX4_within ⟨Nat.le_of_ble_eq_true rfl, Nat.le_of_ble_eq_true rfl⟩) hB.preS rfl rfl hl.1 rfl (lv_room (Nat.le_of_ble_eq_true rfl)) dX4_years_11 ⟨Nat.le_refl _, Nat.le_refl _⟩) hB (fun r3 μ2 H locs hp hB => ?_)
  refine lv_if_ne (tgt := 20) hx hb dX4_years_14 rfl (fun c0 => ?_) (fun c0 => ?_)
  · have hp := zif hp c0
    refine lv_aload_n hx hb dX4_years_20 rfl (lv_at hl 0 rfl) ?_
    refine g_getr S hB (tT hB) rfl (T := TX4) (N := 38) (C := RX4) rfl in_X4 1 (by decide) (by decide) q1393 (fun _ h9 => h9) (fun _ => rfl) (tA hB 0 rfl).1 dX4_years_21 ?_
    refine lv_bipush (v := (nI 20)) hx hb dX4_years_24 rfl ?_
    obtain ⟨hi, hp⟩ := hp
    refine g_iald S hB (tA hB 0 rfl).2 hi dX4_years_26 ?_
    refine lv_if_eq (tgt := 39) hx hb dX4_years_27 rfl (fun c0 => ?_) (fun c0 => ?_)
    · have hp := zit hp c0
      refine lv_bipush (v := (-5 : Int32)) hx hb dX4_years_39 rfl ?_
      exact zret_i X hB hp dX4_years_41
    · have hp := zif hp c0
      refine lv_aload_n hx hb dX4_years_30 rfl (lv_at hl 0 rfl) ?_
      refine g_getr S hB (tT hB) rfl (T := TX4) (N := 38) (C := RX4) rfl in_X4 1 (by decide) (by decide) q1393 (fun _ h9 => h9) (fun _ => rfl) (tA hB 0 rfl).1 dX4_years_31 ?_
      refine lv_iconst (v := (nI 1)) hx hb dX4_years_34 rfl ?_
      obtain ⟨hi, hp⟩ := hp
      refine g_iald S hB (tA hB 0 rfl).2 hi dX4_years_35 ?_
      refine lv_if_ne (tgt := 42) hx hb dX4_years_36 rfl (fun c0 => ?_) (fun c0 => ?_)
      · have hp := zif hp c0
        refine lv_aload_n hx hb dX4_years_42 rfl (lv_at hl 0 rfl) ?_
        refine z_callv (va_runV (As := []) (rest := []) S (mX4_keeps l Γ th μ2 _ hp) (cwV 0 hts (lw_V q1691 q1693 qs88 q132 q1694) rfl rfl rfl hX4_keeps ⟨Nat.le_of_ble_eq_true rfl, Nat.le_of_ble_eq_true rfl⟩) (hB.preV (tT hB) rfl rfl) rfl rfl hl.1 rfl (lv_room (Nat.le_of_ble_eq_true rfl)) dX4_years_43 ⟨Nat.le_refl _, Nat.le_refl _⟩) hB (fun μ4 H locs hp hB => ?_)
        refine lv_aload_n hx hb dX4_years_46 rfl (lv_at hl 0 rfl) ?_
        refine lv_iload_n hx hb dX4_years_47 rfl (lv_at hl 1 rfl) ?_
        obtain ⟨μ5, eμ5, hp⟩ := zpI_e hp
        refine g_putI S hB (tT hB) rfl (T := TX4) (N := 38) (C := RX4) rfl in_X4 22 (by decide) (by decide) (x := x1) tyX4 tyX4_ok nmX4 q1414 (fun _ h9 => h9) rfl (ty := .int) (by decide +kernel) rfl rfl (fun _ _ => rfl) dX4_years_48 (fun H locs hB => ?_)
        rw [← eμ5] at hB
        refine lv_iconst (v := (nI 0)) hx hb dX4_years_51 rfl ?_
        refine lv_istore_n (lv' := [(3, .int (nI 0)), (0, .ref th), (1, .int x1), (2, .int x2)]) hx hb dX4_years_52 rfl hl (by decide) rfl (fun ls hl => ?_)
        refine lv_iconst (v := (nI 0)) hx hb dX4_years_53 rfl ?_
        refine lv_istore (lv' := [(4, .int (nI 0)), (3, .int (nI 0)), (0, .ref th), (1, .int x1), (2, .int x2)]) hx hb dX4_years_54 hl (by decide) rfl (fun ls hl => ?_)
        obtain ⟨n1, hp⟩ := hp
        exact wX4_years_56 X th x2 n1 (nI 0) (nI 0) μ5 _ _ _ hp hB (lv_sub hl [2, 4, 1, 0] rfl)
      · have hp := zit hp c0
        refine lv_bipush (v := (-5 : Int32)) hx hb dX4_years_39 rfl ?_
        exact zret_i X hB hp dX4_years_41
  · have hp := zit hp c0
    refine lv_bipush (v := (-3 : Int32)) hx hb dX4_years_17 rfl ?_
    exact zret_i X hB hp dX4_years_19
def pX4_sunkIn (th : Nat) (x1 : Int32) (μ : zM) (Q : Int32 → zM → Prop) : Prop := (zpI μ th 0 (nI 0) fun μ1 => (pX4_within th (x1.toInt64) (0 : Int64) (600 : Int64) μ1 fun r3 μ2 => (if r3 = 0 then Q (-3 : Int32) μ2 else (pX4_laysAll th x1 μ2 fun μ4 => (vp_in x1 602 ∧ Q (zI μ4 (th + 9) x1.toNatClampNeg) μ4)))))
theorem hX4_sunkIn : yX4_sunkIn.cls = "SunkTowerModel" ∧ yX4_sunkIn.cls ≠ "java/lang/invoke/MethodHandle" ∧ yX4_sunkIn.cls ≠ "java/lang/invoke/VarHandle" ∧ (parseMethodDescriptor yX4_sunkIn.desc).map (fun d => d.parameters.length) = some 1 := by decide +kernel
set_option maxHeartbeats 4000000 in
set_option maxRecDepth 100000 in
theorem mX4_sunkIn (l : Launch) (Γ : zG) (th : Nat) (x1 : Int32) (μ : zM) (Q : Int32 → zM → Prop) (hp : pX4_sunkIn th x1 μ Q) : Met l yX4_sunkIn (ws_ yX4_sunkIn cX4_sunkIn 2 (some .int)) ({ frames := 5, cells := 0, slots := 0, locals := 118 } : Room) (va_Pc [.ref th, .int x1] (zPre Γ (tSh th) μ)) (va_Qi Q (zPost Γ (tSh th) μ) (zA μ)) 0 0 (zA μ) := by
  refine zstart (by decide) (Nat.le_of_ble_eq_true rfl) ?_
  intro p e s m below meth c ls X hnm hB hl
  have X : zCx p m c cX4_sunkIn 2 s [.ref th, .int x1].toArray RX4 meth (some .int) := X
  have S := X.1
  obtain ⟨hx, hb, hml, hown, hts⟩ := X.1
  have hl : lv_has ls 2 [(0, .ref th), (1, .int x1)] := hl
  unfold pX4_sunkIn at hp
  refine lv_aload_n hx hb dX4_sunkIn_0 rfl (lv_at hl 0 rfl) ?_
  refine lv_iconst (v := (nI 0)) hx hb dX4_sunkIn_1 rfl ?_
  obtain ⟨μ1, eμ1, hp⟩ := zpI_e hp
  refine g_putI S hB (tT hB) rfl (T := TX4) (N := 38) (C := RX4) rfl in_X4 0 (by decide) (by decide) (x := (nI 0)) tyX4 tyX4_ok nmX4 q1392 (fun _ h9 => h9) rfl (ty := .int) (by decide +kernel) rfl rfl (fun _ _ => rfl) dX4_sunkIn_2 (fun H locs hB => ?_)
  rw [← eμ1] at hB
  refine lv_iload_n hx hb dX4_sunkIn_5 rfl (lv_at hl 1 rfl) ?_
  refine lv_i2l hx hb dX4_sunkIn_6 rfl ?_
  refine lv_lconst (v := (0 : Int64)) hx hb dX4_sunkIn_7 rfl ?_
  refine lv_ldc2 (v := (600 : Int64)) hx hb hown (hts _ q1816) dX4_sunkIn_8 ?_
  refine z_calli (va_runS (As := [.long (x1.toInt64), .long (0 : Int64), .long (600 : Int64)]) (rest := []) S (mX4_within l Γ th (x1.toInt64) (0 : Int64) (600 : Int64) μ1 _ hp) (va_cwS 3 hts (lw_S q1516 q1517 q132 q1518) rfl rfl rfl hX4_within ⟨Nat.le_of_ble_eq_true rfl, Nat.le_of_ble_eq_true rfl⟩) hB.preS rfl rfl hl.1 rfl (lv_room (Nat.le_of_ble_eq_true rfl)) dX4_sunkIn_11 ⟨Nat.le_refl _, Nat.le_refl _⟩) hB (fun r3 μ2 H locs hp hB => ?_)
  refine lv_if_ne (tgt := 20) hx hb dX4_sunkIn_14 rfl (fun c0 => ?_) (fun c0 => ?_)
  · have hp := zif hp c0
    refine lv_aload_n hx hb dX4_sunkIn_20 rfl (lv_at hl 0 rfl) ?_
    refine lv_iload_n hx hb dX4_sunkIn_21 rfl (lv_at hl 1 rfl) ?_
    refine z_callv (va_runV (As := [.int x1]) (rest := []) S (mX4_laysAll l Γ th x1 μ2 _ hp) (cwV 1 hts (lw_V q1817 q1819 qs104 q132 q1820) rfl rfl rfl hX4_laysAll ⟨Nat.le_of_ble_eq_true rfl, Nat.le_of_ble_eq_true rfl⟩) (hB.preV (tT hB) rfl rfl) rfl rfl hl.1 rfl (lv_room (Nat.le_of_ble_eq_true rfl)) dX4_sunkIn_22 ⟨Nat.le_refl _, Nat.le_refl _⟩) hB (fun μ4 H locs hp hB => ?_)
    refine lv_aload_n hx hb dX4_sunkIn_25 rfl (lv_at hl 0 rfl) ?_
    refine g_getr S hB (tT hB) rfl (T := TX4) (N := 38) (C := RX4) rfl in_X4 23 (by decide) (by decide) q1415 (fun _ h9 => h9) (fun _ => rfl) (tA hB 8 rfl).1 dX4_sunkIn_26 ?_
    refine lv_iload_n hx hb dX4_sunkIn_29 rfl (lv_at hl 1 rfl) ?_
    obtain ⟨hi, hp⟩ := hp
    refine g_iald S hB (tA hB 8 rfl).2 hi dX4_sunkIn_30 ?_
    exact zret_i X hB hp dX4_sunkIn_31
  · have hp := zit hp c0
    refine lv_bipush (v := (-3 : Int32)) hx hb dX4_sunkIn_17 rfl ?_
    exact zret_i X hB hp dX4_sunkIn_19
def pX4_buriedIn (th : Nat) (x1 : Int32) (μ : zM) (Q : Int32 → zM → Prop) : Prop := (zpI μ th 0 (nI 0) fun μ1 => (pX4_isStorey th (x1.toInt64) μ1 fun r3 μ2 => (if r3 = 0 then Q (-2 : Int32) μ2 else (pX4_sunkFirst th ((nI 144) * (x1 + (nI 1))) μ2 fun r5 μ4 => Q r5 μ4))))
theorem hX4_buriedIn : yX4_buriedIn.cls = "SunkTowerModel" ∧ yX4_buriedIn.cls ≠ "java/lang/invoke/MethodHandle" ∧ yX4_buriedIn.cls ≠ "java/lang/invoke/VarHandle" ∧ (parseMethodDescriptor yX4_buriedIn.desc).map (fun d => d.parameters.length) = some 1 := by decide +kernel
set_option maxHeartbeats 4000000 in
set_option maxRecDepth 100000 in
theorem mX4_buriedIn (l : Launch) (Γ : zG) (th : Nat) (x1 : Int32) (μ : zM) (Q : Int32 → zM → Prop) (hp : pX4_buriedIn th x1 μ Q) : Met l yX4_buriedIn (ws_ yX4_buriedIn cX4_buriedIn 2 (some .int)) ({ frames := 6, cells := 0, slots := 0, locals := 140 } : Room) (va_Pc [.ref th, .int x1] (zPre Γ (tSh th) μ)) (va_Qi Q (zPost Γ (tSh th) μ) (zA μ)) 0 0 (zA μ) := by
  refine zstart (by decide) (Nat.le_of_ble_eq_true rfl) ?_
  intro p e s m below meth c ls X hnm hB hl
  have X : zCx p m c cX4_buriedIn 2 s [.ref th, .int x1].toArray RX4 meth (some .int) := X
  have S := X.1
  obtain ⟨hx, hb, hml, hown, hts⟩ := X.1
  have hl : lv_has ls 2 [(0, .ref th), (1, .int x1)] := hl
  unfold pX4_buriedIn at hp
  refine lv_aload_n hx hb dX4_buriedIn_0 rfl (lv_at hl 0 rfl) ?_
  refine lv_iconst (v := (nI 0)) hx hb dX4_buriedIn_1 rfl ?_
  obtain ⟨μ1, eμ1, hp⟩ := zpI_e hp
  refine g_putI S hB (tT hB) rfl (T := TX4) (N := 38) (C := RX4) rfl in_X4 0 (by decide) (by decide) (x := (nI 0)) tyX4 tyX4_ok nmX4 q1392 (fun _ h9 => h9) rfl (ty := .int) (by decide +kernel) rfl rfl (fun _ _ => rfl) dX4_buriedIn_2 (fun H locs hB => ?_)
  rw [← eμ1] at hB
  refine lv_aload_n hx hb dX4_buriedIn_5 rfl (lv_at hl 0 rfl) ?_
  refine lv_iload_n hx hb dX4_buriedIn_6 rfl (lv_at hl 1 rfl) ?_
  refine lv_i2l hx hb dX4_buriedIn_7 rfl ?_
  refine z_calli (va_runV (As := [.long (x1.toInt64)]) (rest := []) S (mX4_isStorey l Γ th (x1.toInt64) μ1 _ hp) (cwV 1 hts (lw_V q1617 q1619 qs79 q132 q1620) rfl rfl rfl hX4_isStorey ⟨Nat.le_of_ble_eq_true rfl, Nat.le_of_ble_eq_true rfl⟩) (hB.preV (tT hB) rfl rfl) rfl rfl hl.1 rfl (lv_room (Nat.le_of_ble_eq_true rfl)) dX4_buriedIn_8 ⟨Nat.le_refl _, Nat.le_refl _⟩) hB (fun r3 μ2 H locs hp hB => ?_)
  refine lv_if_eq (tgt := 28) hx hb dX4_buriedIn_11 rfl (fun c0 => ?_) (fun c0 => ?_)
  · have hp := zit hp c0
    refine lv_bipush (v := (-2 : Int32)) hx hb dX4_buriedIn_28 rfl ?_
    exact zret_i X hB hp dX4_buriedIn_30
  · have hp := zif hp c0
    refine lv_aload_n hx hb dX4_buriedIn_14 rfl (lv_at hl 0 rfl) ?_
    refine lv_sipush (v := (nI 144)) hx hb dX4_buriedIn_15 rfl ?_
    refine lv_iload_n hx hb dX4_buriedIn_18 rfl (lv_at hl 1 rfl) ?_
    refine lv_iconst (v := (nI 1)) hx hb dX4_buriedIn_19 rfl ?_
    refine lv_iadd hx hb dX4_buriedIn_20 ?_
    refine lv_imul hx hb dX4_buriedIn_21 ?_
    refine z_calli (va_runV (As := [.int ((nI 144) * (x1 + (nI 1)))]) (rest := []) S (mX4_sunkFirst l Γ th ((nI 144) * (x1 + (nI 1))) μ2 _ hp) (cwV 1 hts (lw_V q1838 q1840 qs106 q132 q1841) rfl rfl rfl hX4_sunkFirst ⟨Nat.le_of_ble_eq_true rfl, Nat.le_of_ble_eq_true rfl⟩) (hB.preV (tT hB) rfl rfl) rfl rfl hl.1 rfl (lv_room (Nat.le_of_ble_eq_true rfl)) dX4_buriedIn_22 ⟨Nat.le_refl _, Nat.le_refl _⟩) hB (fun r5 μ4 H locs hp hB => ?_)
    refine lv_goto (tgt := 30) hx hb dX4_buriedIn_25 rfl ?_
    exact zret_i X hB hp dX4_buriedIn_30
def pX4_share (th : Nat) (x1 : Int32) (x2 : Int32) (μ : zM) (Q : Int32 → zM → Prop) : Prop := (zpI μ th 0 (nI 0) fun μ1 => (pX4_isTenant th (x1.toInt64) μ1 fun r3 μ2 => (if r3 = 0 then Q (-90000002 : Int32) μ2 else (pX4_within th (x2.toInt64) (1 : Int64) (600 : Int64) μ2 fun r5 μ4 => (if r5 = 0 then Q (-90000003 : Int32) μ4 else (pX4_shareOf th x1 x2 μ4 fun r7 μ6 => Q r7 μ6))))))
theorem hX4_share : yX4_share.cls = "SunkTowerModel" ∧ yX4_share.cls ≠ "java/lang/invoke/MethodHandle" ∧ yX4_share.cls ≠ "java/lang/invoke/VarHandle" ∧ (parseMethodDescriptor yX4_share.desc).map (fun d => d.parameters.length) = some 2 := by decide +kernel
set_option maxHeartbeats 4000000 in
set_option maxRecDepth 100000 in
theorem mX4_share (l : Launch) (Γ : zG) (th : Nat) (x1 : Int32) (x2 : Int32) (μ : zM) (Q : Int32 → zM → Prop) (hp : pX4_share th x1 x2 μ Q) : Met l yX4_share (ws_ yX4_share cX4_share 3 (some .int)) ({ frames := 6, cells := 0, slots := 0, locals := 141 } : Room) (va_Pc [.ref th, .int x1, .int x2] (zPre Γ (tSh th) μ)) (va_Qi Q (zPost Γ (tSh th) μ) (zA μ)) 0 0 (zA μ) := by
  refine zstart (by decide) (Nat.le_of_ble_eq_true rfl) ?_
  intro p e s m below meth c ls X hnm hB hl
  have X : zCx p m c cX4_share 3 s [.ref th, .int x1, .int x2].toArray RX4 meth (some .int) := X
  have S := X.1
  obtain ⟨hx, hb, hml, hown, hts⟩ := X.1
  have hl : lv_has ls 3 [(0, .ref th), (1, .int x1), (2, .int x2)] := hl
  unfold pX4_share at hp
  refine lv_aload_n hx hb dX4_share_0 rfl (lv_at hl 0 rfl) ?_
  refine lv_iconst (v := (nI 0)) hx hb dX4_share_1 rfl ?_
  obtain ⟨μ1, eμ1, hp⟩ := zpI_e hp
  refine g_putI S hB (tT hB) rfl (T := TX4) (N := 38) (C := RX4) rfl in_X4 0 (by decide) (by decide) (x := (nI 0)) tyX4 tyX4_ok nmX4 q1392 (fun _ h9 => h9) rfl (ty := .int) (by decide +kernel) rfl rfl (fun _ _ => rfl) dX4_share_2 (fun H locs hB => ?_)
  rw [← eμ1] at hB
  refine lv_aload_n hx hb dX4_share_5 rfl (lv_at hl 0 rfl) ?_
  refine lv_iload_n hx hb dX4_share_6 rfl (lv_at hl 1 rfl) ?_
  refine lv_i2l hx hb dX4_share_7 rfl ?_
  refine z_calli (va_runV (As := [.long (x1.toInt64)]) (rest := []) S (mX4_isTenant l Γ th (x1.toInt64) μ1 _ hp) (cwV 1 hts (lw_V q1633 q1635 qs81 q132 q1636) rfl rfl rfl hX4_isTenant ⟨Nat.le_of_ble_eq_true rfl, Nat.le_of_ble_eq_true rfl⟩) (hB.preV (tT hB) rfl rfl) rfl rfl hl.1 rfl (lv_room (Nat.le_of_ble_eq_true rfl)) dX4_share_8 ⟨Nat.le_refl _, Nat.le_refl _⟩) hB (fun r3 μ2 H locs hp hB => ?_)
  refine lv_if_ne (tgt := 17) hx hb dX4_share_11 rfl (fun c0 => ?_) (fun c0 => ?_)
  · have hp := zif hp c0
    refine lv_iload_n hx hb dX4_share_17 rfl (lv_at hl 2 rfl) ?_
    refine lv_i2l hx hb dX4_share_18 rfl ?_
    refine lv_lconst (v := (1 : Int64)) hx hb dX4_share_19 rfl ?_
    refine lv_ldc2 (v := (600 : Int64)) hx hb hown (hts _ q1816) dX4_share_20 ?_
    refine z_calli (va_runS (As := [.long (x2.toInt64), .long (1 : Int64), .long (600 : Int64)]) (rest := []) S (mX4_within l Γ th (x2.toInt64) (1 : Int64) (600 : Int64) μ2 _ hp) (va_cwS 3 hts (lw_S q1516 q1517 q132 q1518) rfl rfl rfl hX4_within ⟨Nat.le_of_ble_eq_true rfl, Nat.le_of_ble_eq_true rfl⟩) hB.preS rfl rfl hl.1 rfl (lv_room (Nat.le_of_ble_eq_true rfl)) dX4_share_23 ⟨Nat.le_refl _, Nat.le_refl _⟩) hB (fun r5 μ4 H locs hp hB => ?_)
    refine lv_if_eq (tgt := 38) hx hb dX4_share_26 rfl (fun c0 => ?_) (fun c0 => ?_)
    · have hp := zit hp c0
      refine lv_ldcw (v := (-90000003 : Int32)) hx hb hown (hts _ q1829) dX4_share_38 ?_
      exact zret_i X hB hp dX4_share_41
    · have hp := zif hp c0
      refine lv_aload_n hx hb dX4_share_29 rfl (lv_at hl 0 rfl) ?_
      refine lv_iload_n hx hb dX4_share_30 rfl (lv_at hl 1 rfl) ?_
      refine lv_iload_n hx hb dX4_share_31 rfl (lv_at hl 2 rfl) ?_
      refine z_calli (va_runV (As := [.int x1, .int x2]) (rest := []) S (mX4_shareOf l Γ th x1 x2 μ4 _ hp) (cwV 2 hts (lw_V q1859 q1861 qs107 q132 q1862) rfl rfl rfl hX4_shareOf ⟨Nat.le_of_ble_eq_true rfl, Nat.le_of_ble_eq_true rfl⟩) (hB.preV (tT hB) rfl rfl) rfl rfl hl.1 rfl (lv_room (Nat.le_of_ble_eq_true rfl)) dX4_share_32 ⟨Nat.le_refl _, Nat.le_refl _⟩) hB (fun r7 μ6 H locs hp hB => ?_)
      refine lv_goto (tgt := 41) hx hb dX4_share_35 rfl ?_
      exact zret_i X hB hp dX4_share_41
  · have hp := zit hp c0
    refine lv_ldc (v := (-90000002 : Int32)) hx hb hown (hts _ q1673) dX4_share_14 ?_
    exact zret_i X hB hp dX4_share_16
def pX4_stays (th : Nat) (x1 : Int32) (x2 : Int32) (μ : zM) (Q : Int64 → zM → Prop) : Prop := (zpI μ th 0 (nI 0) fun μ1 => (pX4_isTenant th (x1.toInt64) μ1 fun r3 μ2 => (if r3 = 0 then Q (-90000000002 : Int64) μ2 else (pX4_within th (x2.toInt64) (1 : Int64) (5 : Int64) μ2 fun r5 μ4 => (if r5 = 0 then Q (-90000000003 : Int64) μ4 else (pX4_laysMost th x1 x2 μ4 fun μ6 => (pX4_whereNow th x1 μ6 fun r8 μ7 => (vp_in r8 549 ∧ Q (zJ μ7 (th + 10) r8.toNatClampNeg) μ7))))))))
theorem hX4_stays : yX4_stays.cls = "SunkTowerModel" ∧ yX4_stays.cls ≠ "java/lang/invoke/MethodHandle" ∧ yX4_stays.cls ≠ "java/lang/invoke/VarHandle" ∧ (parseMethodDescriptor yX4_stays.desc).map (fun d => d.parameters.length) = some 2 := by decide +kernel
set_option maxHeartbeats 4000000 in
set_option maxRecDepth 100000 in
theorem mX4_stays (l : Launch) (Γ : zG) (th : Nat) (x1 : Int32) (x2 : Int32) (μ : zM) (Q : Int64 → zM → Prop) (hp : pX4_stays th x1 x2 μ Q) : Met l yX4_stays (ws_ yX4_stays cX4_stays 3 (some .long)) ({ frames := 6, cells := 0, slots := 0, locals := 149 } : Room) (va_Pc [.ref th, .int x1, .int x2] (zPre Γ (tSh th) μ)) (va_Ql Q (zPost Γ (tSh th) μ) (zA μ)) 0 0 (zA μ) := by
  refine zstart (by decide) (Nat.le_of_ble_eq_true rfl) ?_
  intro p e s m below meth c ls X hnm hB hl
  have X : zCx p m c cX4_stays 3 s [.ref th, .int x1, .int x2].toArray RX4 meth (some .long) := X
  have S := X.1
  obtain ⟨hx, hb, hml, hown, hts⟩ := X.1
  have hl : lv_has ls 3 [(0, .ref th), (1, .int x1), (2, .int x2)] := hl
  unfold pX4_stays at hp
  refine lv_aload_n hx hb dX4_stays_0 rfl (lv_at hl 0 rfl) ?_
  refine lv_iconst (v := (nI 0)) hx hb dX4_stays_1 rfl ?_
  obtain ⟨μ1, eμ1, hp⟩ := zpI_e hp
  refine g_putI S hB (tT hB) rfl (T := TX4) (N := 38) (C := RX4) rfl in_X4 0 (by decide) (by decide) (x := (nI 0)) tyX4 tyX4_ok nmX4 q1392 (fun _ h9 => h9) rfl (ty := .int) (by decide +kernel) rfl rfl (fun _ _ => rfl) dX4_stays_2 (fun H locs hB => ?_)
  rw [← eμ1] at hB
  refine lv_aload_n hx hb dX4_stays_5 rfl (lv_at hl 0 rfl) ?_
  refine lv_iload_n hx hb dX4_stays_6 rfl (lv_at hl 1 rfl) ?_
  refine lv_i2l hx hb dX4_stays_7 rfl ?_
  refine z_calli (va_runV (As := [.long (x1.toInt64)]) (rest := []) S (mX4_isTenant l Γ th (x1.toInt64) μ1 _ hp) (cwV 1 hts (lw_V q1633 q1635 qs81 q132 q1636) rfl rfl rfl hX4_isTenant ⟨Nat.le_of_ble_eq_true rfl, Nat.le_of_ble_eq_true rfl⟩) (hB.preV (tT hB) rfl rfl) rfl rfl hl.1 rfl (lv_room (Nat.le_of_ble_eq_true rfl)) dX4_stays_8 ⟨Nat.le_refl _, Nat.le_refl _⟩) hB (fun r3 μ2 H locs hp hB => ?_)
  refine lv_if_ne (tgt := 18) hx hb dX4_stays_11 rfl (fun c0 => ?_) (fun c0 => ?_)
  · have hp := zif hp c0
    refine lv_iload_n hx hb dX4_stays_18 rfl (lv_at hl 2 rfl) ?_
    refine lv_i2l hx hb dX4_stays_19 rfl ?_
    refine lv_lconst (v := (1 : Int64)) hx hb dX4_stays_20 rfl ?_
    refine lv_ldc2 (v := (5 : Int64)) hx hb hown (hts _ q1877) dX4_stays_21 ?_
    refine z_calli (va_runS (As := [.long (x2.toInt64), .long (1 : Int64), .long (5 : Int64)]) (rest := []) S (mX4_within l Γ th (x2.toInt64) (1 : Int64) (5 : Int64) μ2 _ hp) (va_cwS 3 hts (lw_S q1516 q1517 q132 q1518) rfl rfl rfl hX4_within ⟨Nat.le_of_ble_eq_true rfl, Nat.le_of_ble_eq_true rfl⟩) hB.preS rfl rfl hl.1 rfl (lv_room (Nat.le_of_ble_eq_true rfl)) dX4_stays_24 ⟨Nat.le_refl _, Nat.le_refl _⟩) hB (fun r5 μ4 H locs hp hB => ?_)
    refine lv_if_ne (tgt := 34) hx hb dX4_stays_27 rfl (fun c0 => ?_) (fun c0 => ?_)
    · have hp := zif hp c0
      refine lv_aload_n hx hb dX4_stays_34 rfl (lv_at hl 0 rfl) ?_
      refine lv_iload_n hx hb dX4_stays_35 rfl (lv_at hl 1 rfl) ?_
      refine lv_iload_n hx hb dX4_stays_36 rfl (lv_at hl 2 rfl) ?_
      refine z_callv (va_runV (As := [.int x1, .int x2]) (rest := []) S (mX4_laysMost l Γ th x1 x2 μ4 _ hp) (cwV 2 hts (lw_V q1878 q1880 qs108 q132 q1881) rfl rfl rfl hX4_laysMost ⟨Nat.le_of_ble_eq_true rfl, Nat.le_of_ble_eq_true rfl⟩) (hB.preV (tT hB) rfl rfl) rfl rfl hl.1 rfl (lv_room (Nat.le_of_ble_eq_true rfl)) dX4_stays_37 ⟨Nat.le_refl _, Nat.le_refl _⟩) hB (fun μ6 H locs hp hB => ?_)
      refine lv_aload_n hx hb dX4_stays_40 rfl (lv_at hl 0 rfl) ?_
      refine g_getr S hB (tT hB) rfl (T := TX4) (N := 38) (C := RX4) rfl in_X4 24 (by decide) (by decide) q1416 (fun _ h9 => h9) (fun _ => rfl) (tA hB 9 rfl).1 dX4_stays_41 ?_
      refine lv_aload_n hx hb dX4_stays_44 rfl (lv_at hl 0 rfl) ?_
      refine lv_iload_n hx hb dX4_stays_45 rfl (lv_at hl 1 rfl) ?_
      refine z_calli (va_runV (As := [.int x1]) (rest := [.ref (th + 10)]) S (mX4_whereNow l Γ th x1 μ6 _ hp) (cwV 1 hts (lw_V q1899 q1901 qs113 q132 q1902) rfl rfl rfl hX4_whereNow ⟨Nat.le_of_ble_eq_true rfl, Nat.le_of_ble_eq_true rfl⟩) (hB.preV (tT hB) rfl rfl) rfl rfl hl.1 rfl (lv_room (Nat.le_of_ble_eq_true rfl)) dX4_stays_46 ⟨Nat.le_refl _, Nat.le_refl _⟩) hB (fun r8 μ7 H locs hp hB => ?_)
      obtain ⟨hi, hp⟩ := hp
      refine g_lald S hB (tA hB 9 rfl).2 hi dX4_stays_49 ?_
      exact zret_l X hB hp dX4_stays_50
    · have hp := zit hp c0
      refine lv_ldc2 (v := (-90000000003 : Int64)) hx hb hown (hts _ q1854) dX4_stays_30 ?_
      exact zret_l X hB hp dX4_stays_33
  · have hp := zit hp c0
    refine lv_ldc2 (v := (-90000000002 : Int64)) hx hb hown (hts _ q1876) dX4_stays_14 ?_
    exact zret_l X hB hp dX4_stays_17
def pX4_laysBuilding_12 (th : Nat) (x1 : Int32) (x2 : Int32) (Q : zM → Prop) : Nat → Int32 → zM → Prop
  | 0, _, _ => False
  | n + 1, x3, μ => (if x2 < x3 then Q μ else (vp_in (nI 20) 3594 ∧ (if (nI 8) < ((zI μ (th + 1) (nI 20).toNatClampNeg) + x3) then Q μ else (pX4_goesBuild 4 th x1 x3 (nI 0) (nI 0) μ fun μ1 => pX4_laysBuilding_12 th x1 x2 Q n (x3 + (nI 1)) μ1))))
set_option maxHeartbeats 4000000 in
set_option maxRecDepth 100000 in
theorem wX4_laysBuilding_12 {p : Program} {l : Launch} {e : Env} {s : State} {m : MethodId} {args : Array Value} {below : List Frame} {meth : Method} {c : Code} {Γ : zG} {μ0 : zM} {Q : zM → Prop} (X : zCx p m c cX4_laysBuilding 4 s args RX4 meth none) (th : Nat) (x1 : Int32) (x2 : Int32) : ∀ (n : Nat) (x3 : Int32) (μ : zM) (H : Heap) (locs : List Loc) (ls : Array Slot), pX4_laysBuilding_12 th x1 x2 Q n x3 μ → zB Γ (tSh th) (zA μ0) μ0 s μ H locs → lv_has ls 4 [(0, .ref th), (1, .int x1), (2, .int x2), (3, .int x3)] → W p l e ({ frames := 17, cells := 0, slots := 0, locals := 443 } : Room) s m args below meth c H locs 0 0 (MQ below (va_Qv Q (zPost Γ (tSh th) μ0) (zA μ0)) args s 0 0 (zA μ0)) (F0 m 12 ls []) := by
  have S := X.1
  obtain ⟨hx, hb, hml, hown, hts⟩ := X.1
  intro n
  induction n with
  | zero =>
    intro x3 μ H locs ls hp
    exact hp.elim
  | succ n ih =>
    intro x3 μ H locs ls hp hB hl
    unfold pX4_laysBuilding_12 at hp
    refine lv_iload_n hx hb dX4_laysBuilding_12 rfl (lv_at hl 3 rfl) ?_
    refine lv_iload_n hx hb dX4_laysBuilding_13 rfl (lv_at hl 2 rfl) ?_
    refine lv_icmp_gt (tgt := 45) hx hb dX4_laysBuilding_14 rfl (fun c0 => ?_) (fun c0 => ?_)
    · have hp := zit hp c0
      exact zret_v X hB hp dX4_laysBuilding_45
    · have hp := zif hp c0
      refine lv_aload_n hx hb dX4_laysBuilding_17 rfl (lv_at hl 0 rfl) ?_
      refine g_getr S hB (tT hB) rfl (T := TX4) (N := 38) (C := RX4) rfl in_X4 1 (by decide) (by decide) q1393 (fun _ h9 => h9) (fun _ => rfl) (tA hB 0 rfl).1 dX4_laysBuilding_18 ?_
      refine lv_bipush (v := (nI 20)) hx hb dX4_laysBuilding_21 rfl ?_
      obtain ⟨hi, hp⟩ := hp
      refine g_iald S hB (tA hB 0 rfl).2 hi dX4_laysBuilding_23 ?_
      refine lv_iload_n hx hb dX4_laysBuilding_24 rfl (lv_at hl 3 rfl) ?_
      refine lv_iadd hx hb dX4_laysBuilding_25 ?_
      refine lv_bipush (v := (nI 8)) hx hb dX4_laysBuilding_26 rfl ?_
      refine lv_icmp_gt (tgt := 45) hx hb dX4_laysBuilding_28 rfl (fun c0 => ?_) (fun c0 => ?_)
      · have hp := zit hp c0
        exact zret_v X hB hp dX4_laysBuilding_45
      · have hp := zif hp c0
        refine lv_aload_n hx hb dX4_laysBuilding_31 rfl (lv_at hl 0 rfl) ?_
        refine lv_iload_n hx hb dX4_laysBuilding_32 rfl (lv_at hl 1 rfl) ?_
        refine lv_iload_n hx hb dX4_laysBuilding_33 rfl (lv_at hl 3 rfl) ?_
        refine lv_iconst (v := (nI 0)) hx hb dX4_laysBuilding_34 rfl ?_
        refine lv_iconst (v := (nI 0)) hx hb dX4_laysBuilding_35 rfl ?_
        refine z_callv (va_runV (As := [.int x1, .int x3, .int (nI 0), .int (nI 0)]) (rest := []) S (mX4_goesBuild 4 l Γ th x1 x3 (nI 0) (nI 0) μ _ hp) (cwV 4 hts (lw_V q1929 q1931 qs116 q132 q1932) rfl rfl rfl hX4_goesBuild ⟨Nat.le_of_ble_eq_true rfl, Nat.le_of_ble_eq_true rfl⟩) (hB.preV (tT hB) rfl rfl) rfl rfl hl.1 rfl (lv_room (Nat.le_of_ble_eq_true rfl)) dX4_laysBuilding_36 ⟨Nat.le_refl _, Nat.le_refl _⟩) hB (fun μ1 H locs hp hB => ?_)
        refine lv_iinc (v := (x3 + (nI 1))) (lv' := [(3, .int (x3 + (nI 1))), (0, .ref th), (1, .int x1), (2, .int x2)]) hx hb dX4_laysBuilding_39 hl (k := 3) rfl rfl (by decide) rfl (fun ls hl => ?_)
        refine lv_goto (tgt := 12) hx hb dX4_laysBuilding_42 rfl ?_
        exact ih (x3 + (nI 1)) μ1 _ _ _ hp hB (lv_sub hl [1, 2, 3, 0] rfl)
def pX4_laysBuilding (th : Nat) (x1 : Int32) (x2 : Int32) (μ : zM) (Q : zM → Prop) : Prop := (zpI μ th 29 (-1 : Int32) fun μ1 => (zpI μ1 th 30 (nI 0) fun μ2 => ∃ k1, pX4_laysBuilding_12 th x1 x2 Q k1 (nI 0) μ2))
theorem hX4_laysBuilding : yX4_laysBuilding.cls = "SunkTowerModel" ∧ yX4_laysBuilding.cls ≠ "java/lang/invoke/MethodHandle" ∧ yX4_laysBuilding.cls ≠ "java/lang/invoke/VarHandle" ∧ (parseMethodDescriptor yX4_laysBuilding.desc).map (fun d => d.parameters.length) = some 2 := by decide +kernel
set_option maxHeartbeats 4000000 in
set_option maxRecDepth 100000 in
theorem mX4_laysBuilding (l : Launch) (Γ : zG) (th : Nat) (x1 : Int32) (x2 : Int32) (μ : zM) (Q : zM → Prop) (hp : pX4_laysBuilding th x1 x2 μ Q) : Met l yX4_laysBuilding (ws_ yX4_laysBuilding cX4_laysBuilding 4 none) ({ frames := 17, cells := 0, slots := 0, locals := 443 } : Room) (va_Pc [.ref th, .int x1, .int x2] (zPre Γ (tSh th) μ)) (va_Qv Q (zPost Γ (tSh th) μ) (zA μ)) 0 0 (zA μ) := by
  refine zstart (by decide) (Nat.le_of_ble_eq_true rfl) ?_
  intro p e s m below meth c ls X hnm hB hl
  have X : zCx p m c cX4_laysBuilding 4 s [.ref th, .int x1, .int x2].toArray RX4 meth none := X
  have S := X.1
  obtain ⟨hx, hb, hml, hown, hts⟩ := X.1
  have hl : lv_has ls 4 [(0, .ref th), (1, .int x1), (2, .int x2)] := hl
  unfold pX4_laysBuilding at hp
  refine lv_aload_n hx hb dX4_laysBuilding_0 rfl (lv_at hl 0 rfl) ?_
  refine lv_iconst (v := (-1 : Int32)) hx hb dX4_laysBuilding_1 rfl ?_
  obtain ⟨μ1, eμ1, hp⟩ := zpI_e hp
  refine g_putI S hB (tT hB) rfl (T := TX4) (N := 38) (C := RX4) rfl in_X4 29 (by decide) (by decide) (x := (-1 : Int32)) tyX4 tyX4_ok nmX4 q1421 (fun _ h9 => h9) rfl (ty := .int) (by decide +kernel) rfl rfl (fun _ _ => rfl) dX4_laysBuilding_2 (fun H locs hB => ?_)
  rw [← eμ1] at hB
  refine lv_aload_n hx hb dX4_laysBuilding_5 rfl (lv_at hl 0 rfl) ?_
  refine lv_iconst (v := (nI 0)) hx hb dX4_laysBuilding_6 rfl ?_
  obtain ⟨μ2, eμ2, hp⟩ := zpI_e hp
  refine g_putI S hB (tT hB) rfl (T := TX4) (N := 38) (C := RX4) rfl in_X4 30 (by decide) (by decide) (x := (nI 0)) tyX4 tyX4_ok nmX4 q1422 (fun _ h9 => h9) rfl (ty := .int) (by decide +kernel) rfl rfl (fun _ _ => rfl) dX4_laysBuilding_7 (fun H locs hB => ?_)
  rw [← eμ2] at hB
  refine lv_iconst (v := (nI 0)) hx hb dX4_laysBuilding_10 rfl ?_
  refine lv_istore_n (lv' := [(3, .int (nI 0)), (0, .ref th), (1, .int x1), (2, .int x2)]) hx hb dX4_laysBuilding_11 rfl hl (by decide) rfl (fun ls hl => ?_)
  obtain ⟨n1, hp⟩ := hp
  exact wX4_laysBuilding_12 X th x1 x2 n1 (nI 0) μ2 _ _ _ hp hB (lv_sub hl [1, 2, 3, 0] rfl)
def pX4_buildings (th : Nat) (x1 : Int32) (x2 : Int32) (μ : zM) (Q : Int32 → zM → Prop) : Prop := (zpI μ th 0 (nI 0) fun μ1 => (pX4_within th (x1.toInt64) (1 : Int64) (24 : Int64) μ1 fun r3 μ2 => (if r3 = 0 then Q (-3 : Int32) μ2 else (pX4_within th (x2.toInt64) (0 : Int64) (3 : Int64) μ2 fun r5 μ4 => (if r5 = 0 then Q (-3 : Int32) μ4 else (pX4_laysBuilding th x1 x2 μ4 fun μ6 => Q (zI μ6 th 30) μ6))))))
theorem hX4_buildings : yX4_buildings.cls = "SunkTowerModel" ∧ yX4_buildings.cls ≠ "java/lang/invoke/MethodHandle" ∧ yX4_buildings.cls ≠ "java/lang/invoke/VarHandle" ∧ (parseMethodDescriptor yX4_buildings.desc).map (fun d => d.parameters.length) = some 2 := by decide +kernel
set_option maxHeartbeats 4000000 in
set_option maxRecDepth 100000 in
theorem mX4_buildings (l : Launch) (Γ : zG) (th : Nat) (x1 : Int32) (x2 : Int32) (μ : zM) (Q : Int32 → zM → Prop) (hp : pX4_buildings th x1 x2 μ Q) : Met l yX4_buildings (ws_ yX4_buildings cX4_buildings 3 (some .int)) ({ frames := 18, cells := 0, slots := 0, locals := 466 } : Room) (va_Pc [.ref th, .int x1, .int x2] (zPre Γ (tSh th) μ)) (va_Qi Q (zPost Γ (tSh th) μ) (zA μ)) 0 0 (zA μ) := by
  refine zstart (by decide) (Nat.le_of_ble_eq_true rfl) ?_
  intro p e s m below meth c ls X hnm hB hl
  have X : zCx p m c cX4_buildings 3 s [.ref th, .int x1, .int x2].toArray RX4 meth (some .int) := X
  have S := X.1
  obtain ⟨hx, hb, hml, hown, hts⟩ := X.1
  have hl : lv_has ls 3 [(0, .ref th), (1, .int x1), (2, .int x2)] := hl
  unfold pX4_buildings at hp
  refine lv_aload_n hx hb dX4_buildings_0 rfl (lv_at hl 0 rfl) ?_
  refine lv_iconst (v := (nI 0)) hx hb dX4_buildings_1 rfl ?_
  obtain ⟨μ1, eμ1, hp⟩ := zpI_e hp
  refine g_putI S hB (tT hB) rfl (T := TX4) (N := 38) (C := RX4) rfl in_X4 0 (by decide) (by decide) (x := (nI 0)) tyX4 tyX4_ok nmX4 q1392 (fun _ h9 => h9) rfl (ty := .int) (by decide +kernel) rfl rfl (fun _ _ => rfl) dX4_buildings_2 (fun H locs hB => ?_)
  rw [← eμ1] at hB
  refine lv_iload_n hx hb dX4_buildings_5 rfl (lv_at hl 1 rfl) ?_
  refine lv_i2l hx hb dX4_buildings_6 rfl ?_
  refine lv_lconst (v := (1 : Int64)) hx hb dX4_buildings_7 rfl ?_
  refine lv_ldc2 (v := (24 : Int64)) hx hb hown (hts _ q1924) dX4_buildings_8 ?_
  refine z_calli (va_runS (As := [.long (x1.toInt64), .long (1 : Int64), .long (24 : Int64)]) (rest := []) S (mX4_within l Γ th (x1.toInt64) (1 : Int64) (24 : Int64) μ1 _ hp) (va_cwS 3 hts (lw_S q1516 q1517 q132 q1518) rfl rfl rfl hX4_within ⟨Nat.le_of_ble_eq_true rfl, Nat.le_of_ble_eq_true rfl⟩) hB.preS rfl rfl hl.1 rfl (lv_room (Nat.le_of_ble_eq_true rfl)) dX4_buildings_11 ⟨Nat.le_refl _, Nat.le_refl _⟩) hB (fun r3 μ2 H locs hp hB => ?_)
  refine lv_if_eq (tgt := 29) hx hb dX4_buildings_14 rfl (fun c0 => ?_) (fun c0 => ?_)
  · have hp := zit hp c0
    refine lv_bipush (v := (-3 : Int32)) hx hb dX4_buildings_29 rfl ?_
    exact zret_i X hB hp dX4_buildings_31
  · have hp := zif hp c0
    refine lv_iload_n hx hb dX4_buildings_17 rfl (lv_at hl 2 rfl) ?_
    refine lv_i2l hx hb dX4_buildings_18 rfl ?_
    refine lv_lconst (v := (0 : Int64)) hx hb dX4_buildings_19 rfl ?_
    refine lv_ldc2 (v := (3 : Int64)) hx hb hown (hts _ q1764) dX4_buildings_20 ?_
    refine z_calli (va_runS (As := [.long (x2.toInt64), .long (0 : Int64), .long (3 : Int64)]) (rest := []) S (mX4_within l Γ th (x2.toInt64) (0 : Int64) (3 : Int64) μ2 _ hp) (va_cwS 3 hts (lw_S q1516 q1517 q132 q1518) rfl rfl rfl hX4_within ⟨Nat.le_of_ble_eq_true rfl, Nat.le_of_ble_eq_true rfl⟩) hB.preS rfl rfl hl.1 rfl (lv_room (Nat.le_of_ble_eq_true rfl)) dX4_buildings_23 ⟨Nat.le_refl _, Nat.le_refl _⟩) hB (fun r5 μ4 H locs hp hB => ?_)
    refine lv_if_ne (tgt := 32) hx hb dX4_buildings_26 rfl (fun c0 => ?_) (fun c0 => ?_)
    · have hp := zif hp c0
      refine lv_aload_n hx hb dX4_buildings_32 rfl (lv_at hl 0 rfl) ?_
      refine lv_iload_n hx hb dX4_buildings_33 rfl (lv_at hl 1 rfl) ?_
      refine lv_iload_n hx hb dX4_buildings_34 rfl (lv_at hl 2 rfl) ?_
      refine z_callv (va_runV (As := [.int x1, .int x2]) (rest := []) S (mX4_laysBuilding l Γ th x1 x2 μ4 _ hp) (cwV 2 hts (lw_V q1925 q1927 qs115 q132 q1928) rfl rfl rfl hX4_laysBuilding ⟨Nat.le_of_ble_eq_true rfl, Nat.le_of_ble_eq_true rfl⟩) (hB.preV (tT hB) rfl rfl) rfl rfl hl.1 rfl (lv_room (Nat.le_of_ble_eq_true rfl)) dX4_buildings_35 ⟨Nat.le_refl _, Nat.le_refl _⟩) hB (fun μ6 H locs hp hB => ?_)
      refine lv_aload_n hx hb dX4_buildings_38 rfl (lv_at hl 0 rfl) ?_
      refine g_get S hB (tT hB) rfl (T := TX4) (N := 38) (C := RX4) rfl in_X4 30 (by decide) (by decide) q1422 (fun _ h9 => h9) (v := .int (zI μ6 th 30)) rfl dX4_buildings_39 ?_
      exact zret_i X hB hp dX4_buildings_42
    · have hp := zit hp c0
      refine lv_bipush (v := (-3 : Int32)) hx hb dX4_buildings_29 rfl ?_
      exact zret_i X hB hp dX4_buildings_31
def pX4_marks (th : Nat) (x1 : Int32) (μ : zM) (Q : Int32 → zM → Prop) : Prop := (zpI μ th 0 (nI 0) fun μ1 => (pX4_noMarks th x1 μ1 fun r3 μ2 => (if r3 = 0 then (pX4_laysFits th x1 μ2 fun r5 μ4 => Q r5 μ4) else Q r3 μ2)))
theorem hX4_marks : yX4_marks.cls = "SunkTowerModel" ∧ yX4_marks.cls ≠ "java/lang/invoke/MethodHandle" ∧ yX4_marks.cls ≠ "java/lang/invoke/VarHandle" ∧ (parseMethodDescriptor yX4_marks.desc).map (fun d => d.parameters.length) = some 1 := by decide +kernel
set_option maxHeartbeats 4000000 in
set_option maxRecDepth 100000 in
theorem mX4_marks (l : Launch) (Γ : zG) (th : Nat) (x1 : Int32) (μ : zM) (Q : Int32 → zM → Prop) (hp : pX4_marks th x1 μ Q) : Met l yX4_marks (ws_ yX4_marks cX4_marks 3 (some .int)) ({ frames := 5, cells := 0, slots := 0, locals := 123 } : Room) (va_Pc [.ref th, .int x1] (zPre Γ (tSh th) μ)) (va_Qi Q (zPost Γ (tSh th) μ) (zA μ)) 0 0 (zA μ) := by
  refine zstart (by decide) (Nat.le_of_ble_eq_true rfl) ?_
  intro p e s m below meth c ls X hnm hB hl
  have X : zCx p m c cX4_marks 3 s [.ref th, .int x1].toArray RX4 meth (some .int) := X
  have S := X.1
  obtain ⟨hx, hb, hml, hown, hts⟩ := X.1
  have hl : lv_has ls 3 [(0, .ref th), (1, .int x1)] := hl
  unfold pX4_marks at hp
  refine lv_aload_n hx hb dX4_marks_0 rfl (lv_at hl 0 rfl) ?_
  refine lv_iconst (v := (nI 0)) hx hb dX4_marks_1 rfl ?_
  obtain ⟨μ1, eμ1, hp⟩ := zpI_e hp
  refine g_putI S hB (tT hB) rfl (T := TX4) (N := 38) (C := RX4) rfl in_X4 0 (by decide) (by decide) (x := (nI 0)) tyX4 tyX4_ok nmX4 q1392 (fun _ h9 => h9) rfl (ty := .int) (by decide +kernel) rfl rfl (fun _ _ => rfl) dX4_marks_2 (fun H locs hB => ?_)
  rw [← eμ1] at hB
  refine lv_aload_n hx hb dX4_marks_5 rfl (lv_at hl 0 rfl) ?_
  refine lv_iload_n hx hb dX4_marks_6 rfl (lv_at hl 1 rfl) ?_
  refine z_calli (va_runV (As := [.int x1]) (rest := []) S (mX4_noMarks l Γ th x1 μ1 _ hp) (cwV 1 hts (lw_V q1957 q1959 qs118 q132 q1960) rfl rfl rfl hX4_noMarks ⟨Nat.le_of_ble_eq_true rfl, Nat.le_of_ble_eq_true rfl⟩) (hB.preV (tT hB) rfl rfl) rfl rfl hl.1 rfl (lv_room (Nat.le_of_ble_eq_true rfl)) dX4_marks_7 ⟨Nat.le_refl _, Nat.le_refl _⟩) hB (fun r3 μ2 H locs hp hB => ?_)
  refine lv_istore_n (lv' := [(2, .int r3), (0, .ref th), (1, .int x1)]) hx hb dX4_marks_10 rfl hl (by decide) rfl (fun ls hl => ?_)
  refine lv_iload_n hx hb dX4_marks_11 rfl (lv_at hl 0 rfl) ?_
  refine lv_if_eq (tgt := 19) hx hb dX4_marks_12 rfl (fun c0 => ?_) (fun c0 => ?_)
  · have hp := zit hp c0
    refine lv_aload_n hx hb dX4_marks_19 rfl (lv_at hl 1 rfl) ?_
    refine lv_iload_n hx hb dX4_marks_20 rfl (lv_at hl 2 rfl) ?_
    refine z_calli (va_runV (As := [.int x1]) (rest := []) S (mX4_laysFits l Γ th x1 μ2 _ hp) (cwV 1 hts (lw_V q1963 q1965 qs119 q132 q1966) rfl rfl rfl hX4_laysFits ⟨Nat.le_of_ble_eq_true rfl, Nat.le_of_ble_eq_true rfl⟩) (hB.preV (tT hB) rfl rfl) rfl rfl hl.1 rfl (lv_room (Nat.le_of_ble_eq_true rfl)) dX4_marks_21 ⟨Nat.le_refl _, Nat.le_refl _⟩) hB (fun r5 μ4 H locs hp hB => ?_)
    exact zret_i X hB hp dX4_marks_24
  · have hp := zif hp c0
    refine lv_iload_n hx hb dX4_marks_15 rfl (lv_at hl 0 rfl) ?_
    refine lv_goto (tgt := 24) hx hb dX4_marks_16 rfl ?_
    exact zret_i X hB hp dX4_marks_24
def pX4_tower_87 (th : Nat) (K53 : zM → Prop) (Q : Int32 → zM → Prop) (μ : zM) : Prop := (vp_in (nI 0) 1198 ∧ (vp_in (nI 0) 1198 ∧ zpI μ (th + 4) (nI 0).toNatClampNeg ((zI μ (th + 4) (nI 0).toNatClampNeg) + (nI 1)) fun μ1 => K53 μ1))
set_option maxHeartbeats 4000000 in
set_option maxRecDepth 100000 in
theorem wX4_tower_87 {p : Program} {l : Launch} {e : Env} {s : State} {m : MethodId} {args : Array Value} {below : List Frame} {meth : Method} {c : Code} {Γ : zG} {μ0 : zM} {Q : Int32 → zM → Prop} {K53 : zM → Prop} (X : zCx p m c cX4_tower 3 s args RX4 meth (some .int)) (th : Nat) (hK53 : ∀ (μ : zM) (H : Heap) (locs : List Loc) (ls : Array Slot), K53  μ → zB Γ (tSh th) (zA μ0) μ0 s μ H locs → lv_has ls 3 [(0, .ref th)] → W p l e ({ frames := 83, cells := 0, slots := 0, locals := 1779 } : Room) s m args below meth c H locs 0 0 (MQ below (va_Qi Q (zPost Γ (tSh th) μ0) (zA μ0)) args s 0 0 (zA μ0)) (F0 m 53 ls [])) : ∀ (μ : zM) (H : Heap) (locs : List Loc) (ls : Array Slot), pX4_tower_87 th K53 Q  μ → zB Γ (tSh th) (zA μ0) μ0 s μ H locs → lv_has ls 3 [(0, .ref th)] → W p l e ({ frames := 83, cells := 0, slots := 0, locals := 1779 } : Room) s m args below meth c H locs 0 0 (MQ below (va_Qi Q (zPost Γ (tSh th) μ0) (zA μ0)) args s 0 0 (zA μ0)) (F0 m 87 ls []) := by
  have S := X.1
  obtain ⟨hx, hb, hml, hown, hts⟩ := X.1
  intro  μ H locs ls hp hB hl
  unfold pX4_tower_87 at hp
  refine lv_aload_n hx hb dX4_tower_87 rfl (lv_at hl 0 rfl) ?_
  refine g_getr S hB (tT hB) rfl (T := TX4) (N := 38) (C := RX4) rfl in_X4 4 (by decide) (by decide) q1396 (fun _ h9 => h9) (fun _ => rfl) (tA hB 3 rfl).1 dX4_tower_88 ?_
  refine lv_iconst (v := (nI 0)) hx hb dX4_tower_91 rfl ?_
  refine lv_dup2_11 hx hb dX4_tower_92 rfl rfl ?_
  obtain ⟨hi, hp⟩ := hp
  refine g_iald S hB (tA hB 3 rfl).2 hi dX4_tower_93 ?_
  refine lv_iconst (v := (nI 1)) hx hb dX4_tower_94 rfl ?_
  refine lv_iadd hx hb dX4_tower_95 ?_
  obtain ⟨hi, hp⟩ := hp
  obtain ⟨μ1, eμ1, hp⟩ := zpI_e hp
  refine g_iast S hB (tA hB 3 rfl).2 hi dX4_tower_96 (fun H locs hB => ?_)
  rw [← eμ1] at hB
  refine lv_goto (tgt := 53) hx hb dX4_tower_97 rfl ?_
  exact hK53  μ1 _ _ _ hp hB (lv_sub hl [0] rfl)
def pX4_tower_176 (th : Nat) (Q : Int32 → zM → Prop) : Nat → Int32 → zM → Prop
  | 0, _, _ => False
  | n + 1, x2, μ => (if (nI 1198) ≤ x2 then (vp_in (nI 0) 3594 ∧ Q (zI μ (th + 1) (nI 0).toNatClampNeg) μ) else (vp_in x2 1198 ∧ (vp_in x2 3594 ∧ zpI μ (th + 1) x2.toNatClampNeg (zI μ (th + 4) x2.toNatClampNeg) fun μ1 => pX4_tower_176 th Q n (x2 + (nI 1)) μ1)))
set_option maxHeartbeats 4000000 in
set_option maxRecDepth 100000 in
theorem wX4_tower_176 {p : Program} {l : Launch} {e : Env} {s : State} {m : MethodId} {args : Array Value} {below : List Frame} {meth : Method} {c : Code} {Γ : zG} {μ0 : zM} {Q : Int32 → zM → Prop} (X : zCx p m c cX4_tower 3 s args RX4 meth (some .int)) (th : Nat) : ∀ (n : Nat) (x2 : Int32) (μ : zM) (H : Heap) (locs : List Loc) (ls : Array Slot), pX4_tower_176 th Q n x2 μ → zB Γ (tSh th) (zA μ0) μ0 s μ H locs → lv_has ls 3 [(0, .ref th), (2, .int x2)] → W p l e ({ frames := 83, cells := 0, slots := 0, locals := 1779 } : Room) s m args below meth c H locs 0 0 (MQ below (va_Qi Q (zPost Γ (tSh th) μ0) (zA μ0)) args s 0 0 (zA μ0)) (F0 m 176 ls []) := by
  have S := X.1
  obtain ⟨hx, hb, hml, hown, hts⟩ := X.1
  intro n
  induction n with
  | zero =>
    intro x2 μ H locs ls hp
    exact hp.elim
  | succ n ih =>
    intro x2 μ H locs ls hp hB hl
    unfold pX4_tower_176 at hp
    refine lv_iload_n hx hb dX4_tower_176 rfl (lv_at hl 1 rfl) ?_
    refine lv_sipush (v := (nI 1198)) hx hb dX4_tower_177 rfl ?_
    refine lv_icmp_ge (tgt := 201) hx hb dX4_tower_180 rfl (fun c0 => ?_) (fun c0 => ?_)
    · have hp := zit hp c0
      refine lv_aload_n hx hb dX4_tower_201 rfl (lv_at hl 0 rfl) ?_
      refine g_getr S hB (tT hB) rfl (T := TX4) (N := 38) (C := RX4) rfl in_X4 1 (by decide) (by decide) q1393 (fun _ h9 => h9) (fun _ => rfl) (tA hB 0 rfl).1 dX4_tower_202 ?_
      refine lv_iconst (v := (nI 0)) hx hb dX4_tower_205 rfl ?_
      obtain ⟨hi, hp⟩ := hp
      refine g_iald S hB (tA hB 0 rfl).2 hi dX4_tower_206 ?_
      exact zret_i X hB hp dX4_tower_207
    · have hp := zif hp c0
      refine lv_aload_n hx hb dX4_tower_183 rfl (lv_at hl 0 rfl) ?_
      refine g_getr S hB (tT hB) rfl (T := TX4) (N := 38) (C := RX4) rfl in_X4 1 (by decide) (by decide) q1393 (fun _ h9 => h9) (fun _ => rfl) (tA hB 0 rfl).1 dX4_tower_184 ?_
      refine lv_iload_n hx hb dX4_tower_187 rfl (lv_at hl 1 rfl) ?_
      refine lv_aload_n hx hb dX4_tower_188 rfl (lv_at hl 0 rfl) ?_
      refine g_getr S hB (tT hB) rfl (T := TX4) (N := 38) (C := RX4) rfl in_X4 4 (by decide) (by decide) q1396 (fun _ h9 => h9) (fun _ => rfl) (tA hB 3 rfl).1 dX4_tower_189 ?_
      refine lv_iload_n hx hb dX4_tower_192 rfl (lv_at hl 1 rfl) ?_
      obtain ⟨hi, hp⟩ := hp
      refine g_iald S hB (tA hB 3 rfl).2 hi dX4_tower_193 ?_
      obtain ⟨hi, hp⟩ := hp
      obtain ⟨μ1, eμ1, hp⟩ := zpI_e hp
      refine g_iast S hB (tA hB 0 rfl).2 hi dX4_tower_194 (fun H locs hB => ?_)
      rw [← eμ1] at hB
      refine lv_iinc (v := (x2 + (nI 1))) (lv' := [(2, .int (x2 + (nI 1))), (0, .ref th)]) hx hb dX4_tower_195 hl (k := 1) rfl rfl (by decide) rfl (fun ls hl => ?_)
      refine lv_goto (tgt := 176) hx hb dX4_tower_198 rfl ?_
      exact ih (x2 + (nI 1)) μ1 _ _ _ hp hB (lv_sub hl [1, 0] rfl)
def pX4_tower_144 (th : Nat) (Q : Int32 → zM → Prop) : Nat → Int32 → zM → Prop
  | 0, _, _ => False
  | n + 1, x2, μ => (if (nI 23) ≤ x2 then ∃ k1, pX4_tower_176 th Q k1 (nI 0) μ else (vp_in ((nI 20) + x2) 1198 ∧ (vp_in ((nI 43) + x2) 1198 ∧ zpI μ (th + 4) ((nI 43) + x2).toNatClampNeg (zI μ (th + 4) ((nI 20) + x2).toNatClampNeg) fun μ1 => pX4_tower_144 th Q n (x2 + (nI 1)) μ1)))
set_option maxHeartbeats 4000000 in
set_option maxRecDepth 100000 in
theorem wX4_tower_144 {p : Program} {l : Launch} {e : Env} {s : State} {m : MethodId} {args : Array Value} {below : List Frame} {meth : Method} {c : Code} {Γ : zG} {μ0 : zM} {Q : Int32 → zM → Prop} (X : zCx p m c cX4_tower 3 s args RX4 meth (some .int)) (th : Nat) : ∀ (n : Nat) (x2 : Int32) (μ : zM) (H : Heap) (locs : List Loc) (ls : Array Slot), pX4_tower_144 th Q n x2 μ → zB Γ (tSh th) (zA μ0) μ0 s μ H locs → lv_has ls 3 [(0, .ref th), (2, .int x2)] → W p l e ({ frames := 83, cells := 0, slots := 0, locals := 1779 } : Room) s m args below meth c H locs 0 0 (MQ below (va_Qi Q (zPost Γ (tSh th) μ0) (zA μ0)) args s 0 0 (zA μ0)) (F0 m 144 ls []) := by
  have S := X.1
  obtain ⟨hx, hb, hml, hown, hts⟩ := X.1
  intro n
  induction n with
  | zero =>
    intro x2 μ H locs ls hp
    exact hp.elim
  | succ n ih =>
    intro x2 μ H locs ls hp hB hl
    unfold pX4_tower_144 at hp
    refine lv_iload_n hx hb dX4_tower_144 rfl (lv_at hl 1 rfl) ?_
    refine lv_bipush (v := (nI 23)) hx hb dX4_tower_145 rfl ?_
    refine lv_icmp_ge (tgt := 174) hx hb dX4_tower_147 rfl (fun c0 => ?_) (fun c0 => ?_)
    · have hp := zit hp c0
      refine lv_iconst (v := (nI 0)) hx hb dX4_tower_174 rfl ?_
      refine lv_istore_n (lv' := [(2, .int (nI 0)), (0, .ref th)]) hx hb dX4_tower_175 rfl hl (by decide) rfl (fun ls hl => ?_)
      obtain ⟨n1, hp⟩ := hp
      exact wX4_tower_176 X th n1 (nI 0) μ _ _ _ hp hB (lv_sub hl [1, 0] rfl)
    · have hp := zif hp c0
      refine lv_aload_n hx hb dX4_tower_150 rfl (lv_at hl 0 rfl) ?_
      refine g_getr S hB (tT hB) rfl (T := TX4) (N := 38) (C := RX4) rfl in_X4 4 (by decide) (by decide) q1396 (fun _ h9 => h9) (fun _ => rfl) (tA hB 3 rfl).1 dX4_tower_151 ?_
      refine lv_bipush (v := (nI 43)) hx hb dX4_tower_154 rfl ?_
      refine lv_iload_n hx hb dX4_tower_156 rfl (lv_at hl 1 rfl) ?_
      refine lv_iadd hx hb dX4_tower_157 ?_
      refine lv_aload_n hx hb dX4_tower_158 rfl (lv_at hl 0 rfl) ?_
      refine g_getr S hB (tT hB) rfl (T := TX4) (N := 38) (C := RX4) rfl in_X4 4 (by decide) (by decide) q1396 (fun _ h9 => h9) (fun _ => rfl) (tA hB 3 rfl).1 dX4_tower_159 ?_
      refine lv_bipush (v := (nI 20)) hx hb dX4_tower_162 rfl ?_
      refine lv_iload_n hx hb dX4_tower_164 rfl (lv_at hl 1 rfl) ?_
      refine lv_iadd hx hb dX4_tower_165 ?_
      obtain ⟨hi, hp⟩ := hp
      refine g_iald S hB (tA hB 3 rfl).2 hi dX4_tower_166 ?_
      obtain ⟨hi, hp⟩ := hp
      obtain ⟨μ1, eμ1, hp⟩ := zpI_e hp
      refine g_iast S hB (tA hB 3 rfl).2 hi dX4_tower_167 (fun H locs hB => ?_)
      rw [← eμ1] at hB
      refine lv_iinc (v := (x2 + (nI 1))) (lv' := [(2, .int (x2 + (nI 1))), (0, .ref th)]) hx hb dX4_tower_168 hl (k := 1) rfl rfl (by decide) rfl (fun ls hl => ?_)
      refine lv_goto (tgt := 144) hx hb dX4_tower_171 rfl ?_
      exact ih (x2 + (nI 1)) μ1 _ _ _ hp hB (lv_sub hl [1, 0] rfl)
def pX4_tower_124 (th : Nat) (Q : Int32 → zM → Prop) (y2 : Int32) (μ : zM) : Prop := (zpI μ th 14 y2 fun μ1 => (if (zI μ1 th 11) = 0 then ∃ k1, pX4_tower_144 th Q k1 (nI 0) μ1 else Q ((-30 : Int32) - (zI μ1 th 11)) μ1))
set_option maxHeartbeats 4000000 in
set_option maxRecDepth 100000 in
theorem wX4_tower_124 {p : Program} {l : Launch} {e : Env} {s : State} {m : MethodId} {args : Array Value} {below : List Frame} {meth : Method} {c : Code} {Γ : zG} {μ0 : zM} {Q : Int32 → zM → Prop} (X : zCx p m c cX4_tower 3 s args RX4 meth (some .int)) (th : Nat) : ∀ (y2 : Int32) (μ : zM) (H : Heap) (locs : List Loc) (ls : Array Slot), pX4_tower_124 th Q y2 μ → zB Γ (tSh th) (zA μ0) μ0 s μ H locs → lv_has ls 3 [(0, .ref th)] → W p l e ({ frames := 83, cells := 0, slots := 0, locals := 1779 } : Room) s m args below meth c H locs 0 0 (MQ below (va_Qi Q (zPost Γ (tSh th) μ0) (zA μ0)) args s 0 0 (zA μ0)) (F0 m 124 ls [.int y2, .ref th]) := by
  have S := X.1
  obtain ⟨hx, hb, hml, hown, hts⟩ := X.1
  intro y2 μ H locs ls hp hB hl
  unfold pX4_tower_124 at hp
  obtain ⟨μ1, eμ1, hp⟩ := zpI_e hp
  refine g_putI S hB (tT hB) rfl (T := TX4) (N := 38) (C := RX4) rfl in_X4 14 (by decide) (by decide) (x := y2) tyX4 tyX4_ok nmX4 q1406 (fun _ h9 => h9) rfl (ty := .int) (by decide +kernel) rfl rfl (fun _ _ => rfl) dX4_tower_124 (fun H locs hB => ?_)
  rw [← eμ1] at hB
  refine lv_aload_n hx hb dX4_tower_127 rfl (lv_at hl 0 rfl) ?_
  refine g_get S hB (tT hB) rfl (T := TX4) (N := 38) (C := RX4) rfl in_X4 11 (by decide) (by decide) q1403 (fun _ h9 => h9) (v := .int (zI μ1 th 11)) rfl dX4_tower_128 ?_
  refine lv_if_eq (tgt := 142) hx hb dX4_tower_131 rfl (fun c0 => ?_) (fun c0 => ?_)
  · have hp := zit hp c0
    refine lv_iconst (v := (nI 0)) hx hb dX4_tower_142 rfl ?_
    refine lv_istore_n (lv' := [(2, .int (nI 0)), (0, .ref th)]) hx hb dX4_tower_143 rfl hl (by decide) rfl (fun ls hl => ?_)
    obtain ⟨n1, hp⟩ := hp
    exact wX4_tower_144 X th n1 (nI 0) μ1 _ _ _ hp hB (lv_sub hl [1, 0] rfl)
  · have hp := zif hp c0
    refine lv_bipush (v := (-30 : Int32)) hx hb dX4_tower_134 rfl ?_
    refine lv_aload_n hx hb dX4_tower_136 rfl (lv_at hl 0 rfl) ?_
    refine g_get S hB (tT hB) rfl (T := TX4) (N := 38) (C := RX4) rfl in_X4 11 (by decide) (by decide) q1403 (fun _ h9 => h9) (v := .int (zI μ1 th 11)) rfl dX4_tower_137 ?_
    refine lv_isub hx hb dX4_tower_140 ?_
    exact zret_i X hB hp dX4_tower_141
def pX4_tower_100 (th : Nat) (Q : Int32 → zM → Prop) (μ : zM) : Prop := (zpI μ th 13 (zI μ th 11) fun μ1 => (if (zI μ1 th 11) = 0 then pX4_tower_124 th Q (-1 : Int32) μ1 else pX4_tower_124 th Q (zI μ1 th 12) μ1))
set_option maxHeartbeats 4000000 in
set_option maxRecDepth 100000 in
theorem wX4_tower_100 {p : Program} {l : Launch} {e : Env} {s : State} {m : MethodId} {args : Array Value} {below : List Frame} {meth : Method} {c : Code} {Γ : zG} {μ0 : zM} {Q : Int32 → zM → Prop} (X : zCx p m c cX4_tower 3 s args RX4 meth (some .int)) (th : Nat) : ∀ (μ : zM) (H : Heap) (locs : List Loc) (ls : Array Slot), pX4_tower_100 th Q  μ → zB Γ (tSh th) (zA μ0) μ0 s μ H locs → lv_has ls 3 [(0, .ref th)] → W p l e ({ frames := 83, cells := 0, slots := 0, locals := 1779 } : Room) s m args below meth c H locs 0 0 (MQ below (va_Qi Q (zPost Γ (tSh th) μ0) (zA μ0)) args s 0 0 (zA μ0)) (F0 m 100 ls []) := by
  have S := X.1
  obtain ⟨hx, hb, hml, hown, hts⟩ := X.1
  intro  μ H locs ls hp hB hl
  unfold pX4_tower_100 at hp
  refine lv_aload_n hx hb dX4_tower_100 rfl (lv_at hl 0 rfl) ?_
  refine lv_aload_n hx hb dX4_tower_101 rfl (lv_at hl 0 rfl) ?_
  refine g_get S hB (tT hB) rfl (T := TX4) (N := 38) (C := RX4) rfl in_X4 11 (by decide) (by decide) q1403 (fun _ h9 => h9) (v := .int (zI μ th 11)) rfl dX4_tower_102 ?_
  obtain ⟨μ1, eμ1, hp⟩ := zpI_e hp
  refine g_putI S hB (tT hB) rfl (T := TX4) (N := 38) (C := RX4) rfl in_X4 13 (by decide) (by decide) (x := (zI μ th 11)) tyX4 tyX4_ok nmX4 q1405 (fun _ h9 => h9) rfl (ty := .int) (by decide +kernel) rfl rfl (fun _ _ => rfl) dX4_tower_105 (fun H locs hB => ?_)
  rw [← eμ1] at hB
  refine lv_aload_n hx hb dX4_tower_108 rfl (lv_at hl 0 rfl) ?_
  refine lv_aload_n hx hb dX4_tower_109 rfl (lv_at hl 0 rfl) ?_
  refine g_get S hB (tT hB) rfl (T := TX4) (N := 38) (C := RX4) rfl in_X4 11 (by decide) (by decide) q1403 (fun _ h9 => h9) (v := .int (zI μ1 th 11)) rfl dX4_tower_110 ?_
  refine lv_if_ne (tgt := 120) hx hb dX4_tower_113 rfl (fun c0 => ?_) (fun c0 => ?_)
  · have hp := zif hp c0
    refine lv_aload_n hx hb dX4_tower_120 rfl (lv_at hl 0 rfl) ?_
    refine g_get S hB (tT hB) rfl (T := TX4) (N := 38) (C := RX4) rfl in_X4 12 (by decide) (by decide) q1404 (fun _ h9 => h9) (v := .int (zI μ1 th 12)) rfl dX4_tower_121 ?_
    exact wX4_tower_124 X th (zI μ1 th 12) μ1 _ _ _ hp hB (lv_sub hl [0] rfl)
  · have hp := zit hp c0
    refine lv_iconst (v := (-1 : Int32)) hx hb dX4_tower_116 rfl ?_
    refine lv_goto (tgt := 124) hx hb dX4_tower_117 rfl ?_
    exact wX4_tower_124 X th (-1 : Int32) μ1 _ _ _ hp hB (lv_sub hl [0] rfl)
def pX4_tower_53 (th : Nat) (Q : Int32 → zM → Prop) : Nat → zM → Prop
  | 0, _ => False
  | n + 1, μ => (if (zI μ th 11) = 0 then (if (zI μ th 9) = (nI 24) then pX4_tower_100 th Q μ else (pX4_readLine th μ fun μ1 => (pX4_eats th (nI 30) μ1 fun r3 μ2 => (if r3 = 0 then (pX4_fails th (nI 2) μ2 fun μ4 => pX4_tower_87 th (fun  ν => pX4_tower_53 th Q n ν) Q μ4) else pX4_tower_87 th (fun  ν => pX4_tower_53 th Q n ν) Q μ2)))) else pX4_tower_100 th Q μ)
set_option maxHeartbeats 4000000 in
set_option maxRecDepth 100000 in
theorem wX4_tower_53 {p : Program} {l : Launch} {e : Env} {s : State} {m : MethodId} {args : Array Value} {below : List Frame} {meth : Method} {c : Code} {Γ : zG} {μ0 : zM} {Q : Int32 → zM → Prop} (X : zCx p m c cX4_tower 3 s args RX4 meth (some .int)) (th : Nat) : ∀ (n : Nat) (μ : zM) (H : Heap) (locs : List Loc) (ls : Array Slot), pX4_tower_53 th Q n  μ → zB Γ (tSh th) (zA μ0) μ0 s μ H locs → lv_has ls 3 [(0, .ref th)] → W p l e ({ frames := 83, cells := 0, slots := 0, locals := 1779 } : Room) s m args below meth c H locs 0 0 (MQ below (va_Qi Q (zPost Γ (tSh th) μ0) (zA μ0)) args s 0 0 (zA μ0)) (F0 m 53 ls []) := by
  have S := X.1
  obtain ⟨hx, hb, hml, hown, hts⟩ := X.1
  intro n
  induction n with
  | zero =>
    intro  μ H locs ls hp
    exact hp.elim
  | succ n ih =>
    intro  μ H locs ls hp hB hl
    unfold pX4_tower_53 at hp
    refine lv_aload_n hx hb dX4_tower_53 rfl (lv_at hl 0 rfl) ?_
    refine g_get S hB (tT hB) rfl (T := TX4) (N := 38) (C := RX4) rfl in_X4 11 (by decide) (by decide) q1403 (fun _ h9 => h9) (v := .int (zI μ th 11)) rfl dX4_tower_54 ?_
    refine lv_if_ne (tgt := 100) hx hb dX4_tower_57 rfl (fun c0 => ?_) (fun c0 => ?_)
    · have hp := zif hp c0
      exact wX4_tower_100 X th μ _ _ _ hp hB (lv_sub hl [0] rfl)
    · have hp := zit hp c0
      refine lv_aload_n hx hb dX4_tower_60 rfl (lv_at hl 0 rfl) ?_
      refine g_get S hB (tT hB) rfl (T := TX4) (N := 38) (C := RX4) rfl in_X4 9 (by decide) (by decide) q1401 (fun _ h9 => h9) (v := .int (zI μ th 9)) rfl dX4_tower_61 ?_
      refine lv_bipush (v := (nI 24)) hx hb dX4_tower_64 rfl ?_
      refine lv_icmp_eq (tgt := 100) hx hb dX4_tower_66 rfl (fun c0 => ?_) (fun c0 => ?_)
      · have hp := zit hp c0
        exact wX4_tower_100 X th μ _ _ _ hp hB (lv_sub hl [0] rfl)
      · have hp := zif hp c0
        refine lv_aload_n hx hb dX4_tower_69 rfl (lv_at hl 0 rfl) ?_
        refine z_callv (va_runV (As := []) (rest := []) S (mX4_readLine l Γ th μ _ hp) (cwV 0 hts (lw_V q1541 q1543 qs62 q132 q1544) rfl rfl rfl hX4_readLine ⟨Nat.le_of_ble_eq_true rfl, Nat.le_of_ble_eq_true rfl⟩) (hB.preV (tT hB) rfl rfl) rfl rfl hl.1 rfl (lv_room (Nat.le_of_ble_eq_true rfl)) dX4_tower_70 ⟨Nat.le_refl _, Nat.le_refl _⟩) hB (fun μ1 H locs hp hB => ?_)
        refine lv_aload_n hx hb dX4_tower_73 rfl (lv_at hl 0 rfl) ?_
        refine lv_bipush (v := (nI 30)) hx hb dX4_tower_74 rfl ?_
        refine z_calli (va_runV (As := [.int (nI 30)]) (rest := []) S (mX4_eats l Γ th (nI 30) μ1 _ hp) (cwV 1 hts (lw_V q1565 q1567 qs68 q132 q1568) rfl rfl rfl hX4_eats ⟨Nat.le_of_ble_eq_true rfl, Nat.le_of_ble_eq_true rfl⟩) (hB.preV (tT hB) rfl rfl) rfl rfl hl.1 rfl (lv_room (Nat.le_of_ble_eq_true rfl)) dX4_tower_76 ⟨Nat.le_refl _, Nat.le_refl _⟩) hB (fun r3 μ2 H locs hp hB => ?_)
        refine lv_if_ne (tgt := 87) hx hb dX4_tower_79 rfl (fun c0 => ?_) (fun c0 => ?_)
        · have hp := zif hp c0
          exact wX4_tower_87 X th (fun  ν H2 L2 ls2 h2 b2 l2 => ih  ν H2 L2 ls2 h2 b2 l2) μ2 _ _ _ hp hB (lv_sub hl [0] rfl)
        · have hp := zit hp c0
          refine lv_aload_n hx hb dX4_tower_82 rfl (lv_at hl 0 rfl) ?_
          refine lv_iconst (v := (nI 2)) hx hb dX4_tower_83 rfl ?_
          refine z_callv (va_runV (As := [.int (nI 2)]) (rest := []) S (mX4_fails l Γ th (nI 2) μ2 _ hp) (cwV 1 hts (lw_V q1549 q1551 qs64 q132 q1552) rfl rfl rfl hX4_fails ⟨Nat.le_of_ble_eq_true rfl, Nat.le_of_ble_eq_true rfl⟩) (hB.preV (tT hB) rfl rfl) rfl rfl hl.1 rfl (lv_room (Nat.le_of_ble_eq_true rfl)) dX4_tower_84 ⟨Nat.le_refl _, Nat.le_refl _⟩) hB (fun μ4 H locs hp hB => ?_)
          exact wX4_tower_87 X th (fun  ν H2 L2 ls2 h2 b2 l2 => ih  ν H2 L2 ls2 h2 b2 l2) μ4 _ _ _ hp hB (lv_sub hl [0] rfl)
def pX4_tower (th : Nat) (x1 : Int32) (μ : zM) (Q : Int32 → zM → Prop) : Prop := (zpI μ th 0 (nI 0) fun μ1 => (pX4_within th (x1.toInt64) (0 : Int64) ((zI μ1 th 5).toInt64) μ1 fun r3 μ2 => (if r3 = 0 then Q (-3 : Int32) μ2 else (zpI μ2 th 8 x1 fun μ4 => (zpI μ4 th 5 (nI 0) fun μ5 => (zpI μ5 th 7 (nI 0) fun μ6 => (zpI μ6 th 11 (nI 0) fun μ7 => (pX4_plain th (th + 4) μ7 fun μ8 => (pX4_next th μ8 fun μ9 => ∃ k1, pX4_tower_53 th Q k1 μ9)))))))))
theorem hX4_tower : yX4_tower.cls = "SunkTowerModel" ∧ yX4_tower.cls ≠ "java/lang/invoke/MethodHandle" ∧ yX4_tower.cls ≠ "java/lang/invoke/VarHandle" ∧ (parseMethodDescriptor yX4_tower.desc).map (fun d => d.parameters.length) = some 1 := by decide +kernel
set_option maxHeartbeats 4000000 in
set_option maxRecDepth 100000 in
theorem mX4_tower (l : Launch) (Γ : zG) (th : Nat) (x1 : Int32) (μ : zM) (Q : Int32 → zM → Prop) (hp : pX4_tower th x1 μ Q) : Met l yX4_tower (ws_ yX4_tower cX4_tower 3 (some .int)) ({ frames := 83, cells := 0, slots := 0, locals := 1779 } : Room) (va_Pc [.ref th, .int x1] (zPre Γ (tSh th) μ)) (va_Qi Q (zPost Γ (tSh th) μ) (zA μ)) 0 0 (zA μ) := by
  refine zstart (by decide) (Nat.le_of_ble_eq_true rfl) ?_
  intro p e s m below meth c ls X hnm hB hl
  have X : zCx p m c cX4_tower 3 s [.ref th, .int x1].toArray RX4 meth (some .int) := X
  have S := X.1
  obtain ⟨hx, hb, hml, hown, hts⟩ := X.1
  have hl : lv_has ls 3 [(0, .ref th), (1, .int x1)] := hl
  unfold pX4_tower at hp
  refine lv_aload_n hx hb dX4_tower_0 rfl (lv_at hl 0 rfl) ?_
  refine lv_iconst (v := (nI 0)) hx hb dX4_tower_1 rfl ?_
  obtain ⟨μ1, eμ1, hp⟩ := zpI_e hp
  refine g_putI S hB (tT hB) rfl (T := TX4) (N := 38) (C := RX4) rfl in_X4 0 (by decide) (by decide) (x := (nI 0)) tyX4 tyX4_ok nmX4 q1392 (fun _ h9 => h9) rfl (ty := .int) (by decide +kernel) rfl rfl (fun _ _ => rfl) dX4_tower_2 (fun H locs hB => ?_)
  rw [← eμ1] at hB
  refine lv_iload_n hx hb dX4_tower_5 rfl (lv_at hl 1 rfl) ?_
  refine lv_i2l hx hb dX4_tower_6 rfl ?_
  refine lv_lconst (v := (0 : Int64)) hx hb dX4_tower_7 rfl ?_
  refine lv_aload_n hx hb dX4_tower_8 rfl (lv_at hl 0 rfl) ?_
  refine g_get S hB (tT hB) rfl (T := TX4) (N := 38) (C := RX4) rfl in_X4 5 (by decide) (by decide) q1397 (fun _ h9 => h9) (v := .int (zI μ1 th 5)) rfl dX4_tower_9 ?_
  refine lv_i2l hx hb dX4_tower_12 rfl ?_
  refine z_calli (va_runS (As := [.long (x1.toInt64), .long (0 : Int64), .long ((zI μ1 th 5).toInt64)]) (rest := []) S (mX4_within l Γ th (x1.toInt64) (0 : Int64) ((zI μ1 th 5).toInt64) μ1 _ hp) (va_cwS 3 hts (lw_S q1516 q1517 q132 q1518) rfl rfl rfl hX4_within ⟨Nat.le_of_ble_eq_true rfl, Nat.le_of_ble_eq_true rfl⟩) hB.preS rfl rfl hl.1 rfl (lv_room (Nat.le_of_ble_eq_true rfl)) dX4_tower_13 ⟨Nat.le_refl _, Nat.le_refl _⟩) hB (fun r3 μ2 H locs hp hB => ?_)
  refine lv_if_ne (tgt := 22) hx hb dX4_tower_16 rfl (fun c0 => ?_) (fun c0 => ?_)
  · have hp := zif hp c0
    refine lv_aload_n hx hb dX4_tower_22 rfl (lv_at hl 0 rfl) ?_
    refine lv_iload_n hx hb dX4_tower_23 rfl (lv_at hl 1 rfl) ?_
    obtain ⟨μ4, eμ4, hp⟩ := zpI_e hp
    refine g_putI S hB (tT hB) rfl (T := TX4) (N := 38) (C := RX4) rfl in_X4 8 (by decide) (by decide) (x := x1) tyX4 tyX4_ok nmX4 q1400 (fun _ h9 => h9) rfl (ty := .int) (by decide +kernel) rfl rfl (fun _ _ => rfl) dX4_tower_24 (fun H locs hB => ?_)
    rw [← eμ4] at hB
    refine lv_aload_n hx hb dX4_tower_27 rfl (lv_at hl 0 rfl) ?_
    refine lv_iconst (v := (nI 0)) hx hb dX4_tower_28 rfl ?_
    obtain ⟨μ5, eμ5, hp⟩ := zpI_e hp
    refine g_putI S hB (tT hB) rfl (T := TX4) (N := 38) (C := RX4) rfl in_X4 5 (by decide) (by decide) (x := (nI 0)) tyX4 tyX4_ok nmX4 q1397 (fun _ h9 => h9) rfl (ty := .int) (by decide +kernel) rfl rfl (fun _ _ => rfl) dX4_tower_29 (fun H locs hB => ?_)
    rw [← eμ5] at hB
    refine lv_aload_n hx hb dX4_tower_32 rfl (lv_at hl 0 rfl) ?_
    refine lv_iconst (v := (nI 0)) hx hb dX4_tower_33 rfl ?_
    obtain ⟨μ6, eμ6, hp⟩ := zpI_e hp
    refine g_putI S hB (tT hB) rfl (T := TX4) (N := 38) (C := RX4) rfl in_X4 7 (by decide) (by decide) (x := (nI 0)) tyX4 tyX4_ok nmX4 q1399 (fun _ h9 => h9) rfl (ty := .int) (by decide +kernel) rfl rfl (fun _ _ => rfl) dX4_tower_34 (fun H locs hB => ?_)
    rw [← eμ6] at hB
    refine lv_aload_n hx hb dX4_tower_37 rfl (lv_at hl 0 rfl) ?_
    refine lv_iconst (v := (nI 0)) hx hb dX4_tower_38 rfl ?_
    obtain ⟨μ7, eμ7, hp⟩ := zpI_e hp
    refine g_putI S hB (tT hB) rfl (T := TX4) (N := 38) (C := RX4) rfl in_X4 11 (by decide) (by decide) (x := (nI 0)) tyX4 tyX4_ok nmX4 q1403 (fun _ h9 => h9) rfl (ty := .int) (by decide +kernel) rfl rfl (fun _ _ => rfl) dX4_tower_39 (fun H locs hB => ?_)
    rw [← eμ7] at hB
    refine lv_aload_n hx hb dX4_tower_42 rfl (lv_at hl 0 rfl) ?_
    refine g_getr S hB (tT hB) rfl (T := TX4) (N := 38) (C := RX4) rfl in_X4 4 (by decide) (by decide) q1396 (fun _ h9 => h9) (fun _ => rfl) (tA hB 3 rfl).1 dX4_tower_43 ?_
    refine z_callv (va_runS (As := [.ref (th + 4)]) (rest := []) S (mX4_plain l Γ th (th + 4) μ7 _ hp) (va_cwS 1 hts (lw_S q1389 q1390 q132 q1391) rfl rfl rfl hX4_plain ⟨Nat.le_of_ble_eq_true rfl, Nat.le_of_ble_eq_true rfl⟩) hB.preS rfl rfl hl.1 rfl (lv_room (Nat.le_of_ble_eq_true rfl)) dX4_tower_46 ⟨Nat.le_refl _, Nat.le_refl _⟩) hB (fun μ8 H locs hp hB => ?_)
    refine lv_aload_n hx hb dX4_tower_49 rfl (lv_at hl 0 rfl) ?_
    refine z_callv (va_runV (As := []) (rest := []) S (mX4_next l Γ th μ8 _ hp) (cwV 0 hts (lw_V q1519 q1521 qs59 q132 q1522) rfl rfl rfl hX4_next ⟨Nat.le_of_ble_eq_true rfl, Nat.le_of_ble_eq_true rfl⟩) (hB.preV (tT hB) rfl rfl) rfl rfl hl.1 rfl (lv_room (Nat.le_of_ble_eq_true rfl)) dX4_tower_50 ⟨Nat.le_refl _, Nat.le_refl _⟩) hB (fun μ9 H locs hp hB => ?_)
    obtain ⟨n1, hp⟩ := hp
    exact wX4_tower_53 X th n1 μ9 _ _ _ hp hB (lv_sub hl [0] rfl)
  · have hp := zit hp c0
    refine lv_bipush (v := (-3 : Int32)) hx hb dX4_tower_19 rfl ?_
    exact zret_i X hB hp dX4_tower_21
def pX4_rings (th : Nat) (μ : zM) (Q : Int32 → zM → Prop) : Prop := (zpI μ th 0 (nI 0) fun μ1 => (pX4_keeps th μ1 fun μ2 => (pX4_goesRings th μ2 fun r4 μ3 => (if r4 ≤ 0 then Q r4 μ3 else (pX4_notes th μ3 fun μ5 => Q r4 μ5)))))
theorem hX4_rings : yX4_rings.cls = "SunkTowerModel" ∧ yX4_rings.cls ≠ "java/lang/invoke/MethodHandle" ∧ yX4_rings.cls ≠ "java/lang/invoke/VarHandle" ∧ (parseMethodDescriptor yX4_rings.desc).map (fun d => d.parameters.length) = some 0 := by decide +kernel
set_option maxHeartbeats 4000000 in
set_option maxRecDepth 100000 in
theorem mX4_rings (l : Launch) (Γ : zG) (th : Nat) (μ : zM) (Q : Int32 → zM → Prop) (hp : pX4_rings th μ Q) : Met l yX4_rings (ws_ yX4_rings cX4_rings 2 (some .int)) ({ frames := 7, cells := 0, slots := 0, locals := 165 } : Room) (va_Pc [.ref th] (zPre Γ (tSh th) μ)) (va_Qi Q (zPost Γ (tSh th) μ) (zA μ)) 0 0 (zA μ) := by
  refine zstart (by decide) (Nat.le_of_ble_eq_true rfl) ?_
  intro p e s m below meth c ls X hnm hB hl
  have X : zCx p m c cX4_rings 2 s [.ref th].toArray RX4 meth (some .int) := X
  have S := X.1
  obtain ⟨hx, hb, hml, hown, hts⟩ := X.1
  have hl : lv_has ls 2 [(0, .ref th)] := hl
  unfold pX4_rings at hp
  refine lv_aload_n hx hb dX4_rings_0 rfl (lv_at hl 0 rfl) ?_
  refine lv_iconst (v := (nI 0)) hx hb dX4_rings_1 rfl ?_
  obtain ⟨μ1, eμ1, hp⟩ := zpI_e hp
  refine g_putI S hB (tT hB) rfl (T := TX4) (N := 38) (C := RX4) rfl in_X4 0 (by decide) (by decide) (x := (nI 0)) tyX4 tyX4_ok nmX4 q1392 (fun _ h9 => h9) rfl (ty := .int) (by decide +kernel) rfl rfl (fun _ _ => rfl) dX4_rings_2 (fun H locs hB => ?_)
  rw [← eμ1] at hB
  refine lv_aload_n hx hb dX4_rings_5 rfl (lv_at hl 0 rfl) ?_
  refine z_callv (va_runV (As := []) (rest := []) S (mX4_keeps l Γ th μ1 _ hp) (cwV 0 hts (lw_V q1691 q1693 qs88 q132 q1694) rfl rfl rfl hX4_keeps ⟨Nat.le_of_ble_eq_true rfl, Nat.le_of_ble_eq_true rfl⟩) (hB.preV (tT hB) rfl rfl) rfl rfl hl.1 rfl (lv_room (Nat.le_of_ble_eq_true rfl)) dX4_rings_6 ⟨Nat.le_refl _, Nat.le_refl _⟩) hB (fun μ2 H locs hp hB => ?_)
  refine lv_aload_n hx hb dX4_rings_9 rfl (lv_at hl 0 rfl) ?_
  refine z_calli (va_runV (As := []) (rest := []) S (mX4_goesRings l Γ th μ2 _ hp) (cwV 0 hts (lw_V q1740 q1742 qs94 q132 q1743) rfl rfl rfl hX4_goesRings ⟨Nat.le_of_ble_eq_true rfl, Nat.le_of_ble_eq_true rfl⟩) (hB.preV (tT hB) rfl rfl) rfl rfl hl.1 rfl (lv_room (Nat.le_of_ble_eq_true rfl)) dX4_rings_10 ⟨Nat.le_refl _, Nat.le_refl _⟩) hB (fun r4 μ3 H locs hp hB => ?_)
  refine lv_istore_n (lv' := [(1, .int r4), (0, .ref th)]) hx hb dX4_rings_13 rfl hl (by decide) rfl (fun ls hl => ?_)
  refine lv_iload_n hx hb dX4_rings_14 rfl (lv_at hl 0 rfl) ?_
  refine lv_if_le (tgt := 22) hx hb dX4_rings_15 rfl (fun c0 => ?_) (fun c0 => ?_)
  · have hp := zit hp c0
    refine lv_iload_n hx hb dX4_rings_22 rfl (lv_at hl 0 rfl) ?_
    exact zret_i X hB hp dX4_rings_23
  · have hp := zif hp c0
    refine lv_aload_n hx hb dX4_rings_18 rfl (lv_at hl 1 rfl) ?_
    refine z_callv (va_runV (As := []) (rest := []) S (mX4_notes l Γ th μ3 _ hp) (cwV 0 hts (lw_V q1703 q1705 qs90 q132 q1706) rfl rfl rfl hX4_notes ⟨Nat.le_of_ble_eq_true rfl, Nat.le_of_ble_eq_true rfl⟩) (hB.preV (tT hB) rfl rfl) rfl rfl hl.1 rfl (lv_room (Nat.le_of_ble_eq_true rfl)) dX4_rings_19 ⟨Nat.le_refl _, Nat.le_refl _⟩) hB (fun μ5 H locs hp hB => ?_)
    refine lv_iload_n hx hb dX4_rings_22 rfl (lv_at hl 0 rfl) ?_
    exact zret_i X hB hp dX4_rings_23
def pX4_tells_7 (th : Nat) (x1 : Int32) (Q : Int32 → zM → Prop) : Nat → Int32 → zM → Prop
  | 0, _, _ => False
  | n + 1, x2, μ => (vp_in x1 4 ∧ (if (zI μ (th + 17) x1.toNatClampNeg) ≤ x2 then (vp_in x1 4 ∧ Q (zI μ (th + 17) x1.toNatClampNeg) μ) else (vp_in (((nI 40) * x1) + x2) 160 ∧ (pX4_whyNot th (zJ μ (th + 18) (((nI 40) * x1) + x2).toNatClampNeg) μ fun r2 μ1 => (zpI μ1 th 21 r2 fun μ3 => (if (zI μ3 th 21) = 0 then (vp_in (((nI 40) * x1) + x2) 160 ∧ (pX4_does th ((zJ μ3 (th + 18) (((nI 40) * x1) + x2).toNatClampNeg).toInt32) μ3 fun μ4 => pX4_tells_7 th x1 Q n (x2 + (nI 1)) μ4)) else Q x2 μ3))))))
set_option maxHeartbeats 4000000 in
set_option maxRecDepth 100000 in
theorem wX4_tells_7 {p : Program} {l : Launch} {e : Env} {s : State} {m : MethodId} {args : Array Value} {below : List Frame} {meth : Method} {c : Code} {Γ : zG} {μ0 : zM} {Q : Int32 → zM → Prop} (X : zCx p m c cX4_tells 3 s args RX4 meth (some .int)) (th : Nat) (x1 : Int32) : ∀ (n : Nat) (x2 : Int32) (μ : zM) (H : Heap) (locs : List Loc) (ls : Array Slot), pX4_tells_7 th x1 Q n x2 μ → zB Γ (tSh th) (zA μ0) μ0 s μ H locs → lv_has ls 3 [(0, .ref th), (1, .int x1), (2, .int x2)] → W p l e ({ frames := 8, cells := 0, slots := 0, locals := 186 } : Room) s m args below meth c H locs 0 0 (MQ below (va_Qi Q (zPost Γ (tSh th) μ0) (zA μ0)) args s 0 0 (zA μ0)) (F0 m 7 ls []) := by
  have S := X.1
  obtain ⟨hx, hb, hml, hown, hts⟩ := X.1
  intro n
  induction n with
  | zero =>
    intro x2 μ H locs ls hp
    exact hp.elim
  | succ n ih =>
    intro x2 μ H locs ls hp hB hl
    unfold pX4_tells_7 at hp
    refine lv_iload_n hx hb dX4_tells_7 rfl (lv_at hl 2 rfl) ?_
    refine lv_aload_n hx hb dX4_tells_8 rfl (lv_at hl 0 rfl) ?_
    refine g_getr S hB (tT hB) rfl (T := TX4) (N := 38) (C := RX4) rfl in_X4 36 (by decide) (by decide) q1428 (fun _ h9 => h9) (fun _ => rfl) (tA hB 16 rfl).1 dX4_tells_9 ?_
    refine lv_iload_n hx hb dX4_tells_12 rfl (lv_at hl 1 rfl) ?_
    obtain ⟨hi, hp⟩ := hp
    refine g_iald S hB (tA hB 16 rfl).2 hi dX4_tells_13 ?_
    refine lv_icmp_ge (tgt := 67) hx hb dX4_tells_14 rfl (fun c0 => ?_) (fun c0 => ?_)
    · have hp := zit hp c0
      refine lv_aload_n hx hb dX4_tells_67 rfl (lv_at hl 0 rfl) ?_
      refine g_getr S hB (tT hB) rfl (T := TX4) (N := 38) (C := RX4) rfl in_X4 36 (by decide) (by decide) q1428 (fun _ h9 => h9) (fun _ => rfl) (tA hB 16 rfl).1 dX4_tells_68 ?_
      refine lv_iload_n hx hb dX4_tells_71 rfl (lv_at hl 1 rfl) ?_
      obtain ⟨hi, hp⟩ := hp
      refine g_iald S hB (tA hB 16 rfl).2 hi dX4_tells_72 ?_
      exact zret_i X hB hp dX4_tells_73
    · have hp := zif hp c0
      refine lv_aload_n hx hb dX4_tells_17 rfl (lv_at hl 0 rfl) ?_
      refine lv_aload_n hx hb dX4_tells_18 rfl (lv_at hl 0 rfl) ?_
      refine lv_aload_n hx hb dX4_tells_19 rfl (lv_at hl 0 rfl) ?_
      refine g_getr S hB (tT hB) rfl (T := TX4) (N := 38) (C := RX4) rfl in_X4 37 (by decide) (by decide) q1429 (fun _ h9 => h9) (fun _ => rfl) (tA hB 17 rfl).1 dX4_tells_20 ?_
      refine lv_bipush (v := (nI 40)) hx hb dX4_tells_23 rfl ?_
      refine lv_iload_n hx hb dX4_tells_25 rfl (lv_at hl 1 rfl) ?_
      refine lv_imul hx hb dX4_tells_26 ?_
      refine lv_iload_n hx hb dX4_tells_27 rfl (lv_at hl 2 rfl) ?_
      refine lv_iadd hx hb dX4_tells_28 ?_
      obtain ⟨hi, hp⟩ := hp
      refine g_lald S hB (tA hB 17 rfl).2 hi dX4_tells_29 ?_
      refine z_calli (va_runV (As := [.long (zJ μ (th + 18) (((nI 40) * x1) + x2).toNatClampNeg)]) (rest := [.ref th]) S (mX4_whyNot l Γ th (zJ μ (th + 18) (((nI 40) * x1) + x2).toNatClampNeg) μ _ hp) (cwV 1 hts (lw_V q1773 q1775 qs99 q132 q1776) rfl rfl rfl hX4_whyNot ⟨Nat.le_of_ble_eq_true rfl, Nat.le_of_ble_eq_true rfl⟩) (hB.preV (tT hB) rfl rfl) rfl rfl hl.1 rfl (lv_room (Nat.le_of_ble_eq_true rfl)) dX4_tells_30 ⟨Nat.le_refl _, Nat.le_refl _⟩) hB (fun r2 μ1 H locs hp hB => ?_)
      obtain ⟨μ3, eμ3, hp⟩ := zpI_e hp
      refine g_putI S hB (tT hB) rfl (T := TX4) (N := 38) (C := RX4) rfl in_X4 21 (by decide) (by decide) (x := r2) tyX4 tyX4_ok nmX4 q1413 (fun _ h9 => h9) rfl (ty := .int) (by decide +kernel) rfl rfl (fun _ _ => rfl) dX4_tells_33 (fun H locs hB => ?_)
      rw [← eμ3] at hB
      refine lv_aload_n hx hb dX4_tells_36 rfl (lv_at hl 0 rfl) ?_
      refine g_get S hB (tT hB) rfl (T := TX4) (N := 38) (C := RX4) rfl in_X4 21 (by decide) (by decide) q1413 (fun _ h9 => h9) (v := .int (zI μ3 th 21)) rfl dX4_tells_37 ?_
      refine lv_if_eq (tgt := 45) hx hb dX4_tells_40 rfl (fun c0 => ?_) (fun c0 => ?_)
      · have hp := zit hp c0
        refine lv_aload_n hx hb dX4_tells_45 rfl (lv_at hl 0 rfl) ?_
        refine lv_aload_n hx hb dX4_tells_46 rfl (lv_at hl 0 rfl) ?_
        refine g_getr S hB (tT hB) rfl (T := TX4) (N := 38) (C := RX4) rfl in_X4 37 (by decide) (by decide) q1429 (fun _ h9 => h9) (fun _ => rfl) (tA hB 17 rfl).1 dX4_tells_47 ?_
        refine lv_bipush (v := (nI 40)) hx hb dX4_tells_50 rfl ?_
        refine lv_iload_n hx hb dX4_tells_52 rfl (lv_at hl 1 rfl) ?_
        refine lv_imul hx hb dX4_tells_53 ?_
        refine lv_iload_n hx hb dX4_tells_54 rfl (lv_at hl 2 rfl) ?_
        refine lv_iadd hx hb dX4_tells_55 ?_
        obtain ⟨hi, hp⟩ := hp
        refine g_lald S hB (tA hB 17 rfl).2 hi dX4_tells_56 ?_
        refine lv_l2i hx hb dX4_tells_57 rfl ?_
        refine z_callv (va_runV (As := [.int ((zJ μ3 (th + 18) (((nI 40) * x1) + x2).toNatClampNeg).toInt32)]) (rest := []) S (mX4_does l Γ th ((zJ μ3 (th + 18) (((nI 40) * x1) + x2).toNatClampNeg).toInt32) μ3 _ hp) (cwV 1 hts (lw_V q1786 q1788 qs100 q132 q1789) rfl rfl rfl hX4_does ⟨Nat.le_of_ble_eq_true rfl, Nat.le_of_ble_eq_true rfl⟩) (hB.preV (tT hB) rfl rfl) rfl rfl hl.1 rfl (lv_room (Nat.le_of_ble_eq_true rfl)) dX4_tells_58 ⟨Nat.le_refl _, Nat.le_refl _⟩) hB (fun μ4 H locs hp hB => ?_)
        refine lv_iinc (v := (x2 + (nI 1))) (lv' := [(2, .int (x2 + (nI 1))), (0, .ref th), (1, .int x1)]) hx hb dX4_tells_61 hl (k := 2) rfl rfl (by decide) rfl (fun ls hl => ?_)
        refine lv_goto (tgt := 7) hx hb dX4_tells_64 rfl ?_
        exact ih (x2 + (nI 1)) μ4 _ _ _ hp hB (lv_sub hl [1, 2, 0] rfl)
      · have hp := zif hp c0
        refine lv_iload_n hx hb dX4_tells_43 rfl (lv_at hl 2 rfl) ?_
        exact zret_i X hB hp dX4_tells_44
def pX4_tells (th : Nat) (x1 : Int32) (μ : zM) (Q : Int32 → zM → Prop) : Prop := (zpI μ th 21 (nI 0) fun μ1 => ∃ k1, pX4_tells_7 th x1 Q k1 (nI 0) μ1)
theorem hX4_tells : yX4_tells.cls = "SunkTowerModel" ∧ yX4_tells.cls ≠ "java/lang/invoke/MethodHandle" ∧ yX4_tells.cls ≠ "java/lang/invoke/VarHandle" ∧ (parseMethodDescriptor yX4_tells.desc).map (fun d => d.parameters.length) = some 1 := by decide +kernel
set_option maxHeartbeats 4000000 in
set_option maxRecDepth 100000 in
theorem mX4_tells (l : Launch) (Γ : zG) (th : Nat) (x1 : Int32) (μ : zM) (Q : Int32 → zM → Prop) (hp : pX4_tells th x1 μ Q) : Met l yX4_tells (ws_ yX4_tells cX4_tells 3 (some .int)) ({ frames := 8, cells := 0, slots := 0, locals := 186 } : Room) (va_Pc [.ref th, .int x1] (zPre Γ (tSh th) μ)) (va_Qi Q (zPost Γ (tSh th) μ) (zA μ)) 0 0 (zA μ) := by
  refine zstart (by decide) (Nat.le_of_ble_eq_true rfl) ?_
  intro p e s m below meth c ls X hnm hB hl
  have X : zCx p m c cX4_tells 3 s [.ref th, .int x1].toArray RX4 meth (some .int) := X
  have S := X.1
  obtain ⟨hx, hb, hml, hown, hts⟩ := X.1
  have hl : lv_has ls 3 [(0, .ref th), (1, .int x1)] := hl
  unfold pX4_tells at hp
  refine lv_aload_n hx hb dX4_tells_0 rfl (lv_at hl 0 rfl) ?_
  refine lv_iconst (v := (nI 0)) hx hb dX4_tells_1 rfl ?_
  obtain ⟨μ1, eμ1, hp⟩ := zpI_e hp
  refine g_putI S hB (tT hB) rfl (T := TX4) (N := 38) (C := RX4) rfl in_X4 21 (by decide) (by decide) (x := (nI 0)) tyX4 tyX4_ok nmX4 q1413 (fun _ h9 => h9) rfl (ty := .int) (by decide +kernel) rfl rfl (fun _ _ => rfl) dX4_tells_2 (fun H locs hB => ?_)
  rw [← eμ1] at hB
  refine lv_iconst (v := (nI 0)) hx hb dX4_tells_5 rfl ?_
  refine lv_istore_n (lv' := [(2, .int (nI 0)), (0, .ref th), (1, .int x1)]) hx hb dX4_tells_6 rfl hl (by decide) rfl (fun ls hl => ?_)
  obtain ⟨n1, hp⟩ := hp
  exact wX4_tells_7 X th x1 n1 (nI 0) μ1 _ _ _ hp hB (lv_sub hl [1, 2, 0] rfl)
def pX4_perform (th : Nat) (x1 : Int32) (μ : zM) (Q : Int32 → zM → Prop) : Prop := (zpI μ th 0 (nI 0) fun μ1 => (pX4_noTray th x1 μ1 fun r3 μ2 => (if r3 = 0 then (pX4_keeps th μ2 fun μ4 => (pX4_tells th x1 μ4 fun r6 μ5 => (if r6 ≤ 0 then Q r6 μ5 else (pX4_notes th μ5 fun μ7 => Q r6 μ7)))) else Q r3 μ2)))
theorem hX4_perform : yX4_perform.cls = "SunkTowerModel" ∧ yX4_perform.cls ≠ "java/lang/invoke/MethodHandle" ∧ yX4_perform.cls ≠ "java/lang/invoke/VarHandle" ∧ (parseMethodDescriptor yX4_perform.desc).map (fun d => d.parameters.length) = some 1 := by decide +kernel
set_option maxHeartbeats 4000000 in
set_option maxRecDepth 100000 in
theorem mX4_perform (l : Launch) (Γ : zG) (th : Nat) (x1 : Int32) (μ : zM) (Q : Int32 → zM → Prop) (hp : pX4_perform th x1 μ Q) : Met l yX4_perform (ws_ yX4_perform cX4_perform 4 (some .int)) ({ frames := 9, cells := 0, slots := 0, locals := 208 } : Room) (va_Pc [.ref th, .int x1] (zPre Γ (tSh th) μ)) (va_Qi Q (zPost Γ (tSh th) μ) (zA μ)) 0 0 (zA μ) := by
  refine zstart (by decide) (Nat.le_of_ble_eq_true rfl) ?_
  intro p e s m below meth c ls X hnm hB hl
  have X : zCx p m c cX4_perform 4 s [.ref th, .int x1].toArray RX4 meth (some .int) := X
  have S := X.1
  obtain ⟨hx, hb, hml, hown, hts⟩ := X.1
  have hl : lv_has ls 4 [(0, .ref th), (1, .int x1)] := hl
  unfold pX4_perform at hp
  refine lv_aload_n hx hb dX4_perform_0 rfl (lv_at hl 0 rfl) ?_
  refine lv_iconst (v := (nI 0)) hx hb dX4_perform_1 rfl ?_
  obtain ⟨μ1, eμ1, hp⟩ := zpI_e hp
  refine g_putI S hB (tT hB) rfl (T := TX4) (N := 38) (C := RX4) rfl in_X4 0 (by decide) (by decide) (x := (nI 0)) tyX4 tyX4_ok nmX4 q1392 (fun _ h9 => h9) rfl (ty := .int) (by decide +kernel) rfl rfl (fun _ _ => rfl) dX4_perform_2 (fun H locs hB => ?_)
  rw [← eμ1] at hB
  refine lv_aload_n hx hb dX4_perform_5 rfl (lv_at hl 0 rfl) ?_
  refine lv_iload_n hx hb dX4_perform_6 rfl (lv_at hl 1 rfl) ?_
  refine z_calli (va_runV (As := [.int x1]) (rest := []) S (mX4_noTray l Γ th x1 μ1 _ hp) (cwV 1 hts (lw_V q1765 q1767 qs97 q132 q1768) rfl rfl rfl hX4_noTray ⟨Nat.le_of_ble_eq_true rfl, Nat.le_of_ble_eq_true rfl⟩) (hB.preV (tT hB) rfl rfl) rfl rfl hl.1 rfl (lv_room (Nat.le_of_ble_eq_true rfl)) dX4_perform_7 ⟨Nat.le_refl _, Nat.le_refl _⟩) hB (fun r3 μ2 H locs hp hB => ?_)
  refine lv_istore_n (lv' := [(2, .int r3), (0, .ref th), (1, .int x1)]) hx hb dX4_perform_10 rfl hl (by decide) rfl (fun ls hl => ?_)
  refine lv_iload_n hx hb dX4_perform_11 rfl (lv_at hl 0 rfl) ?_
  refine lv_if_eq (tgt := 17) hx hb dX4_perform_12 rfl (fun c0 => ?_) (fun c0 => ?_)
  · have hp := zit hp c0
    refine lv_aload_n hx hb dX4_perform_17 rfl (lv_at hl 1 rfl) ?_
    refine z_callv (va_runV (As := []) (rest := []) S (mX4_keeps l Γ th μ2 _ hp) (cwV 0 hts (lw_V q1691 q1693 qs88 q132 q1694) rfl rfl rfl hX4_keeps ⟨Nat.le_of_ble_eq_true rfl, Nat.le_of_ble_eq_true rfl⟩) (hB.preV (tT hB) rfl rfl) rfl rfl hl.1 rfl (lv_room (Nat.le_of_ble_eq_true rfl)) dX4_perform_18 ⟨Nat.le_refl _, Nat.le_refl _⟩) hB (fun μ4 H locs hp hB => ?_)
    refine lv_aload_n hx hb dX4_perform_21 rfl (lv_at hl 1 rfl) ?_
    refine lv_iload_n hx hb dX4_perform_22 rfl (lv_at hl 2 rfl) ?_
    refine z_calli (va_runV (As := [.int x1]) (rest := []) S (mX4_tells l Γ th x1 μ4 _ hp) (cwV 1 hts (lw_V q1769 q1771 qs98 q132 q1772) rfl rfl rfl hX4_tells ⟨Nat.le_of_ble_eq_true rfl, Nat.le_of_ble_eq_true rfl⟩) (hB.preV (tT hB) rfl rfl) rfl rfl hl.1 rfl (lv_room (Nat.le_of_ble_eq_true rfl)) dX4_perform_23 ⟨Nat.le_refl _, Nat.le_refl _⟩) hB (fun r6 μ5 H locs hp hB => ?_)
    refine lv_istore_n (lv' := [(3, .int r6), (2, .int r3), (0, .ref th), (1, .int x1)]) hx hb dX4_perform_26 rfl hl (by decide) rfl (fun ls hl => ?_)
    refine lv_iload_n hx hb dX4_perform_27 rfl (lv_at hl 0 rfl) ?_
    refine lv_if_le (tgt := 35) hx hb dX4_perform_28 rfl (fun c0 => ?_) (fun c0 => ?_)
    · have hp := zit hp c0
      refine lv_iload_n hx hb dX4_perform_35 rfl (lv_at hl 0 rfl) ?_
      exact zret_i X hB hp dX4_perform_36
    · have hp := zif hp c0
      refine lv_aload_n hx hb dX4_perform_31 rfl (lv_at hl 2 rfl) ?_
      refine z_callv (va_runV (As := []) (rest := []) S (mX4_notes l Γ th μ5 _ hp) (cwV 0 hts (lw_V q1703 q1705 qs90 q132 q1706) rfl rfl rfl hX4_notes ⟨Nat.le_of_ble_eq_true rfl, Nat.le_of_ble_eq_true rfl⟩) (hB.preV (tT hB) rfl rfl) rfl rfl hl.1 rfl (lv_room (Nat.le_of_ble_eq_true rfl)) dX4_perform_32 ⟨Nat.le_refl _, Nat.le_refl _⟩) hB (fun μ7 H locs hp hB => ?_)
      refine lv_iload_n hx hb dX4_perform_35 rfl (lv_at hl 0 rfl) ?_
      exact zret_i X hB hp dX4_perform_36
  · have hp := zif hp c0
    refine lv_iload_n hx hb dX4_perform_15 rfl (lv_at hl 0 rfl) ?_
    exact zret_i X hB hp dX4_perform_16
def pX4_building_33 (th : Nat) (x1 : Int32) (x2 : Int32) (x3 : Int32) (Q : Int64 → zM → Prop) (μ : zM) : Prop := (pX4_within th (x1.toInt64) (1 : Int64) (24 : Int64) μ fun r2 μ1 => (if r2 = 0 then Q (-90000000003 : Int64) μ1 else (pX4_within th (x2.toInt64) (0 : Int64) (3 : Int64) μ1 fun r4 μ3 => (if r4 = 0 then Q (-90000000003 : Int64) μ3 else (pX4_laysBuilding th x1 x2 μ3 fun μ5 => (if x3 = 0 then Q (zJ μ5 th 31) μ5 else (if x3 = (nI 1) then Q ((zI μ5 th 29).toInt64) μ5 else (if (zI μ5 th 29) ≤ (x3 - (nI 10)) then Q (-1 : Int64) μ5 else (vp_in (x3 - (nI 10)) 3 ∧ Q ((zI μ5 (th + 12) (x3 - (nI 10)).toNatClampNeg).toInt64) μ5)))))))))
set_option maxHeartbeats 4000000 in
set_option maxRecDepth 100000 in
theorem wX4_building_33 {p : Program} {l : Launch} {e : Env} {s : State} {m : MethodId} {args : Array Value} {below : List Frame} {meth : Method} {c : Code} {Γ : zG} {μ0 : zM} {Q : Int64 → zM → Prop} (X : zCx p m c cX4_building 4 s args RX4 meth (some .long)) (th : Nat) (x1 : Int32) (x2 : Int32) (x3 : Int32) : ∀ (μ : zM) (H : Heap) (locs : List Loc) (ls : Array Slot), pX4_building_33 th x1 x2 x3 Q  μ → zB Γ (tSh th) (zA μ0) μ0 s μ H locs → lv_has ls 4 [(0, .ref th), (1, .int x1), (2, .int x2), (3, .int x3)] → W p l e ({ frames := 18, cells := 0, slots := 0, locals := 466 } : Room) s m args below meth c H locs 0 0 (MQ below (va_Ql Q (zPost Γ (tSh th) μ0) (zA μ0)) args s 0 0 (zA μ0)) (F0 m 33 ls []) := by
  have S := X.1
  obtain ⟨hx, hb, hml, hown, hts⟩ := X.1
  intro  μ H locs ls hp hB hl
  unfold pX4_building_33 at hp
  refine lv_iload_n hx hb dX4_building_33 rfl (lv_at hl 1 rfl) ?_
  refine lv_i2l hx hb dX4_building_34 rfl ?_
  refine lv_lconst (v := (1 : Int64)) hx hb dX4_building_35 rfl ?_
  refine lv_ldc2 (v := (24 : Int64)) hx hb hown (hts _ q1924) dX4_building_36 ?_
  refine z_calli (va_runS (As := [.long (x1.toInt64), .long (1 : Int64), .long (24 : Int64)]) (rest := []) S (mX4_within l Γ th (x1.toInt64) (1 : Int64) (24 : Int64) μ _ hp) (va_cwS 3 hts (lw_S q1516 q1517 q132 q1518) rfl rfl rfl hX4_within ⟨Nat.le_of_ble_eq_true rfl, Nat.le_of_ble_eq_true rfl⟩) hB.preS rfl rfl hl.1 rfl (lv_room (Nat.le_of_ble_eq_true rfl)) dX4_building_39 ⟨Nat.le_refl _, Nat.le_refl _⟩) hB (fun r2 μ1 H locs hp hB => ?_)
  refine lv_if_eq (tgt := 57) hx hb dX4_building_42 rfl (fun c0 => ?_) (fun c0 => ?_)
  · have hp := zit hp c0
    refine lv_ldc2 (v := (-90000000003 : Int64)) hx hb hown (hts _ q1854) dX4_building_57 ?_
    exact zret_l X hB hp dX4_building_60
  · have hp := zif hp c0
    refine lv_iload_n hx hb dX4_building_45 rfl (lv_at hl 2 rfl) ?_
    refine lv_i2l hx hb dX4_building_46 rfl ?_
    refine lv_lconst (v := (0 : Int64)) hx hb dX4_building_47 rfl ?_
    refine lv_ldc2 (v := (3 : Int64)) hx hb hown (hts _ q1764) dX4_building_48 ?_
    refine z_calli (va_runS (As := [.long (x2.toInt64), .long (0 : Int64), .long (3 : Int64)]) (rest := []) S (mX4_within l Γ th (x2.toInt64) (0 : Int64) (3 : Int64) μ1 _ hp) (va_cwS 3 hts (lw_S q1516 q1517 q132 q1518) rfl rfl rfl hX4_within ⟨Nat.le_of_ble_eq_true rfl, Nat.le_of_ble_eq_true rfl⟩) hB.preS rfl rfl hl.1 rfl (lv_room (Nat.le_of_ble_eq_true rfl)) dX4_building_51 ⟨Nat.le_refl _, Nat.le_refl _⟩) hB (fun r4 μ3 H locs hp hB => ?_)
    refine lv_if_ne (tgt := 61) hx hb dX4_building_54 rfl (fun c0 => ?_) (fun c0 => ?_)
    · have hp := zif hp c0
      refine lv_aload_n hx hb dX4_building_61 rfl (lv_at hl 0 rfl) ?_
      refine lv_iload_n hx hb dX4_building_62 rfl (lv_at hl 1 rfl) ?_
      refine lv_iload_n hx hb dX4_building_63 rfl (lv_at hl 2 rfl) ?_
      refine z_callv (va_runV (As := [.int x1, .int x2]) (rest := []) S (mX4_laysBuilding l Γ th x1 x2 μ3 _ hp) (cwV 2 hts (lw_V q1925 q1927 qs115 q132 q1928) rfl rfl rfl hX4_laysBuilding ⟨Nat.le_of_ble_eq_true rfl, Nat.le_of_ble_eq_true rfl⟩) (hB.preV (tT hB) rfl rfl) rfl rfl hl.1 rfl (lv_room (Nat.le_of_ble_eq_true rfl)) dX4_building_64 ⟨Nat.le_refl _, Nat.le_refl _⟩) hB (fun μ5 H locs hp hB => ?_)
      refine lv_iload_n hx hb dX4_building_67 rfl (lv_at hl 3 rfl) ?_
      refine lv_if_ne (tgt := 78) hx hb dX4_building_68 rfl (fun c0 => ?_) (fun c0 => ?_)
      · have hp := zif hp c0
        refine lv_iload_n hx hb dX4_building_78 rfl (lv_at hl 3 rfl) ?_
        refine lv_iconst (v := (nI 1)) hx hb dX4_building_79 rfl ?_
        refine lv_icmp_ne (tgt := 91) hx hb dX4_building_80 rfl (fun c0 => ?_) (fun c0 => ?_)
        · have hp := zif hp c0
          refine lv_iload_n hx hb dX4_building_91 rfl (lv_at hl 3 rfl) ?_
          refine lv_bipush (v := (nI 10)) hx hb dX4_building_92 rfl ?_
          refine lv_isub hx hb dX4_building_94 ?_
          refine lv_aload_n hx hb dX4_building_95 rfl (lv_at hl 0 rfl) ?_
          refine g_get S hB (tT hB) rfl (T := TX4) (N := 38) (C := RX4) rfl in_X4 29 (by decide) (by decide) q1421 (fun _ h9 => h9) (v := .int (zI μ5 th 29)) rfl dX4_building_96 ?_
          refine lv_icmp_ge (tgt := 115) hx hb dX4_building_99 rfl (fun c0 => ?_) (fun c0 => ?_)
          · have hp := zit hp c0
            refine lv_ldc2 (v := (-1 : Int64)) hx hb hown (hts _ q1777) dX4_building_115 ?_
            exact zret_l X hB hp dX4_building_118
          · have hp := zif hp c0
            refine lv_aload_n hx hb dX4_building_102 rfl (lv_at hl 0 rfl) ?_
            refine g_getr S hB (tT hB) rfl (T := TX4) (N := 38) (C := RX4) rfl in_X4 28 (by decide) (by decide) q1420 (fun _ h9 => h9) (fun _ => rfl) (tA hB 11 rfl).1 dX4_building_103 ?_
            refine lv_iload_n hx hb dX4_building_106 rfl (lv_at hl 3 rfl) ?_
            refine lv_bipush (v := (nI 10)) hx hb dX4_building_107 rfl ?_
            refine lv_isub hx hb dX4_building_109 ?_
            obtain ⟨hi, hp⟩ := hp
            refine g_iald S hB (tA hB 11 rfl).2 hi dX4_building_110 ?_
            refine lv_i2l hx hb dX4_building_111 rfl ?_
            refine lv_goto (tgt := 118) hx hb dX4_building_112 rfl ?_
            exact zret_l X hB hp dX4_building_118
        · have hp := zit hp c0
          refine lv_aload_n hx hb dX4_building_83 rfl (lv_at hl 0 rfl) ?_
          refine g_get S hB (tT hB) rfl (T := TX4) (N := 38) (C := RX4) rfl in_X4 29 (by decide) (by decide) q1421 (fun _ h9 => h9) (v := .int (zI μ5 th 29)) rfl dX4_building_84 ?_
          refine lv_i2l hx hb dX4_building_87 rfl ?_
          refine lv_goto (tgt := 118) hx hb dX4_building_88 rfl ?_
          exact zret_l X hB hp dX4_building_118
      · have hp := zit hp c0
        refine lv_aload_n hx hb dX4_building_71 rfl (lv_at hl 0 rfl) ?_
        refine g_get S hB (tT hB) rfl (T := TX4) (N := 38) (C := RX4) rfl in_X4 31 (by decide) (by decide) q1423 (fun _ h9 => h9) (v := .long (zJ μ5 th 31)) rfl dX4_building_72 ?_
        refine lv_goto (tgt := 118) hx hb dX4_building_75 rfl ?_
        exact zret_l X hB hp dX4_building_118
    · have hp := zit hp c0
      refine lv_ldc2 (v := (-90000000003 : Int64)) hx hb hown (hts _ q1854) dX4_building_57 ?_
      exact zret_l X hB hp dX4_building_60
def pX4_building (th : Nat) (x1 : Int32) (x2 : Int32) (x3 : Int32) (μ : zM) (Q : Int64 → zM → Prop) : Prop := (zpI μ th 0 (nI 0) fun μ1 => (pX4_within th (x3.toInt64) (0 : Int64) (1 : Int64) μ1 fun r3 μ2 => (if r3 = 0 then (pX4_within th (x3.toInt64) (10 : Int64) (12 : Int64) μ2 fun r5 μ4 => (if r5 = 0 then Q (-90000000002 : Int64) μ4 else pX4_building_33 th x1 x2 x3 Q μ4)) else pX4_building_33 th x1 x2 x3 Q μ2)))
theorem hX4_building : yX4_building.cls = "SunkTowerModel" ∧ yX4_building.cls ≠ "java/lang/invoke/MethodHandle" ∧ yX4_building.cls ≠ "java/lang/invoke/VarHandle" ∧ (parseMethodDescriptor yX4_building.desc).map (fun d => d.parameters.length) = some 3 := by decide +kernel
set_option maxHeartbeats 4000000 in
set_option maxRecDepth 100000 in
theorem mX4_building (l : Launch) (Γ : zG) (th : Nat) (x1 : Int32) (x2 : Int32) (x3 : Int32) (μ : zM) (Q : Int64 → zM → Prop) (hp : pX4_building th x1 x2 x3 μ Q) : Met l yX4_building (ws_ yX4_building cX4_building 4 (some .long)) ({ frames := 18, cells := 0, slots := 0, locals := 466 } : Room) (va_Pc [.ref th, .int x1, .int x2, .int x3] (zPre Γ (tSh th) μ)) (va_Ql Q (zPost Γ (tSh th) μ) (zA μ)) 0 0 (zA μ) := by
  refine zstart (by decide) (Nat.le_of_ble_eq_true rfl) ?_
  intro p e s m below meth c ls X hnm hB hl
  have X : zCx p m c cX4_building 4 s [.ref th, .int x1, .int x2, .int x3].toArray RX4 meth (some .long) := X
  have S := X.1
  obtain ⟨hx, hb, hml, hown, hts⟩ := X.1
  have hl : lv_has ls 4 [(0, .ref th), (1, .int x1), (2, .int x2), (3, .int x3)] := hl
  unfold pX4_building at hp
  refine lv_aload_n hx hb dX4_building_0 rfl (lv_at hl 0 rfl) ?_
  refine lv_iconst (v := (nI 0)) hx hb dX4_building_1 rfl ?_
  obtain ⟨μ1, eμ1, hp⟩ := zpI_e hp
  refine g_putI S hB (tT hB) rfl (T := TX4) (N := 38) (C := RX4) rfl in_X4 0 (by decide) (by decide) (x := (nI 0)) tyX4 tyX4_ok nmX4 q1392 (fun _ h9 => h9) rfl (ty := .int) (by decide +kernel) rfl rfl (fun _ _ => rfl) dX4_building_2 (fun H locs hB => ?_)
  rw [← eμ1] at hB
  refine lv_iload_n hx hb dX4_building_5 rfl (lv_at hl 3 rfl) ?_
  refine lv_i2l hx hb dX4_building_6 rfl ?_
  refine lv_lconst (v := (0 : Int64)) hx hb dX4_building_7 rfl ?_
  refine lv_lconst (v := (1 : Int64)) hx hb dX4_building_8 rfl ?_
  refine z_calli (va_runS (As := [.long (x3.toInt64), .long (0 : Int64), .long (1 : Int64)]) (rest := []) S (mX4_within l Γ th (x3.toInt64) (0 : Int64) (1 : Int64) μ1 _ hp) (va_cwS 3 hts (lw_S q1516 q1517 q132 q1518) rfl rfl rfl hX4_within ⟨Nat.le_of_ble_eq_true rfl, Nat.le_of_ble_eq_true rfl⟩) hB.preS rfl rfl hl.1 rfl (lv_room (Nat.le_of_ble_eq_true rfl)) dX4_building_9 ⟨Nat.le_refl _, Nat.le_refl _⟩) hB (fun r3 μ2 H locs hp hB => ?_)
  refine lv_if_ne (tgt := 33) hx hb dX4_building_12 rfl (fun c0 => ?_) (fun c0 => ?_)
  · have hp := zif hp c0
    exact wX4_building_33 X th x1 x2 x3 μ2 _ _ _ hp hB (lv_sub hl [0, 1, 2, 3] rfl)
  · have hp := zit hp c0
    refine lv_iload_n hx hb dX4_building_15 rfl (lv_at hl 3 rfl) ?_
    refine lv_i2l hx hb dX4_building_16 rfl ?_
    refine lv_ldc2 (v := (10 : Int64)) hx hb hown (hts _ q1759) dX4_building_17 ?_
    refine lv_ldc2 (v := (12 : Int64)) hx hb hown (hts _ q1923) dX4_building_20 ?_
    refine z_calli (va_runS (As := [.long (x3.toInt64), .long (10 : Int64), .long (12 : Int64)]) (rest := []) S (mX4_within l Γ th (x3.toInt64) (10 : Int64) (12 : Int64) μ2 _ hp) (va_cwS 3 hts (lw_S q1516 q1517 q132 q1518) rfl rfl rfl hX4_within ⟨Nat.le_of_ble_eq_true rfl, Nat.le_of_ble_eq_true rfl⟩) hB.preS rfl rfl hl.1 rfl (lv_room (Nat.le_of_ble_eq_true rfl)) dX4_building_23 ⟨Nat.le_refl _, Nat.le_refl _⟩) hB (fun r5 μ4 H locs hp hB => ?_)
    refine lv_if_ne (tgt := 33) hx hb dX4_building_26 rfl (fun c0 => ?_) (fun c0 => ?_)
    · have hp := zif hp c0
      exact wX4_building_33 X th x1 x2 x3 μ4 _ _ _ hp hB (lv_sub hl [0, 1, 2, 3] rfl)
    · have hp := zit hp c0
      refine lv_ldc2 (v := (-90000000002 : Int64)) hx hb hown (hts _ q1876) dX4_building_29 ?_
      exact zret_l X hB hp dX4_building_32
def pX4_judge (th : Nat) (x1 : Int32) (x2 : Int32) (μ : zM) (Q : Int32 → zM → Prop) : Prop := (zpI μ th 0 (nI 0) fun μ1 => (pX4_within th (x2.toInt64) (0 : Int64) (3 : Int64) μ1 fun r3 μ2 => (if r3 = 0 then Q (-2 : Int32) μ2 else (pX4_noTray th x1 μ2 fun r5 μ4 => (if r5 = 0 then (pX4_keeps th μ4 fun μ6 => (pX4_tells th x1 μ6 fun r8 μ7 => (vp_in (nI 41) 3594 ∧ (vp_in (nI 42) 3594 ∧ (pX4_isAgain th μ7 fun μ9 => (if x2 = 0 then (if (zI μ9 th 21) = 0 then Q (-1 : Int32) μ9 else Q r8 μ9) else (if x2 = (nI 1) then Q (zI μ9 th 21) μ9 else (if x2 = (nI 2) then Q (zI μ7 (th + 1) (nI 41).toNatClampNeg) μ9 else Q (zI μ7 (th + 1) (nI 42).toNatClampNeg) μ9)))))))) else Q r5 μ4)))))
theorem hX4_judge : yX4_judge.cls = "SunkTowerModel" ∧ yX4_judge.cls ≠ "java/lang/invoke/MethodHandle" ∧ yX4_judge.cls ≠ "java/lang/invoke/VarHandle" ∧ (parseMethodDescriptor yX4_judge.desc).map (fun d => d.parameters.length) = some 2 := by decide +kernel
set_option maxHeartbeats 4000000 in
set_option maxRecDepth 100000 in
theorem mX4_judge (l : Launch) (Γ : zG) (th : Nat) (x1 : Int32) (x2 : Int32) (μ : zM) (Q : Int32 → zM → Prop) (hp : pX4_judge th x1 x2 μ Q) : Met l yX4_judge (ws_ yX4_judge cX4_judge 7 (some .int)) ({ frames := 9, cells := 0, slots := 0, locals := 208 } : Room) (va_Pc [.ref th, .int x1, .int x2] (zPre Γ (tSh th) μ)) (va_Qi Q (zPost Γ (tSh th) μ) (zA μ)) 0 0 (zA μ) := by
  refine zstart (by decide) (Nat.le_of_ble_eq_true rfl) ?_
  intro p e s m below meth c ls X hnm hB hl
  have X : zCx p m c cX4_judge 7 s [.ref th, .int x1, .int x2].toArray RX4 meth (some .int) := X
  have S := X.1
  obtain ⟨hx, hb, hml, hown, hts⟩ := X.1
  have hl : lv_has ls 7 [(0, .ref th), (1, .int x1), (2, .int x2)] := hl
  unfold pX4_judge at hp
  refine lv_aload_n hx hb dX4_judge_0 rfl (lv_at hl 0 rfl) ?_
  refine lv_iconst (v := (nI 0)) hx hb dX4_judge_1 rfl ?_
  obtain ⟨μ1, eμ1, hp⟩ := zpI_e hp
  refine g_putI S hB (tT hB) rfl (T := TX4) (N := 38) (C := RX4) rfl in_X4 0 (by decide) (by decide) (x := (nI 0)) tyX4 tyX4_ok nmX4 q1392 (fun _ h9 => h9) rfl (ty := .int) (by decide +kernel) rfl rfl (fun _ _ => rfl) dX4_judge_2 (fun H locs hB => ?_)
  rw [← eμ1] at hB
  refine lv_iload_n hx hb dX4_judge_5 rfl (lv_at hl 2 rfl) ?_
  refine lv_i2l hx hb dX4_judge_6 rfl ?_
  refine lv_lconst (v := (0 : Int64)) hx hb dX4_judge_7 rfl ?_
  refine lv_ldc2 (v := (3 : Int64)) hx hb hown (hts _ q1764) dX4_judge_8 ?_
  refine z_calli (va_runS (As := [.long (x2.toInt64), .long (0 : Int64), .long (3 : Int64)]) (rest := []) S (mX4_within l Γ th (x2.toInt64) (0 : Int64) (3 : Int64) μ1 _ hp) (va_cwS 3 hts (lw_S q1516 q1517 q132 q1518) rfl rfl rfl hX4_within ⟨Nat.le_of_ble_eq_true rfl, Nat.le_of_ble_eq_true rfl⟩) hB.preS rfl rfl hl.1 rfl (lv_room (Nat.le_of_ble_eq_true rfl)) dX4_judge_11 ⟨Nat.le_refl _, Nat.le_refl _⟩) hB (fun r3 μ2 H locs hp hB => ?_)
  refine lv_if_ne (tgt := 20) hx hb dX4_judge_14 rfl (fun c0 => ?_) (fun c0 => ?_)
  · have hp := zif hp c0
    refine lv_aload_n hx hb dX4_judge_20 rfl (lv_at hl 0 rfl) ?_
    refine lv_iload_n hx hb dX4_judge_21 rfl (lv_at hl 1 rfl) ?_
    refine z_calli (va_runV (As := [.int x1]) (rest := []) S (mX4_noTray l Γ th x1 μ2 _ hp) (cwV 1 hts (lw_V q1765 q1767 qs97 q132 q1768) rfl rfl rfl hX4_noTray ⟨Nat.le_of_ble_eq_true rfl, Nat.le_of_ble_eq_true rfl⟩) (hB.preV (tT hB) rfl rfl) rfl rfl hl.1 rfl (lv_room (Nat.le_of_ble_eq_true rfl)) dX4_judge_22 ⟨Nat.le_refl _, Nat.le_refl _⟩) hB (fun r5 μ4 H locs hp hB => ?_)
    refine lv_istore_n (lv' := [(3, .int r5), (0, .ref th), (1, .int x1), (2, .int x2)]) hx hb dX4_judge_25 rfl hl (by decide) rfl (fun ls hl => ?_)
    refine lv_iload_n hx hb dX4_judge_26 rfl (lv_at hl 0 rfl) ?_
    refine lv_if_eq (tgt := 32) hx hb dX4_judge_27 rfl (fun c0 => ?_) (fun c0 => ?_)
    · have hp := zit hp c0
      refine lv_aload_n hx hb dX4_judge_32 rfl (lv_at hl 1 rfl) ?_
      refine z_callv (va_runV (As := []) (rest := []) S (mX4_keeps l Γ th μ4 _ hp) (cwV 0 hts (lw_V q1691 q1693 qs88 q132 q1694) rfl rfl rfl hX4_keeps ⟨Nat.le_of_ble_eq_true rfl, Nat.le_of_ble_eq_true rfl⟩) (hB.preV (tT hB) rfl rfl) rfl rfl hl.1 rfl (lv_room (Nat.le_of_ble_eq_true rfl)) dX4_judge_33 ⟨Nat.le_refl _, Nat.le_refl _⟩) hB (fun μ6 H locs hp hB => ?_)
      refine lv_aload_n hx hb dX4_judge_36 rfl (lv_at hl 1 rfl) ?_
      refine lv_iload_n hx hb dX4_judge_37 rfl (lv_at hl 2 rfl) ?_
      refine z_calli (va_runV (As := [.int x1]) (rest := []) S (mX4_tells l Γ th x1 μ6 _ hp) (cwV 1 hts (lw_V q1769 q1771 qs98 q132 q1772) rfl rfl rfl hX4_tells ⟨Nat.le_of_ble_eq_true rfl, Nat.le_of_ble_eq_true rfl⟩) (hB.preV (tT hB) rfl rfl) rfl rfl hl.1 rfl (lv_room (Nat.le_of_ble_eq_true rfl)) dX4_judge_38 ⟨Nat.le_refl _, Nat.le_refl _⟩) hB (fun r8 μ7 H locs hp hB => ?_)
      refine lv_istore (lv' := [(4, .int r8), (3, .int r5), (0, .ref th), (1, .int x1), (2, .int x2)]) hx hb dX4_judge_41 hl (by decide) rfl (fun ls hl => ?_)
      refine lv_aload_n hx hb dX4_judge_43 rfl (lv_at hl 2 rfl) ?_
      refine g_getr S hB (tT hB) rfl (T := TX4) (N := 38) (C := RX4) rfl in_X4 1 (by decide) (by decide) q1393 (fun _ h9 => h9) (fun _ => rfl) (tA hB 0 rfl).1 dX4_judge_44 ?_
      refine lv_bipush (v := (nI 41)) hx hb dX4_judge_47 rfl ?_
      obtain ⟨hi, hp⟩ := hp
      refine g_iald S hB (tA hB 0 rfl).2 hi dX4_judge_49 ?_
      refine lv_istore (lv' := [(5, .int (zI μ7 (th + 1) (nI 41).toNatClampNeg)), (4, .int r8), (3, .int r5), (0, .ref th), (1, .int x1), (2, .int x2)]) hx hb dX4_judge_50 hl (by decide) rfl (fun ls hl => ?_)
      refine lv_aload_n hx hb dX4_judge_52 rfl (lv_at hl 3 rfl) ?_
      refine g_getr S hB (tT hB) rfl (T := TX4) (N := 38) (C := RX4) rfl in_X4 1 (by decide) (by decide) q1393 (fun _ h9 => h9) (fun _ => rfl) (tA hB 0 rfl).1 dX4_judge_53 ?_
      refine lv_bipush (v := (nI 42)) hx hb dX4_judge_56 rfl ?_
      obtain ⟨hi, hp⟩ := hp
      refine g_iald S hB (tA hB 0 rfl).2 hi dX4_judge_58 ?_
      refine lv_istore (lv' := [(6, .int (zI μ7 (th + 1) (nI 42).toNatClampNeg)), (5, .int (zI μ7 (th + 1) (nI 41).toNatClampNeg)), (4, .int r8), (3, .int r5), (0, .ref th), (1, .int x1), (2, .int x2)]) hx hb dX4_judge_59 hl (by decide) rfl (fun ls hl => ?_)
      refine lv_aload_n hx hb dX4_judge_61 rfl (lv_at hl 4 rfl) ?_
      refine z_callv (va_runV (As := []) (rest := []) S (mX4_isAgain l Γ th μ7 _ hp) (cwV 0 hts (lw_V q1790 q1792 qs101 q132 q1793) rfl rfl rfl hX4_isAgain ⟨Nat.le_of_ble_eq_true rfl, Nat.le_of_ble_eq_true rfl⟩) (hB.preV (tT hB) rfl rfl) rfl rfl hl.1 rfl (lv_room (Nat.le_of_ble_eq_true rfl)) dX4_judge_62 ⟨Nat.le_refl _, Nat.le_refl _⟩) hB (fun μ9 H locs hp hB => ?_)
      refine lv_iload_n hx hb dX4_judge_65 rfl (lv_at hl 6 rfl) ?_
      refine lv_if_ne (tgt := 85) hx hb dX4_judge_66 rfl (fun c0 => ?_) (fun c0 => ?_)
      · have hp := zif hp c0
        refine lv_iload_n hx hb dX4_judge_85 rfl (lv_at hl 6 rfl) ?_
        refine lv_iconst (v := (nI 1)) hx hb dX4_judge_86 rfl ?_
        refine lv_icmp_ne (tgt := 97) hx hb dX4_judge_87 rfl (fun c0 => ?_) (fun c0 => ?_)
        · have hp := zif hp c0
          refine lv_iload_n hx hb dX4_judge_97 rfl (lv_at hl 6 rfl) ?_
          refine lv_iconst (v := (nI 2)) hx hb dX4_judge_98 rfl ?_
          refine lv_icmp_ne (tgt := 107) hx hb dX4_judge_99 rfl (fun c0 => ?_) (fun c0 => ?_)
          · have hp := zif hp c0
            refine lv_iload hx hb dX4_judge_107 (lv_at hl 0 rfl) ?_
            exact zret_i X hB hp dX4_judge_109
          · have hp := zit hp c0
            refine lv_iload hx hb dX4_judge_102 (lv_at hl 1 rfl) ?_
            refine lv_goto (tgt := 109) hx hb dX4_judge_104 rfl ?_
            exact zret_i X hB hp dX4_judge_109
        · have hp := zit hp c0
          refine lv_aload_n hx hb dX4_judge_90 rfl (lv_at hl 4 rfl) ?_
          refine g_get S hB (tT hB) rfl (T := TX4) (N := 38) (C := RX4) rfl in_X4 21 (by decide) (by decide) q1413 (fun _ h9 => h9) (v := .int (zI μ9 th 21)) rfl dX4_judge_91 ?_
          refine lv_goto (tgt := 109) hx hb dX4_judge_94 rfl ?_
          exact zret_i X hB hp dX4_judge_109
      · have hp := zit hp c0
        refine lv_aload_n hx hb dX4_judge_69 rfl (lv_at hl 4 rfl) ?_
        refine g_get S hB (tT hB) rfl (T := TX4) (N := 38) (C := RX4) rfl in_X4 21 (by decide) (by decide) q1413 (fun _ h9 => h9) (v := .int (zI μ9 th 21)) rfl dX4_judge_70 ?_
        refine lv_if_ne (tgt := 80) hx hb dX4_judge_73 rfl (fun c0 => ?_) (fun c0 => ?_)
        · have hp := zif hp c0
          refine lv_iload hx hb dX4_judge_80 (lv_at hl 2 rfl) ?_
          refine lv_goto (tgt := 109) hx hb dX4_judge_82 rfl ?_
          exact zret_i X hB hp dX4_judge_109
        · have hp := zit hp c0
          refine lv_iconst (v := (-1 : Int32)) hx hb dX4_judge_76 rfl ?_
          refine lv_goto (tgt := 109) hx hb dX4_judge_77 rfl ?_
          exact zret_i X hB hp dX4_judge_109
    · have hp := zif hp c0
      refine lv_iload_n hx hb dX4_judge_30 rfl (lv_at hl 0 rfl) ?_
      exact zret_i X hB hp dX4_judge_31
  · have hp := zit hp c0
    refine lv_bipush (v := (-2 : Int32)) hx hb dX4_judge_17 rfl ?_
    exact zret_i X hB hp dX4_judge_19
