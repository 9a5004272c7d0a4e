def pX1_init_64 (z : Nat) (s0 : Nat) (mc : Nat) (ms : Nat) (Q : zM → Prop) : Nat → Int32 → Nat → Nat → zM → Prop
  | 0, _, _, _, _ => False
  | n + 1, x1, uc, us, μ => (if (nI 6) ≤ x1 then (zty μ s0 = some (.inl 101) ∧ zShp z 1 (zR μ) (zty μ) s0 ∧ zpT μ s0 (.inl 1) fun μ1 => Q μ1) else (zty μ s0 = some (.inl 101) ∧ (zde (zR μ s0 3) fun b4 => (zia μ b4 0 x1 ∧ zpI μ b4 x1.toNatClampNeg (-1 : Int32) fun μ5 => pX1_init_64 z s0 mc ms Q n (x1 + (nI 1)) (uc) (us) μ5))))
set_option maxHeartbeats 4000000 in
set_option maxRecDepth 100000 in
theorem wX1_init_64 {p : Program} {l : Launch} {e : Env} {s : State} {m : MethodId} {args : Array Value} {below : List Frame} {meth : Method} {c : Code} {Γ : zG} {Sh : zSh} {μ0 : zM} {Q : zM → Prop} (X : zCx p m c cX1_init 2 s args RX1 meth none) (z : Nat) (hG : zShOK z Sh) (s0 : Nat) (mc : Nat) (ms : Nat) : ∀ (n : Nat) (x1 : Int32) (uc : Nat) (us : Nat) (μ : zM) (H : Heap) (locs : List Loc) (ls : Array Slot), pX1_init_64 z s0 mc ms Q n x1 uc us μ → uc ≤ mc ∧ us ≤ ms → zB Γ Sh (zA μ0) μ0 s μ H locs → lv_has ls 2 [(0, .ref s0), (1, .int x1)] → W p l e ({ frames := 1, cells := mc, slots := ms, locals := 28 } : Room) s m args below meth c H locs uc us (MQ below (va_Qv Q (zPost Γ Sh μ0) (zA μ0)) args s mc ms (zA μ0)) (F0 m 64 ls []) := by
  have S := X.1
  obtain ⟨hx, hb, hml, hown, hts⟩ := X.1
  intro n
  induction n with
  | zero =>
    intro x1 uc us μ H locs ls hp
    exact hp.elim
  | succ n ih =>
    intro x1 uc us μ H locs ls hp hcap hB hl
    unfold pX1_init_64 at hp
    refine lv_iload_n hx hb dX1_init_64 rfl (lv_at hl 1 rfl) ?_
    refine lv_bipush (v := (nI 6)) hx hb dX1_init_65 rfl ?_
    refine lv_icmp_ge (tgt := 83) hx hb dX1_init_67 rfl (fun c0 => ?_) (fun c0 => ?_)
    · have hp := zit hp c0
      obtain ⟨ht2, hs, hp⟩ := hp
      obtain ⟨μ1, eμ1, hp⟩ := zpT_e hp
      have hB := hB.tag (Sh' := Sh) (c := 1) (by decide) ht2 (hG.2.2.1 _ _ _ _ hB.2.2.2.2.2.2.1 ht2 hs)
      rw [← eμ1] at hB
      refine W.widen (k := mc) (n := ms) hcap.1 hcap.2 ?_
      exact zret_v X hB hp dX1_init_83
    · have hp := zif hp c0
      refine lv_aload_n hx hb dX1_init_70 rfl (lv_at hl 0 rfl) ?_
      obtain ⟨ht3, hp⟩ := hp
      refine g_get S hB ht3 rfl (T := TX1) (N := 16) (C := RX1) rfl in_X1 3 (by decide) (by decide) q176 (fun _ h9 => h9) (v := va_rf (zR μ s0 3)) rfl dX1_init_71 ?_
      refine lv_iload_n hx hb dX1_init_74 rfl (lv_at hl 1 rfl) ?_
      refine lv_iconst (v := (-1 : Int32)) hx hb dX1_init_75 rfl ?_
      obtain ⟨b4, eb, hp⟩ := hp
      refine W.eq (g2 := F0 m 76 ls [.int (-1 : Int32), .int x1, .ref b4]) (by rw [eb]; rfl) ?_
      obtain ⟨⟨_, ht, hi⟩, hp⟩ := hp
      obtain ⟨μ5, eμ5, hp⟩ := zpI_e hp
      refine g_iast S hB ht hi dX1_init_76 (fun H locs hB => ?_)
      rw [← eμ5] at hB
      refine lv_iinc (v := (x1 + (nI 1))) (lv' := [(1, .int (x1 + (nI 1))), (0, .ref s0)]) hx hb dX1_init_77 hl (k := 1) rfl rfl (by decide) rfl (fun ls hl => ?_)
      refine lv_goto (tgt := 64) hx hb dX1_init_80 rfl ?_
      exact ih (x1 + (nI 1)) (uc) (us) μ5 _ _ _ hp hcap hB (lv_sub hl [1, 0] rfl)
set_option maxRecDepth 100000 in
def pX1_init (z : Nat) (s0 : Nat) (mc ms : Nat) (μ : zM) (Q : zM → Prop) : Prop := (0 + 1 ≤ mc ∧ 0 + 8 ≤ ms ∧ zpN μ (.inr (0, 8)) fun a1 μ2 => (zty μ2 s0 = some (.inl 101) ∧ (zpR μ2 s0 0 (some a1) fun μ5 => (1 + 1 ≤ mc ∧ 8 + 6 ≤ ms ∧ zpN μ5 (.inr (0, 6)) fun a6 μ7 => (zty μ7 s0 = some (.inl 101) ∧ (zpR μ7 s0 1 (some a6) fun μ10 => (2 + 1 ≤ mc ∧ 14 + 6 ≤ ms ∧ zpN μ10 (.inr (0, 6)) fun a11 μ12 => (zty μ12 s0 = some (.inl 101) ∧ (zpR μ12 s0 2 (some a11) fun μ15 => (3 + 1 ≤ mc ∧ 20 + 6 ≤ ms ∧ zpN μ15 (.inr (0, 6)) fun a16 μ17 => (zty μ17 s0 = some (.inl 101) ∧ (zpR μ17 s0 3 (some a16) fun μ20 => (4 + 1 ≤ mc ∧ 26 + 6 ≤ ms ∧ zpN μ20 (.inr (0, 6)) fun a21 μ22 => (zty μ22 s0 = some (.inl 101) ∧ (zpR μ22 s0 4 (some a21) fun μ25 => (zty μ25 s0 = some (.inl 101) ∧ (zpI μ25 s0 9 (nI 100) fun μ27 => (zty μ27 s0 = some (.inl 101) ∧ (zpI μ27 s0 10 (nI 50) fun μ29 => (zty μ29 s0 = some (.inl 101) ∧ (zpI μ29 s0 11 (nI 10) fun μ31 => ∃ k1, pX1_init_64 z s0 mc ms Q k1 (nI 0) (5) (32) μ31)))))))))))))))))))))
theorem hX1_init : yX1_init.cls = "SunkTower$Tower" ∧ yX1_init.cls ≠ "java/lang/invoke/MethodHandle" ∧ yX1_init.cls ≠ "java/lang/invoke/VarHandle" ∧ (parseMethodDescriptor yX1_init.desc).map (fun d => d.parameters.length) = some 0 := by decide +kernel
set_option maxHeartbeats 4000000 in
set_option maxRecDepth 100000 in
theorem mX1_init (l : Launch) (Γ : zG) (Sh : zSh) (z : Nat) (hG : zShOK z Sh) (s0 : Nat) (mc ms : Nat) (μ : zM) (Q : zM → Prop) (hp : pX1_init z s0 mc ms μ Q) : Met l yX1_init (ws_ yX1_init cX1_init 2 none) ({ frames := 1, cells := mc, slots := ms, locals := 28 } : Room) (va_Pc [.ref s0] (zPre Γ Sh μ)) (va_Qv Q (zPost Γ Sh μ) (zA μ)) mc ms (zA μ) := by
  refine zstart (by decide) (Nat.le_of_ble_eq_true rfl) ?_
  intro p e s m below meth c ls X hnm hB hl
  have X : zCx p m c cX1_init 2 s [.ref s0].toArray RX1 meth none := X
  have S := X.1
  obtain ⟨hx, hb, hml, hown, hts⟩ := X.1
  have hl : lv_has ls 2 [(0, .ref s0)] := hl
  unfold pX1_init at hp
  have hcap : 0 ≤ mc ∧ 0 ≤ ms := ⟨Nat.zero_le _, Nat.zero_le _⟩
  refine lv_aload_n hx hb dX1_init_0 rfl (lv_at hl 0 rfl) ?_
  refine W.objInit hx hb hown (hts _ q165) (hts _ q158) (hts _ q159) rfl (by rw [hml]; exact hl.1) rfl dX1_init_1 (Nat.le_of_ble_eq_true rfl) (Nat.le_of_ble_eq_true rfl) ?_
  refine W.eq (g2 := F0 m 4 ls []) rfl ?_
  refine lv_aload_n hx hb dX1_init_4 rfl (lv_at hl 0 rfl) ?_
  refine lv_bipush (v := (nI 8)) hx hb dX1_init_5 rfl ?_
  obtain ⟨hc3a, hc3b, hp⟩ := hp
  obtain ⟨a1, μ2, ea, eμ2, hp⟩ := zpN_e hp
  refine g_newa S hB (kd := 0) (N := 8) (atype := .int) ea rfl q239 rfl (fun _ _ h => h) (zdefa0 8) (by decide) (by decide) (Nat.le_of_ble_eq_true rfl) hc3a hc3b (hG.2.1 _ _ _ _ hB.2.2.2.2.2.2.1 hB.fresh' (fun c e => by cases e; try rfl)) dX1_init_7 (fun H hB => ?_)
  rw [← eμ2] at hB
  have hcap : 1 ≤ mc ∧ 8 ≤ ms := ⟨hc3a, hc3b⟩
  obtain ⟨ht4, hp⟩ := hp
  obtain ⟨μ5, eμ5, hp⟩ := zpR_e hp
  refine W.eq (g2 := F0 m 9 ls [va_rf (some a1), .ref s0]) rfl ?_
  refine g_putFR S hB ht4 rfl (T := TX1) (N := 16) (C := RX1) rfl in_X1 0 (by decide) (by decide) (x := (some a1)) tyX1 tyX1_ok nmX1 q166 (fun _ h9 => h9) rfl hnm rfl (ty := .array .int) (by decide +kernel) (zfits_a _ _) (znar_a _ _) (fun _ _ => rfl) (hG.1 _ _ _ _ _ _ hB.2.2.2.2.2.2.1 ht4 rfl) dX1_init_9 (fun H locs hB => ?_)
  rw [← eμ5] at hB
  refine lv_aload_n hx hb dX1_init_12 rfl (lv_at hl 0 rfl) ?_
  refine lv_bipush (v := (nI 6)) hx hb dX1_init_13 rfl ?_
  obtain ⟨hc8a, hc8b, hp⟩ := hp
  obtain ⟨a6, μ7, ea, eμ7, hp⟩ := zpN_e hp
  refine g_newa S hB (kd := 0) (N := 6) (atype := .int) ea rfl q239 rfl (fun _ _ h => h) (zdefa0 6) (by decide) (by decide) (Nat.le_of_ble_eq_true rfl) hc8a hc8b (hG.2.1 _ _ _ _ hB.2.2.2.2.2.2.1 hB.fresh' (fun c e => by cases e; try rfl)) dX1_init_15 (fun H hB => ?_)
  rw [← eμ7] at hB
  have hcap : 2 ≤ mc ∧ 14 ≤ ms := ⟨hc8a, hc8b⟩
  obtain ⟨ht9, hp⟩ := hp
  obtain ⟨μ10, eμ10, hp⟩ := zpR_e hp
  refine W.eq (g2 := F0 m 17 ls [va_rf (some a6), .ref s0]) rfl ?_
  refine g_putFR S hB ht9 rfl (T := TX1) (N := 16) (C := RX1) rfl in_X1 1 (by decide) (by decide) (x := (some a6)) tyX1 tyX1_ok nmX1 q169 (fun _ h9 => h9) rfl hnm rfl (ty := .array .int) (by decide +kernel) (zfits_a _ _) (znar_a _ _) (fun _ _ => rfl) (hG.1 _ _ _ _ _ _ hB.2.2.2.2.2.2.1 ht9 rfl) dX1_init_17 (fun H locs hB => ?_)
  rw [← eμ10] at hB
  refine lv_aload_n hx hb dX1_init_20 rfl (lv_at hl 0 rfl) ?_
  refine lv_bipush (v := (nI 6)) hx hb dX1_init_21 rfl ?_
  obtain ⟨hc13a, hc13b, hp⟩ := hp
  obtain ⟨a11, μ12, ea, eμ12, hp⟩ := zpN_e hp
  refine g_newa S hB (kd := 0) (N := 6) (atype := .int) ea rfl q239 rfl (fun _ _ h => h) (zdefa0 6) (by decide) (by decide) (Nat.le_of_ble_eq_true rfl) hc13a hc13b (hG.2.1 _ _ _ _ hB.2.2.2.2.2.2.1 hB.fresh' (fun c e => by cases e; try rfl)) dX1_init_23 (fun H hB => ?_)
  rw [← eμ12] at hB
  have hcap : 3 ≤ mc ∧ 20 ≤ ms := ⟨hc13a, hc13b⟩
  obtain ⟨ht14, hp⟩ := hp
  obtain ⟨μ15, eμ15, hp⟩ := zpR_e hp
  refine W.eq (g2 := F0 m 25 ls [va_rf (some a11), .ref s0]) rfl ?_
  refine g_putFR S hB ht14 rfl (T := TX1) (N := 16) (C := RX1) rfl in_X1 2 (by decide) (by decide) (x := (some a11)) tyX1 tyX1_ok nmX1 q172 (fun _ h9 => h9) rfl hnm rfl (ty := .array .int) (by decide +kernel) (zfits_a _ _) (znar_a _ _) (fun _ _ => rfl) (hG.1 _ _ _ _ _ _ hB.2.2.2.2.2.2.1 ht14 rfl) dX1_init_25 (fun H locs hB => ?_)
  rw [← eμ15] at hB
  refine lv_aload_n hx hb dX1_init_28 rfl (lv_at hl 0 rfl) ?_
  refine lv_bipush (v := (nI 6)) hx hb dX1_init_29 rfl ?_
  obtain ⟨hc18a, hc18b, hp⟩ := hp
  obtain ⟨a16, μ17, ea, eμ17, hp⟩ := zpN_e hp
  refine g_newa S hB (kd := 0) (N := 6) (atype := .int) ea rfl q239 rfl (fun _ _ h => h) (zdefa0 6) (by decide) (by decide) (Nat.le_of_ble_eq_true rfl) hc18a hc18b (hG.2.1 _ _ _ _ hB.2.2.2.2.2.2.1 hB.fresh' (fun c e => by cases e; try rfl)) dX1_init_31 (fun H hB => ?_)
  rw [← eμ17] at hB
  have hcap : 4 ≤ mc ∧ 26 ≤ ms := ⟨hc18a, hc18b⟩
  obtain ⟨ht19, hp⟩ := hp
  obtain ⟨μ20, eμ20, hp⟩ := zpR_e hp
  refine W.eq (g2 := F0 m 33 ls [va_rf (some a16), .ref s0]) rfl ?_
  refine g_putFR S hB ht19 rfl (T := TX1) (N := 16) (C := RX1) rfl in_X1 3 (by decide) (by decide) (x := (some a16)) tyX1 tyX1_ok nmX1 q176 (fun _ h9 => h9) rfl hnm rfl (ty := .array .int) (by decide +kernel) (zfits_a _ _) (znar_a _ _) (fun _ _ => rfl) (hG.1 _ _ _ _ _ _ hB.2.2.2.2.2.2.1 ht19 rfl) dX1_init_33 (fun H locs hB => ?_)
  rw [← eμ20] at hB
  refine lv_aload_n hx hb dX1_init_36 rfl (lv_at hl 0 rfl) ?_
  refine lv_bipush (v := (nI 6)) hx hb dX1_init_37 rfl ?_
  obtain ⟨hc23a, hc23b, hp⟩ := hp
  obtain ⟨a21, μ22, ea, eμ22, hp⟩ := zpN_e hp
  refine g_newa S hB (kd := 0) (N := 6) (atype := .int) ea rfl q239 rfl (fun _ _ h => h) (zdefa0 6) (by decide) (by decide) (Nat.le_of_ble_eq_true rfl) hc23a hc23b (hG.2.1 _ _ _ _ hB.2.2.2.2.2.2.1 hB.fresh' (fun c e => by cases e; try rfl)) dX1_init_39 (fun H hB => ?_)
  rw [← eμ22] at hB
  have hcap : 5 ≤ mc ∧ 32 ≤ ms := ⟨hc23a, hc23b⟩
  obtain ⟨ht24, hp⟩ := hp
  obtain ⟨μ25, eμ25, hp⟩ := zpR_e hp
  refine W.eq (g2 := F0 m 41 ls [va_rf (some a21), .ref s0]) rfl ?_
  refine g_putFR S hB ht24 rfl (T := TX1) (N := 16) (C := RX1) rfl in_X1 4 (by decide) (by decide) (x := (some a21)) tyX1 tyX1_ok nmX1 q179 (fun _ h9 => h9) rfl hnm rfl (ty := .array .int) (by decide +kernel) (zfits_a _ _) (znar_a _ _) (fun _ _ => rfl) (hG.1 _ _ _ _ _ _ hB.2.2.2.2.2.2.1 ht24 rfl) dX1_init_41 (fun H locs hB => ?_)
  rw [← eμ25] at hB
  refine lv_aload_n hx hb dX1_init_44 rfl (lv_at hl 0 rfl) ?_
  refine lv_bipush (v := (nI 100)) hx hb dX1_init_45 rfl ?_
  obtain ⟨ht26, hp⟩ := hp
  obtain ⟨μ27, eμ27, hp⟩ := zpI_e hp
  refine g_putI S hB ht26 rfl (T := TX1) (N := 16) (C := RX1) rfl in_X1 9 (by decide) (by decide) (x := (nI 100)) tyX1 tyX1_ok nmX1 q189 (fun _ h9 => h9) rfl (ty := .int) (by decide +kernel) rfl rfl (fun _ _ => rfl) dX1_init_47 (fun H locs hB => ?_)
  rw [← eμ27] at hB
  refine lv_aload_n hx hb dX1_init_50 rfl (lv_at hl 0 rfl) ?_
  refine lv_bipush (v := (nI 50)) hx hb dX1_init_51 rfl ?_
  obtain ⟨ht28, hp⟩ := hp
  obtain ⟨μ29, eμ29, hp⟩ := zpI_e hp
  refine g_putI S hB ht28 rfl (T := TX1) (N := 16) (C := RX1) rfl in_X1 10 (by decide) (by decide) (x := (nI 50)) tyX1 tyX1_ok nmX1 q192 (fun _ h9 => h9) rfl (ty := .int) (by decide +kernel) rfl rfl (fun _ _ => rfl) dX1_init_53 (fun H locs hB => ?_)
  rw [← eμ29] at hB
  refine lv_aload_n hx hb dX1_init_56 rfl (lv_at hl 0 rfl) ?_
  refine lv_bipush (v := (nI 10)) hx hb dX1_init_57 rfl ?_
  obtain ⟨ht30, hp⟩ := hp
  obtain ⟨μ31, eμ31, hp⟩ := zpI_e hp
  refine g_putI S hB ht30 rfl (T := TX1) (N := 16) (C := RX1) rfl in_X1 11 (by decide) (by decide) (x := (nI 10)) tyX1 tyX1_ok nmX1 q195 (fun _ h9 => h9) rfl (ty := .int) (by decide +kernel) rfl rfl (fun _ _ => rfl) dX1_init_59 (fun H locs hB => ?_)
  rw [← eμ31] at hB
  refine lv_iconst (v := (nI 0)) hx hb dX1_init_62 rfl ?_
  refine lv_istore_n (lv' := [(1, .int (nI 0)), (0, .ref s0)]) hx hb dX1_init_63 rfl hl (by decide) rfl (fun ls hl => ?_)
  obtain ⟨n1, hp⟩ := hp
  exact wX1_init_64 X z hG s0 mc ms n1 (nI 0) (5) (32) μ31 _ _ _ hp hcap hB (lv_sub hl [1, 0] rfl)
set_option maxRecDepth 100000 in
def pX2_init (z : Nat) (s0 : Nat) (x1 : Nat) (mc ms : Nat) (μ : zM) (Q : zM → Prop) : Prop := (zty μ s0 = some (.inl 102) ∧ (zpR μ s0 7 (some x1) fun μ2 => (0 + 1 ≤ mc ∧ 0 + 6 ≤ ms ∧ zpN μ2 (.inr (0, 6)) fun a3 μ4 => (zty μ4 s0 = some (.inl 102) ∧ (zpR μ4 s0 0 (some a3) fun μ7 => (1 + 1 ≤ mc ∧ 6 + 6 ≤ ms ∧ zpN μ7 (.inr (0, 6)) fun a8 μ9 => (zty μ9 s0 = some (.inl 102) ∧ (zpR μ9 s0 1 (some a8) fun μ12 => (2 + 1 ≤ mc ∧ 12 + 8 ≤ ms ∧ zpN μ12 (.inr (0, 8)) fun a13 μ14 => (zty μ14 s0 = some (.inl 102) ∧ (zpR μ14 s0 2 (some a13) fun μ17 => (zty μ17 s0 = some (.inl 102) ∧ zShp z 2 (zR μ17) (zty μ17) s0 ∧ zpT μ17 s0 (.inl 2) fun μ18 => Q μ18))))))))))))
theorem hX2_init : yX2_init.cls = "SunkTower$State" ∧ yX2_init.cls ≠ "java/lang/invoke/MethodHandle" ∧ yX2_init.cls ≠ "java/lang/invoke/VarHandle" ∧ (parseMethodDescriptor yX2_init.desc).map (fun d => d.parameters.length) = some 1 := by decide +kernel
set_option maxHeartbeats 4000000 in
set_option maxRecDepth 100000 in
theorem mX2_init (l : Launch) (Γ : zG) (Sh : zSh) (z : Nat) (hG : zShOK z Sh) (s0 : Nat) (x1 : Nat) (mc ms : Nat) (μ : zM) (Q : zM → Prop) (hp : pX2_init z s0 x1 mc ms μ Q) : Met l yX2_init (ws_ yX2_init cX2_init 2 none) ({ frames := 1, cells := mc, slots := ms, locals := 28 } : Room) (va_Pc [.ref s0, .ref x1] (zPre Γ Sh μ)) (va_Qv Q (zPost Γ Sh μ) (zA μ)) mc ms (zA μ) := by
  refine zstart (by decide) (Nat.le_of_ble_eq_true rfl) ?_
  intro p e s m below meth c ls X hnm hB hl
  have X : zCx p m c cX2_init 2 s [.ref s0, .ref x1].toArray RX2 meth none := X
  have S := X.1
  obtain ⟨hx, hb, hml, hown, hts⟩ := X.1
  have hl : lv_has ls 2 [(0, .ref s0), (1, .ref x1)] := hl
  unfold pX2_init at hp
  have hcap : 0 ≤ mc ∧ 0 ≤ ms := ⟨Nat.zero_le _, Nat.zero_le _⟩
  refine lv_aload_n hx hb dX2_init_0 rfl (lv_at hl 0 rfl) ?_
  refine lv_aload_n hx hb dX2_init_1 rfl (lv_at hl 1 rfl) ?_
  obtain ⟨ht1, hp⟩ := hp
  obtain ⟨μ2, eμ2, hp⟩ := zpR_e hp
  refine W.eq (g2 := F0 m 2 ls [va_rf (some x1), .ref s0]) rfl ?_
  refine g_putFR S hB ht1 rfl (T := TX2) (N := 8) (C := RX2) rfl in_X2 7 (by decide) (by decide) (x := (some x1)) tyX2 tyX2_ok nmX2 q260 (fun _ h9 => h9) rfl hnm rfl (ty := .object "SunkTower") (by decide +kernel) (zfits_o _ _) (znar_o _ _) (fun _ _ => rfl) (hG.1 _ _ _ _ _ _ hB.2.2.2.2.2.2.1 ht1 rfl) dX2_init_2 (fun H locs hB => ?_)
  rw [← eμ2] at hB
  refine lv_aload_n hx hb dX2_init_5 rfl (lv_at hl 0 rfl) ?_
  refine W.objInit hx hb hown (hts _ q245) (hts _ q158) (hts _ q159) rfl (by rw [hml]; exact hl.1) rfl dX2_init_6 (Nat.le_of_ble_eq_true rfl) (Nat.le_of_ble_eq_true rfl) ?_
  refine W.eq (g2 := F0 m 9 ls []) rfl ?_
  refine lv_aload_n hx hb dX2_init_9 rfl (lv_at hl 0 rfl) ?_
  refine lv_bipush (v := (nI 6)) hx hb dX2_init_10 rfl ?_
  obtain ⟨hc5a, hc5b, hp⟩ := hp
  obtain ⟨a3, μ4, ea, eμ4, hp⟩ := zpN_e hp
  refine g_newa S hB (kd := 0) (N := 6) (atype := .int) ea rfl q239 rfl (fun _ _ h => h) (zdefa0 6) (by decide) (by decide) (Nat.le_of_ble_eq_true rfl) hc5a hc5b (hG.2.1 _ _ _ _ hB.2.2.2.2.2.2.1 hB.fresh' (fun c e => by cases e; try rfl)) dX2_init_12 (fun H hB => ?_)
  rw [← eμ4] at hB
  have hcap : 1 ≤ mc ∧ 6 ≤ ms := ⟨hc5a, hc5b⟩
  obtain ⟨ht6, hp⟩ := hp
  obtain ⟨μ7, eμ7, hp⟩ := zpR_e hp
  refine W.eq (g2 := F0 m 14 ls [va_rf (some a3), .ref s0]) rfl ?_
  refine g_putFR S hB ht6 rfl (T := TX2) (N := 8) (C := RX2) rfl in_X2 0 (by decide) (by decide) (x := (some a3)) tyX2 tyX2_ok nmX2 q246 (fun _ h9 => h9) rfl hnm rfl (ty := .array .int) (by decide +kernel) (zfits_a _ _) (znar_a _ _) (fun _ _ => rfl) (hG.1 _ _ _ _ _ _ hB.2.2.2.2.2.2.1 ht6 rfl) dX2_init_14 (fun H locs hB => ?_)
  rw [← eμ7] at hB
  refine lv_aload_n hx hb dX2_init_17 rfl (lv_at hl 0 rfl) ?_
  refine lv_bipush (v := (nI 6)) hx hb dX2_init_18 rfl ?_
  obtain ⟨hc10a, hc10b, hp⟩ := hp
  obtain ⟨a8, μ9, ea, eμ9, hp⟩ := zpN_e hp
  refine g_newa S hB (kd := 0) (N := 6) (atype := .int) ea rfl q239 rfl (fun _ _ h => h) (zdefa0 6) (by decide) (by decide) (Nat.le_of_ble_eq_true rfl) hc10a hc10b (hG.2.1 _ _ _ _ hB.2.2.2.2.2.2.1 hB.fresh' (fun c e => by cases e; try rfl)) dX2_init_20 (fun H hB => ?_)
  rw [← eμ9] at hB
  have hcap : 2 ≤ mc ∧ 12 ≤ ms := ⟨hc10a, hc10b⟩
  obtain ⟨ht11, hp⟩ := hp
  obtain ⟨μ12, eμ12, hp⟩ := zpR_e hp
  refine W.eq (g2 := F0 m 22 ls [va_rf (some a8), .ref s0]) rfl ?_
  refine g_putFR S hB ht11 rfl (T := TX2) (N := 8) (C := RX2) rfl in_X2 1 (by decide) (by decide) (x := (some a8)) tyX2 tyX2_ok nmX2 q248 (fun _ h9 => h9) rfl hnm rfl (ty := .array .int) (by decide +kernel) (zfits_a _ _) (znar_a _ _) (fun _ _ => rfl) (hG.1 _ _ _ _ _ _ hB.2.2.2.2.2.2.1 ht11 rfl) dX2_init_22 (fun H locs hB => ?_)
  rw [← eμ12] at hB
  refine lv_aload_n hx hb dX2_init_25 rfl (lv_at hl 0 rfl) ?_
  refine lv_bipush (v := (nI 8)) hx hb dX2_init_26 rfl ?_
  obtain ⟨hc15a, hc15b, hp⟩ := hp
  obtain ⟨a13, μ14, ea, eμ14, hp⟩ := zpN_e hp
  refine g_newa S hB (kd := 0) (N := 8) (atype := .int) ea rfl q239 rfl (fun _ _ h => h) (zdefa0 8) (by decide) (by decide) (Nat.le_of_ble_eq_true rfl) hc15a hc15b (hG.2.1 _ _ _ _ hB.2.2.2.2.2.2.1 hB.fresh' (fun c e => by cases e; try rfl)) dX2_init_28 (fun H hB => ?_)
  rw [← eμ14] at hB
  have hcap : 3 ≤ mc ∧ 20 ≤ ms := ⟨hc15a, hc15b⟩
  obtain ⟨ht16, hp⟩ := hp
  obtain ⟨μ17, eμ17, hp⟩ := zpR_e hp
  refine W.eq (g2 := F0 m 30 ls [va_rf (some a13), .ref s0]) rfl ?_
  refine g_putFR S hB ht16 rfl (T := TX2) (N := 8) (C := RX2) rfl in_X2 2 (by decide) (by decide) (x := (some a13)) tyX2 tyX2_ok nmX2 q250 (fun _ h9 => h9) rfl hnm rfl (ty := .array .int) (by decide +kernel) (zfits_a _ _) (znar_a _ _) (fun _ _ => rfl) (hG.1 _ _ _ _ _ _ hB.2.2.2.2.2.2.1 ht16 rfl) dX2_init_30 (fun H locs hB => ?_)
  rw [← eμ17] at hB
  obtain ⟨ht19, hs, hp⟩ := hp
  obtain ⟨μ18, eμ18, hp⟩ := zpT_e hp
  have hB := hB.tag (Sh' := Sh) (c := 2) (by decide) ht19 (hG.2.2.1 _ _ _ _ hB.2.2.2.2.2.2.1 ht19 hs)
  rw [← eμ18] at hB
  refine W.widen (k := mc) (n := ms) hcap.1 hcap.2 ?_
  exact zret_v X hB hp dX2_init_33
set_option maxRecDepth 100000 in
def pX3_init (z : Nat) (s0 : Nat) (μ : zM) (Q : zM → Prop) : Prop := zty μ s0 = some (.inl 3) ∧ Q μ
theorem tX3_init {z : Nat} {s0 : Nat} {μ : zM} {Q : zM → Prop} (h : pX3_init z s0 μ Q) : zty μ s0 = some (.inl 3) := h.1
theorem hX3_init : yX3_init.cls = "SunkTower$Numbers" ∧ yX3_init.cls ≠ "java/lang/invoke/MethodHandle" ∧ yX3_init.cls ≠ "java/lang/invoke/VarHandle" ∧ (parseMethodDescriptor yX3_init.desc).map (fun d => d.parameters.length) = some 0 := by decide +kernel
set_option maxHeartbeats 4000000 in
set_option maxRecDepth 100000 in
theorem mX3_init (l : Launch) (Γ : zG) (Sh : zSh) (z : Nat) (hG : zShOK z Sh) (s0 : Nat) (μ : zM) (Q : zM → Prop) (hp : pX3_init z s0 μ Q) : Met l yX3_init (ws_ yX3_init cX3_init 1 none) ({ frames := 1, cells := 0, slots := 0, locals := 28 } : Room) (va_Pc [.ref s0] (zPre Γ Sh μ)) (va_Qv Q (zPost Γ Sh μ) (zA μ)) 0 0 (zA μ) := by
  refine zstart (by decide) (Nat.le_of_ble_eq_true rfl) ?_
  intro p e s m below meth c ls X hnm hB hl
  have X : zCx p m c cX3_init 1 s [.ref s0].toArray RX3 meth none := X
  have S := X.1
  obtain ⟨hx, hb, hml, hown, hts⟩ := X.1
  have hl : lv_has ls 1 [(0, .ref s0)] := hl
  obtain ⟨ht_s0, hp⟩ := hp
  refine lv_aload_n hx hb dX3_init_0 rfl (lv_at hl 0 rfl) ?_
  refine W.objInit hx hb hown (hts _ q287) (hts _ q158) (hts _ q159) rfl (by rw [hml]; exact hl.1) rfl dX3_init_1 (Nat.le_of_ble_eq_true rfl) (Nat.le_of_ble_eq_true rfl) ?_
  refine W.eq (g2 := F0 m 4 ls []) rfl ?_
  exact zret_v X hB hp dX3_init_4
set_option maxRecDepth 100000 in
def pX5_init (z : Nat) (s0 : Nat) (x1 : Nat) (x2 : Int32) (mc ms : Nat) (μ : zM) (Q : zM → Prop) : Prop := (zty μ s0 = some (.inl 105) ∧ (zpR μ s0 10 (some x1) fun μ2 => (0 + 1 ≤ mc ∧ 0 + 16 ≤ ms ∧ zpN μ2 (.inl 101) fun a3 μ4 => (∃ m6 m7, 1 + m6 ≤ mc ∧ 16 + m7 ≤ ms ∧ pX1_init z a3 m6 m7 μ4 fun μ9 => (zty μ9 s0 = some (.inl 105) ∧ (zpR μ9 s0 1 (some a3) fun μ11 => (zty μ11 s0 = some (.inl 105) ∧ (zpI μ11 s0 8 (-1 : Int32) fun μ13 => (zty μ13 s0 = some (.inl 105) ∧ (zpI μ13 s0 0 x2 fun μ15 => (zty μ15 s0 = some (.inl 105) ∧ zShp z 5 (zR μ15) (zty μ15) s0 ∧ zpT μ15 s0 (.inl 5) fun μ16 => Q μ16)))))))))))
theorem hX5_init : yX5_init.cls = "SunkTower$Reader" ∧ yX5_init.cls ≠ "java/lang/invoke/MethodHandle" ∧ yX5_init.cls ≠ "java/lang/invoke/VarHandle" ∧ (parseMethodDescriptor yX5_init.desc).map (fun d => d.parameters.length) = some 2 := by decide +kernel
set_option maxHeartbeats 4000000 in
set_option maxRecDepth 100000 in
theorem mX5_init (l : Launch) (Γ : zG) (z : Nat) (s0 : Nat) (x1 : Nat) (x2 : Int32) (mc ms : Nat) (μ : zM) (Q : zM → Prop) (hp : pX5_init z s0 x1 x2 mc ms μ Q) : Met l yX5_init (ws_ yX5_init cX5_init 3 none) ({ frames := 2, cells := mc, slots := ms, locals := 49 } : Room) (va_Pc [.ref s0, .ref x1, .int x2] (zPre Γ (cSh z) μ)) (va_Qv Q (zPost Γ (cSh z) μ) (zA μ)) mc ms (zA μ) := by
  refine zstart (by decide) (Nat.le_of_ble_eq_true rfl) ?_
  intro p e s m below meth c ls X hnm hB hl
  have X : zCx p m c cX5_init 3 s [.ref s0, .ref x1, .int x2].toArray RX5 meth none := X
  have S := X.1
  obtain ⟨hx, hb, hml, hown, hts⟩ := X.1
  have hl : lv_has ls 3 [(0, .ref s0), (1, .ref x1), (2, .int x2)] := hl
  unfold pX5_init at hp
  have hcap : 0 ≤ mc ∧ 0 ≤ ms := ⟨Nat.zero_le _, Nat.zero_le _⟩
  refine lv_aload_n hx hb dX5_init_0 rfl (lv_at hl 0 rfl) ?_
  refine lv_aload_n hx hb dX5_init_1 rfl (lv_at hl 1 rfl) ?_
  obtain ⟨ht1, hp⟩ := hp
  obtain ⟨μ2, eμ2, hp⟩ := zpR_e hp
  refine W.eq (g2 := F0 m 2 ls [va_rf (some x1), .ref s0]) rfl ?_
  refine g_putFR S hB ht1 rfl (T := TX5) (N := 11) (C := RX5) rfl in_X5 10 (by decide) (by decide) (x := (some x1)) tyX5 tyX5_ok nmX5 q442 (fun _ h9 => h9) rfl hnm rfl (ty := .object "SunkTower") (by decide +kernel) (zfits_o _ _) (znar_o _ _) (fun _ _ => rfl) (cSh_ok.1 _ _ _ _ _ _ hB.2.2.2.2.2.2.1 ht1 rfl) dX5_init_2 (fun H locs hB => ?_)
  rw [← eμ2] at hB
  refine lv_aload_n hx hb dX5_init_5 rfl (lv_at hl 0 rfl) ?_
  refine W.objInit hx hb hown (hts _ q426) (hts _ q158) (hts _ q159) rfl (by rw [hml]; exact hl.1) rfl dX5_init_6 (Nat.le_of_ble_eq_true rfl) (Nat.le_of_ble_eq_true rfl) ?_
  refine W.eq (g2 := F0 m 9 ls []) rfl ?_
  refine lv_aload_n hx hb dX5_init_9 rfl (lv_at hl 0 rfl) ?_
  obtain ⟨hc5a, hc5b, hp⟩ := hp
  obtain ⟨a3, μ4, ea, eμ4, hp⟩ := zpN_e hp
  refine g_new S hB (ci := 101) ea rfl (T := TX1) (N := 16) (C := RX1) rfl in_X1 tyX1 tyX1_ok rfl zdefX1 q427 q161 q128 hc5a hc5b (cSh_ok.2.1 _ _ _ _ hB.2.2.2.2.2.2.1 hB.fresh' (fun c e => by cases e; try rfl)) dX5_init_10 (fun H hB => ?_)
  rw [← eμ4] at hB
  have hcap : 1 ≤ mc ∧ 16 ≤ ms := ⟨hc5a, hc5b⟩
  refine lv_dup hx hb dX5_init_13 rfl ?_
  obtain ⟨m6, m7, hc8a, hc8b, hp⟩ := hp
  refine z_callv (va_runI (As := []) (rest := [.ref a3, .ref s0]) S (mX1_init l Γ (cSh z) z cSh_ok a3 m6 m7 μ4 _ hp) (cwI 0 hts (lw_meth q164) rfl rfl rfl (hts _ q128) (hts _ q428) (hts _ q163) rfl hX1_init.2 ⟨Nat.le_of_ble_eq_true rfl, Nat.le_of_ble_eq_true rfl⟩) hB.preS rfl rfl hl.1 rfl (lv_room (Nat.le_of_ble_eq_true rfl)) dX5_init_14 ⟨hc8a, hc8b⟩) hB (fun μ9 H locs hp hB => ?_)
  have hcap : 1 + m6 ≤ mc ∧ 16 + m7 ≤ ms := ⟨hc8a, hc8b⟩
  obtain ⟨ht10, hp⟩ := hp
  obtain ⟨μ11, eμ11, hp⟩ := zpR_e hp
  refine W.eq (g2 := F0 m 17 ls [va_rf (some a3), .ref s0]) rfl ?_
  refine g_putFR S hB ht10 rfl (T := TX5) (N := 11) (C := RX5) rfl in_X5 1 (by decide) (by decide) (x := (some a3)) tyX5 tyX5_ok nmX5 q430 (fun _ h9 => h9) rfl hnm rfl (ty := .object "SunkTower$Tower") (by decide +kernel) (zfits_o _ _) (znar_o _ _) (fun _ _ => rfl) (cSh_ok.1 _ _ _ _ _ _ hB.2.2.2.2.2.2.1 ht10 rfl) dX5_init_17 (fun H locs hB => ?_)
  rw [← eμ11] at hB
  refine lv_aload_n hx hb dX5_init_20 rfl (lv_at hl 0 rfl) ?_
  refine lv_iconst (v := (-1 : Int32)) hx hb dX5_init_21 rfl ?_
  obtain ⟨ht12, hp⟩ := hp
  obtain ⟨μ13, eμ13, hp⟩ := zpI_e hp
  refine g_putI S hB ht12 rfl (T := TX5) (N := 11) (C := RX5) rfl in_X5 8 (by decide) (by decide) (x := (-1 : Int32)) tyX5 tyX5_ok nmX5 q439 (fun _ h9 => h9) rfl (ty := .int) (by decide +kernel) rfl rfl (fun _ _ => rfl) dX5_init_22 (fun H locs hB => ?_)
  rw [← eμ13] at hB
  refine lv_aload_n hx hb dX5_init_25 rfl (lv_at hl 0 rfl) ?_
  refine lv_iload_n hx hb dX5_init_26 rfl (lv_at hl 2 rfl) ?_
  obtain ⟨ht14, hp⟩ := hp
  obtain ⟨μ15, eμ15, hp⟩ := zpI_e hp
  refine g_putFI S hB ht14 rfl (T := TX5) (N := 11) (C := RX5) rfl in_X5 0 (by decide) (by decide) (x := x2) tyX5 tyX5_ok nmX5 q429 (fun _ h9 => h9) rfl hnm rfl (ty := .int) (by decide +kernel) rfl rfl (fun _ _ => rfl) dX5_init_27 (fun H locs hB => ?_)
  rw [← eμ15] at hB
  obtain ⟨ht17, hs, hp⟩ := hp
  obtain ⟨μ16, eμ16, hp⟩ := zpT_e hp
  have hB := hB.tag (Sh' := (cSh z)) (c := 5) (by decide) ht17 (cSh_ok.2.2.1 _ _ _ _ hB.2.2.2.2.2.2.1 ht17 hs)
  rw [← eμ16] at hB
  refine W.widen (k := mc) (n := ms) hcap.1 hcap.2 ?_
  exact zret_v X hB hp dX5_init_30
set_option maxRecDepth 100000 in
def pX6_init (z : Nat) (s0 : Nat) (μ : zM) (Q : zM → Prop) : Prop := Q μ
theorem hX6_init : yX6_init.cls = "SunkTower$Sum" ∧ yX6_init.cls ≠ "java/lang/invoke/MethodHandle" ∧ yX6_init.cls ≠ "java/lang/invoke/VarHandle" ∧ (parseMethodDescriptor yX6_init.desc).map (fun d => d.parameters.length) = some 0 := by decide +kernel
set_option maxHeartbeats 4000000 in
set_option maxRecDepth 100000 in
theorem mX6_init (l : Launch) (Γ : zG) (Sh : zSh) (z : Nat) (hG : zShOK z Sh) (s0 : Nat) (μ : zM) (Q : zM → Prop) (hp : pX6_init z s0 μ Q) : Met l yX6_init (ws_ yX6_init cX6_init 1 none) ({ frames := 1, cells := 0, slots := 0, locals := 28 } : Room) (va_Pc [.ref s0] (zPre Γ Sh μ)) (va_Qv Q (zPost Γ Sh μ) (zA μ)) 0 0 (zA μ) := by
  refine zstart (by decide) (Nat.le_of_ble_eq_true rfl) ?_
  intro p e s m below meth c ls X hnm hB hl
  have X : zCx p m c cX6_init 1 s [.ref s0].toArray RX6 meth none := X
  have S := X.1
  obtain ⟨hx, hb, hml, hown, hts⟩ := X.1
  have hl : lv_has ls 1 [(0, .ref s0)] := hl
  unfold pX6_init at hp
  refine lv_aload_n hx hb dX6_init_0 rfl (lv_at hl 0 rfl) ?_
  refine W.objInit hx hb hown (hts _ q688) (hts _ q158) (hts _ q159) rfl (by rw [hml]; exact hl.1) rfl dX6_init_1 (Nat.le_of_ble_eq_true rfl) (Nat.le_of_ble_eq_true rfl) ?_
  refine W.eq (g2 := F0 m 4 ls []) rfl ?_
  exact zret_v X hB hp dX6_init_4
set_option maxRecDepth 100000 in
def pX0_init (z : Nat) (mc ms : Nat) (μ : zM) (Q : zM → Prop) : Prop := (0 + 1 ≤ mc ∧ 0 + 16 ≤ ms ∧ zpN μ (.inl 101) fun a1 μ2 => (∃ m4 m5, 1 + m4 ≤ mc ∧ 16 + m5 ≤ ms ∧ pX1_init z a1 m4 m5 μ2 fun μ7 => (zty μ7 z = some (.inl 100) ∧ (zpR μ7 z 0 (some a1) fun μ9 => (1 + m4 + 1 ≤ mc ∧ 16 + m5 + 8 ≤ ms ∧ zpN μ9 (.inl 102) fun a10 μ11 => (∃ m13 m14, 1 + m4 + 1 + m13 ≤ mc ∧ 16 + m5 + 8 + m14 ≤ ms ∧ pX2_init z a10 z m13 m14 μ11 fun μ16 => (zty μ16 z = some (.inl 100) ∧ (zpR μ16 z 1 (some a10) fun μ18 => (1 + m4 + 1 + m13 + 1 ≤ mc ∧ 16 + m5 + 8 + m14 + 8 ≤ ms ∧ zpN μ18 (.inl 102) fun a19 μ20 => (∃ m22 m23, 1 + m4 + 1 + m13 + 1 + m22 ≤ mc ∧ 16 + m5 + 8 + m14 + 8 + m23 ≤ ms ∧ pX2_init z a19 z m22 m23 μ20 fun μ25 => (zty μ25 z = some (.inl 100) ∧ (zpR μ25 z 2 (some a19) fun μ27 => (1 + m4 + 1 + m13 + 1 + m22 + 1 ≤ mc ∧ 16 + m5 + 8 + m14 + 8 + m23 + 900 ≤ ms ∧ zpN μ27 (.inr (1, 900)) fun a28 μ29 => (zty μ29 z = some (.inl 100) ∧ (zpR μ29 z 3 (some a28) fun μ32 => (zty μ32 z = some (.inl 100) ∧ (zpI μ32 z 6 (-1 : Int32) fun μ34 => (1 + m4 + 1 + m13 + 1 + m22 + 1 + 1 ≤ mc ∧ 16 + m5 + 8 + m14 + 8 + m23 + 900 + 10 ≤ ms ∧ zpN μ34 (.inr (5, 10)) fun a35 μ36 => (1 + m4 + 1 + m13 + 1 + m22 + 2 + 1 ≤ mc ∧ 16 + m5 + 8 + m14 + 8 + m23 + 910 + 8 ≤ ms ∧ zpN μ36 (.inl 102) fun a38 μ39 => (∃ m41 m42, 1 + m4 + 1 + m13 + 1 + m22 + 3 + m41 ≤ mc ∧ 16 + m5 + 8 + m14 + 8 + m23 + 918 + m42 ≤ ms ∧ pX2_init z a38 z m41 m42 μ39 fun μ44 => (zty μ44 a38 = some (.inl 2) ∧ (zia μ44 a35 5 (nI 0) ∧ zpR μ44 a35 (nI 0).toNatClampNeg (some a38) fun μ46 => (1 + m4 + 1 + m13 + 1 + m22 + 3 + m41 + 1 ≤ mc ∧ 16 + m5 + 8 + m14 + 8 + m23 + 918 + m42 + 8 ≤ ms ∧ zpN μ46 (.inl 102) fun a47 μ48 => (∃ m50 m51, 1 + m4 + 1 + m13 + 1 + m22 + 3 + m41 + 1 + m50 ≤ mc ∧ 16 + m5 + 8 + m14 + 8 + m23 + 918 + m42 + 8 + m51 ≤ ms ∧ pX2_init z a47 z m50 m51 μ48 fun μ53 => (zty μ53 a47 = some (.inl 2) ∧ (zia μ53 a35 5 (nI 1) ∧ zpR μ53 a35 (nI 1).toNatClampNeg (some a47) fun μ55 => (1 + m4 + 1 + m13 + 1 + m22 + 3 + m41 + 1 + m50 + 1 ≤ mc ∧ 16 + m5 + 8 + m14 + 8 + m23 + 918 + m42 + 8 + m51 + 8 ≤ ms ∧ zpN μ55 (.inl 102) fun a56 μ57 => (∃ m59 m60, 1 + m4 + 1 + m13 + 1 + m22 + 3 + m41 + 1 + m50 + 1 + m59 ≤ mc ∧ 16 + m5 + 8 + m14 + 8 + m23 + 918 + m42 + 8 + m51 + 8 + m60 ≤ ms ∧ pX2_init z a56 z m59 m60 μ57 fun μ62 => (zty μ62 a56 = some (.inl 2) ∧ (zia μ62 a35 5 (nI 2) ∧ zpR μ62 a35 (nI 2).toNatClampNeg (some a56) fun μ64 => (1 + m4 + 1 + m13 + 1 + m22 + 3 + m41 + 1 + m50 + 1 + m59 + 1 ≤ mc ∧ 16 + m5 + 8 + m14 + 8 + m23 + 918 + m42 + 8 + m51 + 8 + m60 + 8 ≤ ms ∧ zpN μ64 (.inl 102) fun a65 μ66 => (∃ m68 m69, 1 + m4 + 1 + m13 + 1 + m22 + 3 + m41 + 1 + m50 + 1 + m59 + 1 + m68 ≤ mc ∧ 16 + m5 + 8 + m14 + 8 + m23 + 918 + m42 + 8 + m51 + 8 + m60 + 8 + m69 ≤ ms ∧ pX2_init z a65 z m68 m69 μ66 fun μ71 => (zty μ71 a65 = some (.inl 2) ∧ (zia μ71 a35 5 (nI 3) ∧ zpR μ71 a35 (nI 3).toNatClampNeg (some a65) fun μ73 => (1 + m4 + 1 + m13 + 1 + m22 + 3 + m41 + 1 + m50 + 1 + m59 + 1 + m68 + 1 ≤ mc ∧ 16 + m5 + 8 + m14 + 8 + m23 + 918 + m42 + 8 + m51 + 8 + m60 + 8 + m69 + 8 ≤ ms ∧ zpN μ73 (.inl 102) fun a74 μ75 => (∃ m77 m78, 1 + m4 + 1 + m13 + 1 + m22 + 3 + m41 + 1 + m50 + 1 + m59 + 1 + m68 + 1 + m77 ≤ mc ∧ 16 + m5 + 8 + m14 + 8 + m23 + 918 + m42 + 8 + m51 + 8 + m60 + 8 + m69 + 8 + m78 ≤ ms ∧ pX2_init z a74 z m77 m78 μ75 fun μ80 => (zty μ80 a74 = some (.inl 2) ∧ (zia μ80 a35 5 (nI 4) ∧ zpR μ80 a35 (nI 4).toNatClampNeg (some a74) fun μ82 => (1 + m4 + 1 + m13 + 1 + m22 + 3 + m41 + 1 + m50 + 1 + m59 + 1 + m68 + 1 + m77 + 1 ≤ mc ∧ 16 + m5 + 8 + m14 + 8 + m23 + 918 + m42 + 8 + m51 + 8 + m60 + 8 + m69 + 8 + m78 + 8 ≤ ms ∧ zpN μ82 (.inl 102) fun a83 μ84 => (∃ m86 m87, 1 + m4 + 1 + m13 + 1 + m22 + 3 + m41 + 1 + m50 + 1 + m59 + 1 + m68 + 1 + m77 + 1 + m86 ≤ mc ∧ 16 + m5 + 8 + m14 + 8 + m23 + 918 + m42 + 8 + m51 + 8 + m60 + 8 + m69 + 8 + m78 + 8 + m87 ≤ ms ∧ pX2_init z a83 z m86 m87 μ84 fun μ89 => (zty μ89 a83 = some (.inl 2) ∧ (zia μ89 a35 5 (nI 5) ∧ zpR μ89 a35 (nI 5).toNatClampNeg (some a83) fun μ91 => (1 + m4 + 1 + m13 + 1 + m22 + 3 + m41 + 1 + m50 + 1 + m59 + 1 + m68 + 1 + m77 + 1 + m86 + 1 ≤ mc ∧ 16 + m5 + 8 + m14 + 8 + m23 + 918 + m42 + 8 + m51 + 8 + m60 + 8 + m69 + 8 + m78 + 8 + m87 + 8 ≤ ms ∧ zpN μ91 (.inl 102) fun a92 μ93 => (∃ m95 m96, 1 + m4 + 1 + m13 + 1 + m22 + 3 + m41 + 1 + m50 + 1 + m59 + 1 + m68 + 1 + m77 + 1 + m86 + 1 + m95 ≤ mc ∧ 16 + m5 + 8 + m14 + 8 + m23 + 918 + m42 + 8 + m51 + 8 + m60 + 8 + m69 + 8 + m78 + 8 + m87 + 8 + m96 ≤ ms ∧ pX2_init z a92 z m95 m96 μ93 fun μ98 => (zty μ98 a92 = some (.inl 2) ∧ (zia μ98 a35 5 (nI 6) ∧ zpR μ98 a35 (nI 6).toNatClampNeg (some a92) fun μ100 => (1 + m4 + 1 + m13 + 1 + m22 + 3 + m41 + 1 + m50 + 1 + m59 + 1 + m68 + 1 + m77 + 1 + m86 + 1 + m95 + 1 ≤ mc ∧ 16 + m5 + 8 + m14 + 8 + m23 + 918 + m42 + 8 + m51 + 8 + m60 + 8 + m69 + 8 + m78 + 8 + m87 + 8 + m96 + 8 ≤ ms ∧ zpN μ100 (.inl 102) fun a101 μ102 => (∃ m104 m105, 1 + m4 + 1 + m13 + 1 + m22 + 3 + m41 + 1 + m50 + 1 + m59 + 1 + m68 + 1 + m77 + 1 + m86 + 1 + m95 + 1 + m104 ≤ mc ∧ 16 + m5 + 8 + m14 + 8 + m23 + 918 + m42 + 8 + m51 + 8 + m60 + 8 + m69 + 8 + m78 + 8 + m87 + 8 + m96 + 8 + m105 ≤ ms ∧ pX2_init z a101 z m104 m105 μ102 fun μ107 => (zty μ107 a101 = some (.inl 2) ∧ (zia μ107 a35 5 (nI 7) ∧ zpR μ107 a35 (nI 7).toNatClampNeg (some a101) fun μ109 => (1 + m4 + 1 + m13 + 1 + m22 + 3 + m41 + 1 + m50 + 1 + m59 + 1 + m68 + 1 + m77 + 1 + m86 + 1 + m95 + 1 + m104 + 1 ≤ mc ∧ 16 + m5 + 8 + m14 + 8 + m23 + 918 + m42 + 8 + m51 + 8 + m60 + 8 + m69 + 8 + m78 + 8 + m87 + 8 + m96 + 8 + m105 + 8 ≤ ms ∧ zpN μ109 (.inl 102) fun a110 μ111 => (∃ m113 m114, 1 + m4 + 1 + m13 + 1 + m22 + 3 + m41 + 1 + m50 + 1 + m59 + 1 + m68 + 1 + m77 + 1 + m86 + 1 + m95 + 1 + m104 + 1 + m113 ≤ mc ∧ 16 + m5 + 8 + m14 + 8 + m23 + 918 + m42 + 8 + m51 + 8 + m60 + 8 + m69 + 8 + m78 + 8 + m87 + 8 + m96 + 8 + m105 + 8 + m114 ≤ ms ∧ pX2_init z a110 z m113 m114 μ111 fun μ116 => (zty μ116 a110 = some (.inl 2) ∧ (zia μ116 a35 5 (nI 8) ∧ zpR μ116 a35 (nI 8).toNatClampNeg (some a110) fun μ118 => (1 + m4 + 1 + m13 + 1 + m22 + 3 + m41 + 1 + m50 + 1 + m59 + 1 + m68 + 1 + m77 + 1 + m86 + 1 + m95 + 1 + m104 + 1 + m113 + 1 ≤ mc ∧ 16 + m5 + 8 + m14 + 8 + m23 + 918 + m42 + 8 + m51 + 8 + m60 + 8 + m69 + 8 + m78 + 8 + m87 + 8 + m96 + 8 + m105 + 8 + m114 + 8 ≤ ms ∧ zpN μ118 (.inl 102) fun a119 μ120 => (∃ m122 m123, 1 + m4 + 1 + m13 + 1 + m22 + 3 + m41 + 1 + m50 + 1 + m59 + 1 + m68 + 1 + m77 + 1 + m86 + 1 + m95 + 1 + m104 + 1 + m113 + 1 + m122 ≤ mc ∧ 16 + m5 + 8 + m14 + 8 + m23 + 918 + m42 + 8 + m51 + 8 + m60 + 8 + m69 + 8 + m78 + 8 + m87 + 8 + m96 + 8 + m105 + 8 + m114 + 8 + m123 ≤ ms ∧ pX2_init z a119 z m122 m123 μ120 fun μ125 => (zty μ125 a119 = some (.inl 2) ∧ (zia μ125 a35 5 (nI 9) ∧ zpR μ125 a35 (nI 9).toNatClampNeg (some a119) fun μ127 => (zty μ127 z = some (.inl 100) ∧ (zpR μ127 z 7 (some a35) fun μ129 => (1 + m4 + 1 + m13 + 1 + m22 + 3 + m41 + 1 + m50 + 1 + m59 + 1 + m68 + 1 + m77 + 1 + m86 + 1 + m95 + 1 + m104 + 1 + m113 + 1 + m122 + 1 ≤ mc ∧ 16 + m5 + 8 + m14 + 8 + m23 + 918 + m42 + 8 + m51 + 8 + m60 + 8 + m69 + 8 + m78 + 8 + m87 + 8 + m96 + 8 + m105 + 8 + m114 + 8 + m123 + 6 ≤ ms ∧ zpN μ129 (.inr (0, 6)) fun a130 μ131 => (zty μ131 z = some (.inl 100) ∧ (zpR μ131 z 11 (some a130) fun μ134 => (1 + m4 + 1 + m13 + 1 + m22 + 3 + m41 + 1 + m50 + 1 + m59 + 1 + m68 + 1 + m77 + 1 + m86 + 1 + m95 + 1 + m104 + 1 + m113 + 1 + m122 + 1 + 1 ≤ mc ∧ 16 + m5 + 8 + m14 + 8 + m23 + 918 + m42 + 8 + m51 + 8 + m60 + 8 + m69 + 8 + m78 + 8 + m87 + 8 + m96 + 8 + m105 + 8 + m114 + 8 + m123 + 6 + 6 ≤ ms ∧ zpN μ134 (.inr (0, 6)) fun a135 μ136 => (zty μ136 z = some (.inl 100) ∧ (zpR μ136 z 12 (some a135) fun μ139 => (1 + m4 + 1 + m13 + 1 + m22 + 3 + m41 + 1 + m50 + 1 + m59 + 1 + m68 + 1 + m77 + 1 + m86 + 1 + m95 + 1 + m104 + 1 + m113 + 1 + m122 + 2 + 1 ≤ mc ∧ 16 + m5 + 8 + m14 + 8 + m23 + 918 + m42 + 8 + m51 + 8 + m60 + 8 + m69 + 8 + m78 + 8 + m87 + 8 + m96 + 8 + m105 + 8 + m114 + 8 + m123 + 12 + 54 ≤ ms ∧ zpN μ139 (.inr (3, 54)) fun a140 μ141 => (zty μ141 z = some (.inl 100) ∧ (zpR μ141 z 14 (some a140) fun μ144 => (1 + m4 + 1 + m13 + 1 + m22 + 3 + m41 + 1 + m50 + 1 + m59 + 1 + m68 + 1 + m77 + 1 + m86 + 1 + m95 + 1 + m104 + 1 + m113 + 1 + m122 + 3 + 1 ≤ mc ∧ 16 + m5 + 8 + m14 + 8 + m23 + 918 + m42 + 8 + m51 + 8 + m60 + 8 + m69 + 8 + m78 + 8 + m87 + 8 + m96 + 8 + m105 + 8 + m114 + 8 + m123 + 66 + 54 ≤ ms ∧ zpN μ144 (.inr (3, 54)) fun a145 μ146 => (zty μ146 z = some (.inl 100) ∧ (zpR μ146 z 15 (some a145) fun μ149 => (1 + m4 + 1 + m13 + 1 + m22 + 3 + m41 + 1 + m50 + 1 + m59 + 1 + m68 + 1 + m77 + 1 + m86 + 1 + m95 + 1 + m104 + 1 + m113 + 1 + m122 + 4 + 1 ≤ mc ∧ 16 + m5 + 8 + m14 + 8 + m23 + 918 + m42 + 8 + m51 + 8 + m60 + 8 + m69 + 8 + m78 + 8 + m87 + 8 + m96 + 8 + m105 + 8 + m114 + 8 + m123 + 120 + 5 ≤ ms ∧ zpN μ149 (.inr (0, 5)) fun a150 μ151 => (zty μ151 z = some (.inl 100) ∧ (zpR μ151 z 16 (some a150) fun μ154 => (1 + m4 + 1 + m13 + 1 + m22 + 3 + m41 + 1 + m50 + 1 + m59 + 1 + m68 + 1 + m77 + 1 + m86 + 1 + m95 + 1 + m104 + 1 + m113 + 1 + m122 + 5 + 1 ≤ mc ∧ 16 + m5 + 8 + m14 + 8 + m23 + 918 + m42 + 8 + m51 + 8 + m60 + 8 + m69 + 8 + m78 + 8 + m87 + 8 + m96 + 8 + m105 + 8 + m114 + 8 + m123 + 125 + 5 ≤ ms ∧ zpN μ154 (.inr (0, 5)) fun a155 μ156 => (zty μ156 z = some (.inl 100) ∧ (zpR μ156 z 17 (some a155) fun μ159 => (1 + m4 + 1 + m13 + 1 + m22 + 3 + m41 + 1 + m50 + 1 + m59 + 1 + m68 + 1 + m77 + 1 + m86 + 1 + m95 + 1 + m104 + 1 + m113 + 1 + m122 + 6 + 1 ≤ mc ∧ 16 + m5 + 8 + m14 + 8 + m23 + 918 + m42 + 8 + m51 + 8 + m60 + 8 + m69 + 8 + m78 + 8 + m87 + 8 + m96 + 8 + m105 + 8 + m114 + 8 + m123 + 130 + 3 ≤ ms ∧ zpN μ159 (.inr (0, 3)) fun a160 μ161 => (zty μ161 z = some (.inl 100) ∧ (zpR μ161 z 20 (some a160) fun μ164 => (1 + m4 + 1 + m13 + 1 + m22 + 3 + m41 + 1 + m50 + 1 + m59 + 1 + m68 + 1 + m77 + 1 + m86 + 1 + m95 + 1 + m104 + 1 + m113 + 1 + m122 + 7 + 1 ≤ mc ∧ 16 + m5 + 8 + m14 + 8 + m23 + 918 + m42 + 8 + m51 + 8 + m60 + 8 + m69 + 8 + m78 + 8 + m87 + 8 + m96 + 8 + m105 + 8 + m114 + 8 + m123 + 133 + 3 ≤ ms ∧ zpN μ164 (.inr (0, 3)) fun a165 μ166 => (zty μ166 z = some (.inl 100) ∧ (zpR μ166 z 21 (some a165) fun μ169 => (1 + m4 + 1 + m13 + 1 + m22 + 3 + m41 + 1 + m50 + 1 + m59 + 1 + m68 + 1 + m77 + 1 + m86 + 1 + m95 + 1 + m104 + 1 + m113 + 1 + m122 + 8 + 1 ≤ mc ∧ 16 + m5 + 8 + m14 + 8 + m23 + 918 + m42 + 8 + m51 + 8 + m60 + 8 + m69 + 8 + m78 + 8 + m87 + 8 + m96 + 8 + m105 + 8 + m114 + 8 + m123 + 136 + 61 ≤ ms ∧ zpN μ169 (.inr (0, 61)) fun a170 μ171 => (zty μ171 z = some (.inl 100) ∧ (zpR μ171 z 25 (some a170) fun μ174 => (1 + m4 + 1 + m13 + 1 + m22 + 3 + m41 + 1 + m50 + 1 + m59 + 1 + m68 + 1 + m77 + 1 + m86 + 1 + m95 + 1 + m104 + 1 + m113 + 1 + m122 + 9 + 1 ≤ mc ∧ 16 + m5 + 8 + m14 + 8 + m23 + 918 + m42 + 8 + m51 + 8 + m60 + 8 + m69 + 8 + m78 + 8 + m87 + 8 + m96 + 8 + m105 + 8 + m114 + 8 + m123 + 197 + 1000 ≤ ms ∧ zpN μ174 (.inr (0, 1000)) fun a175 μ176 => (zty μ176 z = some (.inl 100) ∧ (zpR μ176 z 26 (some a175) fun μ179 => (1 + m4 + 1 + m13 + 1 + m22 + 3 + m41 + 1 + m50 + 1 + m59 + 1 + m68 + 1 + m77 + 1 + m86 + 1 + m95 + 1 + m104 + 1 + m113 + 1 + m122 + 10 + 1 ≤ mc ∧ 16 + m5 + 8 + m14 + 8 + m23 + 918 + m42 + 8 + m51 + 8 + m60 + 8 + m69 + 8 + m78 + 8 + m87 + 8 + m96 + 8 + m105 + 8 + m114 + 8 + m123 + 1197 + 100000 ≤ ms ∧ zpN μ179 (.inr (0, 100000)) fun a180 μ181 => (zty μ181 z = some (.inl 100) ∧ (zpR μ181 z 27 (some a180) fun μ184 => (1 + m4 + 1 + m13 + 1 + m22 + 3 + m41 + 1 + m50 + 1 + m59 + 1 + m68 + 1 + m77 + 1 + m86 + 1 + m95 + 1 + m104 + 1 + m113 + 1 + m122 + 11 + 1 ≤ mc ∧ 16 + m5 + 8 + m14 + 8 + m23 + 918 + m42 + 8 + m51 + 8 + m60 + 8 + m69 + 8 + m78 + 8 + m87 + 8 + m96 + 8 + m105 + 8 + m114 + 8 + m123 + 101197 + 61 ≤ ms ∧ zpN μ184 (.inr (0, 61)) fun a185 μ186 => (zty μ186 z = some (.inl 100) ∧ (zpR μ186 z 28 (some a185) fun μ189 => (1 + m4 + 1 + m13 + 1 + m22 + 3 + m41 + 1 + m50 + 1 + m59 + 1 + m68 + 1 + m77 + 1 + m86 + 1 + m95 + 1 + m104 + 1 + m113 + 1 + m122 + 12 + 1 ≤ mc ∧ 16 + m5 + 8 + m14 + 8 + m23 + 918 + m42 + 8 + m51 + 8 + m60 + 8 + m69 + 8 + m78 + 8 + m87 + 8 + m96 + 8 + m105 + 8 + m114 + 8 + m123 + 101258 + 61000 ≤ ms ∧ zpN μ189 (.inr (0, 61000)) fun a190 μ191 => (zty μ191 z = some (.inl 100) ∧ (zpR μ191 z 29 (some a190) fun μ194 => (1 + m4 + 1 + m13 + 1 + m22 + 3 + m41 + 1 + m50 + 1 + m59 + 1 + m68 + 1 + m77 + 1 + m86 + 1 + m95 + 1 + m104 + 1 + m113 + 1 + m122 + 13 + 1 ≤ mc ∧ 16 + m5 + 8 + m14 + 8 + m23 + 918 + m42 + 8 + m51 + 8 + m60 + 8 + m69 + 8 + m78 + 8 + m87 + 8 + m96 + 8 + m105 + 8 + m114 + 8 + m123 + 162258 + 4 ≤ ms ∧ zpN μ194 (.inr (6, 4)) fun a195 μ196 => (1 + m4 + 1 + m13 + 1 + m22 + 3 + m41 + 1 + m50 + 1 + m59 + 1 + m68 + 1 + m77 + 1 + m86 + 1 + m95 + 1 + m104 + 1 + m113 + 1 + m122 + 14 + 1 ≤ mc ∧ 16 + m5 + 8 + m14 + 8 + m23 + 918 + m42 + 8 + m51 + 8 + m60 + 8 + m69 + 8 + m78 + 8 + m87 + 8 + m96 + 8 + m105 + 8 + m114 + 8 + m123 + 162262 + 1 ≤ ms ∧ zpN μ196 (.inl 3) fun a198 μ199 => (pX3_init z a198 μ199 fun μ201 => (zty μ201 a198 = some (.inl 3) ∧ (zia μ201 a195 6 (nI 0) ∧ zpR μ201 a195 (nI 0).toNatClampNeg (some a198) fun μ203 => (1 + m4 + 1 + m13 + 1 + m22 + 3 + m41 + 1 + m50 + 1 + m59 + 1 + m68 + 1 + m77 + 1 + m86 + 1 + m95 + 1 + m104 + 1 + m113 + 1 + m122 + 15 + 1 ≤ mc ∧ 16 + m5 + 8 + m14 + 8 + m23 + 918 + m42 + 8 + m51 + 8 + m60 + 8 + m69 + 8 + m78 + 8 + m87 + 8 + m96 + 8 + m105 + 8 + m114 + 8 + m123 + 162263 + 1 ≤ ms ∧ zpN μ203 (.inl 3) fun a204 μ205 => (pX3_init z a204 μ205 fun μ207 => (zty μ207 a204 = some (.inl 3) ∧ (zia μ207 a195 6 (nI 1) ∧ zpR μ207 a195 (nI 1).toNatClampNeg (some a204) fun μ209 => (1 + m4 + 1 + m13 + 1 + m22 + 3 + m41 + 1 + m50 + 1 + m59 + 1 + m68 + 1 + m77 + 1 + m86 + 1 + m95 + 1 + m104 + 1 + m113 + 1 + m122 + 16 + 1 ≤ mc ∧ 16 + m5 + 8 + m14 + 8 + m23 + 918 + m42 + 8 + m51 + 8 + m60 + 8 + m69 + 8 + m78 + 8 + m87 + 8 + m96 + 8 + m105 + 8 + m114 + 8 + m123 + 162264 + 1 ≤ ms ∧ zpN μ209 (.inl 3) fun a210 μ211 => (pX3_init z a210 μ211 fun μ213 => (zty μ213 a210 = some (.inl 3) ∧ (zia μ213 a195 6 (nI 2) ∧ zpR μ213 a195 (nI 2).toNatClampNeg (some a210) fun μ215 => (1 + m4 + 1 + m13 + 1 + m22 + 3 + m41 + 1 + m50 + 1 + m59 + 1 + m68 + 1 + m77 + 1 + m86 + 1 + m95 + 1 + m104 + 1 + m113 + 1 + m122 + 17 + 1 ≤ mc ∧ 16 + m5 + 8 + m14 + 8 + m23 + 918 + m42 + 8 + m51 + 8 + m60 + 8 + m69 + 8 + m78 + 8 + m87 + 8 + m96 + 8 + m105 + 8 + m114 + 8 + m123 + 162265 + 1 ≤ ms ∧ zpN μ215 (.inl 3) fun a216 μ217 => (pX3_init z a216 μ217 fun μ219 => (zty μ219 a216 = some (.inl 3) ∧ (zia μ219 a195 6 (nI 3) ∧ zpR μ219 a195 (nI 3).toNatClampNeg (some a216) fun μ221 => (zty μ221 z = some (.inl 100) ∧ (zpR μ221 z 30 (some a195) fun μ223 => (1 + m4 + 1 + m13 + 1 + m22 + 3 + m41 + 1 + m50 + 1 + m59 + 1 + m68 + 1 + m77 + 1 + m86 + 1 + m95 + 1 + m104 + 1 + m113 + 1 + m122 + 18 + 1 ≤ mc ∧ 16 + m5 + 8 + m14 + 8 + m23 + 918 + m42 + 8 + m51 + 8 + m60 + 8 + m69 + 8 + m78 + 8 + m87 + 8 + m96 + 8 + m105 + 8 + m114 + 8 + m123 + 162266 + 2 ≤ ms ∧ zpN μ223 (.inr (7, 2)) fun a224 μ225 => (zty μ225 z = some (.inl 100) ∧ (zpR μ225 z 31 (some a224) fun μ228 => (1 + m4 + 1 + m13 + 1 + m22 + 3 + m41 + 1 + m50 + 1 + m59 + 1 + m68 + 1 + m77 + 1 + m86 + 1 + m95 + 1 + m104 + 1 + m113 + 1 + m122 + 19 + 1 ≤ mc ∧ 16 + m5 + 8 + m14 + 8 + m23 + 918 + m42 + 8 + m51 + 8 + m60 + 8 + m69 + 8 + m78 + 8 + m87 + 8 + m96 + 8 + m105 + 8 + m114 + 8 + m123 + 162268 + 2 ≤ ms ∧ zpN μ228 (.inr (5, 2)) fun a229 μ230 => (1 + m4 + 1 + m13 + 1 + m22 + 3 + m41 + 1 + m50 + 1 + m59 + 1 + m68 + 1 + m77 + 1 + m86 + 1 + m95 + 1 + m104 + 1 + m113 + 1 + m122 + 20 + 1 ≤ mc ∧ 16 + m5 + 8 + m14 + 8 + m23 + 918 + m42 + 8 + m51 + 8 + m60 + 8 + m69 + 8 + m78 + 8 + m87 + 8 + m96 + 8 + m105 + 8 + m114 + 8 + m123 + 162270 + 8 ≤ ms ∧ zpN μ230 (.inl 102) fun a232 μ233 => (∃ m235 m236, 1 + m4 + 1 + m13 + 1 + m22 + 3 + m41 + 1 + m50 + 1 + m59 + 1 + m68 + 1 + m77 + 1 + m86 + 1 + m95 + 1 + m104 + 1 + m113 + 1 + m122 + 21 + m235 ≤ mc ∧ 16 + m5 + 8 + m14 + 8 + m23 + 918 + m42 + 8 + m51 + 8 + m60 + 8 + m69 + 8 + m78 + 8 + m87 + 8 + m96 + 8 + m105 + 8 + m114 + 8 + m123 + 162278 + m236 ≤ ms ∧ pX2_init z a232 z m235 m236 μ233 fun μ238 => (zty μ238 a232 = some (.inl 2) ∧ (zia μ238 a229 5 (nI 0) ∧ zpR μ238 a229 (nI 0).toNatClampNeg (some a232) fun μ240 => (1 + m4 + 1 + m13 + 1 + m22 + 3 + m41 + 1 + m50 + 1 + m59 + 1 + m68 + 1 + m77 + 1 + m86 + 1 + m95 + 1 + m104 + 1 + m113 + 1 + m122 + 21 + m235 + 1 ≤ mc ∧ 16 + m5 + 8 + m14 + 8 + m23 + 918 + m42 + 8 + m51 + 8 + m60 + 8 + m69 + 8 + m78 + 8 + m87 + 8 + m96 + 8 + m105 + 8 + m114 + 8 + m123 + 162278 + m236 + 8 ≤ ms ∧ zpN μ240 (.inl 102) fun a241 μ242 => (∃ m244 m245, 1 + m4 + 1 + m13 + 1 + m22 + 3 + m41 + 1 + m50 + 1 + m59 + 1 + m68 + 1 + m77 + 1 + m86 + 1 + m95 + 1 + m104 + 1 + m113 + 1 + m122 + 21 + m235 + 1 + m244 ≤ mc ∧ 16 + m5 + 8 + m14 + 8 + m23 + 918 + m42 + 8 + m51 + 8 + m60 + 8 + m69 + 8 + m78 + 8 + m87 + 8 + m96 + 8 + m105 + 8 + m114 + 8 + m123 + 162278 + m236 + 8 + m245 ≤ ms ∧ pX2_init z a241 z m244 m245 μ242 fun μ247 => (zty μ247 a241 = some (.inl 2) ∧ (zia μ247 a229 5 (nI 1) ∧ zpR μ247 a229 (nI 1).toNatClampNeg (some a241) fun μ249 => (zty μ249 z = some (.inl 100) ∧ (zpR μ249 z 32 (some a229) fun μ251 => (zty μ251 z = some (.inl 100) ∧ (zde (zR μ251 z 1) fun b253 => (zty μ251 z = some (.inl 100) ∧ (cSh z) (zR (zta μ251 z (.inl 0))) (zty (zta μ251 z (.inl 0))) ∧ zpT μ251 z (.inl 0) fun μ254 => (pX2_begins z b253 μ254 fun r257 μ256 => Q μ256))))))))))))))))))))))))))))))))))))))))))))))))))))))))))))))))))))))))))))))))))))))))))))))))))))))))))))))))))))))))))))))))))))))))
theorem hX0_init : yX0_init.cls = "SunkTower" ∧ yX0_init.cls ≠ "java/lang/invoke/MethodHandle" ∧ yX0_init.cls ≠ "java/lang/invoke/VarHandle" ∧ (parseMethodDescriptor yX0_init.desc).map (fun d => d.parameters.length) = some 0 := by decide +kernel
set_option maxHeartbeats 4000000 in
set_option maxRecDepth 100000 in
theorem mX0_init (l : Launch) (Γ : zG) (z : Nat) (mc ms : Nat) (μ : zM) (Q : zM → Prop) (hp : pX0_init z mc ms μ Q) : Met l yX0_init (ws_ yX0_init cX0_init 1 none) ({ frames := 2, cells := mc, slots := ms, locals := 84 } : Room) (va_Pc [.ref z] (zPre Γ zTr μ)) (va_Qv Q (zPost Γ (cSh z) μ) (zA μ)) mc ms (zA μ) := by
  refine zstart (by decide) (Nat.le_of_ble_eq_true rfl) ?_
  intro p e s m below meth c ls X hnm hB hl
  have X : zCx p m c cX0_init 1 s [.ref z].toArray RX0 meth none := X
  have S := X.1
  obtain ⟨hx, hb, hml, hown, hts⟩ := X.1
  have hl : lv_has ls 1 [(0, .ref z)] := hl
  unfold pX0_init at hp
  have hcap : 0 ≤ mc ∧ 0 ≤ ms := ⟨Nat.zero_le _, Nat.zero_le _⟩
  refine lv_aload_n hx hb dX0_init_0 rfl (lv_at hl 0 rfl) ?_
  refine W.objInit hx hb hown (hts _ q157) (hts _ q158) (hts _ q159) rfl (by rw [hml]; exact hl.1) rfl dX0_init_1 (Nat.le_of_ble_eq_true rfl) (Nat.le_of_ble_eq_true rfl) ?_
  refine W.eq (g2 := F0 m 4 ls []) rfl ?_
  refine lv_aload_n hx hb dX0_init_4 rfl (lv_at hl 0 rfl) ?_
  obtain ⟨hc3a, hc3b, hp⟩ := hp
  obtain ⟨a1, μ2, ea, eμ2, hp⟩ := zpN_e hp
  refine g_new S hB (ci := 101) ea rfl (T := TX1) (N := 16) (C := RX1) rfl in_X1 tyX1 tyX1_ok rfl zdefX1 q160 q161 q128 hc3a hc3b ((zTr_ok (z := z)).2.1 _ _ _ _ hB.2.2.2.2.2.2.1 hB.fresh' (fun c e => by cases e; try rfl)) dX0_init_5 (fun H hB => ?_)
  rw [← eμ2] at hB
  have hcap : 1 ≤ mc ∧ 16 ≤ ms := ⟨hc3a, hc3b⟩
  refine lv_dup hx hb dX0_init_8 rfl ?_
  obtain ⟨m4, m5, hc6a, hc6b, hp⟩ := hp
  refine z_callv (va_runI (As := []) (rest := [.ref a1, .ref z]) S (mX1_init l Γ zTr z (zTr_ok (z := z)) a1 m4 m5 μ2 _ hp) (cwI 0 hts (lw_meth q164) rfl rfl rfl (hts _ q128) (hts _ q162) (hts _ q163) rfl hX1_init.2 ⟨Nat.le_of_ble_eq_true rfl, Nat.le_of_ble_eq_true rfl⟩) hB.preS rfl rfl hl.1 rfl (lv_room (Nat.le_of_ble_eq_true rfl)) dX0_init_9 ⟨hc6a, hc6b⟩) hB (fun μ7 H locs hp hB => ?_)
  have hcap : 1 + m4 ≤ mc ∧ 16 + m5 ≤ ms := ⟨hc6a, hc6b⟩
  obtain ⟨ht8, hp⟩ := hp
  obtain ⟨μ9, eμ9, hp⟩ := zpR_e hp
  refine W.eq (g2 := F0 m 12 ls [va_rf (some a1), .ref z]) rfl ?_
  refine g_putR S hB ht8 rfl (T := TX0) (N := 33) (C := RX0) rfl in_X0 0 (by decide) (by decide) (x := (some a1)) tyX0 tyX0_ok nmX0 q304 (fun _ h9 => h9) rfl (ty := .object "SunkTower$Tower") (by decide +kernel) (zfits_o _ _) (znar_o _ _) (fun _ _ => rfl) ((zTr_ok (z := z)).1 _ _ _ _ _ _ hB.2.2.2.2.2.2.1 ht8 rfl) dX0_init_12 (fun H locs hB => ?_)
  rw [← eμ9] at hB
  refine lv_aload_n hx hb dX0_init_15 rfl (lv_at hl 0 rfl) ?_
  obtain ⟨hc12a, hc12b, hp⟩ := hp
  obtain ⟨a10, μ11, ea, eμ11, hp⟩ := zpN_e hp
  refine g_new S hB (ci := 102) ea rfl (T := TX2) (N := 8) (C := RX2) rfl in_X2 tyX2 tyX2_ok rfl zdefX2 q240 q241 q129 hc12a hc12b ((zTr_ok (z := z)).2.1 _ _ _ _ hB.2.2.2.2.2.2.1 hB.fresh' (fun c e => by cases e; try rfl)) dX0_init_16 (fun H hB => ?_)
  rw [← eμ11] at hB
  have hcap : 1 + m4 + 1 ≤ mc ∧ 16 + m5 + 8 ≤ ms := ⟨hc12a, hc12b⟩
  refine lv_dup hx hb dX0_init_19 rfl ?_
  refine lv_aload_n hx hb dX0_init_20 rfl (lv_at hl 0 rfl) ?_
  obtain ⟨m13, m14, hc15a, hc15b, hp⟩ := hp
  refine z_callv (va_runIN (As := [.ref z]) (rest := [.ref a10, .ref z]) S (mX2_init l Γ zTr z (zTr_ok (z := z)) a10 z m13 m14 μ11 _ hp) ⟨va_cnB 1 hts (lw_meth q244) rfl rfl rfl (zNMw hB 0 rfl) (hts _ q129) hX2_init.2 ⟨Nat.le_of_ble_eq_true rfl, Nat.le_of_ble_eq_true rfl⟩, rfl, hts _ q243⟩ hB.preS rfl rfl hl.1 rfl (lv_room (Nat.le_of_ble_eq_true rfl)) dX0_init_21 ⟨hc15a, hc15b⟩) hB (fun μ16 H locs hp hB => ?_)
  have hcap : 1 + m4 + 1 + m13 ≤ mc ∧ 16 + m5 + 8 + m14 ≤ ms := ⟨hc15a, hc15b⟩
  obtain ⟨ht17, hp⟩ := hp
  obtain ⟨μ18, eμ18, hp⟩ := zpR_e hp
  refine W.eq (g2 := F0 m 24 ls [va_rf (some a10), .ref z]) rfl ?_
  refine g_putFR S hB ht17 rfl (T := TX0) (N := 33) (C := RX0) rfl in_X0 1 (by decide) (by decide) (x := (some a10)) tyX0 tyX0_ok nmX0 q305 (fun _ h9 => h9) rfl hnm rfl (ty := .object "SunkTower$State") (by decide +kernel) (zfits_o _ _) (znar_o _ _) (fun _ _ => rfl) ((zTr_ok (z := z)).1 _ _ _ _ _ _ hB.2.2.2.2.2.2.1 ht17 rfl) dX0_init_24 (fun H locs hB => ?_)
  rw [← eμ18] at hB
  refine lv_aload_n hx hb dX0_init_27 rfl (lv_at hl 0 rfl) ?_
  obtain ⟨hc21a, hc21b, hp⟩ := hp
  obtain ⟨a19, μ20, ea, eμ20, hp⟩ := zpN_e hp
  refine g_new S hB (ci := 102) ea rfl (T := TX2) (N := 8) (C := RX2) rfl in_X2 tyX2 tyX2_ok rfl zdefX2 q240 q241 q129 hc21a hc21b ((zTr_ok (z := z)).2.1 _ _ _ _ hB.2.2.2.2.2.2.1 hB.fresh' (fun c e => by cases e; try rfl)) dX0_init_28 (fun H hB => ?_)
  rw [← eμ20] at hB
  have hcap : 1 + m4 + 1 + m13 + 1 ≤ mc ∧ 16 + m5 + 8 + m14 + 8 ≤ ms := ⟨hc21a, hc21b⟩
  refine lv_dup hx hb dX0_init_31 rfl ?_
  refine lv_aload_n hx hb dX0_init_32 rfl (lv_at hl 0 rfl) ?_
  obtain ⟨m22, m23, hc24a, hc24b, hp⟩ := hp
  refine z_callv (va_runIN (As := [.ref z]) (rest := [.ref a19, .ref z]) S (mX2_init l Γ zTr z (zTr_ok (z := z)) a19 z m22 m23 μ20 _ hp) ⟨va_cnB 1 hts (lw_meth q244) rfl rfl rfl (zNMw hB 0 rfl) (hts _ q129) hX2_init.2 ⟨Nat.le_of_ble_eq_true rfl, Nat.le_of_ble_eq_true rfl⟩, rfl, hts _ q243⟩ hB.preS rfl rfl hl.1 rfl (lv_room (Nat.le_of_ble_eq_true rfl)) dX0_init_33 ⟨hc24a, hc24b⟩) hB (fun μ25 H locs hp hB => ?_)
  have hcap : 1 + m4 + 1 + m13 + 1 + m22 ≤ mc ∧ 16 + m5 + 8 + m14 + 8 + m23 ≤ ms := ⟨hc24a, hc24b⟩
  obtain ⟨ht26, hp⟩ := hp
  obtain ⟨μ27, eμ27, hp⟩ := zpR_e hp
  refine W.eq (g2 := F0 m 36 ls [va_rf (some a19), .ref z]) rfl ?_
  refine g_putFR S hB ht26 rfl (T := TX0) (N := 33) (C := RX0) rfl in_X0 2 (by decide) (by decide) (x := (some a19)) tyX0 tyX0_ok nmX0 q306 (fun _ h9 => h9) rfl hnm rfl (ty := .object "SunkTower$State") (by decide +kernel) (zfits_o _ _) (znar_o _ _) (fun _ _ => rfl) ((zTr_ok (z := z)).1 _ _ _ _ _ _ hB.2.2.2.2.2.2.1 ht26 rfl) dX0_init_36 (fun H locs hB => ?_)
  rw [← eμ27] at hB
  refine lv_aload_n hx hb dX0_init_39 rfl (lv_at hl 0 rfl) ?_
  refine lv_sipush (v := (nI 900)) hx hb dX0_init_40 rfl ?_
  obtain ⟨hc30a, hc30b, hp⟩ := hp
  obtain ⟨a28, μ29, ea, eμ29, hp⟩ := zpN_e hp
  refine g_newa S hB (kd := 1) (N := 900) (atype := .byte) ea rfl q293 rfl (fun _ _ h => h) (zdefa1 900) (by decide) (by decide) (Nat.le_of_ble_eq_true rfl) hc30a hc30b ((zTr_ok (z := z)).2.1 _ _ _ _ hB.2.2.2.2.2.2.1 hB.fresh' (fun c e => by cases e; try rfl)) dX0_init_43 (fun H hB => ?_)
  rw [← eμ29] at hB
  have hcap : 1 + m4 + 1 + m13 + 1 + m22 + 1 ≤ mc ∧ 16 + m5 + 8 + m14 + 8 + m23 + 900 ≤ ms := ⟨hc30a, hc30b⟩
  obtain ⟨ht31, hp⟩ := hp
  obtain ⟨μ32, eμ32, hp⟩ := zpR_e hp
  refine W.eq (g2 := F0 m 45 ls [va_rf (some a28), .ref z]) rfl ?_
  refine g_putFR S hB ht31 rfl (T := TX0) (N := 33) (C := RX0) rfl in_X0 3 (by decide) (by decide) (x := (some a28)) tyX0 tyX0_ok nmX0 q308 (fun _ h9 => h9) rfl hnm rfl (ty := .array .byte) (by decide +kernel) (zfits_a _ _) (znar_a _ _) (fun _ _ => rfl) ((zTr_ok (z := z)).1 _ _ _ _ _ _ hB.2.2.2.2.2.2.1 ht31 rfl) dX0_init_45 (fun H locs hB => ?_)
  rw [← eμ32] at hB
  refine lv_aload_n hx hb dX0_init_48 rfl (lv_at hl 0 rfl) ?_
  refine lv_iconst (v := (-1 : Int32)) hx hb dX0_init_49 rfl ?_
  obtain ⟨ht33, hp⟩ := hp
  obtain ⟨μ34, eμ34, hp⟩ := zpI_e hp
  refine g_putI S hB ht33 rfl (T := TX0) (N := 33) (C := RX0) rfl in_X0 6 (by decide) (by decide) (x := (-1 : Int32)) tyX0 tyX0_ok nmX0 q311 (fun _ h9 => h9) rfl (ty := .int) (by decide +kernel) rfl rfl (fun _ _ => rfl) dX0_init_50 (fun H locs hB => ?_)
  rw [← eμ34] at hB
  refine lv_aload_n hx hb dX0_init_53 rfl (lv_at hl 0 rfl) ?_
  refine lv_bipush (v := (nI 10)) hx hb dX0_init_54 rfl ?_
  obtain ⟨hc37a, hc37b, hp⟩ := hp
  obtain ⟨a35, μ36, ea, eμ36, hp⟩ := zpN_e hp
  refine g_newq S hB (kd := 5) (N := 10) ea q240 (by decide) rfl (fun _ _ => rfl) (by decide) (by decide) (Nat.le_of_ble_eq_true rfl) hc37a hc37b ((zTr_ok (z := z)).2.1 _ _ _ _ hB.2.2.2.2.2.2.1 hB.fresh' (fun c e => by cases e; try rfl)) dX0_init_56 (fun H hB => ?_)
  rw [← eμ36] at hB
  have hcap : 1 + m4 + 1 + m13 + 1 + m22 + 2 ≤ mc ∧ 16 + m5 + 8 + m14 + 8 + m23 + 910 ≤ ms := ⟨hc37a, hc37b⟩
  refine lv_dup hx hb dX0_init_59 rfl ?_
  refine lv_iconst (v := (nI 0)) hx hb dX0_init_60 rfl ?_
  obtain ⟨hc40a, hc40b, hp⟩ := hp
  obtain ⟨a38, μ39, ea, eμ39, hp⟩ := zpN_e hp
  refine g_new S hB (ci := 102) ea rfl (T := TX2) (N := 8) (C := RX2) rfl in_X2 tyX2 tyX2_ok rfl zdefX2 q240 q241 q129 hc40a hc40b ((zTr_ok (z := z)).2.1 _ _ _ _ hB.2.2.2.2.2.2.1 hB.fresh' (fun c e => by cases e; try rfl)) dX0_init_61 (fun H hB => ?_)
  rw [← eμ39] at hB
  have hcap : 1 + m4 + 1 + m13 + 1 + m22 + 3 ≤ mc ∧ 16 + m5 + 8 + m14 + 8 + m23 + 918 ≤ ms := ⟨hc40a, hc40b⟩
  refine lv_dup hx hb dX0_init_64 rfl ?_
  refine lv_aload_n hx hb dX0_init_65 rfl (lv_at hl 0 rfl) ?_
  obtain ⟨m41, m42, hc43a, hc43b, hp⟩ := hp
  refine z_callv (va_runIN (As := [.ref z]) (rest := [.ref a38, .int (nI 0), .ref a35, .ref a35, .ref z]) S (mX2_init l Γ zTr z (zTr_ok (z := z)) a38 z m41 m42 μ39 _ hp) ⟨va_cnB 1 hts (lw_meth q244) rfl rfl rfl (zNMw hB 0 rfl) (hts _ q129) hX2_init.2 ⟨Nat.le_of_ble_eq_true rfl, Nat.le_of_ble_eq_true rfl⟩, rfl, hts _ q243⟩ hB.preS rfl rfl hl.1 rfl (lv_room (Nat.le_of_ble_eq_true rfl)) dX0_init_66 ⟨hc43a, hc43b⟩) hB (fun μ44 H locs hp hB => ?_)
  have hcap : 1 + m4 + 1 + m13 + 1 + m22 + 3 + m41 ≤ mc ∧ 16 + m5 + 8 + m14 + 8 + m23 + 918 + m42 ≤ ms := ⟨hc43a, hc43b⟩
  obtain ⟨ht45, hp⟩ := hp
  obtain ⟨⟨_, ht, hi⟩, hp⟩ := hp
  obtain ⟨μ46, eμ46, hp⟩ := zpR_e hp
  refine g_aast S hB (r := (RX2, TX2, 8)) ht rfl (fun _ => rfl) ht45 rfl hi ((zTr_ok (z := z)).2.2.2 _ _ _ _ _ _ hB.2.2.2.2.2.2.1 ht) dX0_init_69 (fun H locs hB => ?_)
  rw [← eμ46] at hB
  refine lv_dup hx hb dX0_init_70 rfl ?_
  refine lv_iconst (v := (nI 1)) hx hb dX0_init_71 rfl ?_
  obtain ⟨hc49a, hc49b, hp⟩ := hp
  obtain ⟨a47, μ48, ea, eμ48, hp⟩ := zpN_e hp
  refine g_new S hB (ci := 102) ea rfl (T := TX2) (N := 8) (C := RX2) rfl in_X2 tyX2 tyX2_ok rfl zdefX2 q240 q241 q129 hc49a hc49b ((zTr_ok (z := z)).2.1 _ _ _ _ hB.2.2.2.2.2.2.1 hB.fresh' (fun c e => by cases e; try rfl)) dX0_init_72 (fun H hB => ?_)
  rw [← eμ48] at hB
  have hcap : 1 + m4 + 1 + m13 + 1 + m22 + 3 + m41 + 1 ≤ mc ∧ 16 + m5 + 8 + m14 + 8 + m23 + 918 + m42 + 8 ≤ ms := ⟨hc49a, hc49b⟩
  refine lv_dup hx hb dX0_init_75 rfl ?_
  refine lv_aload_n hx hb dX0_init_76 rfl (lv_at hl 0 rfl) ?_
  obtain ⟨m50, m51, hc52a, hc52b, hp⟩ := hp
  refine z_callv (va_runIN (As := [.ref z]) (rest := [.ref a47, .int (nI 1), .ref a35, .ref a35, .ref z]) S (mX2_init l Γ zTr z (zTr_ok (z := z)) a47 z m50 m51 μ48 _ hp) ⟨va_cnB 1 hts (lw_meth q244) rfl rfl rfl (zNMw hB 0 rfl) (hts _ q129) hX2_init.2 ⟨Nat.le_of_ble_eq_true rfl, Nat.le_of_ble_eq_true rfl⟩, rfl, hts _ q243⟩ hB.preS rfl rfl hl.1 rfl (lv_room (Nat.le_of_ble_eq_true rfl)) dX0_init_77 ⟨hc52a, hc52b⟩) hB (fun μ53 H locs hp hB => ?_)
  have hcap : 1 + m4 + 1 + m13 + 1 + m22 + 3 + m41 + 1 + m50 ≤ mc ∧ 16 + m5 + 8 + m14 + 8 + m23 + 918 + m42 + 8 + m51 ≤ ms := ⟨hc52a, hc52b⟩
  obtain ⟨ht54, hp⟩ := hp
  obtain ⟨⟨_, ht, hi⟩, hp⟩ := hp
  obtain ⟨μ55, eμ55, hp⟩ := zpR_e hp
  refine g_aast S hB (r := (RX2, TX2, 8)) ht rfl (fun _ => rfl) ht54 rfl hi ((zTr_ok (z := z)).2.2.2 _ _ _ _ _ _ hB.2.2.2.2.2.2.1 ht) dX0_init_80 (fun H locs hB => ?_)
  rw [← eμ55] at hB
  refine lv_dup hx hb dX0_init_81 rfl ?_
  refine lv_iconst (v := (nI 2)) hx hb dX0_init_82 rfl ?_
  obtain ⟨hc58a, hc58b, hp⟩ := hp
  obtain ⟨a56, μ57, ea, eμ57, hp⟩ := zpN_e hp
  refine g_new S hB (ci := 102) ea rfl (T := TX2) (N := 8) (C := RX2) rfl in_X2 tyX2 tyX2_ok rfl zdefX2 q240 q241 q129 hc58a hc58b ((zTr_ok (z := z)).2.1 _ _ _ _ hB.2.2.2.2.2.2.1 hB.fresh' (fun c e => by cases e; try rfl)) dX0_init_83 (fun H hB => ?_)
  rw [← eμ57] at hB
  have hcap : 1 + m4 + 1 + m13 + 1 + m22 + 3 + m41 + 1 + m50 + 1 ≤ mc ∧ 16 + m5 + 8 + m14 + 8 + m23 + 918 + m42 + 8 + m51 + 8 ≤ ms := ⟨hc58a, hc58b⟩
  refine lv_dup hx hb dX0_init_86 rfl ?_
  refine lv_aload_n hx hb dX0_init_87 rfl (lv_at hl 0 rfl) ?_
  obtain ⟨m59, m60, hc61a, hc61b, hp⟩ := hp
  refine z_callv (va_runIN (As := [.ref z]) (rest := [.ref a56, .int (nI 2), .ref a35, .ref a35, .ref z]) S (mX2_init l Γ zTr z (zTr_ok (z := z)) a56 z m59 m60 μ57 _ hp) ⟨va_cnB 1 hts (lw_meth q244) rfl rfl rfl (zNMw hB 0 rfl) (hts _ q129) hX2_init.2 ⟨Nat.le_of_ble_eq_true rfl, Nat.le_of_ble_eq_true rfl⟩, rfl, hts _ q243⟩ hB.preS rfl rfl hl.1 rfl (lv_room (Nat.le_of_ble_eq_true rfl)) dX0_init_88 ⟨hc61a, hc61b⟩) hB (fun μ62 H locs hp hB => ?_)
  have hcap : 1 + m4 + 1 + m13 + 1 + m22 + 3 + m41 + 1 + m50 + 1 + m59 ≤ mc ∧ 16 + m5 + 8 + m14 + 8 + m23 + 918 + m42 + 8 + m51 + 8 + m60 ≤ ms := ⟨hc61a, hc61b⟩
  obtain ⟨ht63, hp⟩ := hp
  obtain ⟨⟨_, ht, hi⟩, hp⟩ := hp
  obtain ⟨μ64, eμ64, hp⟩ := zpR_e hp
  refine g_aast S hB (r := (RX2, TX2, 8)) ht rfl (fun _ => rfl) ht63 rfl hi ((zTr_ok (z := z)).2.2.2 _ _ _ _ _ _ hB.2.2.2.2.2.2.1 ht) dX0_init_91 (fun H locs hB => ?_)
  rw [← eμ64] at hB
  refine lv_dup hx hb dX0_init_92 rfl ?_
  refine lv_iconst (v := (nI 3)) hx hb dX0_init_93 rfl ?_
  obtain ⟨hc67a, hc67b, hp⟩ := hp
  obtain ⟨a65, μ66, ea, eμ66, hp⟩ := zpN_e hp
  refine g_new S hB (ci := 102) ea rfl (T := TX2) (N := 8) (C := RX2) rfl in_X2 tyX2 tyX2_ok rfl zdefX2 q240 q241 q129 hc67a hc67b ((zTr_ok (z := z)).2.1 _ _ _ _ hB.2.2.2.2.2.2.1 hB.fresh' (fun c e => by cases e; try rfl)) dX0_init_94 (fun H hB => ?_)
  rw [← eμ66] at hB
  have hcap : 1 + m4 + 1 + m13 + 1 + m22 + 3 + m41 + 1 + m50 + 1 + m59 + 1 ≤ mc ∧ 16 + m5 + 8 + m14 + 8 + m23 + 918 + m42 + 8 + m51 + 8 + m60 + 8 ≤ ms := ⟨hc67a, hc67b⟩
  refine lv_dup hx hb dX0_init_97 rfl ?_
  refine lv_aload_n hx hb dX0_init_98 rfl (lv_at hl 0 rfl) ?_
  obtain ⟨m68, m69, hc70a, hc70b, hp⟩ := hp
  refine z_callv (va_runIN (As := [.ref z]) (rest := [.ref a65, .int (nI 3), .ref a35, .ref a35, .ref z]) S (mX2_init l Γ zTr z (zTr_ok (z := z)) a65 z m68 m69 μ66 _ hp) ⟨va_cnB 1 hts (lw_meth q244) rfl rfl rfl (zNMw hB 0 rfl) (hts _ q129) hX2_init.2 ⟨Nat.le_of_ble_eq_true rfl, Nat.le_of_ble_eq_true rfl⟩, rfl, hts _ q243⟩ hB.preS rfl rfl hl.1 rfl (lv_room (Nat.le_of_ble_eq_true rfl)) dX0_init_99 ⟨hc70a, hc70b⟩) hB (fun μ71 H locs hp hB => ?_)
  have hcap : 1 + m4 + 1 + m13 + 1 + m22 + 3 + m41 + 1 + m50 + 1 + m59 + 1 + m68 ≤ mc ∧ 16 + m5 + 8 + m14 + 8 + m23 + 918 + m42 + 8 + m51 + 8 + m60 + 8 + m69 ≤ ms := ⟨hc70a, hc70b⟩
  obtain ⟨ht72, hp⟩ := hp
  obtain ⟨⟨_, ht, hi⟩, hp⟩ := hp
  obtain ⟨μ73, eμ73, hp⟩ := zpR_e hp
  refine g_aast S hB (r := (RX2, TX2, 8)) ht rfl (fun _ => rfl) ht72 rfl hi ((zTr_ok (z := z)).2.2.2 _ _ _ _ _ _ hB.2.2.2.2.2.2.1 ht) dX0_init_102 (fun H locs hB => ?_)
  rw [← eμ73] at hB
  refine lv_dup hx hb dX0_init_103 rfl ?_
  refine lv_iconst (v := (nI 4)) hx hb dX0_init_104 rfl ?_
  obtain ⟨hc76a, hc76b, hp⟩ := hp
  obtain ⟨a74, μ75, ea, eμ75, hp⟩ := zpN_e hp
  refine g_new S hB (ci := 102) ea rfl (T := TX2) (N := 8) (C := RX2) rfl in_X2 tyX2 tyX2_ok rfl zdefX2 q240 q241 q129 hc76a hc76b ((zTr_ok (z := z)).2.1 _ _ _ _ hB.2.2.2.2.2.2.1 hB.fresh' (fun c e => by cases e; try rfl)) dX0_init_105 (fun H hB => ?_)
  rw [← eμ75] at hB
  have hcap : 1 + m4 + 1 + m13 + 1 + m22 + 3 + m41 + 1 + m50 + 1 + m59 + 1 + m68 + 1 ≤ mc ∧ 16 + m5 + 8 + m14 + 8 + m23 + 918 + m42 + 8 + m51 + 8 + m60 + 8 + m69 + 8 ≤ ms := ⟨hc76a, hc76b⟩
  refine lv_dup hx hb dX0_init_108 rfl ?_
  refine lv_aload_n hx hb dX0_init_109 rfl (lv_at hl 0 rfl) ?_
  obtain ⟨m77, m78, hc79a, hc79b, hp⟩ := hp
  refine z_callv (va_runIN (As := [.ref z]) (rest := [.ref a74, .int (nI 4), .ref a35, .ref a35, .ref z]) S (mX2_init l Γ zTr z (zTr_ok (z := z)) a74 z m77 m78 μ75 _ hp) ⟨va_cnB 1 hts (lw_meth q244) rfl rfl rfl (zNMw hB 0 rfl) (hts _ q129) hX2_init.2 ⟨Nat.le_of_ble_eq_true rfl, Nat.le_of_ble_eq_true rfl⟩, rfl, hts _ q243⟩ hB.preS rfl rfl hl.1 rfl (lv_room (Nat.le_of_ble_eq_true rfl)) dX0_init_110 ⟨hc79a, hc79b⟩) hB (fun μ80 H locs hp hB => ?_)
  have hcap : 1 + m4 + 1 + m13 + 1 + m22 + 3 + m41 + 1 + m50 + 1 + m59 + 1 + m68 + 1 + m77 ≤ mc ∧ 16 + m5 + 8 + m14 + 8 + m23 + 918 + m42 + 8 + m51 + 8 + m60 + 8 + m69 + 8 + m78 ≤ ms := ⟨hc79a, hc79b⟩
  obtain ⟨ht81, hp⟩ := hp
  obtain ⟨⟨_, ht, hi⟩, hp⟩ := hp
  obtain ⟨μ82, eμ82, hp⟩ := zpR_e hp
  refine g_aast S hB (r := (RX2, TX2, 8)) ht rfl (fun _ => rfl) ht81 rfl hi ((zTr_ok (z := z)).2.2.2 _ _ _ _ _ _ hB.2.2.2.2.2.2.1 ht) dX0_init_113 (fun H locs hB => ?_)
  rw [← eμ82] at hB
  refine lv_dup hx hb dX0_init_114 rfl ?_
  refine lv_iconst (v := (nI 5)) hx hb dX0_init_115 rfl ?_
  obtain ⟨hc85a, hc85b, hp⟩ := hp
  obtain ⟨a83, μ84, ea, eμ84, hp⟩ := zpN_e hp
  refine g_new S hB (ci := 102) ea rfl (T := TX2) (N := 8) (C := RX2) rfl in_X2 tyX2 tyX2_ok rfl zdefX2 q240 q241 q129 hc85a hc85b ((zTr_ok (z := z)).2.1 _ _ _ _ hB.2.2.2.2.2.2.1 hB.fresh' (fun c e => by cases e; try rfl)) dX0_init_116 (fun H hB => ?_)
  rw [← eμ84] at hB
  have hcap : 1 + m4 + 1 + m13 + 1 + m22 + 3 + m41 + 1 + m50 + 1 + m59 + 1 + m68 + 1 + m77 + 1 ≤ mc ∧ 16 + m5 + 8 + m14 + 8 + m23 + 918 + m42 + 8 + m51 + 8 + m60 + 8 + m69 + 8 + m78 + 8 ≤ ms := ⟨hc85a, hc85b⟩
  refine lv_dup hx hb dX0_init_119 rfl ?_
  refine lv_aload_n hx hb dX0_init_120 rfl (lv_at hl 0 rfl) ?_
  obtain ⟨m86, m87, hc88a, hc88b, hp⟩ := hp
  refine z_callv (va_runIN (As := [.ref z]) (rest := [.ref a83, .int (nI 5), .ref a35, .ref a35, .ref z]) S (mX2_init l Γ zTr z (zTr_ok (z := z)) a83 z m86 m87 μ84 _ hp) ⟨va_cnB 1 hts (lw_meth q244) rfl rfl rfl (zNMw hB 0 rfl) (hts _ q129) hX2_init.2 ⟨Nat.le_of_ble_eq_true rfl, Nat.le_of_ble_eq_true rfl⟩, rfl, hts _ q243⟩ hB.preS rfl rfl hl.1 rfl (lv_room (Nat.le_of_ble_eq_true rfl)) dX0_init_121 ⟨hc88a, hc88b⟩) hB (fun μ89 H locs hp hB => ?_)
  have hcap : 1 + m4 + 1 + m13 + 1 + m22 + 3 + m41 + 1 + m50 + 1 + m59 + 1 + m68 + 1 + m77 + 1 + m86 ≤ mc ∧ 16 + m5 + 8 + m14 + 8 + m23 + 918 + m42 + 8 + m51 + 8 + m60 + 8 + m69 + 8 + m78 + 8 + m87 ≤ ms := ⟨hc88a, hc88b⟩
  obtain ⟨ht90, hp⟩ := hp
  obtain ⟨⟨_, ht, hi⟩, hp⟩ := hp
  obtain ⟨μ91, eμ91, hp⟩ := zpR_e hp
  refine g_aast S hB (r := (RX2, TX2, 8)) ht rfl (fun _ => rfl) ht90 rfl hi ((zTr_ok (z := z)).2.2.2 _ _ _ _ _ _ hB.2.2.2.2.2.2.1 ht) dX0_init_124 (fun H locs hB => ?_)
  rw [← eμ91] at hB
  refine lv_dup hx hb dX0_init_125 rfl ?_
  refine lv_bipush (v := (nI 6)) hx hb dX0_init_126 rfl ?_
  obtain ⟨hc94a, hc94b, hp⟩ := hp
  obtain ⟨a92, μ93, ea, eμ93, hp⟩ := zpN_e hp
  refine g_new S hB (ci := 102) ea rfl (T := TX2) (N := 8) (C := RX2) rfl in_X2 tyX2 tyX2_ok rfl zdefX2 q240 q241 q129 hc94a hc94b ((zTr_ok (z := z)).2.1 _ _ _ _ hB.2.2.2.2.2.2.1 hB.fresh' (fun c e => by cases e; try rfl)) dX0_init_128 (fun H hB => ?_)
  rw [← eμ93] at hB
  have hcap : 1 + m4 + 1 + m13 + 1 + m22 + 3 + m41 + 1 + m50 + 1 + m59 + 1 + m68 + 1 + m77 + 1 + m86 + 1 ≤ mc ∧ 16 + m5 + 8 + m14 + 8 + m23 + 918 + m42 + 8 + m51 + 8 + m60 + 8 + m69 + 8 + m78 + 8 + m87 + 8 ≤ ms := ⟨hc94a, hc94b⟩
  refine lv_dup hx hb dX0_init_131 rfl ?_
  refine lv_aload_n hx hb dX0_init_132 rfl (lv_at hl 0 rfl) ?_
  obtain ⟨m95, m96, hc97a, hc97b, hp⟩ := hp
  refine z_callv (va_runIN (As := [.ref z]) (rest := [.ref a92, .int (nI 6), .ref a35, .ref a35, .ref z]) S (mX2_init l Γ zTr z (zTr_ok (z := z)) a92 z m95 m96 μ93 _ hp) ⟨va_cnB 1 hts (lw_meth q244) rfl rfl rfl (zNMw hB 0 rfl) (hts _ q129) hX2_init.2 ⟨Nat.le_of_ble_eq_true rfl, Nat.le_of_ble_eq_true rfl⟩, rfl, hts _ q243⟩ hB.preS rfl rfl hl.1 rfl (lv_room (Nat.le_of_ble_eq_true rfl)) dX0_init_133 ⟨hc97a, hc97b⟩) hB (fun μ98 H locs hp hB => ?_)
  have hcap : 1 + m4 + 1 + m13 + 1 + m22 + 3 + m41 + 1 + m50 + 1 + m59 + 1 + m68 + 1 + m77 + 1 + m86 + 1 + m95 ≤ mc ∧ 16 + m5 + 8 + m14 + 8 + m23 + 918 + m42 + 8 + m51 + 8 + m60 + 8 + m69 + 8 + m78 + 8 + m87 + 8 + m96 ≤ ms := ⟨hc97a, hc97b⟩
  obtain ⟨ht99, hp⟩ := hp
  obtain ⟨⟨_, ht, hi⟩, hp⟩ := hp
  obtain ⟨μ100, eμ100, hp⟩ := zpR_e hp
  refine g_aast S hB (r := (RX2, TX2, 8)) ht rfl (fun _ => rfl) ht99 rfl hi ((zTr_ok (z := z)).2.2.2 _ _ _ _ _ _ hB.2.2.2.2.2.2.1 ht) dX0_init_136 (fun H locs hB => ?_)
  rw [← eμ100] at hB
  refine lv_dup hx hb dX0_init_137 rfl ?_
  refine lv_bipush (v := (nI 7)) hx hb dX0_init_138 rfl ?_
  obtain ⟨hc103a, hc103b, hp⟩ := hp
  obtain ⟨a101, μ102, ea, eμ102, hp⟩ := zpN_e hp
  refine g_new S hB (ci := 102) ea rfl (T := TX2) (N := 8) (C := RX2) rfl in_X2 tyX2 tyX2_ok rfl zdefX2 q240 q241 q129 hc103a hc103b ((zTr_ok (z := z)).2.1 _ _ _ _ hB.2.2.2.2.2.2.1 hB.fresh' (fun c e => by cases e; try rfl)) dX0_init_140 (fun H hB => ?_)
  rw [← eμ102] at hB
  have hcap : 1 + m4 + 1 + m13 + 1 + m22 + 3 + m41 + 1 + m50 + 1 + m59 + 1 + m68 + 1 + m77 + 1 + m86 + 1 + m95 + 1 ≤ mc ∧ 16 + m5 + 8 + m14 + 8 + m23 + 918 + m42 + 8 + m51 + 8 + m60 + 8 + m69 + 8 + m78 + 8 + m87 + 8 + m96 + 8 ≤ ms := ⟨hc103a, hc103b⟩
  refine lv_dup hx hb dX0_init_143 rfl ?_
  refine lv_aload_n hx hb dX0_init_144 rfl (lv_at hl 0 rfl) ?_
  obtain ⟨m104, m105, hc106a, hc106b, hp⟩ := hp
  refine z_callv (va_runIN (As := [.ref z]) (rest := [.ref a101, .int (nI 7), .ref a35, .ref a35, .ref z]) S (mX2_init l Γ zTr z (zTr_ok (z := z)) a101 z m104 m105 μ102 _ hp) ⟨va_cnB 1 hts (lw_meth q244) rfl rfl rfl (zNMw hB 0 rfl) (hts _ q129) hX2_init.2 ⟨Nat.le_of_ble_eq_true rfl, Nat.le_of_ble_eq_true rfl⟩, rfl, hts _ q243⟩ hB.preS rfl rfl hl.1 rfl (lv_room (Nat.le_of_ble_eq_true rfl)) dX0_init_145 ⟨hc106a, hc106b⟩) hB (fun μ107 H locs hp hB => ?_)
  have hcap : 1 + m4 + 1 + m13 + 1 + m22 + 3 + m41 + 1 + m50 + 1 + m59 + 1 + m68 + 1 + m77 + 1 + m86 + 1 + m95 + 1 + m104 ≤ mc ∧ 16 + m5 + 8 + m14 + 8 + m23 + 918 + m42 + 8 + m51 + 8 + m60 + 8 + m69 + 8 + m78 + 8 + m87 + 8 + m96 + 8 + m105 ≤ ms := ⟨hc106a, hc106b⟩
  obtain ⟨ht108, hp⟩ := hp
  obtain ⟨⟨_, ht, hi⟩, hp⟩ := hp
  obtain ⟨μ109, eμ109, hp⟩ := zpR_e hp
  refine g_aast S hB (r := (RX2, TX2, 8)) ht rfl (fun _ => rfl) ht108 rfl hi ((zTr_ok (z := z)).2.2.2 _ _ _ _ _ _ hB.2.2.2.2.2.2.1 ht) dX0_init_148 (fun H locs hB => ?_)
  rw [← eμ109] at hB
  refine lv_dup hx hb dX0_init_149 rfl ?_
  refine lv_bipush (v := (nI 8)) hx hb dX0_init_150 rfl ?_
  obtain ⟨hc112a, hc112b, hp⟩ := hp
  obtain ⟨a110, μ111, ea, eμ111, hp⟩ := zpN_e hp
  refine g_new S hB (ci := 102) ea rfl (T := TX2) (N := 8) (C := RX2) rfl in_X2 tyX2 tyX2_ok rfl zdefX2 q240 q241 q129 hc112a hc112b ((zTr_ok (z := z)).2.1 _ _ _ _ hB.2.2.2.2.2.2.1 hB.fresh' (fun c e => by cases e; try rfl)) dX0_init_152 (fun H hB => ?_)
  rw [← eμ111] at hB
  have hcap : 1 + m4 + 1 + m13 + 1 + m22 + 3 + m41 + 1 + m50 + 1 + m59 + 1 + m68 + 1 + m77 + 1 + m86 + 1 + m95 + 1 + m104 + 1 ≤ mc ∧ 16 + m5 + 8 + m14 + 8 + m23 + 918 + m42 + 8 + m51 + 8 + m60 + 8 + m69 + 8 + m78 + 8 + m87 + 8 + m96 + 8 + m105 + 8 ≤ ms := ⟨hc112a, hc112b⟩
  refine lv_dup hx hb dX0_init_155 rfl ?_
  refine lv_aload_n hx hb dX0_init_156 rfl (lv_at hl 0 rfl) ?_
  obtain ⟨m113, m114, hc115a, hc115b, hp⟩ := hp
  refine z_callv (va_runIN (As := [.ref z]) (rest := [.ref a110, .int (nI 8), .ref a35, .ref a35, .ref z]) S (mX2_init l Γ zTr z (zTr_ok (z := z)) a110 z m113 m114 μ111 _ hp) ⟨va_cnB 1 hts (lw_meth q244) rfl rfl rfl (zNMw hB 0 rfl) (hts _ q129) hX2_init.2 ⟨Nat.le_of_ble_eq_true rfl, Nat.le_of_ble_eq_true rfl⟩, rfl, hts _ q243⟩ hB.preS rfl rfl hl.1 rfl (lv_room (Nat.le_of_ble_eq_true rfl)) dX0_init_157 ⟨hc115a, hc115b⟩) hB (fun μ116 H locs hp hB => ?_)
  have hcap : 1 + m4 + 1 + m13 + 1 + m22 + 3 + m41 + 1 + m50 + 1 + m59 + 1 + m68 + 1 + m77 + 1 + m86 + 1 + m95 + 1 + m104 + 1 + m113 ≤ mc ∧ 16 + m5 + 8 + m14 + 8 + m23 + 918 + m42 + 8 + m51 + 8 + m60 + 8 + m69 + 8 + m78 + 8 + m87 + 8 + m96 + 8 + m105 + 8 + m114 ≤ ms := ⟨hc115a, hc115b⟩
  obtain ⟨ht117, hp⟩ := hp
  obtain ⟨⟨_, ht, hi⟩, hp⟩ := hp
  obtain ⟨μ118, eμ118, hp⟩ := zpR_e hp
  refine g_aast S hB (r := (RX2, TX2, 8)) ht rfl (fun _ => rfl) ht117 rfl hi ((zTr_ok (z := z)).2.2.2 _ _ _ _ _ _ hB.2.2.2.2.2.2.1 ht) dX0_init_160 (fun H locs hB => ?_)
  rw [← eμ118] at hB
  refine lv_dup hx hb dX0_init_161 rfl ?_
  refine lv_bipush (v := (nI 9)) hx hb dX0_init_162 rfl ?_
  obtain ⟨hc121a, hc121b, hp⟩ := hp
  obtain ⟨a119, μ120, ea, eμ120, hp⟩ := zpN_e hp
  refine g_new S hB (ci := 102) ea rfl (T := TX2) (N := 8) (C := RX2) rfl in_X2 tyX2 tyX2_ok rfl zdefX2 q240 q241 q129 hc121a hc121b ((zTr_ok (z := z)).2.1 _ _ _ _ hB.2.2.2.2.2.2.1 hB.fresh' (fun c e => by cases e; try rfl)) dX0_init_164 (fun H hB => ?_)
  rw [← eμ120] at hB
  have hcap : 1 + m4 + 1 + m13 + 1 + m22 + 3 + m41 + 1 + m50 + 1 + m59 + 1 + m68 + 1 + m77 + 1 + m86 + 1 + m95 + 1 + m104 + 1 + m113 + 1 ≤ mc ∧ 16 + m5 + 8 + m14 + 8 + m23 + 918 + m42 + 8 + m51 + 8 + m60 + 8 + m69 + 8 + m78 + 8 + m87 + 8 + m96 + 8 + m105 + 8 + m114 + 8 ≤ ms := ⟨hc121a, hc121b⟩
  refine lv_dup hx hb dX0_init_167 rfl ?_
  refine lv_aload_n hx hb dX0_init_168 rfl (lv_at hl 0 rfl) ?_
  obtain ⟨m122, m123, hc124a, hc124b, hp⟩ := hp
  refine z_callv (va_runIN (As := [.ref z]) (rest := [.ref a119, .int (nI 9), .ref a35, .ref a35, .ref z]) S (mX2_init l Γ zTr z (zTr_ok (z := z)) a119 z m122 m123 μ120 _ hp) ⟨va_cnB 1 hts (lw_meth q244) rfl rfl rfl (zNMw hB 0 rfl) (hts _ q129) hX2_init.2 ⟨Nat.le_of_ble_eq_true rfl, Nat.le_of_ble_eq_true rfl⟩, rfl, hts _ q243⟩ hB.preS rfl rfl hl.1 rfl (lv_room (Nat.le_of_ble_eq_true rfl)) dX0_init_169 ⟨hc124a, hc124b⟩) hB (fun μ125 H locs hp hB => ?_)
  have hcap : 1 + m4 + 1 + m13 + 1 + m22 + 3 + m41 + 1 + m50 + 1 + m59 + 1 + m68 + 1 + m77 + 1 + m86 + 1 + m95 + 1 + m104 + 1 + m113 + 1 + m122 ≤ mc ∧ 16 + m5 + 8 + m14 + 8 + m23 + 918 + m42 + 8 + m51 + 8 + m60 + 8 + m69 + 8 + m78 + 8 + m87 + 8 + m96 + 8 + m105 + 8 + m114 + 8 + m123 ≤ ms := ⟨hc124a, hc124b⟩
  obtain ⟨ht126, hp⟩ := hp
  obtain ⟨⟨_, ht, hi⟩, hp⟩ := hp
  obtain ⟨μ127, eμ127, hp⟩ := zpR_e hp
  refine g_aast S hB (r := (RX2, TX2, 8)) ht rfl (fun _ => rfl) ht126 rfl hi ((zTr_ok (z := z)).2.2.2 _ _ _ _ _ _ hB.2.2.2.2.2.2.1 ht) dX0_init_172 (fun H locs hB => ?_)
  rw [← eμ127] at hB
  obtain ⟨ht128, hp⟩ := hp
  obtain ⟨μ129, eμ129, hp⟩ := zpR_e hp
  refine W.eq (g2 := F0 m 173 ls [va_rf (some a35), .ref z]) rfl ?_
  refine g_putFR S hB ht128 rfl (T := TX0) (N := 33) (C := RX0) rfl in_X0 7 (by decide) (by decide) (x := (some a35)) tyX0 tyX0_ok nmX0 q312 (fun _ h9 => h9) rfl hnm rfl (ty := .array (.object "SunkTower$State")) (by decide +kernel) (zfits_a _ _) (znar_a _ _) (fun _ _ => rfl) ((zTr_ok (z := z)).1 _ _ _ _ _ _ hB.2.2.2.2.2.2.1 ht128 rfl) dX0_init_173 (fun H locs hB => ?_)
  rw [← eμ129] at hB
  refine lv_aload_n hx hb dX0_init_176 rfl (lv_at hl 0 rfl) ?_
  refine lv_bipush (v := (nI 6)) hx hb dX0_init_177 rfl ?_
  obtain ⟨hc132a, hc132b, hp⟩ := hp
  obtain ⟨a130, μ131, ea, eμ131, hp⟩ := zpN_e hp
  refine g_newa S hB (kd := 0) (N := 6) (atype := .int) ea rfl q239 rfl (fun _ _ h => h) (zdefa0 6) (by decide) (by decide) (Nat.le_of_ble_eq_true rfl) hc132a hc132b ((zTr_ok (z := z)).2.1 _ _ _ _ hB.2.2.2.2.2.2.1 hB.fresh' (fun c e => by cases e; try rfl)) dX0_init_179 (fun H hB => ?_)
  rw [← eμ131] at hB
  have hcap : 1 + m4 + 1 + m13 + 1 + m22 + 3 + m41 + 1 + m50 + 1 + m59 + 1 + m68 + 1 + m77 + 1 + m86 + 1 + m95 + 1 + m104 + 1 + m113 + 1 + m122 + 1 ≤ mc ∧ 16 + m5 + 8 + m14 + 8 + m23 + 918 + m42 + 8 + m51 + 8 + m60 + 8 + m69 + 8 + m78 + 8 + m87 + 8 + m96 + 8 + m105 + 8 + m114 + 8 + m123 + 6 ≤ ms := ⟨hc132a, hc132b⟩
  obtain ⟨ht133, hp⟩ := hp
  obtain ⟨μ134, eμ134, hp⟩ := zpR_e hp
  refine W.eq (g2 := F0 m 181 ls [va_rf (some a130), .ref z]) rfl ?_
  refine g_putFR S hB ht133 rfl (T := TX0) (N := 33) (C := RX0) rfl in_X0 11 (by decide) (by decide) (x := (some a130)) tyX0 tyX0_ok nmX0 q316 (fun _ h9 => h9) rfl hnm rfl (ty := .array .int) (by decide +kernel) (zfits_a _ _) (znar_a _ _) (fun _ _ => rfl) ((zTr_ok (z := z)).1 _ _ _ _ _ _ hB.2.2.2.2.2.2.1 ht133 rfl) dX0_init_181 (fun H locs hB => ?_)
  rw [← eμ134] at hB
  refine lv_aload_n hx hb dX0_init_184 rfl (lv_at hl 0 rfl) ?_
  refine lv_bipush (v := (nI 6)) hx hb dX0_init_185 rfl ?_
  obtain ⟨hc137a, hc137b, hp⟩ := hp
  obtain ⟨a135, μ136, ea, eμ136, hp⟩ := zpN_e hp
  refine g_newa S hB (kd := 0) (N := 6) (atype := .int) ea rfl q239 rfl (fun _ _ h => h) (zdefa0 6) (by decide) (by decide) (Nat.le_of_ble_eq_true rfl) hc137a hc137b ((zTr_ok (z := z)).2.1 _ _ _ _ hB.2.2.2.2.2.2.1 hB.fresh' (fun c e => by cases e; try rfl)) dX0_init_187 (fun H hB => ?_)
  rw [← eμ136] at hB
  have hcap : 1 + m4 + 1 + m13 + 1 + m22 + 3 + m41 + 1 + m50 + 1 + m59 + 1 + m68 + 1 + m77 + 1 + m86 + 1 + m95 + 1 + m104 + 1 + m113 + 1 + m122 + 2 ≤ mc ∧ 16 + m5 + 8 + m14 + 8 + m23 + 918 + m42 + 8 + m51 + 8 + m60 + 8 + m69 + 8 + m78 + 8 + m87 + 8 + m96 + 8 + m105 + 8 + m114 + 8 + m123 + 12 ≤ ms := ⟨hc137a, hc137b⟩
  obtain ⟨ht138, hp⟩ := hp
  obtain ⟨μ139, eμ139, hp⟩ := zpR_e hp
  refine W.eq (g2 := F0 m 189 ls [va_rf (some a135), .ref z]) rfl ?_
  refine g_putFR S hB ht138 rfl (T := TX0) (N := 33) (C := RX0) rfl in_X0 12 (by decide) (by decide) (x := (some a135)) tyX0 tyX0_ok nmX0 q318 (fun _ h9 => h9) rfl hnm rfl (ty := .array .int) (by decide +kernel) (zfits_a _ _) (znar_a _ _) (fun _ _ => rfl) ((zTr_ok (z := z)).1 _ _ _ _ _ _ hB.2.2.2.2.2.2.1 ht138 rfl) dX0_init_189 (fun H locs hB => ?_)
  rw [← eμ139] at hB
  refine lv_aload_n hx hb dX0_init_192 rfl (lv_at hl 0 rfl) ?_
  refine lv_bipush (v := (nI 54)) hx hb dX0_init_193 rfl ?_
  obtain ⟨hc142a, hc142b, hp⟩ := hp
  obtain ⟨a140, μ141, ea, eμ141, hp⟩ := zpN_e hp
  refine g_newa S hB (kd := 3) (N := 54) (atype := .long) ea rfl q294 rfl (fun _ _ h => h) (zdefa3 54) (by decide) (by decide) (Nat.le_of_ble_eq_true rfl) hc142a hc142b ((zTr_ok (z := z)).2.1 _ _ _ _ hB.2.2.2.2.2.2.1 hB.fresh' (fun c e => by cases e; try rfl)) dX0_init_195 (fun H hB => ?_)
  rw [← eμ141] at hB
  have hcap : 1 + m4 + 1 + m13 + 1 + m22 + 3 + m41 + 1 + m50 + 1 + m59 + 1 + m68 + 1 + m77 + 1 + m86 + 1 + m95 + 1 + m104 + 1 + m113 + 1 + m122 + 3 ≤ mc ∧ 16 + m5 + 8 + m14 + 8 + m23 + 918 + m42 + 8 + m51 + 8 + m60 + 8 + m69 + 8 + m78 + 8 + m87 + 8 + m96 + 8 + m105 + 8 + m114 + 8 + m123 + 66 ≤ ms := ⟨hc142a, hc142b⟩
  obtain ⟨ht143, hp⟩ := hp
  obtain ⟨μ144, eμ144, hp⟩ := zpR_e hp
  refine W.eq (g2 := F0 m 197 ls [va_rf (some a140), .ref z]) rfl ?_
  refine g_putFR S hB ht143 rfl (T := TX0) (N := 33) (C := RX0) rfl in_X0 14 (by decide) (by decide) (x := (some a140)) tyX0 tyX0_ok nmX0 q320 (fun _ h9 => h9) rfl hnm rfl (ty := .array .long) (by decide +kernel) (zfits_a _ _) (znar_a _ _) (fun _ _ => rfl) ((zTr_ok (z := z)).1 _ _ _ _ _ _ hB.2.2.2.2.2.2.1 ht143 rfl) dX0_init_197 (fun H locs hB => ?_)
  rw [← eμ144] at hB
  refine lv_aload_n hx hb dX0_init_200 rfl (lv_at hl 0 rfl) ?_
  refine lv_bipush (v := (nI 54)) hx hb dX0_init_201 rfl ?_
  obtain ⟨hc147a, hc147b, hp⟩ := hp
  obtain ⟨a145, μ146, ea, eμ146, hp⟩ := zpN_e hp
  refine g_newa S hB (kd := 3) (N := 54) (atype := .long) ea rfl q294 rfl (fun _ _ h => h) (zdefa3 54) (by decide) (by decide) (Nat.le_of_ble_eq_true rfl) hc147a hc147b ((zTr_ok (z := z)).2.1 _ _ _ _ hB.2.2.2.2.2.2.1 hB.fresh' (fun c e => by cases e; try rfl)) dX0_init_203 (fun H hB => ?_)
  rw [← eμ146] at hB
  have hcap : 1 + m4 + 1 + m13 + 1 + m22 + 3 + m41 + 1 + m50 + 1 + m59 + 1 + m68 + 1 + m77 + 1 + m86 + 1 + m95 + 1 + m104 + 1 + m113 + 1 + m122 + 4 ≤ mc ∧ 16 + m5 + 8 + m14 + 8 + m23 + 918 + m42 + 8 + m51 + 8 + m60 + 8 + m69 + 8 + m78 + 8 + m87 + 8 + m96 + 8 + m105 + 8 + m114 + 8 + m123 + 120 ≤ ms := ⟨hc147a, hc147b⟩
  obtain ⟨ht148, hp⟩ := hp
  obtain ⟨μ149, eμ149, hp⟩ := zpR_e hp
  refine W.eq (g2 := F0 m 205 ls [va_rf (some a145), .ref z]) rfl ?_
  refine g_putFR S hB ht148 rfl (T := TX0) (N := 33) (C := RX0) rfl in_X0 15 (by decide) (by decide) (x := (some a145)) tyX0 tyX0_ok nmX0 q321 (fun _ h9 => h9) rfl hnm rfl (ty := .array .long) (by decide +kernel) (zfits_a _ _) (znar_a _ _) (fun _ _ => rfl) ((zTr_ok (z := z)).1 _ _ _ _ _ _ hB.2.2.2.2.2.2.1 ht148 rfl) dX0_init_205 (fun H locs hB => ?_)
  rw [← eμ149] at hB
  refine lv_aload_n hx hb dX0_init_208 rfl (lv_at hl 0 rfl) ?_
  refine lv_iconst (v := (nI 5)) hx hb dX0_init_209 rfl ?_
  obtain ⟨hc152a, hc152b, hp⟩ := hp
  obtain ⟨a150, μ151, ea, eμ151, hp⟩ := zpN_e hp
  refine g_newa S hB (kd := 0) (N := 5) (atype := .int) ea rfl q239 rfl (fun _ _ h => h) (zdefa0 5) (by decide) (by decide) (Nat.le_of_ble_eq_true rfl) hc152a hc152b ((zTr_ok (z := z)).2.1 _ _ _ _ hB.2.2.2.2.2.2.1 hB.fresh' (fun c e => by cases e; try rfl)) dX0_init_210 (fun H hB => ?_)
  rw [← eμ151] at hB
  have hcap : 1 + m4 + 1 + m13 + 1 + m22 + 3 + m41 + 1 + m50 + 1 + m59 + 1 + m68 + 1 + m77 + 1 + m86 + 1 + m95 + 1 + m104 + 1 + m113 + 1 + m122 + 5 ≤ mc ∧ 16 + m5 + 8 + m14 + 8 + m23 + 918 + m42 + 8 + m51 + 8 + m60 + 8 + m69 + 8 + m78 + 8 + m87 + 8 + m96 + 8 + m105 + 8 + m114 + 8 + m123 + 125 ≤ ms := ⟨hc152a, hc152b⟩
  obtain ⟨ht153, hp⟩ := hp
  obtain ⟨μ154, eμ154, hp⟩ := zpR_e hp
  refine W.eq (g2 := F0 m 212 ls [va_rf (some a150), .ref z]) rfl ?_
  refine g_putFR S hB ht153 rfl (T := TX0) (N := 33) (C := RX0) rfl in_X0 16 (by decide) (by decide) (x := (some a150)) tyX0 tyX0_ok nmX0 q322 (fun _ h9 => h9) rfl hnm rfl (ty := .array .int) (by decide +kernel) (zfits_a _ _) (znar_a _ _) (fun _ _ => rfl) ((zTr_ok (z := z)).1 _ _ _ _ _ _ hB.2.2.2.2.2.2.1 ht153 rfl) dX0_init_212 (fun H locs hB => ?_)
  rw [← eμ154] at hB
  refine lv_aload_n hx hb dX0_init_215 rfl (lv_at hl 0 rfl) ?_
  refine lv_iconst (v := (nI 5)) hx hb dX0_init_216 rfl ?_
  obtain ⟨hc157a, hc157b, hp⟩ := hp
  obtain ⟨a155, μ156, ea, eμ156, hp⟩ := zpN_e hp
  refine g_newa S hB (kd := 0) (N := 5) (atype := .int) ea rfl q239 rfl (fun _ _ h => h) (zdefa0 5) (by decide) (by decide) (Nat.le_of_ble_eq_true rfl) hc157a hc157b ((zTr_ok (z := z)).2.1 _ _ _ _ hB.2.2.2.2.2.2.1 hB.fresh' (fun c e => by cases e; try rfl)) dX0_init_217 (fun H hB => ?_)
  rw [← eμ156] at hB
  have hcap : 1 + m4 + 1 + m13 + 1 + m22 + 3 + m41 + 1 + m50 + 1 + m59 + 1 + m68 + 1 + m77 + 1 + m86 + 1 + m95 + 1 + m104 + 1 + m113 + 1 + m122 + 6 ≤ mc ∧ 16 + m5 + 8 + m14 + 8 + m23 + 918 + m42 + 8 + m51 + 8 + m60 + 8 + m69 + 8 + m78 + 8 + m87 + 8 + m96 + 8 + m105 + 8 + m114 + 8 + m123 + 130 ≤ ms := ⟨hc157a, hc157b⟩
  obtain ⟨ht158, hp⟩ := hp
  obtain ⟨μ159, eμ159, hp⟩ := zpR_e hp
  refine W.eq (g2 := F0 m 219 ls [va_rf (some a155), .ref z]) rfl ?_
  refine g_putFR S hB ht158 rfl (T := TX0) (N := 33) (C := RX0) rfl in_X0 17 (by decide) (by decide) (x := (some a155)) tyX0 tyX0_ok nmX0 q323 (fun _ h9 => h9) rfl hnm rfl (ty := .array .int) (by decide +kernel) (zfits_a _ _) (znar_a _ _) (fun _ _ => rfl) ((zTr_ok (z := z)).1 _ _ _ _ _ _ hB.2.2.2.2.2.2.1 ht158 rfl) dX0_init_219 (fun H locs hB => ?_)
  rw [← eμ159] at hB
  refine lv_aload_n hx hb dX0_init_222 rfl (lv_at hl 0 rfl) ?_
  refine lv_iconst (v := (nI 3)) hx hb dX0_init_223 rfl ?_
  obtain ⟨hc162a, hc162b, hp⟩ := hp
  obtain ⟨a160, μ161, ea, eμ161, hp⟩ := zpN_e hp
  refine g_newa S hB (kd := 0) (N := 3) (atype := .int) ea rfl q239 rfl (fun _ _ h => h) (zdefa0 3) (by decide) (by decide) (Nat.le_of_ble_eq_true rfl) hc162a hc162b ((zTr_ok (z := z)).2.1 _ _ _ _ hB.2.2.2.2.2.2.1 hB.fresh' (fun c e => by cases e; try rfl)) dX0_init_224 (fun H hB => ?_)
  rw [← eμ161] at hB
  have hcap : 1 + m4 + 1 + m13 + 1 + m22 + 3 + m41 + 1 + m50 + 1 + m59 + 1 + m68 + 1 + m77 + 1 + m86 + 1 + m95 + 1 + m104 + 1 + m113 + 1 + m122 + 7 ≤ mc ∧ 16 + m5 + 8 + m14 + 8 + m23 + 918 + m42 + 8 + m51 + 8 + m60 + 8 + m69 + 8 + m78 + 8 + m87 + 8 + m96 + 8 + m105 + 8 + m114 + 8 + m123 + 133 ≤ ms := ⟨hc162a, hc162b⟩
  obtain ⟨ht163, hp⟩ := hp
  obtain ⟨μ164, eμ164, hp⟩ := zpR_e hp
  refine W.eq (g2 := F0 m 226 ls [va_rf (some a160), .ref z]) rfl ?_
  refine g_putFR S hB ht163 rfl (T := TX0) (N := 33) (C := RX0) rfl in_X0 20 (by decide) (by decide) (x := (some a160)) tyX0 tyX0_ok nmX0 q326 (fun _ h9 => h9) rfl hnm rfl (ty := .array .int) (by decide +kernel) (zfits_a _ _) (znar_a _ _) (fun _ _ => rfl) ((zTr_ok (z := z)).1 _ _ _ _ _ _ hB.2.2.2.2.2.2.1 ht163 rfl) dX0_init_226 (fun H locs hB => ?_)
  rw [← eμ164] at hB
  refine lv_aload_n hx hb dX0_init_229 rfl (lv_at hl 0 rfl) ?_
  refine lv_iconst (v := (nI 3)) hx hb dX0_init_230 rfl ?_
  obtain ⟨hc167a, hc167b, hp⟩ := hp
  obtain ⟨a165, μ166, ea, eμ166, hp⟩ := zpN_e hp
  refine g_newa S hB (kd := 0) (N := 3) (atype := .int) ea rfl q239 rfl (fun _ _ h => h) (zdefa0 3) (by decide) (by decide) (Nat.le_of_ble_eq_true rfl) hc167a hc167b ((zTr_ok (z := z)).2.1 _ _ _ _ hB.2.2.2.2.2.2.1 hB.fresh' (fun c e => by cases e; try rfl)) dX0_init_231 (fun H hB => ?_)
  rw [← eμ166] at hB
  have hcap : 1 + m4 + 1 + m13 + 1 + m22 + 3 + m41 + 1 + m50 + 1 + m59 + 1 + m68 + 1 + m77 + 1 + m86 + 1 + m95 + 1 + m104 + 1 + m113 + 1 + m122 + 8 ≤ mc ∧ 16 + m5 + 8 + m14 + 8 + m23 + 918 + m42 + 8 + m51 + 8 + m60 + 8 + m69 + 8 + m78 + 8 + m87 + 8 + m96 + 8 + m105 + 8 + m114 + 8 + m123 + 136 ≤ ms := ⟨hc167a, hc167b⟩
  obtain ⟨ht168, hp⟩ := hp
  obtain ⟨μ169, eμ169, hp⟩ := zpR_e hp
  refine W.eq (g2 := F0 m 233 ls [va_rf (some a165), .ref z]) rfl ?_
  refine g_putFR S hB ht168 rfl (T := TX0) (N := 33) (C := RX0) rfl in_X0 21 (by decide) (by decide) (x := (some a165)) tyX0 tyX0_ok nmX0 q327 (fun _ h9 => h9) rfl hnm rfl (ty := .array .int) (by decide +kernel) (zfits_a _ _) (znar_a _ _) (fun _ _ => rfl) ((zTr_ok (z := z)).1 _ _ _ _ _ _ hB.2.2.2.2.2.2.1 ht168 rfl) dX0_init_233 (fun H locs hB => ?_)
  rw [← eμ169] at hB
  refine lv_aload_n hx hb dX0_init_236 rfl (lv_at hl 0 rfl) ?_
  refine lv_bipush (v := (nI 61)) hx hb dX0_init_237 rfl ?_
  obtain ⟨hc172a, hc172b, hp⟩ := hp
  obtain ⟨a170, μ171, ea, eμ171, hp⟩ := zpN_e hp
  refine g_newa S hB (kd := 0) (N := 61) (atype := .int) ea rfl q239 rfl (fun _ _ h => h) (zdefa0 61) (by decide) (by decide) (Nat.le_of_ble_eq_true rfl) hc172a hc172b ((zTr_ok (z := z)).2.1 _ _ _ _ hB.2.2.2.2.2.2.1 hB.fresh' (fun c e => by cases e; try rfl)) dX0_init_239 (fun H hB => ?_)
  rw [← eμ171] at hB
  have hcap : 1 + m4 + 1 + m13 + 1 + m22 + 3 + m41 + 1 + m50 + 1 + m59 + 1 + m68 + 1 + m77 + 1 + m86 + 1 + m95 + 1 + m104 + 1 + m113 + 1 + m122 + 9 ≤ mc ∧ 16 + m5 + 8 + m14 + 8 + m23 + 918 + m42 + 8 + m51 + 8 + m60 + 8 + m69 + 8 + m78 + 8 + m87 + 8 + m96 + 8 + m105 + 8 + m114 + 8 + m123 + 197 ≤ ms := ⟨hc172a, hc172b⟩
  obtain ⟨ht173, hp⟩ := hp
  obtain ⟨μ174, eμ174, hp⟩ := zpR_e hp
  refine W.eq (g2 := F0 m 241 ls [va_rf (some a170), .ref z]) rfl ?_
  refine g_putFR S hB ht173 rfl (T := TX0) (N := 33) (C := RX0) rfl in_X0 25 (by decide) (by decide) (x := (some a170)) tyX0 tyX0_ok nmX0 q331 (fun _ h9 => h9) rfl hnm rfl (ty := .array .int) (by decide +kernel) (zfits_a _ _) (znar_a _ _) (fun _ _ => rfl) ((zTr_ok (z := z)).1 _ _ _ _ _ _ hB.2.2.2.2.2.2.1 ht173 rfl) dX0_init_241 (fun H locs hB => ?_)
  rw [← eμ174] at hB
  refine lv_aload_n hx hb dX0_init_244 rfl (lv_at hl 0 rfl) ?_
  refine lv_sipush (v := (nI 1000)) hx hb dX0_init_245 rfl ?_
  obtain ⟨hc177a, hc177b, hp⟩ := hp
  obtain ⟨a175, μ176, ea, eμ176, hp⟩ := zpN_e hp
  refine g_newa S hB (kd := 0) (N := 1000) (atype := .int) ea rfl q239 rfl (fun _ _ h => h) (zdefa0 1000) (by decide) (by decide) (Nat.le_of_ble_eq_true rfl) hc177a hc177b ((zTr_ok (z := z)).2.1 _ _ _ _ hB.2.2.2.2.2.2.1 hB.fresh' (fun c e => by cases e; try rfl)) dX0_init_248 (fun H hB => ?_)
  rw [← eμ176] at hB
  have hcap : 1 + m4 + 1 + m13 + 1 + m22 + 3 + m41 + 1 + m50 + 1 + m59 + 1 + m68 + 1 + m77 + 1 + m86 + 1 + m95 + 1 + m104 + 1 + m113 + 1 + m122 + 10 ≤ mc ∧ 16 + m5 + 8 + m14 + 8 + m23 + 918 + m42 + 8 + m51 + 8 + m60 + 8 + m69 + 8 + m78 + 8 + m87 + 8 + m96 + 8 + m105 + 8 + m114 + 8 + m123 + 1197 ≤ ms := ⟨hc177a, hc177b⟩
  obtain ⟨ht178, hp⟩ := hp
  obtain ⟨μ179, eμ179, hp⟩ := zpR_e hp
  refine W.eq (g2 := F0 m 250 ls [va_rf (some a175), .ref z]) rfl ?_
  refine g_putFR S hB ht178 rfl (T := TX0) (N := 33) (C := RX0) rfl in_X0 26 (by decide) (by decide) (x := (some a175)) tyX0 tyX0_ok nmX0 q332 (fun _ h9 => h9) rfl hnm rfl (ty := .array .int) (by decide +kernel) (zfits_a _ _) (znar_a _ _) (fun _ _ => rfl) ((zTr_ok (z := z)).1 _ _ _ _ _ _ hB.2.2.2.2.2.2.1 ht178 rfl) dX0_init_250 (fun H locs hB => ?_)
  rw [← eμ179] at hB
  refine lv_aload_n hx hb dX0_init_253 rfl (lv_at hl 0 rfl) ?_
  refine lv_ldc (v := (nI 100000)) hx hb hown (hts _ q279) dX0_init_254 ?_
  obtain ⟨hc182a, hc182b, hp⟩ := hp
  obtain ⟨a180, μ181, ea, eμ181, hp⟩ := zpN_e hp
  refine g_newa S hB (kd := 0) (N := 100000) (atype := .int) ea rfl q239 rfl (fun _ _ h => h) (zdefa0 100000) (by decide) (by decide) (Nat.le_of_ble_eq_true rfl) hc182a hc182b ((zTr_ok (z := z)).2.1 _ _ _ _ hB.2.2.2.2.2.2.1 hB.fresh' (fun c e => by cases e; try rfl)) dX0_init_256 (fun H hB => ?_)
  rw [← eμ181] at hB
  have hcap : 1 + m4 + 1 + m13 + 1 + m22 + 3 + m41 + 1 + m50 + 1 + m59 + 1 + m68 + 1 + m77 + 1 + m86 + 1 + m95 + 1 + m104 + 1 + m113 + 1 + m122 + 11 ≤ mc ∧ 16 + m5 + 8 + m14 + 8 + m23 + 918 + m42 + 8 + m51 + 8 + m60 + 8 + m69 + 8 + m78 + 8 + m87 + 8 + m96 + 8 + m105 + 8 + m114 + 8 + m123 + 101197 ≤ ms := ⟨hc182a, hc182b⟩
  obtain ⟨ht183, hp⟩ := hp
  obtain ⟨μ184, eμ184, hp⟩ := zpR_e hp
  refine W.eq (g2 := F0 m 258 ls [va_rf (some a180), .ref z]) rfl ?_
  refine g_putFR S hB ht183 rfl (T := TX0) (N := 33) (C := RX0) rfl in_X0 27 (by decide) (by decide) (x := (some a180)) tyX0 tyX0_ok nmX0 q333 (fun _ h9 => h9) rfl hnm rfl (ty := .array .int) (by decide +kernel) (zfits_a _ _) (znar_a _ _) (fun _ _ => rfl) ((zTr_ok (z := z)).1 _ _ _ _ _ _ hB.2.2.2.2.2.2.1 ht183 rfl) dX0_init_258 (fun H locs hB => ?_)
  rw [← eμ184] at hB
  refine lv_aload_n hx hb dX0_init_261 rfl (lv_at hl 0 rfl) ?_
  refine lv_bipush (v := (nI 61)) hx hb dX0_init_262 rfl ?_
  obtain ⟨hc187a, hc187b, hp⟩ := hp
  obtain ⟨a185, μ186, ea, eμ186, hp⟩ := zpN_e hp
  refine g_newa S hB (kd := 0) (N := 61) (atype := .int) ea rfl q239 rfl (fun _ _ h => h) (zdefa0 61) (by decide) (by decide) (Nat.le_of_ble_eq_true rfl) hc187a hc187b ((zTr_ok (z := z)).2.1 _ _ _ _ hB.2.2.2.2.2.2.1 hB.fresh' (fun c e => by cases e; try rfl)) dX0_init_264 (fun H hB => ?_)
  rw [← eμ186] at hB
  have hcap : 1 + m4 + 1 + m13 + 1 + m22 + 3 + m41 + 1 + m50 + 1 + m59 + 1 + m68 + 1 + m77 + 1 + m86 + 1 + m95 + 1 + m104 + 1 + m113 + 1 + m122 + 12 ≤ mc ∧ 16 + m5 + 8 + m14 + 8 + m23 + 918 + m42 + 8 + m51 + 8 + m60 + 8 + m69 + 8 + m78 + 8 + m87 + 8 + m96 + 8 + m105 + 8 + m114 + 8 + m123 + 101258 ≤ ms := ⟨hc187a, hc187b⟩
  obtain ⟨ht188, hp⟩ := hp
  obtain ⟨μ189, eμ189, hp⟩ := zpR_e hp
  refine W.eq (g2 := F0 m 266 ls [va_rf (some a185), .ref z]) rfl ?_
  refine g_putFR S hB ht188 rfl (T := TX0) (N := 33) (C := RX0) rfl in_X0 28 (by decide) (by decide) (x := (some a185)) tyX0 tyX0_ok nmX0 q334 (fun _ h9 => h9) rfl hnm rfl (ty := .array .int) (by decide +kernel) (zfits_a _ _) (znar_a _ _) (fun _ _ => rfl) ((zTr_ok (z := z)).1 _ _ _ _ _ _ hB.2.2.2.2.2.2.1 ht188 rfl) dX0_init_266 (fun H locs hB => ?_)
  rw [← eμ189] at hB
  refine lv_aload_n hx hb dX0_init_269 rfl (lv_at hl 0 rfl) ?_
  refine lv_ldc (v := (nI 61000)) hx hb hown (hts _ q280) dX0_init_270 ?_
  obtain ⟨hc192a, hc192b, hp⟩ := hp
  obtain ⟨a190, μ191, ea, eμ191, hp⟩ := zpN_e hp
  refine g_newa S hB (kd := 0) (N := 61000) (atype := .int) ea rfl q239 rfl (fun _ _ h => h) (zdefa0 61000) (by decide) (by decide) (Nat.le_of_ble_eq_true rfl) hc192a hc192b ((zTr_ok (z := z)).2.1 _ _ _ _ hB.2.2.2.2.2.2.1 hB.fresh' (fun c e => by cases e; try rfl)) dX0_init_272 (fun H hB => ?_)
  rw [← eμ191] at hB
  have hcap : 1 + m4 + 1 + m13 + 1 + m22 + 3 + m41 + 1 + m50 + 1 + m59 + 1 + m68 + 1 + m77 + 1 + m86 + 1 + m95 + 1 + m104 + 1 + m113 + 1 + m122 + 13 ≤ mc ∧ 16 + m5 + 8 + m14 + 8 + m23 + 918 + m42 + 8 + m51 + 8 + m60 + 8 + m69 + 8 + m78 + 8 + m87 + 8 + m96 + 8 + m105 + 8 + m114 + 8 + m123 + 162258 ≤ ms := ⟨hc192a, hc192b⟩
  obtain ⟨ht193, hp⟩ := hp
  obtain ⟨μ194, eμ194, hp⟩ := zpR_e hp
  refine W.eq (g2 := F0 m 274 ls [va_rf (some a190), .ref z]) rfl ?_
  refine g_putFR S hB ht193 rfl (T := TX0) (N := 33) (C := RX0) rfl in_X0 29 (by decide) (by decide) (x := (some a190)) tyX0 tyX0_ok nmX0 q335 (fun _ h9 => h9) rfl hnm rfl (ty := .array .int) (by decide +kernel) (zfits_a _ _) (znar_a _ _) (fun _ _ => rfl) ((zTr_ok (z := z)).1 _ _ _ _ _ _ hB.2.2.2.2.2.2.1 ht193 rfl) dX0_init_274 (fun H locs hB => ?_)
  rw [← eμ194] at hB
  refine lv_aload_n hx hb dX0_init_277 rfl (lv_at hl 0 rfl) ?_
  refine lv_iconst (v := (nI 4)) hx hb dX0_init_278 rfl ?_
  obtain ⟨hc197a, hc197b, hp⟩ := hp
  obtain ⟨a195, μ196, ea, eμ196, hp⟩ := zpN_e hp
  refine g_newq S hB (kd := 6) (N := 4) ea q281 (by decide) rfl (fun _ _ => rfl) (by decide) (by decide) (Nat.le_of_ble_eq_true rfl) hc197a hc197b ((zTr_ok (z := z)).2.1 _ _ _ _ hB.2.2.2.2.2.2.1 hB.fresh' (fun c e => by cases e; try rfl)) dX0_init_279 (fun H hB => ?_)
  rw [← eμ196] at hB
  have hcap : 1 + m4 + 1 + m13 + 1 + m22 + 3 + m41 + 1 + m50 + 1 + m59 + 1 + m68 + 1 + m77 + 1 + m86 + 1 + m95 + 1 + m104 + 1 + m113 + 1 + m122 + 14 ≤ mc ∧ 16 + m5 + 8 + m14 + 8 + m23 + 918 + m42 + 8 + m51 + 8 + m60 + 8 + m69 + 8 + m78 + 8 + m87 + 8 + m96 + 8 + m105 + 8 + m114 + 8 + m123 + 162262 ≤ ms := ⟨hc197a, hc197b⟩
  refine lv_dup hx hb dX0_init_282 rfl ?_
  refine lv_iconst (v := (nI 0)) hx hb dX0_init_283 rfl ?_
  obtain ⟨hc200a, hc200b, hp⟩ := hp
  obtain ⟨a198, μ199, ea, eμ199, hp⟩ := zpN_e hp
  refine g_new S hB (ci := 3) ea rfl (T := TX3) (N := 1) (C := RX3) rfl in_X3 tyX3 tyX3_ok rfl zdefX3 q281 q283 q130 hc200a hc200b ((zTr_ok (z := z)).2.1 _ _ _ _ hB.2.2.2.2.2.2.1 hB.fresh' (fun c e => by cases e; try rfl)) dX0_init_284 (fun H hB => ?_)
  rw [← eμ199] at hB
  have hcap : 1 + m4 + 1 + m13 + 1 + m22 + 3 + m41 + 1 + m50 + 1 + m59 + 1 + m68 + 1 + m77 + 1 + m86 + 1 + m95 + 1 + m104 + 1 + m113 + 1 + m122 + 15 ≤ mc ∧ 16 + m5 + 8 + m14 + 8 + m23 + 918 + m42 + 8 + m51 + 8 + m60 + 8 + m69 + 8 + m78 + 8 + m87 + 8 + m96 + 8 + m105 + 8 + m114 + 8 + m123 + 162263 ≤ ms := ⟨hc200a, hc200b⟩
  refine lv_dup hx hb dX0_init_287 rfl ?_
  refine z_callv (va_runIN (As := []) (rest := [.ref a198, .int (nI 0), .ref a195, .ref a195, .ref z]) S (mX3_init l Γ zTr z (zTr_ok (z := z)) a198 μ199 _ hp) ⟨va_cnB 0 hts (lw_meth q286) rfl rfl rfl (zNMw hB 1 rfl) (hts _ q130) hX3_init.2 ⟨Nat.le_of_ble_eq_true rfl, Nat.le_of_ble_eq_true rfl⟩, rfl, hts _ q285⟩ hB.preS rfl rfl hl.1 rfl (lv_room (Nat.le_of_ble_eq_true rfl)) dX0_init_288 hcap) hB (fun μ201 H locs hp hB => ?_)
  obtain ⟨ht202, hp⟩ := hp
  obtain ⟨⟨_, ht, hi⟩, hp⟩ := hp
  obtain ⟨μ203, eμ203, hp⟩ := zpR_e hp
  refine g_aast S hB (r := (RX3, TX3, 1)) ht rfl (fun _ => rfl) ht202 rfl hi ((zTr_ok (z := z)).2.2.2 _ _ _ _ _ _ hB.2.2.2.2.2.2.1 ht) dX0_init_291 (fun H locs hB => ?_)
  rw [← eμ203] at hB
  refine lv_dup hx hb dX0_init_292 rfl ?_
  refine lv_iconst (v := (nI 1)) hx hb dX0_init_293 rfl ?_
  obtain ⟨hc206a, hc206b, hp⟩ := hp
  obtain ⟨a204, μ205, ea, eμ205, hp⟩ := zpN_e hp
  refine g_new S hB (ci := 3) ea rfl (T := TX3) (N := 1) (C := RX3) rfl in_X3 tyX3 tyX3_ok rfl zdefX3 q281 q283 q130 hc206a hc206b ((zTr_ok (z := z)).2.1 _ _ _ _ hB.2.2.2.2.2.2.1 hB.fresh' (fun c e => by cases e; try rfl)) dX0_init_294 (fun H hB => ?_)
  rw [← eμ205] at hB
  have hcap : 1 + m4 + 1 + m13 + 1 + m22 + 3 + m41 + 1 + m50 + 1 + m59 + 1 + m68 + 1 + m77 + 1 + m86 + 1 + m95 + 1 + m104 + 1 + m113 + 1 + m122 + 16 ≤ mc ∧ 16 + m5 + 8 + m14 + 8 + m23 + 918 + m42 + 8 + m51 + 8 + m60 + 8 + m69 + 8 + m78 + 8 + m87 + 8 + m96 + 8 + m105 + 8 + m114 + 8 + m123 + 162264 ≤ ms := ⟨hc206a, hc206b⟩
  refine lv_dup hx hb dX0_init_297 rfl ?_
  refine z_callv (va_runIN (As := []) (rest := [.ref a204, .int (nI 1), .ref a195, .ref a195, .ref z]) S (mX3_init l Γ zTr z (zTr_ok (z := z)) a204 μ205 _ hp) ⟨va_cnB 0 hts (lw_meth q286) rfl rfl rfl (zNMw hB 1 rfl) (hts _ q130) hX3_init.2 ⟨Nat.le_of_ble_eq_true rfl, Nat.le_of_ble_eq_true rfl⟩, rfl, hts _ q285⟩ hB.preS rfl rfl hl.1 rfl (lv_room (Nat.le_of_ble_eq_true rfl)) dX0_init_298 hcap) hB (fun μ207 H locs hp hB => ?_)
  obtain ⟨ht208, hp⟩ := hp
  obtain ⟨⟨_, ht, hi⟩, hp⟩ := hp
  obtain ⟨μ209, eμ209, hp⟩ := zpR_e hp
  refine g_aast S hB (r := (RX3, TX3, 1)) ht rfl (fun _ => rfl) ht208 rfl hi ((zTr_ok (z := z)).2.2.2 _ _ _ _ _ _ hB.2.2.2.2.2.2.1 ht) dX0_init_301 (fun H locs hB => ?_)
  rw [← eμ209] at hB
  refine lv_dup hx hb dX0_init_302 rfl ?_
  refine lv_iconst (v := (nI 2)) hx hb dX0_init_303 rfl ?_
  obtain ⟨hc212a, hc212b, hp⟩ := hp
  obtain ⟨a210, μ211, ea, eμ211, hp⟩ := zpN_e hp
  refine g_new S hB (ci := 3) ea rfl (T := TX3) (N := 1) (C := RX3) rfl in_X3 tyX3 tyX3_ok rfl zdefX3 q281 q283 q130 hc212a hc212b ((zTr_ok (z := z)).2.1 _ _ _ _ hB.2.2.2.2.2.2.1 hB.fresh' (fun c e => by cases e; try rfl)) dX0_init_304 (fun H hB => ?_)
  rw [← eμ211] at hB
  have hcap : 1 + m4 + 1 + m13 + 1 + m22 + 3 + m41 + 1 + m50 + 1 + m59 + 1 + m68 + 1 + m77 + 1 + m86 + 1 + m95 + 1 + m104 + 1 + m113 + 1 + m122 + 17 ≤ mc ∧ 16 + m5 + 8 + m14 + 8 + m23 + 918 + m42 + 8 + m51 + 8 + m60 + 8 + m69 + 8 + m78 + 8 + m87 + 8 + m96 + 8 + m105 + 8 + m114 + 8 + m123 + 162265 ≤ ms := ⟨hc212a, hc212b⟩
  refine lv_dup hx hb dX0_init_307 rfl ?_
  refine z_callv (va_runIN (As := []) (rest := [.ref a210, .int (nI 2), .ref a195, .ref a195, .ref z]) S (mX3_init l Γ zTr z (zTr_ok (z := z)) a210 μ211 _ hp) ⟨va_cnB 0 hts (lw_meth q286) rfl rfl rfl (zNMw hB 1 rfl) (hts _ q130) hX3_init.2 ⟨Nat.le_of_ble_eq_true rfl, Nat.le_of_ble_eq_true rfl⟩, rfl, hts _ q285⟩ hB.preS rfl rfl hl.1 rfl (lv_room (Nat.le_of_ble_eq_true rfl)) dX0_init_308 hcap) hB (fun μ213 H locs hp hB => ?_)
  obtain ⟨ht214, hp⟩ := hp
  obtain ⟨⟨_, ht, hi⟩, hp⟩ := hp
  obtain ⟨μ215, eμ215, hp⟩ := zpR_e hp
  refine g_aast S hB (r := (RX3, TX3, 1)) ht rfl (fun _ => rfl) ht214 rfl hi ((zTr_ok (z := z)).2.2.2 _ _ _ _ _ _ hB.2.2.2.2.2.2.1 ht) dX0_init_311 (fun H locs hB => ?_)
  rw [← eμ215] at hB
  refine lv_dup hx hb dX0_init_312 rfl ?_
  refine lv_iconst (v := (nI 3)) hx hb dX0_init_313 rfl ?_
  obtain ⟨hc218a, hc218b, hp⟩ := hp
  obtain ⟨a216, μ217, ea, eμ217, hp⟩ := zpN_e hp
  refine g_new S hB (ci := 3) ea rfl (T := TX3) (N := 1) (C := RX3) rfl in_X3 tyX3 tyX3_ok rfl zdefX3 q281 q283 q130 hc218a hc218b ((zTr_ok (z := z)).2.1 _ _ _ _ hB.2.2.2.2.2.2.1 hB.fresh' (fun c e => by cases e; try rfl)) dX0_init_314 (fun H hB => ?_)
  rw [← eμ217] at hB
  have hcap : 1 + m4 + 1 + m13 + 1 + m22 + 3 + m41 + 1 + m50 + 1 + m59 + 1 + m68 + 1 + m77 + 1 + m86 + 1 + m95 + 1 + m104 + 1 + m113 + 1 + m122 + 18 ≤ mc ∧ 16 + m5 + 8 + m14 + 8 + m23 + 918 + m42 + 8 + m51 + 8 + m60 + 8 + m69 + 8 + m78 + 8 + m87 + 8 + m96 + 8 + m105 + 8 + m114 + 8 + m123 + 162266 ≤ ms := ⟨hc218a, hc218b⟩
  refine lv_dup hx hb dX0_init_317 rfl ?_
  refine z_callv (va_runIN (As := []) (rest := [.ref a216, .int (nI 3), .ref a195, .ref a195, .ref z]) S (mX3_init l Γ zTr z (zTr_ok (z := z)) a216 μ217 _ hp) ⟨va_cnB 0 hts (lw_meth q286) rfl rfl rfl (zNMw hB 1 rfl) (hts _ q130) hX3_init.2 ⟨Nat.le_of_ble_eq_true rfl, Nat.le_of_ble_eq_true rfl⟩, rfl, hts _ q285⟩ hB.preS rfl rfl hl.1 rfl (lv_room (Nat.le_of_ble_eq_true rfl)) dX0_init_318 hcap) hB (fun μ219 H locs hp hB => ?_)
  obtain ⟨ht220, hp⟩ := hp
  obtain ⟨⟨_, ht, hi⟩, hp⟩ := hp
  obtain ⟨μ221, eμ221, hp⟩ := zpR_e hp
  refine g_aast S hB (r := (RX3, TX3, 1)) ht rfl (fun _ => rfl) ht220 rfl hi ((zTr_ok (z := z)).2.2.2 _ _ _ _ _ _ hB.2.2.2.2.2.2.1 ht) dX0_init_321 (fun H locs hB => ?_)
  rw [← eμ221] at hB
  obtain ⟨ht222, hp⟩ := hp
  obtain ⟨μ223, eμ223, hp⟩ := zpR_e hp
  refine W.eq (g2 := F0 m 322 ls [va_rf (some a195), .ref z]) rfl ?_
  refine g_putFR S hB ht222 rfl (T := TX0) (N := 33) (C := RX0) rfl in_X0 30 (by decide) (by decide) (x := (some a195)) tyX0 tyX0_ok nmX0 q336 (fun _ h9 => h9) rfl hnm rfl (ty := .array (.object "SunkTower$Numbers")) (by decide +kernel) (zfits_a _ _) (znar_a _ _) (fun _ _ => rfl) ((zTr_ok (z := z)).1 _ _ _ _ _ _ hB.2.2.2.2.2.2.1 ht222 rfl) dX0_init_322 (fun H locs hB => ?_)
  rw [← eμ223] at hB
  refine lv_aload_n hx hb dX0_init_325 rfl (lv_at hl 0 rfl) ?_
  refine lv_iconst (v := (nI 2)) hx hb dX0_init_326 rfl ?_
  obtain ⟨hc226a, hc226b, hp⟩ := hp
  obtain ⟨a224, μ225, ea, eμ225, hp⟩ := zpN_e hp
  refine g_newq S hB (kd := 7) (N := 2) ea q160 (by decide) rfl (fun _ _ => rfl) (by decide) (by decide) (Nat.le_of_ble_eq_true rfl) hc226a hc226b ((zTr_ok (z := z)).2.1 _ _ _ _ hB.2.2.2.2.2.2.1 hB.fresh' (fun c e => by cases e; try rfl)) dX0_init_327 (fun H hB => ?_)
  rw [← eμ225] at hB
  have hcap : 1 + m4 + 1 + m13 + 1 + m22 + 3 + m41 + 1 + m50 + 1 + m59 + 1 + m68 + 1 + m77 + 1 + m86 + 1 + m95 + 1 + m104 + 1 + m113 + 1 + m122 + 19 ≤ mc ∧ 16 + m5 + 8 + m14 + 8 + m23 + 918 + m42 + 8 + m51 + 8 + m60 + 8 + m69 + 8 + m78 + 8 + m87 + 8 + m96 + 8 + m105 + 8 + m114 + 8 + m123 + 162268 ≤ ms := ⟨hc226a, hc226b⟩
  obtain ⟨ht227, hp⟩ := hp
  obtain ⟨μ228, eμ228, hp⟩ := zpR_e hp
  refine W.eq (g2 := F0 m 330 ls [va_rf (some a224), .ref z]) rfl ?_
  refine g_putFR S hB ht227 rfl (T := TX0) (N := 33) (C := RX0) rfl in_X0 31 (by decide) (by decide) (x := (some a224)) tyX0 tyX0_ok nmX0 q337 (fun _ h9 => h9) rfl hnm rfl (ty := .array (.object "SunkTower$Tower")) (by decide +kernel) (zfits_a _ _) (znar_a _ _) (fun _ _ => rfl) ((zTr_ok (z := z)).1 _ _ _ _ _ _ hB.2.2.2.2.2.2.1 ht227 rfl) dX0_init_330 (fun H locs hB => ?_)
  rw [← eμ228] at hB
  refine lv_aload_n hx hb dX0_init_333 rfl (lv_at hl 0 rfl) ?_
  refine lv_iconst (v := (nI 2)) hx hb dX0_init_334 rfl ?_
  obtain ⟨hc231a, hc231b, hp⟩ := hp
  obtain ⟨a229, μ230, ea, eμ230, hp⟩ := zpN_e hp
  refine g_newq S hB (kd := 5) (N := 2) ea q240 (by decide) rfl (fun _ _ => rfl) (by decide) (by decide) (Nat.le_of_ble_eq_true rfl) hc231a hc231b ((zTr_ok (z := z)).2.1 _ _ _ _ hB.2.2.2.2.2.2.1 hB.fresh' (fun c e => by cases e; try rfl)) dX0_init_335 (fun H hB => ?_)
  rw [← eμ230] at hB
  have hcap : 1 + m4 + 1 + m13 + 1 + m22 + 3 + m41 + 1 + m50 + 1 + m59 + 1 + m68 + 1 + m77 + 1 + m86 + 1 + m95 + 1 + m104 + 1 + m113 + 1 + m122 + 20 ≤ mc ∧ 16 + m5 + 8 + m14 + 8 + m23 + 918 + m42 + 8 + m51 + 8 + m60 + 8 + m69 + 8 + m78 + 8 + m87 + 8 + m96 + 8 + m105 + 8 + m114 + 8 + m123 + 162270 ≤ ms := ⟨hc231a, hc231b⟩
  refine lv_dup hx hb dX0_init_338 rfl ?_
  refine lv_iconst (v := (nI 0)) hx hb dX0_init_339 rfl ?_
  obtain ⟨hc234a, hc234b, hp⟩ := hp
  obtain ⟨a232, μ233, ea, eμ233, hp⟩ := zpN_e hp
  refine g_new S hB (ci := 102) ea rfl (T := TX2) (N := 8) (C := RX2) rfl in_X2 tyX2 tyX2_ok rfl zdefX2 q240 q241 q129 hc234a hc234b ((zTr_ok (z := z)).2.1 _ _ _ _ hB.2.2.2.2.2.2.1 hB.fresh' (fun c e => by cases e; try rfl)) dX0_init_340 (fun H hB => ?_)
  rw [← eμ233] at hB
  have hcap : 1 + m4 + 1 + m13 + 1 + m22 + 3 + m41 + 1 + m50 + 1 + m59 + 1 + m68 + 1 + m77 + 1 + m86 + 1 + m95 + 1 + m104 + 1 + m113 + 1 + m122 + 21 ≤ mc ∧ 16 + m5 + 8 + m14 + 8 + m23 + 918 + m42 + 8 + m51 + 8 + m60 + 8 + m69 + 8 + m78 + 8 + m87 + 8 + m96 + 8 + m105 + 8 + m114 + 8 + m123 + 162278 ≤ ms := ⟨hc234a, hc234b⟩
  refine lv_dup hx hb dX0_init_343 rfl ?_
  refine lv_aload_n hx hb dX0_init_344 rfl (lv_at hl 0 rfl) ?_
  obtain ⟨m235, m236, hc237a, hc237b, hp⟩ := hp
  refine z_callv (va_runIN (As := [.ref z]) (rest := [.ref a232, .int (nI 0), .ref a229, .ref a229, .ref z]) S (mX2_init l Γ zTr z (zTr_ok (z := z)) a232 z m235 m236 μ233 _ hp) ⟨va_cnB 1 hts (lw_meth q244) rfl rfl rfl (zNMw hB 0 rfl) (hts _ q129) hX2_init.2 ⟨Nat.le_of_ble_eq_true rfl, Nat.le_of_ble_eq_true rfl⟩, rfl, hts _ q243⟩ hB.preS rfl rfl hl.1 rfl (lv_room (Nat.le_of_ble_eq_true rfl)) dX0_init_345 ⟨hc237a, hc237b⟩) hB (fun μ238 H locs hp hB => ?_)
  have hcap : 1 + m4 + 1 + m13 + 1 + m22 + 3 + m41 + 1 + m50 + 1 + m59 + 1 + m68 + 1 + m77 + 1 + m86 + 1 + m95 + 1 + m104 + 1 + m113 + 1 + m122 + 21 + m235 ≤ mc ∧ 16 + m5 + 8 + m14 + 8 + m23 + 918 + m42 + 8 + m51 + 8 + m60 + 8 + m69 + 8 + m78 + 8 + m87 + 8 + m96 + 8 + m105 + 8 + m114 + 8 + m123 + 162278 + m236 ≤ ms := ⟨hc237a, hc237b⟩
  obtain ⟨ht239, hp⟩ := hp
  obtain ⟨⟨_, ht, hi⟩, hp⟩ := hp
  obtain ⟨μ240, eμ240, hp⟩ := zpR_e hp
  refine g_aast S hB (r := (RX2, TX2, 8)) ht rfl (fun _ => rfl) ht239 rfl hi ((zTr_ok (z := z)).2.2.2 _ _ _ _ _ _ hB.2.2.2.2.2.2.1 ht) dX0_init_348 (fun H locs hB => ?_)
  rw [← eμ240] at hB
  refine lv_dup hx hb dX0_init_349 rfl ?_
  refine lv_iconst (v := (nI 1)) hx hb dX0_init_350 rfl ?_
  obtain ⟨hc243a, hc243b, hp⟩ := hp
  obtain ⟨a241, μ242, ea, eμ242, hp⟩ := zpN_e hp
  refine g_new S hB (ci := 102) ea rfl (T := TX2) (N := 8) (C := RX2) rfl in_X2 tyX2 tyX2_ok rfl zdefX2 q240 q241 q129 hc243a hc243b ((zTr_ok (z := z)).2.1 _ _ _ _ hB.2.2.2.2.2.2.1 hB.fresh' (fun c e => by cases e; try rfl)) dX0_init_351 (fun H hB => ?_)
  rw [← eμ242] at hB
  have hcap : 1 + m4 + 1 + m13 + 1 + m22 + 3 + m41 + 1 + m50 + 1 + m59 + 1 + m68 + 1 + m77 + 1 + m86 + 1 + m95 + 1 + m104 + 1 + m113 + 1 + m122 + 21 + m235 + 1 ≤ mc ∧ 16 + m5 + 8 + m14 + 8 + m23 + 918 + m42 + 8 + m51 + 8 + m60 + 8 + m69 + 8 + m78 + 8 + m87 + 8 + m96 + 8 + m105 + 8 + m114 + 8 + m123 + 162278 + m236 + 8 ≤ ms := ⟨hc243a, hc243b⟩
  refine lv_dup hx hb dX0_init_354 rfl ?_
  refine lv_aload_n hx hb dX0_init_355 rfl (lv_at hl 0 rfl) ?_
  obtain ⟨m244, m245, hc246a, hc246b, hp⟩ := hp
  refine z_callv (va_runIN (As := [.ref z]) (rest := [.ref a241, .int (nI 1), .ref a229, .ref a229, .ref z]) S (mX2_init l Γ zTr z (zTr_ok (z := z)) a241 z m244 m245 μ242 _ hp) ⟨va_cnB 1 hts (lw_meth q244) rfl rfl rfl (zNMw hB 0 rfl) (hts _ q129) hX2_init.2 ⟨Nat.le_of_ble_eq_true rfl, Nat.le_of_ble_eq_true rfl⟩, rfl, hts _ q243⟩ hB.preS rfl rfl hl.1 rfl (lv_room (Nat.le_of_ble_eq_true rfl)) dX0_init_356 ⟨hc246a, hc246b⟩) hB (fun μ247 H locs hp hB => ?_)
  have hcap : 1 + m4 + 1 + m13 + 1 + m22 + 3 + m41 + 1 + m50 + 1 + m59 + 1 + m68 + 1 + m77 + 1 + m86 + 1 + m95 + 1 + m104 + 1 + m113 + 1 + m122 + 21 + m235 + 1 + m244 ≤ mc ∧ 16 + m5 + 8 + m14 + 8 + m23 + 918 + m42 + 8 + m51 + 8 + m60 + 8 + m69 + 8 + m78 + 8 + m87 + 8 + m96 + 8 + m105 + 8 + m114 + 8 + m123 + 162278 + m236 + 8 + m245 ≤ ms := ⟨hc246a, hc246b⟩
  obtain ⟨ht248, hp⟩ := hp
  obtain ⟨⟨_, ht, hi⟩, hp⟩ := hp
  obtain ⟨μ249, eμ249, hp⟩ := zpR_e hp
  refine g_aast S hB (r := (RX2, TX2, 8)) ht rfl (fun _ => rfl) ht248 rfl hi ((zTr_ok (z := z)).2.2.2 _ _ _ _ _ _ hB.2.2.2.2.2.2.1 ht) dX0_init_359 (fun H locs hB => ?_)
  rw [← eμ249] at hB
  obtain ⟨ht250, hp⟩ := hp
  obtain ⟨μ251, eμ251, hp⟩ := zpR_e hp
  refine W.eq (g2 := F0 m 360 ls [va_rf (some a229), .ref z]) rfl ?_
  refine g_putFR S hB ht250 rfl (T := TX0) (N := 33) (C := RX0) rfl in_X0 32 (by decide) (by decide) (x := (some a229)) tyX0 tyX0_ok nmX0 q338 (fun _ h9 => h9) rfl hnm rfl (ty := .array (.object "SunkTower$State")) (by decide +kernel) (zfits_a _ _) (znar_a _ _) (fun _ _ => rfl) ((zTr_ok (z := z)).1 _ _ _ _ _ _ hB.2.2.2.2.2.2.1 ht250 rfl) dX0_init_360 (fun H locs hB => ?_)
  rw [← eμ251] at hB
  refine lv_aload_n hx hb dX0_init_363 rfl (lv_at hl 0 rfl) ?_
  obtain ⟨ht252, hp⟩ := hp
  refine g_get S hB ht252 rfl (T := TX0) (N := 33) (C := RX0) rfl in_X0 1 (by decide) (by decide) q305 (fun _ h9 => h9) (v := va_rf (zR μ251 z 1)) rfl dX0_init_364 ?_
  obtain ⟨b253, eb, hp⟩ := hp
  refine W.eq (g2 := F0 m 367 ls [.ref b253]) (by rw [eb]; rfl) ?_
  obtain ⟨ht255, hs, hp⟩ := hp
  obtain ⟨μ254, eμ254, hp⟩ := zpT_e hp
  have hB := hB.tag (Sh' := (cSh z)) (c := 0) (by decide) ht255 hs
  rw [← eμ254] at hB
  refine z_callq (va_runV (As := []) (rest := []) S (mX2_begins l Γ z b253 μ254 _ hp) (cwV 0 hts (lw_V q296 q297 q298 q129 q299) rfl rfl rfl hX2_begins ⟨Nat.le_of_ble_eq_true rfl, Nat.le_of_ble_eq_true rfl⟩) (hB.preV (tX2_begins hp) rfl rfl) rfl rfl hl.1 rfl (lv_room (Nat.le_of_ble_eq_true rfl)) dX0_init_367 hcap) hB (fun r257 μ256 H locs hp hB => ?_)
  refine lv_pop hx hb dX0_init_370 (va_rf_c _) ?_
  refine W.widen (k := mc) (n := ms) hcap.1 hcap.2 ?_
  exact zret_v X hB hp dX0_init_371
set_option maxRecDepth 100000 in
def pX7_init (z : Nat) (s0 : Nat) (x1 : Int32) (μ : zM) (Q : zM → Prop) : Prop := zty μ s0 = some (.inl 6) ∧ (pX6_init z s0 μ fun μ1 => (zpI μ1 s0 0 x1 fun μ2 => Q μ2))
theorem tX7_init {z : Nat} {s0 : Nat} {x1 : Int32} {μ : zM} {Q : zM → Prop} (h : pX7_init z s0 x1 μ Q) : zty μ s0 = some (.inl 6) := h.1
theorem hX7_init : yX7_init.cls = "SunkTower$Known" ∧ yX7_init.cls ≠ "java/lang/invoke/MethodHandle" ∧ yX7_init.cls ≠ "java/lang/invoke/VarHandle" ∧ (parseMethodDescriptor yX7_init.desc).map (fun d => d.parameters.length) = some 1 := by decide +kernel
set_option maxHeartbeats 4000000 in
set_option maxRecDepth 100000 in
theorem mX7_init (l : Launch) (Γ : zG) (Sh : zSh) (z : Nat) (hG : zShOK z Sh) (s0 : Nat) (x1 : Int32) (μ : zM) (Q : zM → Prop) (hp : pX7_init z s0 x1 μ Q) : Met l yX7_init (ws_ yX7_init cX7_init 2 none) ({ frames := 2, cells := 0, slots := 0, locals := 48 } : Room) (va_Pc [.ref s0, .int x1] (zPre Γ Sh μ)) (va_Qv Q (zPost Γ Sh μ) (zA μ)) 0 0 (zA μ) := by
  refine zstart (by decide) (Nat.le_of_ble_eq_true rfl) ?_
  intro p e s m below meth c ls X hnm hB hl
  have X : zCx p m c cX7_init 2 s [.ref s0, .int x1].toArray RX7 meth none := X
  have S := X.1
  obtain ⟨hx, hb, hml, hown, hts⟩ := X.1
  have hl : lv_has ls 2 [(0, .ref s0), (1, .int x1)] := hl
  obtain ⟨ht_s0, hp⟩ := hp
  refine lv_aload_n hx hb dX7_init_0 rfl (lv_at hl 0 rfl) ?_
  refine z_callv (va_runIN (As := []) (rest := []) S (mX6_init l Γ Sh z hG s0 μ _ hp) ⟨va_cnB 0 hts (lw_meth q687) rfl rfl rfl (zNMw hB 5 rfl) (hts _ q140) hX6_init.2 ⟨Nat.le_of_ble_eq_true rfl, Nat.le_of_ble_eq_true rfl⟩, rfl, hts _ q686⟩ hB.preS rfl rfl hl.1 rfl (lv_room (Nat.le_of_ble_eq_true rfl)) dX7_init_1 ⟨Nat.le_refl _, Nat.le_refl _⟩) hB (fun μ1 H locs hp hB => ?_)
  refine lv_aload_n hx hb dX7_init_4 rfl (lv_at hl 0 rfl) ?_
  refine lv_iload_n hx hb dX7_init_5 rfl (lv_at hl 1 rfl) ?_
  obtain ⟨μ2, eμ2, hp⟩ := zpI_e hp
  refine g_putFI S hB (hB.ty ht_s0 rfl) rfl (T := TX7) (N := 1) (C := RX7) rfl in_X7 0 (by decide) (by decide) (x := x1) tyX7 tyX7_ok nmX7 q689 (fun _ h9 => h9) rfl hnm rfl (ty := .int) (by decide +kernel) rfl rfl (fun _ _ => rfl) dX7_init_6 (fun H locs hB => ?_)
  rw [← eμ2] at hB
  exact zret_v X hB hp dX7_init_9
set_option maxRecDepth 100000 in
def pX8_init (z : Nat) (s0 : Nat) (x1 : Int32) (μ : zM) (Q : zM → Prop) : Prop := zty μ s0 = some (.inl 7) ∧ (pX6_init z s0 μ fun μ1 => (zpI μ1 s0 0 x1 fun μ2 => Q μ2))
theorem tX8_init {z : Nat} {s0 : Nat} {x1 : Int32} {μ : zM} {Q : zM → Prop} (h : pX8_init z s0 x1 μ Q) : zty μ s0 = some (.inl 7) := h.1
theorem hX8_init : yX8_init.cls = "SunkTower$Plain" ∧ yX8_init.cls ≠ "java/lang/invoke/MethodHandle" ∧ yX8_init.cls ≠ "java/lang/invoke/VarHandle" ∧ (parseMethodDescriptor yX8_init.desc).map (fun d => d.parameters.length) = some 1 := by decide +kernel
set_option maxHeartbeats 4000000 in
set_option maxRecDepth 100000 in
theorem mX8_init (l : Launch) (Γ : zG) (Sh : zSh) (z : Nat) (hG : zShOK z Sh) (s0 : Nat) (x1 : Int32) (μ : zM) (Q : zM → Prop) (hp : pX8_init z s0 x1 μ Q) : Met l yX8_init (ws_ yX8_init cX8_init 2 none) ({ frames := 2, cells := 0, slots := 0, locals := 48 } : Room) (va_Pc [.ref s0, .int x1] (zPre Γ Sh μ)) (va_Qv Q (zPost Γ Sh μ) (zA μ)) 0 0 (zA μ) := by
  refine zstart (by decide) (Nat.le_of_ble_eq_true rfl) ?_
  intro p e s m below meth c ls X hnm hB hl
  have X : zCx p m c cX8_init 2 s [.ref s0, .int x1].toArray RX8 meth none := X
  have S := X.1
  obtain ⟨hx, hb, hml, hown, hts⟩ := X.1
  have hl : lv_has ls 2 [(0, .ref s0), (1, .int x1)] := hl
  obtain ⟨ht_s0, hp⟩ := hp
  refine lv_aload_n hx hb dX8_init_0 rfl (lv_at hl 0 rfl) ?_
  refine z_callv (va_runIN (As := []) (rest := []) S (mX6_init l Γ Sh z hG s0 μ _ hp) ⟨va_cnB 0 hts (lw_meth q687) rfl rfl rfl (zNMw hB 6 rfl) (hts _ q140) hX6_init.2 ⟨Nat.le_of_ble_eq_true rfl, Nat.le_of_ble_eq_true rfl⟩, rfl, hts _ q686⟩ hB.preS rfl rfl hl.1 rfl (lv_room (Nat.le_of_ble_eq_true rfl)) dX8_init_1 ⟨Nat.le_refl _, Nat.le_refl _⟩) hB (fun μ1 H locs hp hB => ?_)
  refine lv_aload_n hx hb dX8_init_4 rfl (lv_at hl 0 rfl) ?_
  refine lv_iload_n hx hb dX8_init_5 rfl (lv_at hl 1 rfl) ?_
  obtain ⟨μ2, eμ2, hp⟩ := zpI_e hp
  refine g_putFI S hB (hB.ty ht_s0 rfl) rfl (T := TX8) (N := 1) (C := RX8) rfl in_X8 0 (by decide) (by decide) (x := x1) tyX8 tyX8_ok nmX8 q703 (fun _ h9 => h9) rfl hnm rfl (ty := .int) (by decide +kernel) rfl rfl (fun _ _ => rfl) dX8_init_6 (fun H locs hB => ?_)
  rw [← eμ2] at hB
  exact zret_v X hB hp dX8_init_9
set_option maxRecDepth 100000 in
def pX9_init (z : Nat) (s0 : Nat) (x1 : Option Nat) (x2 : Int32) (x3 : Option Nat) (μ : zM) (Q : zM → Prop) : Prop := zty μ s0 = some (.inl 8) ∧ (pX6_init z s0 μ fun μ1 => (zpR μ1 s0 0 x1 fun μ2 => (zpI μ2 s0 2 x2 fun μ3 => (zpR μ3 s0 1 x3 fun μ4 => Q μ4))))
theorem tX9_init {z : Nat} {s0 : Nat} {x1 : Option Nat} {x2 : Int32} {x3 : Option Nat} {μ : zM} {Q : zM → Prop} (h : pX9_init z s0 x1 x2 x3 μ Q) : zty μ s0 = some (.inl 8) := h.1
theorem hX9_init : yX9_init.cls = "SunkTower$Pair" ∧ yX9_init.cls ≠ "java/lang/invoke/MethodHandle" ∧ yX9_init.cls ≠ "java/lang/invoke/VarHandle" ∧ (parseMethodDescriptor yX9_init.desc).map (fun d => d.parameters.length) = some 3 := by decide +kernel
set_option maxHeartbeats 4000000 in
set_option maxRecDepth 100000 in
theorem mX9_init (l : Launch) (Γ : zG) (Sh : zSh) (z : Nat) (hG : zShOK z Sh) (s0 : Nat) (x1 : Option Nat) (x2 : Int32) (x3 : Option Nat) (μ : zM) (Q : zM → Prop) (hp : pX9_init z s0 x1 x2 x3 μ Q) : Met l yX9_init (ws_ yX9_init cX9_init 4 none) ({ frames := 2, cells := 0, slots := 0, locals := 48 } : Room) (va_Pc [.ref s0, va_rf x1, .int x2, va_rf x3] (zPre Γ Sh μ)) (va_Qv Q (zPost Γ Sh μ) (zA μ)) 0 0 (zA μ) := by
  refine zstart (by decide) (by cases x1 <;> cases x3 <;> exact Nat.le_of_ble_eq_true rfl) ?_
  intro p e s m below meth c ls X hnm hB hl
  have X : zCx p m c cX9_init 4 s [.ref s0, va_rf x1, .int x2, va_rf x3].toArray RX9 meth none := X
  have S := X.1
  obtain ⟨hx, hb, hml, hown, hts⟩ := X.1
  have hl : lv_has ls 4 [(0, .ref s0), (1, va_rf x1), (2, .int x2), (3, va_rf x3)] := by cases x1 <;> cases x3 <;> exact hl
  obtain ⟨ht_s0, hp⟩ := hp
  refine lv_aload_n hx hb dX9_init_0 rfl (lv_at hl 0 rfl) ?_
  refine z_callv (va_runIN (As := []) (rest := []) S (mX6_init l Γ Sh z hG s0 μ _ hp) ⟨va_cnB 0 hts (lw_meth q687) rfl rfl rfl (zNMw hB 7 rfl) (hts _ q140) hX6_init.2 ⟨Nat.le_of_ble_eq_true rfl, Nat.le_of_ble_eq_true rfl⟩, rfl, hts _ q686⟩ hB.preS rfl rfl hl.1 rfl (lv_room (Nat.le_of_ble_eq_true rfl)) dX9_init_1 ⟨Nat.le_refl _, Nat.le_refl _⟩) hB (fun μ1 H locs hp hB => ?_)
  refine lv_aload_n hx hb dX9_init_4 rfl (lv_at hl 0 rfl) ?_
  refine g_aload_nq hx hb dX9_init_5 rfl (lv_at hl 1 rfl) ?_
  obtain ⟨μ2, eμ2, hp⟩ := zpR_e hp
  refine g_putFR S hB (hB.ty ht_s0 rfl) rfl (T := TX9) (N := 3) (C := RX9) rfl in_X9 0 (by decide) (by decide) (x := x1) tyX9 tyX9_ok nmX9 q717 (fun _ h9 => h9) rfl hnm rfl (ty := .object "SunkTower$Sum") (by decide +kernel) (zfits_o _ _) (znar_o _ _) (fun _ _ => rfl) (hG.1 _ _ _ _ _ _ hB.2.2.2.2.2.2.1 (hB.ty ht_s0 rfl) rfl) dX9_init_6 (fun H locs hB => ?_)
  rw [← eμ2] at hB
  refine lv_aload_n hx hb dX9_init_9 rfl (lv_at hl 0 rfl) ?_
  refine lv_iload_n hx hb dX9_init_10 rfl (lv_at hl 2 rfl) ?_
  obtain ⟨μ3, eμ3, hp⟩ := zpI_e hp
  refine g_putFI S hB (hB.ty ht_s0 rfl) rfl (T := TX9) (N := 3) (C := RX9) rfl in_X9 2 (by decide) (by decide) (x := x2) tyX9 tyX9_ok nmX9 q719 (fun _ h9 => h9) rfl hnm rfl (ty := .int) (by decide +kernel) rfl rfl (fun _ _ => rfl) dX9_init_11 (fun H locs hB => ?_)
  rw [← eμ3] at hB
  refine lv_aload_n hx hb dX9_init_14 rfl (lv_at hl 0 rfl) ?_
  refine g_aload_nq hx hb dX9_init_15 rfl (lv_at hl 3 rfl) ?_
  obtain ⟨μ4, eμ4, hp⟩ := zpR_e hp
  refine g_putFR S hB (hB.ty ht_s0 rfl) rfl (T := TX9) (N := 3) (C := RX9) rfl in_X9 1 (by decide) (by decide) (x := x3) tyX9 tyX9_ok nmX9 q718 (fun _ h9 => h9) rfl hnm rfl (ty := .object "SunkTower$Sum") (by decide +kernel) (zfits_o _ _) (znar_o _ _) (fun _ _ => rfl) (hG.1 _ _ _ _ _ _ hB.2.2.2.2.2.2.1 (hB.ty ht_s0 rfl) rfl) dX9_init_16 (fun H locs hB => ?_)
  rw [← eμ4] at hB
  exact zret_v X hB hp dX9_init_19
theorem hX5_atom : yX5_atom.cls = "SunkTower$Reader" ∧ yX5_atom.cls ≠ "java/lang/invoke/MethodHandle" ∧ yX5_atom.cls ≠ "java/lang/invoke/VarHandle" ∧ (parseMethodDescriptor yX5_atom.desc).map (fun d => d.parameters.length) = some 0 := by decide +kernel
def pX5_term_5 (A : Nat → Nat → Nat → Nat → zM → (Option Nat → zM → Prop) → Prop) (z : Nat) (s0 : Nat) (mc : Nat) (ms : Nat) (Q : Option Nat → zM → Prop) : Nat → Option Nat → Nat → Nat → zM → Prop
  | 0, _, _, _, _ => False
  | n + 1, x1, uc, us, μ => (pX5_isSign z s0 (nI 42) μ fun r2 μ1 => (if r2 = 0 then Q x1 μ1 else (pX5_next z s0 μ1 fun μ3 => (uc + 1 ≤ mc ∧ us + 3 ≤ ms ∧ zpN μ3 (.inl 8) fun a4 μ5 => (∃ m7 m8, uc + 1 + m7 ≤ mc ∧ us + 3 + m8 ≤ ms ∧ A z s0 m7 m8 μ5 fun r11 μ10 => (pX9_init z a4 x1 (nI 42) r11 μ10 fun μ12 => pX5_term_5 A z s0 mc ms Q n (some a4) (uc + 1 + m7) (us + 3 + m8) μ12))))))
set_option maxHeartbeats 4000000 in
set_option maxRecDepth 100000 in
theorem wX5_term_5 {p : Program} {l : Launch} {e : Env} {s : State} {m : MethodId} {args : Array Value} {below : List Frame} {meth : Method} {c : Code} {Γ : zG} {μ0 : zM} {Q : Option Nat → zM → Prop} (X : zCx p m c cX5_term 2 s args RX5 meth (some (.object "SunkTower$Sum"))) (A : Nat → Nat → Nat → Nat → zM → (Option Nat → zM → Prop) → Prop) (fa la : Nat) (hA : ∀ (l : Launch) (Γ : zG) (z : Nat) (s0 : Nat) (mc : Nat) (ms : Nat) (μ : zM) (Q : (Option Nat → zM → Prop)), A z s0 mc ms μ Q → Met l yX5_atom (ws_ yX5_atom cX5_atom 3 (some (.object "SunkTower$Sum"))) { frames := fa, cells := mc, slots := ms, locals := la } (va_Pc [.ref s0] (zPre Γ (cSh z) μ)) (va_Qq Q (zPost Γ (cSh z) μ) (zA μ)) mc ms (zA μ)) {s0 : Nat} (ht_s0 : zty μ0 s0 = some (.inl 5)) (z : Nat) (mc : Nat) (ms : Nat) : ∀ (n : Nat) (x1 : Option Nat) (uc : Nat) (us : Nat) (μ : zM) (H : Heap) (locs : List Loc) (ls : Array Slot), pX5_term_5 A z s0 mc ms Q n x1 uc us μ → uc ≤ mc ∧ us ≤ ms → zB Γ (cSh z) (zA μ0) μ0 s μ H locs → lv_has ls 2 [(0, .ref s0), (1, va_rf x1)] → W p l e ({ frames := fa + 5, cells := mc, slots := ms, locals := la + 111 } : Room) s m args below meth c H locs uc us (MQ below (va_Qq Q (zPost Γ (cSh z) μ0) (zA μ0)) args s mc ms (zA μ0)) (F0 m 5 ls []) := by
  have S := X.1
  obtain ⟨hx, hb, hml, hown, hts⟩ := X.1
  intro n
  induction n with
  | zero =>
    intro x1 uc us μ H locs ls hp
    exact hp.elim
  | succ n ih =>
    intro x1 uc us μ H locs ls hp hcap hB hl
    unfold pX5_term_5 at hp
    refine lv_aload_n hx hb dX5_term_5 rfl (lv_at hl 0 rfl) ?_
    refine lv_bipush (v := (nI 42)) hx hb dX5_term_6 rfl ?_
    refine z_calli (va_runV (As := [.int (nI 42)]) (rest := []) S (mX5_isSign l Γ z s0 (nI 42) μ _ hp) (cwV 1 hts (lw_V q693 q695 qs22 q133 q696) rfl rfl rfl hX5_isSign ⟨by dsimp only; omega, by dsimp only; omega⟩) (hB.preV (hB.ty ht_s0 rfl) rfl rfl) rfl rfl hl.1 rfl (lv_room (Nat.le_of_ble_eq_true rfl)) dX5_term_8 hcap) hB (fun r2 μ1 H locs hp hB => ?_)
    refine lv_if_eq (tgt := 36) hx hb dX5_term_11 rfl (fun c0 => ?_) (fun c0 => ?_)
    · have hp := zit hp c0
      refine g_aload_nq hx hb dX5_term_36 rfl (lv_at hl 1 rfl) ?_
      refine W.widen (k := mc) (n := ms) hcap.1 hcap.2 ?_
      exact zret_q X hB hp dX5_term_37
    · have hp := zif hp c0
      refine lv_aload_n hx hb dX5_term_14 rfl (lv_at hl 0 rfl) ?_
      refine z_callv (va_runV (As := []) (rest := []) S (mX5_next l Γ z s0 μ1 _ hp) (cwV 0 hts (lw_V q470 q472 qs1 q133 q473) rfl rfl rfl hX5_next ⟨by dsimp only; omega, by dsimp only; omega⟩) (hB.preV (hB.ty ht_s0 rfl) rfl rfl) rfl rfl hl.1 rfl (lv_room (Nat.le_of_ble_eq_true rfl)) dX5_term_15 hcap) hB (fun μ3 H locs hp hB => ?_)
      obtain ⟨hc6a, hc6b, hp⟩ := hp
      obtain ⟨a4, μ5, ea, eμ5, hp⟩ := zpN_e hp
      refine g_new S hB (ci := 8) ea rfl (T := TX9) (N := 3) (C := RX9) rfl in_X9 tyX9 tyX9_ok rfl zdefX9 q711 q712 q143 hc6a hc6b (cSh_ok.2.1 _ _ _ _ hB.2.2.2.2.2.2.1 hB.fresh' (fun c e => by cases e; try rfl)) dX5_term_18 (fun H hB => ?_)
      rw [← eμ5] at hB
      have hcap : uc + 1 ≤ mc ∧ us + 3 ≤ ms := ⟨hc6a, hc6b⟩
      refine lv_dup hx hb dX5_term_21 rfl ?_
      refine g_aload_nq hx hb dX5_term_22 rfl (lv_at hl 1 rfl) ?_
      refine lv_bipush (v := (nI 42)) hx hb dX5_term_23 rfl ?_
      refine lv_aload_n hx hb dX5_term_25 rfl (lv_at hl 0 rfl) ?_
      obtain ⟨m7, m8, hc9a, hc9b, hp⟩ := hp
      refine z_callq (va_runV (As := []) (rest := [.int (nI 42), va_rf x1, .ref a4, .ref a4]) S (hA l Γ z s0 m7 m8 μ5 _ hp) (cwV 0 hts (lw_V q660 q662 qs19 q133 q663) rfl rfl rfl hX5_atom ⟨by dsimp only; omega, by dsimp only; omega⟩) (hB.preV (hB.ty ht_s0 rfl) rfl rfl) rfl rfl hl.1 rfl (lv_room (by cases x1 <;> exact Nat.le_of_ble_eq_true rfl)) dX5_term_26 ⟨hc9a, hc9b⟩) hB (fun r11 μ10 H locs hp hB => ?_)
      have hcap : uc + 1 + m7 ≤ mc ∧ us + 3 + m8 ≤ ms := ⟨hc9a, hc9b⟩
      refine z_callv (va_runI (As := [va_rf x1, .int (nI 42), va_rf r11]) (rest := [.ref a4]) S (mX9_init l Γ (cSh z) z cSh_ok a4 x1 (nI 42) r11 μ10 _ hp) (cwI 3 hts (lw_meth q715) rfl rfl rfl (hts _ q143) (hts _ q713) (hts _ q714) rfl hX9_init.2 ⟨by dsimp only; omega, by dsimp only; omega⟩) hB.preS rfl rfl hl.1 rfl (lv_room (Nat.le_of_ble_eq_true rfl)) dX5_term_29 hcap) hB (fun μ12 H locs hp hB => ?_)
      refine lv_astore_n (lv' := [(1, .ref a4), (0, .ref s0)]) hx hb dX5_term_32 rfl hl (by decide) rfl (fun ls hl => ?_)
      refine lv_goto (tgt := 5) hx hb dX5_term_33 rfl ?_
      exact ih (some a4) (uc + 1 + m7) (us + 3 + m8) μ12 _ _ _ hp hcap hB (lv_sub hl [1, 0] rfl)
def pX5_term_of (A : Nat → Nat → Nat → Nat → zM → (Option Nat → zM → Prop) → Prop) (z : Nat) (s0 : Nat) (mc ms : Nat) (μ : zM) (Q : Option Nat → zM → Prop) : Prop := zty μ s0 = some (.inl 5) ∧ (∃ m1 m2, 0 + m1 ≤ mc ∧ 0 + m2 ≤ ms ∧ A z s0 m1 m2 μ fun r5 μ4 => ∃ k1, pX5_term_5 A z s0 mc ms Q k1 r5 (0 + m1) (0 + m2) μ4)
theorem tX5_term_of {A : Nat → Nat → Nat → Nat → zM → (Option Nat → zM → Prop) → Prop} {z : Nat} {s0 : Nat} {mc ms : Nat} {μ : zM} {Q : Option Nat → zM → Prop} (h : pX5_term_of A z s0 mc ms μ Q) : zty μ s0 = some (.inl 5) := h.1
theorem hX5_term : yX5_term.cls = "SunkTower$Reader" ∧ yX5_term.cls ≠ "java/lang/invoke/MethodHandle" ∧ yX5_term.cls ≠ "java/lang/invoke/VarHandle" ∧ (parseMethodDescriptor yX5_term.desc).map (fun d => d.parameters.length) = some 0 := by decide +kernel
set_option maxHeartbeats 4000000 in
set_option maxRecDepth 100000 in
theorem mX5_term_of (A : Nat → Nat → Nat → Nat → zM → (Option Nat → zM → Prop) → Prop) (fa la : Nat) (hA : ∀ (l : Launch) (Γ : zG) (z : Nat) (s0 : Nat) (mc : Nat) (ms : Nat) (μ : zM) (Q : (Option Nat → zM → Prop)), A z s0 mc ms μ Q → Met l yX5_atom (ws_ yX5_atom cX5_atom 3 (some (.object "SunkTower$Sum"))) { frames := fa, cells := mc, slots := ms, locals := la } (va_Pc [.ref s0] (zPre Γ (cSh z) μ)) (va_Qq Q (zPost Γ (cSh z) μ) (zA μ)) mc ms (zA μ)) (l : Launch) (Γ : zG) (z : Nat) (s0 : Nat) (mc ms : Nat) (μ : zM) (Q : Option Nat → zM → Prop) (hp : pX5_term_of A z s0 mc ms μ Q) : Met l yX5_term (ws_ yX5_term cX5_term 2 (some (.object "SunkTower$Sum"))) ({ frames := fa + 5, cells := mc, slots := ms, locals := la + 111 } : Room) (va_Pc [.ref s0] (zPre Γ (cSh z) μ)) (va_Qq Q (zPost Γ (cSh z) μ) (zA μ)) mc ms (zA μ) := by
  refine zstart (by decide) (Nat.le_of_ble_eq_true rfl) ?_
  intro p e s m below meth c ls X hnm hB hl
  have X : zCx p m c cX5_term 2 s [.ref s0].toArray RX5 meth (some (.object "SunkTower$Sum")) := X
  have S := X.1
  obtain ⟨hx, hb, hml, hown, hts⟩ := X.1
  have hl : lv_has ls 2 [(0, .ref s0)] := hl
  obtain ⟨ht_s0, hp⟩ := hp
  have hcap : 0 ≤ mc ∧ 0 ≤ ms := ⟨Nat.zero_le _, Nat.zero_le _⟩
  refine lv_aload_n hx hb dX5_term_0 rfl (lv_at hl 0 rfl) ?_
  obtain ⟨m1, m2, hc3a, hc3b, hp⟩ := hp
  refine z_callq (va_runV (As := []) (rest := []) S (hA l Γ z s0 m1 m2 μ _ hp) (cwV 0 hts (lw_V q660 q662 qs19 q133 q663) rfl rfl rfl hX5_atom ⟨by dsimp only; omega, by dsimp only; omega⟩) (hB.preV (hB.ty ht_s0 rfl) rfl rfl) rfl rfl hl.1 rfl (lv_room (Nat.le_of_ble_eq_true rfl)) dX5_term_1 ⟨hc3a, hc3b⟩) hB (fun r5 μ4 H locs hp hB => ?_)
  have hcap : 0 + m1 ≤ mc ∧ 0 + m2 ≤ ms := ⟨hc3a, hc3b⟩
  refine g_astore_nq (lv' := [(1, va_rf r5), (0, .ref s0)]) hx hb dX5_term_4 rfl hl (by decide) rfl (fun ls hl => ?_)
  obtain ⟨n1, hp⟩ := hp
  exact wX5_term_5 X A fa la hA ht_s0 z mc ms n1 r5 (0 + m1) (0 + m2) μ4 _ _ _ hp hcap hB (lv_sub hl [1, 0] rfl)
def pX5_sum_23 (A : Nat → Nat → Nat → Nat → zM → (Option Nat → zM → Prop) → Prop) (z : Nat) (s0 : Nat) (mc : Nat) (ms : Nat) (K5 : Option Nat → Nat → Nat → zM → Prop) (Q : Option Nat → zM → Prop) (x1 : Option Nat) (uc : Nat) (us : Nat) (μ : zM) : Prop := (pX5_next z s0 μ fun μ1 => (uc + 1 ≤ mc ∧ us + 3 ≤ ms ∧ zpN μ1 (.inl 8) fun a2 μ3 => (∃ m5 m6, uc + 1 + m5 ≤ mc ∧ us + 3 + m6 ≤ ms ∧ pX5_term_of A z s0 m5 m6 μ3 fun r9 μ8 => (pX9_init z a2 x1 (zI μ s0 4) r9 μ8 fun μ10 => K5 (some a2) (uc + 1 + m5) (us + 3 + m6) μ10))))
set_option maxHeartbeats 4000000 in
set_option maxRecDepth 100000 in
theorem wX5_sum_23 {p : Program} {l : Launch} {e : Env} {s : State} {m : MethodId} {args : Array Value} {below : List Frame} {meth : Method} {c : Code} {Γ : zG} {μ0 : zM} {Q : Option Nat → zM → Prop} {K5 : Option Nat → Nat → Nat → zM → Prop} (X : zCx p m c cX5_sum 3 s args RX5 meth (some (.object "SunkTower$Sum"))) (A : Nat → Nat → Nat → Nat → zM → (Option Nat → zM → Prop) → Prop) (fa la : Nat) (hA : ∀ (l : Launch) (Γ : zG) (z : Nat) (s0 : Nat) (mc : Nat) (ms : Nat) (μ : zM) (Q : (Option Nat → zM → Prop)), A z s0 mc ms μ Q → Met l yX5_atom (ws_ yX5_atom cX5_atom 3 (some (.object "SunkTower$Sum"))) { frames := fa, cells := mc, slots := ms, locals := la } (va_Pc [.ref s0] (zPre Γ (cSh z) μ)) (va_Qq Q (zPost Γ (cSh z) μ) (zA μ)) mc ms (zA μ)) {s0 : Nat} (ht_s0 : zty μ0 s0 = some (.inl 5)) (z : Nat) (mc : Nat) (ms : Nat) (hK5 : ∀ (x1 : Option Nat) (uc : Nat) (us : Nat) (μ : zM) (H : Heap) (locs : List Loc) (ls : Array Slot), K5 x1 uc us μ → uc ≤ mc ∧ us ≤ ms → zB Γ (cSh z) (zA μ0) μ0 s μ H locs → lv_has ls 3 [(0, .ref s0), (1, va_rf x1)] → W p l e ({ frames := fa + 6, cells := mc, slots := ms, locals := la + 132 } : Room) s m args below meth c H locs uc us (MQ below (va_Qq Q (zPost Γ (cSh z) μ0) (zA μ0)) args s mc ms (zA μ0)) (F0 m 5 ls [])) : ∀ (x1 : Option Nat) (uc : Nat) (us : Nat) (μ : zM) (H : Heap) (locs : List Loc) (ls : Array Slot), pX5_sum_23 A z s0 mc ms K5 Q x1 uc us μ → uc ≤ mc ∧ us ≤ ms → zB Γ (cSh z) (zA μ0) μ0 s μ H locs → lv_has ls 3 [(0, .ref s0), (1, va_rf x1)] → W p l e ({ frames := fa + 6, cells := mc, slots := ms, locals := la + 132 } : Room) s m args below meth c H locs uc us (MQ below (va_Qq Q (zPost Γ (cSh z) μ0) (zA μ0)) args s mc ms (zA μ0)) (F0 m 23 ls []) := by
  have S := X.1
  obtain ⟨hx, hb, hml, hown, hts⟩ := X.1
  intro x1 uc us μ H locs ls hp hcap hB hl
  unfold pX5_sum_23 at hp
  refine lv_aload_n hx hb dX5_sum_23 rfl (lv_at hl 0 rfl) ?_
  refine g_get S hB (hB.ty ht_s0 rfl) rfl (T := TX5) (N := 11) (C := RX5) rfl in_X5 4 (by decide) (by decide) q434 (fun _ h9 => h9) (v := .int (zI μ s0 4)) rfl dX5_sum_24 ?_
  refine lv_istore_n (lv' := [(2, .int (zI μ s0 4)), (0, .ref s0), (1, va_rf x1)]) hx hb dX5_sum_27 rfl hl (by decide) (by cases x1 <;> rfl) (fun ls hl => ?_)
  refine lv_aload_n hx hb dX5_sum_28 rfl (lv_at hl 1 rfl) ?_
  refine z_callv (va_runV (As := []) (rest := []) S (mX5_next l Γ z s0 μ _ hp) (cwV 0 hts (lw_V q470 q472 qs1 q133 q473) rfl rfl rfl hX5_next ⟨by dsimp only; omega, by dsimp only; omega⟩) (hB.preV (hB.ty ht_s0 rfl) rfl rfl) rfl rfl hl.1 rfl (lv_room (Nat.le_of_ble_eq_true rfl)) dX5_sum_29 hcap) hB (fun μ1 H locs hp hB => ?_)
  obtain ⟨hc4a, hc4b, hp⟩ := hp
  obtain ⟨a2, μ3, ea, eμ3, hp⟩ := zpN_e hp
  refine g_new S hB (ci := 8) ea rfl (T := TX9) (N := 3) (C := RX9) rfl in_X9 tyX9 tyX9_ok rfl zdefX9 q711 q712 q143 hc4a hc4b (cSh_ok.2.1 _ _ _ _ hB.2.2.2.2.2.2.1 hB.fresh' (fun c e => by cases e; try rfl)) dX5_sum_32 (fun H hB => ?_)
  rw [← eμ3] at hB
  have hcap : uc + 1 ≤ mc ∧ us + 3 ≤ ms := ⟨hc4a, hc4b⟩
  refine lv_dup hx hb dX5_sum_35 rfl ?_
  refine g_aload_nq hx hb dX5_sum_36 rfl (lv_at hl 2 rfl) ?_
  refine lv_iload_n hx hb dX5_sum_37 rfl (lv_at hl 0 rfl) ?_
  refine lv_aload_n hx hb dX5_sum_38 rfl (lv_at hl 1 rfl) ?_
  obtain ⟨m5, m6, hc7a, hc7b, hp⟩ := hp
  refine z_callq (va_runV (As := []) (rest := [.int (zI μ s0 4), va_rf x1, .ref a2, .ref a2]) S (mX5_term_of A fa la hA l Γ z s0 m5 m6 μ3 _ hp) (cwV 0 hts (lw_V q656 q658 qs18 q133 q659) rfl rfl rfl hX5_term ⟨by dsimp only; omega, by dsimp only; omega⟩) (hB.preV (hB.ty ht_s0 rfl) rfl rfl) rfl rfl hl.1 rfl (lv_room (by cases x1 <;> exact Nat.le_of_ble_eq_true rfl)) dX5_sum_39 ⟨hc7a, hc7b⟩) hB (fun r9 μ8 H locs hp hB => ?_)
  have hcap : uc + 1 + m5 ≤ mc ∧ us + 3 + m6 ≤ ms := ⟨hc7a, hc7b⟩
  refine z_callv (va_runI (As := [va_rf x1, .int (zI μ s0 4), va_rf r9]) (rest := [.ref a2]) S (mX9_init l Γ (cSh z) z cSh_ok a2 x1 (zI μ s0 4) r9 μ8 _ hp) (cwI 3 hts (lw_meth q715) rfl rfl rfl (hts _ q143) (hts _ q713) (hts _ q714) rfl hX9_init.2 ⟨by dsimp only; omega, by dsimp only; omega⟩) hB.preS rfl rfl hl.1 rfl (lv_room (Nat.le_of_ble_eq_true rfl)) dX5_sum_42 hcap) hB (fun μ10 H locs hp hB => ?_)
  refine lv_astore_n (lv' := [(1, .ref a2), (2, .int (zI μ s0 4)), (0, .ref s0)]) hx hb dX5_sum_45 rfl hl (by decide) rfl (fun ls hl => ?_)
  refine lv_goto (tgt := 5) hx hb dX5_sum_46 rfl ?_
  exact hK5 (some a2) (uc + 1 + m5) (us + 3 + m6) μ10 _ _ _ hp hcap hB (lv_sub hl [2, 0] rfl)
def pX5_sum_5 (A : Nat → Nat → Nat → Nat → zM → (Option Nat → zM → Prop) → Prop) (z : Nat) (s0 : Nat) (mc : Nat) (ms : Nat) (Q : Option Nat → zM → Prop) : Nat → Option Nat → Nat → Nat → zM → Prop
  | 0, _, _, _, _ => False
  | n + 1, x1, uc, us, μ => (pX5_isSign z s0 (nI 43) μ fun r2 μ1 => (if r2 = 0 then (pX5_isSign z s0 (nI 45) μ1 fun r4 μ3 => (if r4 = 0 then Q x1 μ3 else pX5_sum_23 A z s0 mc ms (fun v0 v1 v2 ν => pX5_sum_5 A z s0 mc ms Q n v0 v1 v2 ν) Q x1 (uc) (us) μ3)) else pX5_sum_23 A z s0 mc ms (fun v0 v1 v2 ν => pX5_sum_5 A z s0 mc ms Q n v0 v1 v2 ν) Q x1 (uc) (us) μ1))
set_option maxHeartbeats 4000000 in
set_option maxRecDepth 100000 in
theorem wX5_sum_5 {p : Program} {l : Launch} {e : Env} {s : State} {m : MethodId} {args : Array Value} {below : List Frame} {meth : Method} {c : Code} {Γ : zG} {μ0 : zM} {Q : Option Nat → zM → Prop} (X : zCx p m c cX5_sum 3 s args RX5 meth (some (.object "SunkTower$Sum"))) (A : Nat → Nat → Nat → Nat → zM → (Option Nat → zM → Prop) → Prop) (fa la : Nat) (hA : ∀ (l : Launch) (Γ : zG) (z : Nat) (s0 : Nat) (mc : Nat) (ms : Nat) (μ : zM) (Q : (Option Nat → zM → Prop)), A z s0 mc ms μ Q → Met l yX5_atom (ws_ yX5_atom cX5_atom 3 (some (.object "SunkTower$Sum"))) { frames := fa, cells := mc, slots := ms, locals := la } (va_Pc [.ref s0] (zPre Γ (cSh z) μ)) (va_Qq Q (zPost Γ (cSh z) μ) (zA μ)) mc ms (zA μ)) {s0 : Nat} (ht_s0 : zty μ0 s0 = some (.inl 5)) (z : Nat) (mc : Nat) (ms : Nat) : ∀ (n : Nat) (x1 : Option Nat) (uc : Nat) (us : Nat) (μ : zM) (H : Heap) (locs : List Loc) (ls : Array Slot), pX5_sum_5 A z s0 mc ms Q n x1 uc us μ → uc ≤ mc ∧ us ≤ ms → zB Γ (cSh z) (zA μ0) μ0 s μ H locs → lv_has ls 3 [(0, .ref s0), (1, va_rf x1)] → W p l e ({ frames := fa + 6, cells := mc, slots := ms, locals := la + 132 } : Room) s m args below meth c H locs uc us (MQ below (va_Qq Q (zPost Γ (cSh z) μ0) (zA μ0)) args s mc ms (zA μ0)) (F0 m 5 ls []) := by
  have S := X.1
  obtain ⟨hx, hb, hml, hown, hts⟩ := X.1
  intro n
  induction n with
  | zero =>
    intro x1 uc us μ H locs ls hp
    exact hp.elim
  | succ n ih =>
    intro x1 uc us μ H locs ls hp hcap hB hl
    unfold pX5_sum_5 at hp
    refine lv_aload_n hx hb dX5_sum_5 rfl (lv_at hl 0 rfl) ?_
    refine lv_bipush (v := (nI 43)) hx hb dX5_sum_6 rfl ?_
    refine z_calli (va_runV (As := [.int (nI 43)]) (rest := []) S (mX5_isSign l Γ z s0 (nI 43) μ _ hp) (cwV 1 hts (lw_V q693 q695 qs22 q133 q696) rfl rfl rfl hX5_isSign ⟨by dsimp only; omega, by dsimp only; omega⟩) (hB.preV (hB.ty ht_s0 rfl) rfl rfl) rfl rfl hl.1 rfl (lv_room (Nat.le_of_ble_eq_true rfl)) dX5_sum_8 hcap) hB (fun r2 μ1 H locs hp hB => ?_)
    refine lv_if_ne (tgt := 23) hx hb dX5_sum_11 rfl (fun c0 => ?_) (fun c0 => ?_)
    · have hp := zif hp c0
      exact wX5_sum_23 X A fa la hA ht_s0 z mc ms (fun v0 v1 v2 ν H2 L2 ls2 h2 c2 b2 l2 => ih v0 v1 v2 ν H2 L2 ls2 h2 c2 b2 l2) x1 (uc) (us) μ1 _ _ _ hp hcap hB (lv_sub hl [0, 1] rfl)
    · have hp := zit hp c0
      refine lv_aload_n hx hb dX5_sum_14 rfl (lv_at hl 0 rfl) ?_
      refine lv_bipush (v := (nI 45)) hx hb dX5_sum_15 rfl ?_
      refine z_calli (va_runV (As := [.int (nI 45)]) (rest := []) S (mX5_isSign l Γ z s0 (nI 45) μ1 _ hp) (cwV 1 hts (lw_V q693 q695 qs22 q133 q696) rfl rfl rfl hX5_isSign ⟨by dsimp only; omega, by dsimp only; omega⟩) (hB.preV (hB.ty ht_s0 rfl) rfl rfl) rfl rfl hl.1 rfl (lv_room (Nat.le_of_ble_eq_true rfl)) dX5_sum_17 hcap) hB (fun r4 μ3 H locs hp hB => ?_)
      refine lv_if_eq (tgt := 49) hx hb dX5_sum_20 rfl (fun c0 => ?_) (fun c0 => ?_)
      · have hp := zit hp c0
        refine g_aload_nq hx hb dX5_sum_49 rfl (lv_at hl 1 rfl) ?_
        refine W.widen (k := mc) (n := ms) hcap.1 hcap.2 ?_
        exact zret_q X hB hp dX5_sum_50
      · have hp := zif hp c0
        exact wX5_sum_23 X A fa la hA ht_s0 z mc ms (fun v0 v1 v2 ν H2 L2 ls2 h2 c2 b2 l2 => ih v0 v1 v2 ν H2 L2 ls2 h2 c2 b2 l2) x1 (uc) (us) μ3 _ _ _ hp hcap hB (lv_sub hl [0, 1] rfl)
def pX5_sum_of (A : Nat → Nat → Nat → Nat → zM → (Option Nat → zM → Prop) → Prop) (z : Nat) (s0 : Nat) (mc ms : Nat) (μ : zM) (Q : Option Nat → zM → Prop) : Prop := zty μ s0 = some (.inl 5) ∧ (∃ m1 m2, 0 + m1 ≤ mc ∧ 0 + m2 ≤ ms ∧ pX5_term_of A z s0 m1 m2 μ fun r5 μ4 => ∃ k1, pX5_sum_5 A z s0 mc ms Q k1 r5 (0 + m1) (0 + m2) μ4)
theorem tX5_sum_of {A : Nat → Nat → Nat → Nat → zM → (Option Nat → zM → Prop) → Prop} {z : Nat} {s0 : Nat} {mc ms : Nat} {μ : zM} {Q : Option Nat → zM → Prop} (h : pX5_sum_of A z s0 mc ms μ Q) : zty μ s0 = some (.inl 5) := h.1
theorem hX5_sum : yX5_sum.cls = "SunkTower$Reader" ∧ yX5_sum.cls ≠ "java/lang/invoke/MethodHandle" ∧ yX5_sum.cls ≠ "java/lang/invoke/VarHandle" ∧ (parseMethodDescriptor yX5_sum.desc).map (fun d => d.parameters.length) = some 0 := by decide +kernel
set_option maxHeartbeats 4000000 in
set_option maxRecDepth 100000 in
theorem mX5_sum_of (A : Nat → Nat → Nat → Nat → zM → (Option Nat → zM → Prop) → Prop) (fa la : Nat) (hA : ∀ (l : Launch) (Γ : zG) (z : Nat) (s0 : Nat) (mc : Nat) (ms : Nat) (μ : zM) (Q : (Option Nat → zM → Prop)), A z s0 mc ms μ Q → Met l yX5_atom (ws_ yX5_atom cX5_atom 3 (some (.object "SunkTower$Sum"))) { frames := fa, cells := mc, slots := ms, locals := la } (va_Pc [.ref s0] (zPre Γ (cSh z) μ)) (va_Qq Q (zPost Γ (cSh z) μ) (zA μ)) mc ms (zA μ)) (l : Launch) (Γ : zG) (z : Nat) (s0 : Nat) (mc ms : Nat) (μ : zM) (Q : Option Nat → zM → Prop) (hp : pX5_sum_of A z s0 mc ms μ Q) : Met l yX5_sum (ws_ yX5_sum cX5_sum 3 (some (.object "SunkTower$Sum"))) ({ frames := fa + 6, cells := mc, slots := ms, locals := la + 132 } : Room) (va_Pc [.ref s0] (zPre Γ (cSh z) μ)) (va_Qq Q (zPost Γ (cSh z) μ) (zA μ)) mc ms (zA μ) := by
  refine zstart (by decide) (Nat.le_of_ble_eq_true rfl) ?_
  intro p e s m below meth c ls X hnm hB hl
  have X : zCx p m c cX5_sum 3 s [.ref s0].toArray RX5 meth (some (.object "SunkTower$Sum")) := X
  have S := X.1
  obtain ⟨hx, hb, hml, hown, hts⟩ := X.1
  have hl : lv_has ls 3 [(0, .ref s0)] := hl
  obtain ⟨ht_s0, hp⟩ := hp
  have hcap : 0 ≤ mc ∧ 0 ≤ ms := ⟨Nat.zero_le _, Nat.zero_le _⟩
  refine lv_aload_n hx hb dX5_sum_0 rfl (lv_at hl 0 rfl) ?_
  obtain ⟨m1, m2, hc3a, hc3b, hp⟩ := hp
  refine z_callq (va_runV (As := []) (rest := []) S (mX5_term_of A fa la hA l Γ z s0 m1 m2 μ _ hp) (cwV 0 hts (lw_V q656 q658 qs18 q133 q659) rfl rfl rfl hX5_term ⟨by dsimp only; omega, by dsimp only; omega⟩) (hB.preV (hB.ty ht_s0 rfl) rfl rfl) rfl rfl hl.1 rfl (lv_room (Nat.le_of_ble_eq_true rfl)) dX5_sum_1 ⟨hc3a, hc3b⟩) hB (fun r5 μ4 H locs hp hB => ?_)
  have hcap : 0 + m1 ≤ mc ∧ 0 + m2 ≤ ms := ⟨hc3a, hc3b⟩
  refine g_astore_nq (lv' := [(1, va_rf r5), (0, .ref s0)]) hx hb dX5_sum_4 rfl hl (by decide) rfl (fun ls hl => ?_)
  obtain ⟨n1, hp⟩ := hp
  exact wX5_sum_5 X A fa la hA ht_s0 z mc ms n1 r5 (0 + m1) (0 + m2) μ4 _ _ _ hp hcap hB (lv_sub hl [1, 0] rfl)
def pX5_atom_77 (A : Nat → Nat → Nat → Nat → zM → (Option Nat → zM → Prop) → Prop) (z : Nat) (s0 : Nat) (mc : Nat) (ms : Nat) (Q : Option Nat → zM → Prop) (y1 : Option Nat) (uc : Nat) (us : Nat) (μ : zM) : Prop := (pX5_must z s0 (nI 41) μ fun μ1 => (zpI μ1 s0 7 ((zI μ1 s0 7) - (nI 1)) fun μ2 => Q y1 μ2))
set_option maxHeartbeats 4000000 in
set_option maxRecDepth 100000 in
theorem wX5_atom_77 {p : Program} {l : Launch} {e : Env} {s : State} {m : MethodId} {args : Array Value} {below : List Frame} {meth : Method} {c : Code} {Γ : zG} {μ0 : zM} {Q : Option Nat → zM → Prop} (X : zCx p m c cX5_atom 3 s args RX5 meth (some (.object "SunkTower$Sum"))) (A : Nat → Nat → Nat → Nat → zM → (Option Nat → zM → Prop) → Prop) (fa la : Nat) (hA : ∀ (l : Launch) (Γ : zG) (z : Nat) (s0 : Nat) (mc : Nat) (ms : Nat) (μ : zM) (Q : (Option Nat → zM → Prop)), A z s0 mc ms μ Q → Met l yX5_atom (ws_ yX5_atom cX5_atom 3 (some (.object "SunkTower$Sum"))) { frames := fa, cells := mc, slots := ms, locals := la } (va_Pc [.ref s0] (zPre Γ (cSh z) μ)) (va_Qq Q (zPost Γ (cSh z) μ) (zA μ)) mc ms (zA μ)) {s0 : Nat} (ht_s0 : zty μ0 s0 = some (.inl 5)) (z : Nat) (mc : Nat) (ms : Nat) : ∀ (y1 : Option Nat) (uc : Nat) (us : Nat) (μ : zM) (H : Heap) (locs : List Loc) (ls : Array Slot), pX5_atom_77 A z s0 mc ms Q y1 uc us μ → uc ≤ mc ∧ us ≤ ms → zB Γ (cSh z) (zA μ0) μ0 s μ H locs → lv_has ls 3 [(0, .ref s0)] → W p l e ({ frames := fa + 7, cells := mc, slots := ms, locals := la + 154 } : Room) s m args below meth c H locs uc us (MQ below (va_Qq Q (zPost Γ (cSh z) μ0) (zA μ0)) args s mc ms (zA μ0)) (F0 m 77 ls [va_rf y1]) := by
  have S := X.1
  obtain ⟨hx, hb, hml, hown, hts⟩ := X.1
  intro y1 uc us μ H locs ls hp hcap hB hl
  unfold pX5_atom_77 at hp
  refine g_astore_nq (lv' := [(2, va_rf y1), (0, .ref s0)]) hx hb dX5_atom_77 rfl hl (by decide) rfl (fun ls hl => ?_)
  refine lv_aload_n hx hb dX5_atom_78 rfl (lv_at hl 1 rfl) ?_
  refine lv_bipush (v := (nI 41)) hx hb dX5_atom_79 rfl ?_
  refine z_callv (va_runV (As := [.int (nI 41)]) (rest := []) S (mX5_must l Γ z s0 (nI 41) μ _ hp) (cwV 1 hts (lw_V q648 q650 qs16 q133 q651) rfl rfl rfl hX5_must ⟨by dsimp only; omega, by dsimp only; omega⟩) (hB.preV (hB.ty ht_s0 rfl) rfl rfl) rfl rfl hl.1 rfl (lv_room (Nat.le_of_ble_eq_true rfl)) dX5_atom_81 hcap) hB (fun μ1 H locs hp hB => ?_)
  refine lv_aload_n hx hb dX5_atom_84 rfl (lv_at hl 1 rfl) ?_
  refine lv_dup hx hb dX5_atom_85 rfl ?_
  refine g_get S hB (hB.ty ht_s0 rfl) rfl (T := TX5) (N := 11) (C := RX5) rfl in_X5 7 (by decide) (by decide) q438 (fun _ h9 => h9) (v := .int (zI μ1 s0 7)) rfl dX5_atom_86 ?_
  refine lv_iconst (v := (nI 1)) hx hb dX5_atom_89 rfl ?_
  refine lv_isub hx hb dX5_atom_90 ?_
  obtain ⟨μ2, eμ2, hp⟩ := zpI_e hp
  refine g_putI S hB (hB.ty ht_s0 rfl) rfl (T := TX5) (N := 11) (C := RX5) rfl in_X5 7 (by decide) (by decide) (x := ((zI μ1 s0 7) - (nI 1))) tyX5 tyX5_ok nmX5 q438 (fun _ h9 => h9) rfl (ty := .int) (by decide +kernel) rfl rfl (fun _ _ => rfl) dX5_atom_91 (fun H locs hB => ?_)
  rw [← eμ2] at hB
  refine g_aload_nq hx hb dX5_atom_94 rfl (lv_at hl 0 rfl) ?_
  refine W.widen (k := mc) (n := ms) hcap.1 hcap.2 ?_
  exact zret_q X hB hp dX5_atom_95
def pX5_atom_18 (A : Nat → Nat → Nat → Nat → zM → (Option Nat → zM → Prop) → Prop) (z : Nat) (s0 : Nat) (mc : Nat) (ms : Nat) (Q : Option Nat → zM → Prop) (y1 : Int32) (uc : Nat) (us : Nat) (μ : zM) : Prop := (if y1 = (-1 : Int32) then (pX5_isSign z s0 (nI 40) μ fun r2 μ1 => (if r2 = 0 then (uc + 1 ≤ mc ∧ us + 1 ≤ ms ∧ zpN μ1 (.inl 7) fun a9 μ10 => (pX5_number z s0 (nI 0) (nI 999) μ10 fun r13 μ12 => (pX8_init z a9 r13 μ12 fun μ14 => Q (some a9) μ14))) else (pX5_goesIn z s0 μ1 fun μ3 => (if (zI μ3 s0 6) = 0 then (∃ m4 m5, uc + m4 ≤ mc ∧ us + m5 ≤ ms ∧ pX5_sum_of A z s0 m4 m5 μ3 fun r8 μ7 => pX5_atom_77 A z s0 mc ms Q r8 (uc + m4) (us + m5) μ7) else pX5_atom_77 A z s0 mc ms Q none (uc) (us) μ3)))) else (uc + 1 ≤ mc ∧ us + 1 ≤ ms ∧ zpN μ (.inl 6) fun a15 μ16 => (pX7_init z a15 y1 μ16 fun μ18 => Q (some a15) μ18)))
set_option maxHeartbeats 4000000 in
set_option maxRecDepth 100000 in
theorem wX5_atom_18 {p : Program} {l : Launch} {e : Env} {s : State} {m : MethodId} {args : Array Value} {below : List Frame} {meth : Method} {c : Code} {Γ : zG} {μ0 : zM} {Q : Option Nat → zM → Prop} (X : zCx p m c cX5_atom 3 s args RX5 meth (some (.object "SunkTower$Sum"))) (A : Nat → Nat → Nat → Nat → zM → (Option Nat → zM → Prop) → Prop) (fa la : Nat) (hA : ∀ (l : Launch) (Γ : zG) (z : Nat) (s0 : Nat) (mc : Nat) (ms : Nat) (μ : zM) (Q : (Option Nat → zM → Prop)), A z s0 mc ms μ Q → Met l yX5_atom (ws_ yX5_atom cX5_atom 3 (some (.object "SunkTower$Sum"))) { frames := fa, cells := mc, slots := ms, locals := la } (va_Pc [.ref s0] (zPre Γ (cSh z) μ)) (va_Qq Q (zPost Γ (cSh z) μ) (zA μ)) mc ms (zA μ)) {s0 : Nat} (ht_s0 : zty μ0 s0 = some (.inl 5)) (z : Nat) (mc : Nat) (ms : Nat) : ∀ (y1 : Int32) (uc : Nat) (us : Nat) (μ : zM) (H : Heap) (locs : List Loc) (ls : Array Slot), pX5_atom_18 A z s0 mc ms Q y1 uc us μ → uc ≤ mc ∧ us ≤ ms → zB Γ (cSh z) (zA μ0) μ0 s μ H locs → lv_has ls 3 [(0, .ref s0)] → W p l e ({ frames := fa + 7, cells := mc, slots := ms, locals := la + 154 } : Room) s m args below meth c H locs uc us (MQ below (va_Qq Q (zPost Γ (cSh z) μ0) (zA μ0)) args s mc ms (zA μ0)) (F0 m 18 ls [.int y1]) := by
  have S := X.1
  obtain ⟨hx, hb, hml, hown, hts⟩ := X.1
  intro y1 uc us μ H locs ls hp hcap hB hl
  unfold pX5_atom_18 at hp
  refine lv_istore_n (lv' := [(1, .int y1), (0, .ref s0)]) hx hb dX5_atom_18 rfl hl (by decide) rfl (fun ls hl => ?_)
  refine lv_iload_n hx hb dX5_atom_19 rfl (lv_at hl 0 rfl) ?_
  refine lv_iconst (v := (-1 : Int32)) hx hb dX5_atom_20 rfl ?_
  refine lv_icmp_eq (tgt := 33) hx hb dX5_atom_21 rfl (fun c0 => ?_) (fun c0 => ?_)
  · have hp := zit hp c0
    refine lv_aload_n hx hb dX5_atom_33 rfl (lv_at hl 1 rfl) ?_
    refine lv_bipush (v := (nI 40)) hx hb dX5_atom_34 rfl ?_
    refine z_calli (va_runV (As := [.int (nI 40)]) (rest := []) S (mX5_isSign l Γ z s0 (nI 40) μ _ hp) (cwV 1 hts (lw_V q693 q695 qs22 q133 q696) rfl rfl rfl hX5_isSign ⟨by dsimp only; omega, by dsimp only; omega⟩) (hB.preV (hB.ty ht_s0 rfl) rfl rfl) rfl rfl hl.1 rfl (lv_room (Nat.le_of_ble_eq_true rfl)) dX5_atom_36 hcap) hB (fun r2 μ1 H locs hp hB => ?_)
    refine lv_if_ne (tgt := 58) hx hb dX5_atom_39 rfl (fun c0 => ?_) (fun c0 => ?_)
    · have hp := zif hp c0
      refine lv_aload_n hx hb dX5_atom_58 rfl (lv_at hl 1 rfl) ?_
      refine z_callv (va_runV (As := []) (rest := []) S (mX5_goesIn l Γ z s0 μ1 _ hp) (cwV 0 hts (lw_V q707 q709 qs23 q133 q710) rfl rfl rfl hX5_goesIn ⟨by dsimp only; omega, by dsimp only; omega⟩) (hB.preV (hB.ty ht_s0 rfl) rfl rfl) rfl rfl hl.1 rfl (lv_room (Nat.le_of_ble_eq_true rfl)) dX5_atom_59 hcap) hB (fun μ3 H locs hp hB => ?_)
      refine lv_aload_n hx hb dX5_atom_62 rfl (lv_at hl 1 rfl) ?_
      refine g_get S hB (hB.ty ht_s0 rfl) rfl (T := TX5) (N := 11) (C := RX5) rfl in_X5 6 (by decide) (by decide) q436 (fun _ h9 => h9) (v := .int (zI μ3 s0 6)) rfl dX5_atom_63 ?_
      refine lv_if_ne (tgt := 76) hx hb dX5_atom_66 rfl (fun c0 => ?_) (fun c0 => ?_)
      · have hp := zif hp c0
        refine lv_null hx hb dX5_atom_76 ?_
        exact wX5_atom_77 X A fa la hA ht_s0 z mc ms none (uc) (us) μ3 _ _ _ hp hcap hB (lv_sub hl [1] rfl)
      · have hp := zit hp c0
        refine lv_aload_n hx hb dX5_atom_69 rfl (lv_at hl 1 rfl) ?_
        obtain ⟨m4, m5, hc6a, hc6b, hp⟩ := hp
        refine z_callq (va_runV (As := []) (rest := []) S (mX5_sum_of A fa la hA l Γ z s0 m4 m5 μ3 _ hp) (cwV 0 hts (lw_V q652 q654 qs17 q133 q655) rfl rfl rfl hX5_sum ⟨by dsimp only; omega, by dsimp only; omega⟩) (hB.preV (hB.ty ht_s0 rfl) rfl rfl) rfl rfl hl.1 rfl (lv_room (Nat.le_of_ble_eq_true rfl)) dX5_atom_70 ⟨hc6a, hc6b⟩) hB (fun r8 μ7 H locs hp hB => ?_)
        have hcap : uc + m4 ≤ mc ∧ us + m5 ≤ ms := ⟨hc6a, hc6b⟩
        refine lv_goto (tgt := 77) hx hb dX5_atom_73 rfl ?_
        exact wX5_atom_77 X A fa la hA ht_s0 z mc ms r8 (uc + m4) (us + m5) μ7 _ _ _ hp hcap hB (lv_sub hl [1] rfl)
    · have hp := zit hp c0
      obtain ⟨hc11a, hc11b, hp⟩ := hp
      obtain ⟨a9, μ10, ea, eμ10, hp⟩ := zpN_e hp
      refine g_new S hB (ci := 7) ea rfl (T := TX8) (N := 1) (C := RX8) rfl in_X8 tyX8 tyX8_ok rfl zdefX8 q697 q698 q142 hc11a hc11b (cSh_ok.2.1 _ _ _ _ hB.2.2.2.2.2.2.1 hB.fresh' (fun c e => by cases e; try rfl)) dX5_atom_42 (fun H hB => ?_)
      rw [← eμ10] at hB
      have hcap : uc + 1 ≤ mc ∧ us + 1 ≤ ms := ⟨hc11a, hc11b⟩
      refine lv_dup hx hb dX5_atom_45 rfl ?_
      refine lv_aload_n hx hb dX5_atom_46 rfl (lv_at hl 1 rfl) ?_
      refine lv_iconst (v := (nI 0)) hx hb dX5_atom_47 rfl ?_
      refine lv_sipush (v := (nI 999)) hx hb dX5_atom_48 rfl ?_
      refine z_calli (va_runV (As := [.int (nI 0), .int (nI 999)]) (rest := [.ref a9, .ref a9]) S (mX5_number l Γ z s0 (nI 0) (nI 999) μ10 _ hp) (cwV 2 hts (lw_V q620 q622 qs10 q133 q623) rfl rfl rfl hX5_number ⟨by dsimp only; omega, by dsimp only; omega⟩) (hB.preV (hB.ty ht_s0 rfl) rfl rfl) rfl rfl hl.1 rfl (lv_room (Nat.le_of_ble_eq_true rfl)) dX5_atom_51 hcap) hB (fun r13 μ12 H locs hp hB => ?_)
      refine z_callv (va_runI (As := [.int r13]) (rest := [.ref a9]) S (mX8_init l Γ (cSh z) z cSh_ok a9 r13 μ12 _ hp) (cwI 1 hts (lw_meth q701) rfl rfl rfl (hts _ q142) (hts _ q699) (hts _ q700) rfl hX8_init.2 ⟨by dsimp only; omega, by dsimp only; omega⟩) hB.preS rfl rfl hl.1 rfl (lv_room (Nat.le_of_ble_eq_true rfl)) dX5_atom_54 hcap) hB (fun μ14 H locs hp hB => ?_)
      refine W.widen (k := mc) (n := ms) hcap.1 hcap.2 ?_
      exact zret_qs X hB hp dX5_atom_57
  · have hp := zif hp c0
    obtain ⟨hc17a, hc17b, hp⟩ := hp
    obtain ⟨a15, μ16, ea, eμ16, hp⟩ := zpN_e hp
    refine g_new S hB (ci := 6) ea rfl (T := TX7) (N := 1) (C := RX7) rfl in_X7 tyX7 tyX7_ok rfl zdefX7 q680 q681 q141 hc17a hc17b (cSh_ok.2.1 _ _ _ _ hB.2.2.2.2.2.2.1 hB.fresh' (fun c e => by cases e; try rfl)) dX5_atom_24 (fun H hB => ?_)
    rw [← eμ16] at hB
    have hcap : uc + 1 ≤ mc ∧ us + 1 ≤ ms := ⟨hc17a, hc17b⟩
    refine lv_dup hx hb dX5_atom_27 rfl ?_
    refine lv_iload_n hx hb dX5_atom_28 rfl (lv_at hl 0 rfl) ?_
    refine z_callv (va_runI (As := [.int y1]) (rest := [.ref a15]) S (mX7_init l Γ (cSh z) z cSh_ok a15 y1 μ16 _ hp) (cwI 1 hts (lw_meth q684) rfl rfl rfl (hts _ q141) (hts _ q682) (hts _ q683) rfl hX7_init.2 ⟨by dsimp only; omega, by dsimp only; omega⟩) hB.preS rfl rfl hl.1 rfl (lv_room (Nat.le_of_ble_eq_true rfl)) dX5_atom_29 hcap) hB (fun μ18 H locs hp hB => ?_)
    refine W.widen (k := mc) (n := ms) hcap.1 hcap.2 ?_
    exact zret_qs X hB hp dX5_atom_32
def pX5_atom_of (A : Nat → Nat → Nat → Nat → zM → (Option Nat → zM → Prop) → Prop) (z : Nat) (s0 : Nat) (mc ms : Nat) (μ : zM) (Q : Option Nat → zM → Prop) : Prop := zty μ s0 = some (.inl 5) ∧ (if (zI μ s0 9) = 0 then (pX5_sinkWord z s0 μ fun r4 μ3 => pX5_atom_18 A z s0 mc ms Q r4 (0) (0) μ3) else (pX5_storeyWord z s0 μ fun r2 μ1 => pX5_atom_18 A z s0 mc ms Q r2 (0) (0) μ1))
theorem tX5_atom_of {A : Nat → Nat → Nat → Nat → zM → (Option Nat → zM → Prop) → Prop} {z : Nat} {s0 : Nat} {mc ms : Nat} {μ : zM} {Q : Option Nat → zM → Prop} (h : pX5_atom_of A z s0 mc ms μ Q) : zty μ s0 = some (.inl 5) := h.1
set_option maxHeartbeats 4000000 in
set_option maxRecDepth 100000 in
theorem mX5_atom_of (A : Nat → Nat → Nat → Nat → zM → (Option Nat → zM → Prop) → Prop) (fa la : Nat) (hA : ∀ (l : Launch) (Γ : zG) (z : Nat) (s0 : Nat) (mc : Nat) (ms : Nat) (μ : zM) (Q : (Option Nat → zM → Prop)), A z s0 mc ms μ Q → Met l yX5_atom (ws_ yX5_atom cX5_atom 3 (some (.object "SunkTower$Sum"))) { frames := fa, cells := mc, slots := ms, locals := la } (va_Pc [.ref s0] (zPre Γ (cSh z) μ)) (va_Qq Q (zPost Γ (cSh z) μ) (zA μ)) mc ms (zA μ)) (l : Launch) (Γ : zG) (z : Nat) (s0 : Nat) (mc ms : Nat) (μ : zM) (Q : Option Nat → zM → Prop) (hp : pX5_atom_of A z s0 mc ms μ Q) : Met l yX5_atom (ws_ yX5_atom cX5_atom 3 (some (.object "SunkTower$Sum"))) ({ frames := fa + 7, cells := mc, slots := ms, locals := la + 154 } : Room) (va_Pc [.ref s0] (zPre Γ (cSh z) μ)) (va_Qq Q (zPost Γ (cSh z) μ) (zA μ)) mc ms (zA μ) := by
  refine zstart (by decide) (Nat.le_of_ble_eq_true rfl) ?_
  intro p e s m below meth c ls X hnm hB hl
  have X : zCx p m c cX5_atom 3 s [.ref s0].toArray RX5 meth (some (.object "SunkTower$Sum")) := X
  have S := X.1
  obtain ⟨hx, hb, hml, hown, hts⟩ := X.1
  have hl : lv_has ls 3 [(0, .ref s0)] := hl
  obtain ⟨ht_s0, hp⟩ := hp
  have hcap : 0 ≤ mc ∧ 0 ≤ ms := ⟨Nat.zero_le _, Nat.zero_le _⟩
  refine lv_aload_n hx hb dX5_atom_0 rfl (lv_at hl 0 rfl) ?_
  refine g_get S hB (hB.ty ht_s0 rfl) rfl (T := TX5) (N := 11) (C := RX5) rfl in_X5 9 (by decide) (by decide) q441 (fun _ h9 => h9) (v := .int (zI μ s0 9)) rfl dX5_atom_1 ?_
  refine lv_if_ne (tgt := 14) hx hb dX5_atom_4 rfl (fun c0 => ?_) (fun c0 => ?_)
  · have hp := zif hp c0
    refine lv_aload_n hx hb dX5_atom_14 rfl (lv_at hl 0 rfl) ?_
    refine z_calli (va_runV (As := []) (rest := []) S (mX5_storeyWord l Γ z s0 μ _ hp) (cwV 0 hts (lw_V q673 q675 qs21 q133 q676) rfl rfl rfl hX5_storeyWord ⟨by dsimp only; omega, by dsimp only; omega⟩) (hB.preV (hB.ty ht_s0 rfl) rfl rfl) rfl rfl hl.1 rfl (lv_room (Nat.le_of_ble_eq_true rfl)) dX5_atom_15 hcap) hB (fun r2 μ1 H locs hp hB => ?_)
    exact wX5_atom_18 X A fa la hA ht_s0 z mc ms r2 (0) (0) μ1 _ _ _ hp hcap hB (lv_sub hl [0] rfl)
  · have hp := zit hp c0
    refine lv_aload_n hx hb dX5_atom_7 rfl (lv_at hl 0 rfl) ?_
    refine z_calli (va_runV (As := []) (rest := []) S (mX5_sinkWord l Γ z s0 μ _ hp) (cwV 0 hts (lw_V q664 q666 qs20 q133 q667) rfl rfl rfl hX5_sinkWord ⟨by dsimp only; omega, by dsimp only; omega⟩) (hB.preV (hB.ty ht_s0 rfl) rfl rfl) rfl rfl hl.1 rfl (lv_room (Nat.le_of_ble_eq_true rfl)) dX5_atom_8 hcap) hB (fun r4 μ3 H locs hp hB => ?_)
    refine lv_goto (tgt := 18) hx hb dX5_atom_11 rfl ?_
    exact wX5_atom_18 X A fa la hA ht_s0 z mc ms r4 (0) (0) μ3 _ _ _ hp hcap hB (lv_sub hl [0] rfl)
def pX5_atom : Nat → Nat → Nat → Nat → Nat → zM → (Option Nat → zM → Prop) → Prop
  | 0 => fun _ _ _ _ _ _ => False
  | d + 1 => fun z s0 mc ms μ Q => pX5_atom_of (pX5_atom d) z s0 mc ms μ Q
theorem mX5_atom : ∀ (d : Nat) (l : Launch) (Γ : zG) (z : Nat) (s0 : Nat) (mc : Nat) (ms : Nat) (μ : zM) (Q : (Option Nat → zM → Prop)), pX5_atom d z s0 mc ms μ Q → Met l yX5_atom (ws_ yX5_atom cX5_atom 3 (some (.object "SunkTower$Sum"))) { frames := 7 * d, cells := mc, slots := ms, locals := 154 * d } (va_Pc [.ref s0] (zPre Γ (cSh z) μ)) (va_Qq Q (zPost Γ (cSh z) μ) (zA μ)) mc ms (zA μ) := by
  intro d
  induction d with
  | zero => intro l Γ z s0 mc ms μ Q h; exact h.elim
  | succ d ih => intro l Γ z s0 mc ms μ Q h; exact mX5_atom_of (pX5_atom d) (7 * d) (154 * d) ih l Γ z s0 mc ms μ Q h
def pX5_law (z : Nat) (s0 : Nat) (x1 : Int32) (x2 : Option Nat) (mc ms : Nat) (μ : zM) (Q : Option Nat → zM → Prop) : Prop := zty μ s0 = some (.inl 5) ∧ (zpI μ s0 9 x1 fun μ1 => (pX5_must z s0 (nI 58) μ1 fun μ2 => (∃ m3 m4, 0 + m3 ≤ mc ∧ 0 + m4 ≤ ms ∧ pX5_sum_of (pX5_atom 8) z s0 m3 m4 μ2 fun r7 μ6 => (if (zI μ6 s0 6) = 0 then Q r7 μ6 else Q x2 μ6))))
theorem tX5_law {z : Nat} {s0 : Nat} {x1 : Int32} {x2 : Option Nat} {mc ms : Nat} {μ : zM} {Q : Option Nat → zM → Prop} (h : pX5_law z s0 x1 x2 mc ms μ Q) : zty μ s0 = some (.inl 5) := h.1
theorem hX5_law : yX5_law.cls = "SunkTower$Reader" ∧ yX5_law.cls ≠ "java/lang/invoke/MethodHandle" ∧ yX5_law.cls ≠ "java/lang/invoke/VarHandle" ∧ (parseMethodDescriptor yX5_law.desc).map (fun d => d.parameters.length) = some 2 := by decide +kernel
set_option maxHeartbeats 4000000 in
set_option maxRecDepth 100000 in
theorem mX5_law (l : Launch) (Γ : zG) (z : Nat) (s0 : Nat) (x1 : Int32) (x2 : Option Nat) (mc ms : Nat) (μ : zM) (Q : Option Nat → zM → Prop) (hp : pX5_law z s0 x1 x2 mc ms μ Q) : Met l yX5_law (ws_ yX5_law cX5_law 4 (some (.object "SunkTower$Sum"))) ({ frames := 63, cells := mc, slots := ms, locals := 1386 } : Room) (va_Pc [.ref s0, .int x1, va_rf x2] (zPre Γ (cSh z) μ)) (va_Qq Q (zPost Γ (cSh z) μ) (zA μ)) mc ms (zA μ) := by
  refine zstart (by decide) (by cases x2 <;> exact Nat.le_of_ble_eq_true rfl) ?_
  intro p e s m below meth c ls X hnm hB hl
  have X : zCx p m c cX5_law 4 s [.ref s0, .int x1, va_rf x2].toArray RX5 meth (some (.object "SunkTower$Sum")) := X
  have S := X.1
  obtain ⟨hx, hb, hml, hown, hts⟩ := X.1
  have hl : lv_has ls 4 [(0, .ref s0), (1, .int x1), (2, va_rf x2)] := by cases x2 <;> exact hl
  obtain ⟨ht_s0, hp⟩ := hp
  have hcap : 0 ≤ mc ∧ 0 ≤ ms := ⟨Nat.zero_le _, Nat.zero_le _⟩
  refine lv_aload_n hx hb dX5_law_0 rfl (lv_at hl 0 rfl) ?_
  refine lv_iload_n hx hb dX5_law_1 rfl (lv_at hl 1 rfl) ?_
  obtain ⟨μ1, eμ1, hp⟩ := zpI_e hp
  refine g_putI S hB (hB.ty ht_s0 rfl) rfl (T := TX5) (N := 11) (C := RX5) rfl in_X5 9 (by decide) (by decide) (x := x1) tyX5 tyX5_ok nmX5 q441 (fun _ h9 => h9) rfl (ty := .int) (by decide +kernel) rfl rfl (fun _ _ => rfl) dX5_law_2 (fun H locs hB => ?_)
  rw [← eμ1] at hB
  refine lv_aload_n hx hb dX5_law_5 rfl (lv_at hl 0 rfl) ?_
  refine lv_bipush (v := (nI 58)) hx hb dX5_law_6 rfl ?_
  refine z_callv (va_runV (As := [.int (nI 58)]) (rest := []) S (mX5_must l Γ z s0 (nI 58) μ1 _ hp) (cwV 1 hts (lw_V q648 q650 qs16 q133 q651) rfl rfl rfl hX5_must ⟨Nat.le_of_ble_eq_true rfl, Nat.le_of_ble_eq_true rfl⟩) (hB.preV (hB.ty ht_s0 rfl) rfl rfl) rfl rfl hl.1 rfl (lv_room (Nat.le_of_ble_eq_true rfl)) dX5_law_8 hcap) hB (fun μ2 H locs hp hB => ?_)
  refine lv_aload_n hx hb dX5_law_11 rfl (lv_at hl 0 rfl) ?_
  obtain ⟨m3, m4, hc5a, hc5b, hp⟩ := hp
  refine z_callq (va_runV (As := []) (rest := []) S (mX5_sum_of (pX5_atom 8) (7 * 8) (154 * 8) (mX5_atom 8) l Γ z s0 m3 m4 μ2 _ hp) (cwV 0 hts (lw_V q652 q654 qs17 q133 q655) rfl rfl rfl hX5_sum ⟨Nat.le_of_ble_eq_true rfl, Nat.le_of_ble_eq_true rfl⟩) (hB.preV (hB.ty ht_s0 rfl) rfl rfl) rfl rfl hl.1 rfl (lv_room (Nat.le_of_ble_eq_true rfl)) dX5_law_12 ⟨hc5a, hc5b⟩) hB (fun r7 μ6 H locs hp hB => ?_)
  have hcap : 0 + m3 ≤ mc ∧ 0 + m4 ≤ ms := ⟨hc5a, hc5b⟩
  refine g_astore_nq (lv' := [(3, va_rf r7), (0, .ref s0), (1, .int x1), (2, va_rf x2)]) hx hb dX5_law_15 rfl hl (by decide) (by cases x2 <;> rfl) (fun ls hl => ?_)
  refine lv_aload_n hx hb dX5_law_16 rfl (lv_at hl 1 rfl) ?_
  refine g_get S hB (hB.ty ht_s0 rfl) rfl (T := TX5) (N := 11) (C := RX5) rfl in_X5 6 (by decide) (by decide) q436 (fun _ h9 => h9) (v := .int (zI μ6 s0 6)) rfl dX5_law_17 ?_
  refine lv_if_ne (tgt := 27) hx hb dX5_law_20 rfl (fun c0 => ?_) (fun c0 => ?_)
  · have hp := zif hp c0
    refine g_aload_nq hx hb dX5_law_27 rfl (lv_at hl 3 rfl) ?_
    refine W.widen (k := mc) (n := ms) hcap.1 hcap.2 ?_
    exact zret_q X hB hp dX5_law_28
  · have hp := zit hp c0
    refine g_aload_nq hx hb dX5_law_23 rfl (lv_at hl 0 rfl) ?_
    refine lv_goto (tgt := 28) hx hb dX5_law_24 rfl ?_
    refine W.widen (k := mc) (n := ms) hcap.1 hcap.2 ?_
    exact zret_q X hB hp dX5_law_28
def pX5_line (z : Nat) (s0 : Nat) (mc ms : Nat) (μ : zM) (Q : zM → Prop) : Prop := zty μ s0 = some (.inl 5) ∧ (pX5_is z s0 2 μ fun r2 μ1 => (if r2 = 0 then (pX5_is z s0 3 μ1 fun r4 μ3 => (if r4 = 0 then (pX5_takes z s0 6 μ3 fun r6 μ5 => (if r6 = 0 then (pX5_takes z s0 15 μ5 fun r8 μ7 => (if r8 = 0 then (pX5_takes z s0 16 μ7 fun r10 μ9 => (if r10 = 0 then (pX5_takes z s0 9 μ9 fun r12 μ11 => (if r12 = 0 then (pX5_takes z s0 10 μ11 fun r14 μ13 => (if r14 = 0 then (pX5_takes z s0 17 μ13 fun r16 μ15 => (if r16 = 0 then (pX5_build z s0 μ15 fun μ17 => Q μ17) else (pX5_number z s0 (nI 0) (nI 999) μ15 fun r19 μ18 => (zpI μ18 (s0 + 1) 11 r19 fun μ20 => Q μ20)))) else (pX5_number z s0 (nI 0) (nI 999) μ13 fun r22 μ21 => (zpI μ21 (s0 + 1) 8 r22 fun μ23 => Q μ23)))) else (pX5_number z s0 (nI 0) (nI 999) μ11 fun r25 μ24 => (zpI μ24 (s0 + 1) 7 r25 fun μ26 => Q μ26)))) else (∃ m27 m28, 0 + m27 ≤ mc ∧ 0 + m28 ≤ ms ∧ pX5_law z s0 (nI 2) (zR μ9 (s0 + 1) 15) m27 m28 μ9 fun r31 μ30 => (zpR μ30 (s0 + 1) 15 r31 fun μ32 => Q μ32)))) else (∃ m33 m34, 0 + m33 ≤ mc ∧ 0 + m34 ≤ ms ∧ pX5_law z s0 (nI 1) (zR μ7 (s0 + 1) 14) m33 m34 μ7 fun r37 μ36 => (zpR μ36 (s0 + 1) 14 r37 fun μ38 => Q μ38)))) else (∃ m39 m40, 0 + m39 ≤ mc ∧ 0 + m40 ≤ ms ∧ pX5_law z s0 (nI 0) (zR μ5 (s0 + 1) 13) m39 m40 μ5 fun r43 μ42 => (zpR μ42 (s0 + 1) 13 r43 fun μ44 => Q μ44)))) else (pX5_tenant z s0 μ3 fun μ45 => Q μ45))) else (pX5_storey z s0 μ1 fun μ46 => Q μ46)))
theorem tX5_line {z : Nat} {s0 : Nat} {mc ms : Nat} {μ : zM} {Q : zM → Prop} (h : pX5_line z s0 mc ms μ Q) : zty μ s0 = some (.inl 5) := h.1
theorem hX5_line : yX5_line.cls = "SunkTower$Reader" ∧ yX5_line.cls ≠ "java/lang/invoke/MethodHandle" ∧ yX5_line.cls ≠ "java/lang/invoke/VarHandle" ∧ (parseMethodDescriptor yX5_line.desc).map (fun d => d.parameters.length) = some 0 := by decide +kernel
set_option maxHeartbeats 4000000 in
set_option maxRecDepth 100000 in
theorem mX5_line (l : Launch) (Γ : zG) (z : Nat) (s0 : Nat) (mc ms : Nat) (μ : zM) (Q : zM → Prop) (hp : pX5_line z s0 mc ms μ Q) : Met l yX5_line (ws_ yX5_line cX5_line 1 none) ({ frames := 64, cells := mc, slots := ms, locals := 1409 } : Room) (va_Pc [.ref s0] (zPre Γ (cSh z) μ)) (va_Qv Q (zPost Γ (cSh z) μ) (zA μ)) mc ms (zA μ) := by
  refine zstart (by decide) (Nat.le_of_ble_eq_true rfl) ?_
  intro p e s m below meth c ls X hnm hB hl
  have X : zCx p m c cX5_line 1 s [.ref s0].toArray RX5 meth none := X
  have S := X.1
  obtain ⟨hx, hb, hml, hown, hts⟩ := X.1
  have hl : lv_has ls 1 [(0, .ref s0)] := hl
  obtain ⟨ht_s0, hp⟩ := hp
  have hcap : 0 ≤ mc ∧ 0 ≤ ms := ⟨Nat.zero_le _, Nat.zero_le _⟩
  refine lv_aload_n hx hb dX5_line_0 rfl (lv_at hl 0 rfl) ?_
  refine g_ldcs S hB (i := 3) rfl dX5_line_1 ?_
  refine z_calli (va_runV (As := [.ref (Γ.2.2.1 2)]) (rest := []) S (mX5_is l Γ z s0 2 μ _ hp) (cwV 1 hts (lw_V q583 q585 qs6 q133 q586) rfl rfl rfl hX5_is ⟨Nat.le_of_ble_eq_true rfl, Nat.le_of_ble_eq_true rfl⟩) (hB.preV (hB.ty ht_s0 rfl) rfl rfl) rfl rfl hl.1 rfl (lv_room (Nat.le_of_ble_eq_true rfl)) dX5_line_3 hcap) hB (fun r2 μ1 H locs hp hB => ?_)
  refine lv_if_eq (tgt := 16) hx hb dX5_line_6 rfl (fun c0 => ?_) (fun c0 => ?_)
  · have hp := zit hp c0
    refine lv_aload_n hx hb dX5_line_16 rfl (lv_at hl 0 rfl) ?_
    refine g_ldcs S hB (i := 4) rfl dX5_line_17 ?_
    refine z_calli (va_runV (As := [.ref (Γ.2.2.1 3)]) (rest := []) S (mX5_is l Γ z s0 3 μ1 _ hp) (cwV 1 hts (lw_V q583 q585 qs6 q133 q586) rfl rfl rfl hX5_is ⟨Nat.le_of_ble_eq_true rfl, Nat.le_of_ble_eq_true rfl⟩) (hB.preV (hB.ty ht_s0 rfl) rfl rfl) rfl rfl hl.1 rfl (lv_room (Nat.le_of_ble_eq_true rfl)) dX5_line_19 hcap) hB (fun r4 μ3 H locs hp hB => ?_)
    refine lv_if_eq (tgt := 32) hx hb dX5_line_22 rfl (fun c0 => ?_) (fun c0 => ?_)
    · have hp := zit hp c0
      refine lv_aload_n hx hb dX5_line_32 rfl (lv_at hl 0 rfl) ?_
      refine g_ldcs S hB (i := 7) rfl dX5_line_33 ?_
      refine z_calli (va_runV (As := [.ref (Γ.2.2.1 6)]) (rest := []) S (mX5_takes l Γ z s0 6 μ3 _ hp) (cwV 1 hts (lw_V q634 q636 qs13 q133 q637) rfl rfl rfl hX5_takes ⟨Nat.le_of_ble_eq_true rfl, Nat.le_of_ble_eq_true rfl⟩) (hB.preV (hB.ty ht_s0 rfl) rfl rfl) rfl rfl hl.1 rfl (lv_room (Nat.le_of_ble_eq_true rfl)) dX5_line_35 hcap) hB (fun r6 μ5 H locs hp hB => ?_)
      refine lv_if_eq (tgt := 63) hx hb dX5_line_38 rfl (fun c0 => ?_) (fun c0 => ?_)
      · have hp := zit hp c0
        refine lv_aload_n hx hb dX5_line_63 rfl (lv_at hl 0 rfl) ?_
        refine g_ldcs S hB (i := 16) rfl dX5_line_64 ?_
        refine z_calli (va_runV (As := [.ref (Γ.2.2.1 15)]) (rest := []) S (mX5_takes l Γ z s0 15 μ5 _ hp) (cwV 1 hts (lw_V q634 q636 qs13 q133 q637) rfl rfl rfl hX5_takes ⟨Nat.le_of_ble_eq_true rfl, Nat.le_of_ble_eq_true rfl⟩) (hB.preV (hB.ty ht_s0 rfl) rfl rfl) rfl rfl hl.1 rfl (lv_room (Nat.le_of_ble_eq_true rfl)) dX5_line_66 hcap) hB (fun r8 μ7 H locs hp hB => ?_)
        refine lv_if_eq (tgt := 94) hx hb dX5_line_69 rfl (fun c0 => ?_) (fun c0 => ?_)
        · have hp := zit hp c0
          refine lv_aload_n hx hb dX5_line_94 rfl (lv_at hl 0 rfl) ?_
          refine g_ldcs S hB (i := 17) rfl dX5_line_95 ?_
          refine z_calli (va_runV (As := [.ref (Γ.2.2.1 16)]) (rest := []) S (mX5_takes l Γ z s0 16 μ7 _ hp) (cwV 1 hts (lw_V q634 q636 qs13 q133 q637) rfl rfl rfl hX5_takes ⟨Nat.le_of_ble_eq_true rfl, Nat.le_of_ble_eq_true rfl⟩) (hB.preV (hB.ty ht_s0 rfl) rfl rfl) rfl rfl hl.1 rfl (lv_room (Nat.le_of_ble_eq_true rfl)) dX5_line_97 hcap) hB (fun r10 μ9 H locs hp hB => ?_)
          refine lv_if_eq (tgt := 125) hx hb dX5_line_100 rfl (fun c0 => ?_) (fun c0 => ?_)
          · have hp := zit hp c0
            refine lv_aload_n hx hb dX5_line_125 rfl (lv_at hl 0 rfl) ?_
            refine g_ldcs S hB (i := 10) rfl dX5_line_126 ?_
            refine z_calli (va_runV (As := [.ref (Γ.2.2.1 9)]) (rest := []) S (mX5_takes l Γ z s0 9 μ9 _ hp) (cwV 1 hts (lw_V q634 q636 qs13 q133 q637) rfl rfl rfl hX5_takes ⟨Nat.le_of_ble_eq_true rfl, Nat.le_of_ble_eq_true rfl⟩) (hB.preV (hB.ty ht_s0 rfl) rfl rfl) rfl rfl hl.1 rfl (lv_room (Nat.le_of_ble_eq_true rfl)) dX5_line_128 hcap) hB (fun r12 μ11 H locs hp hB => ?_)
            refine lv_if_eq (tgt := 152) hx hb dX5_line_131 rfl (fun c0 => ?_) (fun c0 => ?_)
            · have hp := zit hp c0
              refine lv_aload_n hx hb dX5_line_152 rfl (lv_at hl 0 rfl) ?_
              refine g_ldcs S hB (i := 11) rfl dX5_line_153 ?_
              refine z_calli (va_runV (As := [.ref (Γ.2.2.1 10)]) (rest := []) S (mX5_takes l Γ z s0 10 μ11 _ hp) (cwV 1 hts (lw_V q634 q636 qs13 q133 q637) rfl rfl rfl hX5_takes ⟨Nat.le_of_ble_eq_true rfl, Nat.le_of_ble_eq_true rfl⟩) (hB.preV (hB.ty ht_s0 rfl) rfl rfl) rfl rfl hl.1 rfl (lv_room (Nat.le_of_ble_eq_true rfl)) dX5_line_155 hcap) hB (fun r14 μ13 H locs hp hB => ?_)
              refine lv_if_eq (tgt := 179) hx hb dX5_line_158 rfl (fun c0 => ?_) (fun c0 => ?_)
              · have hp := zit hp c0
                refine lv_aload_n hx hb dX5_line_179 rfl (lv_at hl 0 rfl) ?_
                refine g_ldcs S hB (i := 18) rfl dX5_line_180 ?_
                refine z_calli (va_runV (As := [.ref (Γ.2.2.1 17)]) (rest := []) S (mX5_takes l Γ z s0 17 μ13 _ hp) (cwV 1 hts (lw_V q634 q636 qs13 q133 q637) rfl rfl rfl hX5_takes ⟨Nat.le_of_ble_eq_true rfl, Nat.le_of_ble_eq_true rfl⟩) (hB.preV (hB.ty ht_s0 rfl) rfl rfl) rfl rfl hl.1 rfl (lv_room (Nat.le_of_ble_eq_true rfl)) dX5_line_182 hcap) hB (fun r16 μ15 H locs hp hB => ?_)
                refine lv_if_eq (tgt := 206) hx hb dX5_line_185 rfl (fun c0 => ?_) (fun c0 => ?_)
                · have hp := zit hp c0
                  refine lv_aload_n hx hb dX5_line_206 rfl (lv_at hl 0 rfl) ?_
                  refine z_callv (va_runV (As := []) (rest := []) S (mX5_build l Γ z s0 μ15 _ hp) (cwV 0 hts (lw_V q730 q732 qs24 q133 q733) rfl rfl rfl hX5_build ⟨Nat.le_of_ble_eq_true rfl, Nat.le_of_ble_eq_true rfl⟩) (hB.preV (hB.ty ht_s0 rfl) rfl rfl) rfl rfl hl.1 rfl (lv_room (Nat.le_of_ble_eq_true rfl)) dX5_line_207 hcap) hB (fun μ17 H locs hp hB => ?_)
                  refine W.widen (k := mc) (n := ms) hcap.1 hcap.2 ?_
                  exact zret_v X hB hp dX5_line_210
                · have hp := zif hp c0
                  refine lv_aload_n hx hb dX5_line_188 rfl (lv_at hl 0 rfl) ?_
                  refine g_getr S hB (hB.ty ht_s0 rfl) rfl (T := TX5) (N := 11) (C := RX5) rfl in_X5 1 (by decide) (by decide) q430 (fun _ h9 => h9) (fun _ => rfl) (cS5 hB (hB.ty ht_s0 rfl) 0 rfl).1 dX5_line_189 ?_
                  refine lv_aload_n hx hb dX5_line_192 rfl (lv_at hl 0 rfl) ?_
                  refine lv_iconst (v := (nI 0)) hx hb dX5_line_193 rfl ?_
                  refine lv_sipush (v := (nI 999)) hx hb dX5_line_194 rfl ?_
                  refine z_calli (va_runV (As := [.int (nI 0), .int (nI 999)]) (rest := [.ref (s0 + 1)]) S (mX5_number l Γ z s0 (nI 0) (nI 999) μ15 _ hp) (cwV 2 hts (lw_V q620 q622 qs10 q133 q623) rfl rfl rfl hX5_number ⟨Nat.le_of_ble_eq_true rfl, Nat.le_of_ble_eq_true rfl⟩) (hB.preV (hB.ty ht_s0 rfl) rfl rfl) rfl rfl hl.1 rfl (lv_room (Nat.le_of_ble_eq_true rfl)) dX5_line_197 hcap) hB (fun r19 μ18 H locs hp hB => ?_)
                  obtain ⟨μ20, eμ20, hp⟩ := zpI_e hp
                  refine g_putIN S hB (cS5 hB (hB.ty ht_s0 rfl) 0 rfl).2 rfl (T := TX1) (N := 16) (C := RX1) rfl in_X1 11 (by decide) (by decide) (x := r19) tyX1 tyX1_ok nmX1 (zNFw hB 37 rfl) (fun _ h9 => h9) rfl (ty := .int) (by decide +kernel) rfl rfl (fun _ _ => rfl) dX5_line_200 (fun H locs hB => ?_)
                  rw [← eμ20] at hB
                  refine lv_goto (tgt := 210) hx hb dX5_line_203 rfl ?_
                  refine W.widen (k := mc) (n := ms) hcap.1 hcap.2 ?_
                  exact zret_v X hB hp dX5_line_210
              · have hp := zif hp c0
                refine lv_aload_n hx hb dX5_line_161 rfl (lv_at hl 0 rfl) ?_
                refine g_getr S hB (hB.ty ht_s0 rfl) rfl (T := TX5) (N := 11) (C := RX5) rfl in_X5 1 (by decide) (by decide) q430 (fun _ h9 => h9) (fun _ => rfl) (cS5 hB (hB.ty ht_s0 rfl) 0 rfl).1 dX5_line_162 ?_
                refine lv_aload_n hx hb dX5_line_165 rfl (lv_at hl 0 rfl) ?_
                refine lv_iconst (v := (nI 0)) hx hb dX5_line_166 rfl ?_
                refine lv_sipush (v := (nI 999)) hx hb dX5_line_167 rfl ?_
                refine z_calli (va_runV (As := [.int (nI 0), .int (nI 999)]) (rest := [.ref (s0 + 1)]) S (mX5_number l Γ z s0 (nI 0) (nI 999) μ13 _ hp) (cwV 2 hts (lw_V q620 q622 qs10 q133 q623) rfl rfl rfl hX5_number ⟨Nat.le_of_ble_eq_true rfl, Nat.le_of_ble_eq_true rfl⟩) (hB.preV (hB.ty ht_s0 rfl) rfl rfl) rfl rfl hl.1 rfl (lv_room (Nat.le_of_ble_eq_true rfl)) dX5_line_170 hcap) hB (fun r22 μ21 H locs hp hB => ?_)
                obtain ⟨μ23, eμ23, hp⟩ := zpI_e hp
                refine g_putIN S hB (cS5 hB (hB.ty ht_s0 rfl) 0 rfl).2 rfl (T := TX1) (N := 16) (C := RX1) rfl in_X1 8 (by decide) (by decide) (x := r22) tyX1 tyX1_ok nmX1 (zNFw hB 34 rfl) (fun _ h9 => h9) rfl (ty := .int) (by decide +kernel) rfl rfl (fun _ _ => rfl) dX5_line_173 (fun H locs hB => ?_)
                rw [← eμ23] at hB
                refine lv_goto (tgt := 210) hx hb dX5_line_176 rfl ?_
                refine W.widen (k := mc) (n := ms) hcap.1 hcap.2 ?_
                exact zret_v X hB hp dX5_line_210
            · have hp := zif hp c0
              refine lv_aload_n hx hb dX5_line_134 rfl (lv_at hl 0 rfl) ?_
              refine g_getr S hB (hB.ty ht_s0 rfl) rfl (T := TX5) (N := 11) (C := RX5) rfl in_X5 1 (by decide) (by decide) q430 (fun _ h9 => h9) (fun _ => rfl) (cS5 hB (hB.ty ht_s0 rfl) 0 rfl).1 dX5_line_135 ?_
              refine lv_aload_n hx hb dX5_line_138 rfl (lv_at hl 0 rfl) ?_
              refine lv_iconst (v := (nI 0)) hx hb dX5_line_139 rfl ?_
              refine lv_sipush (v := (nI 999)) hx hb dX5_line_140 rfl ?_
              refine z_calli (va_runV (As := [.int (nI 0), .int (nI 999)]) (rest := [.ref (s0 + 1)]) S (mX5_number l Γ z s0 (nI 0) (nI 999) μ11 _ hp) (cwV 2 hts (lw_V q620 q622 qs10 q133 q623) rfl rfl rfl hX5_number ⟨Nat.le_of_ble_eq_true rfl, Nat.le_of_ble_eq_true rfl⟩) (hB.preV (hB.ty ht_s0 rfl) rfl rfl) rfl rfl hl.1 rfl (lv_room (Nat.le_of_ble_eq_true rfl)) dX5_line_143 hcap) hB (fun r25 μ24 H locs hp hB => ?_)
              obtain ⟨μ26, eμ26, hp⟩ := zpI_e hp
              refine g_putIN S hB (cS5 hB (hB.ty ht_s0 rfl) 0 rfl).2 rfl (T := TX1) (N := 16) (C := RX1) rfl in_X1 7 (by decide) (by decide) (x := r25) tyX1 tyX1_ok nmX1 (zNFw hB 33 rfl) (fun _ h9 => h9) rfl (ty := .int) (by decide +kernel) rfl rfl (fun _ _ => rfl) dX5_line_146 (fun H locs hB => ?_)
              rw [← eμ26] at hB
              refine lv_goto (tgt := 210) hx hb dX5_line_149 rfl ?_
              refine W.widen (k := mc) (n := ms) hcap.1 hcap.2 ?_
              exact zret_v X hB hp dX5_line_210
          · have hp := zif hp c0
            refine lv_aload_n hx hb dX5_line_103 rfl (lv_at hl 0 rfl) ?_
            refine g_getr S hB (hB.ty ht_s0 rfl) rfl (T := TX5) (N := 11) (C := RX5) rfl in_X5 1 (by decide) (by decide) q430 (fun _ h9 => h9) (fun _ => rfl) (cS5 hB (hB.ty ht_s0 rfl) 0 rfl).1 dX5_line_104 ?_
            refine lv_aload_n hx hb dX5_line_107 rfl (lv_at hl 0 rfl) ?_
            refine lv_iconst (v := (nI 2)) hx hb dX5_line_108 rfl ?_
            refine lv_aload_n hx hb dX5_line_109 rfl (lv_at hl 0 rfl) ?_
            refine g_getr S hB (hB.ty ht_s0 rfl) rfl (T := TX5) (N := 11) (C := RX5) rfl in_X5 1 (by decide) (by decide) q430 (fun _ h9 => h9) (fun _ => rfl) (cS5 hB (hB.ty ht_s0 rfl) 0 rfl).1 dX5_line_110 ?_
            refine g_getN S hB (cS5 hB (hB.ty ht_s0 rfl) 0 rfl).2 rfl (T := TX1) (N := 16) (C := RX1) rfl in_X1 15 (by decide) (by decide) (zNFw hB 41 rfl) (fun _ h9 => h9) (v := va_rf (zR μ9 (s0 + 1) 15)) rfl dX5_line_113 ?_
            obtain ⟨m27, m28, hc29a, hc29b, hp⟩ := hp
            refine z_callq (va_runV (As := [.int (nI 2), va_rf (zR μ9 (s0 + 1) 15)]) (rest := [.ref (s0 + 1)]) S (mX5_law l Γ z s0 (nI 2) (zR μ9 (s0 + 1) 15) m27 m28 μ9 _ hp) (cwV 2 hts (lw_V q644 q646 qs15 q133 q647) rfl rfl rfl hX5_law ⟨Nat.le_of_ble_eq_true rfl, Nat.le_of_ble_eq_true rfl⟩) (hB.preV (hB.ty ht_s0 rfl) rfl rfl) rfl rfl hl.1 rfl (lv_room (Nat.le_of_ble_eq_true rfl)) dX5_line_116 ⟨hc29a, hc29b⟩) hB (fun r31 μ30 H locs hp hB => ?_)
            have hcap : 0 + m27 ≤ mc ∧ 0 + m28 ≤ ms := ⟨hc29a, hc29b⟩
            obtain ⟨μ32, eμ32, hp⟩ := zpR_e hp
            refine g_putRN S hB (cS5 hB (hB.ty ht_s0 rfl) 0 rfl).2 rfl (T := TX1) (N := 16) (C := RX1) rfl in_X1 15 (by decide) (by decide) (x := r31) tyX1 tyX1_ok nmX1 (zNFw hB 41 rfl) (fun _ h9 => h9) rfl (ty := .object "SunkTower$Sum") (by decide +kernel) (zfits_o _ _) (znar_o _ _) (fun _ _ => rfl) (cSh_put hB (cS5 hB (hB.ty ht_s0 rfl) 0 rfl).2 15 (by decide)) dX5_line_119 (fun H locs hB => ?_)
            rw [← eμ32] at hB
            refine lv_goto (tgt := 210) hx hb dX5_line_122 rfl ?_
            refine W.widen (k := mc) (n := ms) hcap.1 hcap.2 ?_
            exact zret_v X hB hp dX5_line_210
        · have hp := zif hp c0
          refine lv_aload_n hx hb dX5_line_72 rfl (lv_at hl 0 rfl) ?_
          refine g_getr S hB (hB.ty ht_s0 rfl) rfl (T := TX5) (N := 11) (C := RX5) rfl in_X5 1 (by decide) (by decide) q430 (fun _ h9 => h9) (fun _ => rfl) (cS5 hB (hB.ty ht_s0 rfl) 0 rfl).1 dX5_line_73 ?_
          refine lv_aload_n hx hb dX5_line_76 rfl (lv_at hl 0 rfl) ?_
          refine lv_iconst (v := (nI 1)) hx hb dX5_line_77 rfl ?_
          refine lv_aload_n hx hb dX5_line_78 rfl (lv_at hl 0 rfl) ?_
          refine g_getr S hB (hB.ty ht_s0 rfl) rfl (T := TX5) (N := 11) (C := RX5) rfl in_X5 1 (by decide) (by decide) q430 (fun _ h9 => h9) (fun _ => rfl) (cS5 hB (hB.ty ht_s0 rfl) 0 rfl).1 dX5_line_79 ?_
          refine g_getN S hB (cS5 hB (hB.ty ht_s0 rfl) 0 rfl).2 rfl (T := TX1) (N := 16) (C := RX1) rfl in_X1 14 (by decide) (by decide) (zNFw hB 40 rfl) (fun _ h9 => h9) (v := va_rf (zR μ7 (s0 + 1) 14)) rfl dX5_line_82 ?_
          obtain ⟨m33, m34, hc35a, hc35b, hp⟩ := hp
          refine z_callq (va_runV (As := [.int (nI 1), va_rf (zR μ7 (s0 + 1) 14)]) (rest := [.ref (s0 + 1)]) S (mX5_law l Γ z s0 (nI 1) (zR μ7 (s0 + 1) 14) m33 m34 μ7 _ hp) (cwV 2 hts (lw_V q644 q646 qs15 q133 q647) rfl rfl rfl hX5_law ⟨Nat.le_of_ble_eq_true rfl, Nat.le_of_ble_eq_true rfl⟩) (hB.preV (hB.ty ht_s0 rfl) rfl rfl) rfl rfl hl.1 rfl (lv_room (Nat.le_of_ble_eq_true rfl)) dX5_line_85 ⟨hc35a, hc35b⟩) hB (fun r37 μ36 H locs hp hB => ?_)
          have hcap : 0 + m33 ≤ mc ∧ 0 + m34 ≤ ms := ⟨hc35a, hc35b⟩
          obtain ⟨μ38, eμ38, hp⟩ := zpR_e hp
          refine g_putRN S hB (cS5 hB (hB.ty ht_s0 rfl) 0 rfl).2 rfl (T := TX1) (N := 16) (C := RX1) rfl in_X1 14 (by decide) (by decide) (x := r37) tyX1 tyX1_ok nmX1 (zNFw hB 40 rfl) (fun _ h9 => h9) rfl (ty := .object "SunkTower$Sum") (by decide +kernel) (zfits_o _ _) (znar_o _ _) (fun _ _ => rfl) (cSh_put hB (cS5 hB (hB.ty ht_s0 rfl) 0 rfl).2 14 (by decide)) dX5_line_88 (fun H locs hB => ?_)
          rw [← eμ38] at hB
          refine lv_goto (tgt := 210) hx hb dX5_line_91 rfl ?_
          refine W.widen (k := mc) (n := ms) hcap.1 hcap.2 ?_
          exact zret_v X hB hp dX5_line_210
      · have hp := zif hp c0
        refine lv_aload_n hx hb dX5_line_41 rfl (lv_at hl 0 rfl) ?_
        refine g_getr S hB (hB.ty ht_s0 rfl) rfl (T := TX5) (N := 11) (C := RX5) rfl in_X5 1 (by decide) (by decide) q430 (fun _ h9 => h9) (fun _ => rfl) (cS5 hB (hB.ty ht_s0 rfl) 0 rfl).1 dX5_line_42 ?_
        refine lv_aload_n hx hb dX5_line_45 rfl (lv_at hl 0 rfl) ?_
        refine lv_iconst (v := (nI 0)) hx hb dX5_line_46 rfl ?_
        refine lv_aload_n hx hb dX5_line_47 rfl (lv_at hl 0 rfl) ?_
        refine g_getr S hB (hB.ty ht_s0 rfl) rfl (T := TX5) (N := 11) (C := RX5) rfl in_X5 1 (by decide) (by decide) q430 (fun _ h9 => h9) (fun _ => rfl) (cS5 hB (hB.ty ht_s0 rfl) 0 rfl).1 dX5_line_48 ?_
        refine g_getN S hB (cS5 hB (hB.ty ht_s0 rfl) 0 rfl).2 rfl (T := TX1) (N := 16) (C := RX1) rfl in_X1 13 (by decide) (by decide) (zNFw hB 39 rfl) (fun _ h9 => h9) (v := va_rf (zR μ5 (s0 + 1) 13)) rfl dX5_line_51 ?_
        obtain ⟨m39, m40, hc41a, hc41b, hp⟩ := hp
        refine z_callq (va_runV (As := [.int (nI 0), va_rf (zR μ5 (s0 + 1) 13)]) (rest := [.ref (s0 + 1)]) S (mX5_law l Γ z s0 (nI 0) (zR μ5 (s0 + 1) 13) m39 m40 μ5 _ hp) (cwV 2 hts (lw_V q644 q646 qs15 q133 q647) rfl rfl rfl hX5_law ⟨Nat.le_of_ble_eq_true rfl, Nat.le_of_ble_eq_true rfl⟩) (hB.preV (hB.ty ht_s0 rfl) rfl rfl) rfl rfl hl.1 rfl (lv_room (Nat.le_of_ble_eq_true rfl)) dX5_line_54 ⟨hc41a, hc41b⟩) hB (fun r43 μ42 H locs hp hB => ?_)
        have hcap : 0 + m39 ≤ mc ∧ 0 + m40 ≤ ms := ⟨hc41a, hc41b⟩
        obtain ⟨μ44, eμ44, hp⟩ := zpR_e hp
        refine g_putRN S hB (cS5 hB (hB.ty ht_s0 rfl) 0 rfl).2 rfl (T := TX1) (N := 16) (C := RX1) rfl in_X1 13 (by decide) (by decide) (x := r43) tyX1 tyX1_ok nmX1 (zNFw hB 39 rfl) (fun _ h9 => h9) rfl (ty := .object "SunkTower$Sum") (by decide +kernel) (zfits_o _ _) (znar_o _ _) (fun _ _ => rfl) (cSh_put hB (cS5 hB (hB.ty ht_s0 rfl) 0 rfl).2 13 (by decide)) dX5_line_57 (fun H locs hB => ?_)
        rw [← eμ44] at hB
        refine lv_goto (tgt := 210) hx hb dX5_line_60 rfl ?_
        refine W.widen (k := mc) (n := ms) hcap.1 hcap.2 ?_
        exact zret_v X hB hp dX5_line_210
    · have hp := zif hp c0
      refine lv_aload_n hx hb dX5_line_25 rfl (lv_at hl 0 rfl) ?_
      refine z_callv (va_runV (As := []) (rest := []) S (mX5_tenant l Γ z s0 μ3 _ hp) (cwV 0 hts (lw_V q625 q627 qs11 q133 q628) rfl rfl rfl hX5_tenant ⟨Nat.le_of_ble_eq_true rfl, Nat.le_of_ble_eq_true rfl⟩) (hB.preV (hB.ty ht_s0 rfl) rfl rfl) rfl rfl hl.1 rfl (lv_room (Nat.le_of_ble_eq_true rfl)) dX5_line_26 hcap) hB (fun μ45 H locs hp hB => ?_)
      refine lv_goto (tgt := 210) hx hb dX5_line_29 rfl ?_
      refine W.widen (k := mc) (n := ms) hcap.1 hcap.2 ?_
      exact zret_v X hB hp dX5_line_210
  · have hp := zif hp c0
    refine lv_aload_n hx hb dX5_line_9 rfl (lv_at hl 0 rfl) ?_
    refine z_callv (va_runV (As := []) (rest := []) S (mX5_storey l Γ z s0 μ1 _ hp) (cwV 0 hts (lw_V q608 q610 qs7 q133 q611) rfl rfl rfl hX5_storey ⟨Nat.le_of_ble_eq_true rfl, Nat.le_of_ble_eq_true rfl⟩) (hB.preV (hB.ty ht_s0 rfl) rfl rfl) rfl rfl hl.1 rfl (lv_room (Nat.le_of_ble_eq_true rfl)) dX5_line_10 hcap) hB (fun μ46 H locs hp hB => ?_)
    refine lv_goto (tgt := 210) hx hb dX5_line_13 rfl ?_
    refine W.widen (k := mc) (n := ms) hcap.1 hcap.2 ?_
    exact zret_v X hB hp dX5_line_210
def pX5_read_4 (z : Nat) (s0 : Nat) (mc : Nat) (ms : Nat) (Q : zM → Prop) : Nat → Nat → Nat → zM → Prop
  | 0, _, _, _ => False
  | n + 1, uc, us, μ => (if (zI μ s0 6) = 0 then (if (zI μ s0 4) = 0 then Q μ else (∃ m1 m2, uc + m1 ≤ mc ∧ us + m2 ≤ ms ∧ pX5_line z s0 m1 m2 μ fun μ4 => (pX5_must z s0 (nI 59) μ4 fun μ5 => (zpI μ5 (s0 + 1) 12 ((zI μ5 (s0 + 1) 12) + (nI 1)) fun μ6 => pX5_read_4 z s0 mc ms Q n (uc + m1) (us + m2) μ6)))) else Q μ)
set_option maxHeartbeats 4000000 in
set_option maxRecDepth 100000 in
theorem wX5_read_4 {p : Program} {l : Launch} {e : Env} {s : State} {m : MethodId} {args : Array Value} {below : List Frame} {meth : Method} {c : Code} {Γ : zG} {μ0 : zM} {Q : zM → Prop} (X : zCx p m c cX5_read 1 s args RX5 meth none) {s0 : Nat} (ht_s0 : zty μ0 s0 = some (.inl 5)) (z : Nat) (mc : Nat) (ms : Nat) : ∀ (n : Nat) (uc : Nat) (us : Nat) (μ : zM) (H : Heap) (locs : List Loc) (ls : Array Slot), pX5_read_4 z s0 mc ms Q n uc us μ → uc ≤ mc ∧ us ≤ ms → zB Γ (cSh z) (zA μ0) μ0 s μ H locs → lv_has ls 1 [(0, .ref s0)] → W p l e ({ frames := 65, cells := mc, slots := ms, locals := 1429 } : Room) s m args below meth c H locs uc us (MQ below (va_Qv Q (zPost Γ (cSh z) μ0) (zA μ0)) args s mc ms (zA μ0)) (F0 m 4 ls []) := by
  have S := X.1
  obtain ⟨hx, hb, hml, hown, hts⟩ := X.1
  intro n
  induction n with
  | zero =>
    intro uc us μ H locs ls hp
    exact hp.elim
  | succ n ih =>
    intro uc us μ H locs ls hp hcap hB hl
    unfold pX5_read_4 at hp
    refine lv_aload_n hx hb dX5_read_4 rfl (lv_at hl 0 rfl) ?_
    refine g_get S hB (hB.ty ht_s0 rfl) rfl (T := TX5) (N := 11) (C := RX5) rfl in_X5 6 (by decide) (by decide) q436 (fun _ h9 => h9) (v := .int (zI μ s0 6)) rfl dX5_read_5 ?_
    refine lv_if_ne (tgt := 44) hx hb dX5_read_8 rfl (fun c0 => ?_) (fun c0 => ?_)
    · have hp := zif hp c0
      refine W.widen (k := mc) (n := ms) hcap.1 hcap.2 ?_
      exact zret_v X hB hp dX5_read_44
    · have hp := zit hp c0
      refine lv_aload_n hx hb dX5_read_11 rfl (lv_at hl 0 rfl) ?_
      refine g_get S hB (hB.ty ht_s0 rfl) rfl (T := TX5) (N := 11) (C := RX5) rfl in_X5 4 (by decide) (by decide) q434 (fun _ h9 => h9) (v := .int (zI μ s0 4)) rfl dX5_read_12 ?_
      refine lv_if_eq (tgt := 44) hx hb dX5_read_15 rfl (fun c0 => ?_) (fun c0 => ?_)
      · have hp := zit hp c0
        refine W.widen (k := mc) (n := ms) hcap.1 hcap.2 ?_
        exact zret_v X hB hp dX5_read_44
      · have hp := zif hp c0
        refine lv_aload_n hx hb dX5_read_18 rfl (lv_at hl 0 rfl) ?_
        obtain ⟨m1, m2, hc3a, hc3b, hp⟩ := hp
        refine z_callv (va_runV (As := []) (rest := []) S (mX5_line l Γ z s0 m1 m2 μ _ hp) (cwV 0 hts (lw_V q578 q580 qs5 q133 q581) rfl rfl rfl hX5_line ⟨Nat.le_of_ble_eq_true rfl, Nat.le_of_ble_eq_true rfl⟩) (hB.preV (hB.ty ht_s0 rfl) rfl rfl) rfl rfl hl.1 rfl (lv_room (Nat.le_of_ble_eq_true rfl)) dX5_read_19 ⟨hc3a, hc3b⟩) hB (fun μ4 H locs hp hB => ?_)
        have hcap : uc + m1 ≤ mc ∧ us + m2 ≤ ms := ⟨hc3a, hc3b⟩
        refine lv_aload_n hx hb dX5_read_22 rfl (lv_at hl 0 rfl) ?_
        refine lv_bipush (v := (nI 59)) hx hb dX5_read_23 rfl ?_
        refine z_callv (va_runV (As := [.int (nI 59)]) (rest := []) S (mX5_must l Γ z s0 (nI 59) μ4 _ hp) (cwV 1 hts (lw_V q648 q650 qs16 q133 q651) rfl rfl rfl hX5_must ⟨Nat.le_of_ble_eq_true rfl, Nat.le_of_ble_eq_true rfl⟩) (hB.preV (hB.ty ht_s0 rfl) rfl rfl) rfl rfl hl.1 rfl (lv_room (Nat.le_of_ble_eq_true rfl)) dX5_read_25 hcap) hB (fun μ5 H locs hp hB => ?_)
        refine lv_aload_n hx hb dX5_read_28 rfl (lv_at hl 0 rfl) ?_
        refine g_getr S hB (hB.ty ht_s0 rfl) rfl (T := TX5) (N := 11) (C := RX5) rfl in_X5 1 (by decide) (by decide) q430 (fun _ h9 => h9) (fun _ => rfl) (cS5 hB (hB.ty ht_s0 rfl) 0 rfl).1 dX5_read_29 ?_
        refine lv_dup hx hb dX5_read_32 rfl ?_
        refine g_getN S hB (cS5 hB (hB.ty ht_s0 rfl) 0 rfl).2 rfl (T := TX1) (N := 16) (C := RX1) rfl in_X1 12 (by decide) (by decide) (zNFw hB 38 rfl) (fun _ h9 => h9) (v := .int (zI μ5 (s0 + 1) 12)) rfl dX5_read_33 ?_
        refine lv_iconst (v := (nI 1)) hx hb dX5_read_36 rfl ?_
        refine lv_iadd hx hb dX5_read_37 ?_
        obtain ⟨μ6, eμ6, hp⟩ := zpI_e hp
        refine g_putIN S hB (cS5 hB (hB.ty ht_s0 rfl) 0 rfl).2 rfl (T := TX1) (N := 16) (C := RX1) rfl in_X1 12 (by decide) (by decide) (x := ((zI μ5 (s0 + 1) 12) + (nI 1))) tyX1 tyX1_ok nmX1 (zNFw hB 38 rfl) (fun _ h9 => h9) rfl (ty := .int) (by decide +kernel) rfl rfl (fun _ _ => rfl) dX5_read_38 (fun H locs hB => ?_)
        rw [← eμ6] at hB
        refine lv_goto (tgt := 4) hx hb dX5_read_41 rfl ?_
        exact ih (uc + m1) (us + m2) μ6 _ _ _ hp hcap hB (lv_sub hl [0] rfl)
def pX5_read (z : Nat) (s0 : Nat) (mc ms : Nat) (μ : zM) (Q : zM → Prop) : Prop := zty μ s0 = some (.inl 5) ∧ (pX5_next z s0 μ fun μ1 => ∃ k1, pX5_read_4 z s0 mc ms Q k1 (0) (0) μ1)
theorem tX5_read {z : Nat} {s0 : Nat} {mc ms : Nat} {μ : zM} {Q : zM → Prop} (h : pX5_read z s0 mc ms μ Q) : zty μ s0 = some (.inl 5) := h.1
theorem hX5_read : yX5_read.cls = "SunkTower$Reader" ∧ yX5_read.cls ≠ "java/lang/invoke/MethodHandle" ∧ yX5_read.cls ≠ "java/lang/invoke/VarHandle" ∧ (parseMethodDescriptor yX5_read.desc).map (fun d => d.parameters.length) = some 0 := by decide +kernel
set_option maxHeartbeats 4000000 in
set_option maxRecDepth 100000 in
theorem mX5_read (l : Launch) (Γ : zG) (z : Nat) (s0 : Nat) (mc ms : Nat) (μ : zM) (Q : zM → Prop) (hp : pX5_read z s0 mc ms μ Q) : Met l yX5_read (ws_ yX5_read cX5_read 1 none) ({ frames := 65, cells := mc, slots := ms, locals := 1429 } : Room) (va_Pc [.ref s0] (zPre Γ (cSh z) μ)) (va_Qv Q (zPost Γ (cSh z) μ) (zA μ)) mc ms (zA μ) := by
  refine zstart (by decide) (Nat.le_of_ble_eq_true rfl) ?_
  intro p e s m below meth c ls X hnm hB hl
  have X : zCx p m c cX5_read 1 s [.ref s0].toArray RX5 meth none := X
  have S := X.1
  obtain ⟨hx, hb, hml, hown, hts⟩ := X.1
  have hl : lv_has ls 1 [(0, .ref s0)] := hl
  obtain ⟨ht_s0, hp⟩ := hp
  have hcap : 0 ≤ mc ∧ 0 ≤ ms := ⟨Nat.zero_le _, Nat.zero_le _⟩
  refine lv_aload_n hx hb dX5_read_0 rfl (lv_at hl 0 rfl) ?_
  refine z_callv (va_runV (As := []) (rest := []) S (mX5_next l Γ z s0 μ _ hp) (cwV 0 hts (lw_V q470 q472 qs1 q133 q473) rfl rfl rfl hX5_next ⟨Nat.le_of_ble_eq_true rfl, Nat.le_of_ble_eq_true rfl⟩) (hB.preV (hB.ty ht_s0 rfl) rfl rfl) rfl rfl hl.1 rfl (lv_room (Nat.le_of_ble_eq_true rfl)) dX5_read_1 hcap) hB (fun μ1 H locs hp hB => ?_)
  obtain ⟨n1, hp⟩ := hp
  exact wX5_read_4 X ht_s0 z mc ms n1 (0) (0) μ1 _ _ _ hp hcap hB (lv_sub hl [0] rfl)
def pX0_tower (z : Nat) (x1 : Int32) (mc ms : Nat) (μ : zM) (Q : Int32 → zM → Prop) : Prop := (pX0_in z (x1.toInt64) (0 : Int64) ((zI μ z 4).toInt64) μ fun r2 μ1 => (if r2 = 0 then Q (-3 : Int32) μ1 else (0 + 1 ≤ mc ∧ 0 + 11 ≤ ms ∧ zpN μ1 (.inl 105) fun a3 μ4 => (∃ m6 m7, 1 + m6 ≤ mc ∧ 11 + m7 ≤ ms ∧ pX5_init z a3 z x1 m6 m7 μ4 fun μ9 => (∃ m10 m11, 1 + m6 + m10 ≤ mc ∧ 11 + m7 + m11 ≤ ms ∧ pX5_read z a3 m10 m11 μ9 fun μ13 => (zpI μ13 z 4 (nI 0) fun μ14 => (zty μ14 a3 = some (.inl 5) ∧ (zpI μ14 z 5 (zI μ14 a3 6) fun μ16 => (zty μ16 a3 = some (.inl 5) ∧ (zpI μ16 z 6 (zI μ16 a3 8) fun μ18 => (if (zI μ18 z 5) = 0 then (zty μ18 a3 = some (.inl 5) ∧ (zpR μ18 z 0 (some (a3 + 1)) fun μ20 => (pX2_begins z (z + 7) μ20 fun r22 μ21 => (zpI μ21 z 8 (nI 0) fun μ23 => (zde (zR μ23 z 0) fun b24 => (zty μ23 b24 = some (.inl 1) ∧ Q (zI μ23 b24 12) μ23)))))) else Q ((-30 : Int32) - (zI μ18 z 5)) μ18)))))))))))
theorem hX0_tower : yX0_tower.cls = "SunkTower" ∧ yX0_tower.cls ≠ "java/lang/invoke/MethodHandle" ∧ yX0_tower.cls ≠ "java/lang/invoke/VarHandle" ∧ (parseMethodDescriptor yX0_tower.desc).map (fun d => d.parameters.length) = some 1 := by decide +kernel
set_option maxHeartbeats 4000000 in
set_option maxRecDepth 100000 in
theorem mX0_tower (l : Launch) (Γ : zG) (z : Nat) (x1 : Int32) (mc ms : Nat) (μ : zM) (Q : Int32 → zM → Prop) (hp : pX0_tower z x1 mc ms μ Q) : Met l yX0_tower (ws_ yX0_tower cX0_tower 3 (some .int)) ({ frames := 66, cells := mc, slots := ms, locals := 1449 } : Room) (va_Pc [.ref z, .int x1] (zPre Γ (cSh z) μ)) (va_Qi Q (zPost Γ (cSh z) μ) (zA μ)) mc ms (zA μ) := by
  refine zstart (by decide) (Nat.le_of_ble_eq_true rfl) ?_
  intro p e s m below meth c ls X hnm hB hl
  have X : zCx p m c cX0_tower 3 s [.ref z, .int x1].toArray RX0 meth (some .int) := X
  have S := X.1
  obtain ⟨hx, hb, hml, hown, hts⟩ := X.1
  have hl : lv_has ls 3 [(0, .ref z), (1, .int x1)] := hl
  unfold pX0_tower at hp
  have hcap : 0 ≤ mc ∧ 0 ≤ ms := ⟨Nat.zero_le _, Nat.zero_le _⟩
  refine lv_iload_n hx hb dX0_tower_0 rfl (lv_at hl 1 rfl) ?_
  refine lv_i2l hx hb dX0_tower_1 rfl ?_
  refine lv_lconst (v := (0 : Int64)) hx hb dX0_tower_2 rfl ?_
  refine lv_aload_n hx hb dX0_tower_3 rfl (lv_at hl 0 rfl) ?_
  refine g_get S hB (cT hB) rfl (T := TX0) (N := 33) (C := RX0) rfl in_X0 4 (by decide) (by decide) q309 (fun _ h9 => h9) (v := .int (zI μ z 4)) rfl dX0_tower_4 ?_
  refine lv_i2l hx hb dX0_tower_7 rfl ?_
  refine z_calli (va_runS (As := [.long (x1.toInt64), .long (0 : Int64), .long ((zI μ z 4).toInt64)]) (rest := []) S (mX0_in l Γ z (x1.toInt64) (0 : Int64) ((zI μ z 4).toInt64) μ _ hp) (va_cwS 3 hts (lw_S q418 q419 q127 q420) rfl rfl rfl hX0_in ⟨Nat.le_of_ble_eq_true rfl, Nat.le_of_ble_eq_true rfl⟩) hB.preS rfl rfl hl.1 rfl (lv_room (Nat.le_of_ble_eq_true rfl)) dX0_tower_8 hcap) hB (fun r2 μ1 H locs hp hB => ?_)
  refine lv_if_ne (tgt := 17) hx hb dX0_tower_11 rfl (fun c0 => ?_) (fun c0 => ?_)
  · have hp := zif hp c0
    obtain ⟨hc5a, hc5b, hp⟩ := hp
    obtain ⟨a3, μ4, ea, eμ4, hp⟩ := zpN_e hp
    refine g_new S hB (ci := 105) ea rfl (T := TX5) (N := 11) (C := RX5) rfl in_X5 tyX5 tyX5_ok rfl zdefX5 q421 q422 q133 hc5a hc5b (cSh_ok.2.1 _ _ _ _ hB.2.2.2.2.2.2.1 hB.fresh' (fun c e => by cases e; try rfl)) dX0_tower_17 (fun H hB => ?_)
    rw [← eμ4] at hB
    have hcap : 1 ≤ mc ∧ 11 ≤ ms := ⟨hc5a, hc5b⟩
    refine lv_dup hx hb dX0_tower_20 rfl ?_
    refine lv_aload_n hx hb dX0_tower_21 rfl (lv_at hl 0 rfl) ?_
    refine lv_iload_n hx hb dX0_tower_22 rfl (lv_at hl 1 rfl) ?_
    obtain ⟨m6, m7, hc8a, hc8b, hp⟩ := hp
    refine z_callv (va_runI (As := [.ref z, .int x1]) (rest := [.ref a3]) S (mX5_init l Γ z a3 z x1 m6 m7 μ4 _ hp) (cwI 2 hts (lw_meth q425) rfl rfl rfl (hts _ q133) (hts _ q423) (hts _ q424) rfl hX5_init.2 ⟨Nat.le_of_ble_eq_true rfl, Nat.le_of_ble_eq_true rfl⟩) hB.preS rfl rfl hl.1 rfl (lv_room (Nat.le_of_ble_eq_true rfl)) dX0_tower_23 ⟨hc8a, hc8b⟩) hB (fun μ9 H locs hp hB => ?_)
    have hcap : 1 + m6 ≤ mc ∧ 11 + m7 ≤ ms := ⟨hc8a, hc8b⟩
    refine lv_astore_n (lv' := [(2, .ref a3), (0, .ref z), (1, .int x1)]) hx hb dX0_tower_26 rfl hl (by decide) rfl (fun ls hl => ?_)
    refine lv_aload_n hx hb dX0_tower_27 rfl (lv_at hl 0 rfl) ?_
    obtain ⟨m10, m11, hc12a, hc12b, hp⟩ := hp
    refine z_callv (va_runV (As := []) (rest := []) S (mX5_read l Γ z a3 m10 m11 μ9 _ hp) (cwV 0 hts (lw_V q466 q467 q468 q133 q469) rfl rfl rfl hX5_read ⟨Nat.le_of_ble_eq_true rfl, Nat.le_of_ble_eq_true rfl⟩) (hB.preV (tX5_read hp) rfl rfl) rfl rfl hl.1 rfl (lv_room (Nat.le_of_ble_eq_true rfl)) dX0_tower_28 ⟨hc12a, hc12b⟩) hB (fun μ13 H locs hp hB => ?_)
    have hcap : 1 + m6 + m10 ≤ mc ∧ 11 + m7 + m11 ≤ ms := ⟨hc12a, hc12b⟩
    refine lv_aload_n hx hb dX0_tower_31 rfl (lv_at hl 1 rfl) ?_
    refine lv_iconst (v := (nI 0)) hx hb dX0_tower_32 rfl ?_
    obtain ⟨μ14, eμ14, hp⟩ := zpI_e hp
    refine g_putI S hB (cT hB) rfl (T := TX0) (N := 33) (C := RX0) rfl in_X0 4 (by decide) (by decide) (x := (nI 0)) tyX0 tyX0_ok nmX0 q309 (fun _ h9 => h9) rfl (ty := .int) (by decide +kernel) rfl rfl (fun _ _ => rfl) dX0_tower_33 (fun H locs hB => ?_)
    rw [← eμ14] at hB
    refine lv_aload_n hx hb dX0_tower_36 rfl (lv_at hl 1 rfl) ?_
    refine lv_aload_n hx hb dX0_tower_37 rfl (lv_at hl 0 rfl) ?_
    obtain ⟨ht15, hp⟩ := hp
    refine g_getN S hB ht15 rfl (T := TX5) (N := 11) (C := RX5) rfl in_X5 6 (by decide) (by decide) (zNFw hB 14 rfl) (fun _ h9 => h9) (v := .int (zI μ14 a3 6)) rfl dX0_tower_38 ?_
    obtain ⟨μ16, eμ16, hp⟩ := zpI_e hp
    refine g_putI S hB (cT hB) rfl (T := TX0) (N := 33) (C := RX0) rfl in_X0 5 (by decide) (by decide) (x := (zI μ14 a3 6)) tyX0 tyX0_ok nmX0 q310 (fun _ h9 => h9) rfl (ty := .int) (by decide +kernel) rfl rfl (fun _ _ => rfl) dX0_tower_41 (fun H locs hB => ?_)
    rw [← eμ16] at hB
    refine lv_aload_n hx hb dX0_tower_44 rfl (lv_at hl 1 rfl) ?_
    refine lv_aload_n hx hb dX0_tower_45 rfl (lv_at hl 0 rfl) ?_
    obtain ⟨ht17, hp⟩ := hp
    refine g_getN S hB ht17 rfl (T := TX5) (N := 11) (C := RX5) rfl in_X5 8 (by decide) (by decide) (zNFw hB 15 rfl) (fun _ h9 => h9) (v := .int (zI μ16 a3 8)) rfl dX0_tower_46 ?_
    obtain ⟨μ18, eμ18, hp⟩ := zpI_e hp
    refine g_putI S hB (cT hB) rfl (T := TX0) (N := 33) (C := RX0) rfl in_X0 6 (by decide) (by decide) (x := (zI μ16 a3 8)) tyX0 tyX0_ok nmX0 q311 (fun _ h9 => h9) rfl (ty := .int) (by decide +kernel) rfl rfl (fun _ _ => rfl) dX0_tower_49 (fun H locs hB => ?_)
    rw [← eμ18] at hB
    refine lv_aload_n hx hb dX0_tower_52 rfl (lv_at hl 1 rfl) ?_
    refine g_get S hB (cT hB) rfl (T := TX0) (N := 33) (C := RX0) rfl in_X0 5 (by decide) (by decide) q310 (fun _ h9 => h9) (v := .int (zI μ18 z 5)) rfl dX0_tower_53 ?_
    refine lv_if_eq (tgt := 67) hx hb dX0_tower_56 rfl (fun c0 => ?_) (fun c0 => ?_)
    · have hp := zit hp c0
      refine lv_aload_n hx hb dX0_tower_67 rfl (lv_at hl 1 rfl) ?_
      refine lv_aload_n hx hb dX0_tower_68 rfl (lv_at hl 0 rfl) ?_
      obtain ⟨ht19, hp⟩ := hp
      refine g_getrN S hB ht19 rfl (T := TX5) (N := 11) (C := RX5) rfl in_X5 1 (by decide) (by decide) (zNFw hB 13 rfl) (fun _ h9 => h9) (fun _ => rfl) (cS5 hB ht19 0 rfl).1 dX0_tower_69 ?_
      obtain ⟨μ20, eμ20, hp⟩ := zpR_e hp
      refine W.eq (g2 := F0 m 72 ls [va_rf (some (a3 + 1)), .ref z]) rfl ?_
      refine g_putR S hB (cT hB) rfl (T := TX0) (N := 33) (C := RX0) rfl in_X0 0 (by decide) (by decide) (x := (some (a3 + 1))) tyX0 tyX0_ok nmX0 q304 (fun _ h9 => h9) rfl (ty := .object "SunkTower$Tower") (by decide +kernel) (zfits_o _ _) (znar_o _ _) (fun _ _ => rfl) (cSh_put hB (cT hB) 0 (by decide)) dX0_tower_72 (fun H locs hB => ?_)
      rw [← eμ20] at hB
      refine lv_aload_n hx hb dX0_tower_75 rfl (lv_at hl 1 rfl) ?_
      refine g_getr S hB (cT hB) rfl (T := TX0) (N := 33) (C := RX0) rfl in_X0 1 (by decide) (by decide) q305 (fun _ h9 => h9) (fun _ => rfl) (cA hB 0 rfl).1 dX0_tower_76 ?_
      refine z_callq (va_runV (As := []) (rest := []) S (mX2_begins l Γ z (z + 7) μ20 _ hp) (cwV 0 hts (lw_V q296 q297 q298 q129 q299) rfl rfl rfl hX2_begins ⟨Nat.le_of_ble_eq_true rfl, Nat.le_of_ble_eq_true rfl⟩) (hB.preV (tX2_begins hp) rfl rfl) rfl rfl hl.1 rfl (lv_room (Nat.le_of_ble_eq_true rfl)) dX0_tower_79 hcap) hB (fun r22 μ21 H locs hp hB => ?_)
      refine lv_pop hx hb dX0_tower_82 (va_rf_c _) ?_
      refine lv_aload_n hx hb dX0_tower_83 rfl (lv_at hl 1 rfl) ?_
      refine lv_iconst (v := (nI 0)) hx hb dX0_tower_84 rfl ?_
      obtain ⟨μ23, eμ23, hp⟩ := zpI_e hp
      refine g_putI S hB (cT hB) rfl (T := TX0) (N := 33) (C := RX0) rfl in_X0 8 (by decide) (by decide) (x := (nI 0)) tyX0 tyX0_ok nmX0 q313 (fun _ h9 => h9) rfl (ty := .int) (by decide +kernel) rfl rfl (fun _ _ => rfl) dX0_tower_85 (fun H locs hB => ?_)
      rw [← eμ23] at hB
      refine lv_aload_n hx hb dX0_tower_88 rfl (lv_at hl 1 rfl) ?_
      refine g_get S hB (cT hB) rfl (T := TX0) (N := 33) (C := RX0) rfl in_X0 0 (by decide) (by decide) q304 (fun _ h9 => h9) (v := va_rf (zR μ23 z 0)) rfl dX0_tower_89 ?_
      obtain ⟨b24, eb, hp⟩ := hp
      refine W.eq (g2 := F0 m 92 ls [.ref b24]) (by rw [eb]; rfl) ?_
      obtain ⟨ht25, hp⟩ := hp
      refine g_getN S hB ht25 rfl (T := TX1) (N := 16) (C := RX1) rfl in_X1 12 (by decide) (by decide) (zNFw hB 4 rfl) (fun _ h9 => h9) (v := .int (zI μ23 b24 12)) rfl dX0_tower_92 ?_
      refine W.widen (k := mc) (n := ms) hcap.1 hcap.2 ?_
      exact zret_i X hB hp dX0_tower_95
    · have hp := zif hp c0
      refine lv_bipush (v := (-30 : Int32)) hx hb dX0_tower_59 rfl ?_
      refine lv_aload_n hx hb dX0_tower_61 rfl (lv_at hl 1 rfl) ?_
      refine g_get S hB (cT hB) rfl (T := TX0) (N := 33) (C := RX0) rfl in_X0 5 (by decide) (by decide) q310 (fun _ h9 => h9) (v := .int (zI μ18 z 5)) rfl dX0_tower_62 ?_
      refine lv_isub hx hb dX0_tower_65 ?_
      refine W.widen (k := mc) (n := ms) hcap.1 hcap.2 ?_
      exact zret_i X hB hp dX0_tower_66
  · have hp := zit hp c0
    refine lv_bipush (v := (-3 : Int32)) hx hb dX0_tower_14 rfl ?_
    refine W.widen (k := mc) (n := ms) hcap.1 hcap.2 ?_
    exact zret_i X hB hp dX0_tower_16
set_option maxRecDepth 100000 in
def pX4_init (z : Nat) (mc ms : Nat) (μ : zM) (Q : zM → Prop) : Prop := (0 + 1 ≤ mc ∧ 0 + 3594 ≤ ms ∧ zpN μ (.inr (0, 3594)) fun a1 μ2 => (zty μ2 z = some (.inl 104) ∧ (zpR μ2 z 1 (some a1) fun μ5 => (1 + 1 ≤ mc ∧ 3594 + 2 ≤ ms ∧ zpN μ5 (.inr (2, 2)) fun a6 μ7 => (zty μ7 z = some (.inl 104) ∧ (zpR μ7 z 2 (some a6) fun μ10 => (2 + 1 ≤ mc ∧ 3596 + 900 ≤ ms ∧ zpN μ10 (.inr (0, 900)) fun a11 μ12 => (zty μ12 z = some (.inl 104) ∧ (zpR μ12 z 3 (some a11) fun μ15 => (3 + 1 ≤ mc ∧ 4496 + 1198 ≤ ms ∧ zpN μ15 (.inr (0, 1198)) fun a16 μ17 => (zty μ17 z = some (.inl 104) ∧ (zpR μ17 z 4 (some a16) fun μ20 => (zty μ20 z = some (.inl 104) ∧ (zpI μ20 z 14 (-1 : Int32) fun μ22 => (4 + 1 ≤ mc ∧ 5694 + 900 ≤ ms ∧ zpN μ22 (.inr (0, 900)) fun a23 μ24 => (zty μ24 z = some (.inl 104) ∧ (zpR μ24 z 16 (some a23) fun μ27 => (5 + 1 ≤ mc ∧ 6594 + 10 ≤ ms ∧ zpN μ27 (.inr (0, 10)) fun a28 μ29 => (zty μ29 z = some (.inl 104) ∧ (zpR μ29 z 17 (some a28) fun μ32 => (6 + 1 ≤ mc ∧ 6604 + 23 ≤ ms ∧ zpN μ32 (.inr (0, 23)) fun a33 μ34 => (zty μ34 z = some (.inl 104) ∧ (zpR μ34 z 18 (some a33) fun μ37 => (7 + 1 ≤ mc ∧ 6627 + 6 ≤ ms ∧ zpN μ37 (.inr (0, 6)) fun a38 μ39 => (zty μ39 z = some (.inl 104) ∧ (zpR μ39 z 19 (some a38) fun μ42 => (8 + 1 ≤ mc ∧ 6633 + 602 ≤ ms ∧ zpN μ42 (.inr (0, 602)) fun a43 μ44 => (zty μ44 z = some (.inl 104) ∧ (zpR μ44 z 23 (some a43) fun μ47 => (9 + 1 ≤ mc ∧ 7235 + 549 ≤ ms ∧ zpN μ47 (.inr (3, 549)) fun a48 μ49 => (zty μ49 z = some (.inl 104) ∧ (zpR μ49 z 24 (some a48) fun μ52 => (10 + 1 ≤ mc ∧ 7784 + 3 ≤ ms ∧ zpN μ52 (.inr (0, 3)) fun a53 μ54 => (zty μ54 z = some (.inl 104) ∧ (zpR μ54 z 27 (some a53) fun μ57 => (11 + 1 ≤ mc ∧ 7787 + 3 ≤ ms ∧ zpN μ57 (.inr (0, 3)) fun a58 μ59 => (zty μ59 z = some (.inl 104) ∧ (zpR μ59 z 28 (some a58) fun μ62 => (12 + 1 ≤ mc ∧ 7790 + 61000 ≤ ms ∧ zpN μ62 (.inr (0, 61000)) fun a63 μ64 => (zty μ64 z = some (.inl 104) ∧ (zpR μ64 z 32 (some a63) fun μ67 => (13 + 1 ≤ mc ∧ 68790 + 100000 ≤ ms ∧ zpN μ67 (.inr (0, 100000)) fun a68 μ69 => (zty μ69 z = some (.inl 104) ∧ (zpR μ69 z 33 (some a68) fun μ72 => (14 + 1 ≤ mc ∧ 168790 + 1000 ≤ ms ∧ zpN μ72 (.inr (2, 1000)) fun a73 μ74 => (zty μ74 z = some (.inl 104) ∧ (zpR μ74 z 34 (some a73) fun μ77 => (15 + 1 ≤ mc ∧ 169790 + 4 ≤ ms ∧ zpN μ77 (.inr (0, 4)) fun a78 μ79 => (zia μ79 a78 0 (nI 0) ∧ zpI μ79 a78 (nI 0).toNatClampNeg (-1 : Int32) fun μ81 => (zia μ81 a78 0 (nI 1) ∧ zpI μ81 a78 (nI 1).toNatClampNeg (-1 : Int32) fun μ82 => (zia μ82 a78 0 (nI 2) ∧ zpI μ82 a78 (nI 2).toNatClampNeg (-1 : Int32) fun μ83 => (zia μ83 a78 0 (nI 3) ∧ zpI μ83 a78 (nI 3).toNatClampNeg (-1 : Int32) fun μ84 => (zty μ84 z = some (.inl 104) ∧ (zpR μ84 z 35 (some a78) fun μ86 => (16 + 1 ≤ mc ∧ 169794 + 4 ≤ ms ∧ zpN μ86 (.inr (0, 4)) fun a87 μ88 => (zty μ88 z = some (.inl 104) ∧ (zpR μ88 z 36 (some a87) fun μ91 => (17 + 1 ≤ mc ∧ 169798 + 160 ≤ ms ∧ zpN μ91 (.inr (3, 160)) fun a92 μ93 => (zty μ93 z = some (.inl 104) ∧ (zpR μ93 z 37 (some a92) fun μ96 => (zty μ96 z = some (.inl 104) ∧ (zde (zR μ96 z 1) fun b98 => (zty μ96 z = some (.inl 104) ∧ (tSh z) (zR (zta μ96 z (.inl 4))) (zty (zta μ96 z (.inl 4))) ∧ zpT μ96 z (.inl 4) fun μ99 => (pX4_plain z b98 μ99 fun μ101 => Q μ101))))))))))))))))))))))))))))))))))))))))))))))))))))))))))))))))
theorem hX4_init : yX4_init.cls = "SunkTowerModel" ∧ yX4_init.cls ≠ "java/lang/invoke/MethodHandle" ∧ yX4_init.cls ≠ "java/lang/invoke/VarHandle" ∧ (parseMethodDescriptor yX4_init.desc).map (fun d => d.parameters.length) = some 0 := by decide +kernel
set_option maxHeartbeats 4000000 in
set_option maxRecDepth 100000 in
theorem mX4_init (l : Launch) (Γ : zG) (z : Nat) (mc ms : Nat) (μ : zM) (Q : zM → Prop) (hp : pX4_init z mc ms μ Q) : Met l yX4_init (ws_ yX4_init cX4_init 1 none) ({ frames := 1, cells := mc, slots := ms, locals := 28 } : Room) (va_Pc [.ref z] (zPre Γ zTr μ)) (va_Qv Q (zPost Γ (tSh z) μ) (zA μ)) mc ms (zA μ) := by
  refine zstart (by decide) (Nat.le_of_ble_eq_true rfl) ?_
  intro p e s m below meth c ls X hnm hB hl
  have X : zCx p m c cX4_init 1 s [.ref z].toArray RX4 meth none := X
  have S := X.1
  obtain ⟨hx, hb, hml, hown, hts⟩ := X.1
  have hl : lv_has ls 1 [(0, .ref z)] := hl
  unfold pX4_init at hp
  have hcap : 0 ≤ mc ∧ 0 ≤ ms := ⟨Nat.zero_le _, Nat.zero_le _⟩
  refine lv_aload_n hx hb dX4_init_0 rfl (lv_at hl 0 rfl) ?_
  refine W.objInit hx hb hown (hts _ q1386) (hts _ q158) (hts _ q159) rfl (by rw [hml]; exact hl.1) rfl dX4_init_1 (Nat.le_of_ble_eq_true rfl) (Nat.le_of_ble_eq_true rfl) ?_
  refine W.eq (g2 := F0 m 4 ls []) rfl ?_
  refine lv_aload_n hx hb dX4_init_4 rfl (lv_at hl 0 rfl) ?_
  refine lv_sipush (v := (nI 3594)) hx hb dX4_init_5 rfl ?_
  obtain ⟨hc3a, hc3b, hp⟩ := hp
  obtain ⟨a1, μ2, ea, eμ2, hp⟩ := zpN_e hp
  refine g_newa S hB (kd := 0) (N := 3594) (atype := .int) ea rfl q239 rfl (fun _ _ h => h) (zdefa0 3594) (by decide) (by decide) (Nat.le_of_ble_eq_true rfl) hc3a hc3b ((zTr_ok (z := z)).2.1 _ _ _ _ hB.2.2.2.2.2.2.1 hB.fresh' (fun c e => by cases e; try rfl)) dX4_init_8 (fun H hB => ?_)
  rw [← eμ2] at hB
  have hcap : 1 ≤ mc ∧ 3594 ≤ ms := ⟨hc3a, hc3b⟩
  obtain ⟨ht4, hp⟩ := hp
  obtain ⟨μ5, eμ5, hp⟩ := zpR_e hp
  refine W.eq (g2 := F0 m 10 ls [va_rf (some a1), .ref z]) rfl ?_
  refine g_putFR S hB ht4 rfl (T := TX4) (N := 38) (C := RX4) rfl in_X4 1 (by decide) (by decide) (x := (some a1)) tyX4 tyX4_ok nmX4 q1393 (fun _ h9 => h9) rfl hnm rfl (ty := .array .int) (by decide +kernel) (zfits_a _ _) (znar_a _ _) (fun _ _ => rfl) ((zTr_ok (z := z)).1 _ _ _ _ _ _ hB.2.2.2.2.2.2.1 ht4 rfl) dX4_init_10 (fun H locs hB => ?_)
  rw [← eμ5] at hB
  refine lv_aload_n hx hb dX4_init_13 rfl (lv_at hl 0 rfl) ?_
  refine lv_iconst (v := (nI 2)) hx hb dX4_init_14 rfl ?_
  obtain ⟨hc8a, hc8b, hp⟩ := hp
  obtain ⟨a6, μ7, ea, eμ7, hp⟩ := zpN_e hp
  refine g_newa S hB (kd := 2) (N := 2) (atype := .boolean) ea rfl q1507 rfl (fun _ _ h => h) (zdefa2 2) (by decide) (by decide) (Nat.le_of_ble_eq_true rfl) hc8a hc8b ((zTr_ok (z := z)).2.1 _ _ _ _ hB.2.2.2.2.2.2.1 hB.fresh' (fun c e => by cases e; try rfl)) dX4_init_15 (fun H hB => ?_)
  rw [← eμ7] at hB
  have hcap : 2 ≤ mc ∧ 3596 ≤ ms := ⟨hc8a, hc8b⟩
  obtain ⟨ht9, hp⟩ := hp
  obtain ⟨μ10, eμ10, hp⟩ := zpR_e hp
  refine W.eq (g2 := F0 m 17 ls [va_rf (some a6), .ref z]) rfl ?_
  refine g_putFR S hB ht9 rfl (T := TX4) (N := 38) (C := RX4) rfl in_X4 2 (by decide) (by decide) (x := (some a6)) tyX4 tyX4_ok nmX4 q1394 (fun _ h9 => h9) rfl hnm rfl (ty := .array .boolean) (by decide +kernel) (zfits_a _ _) (znar_a _ _) (fun _ _ => rfl) ((zTr_ok (z := z)).1 _ _ _ _ _ _ hB.2.2.2.2.2.2.1 ht9 rfl) dX4_init_17 (fun H locs hB => ?_)
  rw [← eμ10] at hB
  refine lv_aload_n hx hb dX4_init_20 rfl (lv_at hl 0 rfl) ?_
  refine lv_sipush (v := (nI 900)) hx hb dX4_init_21 rfl ?_
  obtain ⟨hc13a, hc13b, hp⟩ := hp
  obtain ⟨a11, μ12, ea, eμ12, hp⟩ := zpN_e hp
  refine g_newa S hB (kd := 0) (N := 900) (atype := .int) ea rfl q239 rfl (fun _ _ h => h) (zdefa0 900) (by decide) (by decide) (Nat.le_of_ble_eq_true rfl) hc13a hc13b ((zTr_ok (z := z)).2.1 _ _ _ _ hB.2.2.2.2.2.2.1 hB.fresh' (fun c e => by cases e; try rfl)) dX4_init_24 (fun H hB => ?_)
  rw [← eμ12] at hB
  have hcap : 3 ≤ mc ∧ 4496 ≤ ms := ⟨hc13a, hc13b⟩
  obtain ⟨ht14, hp⟩ := hp
  obtain ⟨μ15, eμ15, hp⟩ := zpR_e hp
  refine W.eq (g2 := F0 m 26 ls [va_rf (some a11), .ref z]) rfl ?_
  refine g_putFR S hB ht14 rfl (T := TX4) (N := 38) (C := RX4) rfl in_X4 3 (by decide) (by decide) (x := (some a11)) tyX4 tyX4_ok nmX4 q1395 (fun _ h9 => h9) rfl hnm rfl (ty := .array .int) (by decide +kernel) (zfits_a _ _) (znar_a _ _) (fun _ _ => rfl) ((zTr_ok (z := z)).1 _ _ _ _ _ _ hB.2.2.2.2.2.2.1 ht14 rfl) dX4_init_26 (fun H locs hB => ?_)
  rw [← eμ15] at hB
  refine lv_aload_n hx hb dX4_init_29 rfl (lv_at hl 0 rfl) ?_
  refine lv_sipush (v := (nI 1198)) hx hb dX4_init_30 rfl ?_
  obtain ⟨hc18a, hc18b, hp⟩ := hp
  obtain ⟨a16, μ17, ea, eμ17, hp⟩ := zpN_e hp
  refine g_newa S hB (kd := 0) (N := 1198) (atype := .int) ea rfl q239 rfl (fun _ _ h => h) (zdefa0 1198) (by decide) (by decide) (Nat.le_of_ble_eq_true rfl) hc18a hc18b ((zTr_ok (z := z)).2.1 _ _ _ _ hB.2.2.2.2.2.2.1 hB.fresh' (fun c e => by cases e; try rfl)) dX4_init_33 (fun H hB => ?_)
  rw [← eμ17] at hB
  have hcap : 4 ≤ mc ∧ 5694 ≤ ms := ⟨hc18a, hc18b⟩
  obtain ⟨ht19, hp⟩ := hp
  obtain ⟨μ20, eμ20, hp⟩ := zpR_e hp
  refine W.eq (g2 := F0 m 35 ls [va_rf (some a16), .ref z]) rfl ?_
  refine g_putFR S hB ht19 rfl (T := TX4) (N := 38) (C := RX4) rfl in_X4 4 (by decide) (by decide) (x := (some a16)) tyX4 tyX4_ok nmX4 q1396 (fun _ h9 => h9) rfl hnm rfl (ty := .array .int) (by decide +kernel) (zfits_a _ _) (znar_a _ _) (fun _ _ => rfl) ((zTr_ok (z := z)).1 _ _ _ _ _ _ hB.2.2.2.2.2.2.1 ht19 rfl) dX4_init_35 (fun H locs hB => ?_)
  rw [← eμ20] at hB
  refine lv_aload_n hx hb dX4_init_38 rfl (lv_at hl 0 rfl) ?_
  refine lv_iconst (v := (-1 : Int32)) hx hb dX4_init_39 rfl ?_
  obtain ⟨ht21, hp⟩ := hp
  obtain ⟨μ22, eμ22, hp⟩ := zpI_e hp
  refine g_putI S hB ht21 rfl (T := TX4) (N := 38) (C := RX4) rfl in_X4 14 (by decide) (by decide) (x := (-1 : Int32)) tyX4 tyX4_ok nmX4 q1406 (fun _ h9 => h9) rfl (ty := .int) (by decide +kernel) rfl rfl (fun _ _ => rfl) dX4_init_40 (fun H locs hB => ?_)
  rw [← eμ22] at hB
  refine lv_aload_n hx hb dX4_init_43 rfl (lv_at hl 0 rfl) ?_
  refine lv_sipush (v := (nI 900)) hx hb dX4_init_44 rfl ?_
  obtain ⟨hc25a, hc25b, hp⟩ := hp
  obtain ⟨a23, μ24, ea, eμ24, hp⟩ := zpN_e hp
  refine g_newa S hB (kd := 0) (N := 900) (atype := .int) ea rfl q239 rfl (fun _ _ h => h) (zdefa0 900) (by decide) (by decide) (Nat.le_of_ble_eq_true rfl) hc25a hc25b ((zTr_ok (z := z)).2.1 _ _ _ _ hB.2.2.2.2.2.2.1 hB.fresh' (fun c e => by cases e; try rfl)) dX4_init_47 (fun H hB => ?_)
  rw [← eμ24] at hB
  have hcap : 5 ≤ mc ∧ 6594 ≤ ms := ⟨hc25a, hc25b⟩
  obtain ⟨ht26, hp⟩ := hp
  obtain ⟨μ27, eμ27, hp⟩ := zpR_e hp
  refine W.eq (g2 := F0 m 49 ls [va_rf (some a23), .ref z]) rfl ?_
  refine g_putFR S hB ht26 rfl (T := TX4) (N := 38) (C := RX4) rfl in_X4 16 (by decide) (by decide) (x := (some a23)) tyX4 tyX4_ok nmX4 q1408 (fun _ h9 => h9) rfl hnm rfl (ty := .array .int) (by decide +kernel) (zfits_a _ _) (znar_a _ _) (fun _ _ => rfl) ((zTr_ok (z := z)).1 _ _ _ _ _ _ hB.2.2.2.2.2.2.1 ht26 rfl) dX4_init_49 (fun H locs hB => ?_)
  rw [← eμ27] at hB
  refine lv_aload_n hx hb dX4_init_52 rfl (lv_at hl 0 rfl) ?_
  refine lv_bipush (v := (nI 10)) hx hb dX4_init_53 rfl ?_
  obtain ⟨hc30a, hc30b, hp⟩ := hp
  obtain ⟨a28, μ29, ea, eμ29, hp⟩ := zpN_e hp
  refine g_newa S hB (kd := 0) (N := 10) (atype := .int) ea rfl q239 rfl (fun _ _ h => h) (zdefa0 10) (by decide) (by decide) (Nat.le_of_ble_eq_true rfl) hc30a hc30b ((zTr_ok (z := z)).2.1 _ _ _ _ hB.2.2.2.2.2.2.1 hB.fresh' (fun c e => by cases e; try rfl)) dX4_init_55 (fun H hB => ?_)
  rw [← eμ29] at hB
  have hcap : 6 ≤ mc ∧ 6604 ≤ ms := ⟨hc30a, hc30b⟩
  obtain ⟨ht31, hp⟩ := hp
  obtain ⟨μ32, eμ32, hp⟩ := zpR_e hp
  refine W.eq (g2 := F0 m 57 ls [va_rf (some a28), .ref z]) rfl ?_
  refine g_putFR S hB ht31 rfl (T := TX4) (N := 38) (C := RX4) rfl in_X4 17 (by decide) (by decide) (x := (some a28)) tyX4 tyX4_ok nmX4 q1409 (fun _ h9 => h9) rfl hnm rfl (ty := .array .int) (by decide +kernel) (zfits_a _ _) (znar_a _ _) (fun _ _ => rfl) ((zTr_ok (z := z)).1 _ _ _ _ _ _ hB.2.2.2.2.2.2.1 ht31 rfl) dX4_init_57 (fun H locs hB => ?_)
  rw [← eμ32] at hB
  refine lv_aload_n hx hb dX4_init_60 rfl (lv_at hl 0 rfl) ?_
  refine lv_bipush (v := (nI 23)) hx hb dX4_init_61 rfl ?_
  obtain ⟨hc35a, hc35b, hp⟩ := hp
  obtain ⟨a33, μ34, ea, eμ34, hp⟩ := zpN_e hp
  refine g_newa S hB (kd := 0) (N := 23) (atype := .int) ea rfl q239 rfl (fun _ _ h => h) (zdefa0 23) (by decide) (by decide) (Nat.le_of_ble_eq_true rfl) hc35a hc35b ((zTr_ok (z := z)).2.1 _ _ _ _ hB.2.2.2.2.2.2.1 hB.fresh' (fun c e => by cases e; try rfl)) dX4_init_63 (fun H hB => ?_)
  rw [← eμ34] at hB
  have hcap : 7 ≤ mc ∧ 6627 ≤ ms := ⟨hc35a, hc35b⟩
  obtain ⟨ht36, hp⟩ := hp
  obtain ⟨μ37, eμ37, hp⟩ := zpR_e hp
  refine W.eq (g2 := F0 m 65 ls [va_rf (some a33), .ref z]) rfl ?_
  refine g_putFR S hB ht36 rfl (T := TX4) (N := 38) (C := RX4) rfl in_X4 18 (by decide) (by decide) (x := (some a33)) tyX4 tyX4_ok nmX4 q1410 (fun _ h9 => h9) rfl hnm rfl (ty := .array .int) (by decide +kernel) (zfits_a _ _) (znar_a _ _) (fun _ _ => rfl) ((zTr_ok (z := z)).1 _ _ _ _ _ _ hB.2.2.2.2.2.2.1 ht36 rfl) dX4_init_65 (fun H locs hB => ?_)
  rw [← eμ37] at hB
  refine lv_aload_n hx hb dX4_init_68 rfl (lv_at hl 0 rfl) ?_
  refine lv_bipush (v := (nI 6)) hx hb dX4_init_69 rfl ?_
  obtain ⟨hc40a, hc40b, hp⟩ := hp
  obtain ⟨a38, μ39, ea, eμ39, hp⟩ := zpN_e hp
  refine g_newa S hB (kd := 0) (N := 6) (atype := .int) ea rfl q239 rfl (fun _ _ h => h) (zdefa0 6) (by decide) (by decide) (Nat.le_of_ble_eq_true rfl) hc40a hc40b ((zTr_ok (z := z)).2.1 _ _ _ _ hB.2.2.2.2.2.2.1 hB.fresh' (fun c e => by cases e; try rfl)) dX4_init_71 (fun H hB => ?_)
  rw [← eμ39] at hB
  have hcap : 8 ≤ mc ∧ 6633 ≤ ms := ⟨hc40a, hc40b⟩
  obtain ⟨ht41, hp⟩ := hp
  obtain ⟨μ42, eμ42, hp⟩ := zpR_e hp
  refine W.eq (g2 := F0 m 73 ls [va_rf (some a38), .ref z]) rfl ?_
  refine g_putFR S hB ht41 rfl (T := TX4) (N := 38) (C := RX4) rfl in_X4 19 (by decide) (by decide) (x := (some a38)) tyX4 tyX4_ok nmX4 q1411 (fun _ h9 => h9) rfl hnm rfl (ty := .array .int) (by decide +kernel) (zfits_a _ _) (znar_a _ _) (fun _ _ => rfl) ((zTr_ok (z := z)).1 _ _ _ _ _ _ hB.2.2.2.2.2.2.1 ht41 rfl) dX4_init_73 (fun H locs hB => ?_)
  rw [← eμ42] at hB
  refine lv_aload_n hx hb dX4_init_76 rfl (lv_at hl 0 rfl) ?_
  refine lv_sipush (v := (nI 602)) hx hb dX4_init_77 rfl ?_
  obtain ⟨hc45a, hc45b, hp⟩ := hp
  obtain ⟨a43, μ44, ea, eμ44, hp⟩ := zpN_e hp
  refine g_newa S hB (kd := 0) (N := 602) (atype := .int) ea rfl q239 rfl (fun _ _ h => h) (zdefa0 602) (by decide) (by decide) (Nat.le_of_ble_eq_true rfl) hc45a hc45b ((zTr_ok (z := z)).2.1 _ _ _ _ hB.2.2.2.2.2.2.1 hB.fresh' (fun c e => by cases e; try rfl)) dX4_init_80 (fun H hB => ?_)
  rw [← eμ44] at hB
  have hcap : 9 ≤ mc ∧ 7235 ≤ ms := ⟨hc45a, hc45b⟩
  obtain ⟨ht46, hp⟩ := hp
  obtain ⟨μ47, eμ47, hp⟩ := zpR_e hp
  refine W.eq (g2 := F0 m 82 ls [va_rf (some a43), .ref z]) rfl ?_
  refine g_putFR S hB ht46 rfl (T := TX4) (N := 38) (C := RX4) rfl in_X4 23 (by decide) (by decide) (x := (some a43)) tyX4 tyX4_ok nmX4 q1415 (fun _ h9 => h9) rfl hnm rfl (ty := .array .int) (by decide +kernel) (zfits_a _ _) (znar_a _ _) (fun _ _ => rfl) ((zTr_ok (z := z)).1 _ _ _ _ _ _ hB.2.2.2.2.2.2.1 ht46 rfl) dX4_init_82 (fun H locs hB => ?_)
  rw [← eμ47] at hB
  refine lv_aload_n hx hb dX4_init_85 rfl (lv_at hl 0 rfl) ?_
  refine lv_sipush (v := (nI 549)) hx hb dX4_init_86 rfl ?_
  obtain ⟨hc50a, hc50b, hp⟩ := hp
  obtain ⟨a48, μ49, ea, eμ49, hp⟩ := zpN_e hp
  refine g_newa S hB (kd := 3) (N := 549) (atype := .long) ea rfl q294 rfl (fun _ _ h => h) (zdefa3 549) (by decide) (by decide) (Nat.le_of_ble_eq_true rfl) hc50a hc50b ((zTr_ok (z := z)).2.1 _ _ _ _ hB.2.2.2.2.2.2.1 hB.fresh' (fun c e => by cases e; try rfl)) dX4_init_89 (fun H hB => ?_)
  rw [← eμ49] at hB
  have hcap : 10 ≤ mc ∧ 7784 ≤ ms := ⟨hc50a, hc50b⟩
  obtain ⟨ht51, hp⟩ := hp
  obtain ⟨μ52, eμ52, hp⟩ := zpR_e hp
  refine W.eq (g2 := F0 m 91 ls [va_rf (some a48), .ref z]) rfl ?_
  refine g_putFR S hB ht51 rfl (T := TX4) (N := 38) (C := RX4) rfl in_X4 24 (by decide) (by decide) (x := (some a48)) tyX4 tyX4_ok nmX4 q1416 (fun _ h9 => h9) rfl hnm rfl (ty := .array .long) (by decide +kernel) (zfits_a _ _) (znar_a _ _) (fun _ _ => rfl) ((zTr_ok (z := z)).1 _ _ _ _ _ _ hB.2.2.2.2.2.2.1 ht51 rfl) dX4_init_91 (fun H locs hB => ?_)
  rw [← eμ52] at hB
  refine lv_aload_n hx hb dX4_init_94 rfl (lv_at hl 0 rfl) ?_
  refine lv_iconst (v := (nI 3)) hx hb dX4_init_95 rfl ?_
  obtain ⟨hc55a, hc55b, hp⟩ := hp
  obtain ⟨a53, μ54, ea, eμ54, hp⟩ := zpN_e hp
  refine g_newa S hB (kd := 0) (N := 3) (atype := .int) ea rfl q239 rfl (fun _ _ h => h) (zdefa0 3) (by decide) (by decide) (Nat.le_of_ble_eq_true rfl) hc55a hc55b ((zTr_ok (z := z)).2.1 _ _ _ _ hB.2.2.2.2.2.2.1 hB.fresh' (fun c e => by cases e; try rfl)) dX4_init_96 (fun H hB => ?_)
  rw [← eμ54] at hB
  have hcap : 11 ≤ mc ∧ 7787 ≤ ms := ⟨hc55a, hc55b⟩
  obtain ⟨ht56, hp⟩ := hp
  obtain ⟨μ57, eμ57, hp⟩ := zpR_e hp
  refine W.eq (g2 := F0 m 98 ls [va_rf (some a53), .ref z]) rfl ?_
  refine g_putFR S hB ht56 rfl (T := TX4) (N := 38) (C := RX4) rfl in_X4 27 (by decide) (by decide) (x := (some a53)) tyX4 tyX4_ok nmX4 q1419 (fun _ h9 => h9) rfl hnm rfl (ty := .array .int) (by decide +kernel) (zfits_a _ _) (znar_a _ _) (fun _ _ => rfl) ((zTr_ok (z := z)).1 _ _ _ _ _ _ hB.2.2.2.2.2.2.1 ht56 rfl) dX4_init_98 (fun H locs hB => ?_)
  rw [← eμ57] at hB
  refine lv_aload_n hx hb dX4_init_101 rfl (lv_at hl 0 rfl) ?_
  refine lv_iconst (v := (nI 3)) hx hb dX4_init_102 rfl ?_
  obtain ⟨hc60a, hc60b, hp⟩ := hp
  obtain ⟨a58, μ59, ea, eμ59, hp⟩ := zpN_e hp
  refine g_newa S hB (kd := 0) (N := 3) (atype := .int) ea rfl q239 rfl (fun _ _ h => h) (zdefa0 3) (by decide) (by decide) (Nat.le_of_ble_eq_true rfl) hc60a hc60b ((zTr_ok (z := z)).2.1 _ _ _ _ hB.2.2.2.2.2.2.1 hB.fresh' (fun c e => by cases e; try rfl)) dX4_init_103 (fun H hB => ?_)
  rw [← eμ59] at hB
  have hcap : 12 ≤ mc ∧ 7790 ≤ ms := ⟨hc60a, hc60b⟩
  obtain ⟨ht61, hp⟩ := hp
  obtain ⟨μ62, eμ62, hp⟩ := zpR_e hp
  refine W.eq (g2 := F0 m 105 ls [va_rf (some a58), .ref z]) rfl ?_
  refine g_putFR S hB ht61 rfl (T := TX4) (N := 38) (C := RX4) rfl in_X4 28 (by decide) (by decide) (x := (some a58)) tyX4 tyX4_ok nmX4 q1420 (fun _ h9 => h9) rfl hnm rfl (ty := .array .int) (by decide +kernel) (zfits_a _ _) (znar_a _ _) (fun _ _ => rfl) ((zTr_ok (z := z)).1 _ _ _ _ _ _ hB.2.2.2.2.2.2.1 ht61 rfl) dX4_init_105 (fun H locs hB => ?_)
  rw [← eμ62] at hB
  refine lv_aload_n hx hb dX4_init_108 rfl (lv_at hl 0 rfl) ?_
  refine lv_ldc (v := (nI 61000)) hx hb hown (hts _ q1387) dX4_init_109 ?_
  obtain ⟨hc65a, hc65b, hp⟩ := hp
  obtain ⟨a63, μ64, ea, eμ64, hp⟩ := zpN_e hp
  refine g_newa S hB (kd := 0) (N := 61000) (atype := .int) ea rfl q239 rfl (fun _ _ h => h) (zdefa0 61000) (by decide) (by decide) (Nat.le_of_ble_eq_true rfl) hc65a hc65b ((zTr_ok (z := z)).2.1 _ _ _ _ hB.2.2.2.2.2.2.1 hB.fresh' (fun c e => by cases e; try rfl)) dX4_init_111 (fun H hB => ?_)
  rw [← eμ64] at hB
  have hcap : 13 ≤ mc ∧ 68790 ≤ ms := ⟨hc65a, hc65b⟩
  obtain ⟨ht66, hp⟩ := hp
  obtain ⟨μ67, eμ67, hp⟩ := zpR_e hp
  refine W.eq (g2 := F0 m 113 ls [va_rf (some a63), .ref z]) rfl ?_
  refine g_putFR S hB ht66 rfl (T := TX4) (N := 38) (C := RX4) rfl in_X4 32 (by decide) (by decide) (x := (some a63)) tyX4 tyX4_ok nmX4 q1424 (fun _ h9 => h9) rfl hnm rfl (ty := .array .int) (by decide +kernel) (zfits_a _ _) (znar_a _ _) (fun _ _ => rfl) ((zTr_ok (z := z)).1 _ _ _ _ _ _ hB.2.2.2.2.2.2.1 ht66 rfl) dX4_init_113 (fun H locs hB => ?_)
  rw [← eμ67] at hB
  refine lv_aload_n hx hb dX4_init_116 rfl (lv_at hl 0 rfl) ?_
  refine lv_ldc (v := (nI 100000)) hx hb hown (hts _ q1388) dX4_init_117 ?_
  obtain ⟨hc70a, hc70b, hp⟩ := hp
  obtain ⟨a68, μ69, ea, eμ69, hp⟩ := zpN_e hp
  refine g_newa S hB (kd := 0) (N := 100000) (atype := .int) ea rfl q239 rfl (fun _ _ h => h) (zdefa0 100000) (by decide) (by decide) (Nat.le_of_ble_eq_true rfl) hc70a hc70b ((zTr_ok (z := z)).2.1 _ _ _ _ hB.2.2.2.2.2.2.1 hB.fresh' (fun c e => by cases e; try rfl)) dX4_init_119 (fun H hB => ?_)
  rw [← eμ69] at hB
  have hcap : 14 ≤ mc ∧ 168790 ≤ ms := ⟨hc70a, hc70b⟩
  obtain ⟨ht71, hp⟩ := hp
  obtain ⟨μ72, eμ72, hp⟩ := zpR_e hp
  refine W.eq (g2 := F0 m 121 ls [va_rf (some a68), .ref z]) rfl ?_
  refine g_putFR S hB ht71 rfl (T := TX4) (N := 38) (C := RX4) rfl in_X4 33 (by decide) (by decide) (x := (some a68)) tyX4 tyX4_ok nmX4 q1425 (fun _ h9 => h9) rfl hnm rfl (ty := .array .int) (by decide +kernel) (zfits_a _ _) (znar_a _ _) (fun _ _ => rfl) ((zTr_ok (z := z)).1 _ _ _ _ _ _ hB.2.2.2.2.2.2.1 ht71 rfl) dX4_init_121 (fun H locs hB => ?_)
  rw [← eμ72] at hB
  refine lv_aload_n hx hb dX4_init_124 rfl (lv_at hl 0 rfl) ?_
  refine lv_sipush (v := (nI 1000)) hx hb dX4_init_125 rfl ?_
  obtain ⟨hc75a, hc75b, hp⟩ := hp
  obtain ⟨a73, μ74, ea, eμ74, hp⟩ := zpN_e hp
  refine g_newa S hB (kd := 2) (N := 1000) (atype := .boolean) ea rfl q1507 rfl (fun _ _ h => h) (zdefa2 1000) (by decide) (by decide) (Nat.le_of_ble_eq_true rfl) hc75a hc75b ((zTr_ok (z := z)).2.1 _ _ _ _ hB.2.2.2.2.2.2.1 hB.fresh' (fun c e => by cases e; try rfl)) dX4_init_128 (fun H hB => ?_)
  rw [← eμ74] at hB
  have hcap : 15 ≤ mc ∧ 169790 ≤ ms := ⟨hc75a, hc75b⟩
  obtain ⟨ht76, hp⟩ := hp
  obtain ⟨μ77, eμ77, hp⟩ := zpR_e hp
  refine W.eq (g2 := F0 m 130 ls [va_rf (some a73), .ref z]) rfl ?_
  refine g_putFR S hB ht76 rfl (T := TX4) (N := 38) (C := RX4) rfl in_X4 34 (by decide) (by decide) (x := (some a73)) tyX4 tyX4_ok nmX4 q1426 (fun _ h9 => h9) rfl hnm rfl (ty := .array .boolean) (by decide +kernel) (zfits_a _ _) (znar_a _ _) (fun _ _ => rfl) ((zTr_ok (z := z)).1 _ _ _ _ _ _ hB.2.2.2.2.2.2.1 ht76 rfl) dX4_init_130 (fun H locs hB => ?_)
  rw [← eμ77] at hB
  refine lv_aload_n hx hb dX4_init_133 rfl (lv_at hl 0 rfl) ?_
  refine lv_iconst (v := (nI 4)) hx hb dX4_init_134 rfl ?_
  obtain ⟨hc80a, hc80b, hp⟩ := hp
  obtain ⟨a78, μ79, ea, eμ79, hp⟩ := zpN_e hp
  refine g_newa S hB (kd := 0) (N := 4) (atype := .int) ea rfl q239 rfl (fun _ _ h => h) (zdefa0 4) (by decide) (by decide) (Nat.le_of_ble_eq_true rfl) hc80a hc80b ((zTr_ok (z := z)).2.1 _ _ _ _ hB.2.2.2.2.2.2.1 hB.fresh' (fun c e => by cases e; try rfl)) dX4_init_135 (fun H hB => ?_)
  rw [← eμ79] at hB
  have hcap : 16 ≤ mc ∧ 169794 ≤ ms := ⟨hc80a, hc80b⟩
  refine lv_dup hx hb dX4_init_137 rfl ?_
  refine lv_iconst (v := (nI 0)) hx hb dX4_init_138 rfl ?_
  refine lv_iconst (v := (-1 : Int32)) hx hb dX4_init_139 rfl ?_
  obtain ⟨⟨_, ht, hi⟩, hp⟩ := hp
  obtain ⟨μ81, eμ81, hp⟩ := zpI_e hp
  refine g_iast S hB ht hi dX4_init_140 (fun H locs hB => ?_)
  rw [← eμ81] at hB
  refine lv_dup hx hb dX4_init_141 rfl ?_
  refine lv_iconst (v := (nI 1)) hx hb dX4_init_142 rfl ?_
  refine lv_iconst (v := (-1 : Int32)) hx hb dX4_init_143 rfl ?_
  obtain ⟨⟨_, ht, hi⟩, hp⟩ := hp
  obtain ⟨μ82, eμ82, hp⟩ := zpI_e hp
  refine g_iast S hB ht hi dX4_init_144 (fun H locs hB => ?_)
  rw [← eμ82] at hB
  refine lv_dup hx hb dX4_init_145 rfl ?_
  refine lv_iconst (v := (nI 2)) hx hb dX4_init_146 rfl ?_
  refine lv_iconst (v := (-1 : Int32)) hx hb dX4_init_147 rfl ?_
  obtain ⟨⟨_, ht, hi⟩, hp⟩ := hp
  obtain ⟨μ83, eμ83, hp⟩ := zpI_e hp
  refine g_iast S hB ht hi dX4_init_148 (fun H locs hB => ?_)
  rw [← eμ83] at hB
  refine lv_dup hx hb dX4_init_149 rfl ?_
  refine lv_iconst (v := (nI 3)) hx hb dX4_init_150 rfl ?_
  refine lv_iconst (v := (-1 : Int32)) hx hb dX4_init_151 rfl ?_
  obtain ⟨⟨_, ht, hi⟩, hp⟩ := hp
  obtain ⟨μ84, eμ84, hp⟩ := zpI_e hp
  refine g_iast S hB ht hi dX4_init_152 (fun H locs hB => ?_)
  rw [← eμ84] at hB
  obtain ⟨ht85, hp⟩ := hp
  obtain ⟨μ86, eμ86, hp⟩ := zpR_e hp
  refine W.eq (g2 := F0 m 153 ls [va_rf (some a78), .ref z]) rfl ?_
  refine g_putFR S hB ht85 rfl (T := TX4) (N := 38) (C := RX4) rfl in_X4 35 (by decide) (by decide) (x := (some a78)) tyX4 tyX4_ok nmX4 q1427 (fun _ h9 => h9) rfl hnm rfl (ty := .array .int) (by decide +kernel) (zfits_a _ _) (znar_a _ _) (fun _ _ => rfl) ((zTr_ok (z := z)).1 _ _ _ _ _ _ hB.2.2.2.2.2.2.1 ht85 rfl) dX4_init_153 (fun H locs hB => ?_)
  rw [← eμ86] at hB
  refine lv_aload_n hx hb dX4_init_156 rfl (lv_at hl 0 rfl) ?_
  refine lv_iconst (v := (nI 4)) hx hb dX4_init_157 rfl ?_
  obtain ⟨hc89a, hc89b, hp⟩ := hp
  obtain ⟨a87, μ88, ea, eμ88, hp⟩ := zpN_e hp
  refine g_newa S hB (kd := 0) (N := 4) (atype := .int) ea rfl q239 rfl (fun _ _ h => h) (zdefa0 4) (by decide) (by decide) (Nat.le_of_ble_eq_true rfl) hc89a hc89b ((zTr_ok (z := z)).2.1 _ _ _ _ hB.2.2.2.2.2.2.1 hB.fresh' (fun c e => by cases e; try rfl)) dX4_init_158 (fun H hB => ?_)
  rw [← eμ88] at hB
  have hcap : 17 ≤ mc ∧ 169798 ≤ ms := ⟨hc89a, hc89b⟩
  obtain ⟨ht90, hp⟩ := hp
  obtain ⟨μ91, eμ91, hp⟩ := zpR_e hp
  refine W.eq (g2 := F0 m 160 ls [va_rf (some a87), .ref z]) rfl ?_
  refine g_putFR S hB ht90 rfl (T := TX4) (N := 38) (C := RX4) rfl in_X4 36 (by decide) (by decide) (x := (some a87)) tyX4 tyX4_ok nmX4 q1428 (fun _ h9 => h9) rfl hnm rfl (ty := .array .int) (by decide +kernel) (zfits_a _ _) (znar_a _ _) (fun _ _ => rfl) ((zTr_ok (z := z)).1 _ _ _ _ _ _ hB.2.2.2.2.2.2.1 ht90 rfl) dX4_init_160 (fun H locs hB => ?_)
  rw [← eμ91] at hB
  refine lv_aload_n hx hb dX4_init_163 rfl (lv_at hl 0 rfl) ?_
  refine lv_sipush (v := (nI 160)) hx hb dX4_init_164 rfl ?_
  obtain ⟨hc94a, hc94b, hp⟩ := hp
  obtain ⟨a92, μ93, ea, eμ93, hp⟩ := zpN_e hp
  refine g_newa S hB (kd := 3) (N := 160) (atype := .long) ea rfl q294 rfl (fun _ _ h => h) (zdefa3 160) (by decide) (by decide) (Nat.le_of_ble_eq_true rfl) hc94a hc94b ((zTr_ok (z := z)).2.1 _ _ _ _ hB.2.2.2.2.2.2.1 hB.fresh' (fun c e => by cases e; try rfl)) dX4_init_167 (fun H hB => ?_)
  rw [← eμ93] at hB
  have hcap : 18 ≤ mc ∧ 169958 ≤ ms := ⟨hc94a, hc94b⟩
  obtain ⟨ht95, hp⟩ := hp
  obtain ⟨μ96, eμ96, hp⟩ := zpR_e hp
  refine W.eq (g2 := F0 m 169 ls [va_rf (some a92), .ref z]) rfl ?_
  refine g_putFR S hB ht95 rfl (T := TX4) (N := 38) (C := RX4) rfl in_X4 37 (by decide) (by decide) (x := (some a92)) tyX4 tyX4_ok nmX4 q1429 (fun _ h9 => h9) rfl hnm rfl (ty := .array .long) (by decide +kernel) (zfits_a _ _) (znar_a _ _) (fun _ _ => rfl) ((zTr_ok (z := z)).1 _ _ _ _ _ _ hB.2.2.2.2.2.2.1 ht95 rfl) dX4_init_169 (fun H locs hB => ?_)
  rw [← eμ96] at hB
  refine lv_aload_n hx hb dX4_init_172 rfl (lv_at hl 0 rfl) ?_
  obtain ⟨ht97, hp⟩ := hp
  refine g_get S hB ht97 rfl (T := TX4) (N := 38) (C := RX4) rfl in_X4 1 (by decide) (by decide) q1393 (fun _ h9 => h9) (v := va_rf (zR μ96 z 1)) rfl dX4_init_173 ?_
  obtain ⟨b98, eb, hp⟩ := hp
  refine W.eq (g2 := F0 m 176 ls [.ref b98]) (by rw [eb]; rfl) ?_
  obtain ⟨ht100, hs, hp⟩ := hp
  obtain ⟨μ99, eμ99, hp⟩ := zpT_e hp
  have hB := hB.tag (Sh' := (tSh z)) (c := 4) (by decide) ht100 hs
  rw [← eμ99] at hB
  refine z_callv (va_runS (As := [.ref b98]) (rest := []) S (mX4_plain l Γ z b98 μ99 _ hp) (va_cwS 1 hts (lw_S q1389 q1390 q132 q1391) rfl rfl rfl hX4_plain ⟨Nat.le_of_ble_eq_true rfl, Nat.le_of_ble_eq_true rfl⟩) hB.preS rfl rfl hl.1 rfl (lv_room (Nat.le_of_ble_eq_true rfl)) dX4_init_176 hcap) hB (fun μ101 H locs hp hB => ?_)
  refine W.widen (k := mc) (n := ms) hcap.1 hcap.2 ?_
  exact zret_v X hB hp dX4_init_179
