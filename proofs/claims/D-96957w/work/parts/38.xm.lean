def fX4_init (x0 : Nat) (S : XS) : Option XS :=
nm (xnew S (aeI 0 382 (fun _ => 0))) fun S1 =>
bn1 (pF S1 x0 4 0 (.ref S.2)) fun S3 =>
nm (xnew S3 (aeI 0 382 (fun _ => 0))) fun S4 =>
bn1 (pF S4 x0 4 1 (.ref S3.2)) fun S6 =>
nm (xnew S6 (aeI 0 382 (fun _ => 0))) fun S7 =>
bn1 (pF S7 x0 4 2 (.ref S6.2)) fun S9 =>
nm (xnew S9 (aeI 0 7 (fun _ => 0))) fun S10 =>
bn1 (pF S10 x0 4 4 (.ref S9.2)) fun S12 =>
nm (xnew S12 (aeI 0 4 (fun _ => 0))) fun S13 =>
bn1 (pF S13 x0 4 5 (.ref S12.2)) fun S15 =>
nm (xnew S15 (aeI 0 4 (fun _ => 0))) fun S16 =>
bn1 (pF S16 x0 4 6 (.ref S15.2)) fun S18 =>
nm (xnew S18 (aeI 0 96 (fun _ => 0))) fun S19 =>
bn1 (pF S19 x0 4 7 (.ref S18.2)) fun S21 =>
nm (xnew S21 (aeL 16 (fun _ => 0))) fun S22 =>
bn1 (pF S22 x0 4 8 (.ref S21.2)) fun S24 =>
nm (xnew S24 (aeL 4 (fun _ => 0))) fun S25 =>
bn1 (pF S25 x0 4 9 (.ref S24.2)) fun S27 =>
nm (xnew S27 (aeL 4 (fun _ => 0))) fun S28 =>
bn1 (pF S28 x0 4 10 (.ref S27.2)) fun S30 =>
nm (xnew S30 (aeI 0 60 (fun _ => 0))) fun S31 =>
bn1 (pF S31 x0 4 12 (.ref S30.2)) fun S33 =>
nm (xnew S33 (aeI 0 60 (fun _ => 0))) fun S34 =>
bn1 (pF S34 x0 4 13 (.ref S33.2)) fun S36 =>
nm (xnew S36 (aeI 0 3 (fun _ => 0))) fun S37 =>
bn1 (pF S37 x0 4 14 (.ref S36.2)) fun S39 =>
nm (xnew S39 (aeI 0 60 (fun _ => 0))) fun S40 =>
bn1 (pF S40 x0 4 15 (.ref S39.2)) fun S42 =>
nm (xnew S42 (aeI 0 30 (fun _ => 0))) fun S43 =>
bn1 (pF S43 x0 4 21 (.ref S42.2)) fun S45 =>
bn1 (gR S45 x0 4 0) fun a47 =>
bn1 (sI S45 a47 0 (1 : Int32) (1 : Int32)) fun S49 =>
bn1 (gR S49 x0 4 0) fun a51 =>
bn1 (sI S49 a51 0 (3 : Int32) (2 : Int32)) fun S53 =>
bn1 (gR S53 x0 4 0) fun a55 =>
bn1 (sI S53 a55 0 (4 : Int32) (20 : Int32)) fun S57 =>
some S57
set_option maxHeartbeats 4000000 in
set_option maxRecDepth 100000 in
theorem mX4_init {l : Launch} {D : va_G} {cA : Nat → ClassId} {A : Nat → Prop} (x0 : Nat) (S : XS) {out : XS} (h : fX4_init x0 S = some out) : Met l yX4_init (ws_ yX4_init cX4_init 1 none) ({ frames := 1, cells := 15, slots := 1494, locals := 24 } : Room) (gPc (xK D cA A) (xP D cA A) A [.ref x0] S) (gQv (xK D cA A) (xP D cA A) A out) 15 1494 A := by
  refine gMet_v (by decide) (Nat.le_of_ble_eq_true rfl) ?_ xKst
  intro p e s m below meth c Q ls args H locs hC hP hS hl hmi ret
  obtain ⟨hx, hb, hml, hown, hts, hA, hK⟩ := hC
  have hown : s.vm.findClass RX4 = some m.cls := hown
  have hl : lv_has ls 1 [(0, .ref x0)] := hl
  have hmi := hmi rfl
  unfold fX4_init at h
  refine lv_aload_n hx hb dX4_init_0 rfl (lv_at hl 0 rfl) ?_
  refine W.objInit hx hb hown (hts _ q1248) (hts _ q121) (hts _ q122) rfl (by rw [hml]; exact hl.1) rfl dX4_init_1 (Nat.le_of_ble_eq_true rfl) (Nat.le_of_ble_eq_true rfl) ?_
  refine W.eq (g2 := F0 m 4 ls []) rfl ?_
  refine lv_aload_n hx hb dX4_init_4 rfl (lv_at hl 0 rfl) ?_
  refine lv_sipush (v := (382 : Int32)) hx hb dX4_init_5 (by decide) ?_
  refine x_new0 (N' := 382) hx hb (hts _ q143) hK.1 hP hS hA (by decide) (by decide) (by decide) (by first | omega | (dsimp only; omega)) (by first | omega | (dsimp only; omega)) dX4_init_8 (fun H hP hS => ?_)
  obtain ⟨S1, eS1⟩ : ∃ y : XS, y = xnew S (aeI 0 382 (fun _ => 0)) := ⟨_, rfl⟩
  rw [← eS1] at hP
  have h := nm_at eS1 h
  obtain ⟨S3, e2, h⟩ := bn1_some h
  refine x_putF (v := .ref S.2) (ty := (.array .int)) (C := RX4) (T := TX4) (N := 24) (ci := 4) hx hb hts in_X4 tyX4 tyX4_ok nmX4 hown hK.1 hP hS rfl 0 (by decide) (hts _ q1249) (fun _ h9 => h9) rfl hmi rfl (by decide +kernel) rfl rfl e2 dX4_init_10 (fun H locs hP hS => ?_)
  refine lv_aload_n hx hb dX4_init_13 rfl (lv_at hl 0 rfl) ?_
  refine lv_sipush (v := (382 : Int32)) hx hb dX4_init_14 (by decide) ?_
  refine x_new0 (N' := 382) hx hb (hts _ q143) hK.1 hP hS hA (by decide) (by decide) (by decide) (by first | omega | (dsimp only; omega)) (by first | omega | (dsimp only; omega)) dX4_init_17 (fun H hP hS => ?_)
  obtain ⟨S4, eS4⟩ : ∃ y : XS, y = xnew S3 (aeI 0 382 (fun _ => 0)) := ⟨_, rfl⟩
  rw [← eS4] at hP
  have h := nm_at eS4 h
  obtain ⟨S6, e5, h⟩ := bn1_some h
  refine x_putF (v := .ref S3.2) (ty := (.array .int)) (C := RX4) (T := TX4) (N := 24) (ci := 4) hx hb hts in_X4 tyX4 tyX4_ok nmX4 hown hK.1 hP hS rfl 1 (by decide) (hts _ q1250) (fun _ h9 => h9) rfl hmi rfl (by decide +kernel) rfl rfl e5 dX4_init_19 (fun H locs hP hS => ?_)
  refine lv_aload_n hx hb dX4_init_22 rfl (lv_at hl 0 rfl) ?_
  refine lv_sipush (v := (382 : Int32)) hx hb dX4_init_23 (by decide) ?_
  refine x_new0 (N' := 382) hx hb (hts _ q143) hK.1 hP hS hA (by decide) (by decide) (by decide) (by first | omega | (dsimp only; omega)) (by first | omega | (dsimp only; omega)) dX4_init_26 (fun H hP hS => ?_)
  obtain ⟨S7, eS7⟩ : ∃ y : XS, y = xnew S6 (aeI 0 382 (fun _ => 0)) := ⟨_, rfl⟩
  rw [← eS7] at hP
  have h := nm_at eS7 h
  obtain ⟨S9, e8, h⟩ := bn1_some h
  refine x_putF (v := .ref S6.2) (ty := (.array .int)) (C := RX4) (T := TX4) (N := 24) (ci := 4) hx hb hts in_X4 tyX4 tyX4_ok nmX4 hown hK.1 hP hS rfl 2 (by decide) (hts _ q1251) (fun _ h9 => h9) rfl hmi rfl (by decide +kernel) rfl rfl e8 dX4_init_28 (fun H locs hP hS => ?_)
  refine lv_aload_n hx hb dX4_init_31 rfl (lv_at hl 0 rfl) ?_
  refine lv_bipush (v := (7 : Int32)) hx hb dX4_init_32 (by decide) ?_
  refine x_new0 (N' := 7) hx hb (hts _ q143) hK.1 hP hS hA (by decide) (by decide) (by decide) (by first | omega | (dsimp only; omega)) (by first | omega | (dsimp only; omega)) dX4_init_34 (fun H hP hS => ?_)
  obtain ⟨S10, eS10⟩ : ∃ y : XS, y = xnew S9 (aeI 0 7 (fun _ => 0)) := ⟨_, rfl⟩
  rw [← eS10] at hP
  have h := nm_at eS10 h
  obtain ⟨S12, e11, h⟩ := bn1_some h
  refine x_putF (v := .ref S9.2) (ty := (.array .int)) (C := RX4) (T := TX4) (N := 24) (ci := 4) hx hb hts in_X4 tyX4 tyX4_ok nmX4 hown hK.1 hP hS rfl 4 (by decide) (hts _ q1253) (fun _ h9 => h9) rfl hmi rfl (by decide +kernel) rfl rfl e11 dX4_init_36 (fun H locs hP hS => ?_)
  refine lv_aload_n hx hb dX4_init_39 rfl (lv_at hl 0 rfl) ?_
  refine lv_iconst (v := (4 : Int32)) hx hb dX4_init_40 (by decide) ?_
  refine x_new0 (N' := 4) hx hb (hts _ q143) hK.1 hP hS hA (by decide) (by decide) (by decide) (by first | omega | (dsimp only; omega)) (by first | omega | (dsimp only; omega)) dX4_init_41 (fun H hP hS => ?_)
  obtain ⟨S13, eS13⟩ : ∃ y : XS, y = xnew S12 (aeI 0 4 (fun _ => 0)) := ⟨_, rfl⟩
  rw [← eS13] at hP
  have h := nm_at eS13 h
  obtain ⟨S15, e14, h⟩ := bn1_some h
  refine x_putF (v := .ref S12.2) (ty := (.array .int)) (C := RX4) (T := TX4) (N := 24) (ci := 4) hx hb hts in_X4 tyX4 tyX4_ok nmX4 hown hK.1 hP hS rfl 5 (by decide) (hts _ q1254) (fun _ h9 => h9) rfl hmi rfl (by decide +kernel) rfl rfl e14 dX4_init_43 (fun H locs hP hS => ?_)
  refine lv_aload_n hx hb dX4_init_46 rfl (lv_at hl 0 rfl) ?_
  refine lv_iconst (v := (4 : Int32)) hx hb dX4_init_47 (by decide) ?_
  refine x_new0 (N' := 4) hx hb (hts _ q143) hK.1 hP hS hA (by decide) (by decide) (by decide) (by first | omega | (dsimp only; omega)) (by first | omega | (dsimp only; omega)) dX4_init_48 (fun H hP hS => ?_)
  obtain ⟨S16, eS16⟩ : ∃ y : XS, y = xnew S15 (aeI 0 4 (fun _ => 0)) := ⟨_, rfl⟩
  rw [← eS16] at hP
  have h := nm_at eS16 h
  obtain ⟨S18, e17, h⟩ := bn1_some h
  refine x_putF (v := .ref S15.2) (ty := (.array .int)) (C := RX4) (T := TX4) (N := 24) (ci := 4) hx hb hts in_X4 tyX4 tyX4_ok nmX4 hown hK.1 hP hS rfl 6 (by decide) (hts _ q1255) (fun _ h9 => h9) rfl hmi rfl (by decide +kernel) rfl rfl e17 dX4_init_50 (fun H locs hP hS => ?_)
  refine lv_aload_n hx hb dX4_init_53 rfl (lv_at hl 0 rfl) ?_
  refine lv_bipush (v := (96 : Int32)) hx hb dX4_init_54 (by decide) ?_
  refine x_new0 (N' := 96) hx hb (hts _ q143) hK.1 hP hS hA (by decide) (by decide) (by decide) (by first | omega | (dsimp only; omega)) (by first | omega | (dsimp only; omega)) dX4_init_56 (fun H hP hS => ?_)
  obtain ⟨S19, eS19⟩ : ∃ y : XS, y = xnew S18 (aeI 0 96 (fun _ => 0)) := ⟨_, rfl⟩
  rw [← eS19] at hP
  have h := nm_at eS19 h
  obtain ⟨S21, e20, h⟩ := bn1_some h
  refine x_putF (v := .ref S18.2) (ty := (.array .int)) (C := RX4) (T := TX4) (N := 24) (ci := 4) hx hb hts in_X4 tyX4 tyX4_ok nmX4 hown hK.1 hP hS rfl 7 (by decide) (hts _ q1256) (fun _ h9 => h9) rfl hmi rfl (by decide +kernel) rfl rfl e20 dX4_init_58 (fun H locs hP hS => ?_)
  refine lv_aload_n hx hb dX4_init_61 rfl (lv_at hl 0 rfl) ?_
  refine lv_bipush (v := (16 : Int32)) hx hb dX4_init_62 (by decide) ?_
  refine x_new3 (N' := 16) hx hb (hts _ q278) hK.1 hP hS hA (by decide) (by decide) (by decide) (by first | omega | (dsimp only; omega)) (by first | omega | (dsimp only; omega)) dX4_init_64 (fun H hP hS => ?_)
  obtain ⟨S22, eS22⟩ : ∃ y : XS, y = xnew S21 (aeL 16 (fun _ => 0)) := ⟨_, rfl⟩
  rw [← eS22] at hP
  have h := nm_at eS22 h
  obtain ⟨S24, e23, h⟩ := bn1_some h
  refine x_putF (v := .ref S21.2) (ty := (.array .long)) (C := RX4) (T := TX4) (N := 24) (ci := 4) hx hb hts in_X4 tyX4 tyX4_ok nmX4 hown hK.1 hP hS rfl 8 (by decide) (hts _ q1257) (fun _ h9 => h9) rfl hmi rfl (by decide +kernel) rfl rfl e23 dX4_init_66 (fun H locs hP hS => ?_)
  refine lv_aload_n hx hb dX4_init_69 rfl (lv_at hl 0 rfl) ?_
  refine lv_iconst (v := (4 : Int32)) hx hb dX4_init_70 (by decide) ?_
  refine x_new3 (N' := 4) hx hb (hts _ q278) hK.1 hP hS hA (by decide) (by decide) (by decide) (by first | omega | (dsimp only; omega)) (by first | omega | (dsimp only; omega)) dX4_init_71 (fun H hP hS => ?_)
  obtain ⟨S25, eS25⟩ : ∃ y : XS, y = xnew S24 (aeL 4 (fun _ => 0)) := ⟨_, rfl⟩
  rw [← eS25] at hP
  have h := nm_at eS25 h
  obtain ⟨S27, e26, h⟩ := bn1_some h
  refine x_putF (v := .ref S24.2) (ty := (.array .long)) (C := RX4) (T := TX4) (N := 24) (ci := 4) hx hb hts in_X4 tyX4 tyX4_ok nmX4 hown hK.1 hP hS rfl 9 (by decide) (hts _ q1258) (fun _ h9 => h9) rfl hmi rfl (by decide +kernel) rfl rfl e26 dX4_init_73 (fun H locs hP hS => ?_)
  refine lv_aload_n hx hb dX4_init_76 rfl (lv_at hl 0 rfl) ?_
  refine lv_iconst (v := (4 : Int32)) hx hb dX4_init_77 (by decide) ?_
  refine x_new3 (N' := 4) hx hb (hts _ q278) hK.1 hP hS hA (by decide) (by decide) (by decide) (by first | omega | (dsimp only; omega)) (by first | omega | (dsimp only; omega)) dX4_init_78 (fun H hP hS => ?_)
  obtain ⟨S28, eS28⟩ : ∃ y : XS, y = xnew S27 (aeL 4 (fun _ => 0)) := ⟨_, rfl⟩
  rw [← eS28] at hP
  have h := nm_at eS28 h
  obtain ⟨S30, e29, h⟩ := bn1_some h
  refine x_putF (v := .ref S27.2) (ty := (.array .long)) (C := RX4) (T := TX4) (N := 24) (ci := 4) hx hb hts in_X4 tyX4 tyX4_ok nmX4 hown hK.1 hP hS rfl 10 (by decide) (hts _ q1259) (fun _ h9 => h9) rfl hmi rfl (by decide +kernel) rfl rfl e29 dX4_init_80 (fun H locs hP hS => ?_)
  refine lv_aload_n hx hb dX4_init_83 rfl (lv_at hl 0 rfl) ?_
  refine lv_bipush (v := (60 : Int32)) hx hb dX4_init_84 (by decide) ?_
  refine x_new0 (N' := 60) hx hb (hts _ q143) hK.1 hP hS hA (by decide) (by decide) (by decide) (by first | omega | (dsimp only; omega)) (by first | omega | (dsimp only; omega)) dX4_init_86 (fun H hP hS => ?_)
  obtain ⟨S31, eS31⟩ : ∃ y : XS, y = xnew S30 (aeI 0 60 (fun _ => 0)) := ⟨_, rfl⟩
  rw [← eS31] at hP
  have h := nm_at eS31 h
  obtain ⟨S33, e32, h⟩ := bn1_some h
  refine x_putF (v := .ref S30.2) (ty := (.array .int)) (C := RX4) (T := TX4) (N := 24) (ci := 4) hx hb hts in_X4 tyX4 tyX4_ok nmX4 hown hK.1 hP hS rfl 12 (by decide) (hts _ q1261) (fun _ h9 => h9) rfl hmi rfl (by decide +kernel) rfl rfl e32 dX4_init_88 (fun H locs hP hS => ?_)
  refine lv_aload_n hx hb dX4_init_91 rfl (lv_at hl 0 rfl) ?_
  refine lv_bipush (v := (60 : Int32)) hx hb dX4_init_92 (by decide) ?_
  refine x_new0 (N' := 60) hx hb (hts _ q143) hK.1 hP hS hA (by decide) (by decide) (by decide) (by first | omega | (dsimp only; omega)) (by first | omega | (dsimp only; omega)) dX4_init_94 (fun H hP hS => ?_)
  obtain ⟨S34, eS34⟩ : ∃ y : XS, y = xnew S33 (aeI 0 60 (fun _ => 0)) := ⟨_, rfl⟩
  rw [← eS34] at hP
  have h := nm_at eS34 h
  obtain ⟨S36, e35, h⟩ := bn1_some h
  refine x_putF (v := .ref S33.2) (ty := (.array .int)) (C := RX4) (T := TX4) (N := 24) (ci := 4) hx hb hts in_X4 tyX4 tyX4_ok nmX4 hown hK.1 hP hS rfl 13 (by decide) (hts _ q1262) (fun _ h9 => h9) rfl hmi rfl (by decide +kernel) rfl rfl e35 dX4_init_96 (fun H locs hP hS => ?_)
  refine lv_aload_n hx hb dX4_init_99 rfl (lv_at hl 0 rfl) ?_
  refine lv_iconst (v := (3 : Int32)) hx hb dX4_init_100 (by decide) ?_
  refine x_new0 (N' := 3) hx hb (hts _ q143) hK.1 hP hS hA (by decide) (by decide) (by decide) (by first | omega | (dsimp only; omega)) (by first | omega | (dsimp only; omega)) dX4_init_101 (fun H hP hS => ?_)
  obtain ⟨S37, eS37⟩ : ∃ y : XS, y = xnew S36 (aeI 0 3 (fun _ => 0)) := ⟨_, rfl⟩
  rw [← eS37] at hP
  have h := nm_at eS37 h
  obtain ⟨S39, e38, h⟩ := bn1_some h
  refine x_putF (v := .ref S36.2) (ty := (.array .int)) (C := RX4) (T := TX4) (N := 24) (ci := 4) hx hb hts in_X4 tyX4 tyX4_ok nmX4 hown hK.1 hP hS rfl 14 (by decide) (hts _ q1263) (fun _ h9 => h9) rfl hmi rfl (by decide +kernel) rfl rfl e38 dX4_init_103 (fun H locs hP hS => ?_)
  refine lv_aload_n hx hb dX4_init_106 rfl (lv_at hl 0 rfl) ?_
  refine lv_bipush (v := (60 : Int32)) hx hb dX4_init_107 (by decide) ?_
  refine x_new0 (N' := 60) hx hb (hts _ q143) hK.1 hP hS hA (by decide) (by decide) (by decide) (by first | omega | (dsimp only; omega)) (by first | omega | (dsimp only; omega)) dX4_init_109 (fun H hP hS => ?_)
  obtain ⟨S40, eS40⟩ : ∃ y : XS, y = xnew S39 (aeI 0 60 (fun _ => 0)) := ⟨_, rfl⟩
  rw [← eS40] at hP
  have h := nm_at eS40 h
  obtain ⟨S42, e41, h⟩ := bn1_some h
  refine x_putF (v := .ref S39.2) (ty := (.array .int)) (C := RX4) (T := TX4) (N := 24) (ci := 4) hx hb hts in_X4 tyX4 tyX4_ok nmX4 hown hK.1 hP hS rfl 15 (by decide) (hts _ q1264) (fun _ h9 => h9) rfl hmi rfl (by decide +kernel) rfl rfl e41 dX4_init_111 (fun H locs hP hS => ?_)
  refine lv_aload_n hx hb dX4_init_114 rfl (lv_at hl 0 rfl) ?_
  refine lv_bipush (v := (30 : Int32)) hx hb dX4_init_115 (by decide) ?_
  refine x_new0 (N' := 30) hx hb (hts _ q143) hK.1 hP hS hA (by decide) (by decide) (by decide) (by first | omega | (dsimp only; omega)) (by first | omega | (dsimp only; omega)) dX4_init_117 (fun H hP hS => ?_)
  obtain ⟨S43, eS43⟩ : ∃ y : XS, y = xnew S42 (aeI 0 30 (fun _ => 0)) := ⟨_, rfl⟩
  rw [← eS43] at hP
  have h := nm_at eS43 h
  obtain ⟨S45, e44, h⟩ := bn1_some h
  refine x_putF (v := .ref S42.2) (ty := (.array .int)) (C := RX4) (T := TX4) (N := 24) (ci := 4) hx hb hts in_X4 tyX4 tyX4_ok nmX4 hown hK.1 hP hS rfl 21 (by decide) (hts _ q1270) (fun _ h9 => h9) rfl hmi rfl (by decide +kernel) rfl rfl e44 dX4_init_119 (fun H locs hP hS => ?_)
  refine lv_aload_n hx hb dX4_init_122 rfl (lv_at hl 0 rfl) ?_
  obtain ⟨a47, e46, h⟩ := bn1_some h
  refine x_get (C := RX4) (T := TX4) (N := 24) (ci := 4) hx hb hts in_X4 hown hK.1 hP rfl 0 (by decide) (hts _ q1249) (fun _ h9 => h9) (gR_some e46) dX4_init_123 ?_
  refine lv_iconst (v := (1 : Int32)) hx hb dX4_init_126 (by decide) ?_
  refine lv_iconst (v := (1 : Int32)) hx hb dX4_init_127 (by decide) ?_
  obtain ⟨S49, e48, h⟩ := bn1_some h
  refine x_iast hx hb hK.1 hP hS e48 dX4_init_128 (fun H locs hP hS => ?_)
  refine lv_aload_n hx hb dX4_init_129 rfl (lv_at hl 0 rfl) ?_
  obtain ⟨a51, e50, h⟩ := bn1_some h
  refine x_get (C := RX4) (T := TX4) (N := 24) (ci := 4) hx hb hts in_X4 hown hK.1 hP rfl 0 (by decide) (hts _ q1249) (fun _ h9 => h9) (gR_some e50) dX4_init_130 ?_
  refine lv_iconst (v := (3 : Int32)) hx hb dX4_init_133 (by decide) ?_
  refine lv_iconst (v := (2 : Int32)) hx hb dX4_init_134 (by decide) ?_
  obtain ⟨S53, e52, h⟩ := bn1_some h
  refine x_iast hx hb hK.1 hP hS e52 dX4_init_135 (fun H locs hP hS => ?_)
  refine lv_aload_n hx hb dX4_init_136 rfl (lv_at hl 0 rfl) ?_
  obtain ⟨a55, e54, h⟩ := bn1_some h
  refine x_get (C := RX4) (T := TX4) (N := 24) (ci := 4) hx hb hts in_X4 hown hK.1 hP rfl 0 (by decide) (hts _ q1249) (fun _ h9 => h9) (gR_some e54) dX4_init_137 ?_
  refine lv_iconst (v := (4 : Int32)) hx hb dX4_init_140 (by decide) ?_
  refine lv_bipush (v := (20 : Int32)) hx hb dX4_init_141 (by decide) ?_
  obtain ⟨S57, e56, h⟩ := bn1_some h
  refine x_iast hx hb hK.1 hP hS e56 dX4_init_143 (fun H locs hP hS => ?_)
  refine W.widen (k := 15) (n := 1494) (by omega) (by omega) ?_
  exact ret _ _ _ _ _ dX4_init_144 hP hS h
