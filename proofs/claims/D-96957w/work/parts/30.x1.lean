def fJ8_bitCount (x0 : Int32) (S : XS) : Option (Int32 × XS) :=
nm (x0 - ((((x0).toUInt32 >>> (((1 : Int32)).toUInt32 &&& Int32.toUInt32 31)).toInt32) &&& (1431655765 : Int32))) fun y1 =>
nm ((y1 &&& (858993459 : Int32)) + ((((y1).toUInt32 >>> (((2 : Int32)).toUInt32 &&& Int32.toUInt32 31)).toInt32) &&& (858993459 : Int32))) fun y2 =>
nm ((y2 + (((y2).toUInt32 >>> (((4 : Int32)).toUInt32 &&& Int32.toUInt32 31)).toInt32)) &&& (252645135 : Int32)) fun y3 =>
nm (y3 + (((y3).toUInt32 >>> (((8 : Int32)).toUInt32 &&& Int32.toUInt32 31)).toInt32)) fun y4 =>
nm (y4 + (((y4).toUInt32 >>> (((16 : Int32)).toUInt32 &&& Int32.toUInt32 31)).toInt32)) fun y5 =>
some ((y5 &&& (63 : Int32)), S)
set_option maxHeartbeats 4000000 in
set_option maxRecDepth 100000 in
theorem mJ8_bitCount {l : Launch} {D : va_G} {cA : Nat → ClassId} {A : Nat → Prop} (x0 : Int32) (S : XS) {out : (Int32 × XS)} (h : fJ8_bitCount x0 S = some out) : Met l yJ8_bitCount (ws_ yJ8_bitCount cJ8_bitCount 1 (some .int)) ({ frames := 0, cells := 0, slots := 0, locals := 0 } : Room) (gPc (xK D cA A) (xP D cA A) A [.int x0] S) (gQi (xK D cA A) (xP D cA A) A out) 0 0 A := by
  refine gMet_z (by decide) (Nat.le_of_ble_eq_true rfl) ?_ xKst
  intro p e s m below meth c Q ls args H locs hC hP hS hl ret
  obtain ⟨hx, hb, hml, hown, hts, hA, hK⟩ := hC
  have hown : s.vm.findClass RJ8 = some m.cls := hown
  have hl : lv_has ls 1 [(0, .int x0)] := hl
  unfold fJ8_bitCount at h
  refine lv_iload_n hx hb dJ8_bitCount_0 rfl (lv_at hl 0 rfl) ?_
  refine lv_iload_n hx hb dJ8_bitCount_1 rfl (lv_at hl 0 rfl) ?_
  refine lv_iconst (v := (1 : Int32)) hx hb dJ8_bitCount_2 (by decide) ?_
  refine lv_iushr hx hb dJ8_bitCount_3 rfl ?_
  refine lv_ldcw (v := (1431655765 : Int32)) hx hb hown (hts _ q926) dJ8_bitCount_4 ?_
  refine lv_iand hx hb dJ8_bitCount_7 ?_
  refine lv_isub hx hb dJ8_bitCount_8 ?_
  refine lv_topi (fun y1 ey1 => ?_)
  have h := nm_at ey1 h
  refine lv_istore_n (lv' := [(0, .int y1)]) hx hb dJ8_bitCount_9 rfl hl (by decide) rfl (fun ls hl => ?_)
  refine lv_iload_n hx hb dJ8_bitCount_10 rfl (lv_at hl 0 rfl) ?_
  refine lv_ldcw (v := (858993459 : Int32)) hx hb hown (hts _ q927) dJ8_bitCount_11 ?_
  refine lv_iand hx hb dJ8_bitCount_14 ?_
  refine lv_iload_n hx hb dJ8_bitCount_15 rfl (lv_at hl 0 rfl) ?_
  refine lv_iconst (v := (2 : Int32)) hx hb dJ8_bitCount_16 (by decide) ?_
  refine lv_iushr hx hb dJ8_bitCount_17 rfl ?_
  refine lv_ldcw (v := (858993459 : Int32)) hx hb hown (hts _ q927) dJ8_bitCount_18 ?_
  refine lv_iand hx hb dJ8_bitCount_21 ?_
  refine lv_iadd hx hb dJ8_bitCount_22 ?_
  refine lv_topi (fun y2 ey2 => ?_)
  have h := nm_at ey2 h
  refine lv_istore_n (lv' := [(0, .int y2)]) hx hb dJ8_bitCount_23 rfl hl (by decide) rfl (fun ls hl => ?_)
  refine lv_iload_n hx hb dJ8_bitCount_24 rfl (lv_at hl 0 rfl) ?_
  refine lv_iload_n hx hb dJ8_bitCount_25 rfl (lv_at hl 0 rfl) ?_
  refine lv_iconst (v := (4 : Int32)) hx hb dJ8_bitCount_26 (by decide) ?_
  refine lv_iushr hx hb dJ8_bitCount_27 rfl ?_
  refine lv_iadd hx hb dJ8_bitCount_28 ?_
  refine lv_ldcw (v := (252645135 : Int32)) hx hb hown (hts _ q928) dJ8_bitCount_29 ?_
  refine lv_iand hx hb dJ8_bitCount_32 ?_
  refine lv_topi (fun y3 ey3 => ?_)
  have h := nm_at ey3 h
  refine lv_istore_n (lv' := [(0, .int y3)]) hx hb dJ8_bitCount_33 rfl hl (by decide) rfl (fun ls hl => ?_)
  refine lv_iload_n hx hb dJ8_bitCount_34 rfl (lv_at hl 0 rfl) ?_
  refine lv_iload_n hx hb dJ8_bitCount_35 rfl (lv_at hl 0 rfl) ?_
  refine lv_bipush (v := (8 : Int32)) hx hb dJ8_bitCount_36 (by decide) ?_
  refine lv_iushr hx hb dJ8_bitCount_38 rfl ?_
  refine lv_iadd hx hb dJ8_bitCount_39 ?_
  refine lv_topi (fun y4 ey4 => ?_)
  have h := nm_at ey4 h
  refine lv_istore_n (lv' := [(0, .int y4)]) hx hb dJ8_bitCount_40 rfl hl (by decide) rfl (fun ls hl => ?_)
  refine lv_iload_n hx hb dJ8_bitCount_41 rfl (lv_at hl 0 rfl) ?_
  refine lv_iload_n hx hb dJ8_bitCount_42 rfl (lv_at hl 0 rfl) ?_
  refine lv_bipush (v := (16 : Int32)) hx hb dJ8_bitCount_43 (by decide) ?_
  refine lv_iushr hx hb dJ8_bitCount_45 rfl ?_
  refine lv_iadd hx hb dJ8_bitCount_46 ?_
  refine lv_topi (fun y5 ey5 => ?_)
  have h := nm_at ey5 h
  refine lv_istore_n (lv' := [(0, .int y5)]) hx hb dJ8_bitCount_47 rfl hl (by decide) rfl (fun ls hl => ?_)
  refine lv_iload_n hx hb dJ8_bitCount_48 rfl (lv_at hl 0 rfl) ?_
  refine lv_bipush (v := (63 : Int32)) hx hb dJ8_bitCount_49 (by decide) ?_
  refine lv_iand hx hb dJ8_bitCount_51 ?_
  exact ret _ _ _ _ _ _ dJ8_bitCount_52 rfl hP hS h

def fX2_init (x0 : Nat) (S : XS) : Option XS :=
some S
set_option maxHeartbeats 4000000 in
set_option maxRecDepth 100000 in
theorem mX2_init {l : Launch} {D : va_G} {cA : Nat → ClassId} {A : Nat → Prop} (x0 : Nat) (S : XS) {out : XS} (h : fX2_init x0 S = some out) : Met l yX2_init (ws_ yX2_init cX2_init 1 none) ({ frames := 1, cells := 0, slots := 0, locals := 24 } : Room) (gPc (xK D cA A) (xP D cA A) A [.ref x0] S) (gQv (xK D cA A) (xP D cA A) A out) 0 0 A := by
  refine gMet_v (by decide) (Nat.le_of_ble_eq_true rfl) ?_ xKst
  intro p e s m below meth c Q ls args H locs hC hP hS hl hmi ret
  obtain ⟨hx, hb, hml, hown, hts, hA, hK⟩ := hC
  have hown : s.vm.findClass RX2 = some m.cls := hown
  have hl : lv_has ls 1 [(0, .ref x0)] := hl
  have hmi := hmi rfl
  unfold fX2_init at h
  refine lv_aload_n hx hb dX2_init_0 rfl (lv_at hl 0 rfl) ?_
  refine W.objInit hx hb hown (hts _ q137) (hts _ q121) (hts _ q122) rfl (by rw [hml]; exact hl.1) rfl dX2_init_1 (Nat.le_of_ble_eq_true rfl) (Nat.le_of_ble_eq_true rfl) ?_
  refine W.eq (g2 := F0 m 4 ls []) rfl ?_
  exact ret _ _ _ _ _ dX2_init_4 hP hS h

def fX3_init (x0 : Nat) (S : XS) : Option XS :=
nm (xnew S (aeI 1 30 (fun _ => 0))) fun S1 =>
bn1 (pF S1 x0 3 0 (.ref S.2)) fun S3 =>
some S3
set_option maxHeartbeats 4000000 in
set_option maxRecDepth 100000 in
theorem mX3_init {l : Launch} {D : va_G} {cA : Nat → ClassId} {A : Nat → Prop} (x0 : Nat) (S : XS) {out : XS} (h : fX3_init x0 S = some out) : Met l yX3_init (ws_ yX3_init cX3_init 1 none) ({ frames := 1, cells := 1, slots := 30, locals := 24 } : Room) (gPc (xK D cA A) (xP D cA A) A [.ref x0] S) (gQv (xK D cA A) (xP D cA A) A out) 1 30 A := by
  refine gMet_v (by decide) (Nat.le_of_ble_eq_true rfl) ?_ xKst
  intro p e s m below meth c Q ls args H locs hC hP hS hl hmi ret
  obtain ⟨hx, hb, hml, hown, hts, hA, hK⟩ := hC
  have hown : s.vm.findClass RX3 = some m.cls := hown
  have hl : lv_has ls 1 [(0, .ref x0)] := hl
  have hmi := hmi rfl
  unfold fX3_init at h
  refine lv_aload_n hx hb dX3_init_0 rfl (lv_at hl 0 rfl) ?_
  refine W.objInit hx hb hown (hts _ q215) (hts _ q121) (hts _ q122) rfl (by rw [hml]; exact hl.1) rfl dX3_init_1 (Nat.le_of_ble_eq_true rfl) (Nat.le_of_ble_eq_true rfl) ?_
  refine W.eq (g2 := F0 m 4 ls []) rfl ?_
  refine lv_aload_n hx hb dX3_init_4 rfl (lv_at hl 0 rfl) ?_
  refine lv_bipush (v := (30 : Int32)) hx hb dX3_init_5 (by decide) ?_
  refine x_new1 (N' := 30) hx hb (hts _ q144) hK.1 hP hS hA (by decide) (by decide) (by decide) (by first | omega | (dsimp only; omega)) (by first | omega | (dsimp only; omega)) dX3_init_7 (fun H hP hS => ?_)
  obtain ⟨S1, eS1⟩ : ∃ y : XS, y = xnew S (aeI 1 30 (fun _ => 0)) := ⟨_, rfl⟩
  rw [← eS1] at hP
  have h := nm_at eS1 h
  obtain ⟨S3, e2, h⟩ := bn1_some h
  refine x_putF (v := .ref S.2) (ty := (.array .byte)) (C := RX3) (T := TX3) (N := 2) (ci := 3) hx hb hts in_X3 tyX3 tyX3_ok nmX3 hown hK.1 hP hS rfl 0 (by decide) (hts _ q216) (fun _ h9 => h9) rfl hmi rfl (by decide +kernel) rfl rfl e2 dX3_init_9 (fun H locs hP hS => ?_)
  refine W.widen (k := 1) (n := 30) (by omega) (by omega) ?_
  exact ret _ _ _ _ _ dX3_init_12 hP hS h

def bX3_ran_27 (x0 : Nat) (S : XS) : Option XS :=
some S
def fX3_ran (x0 : Nat) (x1 : Int32) (S : XS) : Option XS :=
bn1 (gI S x0 3 1) fun v2 =>
(if (30 : Int32) ≤ v2 then
bX3_ran_27 x0 S
else
bn1 (gR S x0 3 0) fun a5 =>
bn1 (gI S x0 3 1) fun v7 =>
nm (v7 + (1 : Int32)) fun y8 =>
bn1 (pF S x0 3 1 (.int y8)) fun S10 =>
bn1 (sI S10 a5 1 v7 ((x1).toInt8.toInt32)) fun S12 =>
bX3_ran_27 x0 S12)
set_option maxHeartbeats 4000000 in
set_option maxRecDepth 100000 in
theorem mX3_ran {l : Launch} {D : va_G} {cA : Nat → ClassId} {A : Nat → Prop} (x0 : Nat) (x1 : Int32) (S : XS) {out : XS} (h : fX3_ran x0 x1 S = some out) : Met l yX3_ran (ws_ yX3_ran cX3_ran 2 none) ({ frames := 0, cells := 0, slots := 0, locals := 0 } : Room) (gPc (xK D cA A) (xP D cA A) A [.ref x0, .int x1] S) (gQv (xK D cA A) (xP D cA A) A out) 0 0 A := by
  refine gMet_v (by decide) (Nat.le_of_ble_eq_true rfl) ?_ xKst
  intro p e s m below meth c Q ls args H locs hC hP hS hl hmi ret
  obtain ⟨hx, hb, hml, hown, hts, hA, hK⟩ := hC
  have hown : s.vm.findClass RX3 = some m.cls := hown
  have hl : lv_has ls 2 [(0, .ref x0), (1, .int x1)] := hl
  have B27 : ∀ (x0 : Nat) (S : XS) (H : Heap) (locs : List Loc) (ls : Array Slot), xP D cA A S H → va_S A s.heap H locs → lv_has ls 2 [(0, .ref x0)] → bX3_ran_27  x0 S = some out → W p l e ({ frames := 0, cells := 0, slots := 0, locals := 0 } : Room) s m args below meth c H locs 0 0 Q (F0 m 27 ls []) := by
    intro x0 S H locs ls hP hS hl h
    unfold bX3_ran_27 at h
    exact ret _ _ _ _ _ dX3_ran_27 hP hS h
  unfold fX3_ran at h
  refine lv_aload_n hx hb dX3_ran_0 rfl (lv_at hl 0 rfl) ?_
  obtain ⟨v2, e1, h⟩ := bn1_some h
  refine x_get (C := RX3) (T := TX3) (N := 2) (ci := 3) hx hb hts in_X3 hown hK.1 hP rfl 1 (by decide) (hts _ q218) (fun _ h9 => h9) (gI_some e1) dX3_ran_1 ?_
  refine lv_bipush (v := (30 : Int32)) hx hb dX3_ran_4 (by decide) ?_
  refine lv_icmp_ge (tgt := 27) hx hb dX3_ran_6 (by decide) (fun c3 => ?_) (fun c3 => ?_)
  · have h := ite_t c3 h
    exact B27 x0 S _ _ _ hP hS (lv_sub hl [0] rfl) h
  · have h := ite_f c3 h
    refine lv_aload_n hx hb dX3_ran_9 rfl (lv_at hl 0 rfl) ?_
    obtain ⟨a5, e4, h⟩ := bn1_some h
    refine x_get (C := RX3) (T := TX3) (N := 2) (ci := 3) hx hb hts in_X3 hown hK.1 hP rfl 0 (by decide) (hts _ q216) (fun _ h9 => h9) (gR_some e4) dX3_ran_10 ?_
    refine lv_aload_n hx hb dX3_ran_13 rfl (lv_at hl 0 rfl) ?_
    refine lv_dup hx hb dX3_ran_14 rfl ?_
    obtain ⟨v7, e6, h⟩ := bn1_some h
    refine x_get (C := RX3) (T := TX3) (N := 2) (ci := 3) hx hb hts in_X3 hown hK.1 hP rfl 1 (by decide) (hts _ q218) (fun _ h9 => h9) (gI_some e6) dX3_ran_15 ?_
    refine lv_dup_x1 hx hb dX3_ran_18 rfl rfl ?_
    refine lv_iconst (v := (1 : Int32)) hx hb dX3_ran_19 (by decide) ?_
    refine lv_iadd hx hb dX3_ran_20 ?_
    refine lv_topi (fun y8 ey8 => ?_)
    have h := nm_at ey8 h
    obtain ⟨S10, e9, h⟩ := bn1_some h
    refine x_put (v := .int y8) (ty := .int) (C := RX3) (T := TX3) (N := 2) (ci := 3) hx hb hts in_X3 tyX3 tyX3_ok nmX3 hown hK.1 hP hS rfl 1 (by decide) (hts _ q218) (fun _ h9 => h9) rfl (by decide +kernel) rfl rfl e9 dX3_ran_21 (fun H locs hP hS => ?_)
    refine lv_iload_n hx hb dX3_ran_24 rfl (lv_at hl 1 rfl) ?_
    refine lv_i2b hx hb dX3_ran_25 rfl ?_
    obtain ⟨S12, e11, h⟩ := bn1_some h
    refine x_bast hx hb hK.1 hP hS e11 dX3_ran_26 (fun H locs hP hS => ?_)
    exact B27 x0 S12 _ _ _ hP hS (lv_sub hl [0] rfl) h

def fX13_init (x0 : Nat) (S : XS) : Option XS :=
nm (xnew S (aeI 1 60 (fun _ => 0))) fun S1 =>
bn1 (pF S1 x0 13 0 (.ref S.2)) fun S3 =>
nm (xnew S3 (aeI 2 60 (fun _ => 0))) fun S4 =>
bn1 (pF S4 x0 13 1 (.ref S3.2)) fun S6 =>
some S6
set_option maxHeartbeats 4000000 in
set_option maxRecDepth 100000 in
theorem mX13_init {l : Launch} {D : va_G} {cA : Nat → ClassId} {A : Nat → Prop} (x0 : Nat) (S : XS) {out : XS} (h : fX13_init x0 S = some out) : Met l yX13_init (ws_ yX13_init cX13_init 1 none) ({ frames := 1, cells := 2, slots := 120, locals := 24 } : Room) (gPc (xK D cA A) (xP D cA A) A [.ref x0] S) (gQv (xK D cA A) (xP D cA A) A out) 2 120 A := by
  refine gMet_v (by decide) (Nat.le_of_ble_eq_true rfl) ?_ xKst
  intro p e s m below meth c Q ls args H locs hC hP hS hl hmi ret
  obtain ⟨hx, hb, hml, hown, hts, hA, hK⟩ := hC
  have hown : s.vm.findClass RX13 = some m.cls := hown
  have hl : lv_has ls 1 [(0, .ref x0)] := hl
  have hmi := hmi rfl
  unfold fX13_init at h
  refine lv_aload_n hx hb dX13_init_0 rfl (lv_at hl 0 rfl) ?_
  refine W.objInit hx hb hown (hts _ q623) (hts _ q121) (hts _ q122) rfl (by rw [hml]; exact hl.1) rfl dX13_init_1 (Nat.le_of_ble_eq_true rfl) (Nat.le_of_ble_eq_true rfl) ?_
  refine W.eq (g2 := F0 m 4 ls []) rfl ?_
  refine lv_aload_n hx hb dX13_init_4 rfl (lv_at hl 0 rfl) ?_
  refine lv_bipush (v := (60 : Int32)) hx hb dX13_init_5 (by decide) ?_
  refine x_new1 (N' := 60) hx hb (hts _ q144) hK.1 hP hS hA (by decide) (by decide) (by decide) (by first | omega | (dsimp only; omega)) (by first | omega | (dsimp only; omega)) dX13_init_7 (fun H hP hS => ?_)
  obtain ⟨S1, eS1⟩ : ∃ y : XS, y = xnew S (aeI 1 60 (fun _ => 0)) := ⟨_, rfl⟩
  rw [← eS1] at hP
  have h := nm_at eS1 h
  obtain ⟨S3, e2, h⟩ := bn1_some h
  refine x_putF (v := .ref S.2) (ty := (.array .byte)) (C := RX13) (T := TX13) (N := 3) (ci := 13) hx hb hts in_X13 tyX13 tyX13_ok nmX13 hown hK.1 hP hS rfl 0 (by decide) (hts _ q624) (fun _ h9 => h9) rfl hmi rfl (by decide +kernel) rfl rfl e2 dX13_init_9 (fun H locs hP hS => ?_)
  refine lv_aload_n hx hb dX13_init_12 rfl (lv_at hl 0 rfl) ?_
  refine lv_bipush (v := (60 : Int32)) hx hb dX13_init_13 (by decide) ?_
  refine x_new2 (N' := 60) hx hb (hts _ q637) hK.1 hP hS hA (by decide) (by decide) (by decide) (by first | omega | (dsimp only; omega)) (by first | omega | (dsimp only; omega)) dX13_init_15 (fun H hP hS => ?_)
  obtain ⟨S4, eS4⟩ : ∃ y : XS, y = xnew S3 (aeI 2 60 (fun _ => 0)) := ⟨_, rfl⟩
  rw [← eS4] at hP
  have h := nm_at eS4 h
  obtain ⟨S6, e5, h⟩ := bn1_some h
  refine x_putF (v := .ref S3.2) (ty := (.array .short)) (C := RX13) (T := TX13) (N := 3) (ci := 13) hx hb hts in_X13 tyX13 tyX13_ok nmX13 hown hK.1 hP hS rfl 1 (by decide) (hts _ q626) (fun _ h9 => h9) rfl hmi rfl (by decide +kernel) rfl rfl e5 dX13_init_17 (fun H locs hP hS => ?_)
  refine W.widen (k := 2) (n := 120) (by omega) (by omega) ?_
  exact ret _ _ _ _ _ dX13_init_20 hP hS h

def fX13_add (x0 : Nat) (x1 : Int32) (x2 : Int32) (S : XS) : Option XS :=
bn1 (gR S x0 13 0) fun a2 =>
bn1 (gI S x0 13 2) fun v4 =>
bn1 (sI S a2 1 v4 ((x1).toInt8.toInt32)) fun S6 =>
bn1 (gR S6 x0 13 1) fun a8 =>
bn1 (gI S6 x0 13 2) fun v10 =>
bn1 (sI S6 a8 2 v10 ((x2).toInt16.toInt32)) fun S12 =>
bn1 (gI S12 x0 13 2) fun v14 =>
nm (v14 + (1 : Int32)) fun y15 =>
bn1 (pF S12 x0 13 2 (.int y15)) fun S17 =>
some S17
set_option maxHeartbeats 4000000 in
set_option maxRecDepth 100000 in
theorem mX13_add {l : Launch} {D : va_G} {cA : Nat → ClassId} {A : Nat → Prop} (x0 : Nat) (x1 : Int32) (x2 : Int32) (S : XS) {out : XS} (h : fX13_add x0 x1 x2 S = some out) : Met l yX13_add (ws_ yX13_add cX13_add 3 none) ({ frames := 0, cells := 0, slots := 0, locals := 0 } : Room) (gPc (xK D cA A) (xP D cA A) A [.ref x0, .int x1, .int x2] S) (gQv (xK D cA A) (xP D cA A) A out) 0 0 A := by
  refine gMet_v (by decide) (Nat.le_of_ble_eq_true rfl) ?_ xKst
  intro p e s m below meth c Q ls args H locs hC hP hS hl hmi ret
  obtain ⟨hx, hb, hml, hown, hts, hA, hK⟩ := hC
  have hown : s.vm.findClass RX13 = some m.cls := hown
  have hl : lv_has ls 3 [(0, .ref x0), (1, .int x1), (2, .int x2)] := hl
  unfold fX13_add at h
  refine lv_aload_n hx hb dX13_add_0 rfl (lv_at hl 0 rfl) ?_
  obtain ⟨a2, e1, h⟩ := bn1_some h
  refine x_get (C := RX13) (T := TX13) (N := 3) (ci := 13) hx hb hts in_X13 hown hK.1 hP rfl 0 (by decide) (hts _ q624) (fun _ h9 => h9) (gR_some e1) dX13_add_1 ?_
  refine lv_aload_n hx hb dX13_add_4 rfl (lv_at hl 0 rfl) ?_
  obtain ⟨v4, e3, h⟩ := bn1_some h
  refine x_get (C := RX13) (T := TX13) (N := 3) (ci := 13) hx hb hts in_X13 hown hK.1 hP rfl 2 (by decide) (hts _ q628) (fun _ h9 => h9) (gI_some e3) dX13_add_5 ?_
  refine lv_iload_n hx hb dX13_add_8 rfl (lv_at hl 1 rfl) ?_
  refine lv_i2b hx hb dX13_add_9 rfl ?_
  obtain ⟨S6, e5, h⟩ := bn1_some h
  refine x_bast hx hb hK.1 hP hS e5 dX13_add_10 (fun H locs hP hS => ?_)
  refine lv_aload_n hx hb dX13_add_11 rfl (lv_at hl 0 rfl) ?_
  obtain ⟨a8, e7, h⟩ := bn1_some h
  refine x_get (C := RX13) (T := TX13) (N := 3) (ci := 13) hx hb hts in_X13 hown hK.1 hP rfl 1 (by decide) (hts _ q626) (fun _ h9 => h9) (gR_some e7) dX13_add_12 ?_
  refine lv_aload_n hx hb dX13_add_15 rfl (lv_at hl 0 rfl) ?_
  obtain ⟨v10, e9, h⟩ := bn1_some h
  refine x_get (C := RX13) (T := TX13) (N := 3) (ci := 13) hx hb hts in_X13 hown hK.1 hP rfl 2 (by decide) (hts _ q628) (fun _ h9 => h9) (gI_some e9) dX13_add_16 ?_
  refine lv_iload_n hx hb dX13_add_19 rfl (lv_at hl 2 rfl) ?_
  refine lv_i2s hx hb dX13_add_20 rfl ?_
  obtain ⟨S12, e11, h⟩ := bn1_some h
  refine x_sast hx hb hK.1 hP hS e11 dX13_add_21 (fun H locs hP hS => ?_)
  refine lv_aload_n hx hb dX13_add_22 rfl (lv_at hl 0 rfl) ?_
  refine lv_dup hx hb dX13_add_23 rfl ?_
  obtain ⟨v14, e13, h⟩ := bn1_some h
  refine x_get (C := RX13) (T := TX13) (N := 3) (ci := 13) hx hb hts in_X13 hown hK.1 hP rfl 2 (by decide) (hts _ q628) (fun _ h9 => h9) (gI_some e13) dX13_add_24 ?_
  refine lv_iconst (v := (1 : Int32)) hx hb dX13_add_27 (by decide) ?_
  refine lv_iadd hx hb dX13_add_28 ?_
  refine lv_topi (fun y15 ey15 => ?_)
  have h := nm_at ey15 h
  obtain ⟨S17, e16, h⟩ := bn1_some h
  refine x_put (v := .int y15) (ty := .int) (C := RX13) (T := TX13) (N := 3) (ci := 13) hx hb hts in_X13 tyX13 tyX13_ok nmX13 hown hK.1 hP hS rfl 2 (by decide) (hts _ q628) (fun _ h9 => h9) rfl (by decide +kernel) rfl rfl e16 dX13_add_29 (fun H locs hP hS => ?_)
  exact ret _ _ _ _ _ dX13_add_32 hP hS h

def bX1_init_87 (k87 : Nat → Int32 → XS → Option XS) (x0 : Nat) (x1 : Int32) (S : XS) : Option XS :=
(if (8 : Int32) ≤ x1 then
some S
else
bn1 (gR S x0 1 8) fun a3 =>
nm (xnew S (aeO 2 [.null])) fun S4 =>
bn1 (fX2_init (S.2) S4) fun S6 =>
chk (isC S6 (S.2) 2) (bn1 (sQ S6 a3 4 x1 (some (S.2))) fun S8 =>
nm (x1 + (1 : Int32)) fun y9 =>
k87 x0 y9 S8))
def lX1_init_87 : Nat → (Nat → Int32 → XS → Option XS)
  | 0 => fun _ _ _ => none
  | n + 1 => bX1_init_87 (lX1_init_87 n)
def fX1_init (x0 : Nat) (S : XS) : Option XS :=
bn1 (pF S x0 1 1 (.int (2 : Int32))) fun S12 =>
bn1 (pF S12 x0 1 3 (.int (20 : Int32))) fun S14 =>
bn1 (pF S14 x0 1 5 (.int (1 : Int32))) fun S16 =>
nm (xnew S16 (aeQ 4 8 (fun _ => none))) fun S17 =>
bn1 (pF S17 x0 1 8 (.ref S16.2)) fun S19 =>
nm (xnew S19 (aeI 0 8 (fun _ => 0))) fun S20 =>
bn1 (pF S20 x0 1 9 (.ref S19.2)) fun S22 =>
nm (xnew S22 (aeI 0 8 (fun _ => 0))) fun S23 =>
bn1 (pF S23 x0 1 10 (.ref S22.2)) fun S25 =>
nm (xnew S25 (aeI 0 8 (fun _ => 0))) fun S26 =>
bn1 (pF S26 x0 1 11 (.ref S25.2)) fun S28 =>
nm (xnew S28 (aeI 0 8 (fun _ => 0))) fun S29 =>
bn1 (pF S29 x0 1 12 (.ref S28.2)) fun S31 =>
nm (xnew S31 (aeQ 5 2 (fun _ => none))) fun S32 =>
bn1 (pF S32 x0 1 13 (.ref S31.2)) fun S34 =>
nm (xnew S34 (aeI 1 60 (fun _ => 0))) fun S35 =>
bn1 (pF S35 x0 1 14 (.ref S34.2)) fun S37 =>
nm (xnew S37 (aeI 0 24 (fun _ => 0))) fun S38 =>
bn1 (pF S38 x0 1 15 (.ref S37.2)) fun S40 =>
lX1_init_87 9 x0 (0 : Int32) S40
set_option maxHeartbeats 4000000 in
set_option maxRecDepth 100000 in
theorem mX1_init {l : Launch} {D : va_G} {cA : Nat → ClassId} {A : Nat → Prop} (x0 : Nat) (S : XS) {out : XS} (h : fX1_init x0 S = some out) : Met l yX1_init (ws_ yX1_init cX1_init 2 none) ({ frames := 2, cells := 17, slots := 135, locals := 44 } : Room) (gPc (xK D cA A) (xP D cA A) A [.ref x0] S) (gQv (xK D cA A) (xP D cA A) A out) 17 135 A := by
  refine gMet_v (by decide) (Nat.le_of_ble_eq_true rfl) ?_ xKst
  intro p e s m below meth c Q ls args H locs hC hP hS hl hmi ret
  obtain ⟨hx, hb, hml, hown, hts, hA, hK⟩ := hC
  have hown : s.vm.findClass RX1 = some m.cls := hown
  have hl : lv_has ls 2 [(0, .ref x0)] := hl
  have hmi := hmi rfl
  have L87 : ∀ (n87 : Nat), n87 ≤ 9 → ∀  (x0 : Nat) (x1 : Int32) (S : XS) (H : Heap) (locs : List Loc) (ls : Array Slot), xP D cA A S H → va_S A s.heap H locs → lv_has ls 2 [(0, .ref x0), (1, .int x1)] → lX1_init_87 n87 x0 x1 S = some out → W p l e ({ frames := 2, cells := 17, slots := 135, locals := 44 } : Room) s m args below meth c H locs (8 + (9 - n87) * 1 + 0) (126 + (9 - n87) * 1 + 0) Q (F0 m 87 ls []) := by
    intro n87
    induction n87 with
    | zero =>
      intro _ x0 x1 S H locs ls hP hS hl h
      cases h
    | succ n87 ih87 =>
      intro hn87
      intro x0 x1 S H locs ls hP hS hl h
      replace h : bX1_init_87 (lX1_init_87 n87) x0 x1 S = some out := h
      unfold bX1_init_87 at h
      refine lv_iload_n hx hb dX1_init_87 rfl (lv_at hl 1 rfl) ?_
      refine lv_bipush (v := (8 : Int32)) hx hb dX1_init_88 (by decide) ?_
      refine lv_icmp_ge (tgt := 112) hx hb dX1_init_90 (by decide) (fun c1 => ?_) (fun c1 => ?_)
      · have h := ite_t c1 h
        refine W.widen (k := 17) (n := 135) (by omega) (by omega) ?_
        exact ret _ _ _ _ _ dX1_init_112 hP hS h
      · have h := ite_f c1 h
        refine lv_aload_n hx hb dX1_init_93 rfl (lv_at hl 0 rfl) ?_
        obtain ⟨a3, e2, h⟩ := bn1_some h
        refine x_get (C := RX1) (T := TX1) (N := 16) (ci := 1) hx hb hts in_X1 hown hK.1 hP rfl 8 (by decide) (hts _ q161) (fun _ h9 => h9) (gR_some e2) dX1_init_94 ?_
        refine lv_iload_n hx hb dX1_init_97 rfl (lv_at hl 1 rfl) ?_
        refine x_new (C := RX2) (T := TX2) (N := 1) (ci := 2) (fs := [.null]) hx hb hts in_X2 tyX2 tyX2_ok hown (hts _ q129) (hts _ q133) (hts _ q88) hK.1 hP hS hA rfl (fun j hj => by rcases (show j = 0 by omega) with rfl <;> rfl) (by first | omega | (dsimp only; omega)) (by first | omega | (dsimp only; omega)) dX1_init_98 (fun H hP hS => ?_)
        obtain ⟨S4, eS4⟩ : ∃ y : XS, y = xnew S (aeO 2 [.null]) := ⟨_, rfl⟩
        rw [← eS4] at hP
        have h := nm_at eS4 h
        refine lv_dup hx hb dX1_init_101 rfl ?_
        obtain ⟨S6, e5, h⟩ := bn1_some h
        refine gc_v (va_runIN (As := []) (rest := [.ref S.2, .int x1, .ref a3]) ⟨hx, hb, hml, hown, hts⟩ (mX2_init (l := l) (D := D) (cA := cA) (A := A) (S.2) S4 e5) ⟨va_cnB 0 hts (lw_meth q136) rfl rfl rfl (hK.2.1 _ q134 rfl) (hts _ q88) (by decide +kernel) ⟨Nat.le_of_ble_eq_true rfl, Nat.le_of_ble_eq_true rfl⟩, rfl, hts _ q135⟩ (gPreS xKst hK hA hS hP) rfl rfl hl.1 rfl (lv_room (Nat.le_of_ble_eq_true rfl)) dX1_init_102 ⟨by first | omega | (dsimp only; omega), by first | omega | (dsimp only; omega)⟩) hS (fun H locs hP hS => ?_)
        obtain ⟨g10, h⟩ := chk_some h
        obtain ⟨S8, e7, h⟩ := bn1_some h
        obtain ⟨fg10, g10⟩ := isC_some g10
        refine x_astq (t := 4) (r := (RX2, TX2, 1)) hx hb hK.1 hP hS rfl rfl g10 e7 dX1_init_105 (fun H locs hP hS => ?_)
        obtain ⟨y9, ey9⟩ : ∃ y : Int32, y = x1 + (1 : Int32) := ⟨_, rfl⟩
        refine lv_iinc (v := y9) (lv' := [(1, .int y9), (0, .ref x0)]) hx hb dX1_init_106 hl (k := 1) rfl (by rw [ey9]; rfl) (by decide) rfl (fun ls hl => ?_)
        have h := nm_at ey9 h
        refine lv_goto (tgt := 87) hx hb dX1_init_109 (by decide) ?_
        refine W.widen (k := (8 + (9 - n87) * 1 + 0)) (n := (126 + (9 - n87) * 1 + 0)) (by omega) (by omega) ?_
        exact ih87 (by omega) x0 y9 S8 _ _ _ hP hS (lv_sub hl [1, 0] rfl) h
  unfold fX1_init at h
  refine lv_aload_n hx hb dX1_init_0 rfl (lv_at hl 0 rfl) ?_
  refine W.objInit hx hb hown (hts _ q128) (hts _ q121) (hts _ q122) rfl (by rw [hml]; exact hl.1) rfl dX1_init_1 (Nat.le_of_ble_eq_true rfl) (Nat.le_of_ble_eq_true rfl) ?_
  refine W.eq (g2 := F0 m 4 ls []) rfl ?_
  refine lv_aload_n hx hb dX1_init_4 rfl (lv_at hl 0 rfl) ?_
  refine lv_iconst (v := (2 : Int32)) hx hb dX1_init_5 (by decide) ?_
  obtain ⟨S12, e11, h⟩ := bn1_some h
  refine x_put (v := .int (2 : Int32)) (ty := .int) (C := RX1) (T := TX1) (N := 16) (ci := 1) hx hb hts in_X1 tyX1 tyX1_ok nmX1 hown hK.1 hP hS rfl 1 (by decide) (hts _ q147) (fun _ h9 => h9) rfl (by decide +kernel) rfl rfl e11 dX1_init_6 (fun H locs hP hS => ?_)
  refine lv_aload_n hx hb dX1_init_9 rfl (lv_at hl 0 rfl) ?_
  refine lv_bipush (v := (20 : Int32)) hx hb dX1_init_10 (by decide) ?_
  obtain ⟨S14, e13, h⟩ := bn1_some h
  refine x_put (v := .int (20 : Int32)) (ty := .int) (C := RX1) (T := TX1) (N := 16) (ci := 1) hx hb hts in_X1 tyX1 tyX1_ok nmX1 hown hK.1 hP hS rfl 3 (by decide) (hts _ q151) (fun _ h9 => h9) rfl (by decide +kernel) rfl rfl e13 dX1_init_12 (fun H locs hP hS => ?_)
  refine lv_aload_n hx hb dX1_init_15 rfl (lv_at hl 0 rfl) ?_
  refine lv_iconst (v := (1 : Int32)) hx hb dX1_init_16 (by decide) ?_
  obtain ⟨S16, e15, h⟩ := bn1_some h
  refine x_put (v := .int (1 : Int32)) (ty := .int) (C := RX1) (T := TX1) (N := 16) (ci := 1) hx hb hts in_X1 tyX1 tyX1_ok nmX1 hown hK.1 hP hS rfl 5 (by decide) (hts _ q155) (fun _ h9 => h9) rfl (by decide +kernel) rfl rfl e15 dX1_init_17 (fun H locs hP hS => ?_)
  refine lv_aload_n hx hb dX1_init_20 rfl (lv_at hl 0 rfl) ?_
  refine lv_bipush (v := (8 : Int32)) hx hb dX1_init_21 (by decide) ?_
  refine x_newq (N' := 8) hx hb hown (hts _ q129) hK.2.2.2.2.1 hK.1 hP hS hA 4 rfl (by decide) (by decide) (by decide) (by first | omega | (dsimp only; omega)) (by first | omega | (dsimp only; omega)) dX1_init_23 (fun H hP hS => ?_)
  obtain ⟨S17, eS17⟩ : ∃ y : XS, y = xnew S16 (aeQ 4 8 (fun _ => none)) := ⟨_, rfl⟩
  rw [← eS17] at hP
  have h := nm_at eS17 h
  obtain ⟨S19, e18, h⟩ := bn1_some h
  refine x_putF (v := .ref S16.2) (ty := (.array (.object "PictureBlock$Slot"))) (C := RX1) (T := TX1) (N := 16) (ci := 1) hx hb hts in_X1 tyX1 tyX1_ok nmX1 hown hK.1 hP hS rfl 8 (by decide) (hts _ q161) (fun _ h9 => h9) rfl hmi rfl (by decide +kernel) rfl rfl e18 dX1_init_26 (fun H locs hP hS => ?_)
  refine lv_aload_n hx hb dX1_init_29 rfl (lv_at hl 0 rfl) ?_
  refine lv_bipush (v := (8 : Int32)) hx hb dX1_init_30 (by decide) ?_
  refine x_new0 (N' := 8) hx hb (hts _ q143) hK.1 hP hS hA (by decide) (by decide) (by decide) (by first | omega | (dsimp only; omega)) (by first | omega | (dsimp only; omega)) dX1_init_32 (fun H hP hS => ?_)
  obtain ⟨S20, eS20⟩ : ∃ y : XS, y = xnew S19 (aeI 0 8 (fun _ => 0)) := ⟨_, rfl⟩
  rw [← eS20] at hP
  have h := nm_at eS20 h
  obtain ⟨S22, e21, h⟩ := bn1_some h
  refine x_putF (v := .ref S19.2) (ty := (.array .int)) (C := RX1) (T := TX1) (N := 16) (ci := 1) hx hb hts in_X1 tyX1 tyX1_ok nmX1 hown hK.1 hP hS rfl 9 (by decide) (hts _ q163) (fun _ h9 => h9) rfl hmi rfl (by decide +kernel) rfl rfl e21 dX1_init_34 (fun H locs hP hS => ?_)
  refine lv_aload_n hx hb dX1_init_37 rfl (lv_at hl 0 rfl) ?_
  refine lv_bipush (v := (8 : Int32)) hx hb dX1_init_38 (by decide) ?_
  refine x_new0 (N' := 8) hx hb (hts _ q143) hK.1 hP hS hA (by decide) (by decide) (by decide) (by first | omega | (dsimp only; omega)) (by first | omega | (dsimp only; omega)) dX1_init_40 (fun H hP hS => ?_)
  obtain ⟨S23, eS23⟩ : ∃ y : XS, y = xnew S22 (aeI 0 8 (fun _ => 0)) := ⟨_, rfl⟩
  rw [← eS23] at hP
  have h := nm_at eS23 h
  obtain ⟨S25, e24, h⟩ := bn1_some h
  refine x_putF (v := .ref S22.2) (ty := (.array .int)) (C := RX1) (T := TX1) (N := 16) (ci := 1) hx hb hts in_X1 tyX1 tyX1_ok nmX1 hown hK.1 hP hS rfl 10 (by decide) (hts _ q165) (fun _ h9 => h9) rfl hmi rfl (by decide +kernel) rfl rfl e24 dX1_init_42 (fun H locs hP hS => ?_)
  refine lv_aload_n hx hb dX1_init_45 rfl (lv_at hl 0 rfl) ?_
  refine lv_bipush (v := (8 : Int32)) hx hb dX1_init_46 (by decide) ?_
  refine x_new0 (N' := 8) hx hb (hts _ q143) hK.1 hP hS hA (by decide) (by decide) (by decide) (by first | omega | (dsimp only; omega)) (by first | omega | (dsimp only; omega)) dX1_init_48 (fun H hP hS => ?_)
  obtain ⟨S26, eS26⟩ : ∃ y : XS, y = xnew S25 (aeI 0 8 (fun _ => 0)) := ⟨_, rfl⟩
  rw [← eS26] at hP
  have h := nm_at eS26 h
  obtain ⟨S28, e27, h⟩ := bn1_some h
  refine x_putF (v := .ref S25.2) (ty := (.array .int)) (C := RX1) (T := TX1) (N := 16) (ci := 1) hx hb hts in_X1 tyX1 tyX1_ok nmX1 hown hK.1 hP hS rfl 11 (by decide) (hts _ q167) (fun _ h9 => h9) rfl hmi rfl (by decide +kernel) rfl rfl e27 dX1_init_50 (fun H locs hP hS => ?_)
  refine lv_aload_n hx hb dX1_init_53 rfl (lv_at hl 0 rfl) ?_
  refine lv_bipush (v := (8 : Int32)) hx hb dX1_init_54 (by decide) ?_
  refine x_new0 (N' := 8) hx hb (hts _ q143) hK.1 hP hS hA (by decide) (by decide) (by decide) (by first | omega | (dsimp only; omega)) (by first | omega | (dsimp only; omega)) dX1_init_56 (fun H hP hS => ?_)
  obtain ⟨S29, eS29⟩ : ∃ y : XS, y = xnew S28 (aeI 0 8 (fun _ => 0)) := ⟨_, rfl⟩
  rw [← eS29] at hP
  have h := nm_at eS29 h
  obtain ⟨S31, e30, h⟩ := bn1_some h
  refine x_putF (v := .ref S28.2) (ty := (.array .int)) (C := RX1) (T := TX1) (N := 16) (ci := 1) hx hb hts in_X1 tyX1 tyX1_ok nmX1 hown hK.1 hP hS rfl 12 (by decide) (hts _ q169) (fun _ h9 => h9) rfl hmi rfl (by decide +kernel) rfl rfl e30 dX1_init_58 (fun H locs hP hS => ?_)
  refine lv_aload_n hx hb dX1_init_61 rfl (lv_at hl 0 rfl) ?_
  refine lv_iconst (v := (2 : Int32)) hx hb dX1_init_62 (by decide) ?_
  refine x_newq (N' := 2) hx hb hown (hts _ q131) hK.2.2.2.2.2.1 hK.1 hP hS hA 5 rfl (by decide) (by decide) (by decide) (by first | omega | (dsimp only; omega)) (by first | omega | (dsimp only; omega)) dX1_init_63 (fun H hP hS => ?_)
  obtain ⟨S32, eS32⟩ : ∃ y : XS, y = xnew S31 (aeQ 5 2 (fun _ => none)) := ⟨_, rfl⟩
  rw [← eS32] at hP
  have h := nm_at eS32 h
  obtain ⟨S34, e33, h⟩ := bn1_some h
  refine x_putF (v := .ref S31.2) (ty := (.array (.object "PictureBlock$Text"))) (C := RX1) (T := TX1) (N := 16) (ci := 1) hx hb hts in_X1 tyX1 tyX1_ok nmX1 hown hK.1 hP hS rfl 13 (by decide) (hts _ q171) (fun _ h9 => h9) rfl hmi rfl (by decide +kernel) rfl rfl e33 dX1_init_66 (fun H locs hP hS => ?_)
  refine lv_aload_n hx hb dX1_init_69 rfl (lv_at hl 0 rfl) ?_
  refine lv_bipush (v := (60 : Int32)) hx hb dX1_init_70 (by decide) ?_
  refine x_new1 (N' := 60) hx hb (hts _ q144) hK.1 hP hS hA (by decide) (by decide) (by decide) (by first | omega | (dsimp only; omega)) (by first | omega | (dsimp only; omega)) dX1_init_72 (fun H hP hS => ?_)
  obtain ⟨S35, eS35⟩ : ∃ y : XS, y = xnew S34 (aeI 1 60 (fun _ => 0)) := ⟨_, rfl⟩
  rw [← eS35] at hP
  have h := nm_at eS35 h
  obtain ⟨S37, e36, h⟩ := bn1_some h
  refine x_putF (v := .ref S34.2) (ty := (.array .byte)) (C := RX1) (T := TX1) (N := 16) (ci := 1) hx hb hts in_X1 tyX1 tyX1_ok nmX1 hown hK.1 hP hS rfl 14 (by decide) (hts _ q173) (fun _ h9 => h9) rfl hmi rfl (by decide +kernel) rfl rfl e36 dX1_init_74 (fun H locs hP hS => ?_)
  refine lv_aload_n hx hb dX1_init_77 rfl (lv_at hl 0 rfl) ?_
  refine lv_bipush (v := (24 : Int32)) hx hb dX1_init_78 (by decide) ?_
  refine x_new0 (N' := 24) hx hb (hts _ q143) hK.1 hP hS hA (by decide) (by decide) (by decide) (by first | omega | (dsimp only; omega)) (by first | omega | (dsimp only; omega)) dX1_init_80 (fun H hP hS => ?_)
  obtain ⟨S38, eS38⟩ : ∃ y : XS, y = xnew S37 (aeI 0 24 (fun _ => 0)) := ⟨_, rfl⟩
  rw [← eS38] at hP
  have h := nm_at eS38 h
  obtain ⟨S40, e39, h⟩ := bn1_some h
  refine x_putF (v := .ref S37.2) (ty := (.array .int)) (C := RX1) (T := TX1) (N := 16) (ci := 1) hx hb hts in_X1 tyX1 tyX1_ok nmX1 hown hK.1 hP hS rfl 15 (by decide) (hts _ q175) (fun _ h9 => h9) rfl hmi rfl (by decide +kernel) rfl rfl e39 dX1_init_82 (fun H locs hP hS => ?_)
  refine lv_iconst (v := (0 : Int32)) hx hb dX1_init_85 (by decide) ?_
  refine lv_istore_n (lv' := [(1, .int (0 : Int32)), (0, .ref x0)]) hx hb dX1_init_86 rfl hl (by decide) rfl (fun ls hl => ?_)
  refine W.widen (k := (8 + (9 - 9) * 1 + 0)) (n := (126 + (9 - 9) * 1 + 0)) (by omega) (by omega) ?_
  exact L87 9 (Nat.le_refl _) x0 (0 : Int32) S40 _ _ _ hP hS (lv_sub hl [1, 0] rfl) h

def bX1_used_4 (k4 : Nat → Int32 → Int32 → XS → Option (Int32 × XS)) (x0 : Nat) (x1 : Int32) (x2 : Int32) (S : XS) : Option (Int32 × XS) :=
bn1 (gI S x0 1 0) fun v2 =>
(if v2 ≤ x2 then
some (x1, S)
else
bn1 (gR S x0 1 12) fun a5 =>
bn1 (aI S a5 0 x2) fun v7 =>
nm (x1 ||| (v7 <<< (x2 &&& 31))) fun y8 =>
nm (x2 + (1 : Int32)) fun y9 =>
k4 x0 y8 y9 S)
def lX1_used_4 : Nat → (Nat → Int32 → Int32 → XS → Option (Int32 × XS))
  | 0 => fun _ _ _ _ => none
  | n + 1 => bX1_used_4 (lX1_used_4 n)
def fX1_used (x0 : Nat) (S : XS) : Option (Int32 × XS) :=
lX1_used_4 FU x0 (0 : Int32) (0 : Int32) S
set_option maxHeartbeats 4000000 in
set_option maxRecDepth 100000 in
theorem mX1_used {l : Launch} {D : va_G} {cA : Nat → ClassId} {A : Nat → Prop} (x0 : Nat) (S : XS) {out : (Int32 × XS)} (h : fX1_used x0 S = some out) : Met l yX1_used (ws_ yX1_used cX1_used 3 (some .int)) ({ frames := 0, cells := 0, slots := 0, locals := 0 } : Room) (gPc (xK D cA A) (xP D cA A) A [.ref x0] S) (gQi (xK D cA A) (xP D cA A) A out) 0 0 A := by
  refine gMet_z (by decide) (Nat.le_of_ble_eq_true rfl) ?_ xKst
  intro p e s m below meth c Q ls args H locs hC hP hS hl ret
  obtain ⟨hx, hb, hml, hown, hts, hA, hK⟩ := hC
  have hown : s.vm.findClass RX1 = some m.cls := hown
  have hl : lv_has ls 3 [(0, .ref x0)] := hl
  have L4 : ∀ (n4 : Nat) (x0 : Nat) (x1 : Int32) (x2 : Int32) (S : XS) (H : Heap) (locs : List Loc) (ls : Array Slot), xP D cA A S H → va_S A s.heap H locs → lv_has ls 3 [(0, .ref x0), (1, .int x1), (2, .int x2)] → lX1_used_4 n4 x0 x1 x2 S = some out → W p l e ({ frames := 0, cells := 0, slots := 0, locals := 0 } : Room) s m args below meth c H locs 0 0 Q (F0 m 4 ls []) := by
    intro n4
    induction n4 with
    | zero =>
      intro x0 x1 x2 S H locs ls hP hS hl h
      cases h
    | succ n4 ih4 =>
      intro x0 x1 x2 S H locs ls hP hS hl h
      replace h : bX1_used_4 (lX1_used_4 n4) x0 x1 x2 S = some out := h
      unfold bX1_used_4 at h
      refine lv_iload_n hx hb dX1_used_4 rfl (lv_at hl 2 rfl) ?_
      refine lv_aload_n hx hb dX1_used_5 rfl (lv_at hl 0 rfl) ?_
      obtain ⟨v2, e1, h⟩ := bn1_some h
      refine x_get (C := RX1) (T := TX1) (N := 16) (ci := 1) hx hb hts in_X1 hown hK.1 hP rfl 0 (by decide) (hts _ q145) (fun _ h9 => h9) (gI_some e1) dX1_used_6 ?_
      refine lv_icmp_ge (tgt := 29) hx hb dX1_used_9 (by decide) (fun c3 => ?_) (fun c3 => ?_)
      · have h := ite_t c3 h
        refine lv_iload_n hx hb dX1_used_29 rfl (lv_at hl 1 rfl) ?_
        exact ret _ _ _ _ _ _ dX1_used_30 rfl hP hS h
      · have h := ite_f c3 h
        refine lv_iload_n hx hb dX1_used_12 rfl (lv_at hl 1 rfl) ?_
        refine lv_aload_n hx hb dX1_used_13 rfl (lv_at hl 0 rfl) ?_
        obtain ⟨a5, e4, h⟩ := bn1_some h
        refine x_get (C := RX1) (T := TX1) (N := 16) (ci := 1) hx hb hts in_X1 hown hK.1 hP rfl 12 (by decide) (hts _ q169) (fun _ h9 => h9) (gR_some e4) dX1_used_14 ?_
        refine lv_iload_n hx hb dX1_used_17 rfl (lv_at hl 2 rfl) ?_
        obtain ⟨v7, e6, h⟩ := bn1_some h
        refine x_iald hx hb hK.1 hP e6 dX1_used_18 ?_
        refine lv_iload_n hx hb dX1_used_19 rfl (lv_at hl 2 rfl) ?_
        refine lv_ishl hx hb dX1_used_20 ?_
        refine lv_ior hx hb dX1_used_21 ?_
        refine lv_topi (fun y8 ey8 => ?_)
        have h := nm_at ey8 h
        refine lv_istore_n (lv' := [(1, .int y8), (0, .ref x0), (2, .int x2)]) hx hb dX1_used_22 rfl hl (by decide) rfl (fun ls hl => ?_)
        obtain ⟨y9, ey9⟩ : ∃ y : Int32, y = x2 + (1 : Int32) := ⟨_, rfl⟩
        refine lv_iinc (v := y9) (lv' := [(2, .int y9), (1, .int y8), (0, .ref x0)]) hx hb dX1_used_23 hl (k := 2) rfl (by rw [ey9]; rfl) (by decide) rfl (fun ls hl => ?_)
        have h := nm_at ey9 h
        refine lv_goto (tgt := 4) hx hb dX1_used_26 (by decide) ?_
        exact ih4 x0 y8 y9 S _ _ _ hP hS (lv_sub hl [2, 1, 0] rfl) h
  unfold fX1_used at h
  refine lv_iconst (v := (0 : Int32)) hx hb dX1_used_0 (by decide) ?_
  refine lv_istore_n (lv' := [(1, .int (0 : Int32)), (0, .ref x0)]) hx hb dX1_used_1 rfl hl (by decide) rfl (fun ls hl => ?_)
  refine lv_iconst (v := (0 : Int32)) hx hb dX1_used_2 (by decide) ?_
  refine lv_istore_n (lv' := [(2, .int (0 : Int32)), (1, .int (0 : Int32)), (0, .ref x0)]) hx hb dX1_used_3 rfl hl (by decide) rfl (fun ls hl => ?_)
  exact L4 FU x0 (0 : Int32) (0 : Int32) S _ _ _ hP hS (lv_sub hl [2, 1, 0] rfl) h

def fX1_round (x0 : Nat) (S : XS) : Option (Int32 × XS) :=
bn1 (gI S x0 1 2) fun v2 =>
some (v2, S)
set_option maxHeartbeats 4000000 in
set_option maxRecDepth 100000 in
theorem mX1_round {l : Launch} {D : va_G} {cA : Nat → ClassId} {A : Nat → Prop} (x0 : Nat) (S : XS) {out : (Int32 × XS)} (h : fX1_round x0 S = some out) : Met l yX1_round (ws_ yX1_round cX1_round 1 (some .int)) ({ frames := 0, cells := 0, slots := 0, locals := 0 } : Room) (gPc (xK D cA A) (xP D cA A) A [.ref x0] S) (gQi (xK D cA A) (xP D cA A) A out) 0 0 A := by
  refine gMet_z (by decide) (Nat.le_of_ble_eq_true rfl) ?_ xKst
  intro p e s m below meth c Q ls args H locs hC hP hS hl ret
  obtain ⟨hx, hb, hml, hown, hts, hA, hK⟩ := hC
  have hown : s.vm.findClass RX1 = some m.cls := hown
  have hl : lv_has ls 1 [(0, .ref x0)] := hl
  unfold fX1_round at h
  refine lv_aload_n hx hb dX1_round_0 rfl (lv_at hl 0 rfl) ?_
  obtain ⟨v2, e1, h⟩ := bn1_some h
  refine x_get (C := RX1) (T := TX1) (N := 16) (ci := 1) hx hb hts in_X1 hown hK.1 hP rfl 2 (by decide) (hts _ q149) (fun _ h9 => h9) (gI_some e1) dX1_round_1 ?_
  exact ret _ _ _ _ _ _ dX1_round_4 rfl hP hS h

def fX1_told (x0 : Nat) (x1 : Int32) (S : XS) : Option (Int32 × XS) :=
bn1 (gR S x0 1 11) fun a2 =>
bn1 (aI S a2 0 x1) fun v4 =>
some (v4, S)
set_option maxHeartbeats 4000000 in
set_option maxRecDepth 100000 in
theorem mX1_told {l : Launch} {D : va_G} {cA : Nat → ClassId} {A : Nat → Prop} (x0 : Nat) (x1 : Int32) (S : XS) {out : (Int32 × XS)} (h : fX1_told x0 x1 S = some out) : Met l yX1_told (ws_ yX1_told cX1_told 2 (some .int)) ({ frames := 0, cells := 0, slots := 0, locals := 0 } : Room) (gPc (xK D cA A) (xP D cA A) A [.ref x0, .int x1] S) (gQi (xK D cA A) (xP D cA A) A out) 0 0 A := by
  refine gMet_z (by decide) (Nat.le_of_ble_eq_true rfl) ?_ xKst
  intro p e s m below meth c Q ls args H locs hC hP hS hl ret
  obtain ⟨hx, hb, hml, hown, hts, hA, hK⟩ := hC
  have hown : s.vm.findClass RX1 = some m.cls := hown
  have hl : lv_has ls 2 [(0, .ref x0), (1, .int x1)] := hl
  unfold fX1_told at h
  refine lv_aload_n hx hb dX1_told_0 rfl (lv_at hl 0 rfl) ?_
  obtain ⟨a2, e1, h⟩ := bn1_some h
  refine x_get (C := RX1) (T := TX1) (N := 16) (ci := 1) hx hb hts in_X1 hown hK.1 hP rfl 11 (by decide) (hts _ q167) (fun _ h9 => h9) (gR_some e1) dX1_told_1 ?_
  refine lv_iload_n hx hb dX1_told_4 rfl (lv_at hl 1 rfl) ?_
  obtain ⟨v4, e3, h⟩ := bn1_some h
  refine x_iald hx hb hK.1 hP e3 dX1_told_5 ?_
  exact ret _ _ _ _ _ _ dX1_told_6 rfl hP hS h

def bX1_marks_58 (k4 : Nat → Int32 → Int32 → Int32 → XS → Option (Int32 × XS)) (x0 : Nat) (x1 : Int32) (x3 : Int32) (t0 : Int32) (t1 : Int32) (S : XS) : Option (Int32 × XS) :=
nm (t0 + t1) fun y1 =>
nm (x3 + (1 : Int32)) fun y2 =>
k4 x0 x1 y1 y2 S
def bX1_marks_57 (k4 : Nat → Int32 → Int32 → Int32 → XS → Option (Int32 × XS)) (x0 : Nat) (x1 : Int32) (x3 : Int32) (t0 : Int32) (S : XS) : Option (Int32 × XS) :=
bX1_marks_58 k4 x0 x1 x3 t0 (0 : Int32) S
def bX1_marks_53 (k4 : Nat → Int32 → Int32 → Int32 → XS → Option (Int32 × XS)) (x0 : Nat) (x1 : Int32) (x3 : Int32) (t0 : Int32) (S : XS) : Option (Int32 × XS) :=
bX1_marks_58 k4 x0 x1 x3 t0 (1 : Int32) S
def bX1_marks_4 (k4 : Nat → Int32 → Int32 → Int32 → XS → Option (Int32 × XS)) (x0 : Nat) (x1 : Int32) (x2 : Int32) (x3 : Int32) (S : XS) : Option (Int32 × XS) :=
bn1 (gI S x0 1 0) fun v4 =>
(if v4 ≤ x3 then
some (x2, S)
else
bn1 (gR S x0 1 12) fun a7 =>
bn1 (aI S a7 0 x3) fun v9 =>
(if v9 = (1 : Int32) then
bn1 (gR S x0 1 10) fun a12 =>
bn1 (aI S a12 0 x3) fun v14 =>
bn1 (gR S x0 1 10) fun a16 =>
bn1 (aI S a16 0 x1) fun v18 =>
(if v14 = v18 then
bX1_marks_53 k4 x0 x1 x3 x2 S
else
bn1 (gR S x0 1 9) fun a21 =>
bn1 (aI S a21 0 x3) fun v23 =>
bn1 (gR S x0 1 10) fun a25 =>
bn1 (aI S a25 0 x1) fun v27 =>
(if v23 = v27 then
bX1_marks_53 k4 x0 x1 x3 x2 S
else
bX1_marks_57 k4 x0 x1 x3 x2 S))
else
bX1_marks_57 k4 x0 x1 x3 x2 S))
def lX1_marks_4 : Nat → (Nat → Int32 → Int32 → Int32 → XS → Option (Int32 × XS))
  | 0 => fun _ _ _ _ _ => none
  | n + 1 => bX1_marks_4 (lX1_marks_4 n)
def fX1_marks (x0 : Nat) (x1 : Int32) (S : XS) : Option (Int32 × XS) :=
lX1_marks_4 FU x0 x1 (0 : Int32) (0 : Int32) S
set_option maxHeartbeats 4000000 in
set_option maxRecDepth 100000 in
theorem mX1_marks {l : Launch} {D : va_G} {cA : Nat → ClassId} {A : Nat → Prop} (x0 : Nat) (x1 : Int32) (S : XS) {out : (Int32 × XS)} (h : fX1_marks x0 x1 S = some out) : Met l yX1_marks (ws_ yX1_marks cX1_marks 4 (some .int)) ({ frames := 0, cells := 0, slots := 0, locals := 0 } : Room) (gPc (xK D cA A) (xP D cA A) A [.ref x0, .int x1] S) (gQi (xK D cA A) (xP D cA A) A out) 0 0 A := by
  refine gMet_z (by decide) (Nat.le_of_ble_eq_true rfl) ?_ xKst
  intro p e s m below meth c Q ls args H locs hC hP hS hl ret
  obtain ⟨hx, hb, hml, hown, hts, hA, hK⟩ := hC
  have hown : s.vm.findClass RX1 = some m.cls := hown
  have hl : lv_has ls 4 [(0, .ref x0), (1, .int x1)] := hl
  have L4 : ∀ (n4 : Nat) (x0 : Nat) (x1 : Int32) (x2 : Int32) (x3 : Int32) (S : XS) (H : Heap) (locs : List Loc) (ls : Array Slot), xP D cA A S H → va_S A s.heap H locs → lv_has ls 4 [(0, .ref x0), (1, .int x1), (2, .int x2), (3, .int x3)] → lX1_marks_4 n4 x0 x1 x2 x3 S = some out → W p l e ({ frames := 0, cells := 0, slots := 0, locals := 0 } : Room) s m args below meth c H locs 0 0 Q (F0 m 4 ls []) := by
    intro n4
    induction n4 with
    | zero =>
      intro x0 x1 x2 x3 S H locs ls hP hS hl h
      cases h
    | succ n4 ih4 =>
      have B58 : ∀ (x0 : Nat) (x1 : Int32) (x3 : Int32) (t0 : Int32) (t1 : Int32) (S : XS) (H : Heap) (locs : List Loc) (ls : Array Slot), xP D cA A S H → va_S A s.heap H locs → lv_has ls 4 [(0, .ref x0), (1, .int x1), (3, .int x3)] → bX1_marks_58 (lX1_marks_4 n4) x0 x1 x3 t0 t1 S = some out → W p l e ({ frames := 0, cells := 0, slots := 0, locals := 0 } : Room) s m args below meth c H locs 0 0 Q (F0 m 58 ls [.int t1, .int t0]) := by
        intro x0 x1 x3 t0 t1 S H locs ls hP hS hl h
        unfold bX1_marks_58 at h
        refine lv_iadd hx hb dX1_marks_58 ?_
        refine lv_topi (fun y1 ey1 => ?_)
        have h := nm_at ey1 h
        refine lv_istore_n (lv' := [(2, .int y1), (0, .ref x0), (1, .int x1), (3, .int x3)]) hx hb dX1_marks_59 rfl hl (by decide) rfl (fun ls hl => ?_)
        obtain ⟨y2, ey2⟩ : ∃ y : Int32, y = x3 + (1 : Int32) := ⟨_, rfl⟩
        refine lv_iinc (v := y2) (lv' := [(3, .int y2), (2, .int y1), (0, .ref x0), (1, .int x1)]) hx hb dX1_marks_60 hl (k := 3) rfl (by rw [ey2]; rfl) (by decide) rfl (fun ls hl => ?_)
        have h := nm_at ey2 h
        refine lv_goto (tgt := 4) hx hb dX1_marks_63 (by decide) ?_
        exact ih4 x0 x1 y1 y2 S _ _ _ hP hS (lv_sub hl [2, 3, 1, 0] rfl) h
      have B57 : ∀ (x0 : Nat) (x1 : Int32) (x3 : Int32) (t0 : Int32) (S : XS) (H : Heap) (locs : List Loc) (ls : Array Slot), xP D cA A S H → va_S A s.heap H locs → lv_has ls 4 [(0, .ref x0), (1, .int x1), (3, .int x3)] → bX1_marks_57 (lX1_marks_4 n4) x0 x1 x3 t0 S = some out → W p l e ({ frames := 0, cells := 0, slots := 0, locals := 0 } : Room) s m args below meth c H locs 0 0 Q (F0 m 57 ls [.int t0]) := by
        intro x0 x1 x3 t0 S H locs ls hP hS hl h
        unfold bX1_marks_57 at h
        refine lv_iconst (v := (0 : Int32)) hx hb dX1_marks_57 (by decide) ?_
        exact B58 x0 x1 x3 t0 (0 : Int32) S _ _ _ hP hS hl h
      have B53 : ∀ (x0 : Nat) (x1 : Int32) (x3 : Int32) (t0 : Int32) (S : XS) (H : Heap) (locs : List Loc) (ls : Array Slot), xP D cA A S H → va_S A s.heap H locs → lv_has ls 4 [(0, .ref x0), (1, .int x1), (3, .int x3)] → bX1_marks_53 (lX1_marks_4 n4) x0 x1 x3 t0 S = some out → W p l e ({ frames := 0, cells := 0, slots := 0, locals := 0 } : Room) s m args below meth c H locs 0 0 Q (F0 m 53 ls [.int t0]) := by
        intro x0 x1 x3 t0 S H locs ls hP hS hl h
        unfold bX1_marks_53 at h
        refine lv_iconst (v := (1 : Int32)) hx hb dX1_marks_53 (by decide) ?_
        refine lv_goto (tgt := 58) hx hb dX1_marks_54 (by decide) ?_
        exact B58 x0 x1 x3 t0 (1 : Int32) S _ _ _ hP hS hl h
      intro x0 x1 x2 x3 S H locs ls hP hS hl h
      replace h : bX1_marks_4 (lX1_marks_4 n4) x0 x1 x2 x3 S = some out := h
      unfold bX1_marks_4 at h
      refine lv_iload_n hx hb dX1_marks_4 rfl (lv_at hl 3 rfl) ?_
      refine lv_aload_n hx hb dX1_marks_5 rfl (lv_at hl 0 rfl) ?_
      obtain ⟨v4, e3, h⟩ := bn1_some h
      refine x_get (C := RX1) (T := TX1) (N := 16) (ci := 1) hx hb hts in_X1 hown hK.1 hP rfl 0 (by decide) (hts _ q145) (fun _ h9 => h9) (gI_some e3) dX1_marks_6 ?_
      refine lv_icmp_ge (tgt := 66) hx hb dX1_marks_9 (by decide) (fun c5 => ?_) (fun c5 => ?_)
      · have h := ite_t c5 h
        refine lv_iload_n hx hb dX1_marks_66 rfl (lv_at hl 2 rfl) ?_
        exact ret _ _ _ _ _ _ dX1_marks_67 rfl hP hS h
      · have h := ite_f c5 h
        refine lv_iload_n hx hb dX1_marks_12 rfl (lv_at hl 2 rfl) ?_
        refine lv_aload_n hx hb dX1_marks_13 rfl (lv_at hl 0 rfl) ?_
        obtain ⟨a7, e6, h⟩ := bn1_some h
        refine x_get (C := RX1) (T := TX1) (N := 16) (ci := 1) hx hb hts in_X1 hown hK.1 hP rfl 12 (by decide) (hts _ q169) (fun _ h9 => h9) (gR_some e6) dX1_marks_14 ?_
        refine lv_iload_n hx hb dX1_marks_17 rfl (lv_at hl 3 rfl) ?_
        obtain ⟨v9, e8, h⟩ := bn1_some h
        refine x_iald hx hb hK.1 hP e8 dX1_marks_18 ?_
        refine lv_iconst (v := (1 : Int32)) hx hb dX1_marks_19 (by decide) ?_
        refine lv_icmp_ne (tgt := 57) hx hb dX1_marks_20 (by decide) (fun c10 => ?_) (fun c10 => ?_)
        · have h := ite_f c10 h
          exact B57 x0 x1 x3 x2 S _ _ _ hP hS (lv_sub hl [0, 1, 3] rfl) h
        · have h := ite_t c10 h
          refine lv_aload_n hx hb dX1_marks_23 rfl (lv_at hl 0 rfl) ?_
          obtain ⟨a12, e11, h⟩ := bn1_some h
          refine x_get (C := RX1) (T := TX1) (N := 16) (ci := 1) hx hb hts in_X1 hown hK.1 hP rfl 10 (by decide) (hts _ q165) (fun _ h9 => h9) (gR_some e11) dX1_marks_24 ?_
          refine lv_iload_n hx hb dX1_marks_27 rfl (lv_at hl 3 rfl) ?_
          obtain ⟨v14, e13, h⟩ := bn1_some h
          refine x_iald hx hb hK.1 hP e13 dX1_marks_28 ?_
          refine lv_aload_n hx hb dX1_marks_29 rfl (lv_at hl 0 rfl) ?_
          obtain ⟨a16, e15, h⟩ := bn1_some h
          refine x_get (C := RX1) (T := TX1) (N := 16) (ci := 1) hx hb hts in_X1 hown hK.1 hP rfl 10 (by decide) (hts _ q165) (fun _ h9 => h9) (gR_some e15) dX1_marks_30 ?_
          refine lv_iload_n hx hb dX1_marks_33 rfl (lv_at hl 1 rfl) ?_
          obtain ⟨v18, e17, h⟩ := bn1_some h
          refine x_iald hx hb hK.1 hP e17 dX1_marks_34 ?_
          refine lv_icmp_eq (tgt := 53) hx hb dX1_marks_35 (by decide) (fun c19 => ?_) (fun c19 => ?_)
          · have h := ite_t c19 h
            exact B53 x0 x1 x3 x2 S _ _ _ hP hS (lv_sub hl [0, 1, 3] rfl) h
          · have h := ite_f c19 h
            refine lv_aload_n hx hb dX1_marks_38 rfl (lv_at hl 0 rfl) ?_
            obtain ⟨a21, e20, h⟩ := bn1_some h
            refine x_get (C := RX1) (T := TX1) (N := 16) (ci := 1) hx hb hts in_X1 hown hK.1 hP rfl 9 (by decide) (hts _ q163) (fun _ h9 => h9) (gR_some e20) dX1_marks_39 ?_
            refine lv_iload_n hx hb dX1_marks_42 rfl (lv_at hl 3 rfl) ?_
            obtain ⟨v23, e22, h⟩ := bn1_some h
            refine x_iald hx hb hK.1 hP e22 dX1_marks_43 ?_
            refine lv_aload_n hx hb dX1_marks_44 rfl (lv_at hl 0 rfl) ?_
            obtain ⟨a25, e24, h⟩ := bn1_some h
            refine x_get (C := RX1) (T := TX1) (N := 16) (ci := 1) hx hb hts in_X1 hown hK.1 hP rfl 10 (by decide) (hts _ q165) (fun _ h9 => h9) (gR_some e24) dX1_marks_45 ?_
            refine lv_iload_n hx hb dX1_marks_48 rfl (lv_at hl 1 rfl) ?_
            obtain ⟨v27, e26, h⟩ := bn1_some h
            refine x_iald hx hb hK.1 hP e26 dX1_marks_49 ?_
            refine lv_icmp_ne (tgt := 57) hx hb dX1_marks_50 (by decide) (fun c28 => ?_) (fun c28 => ?_)
            · have h := ite_f c28 h
              exact B57 x0 x1 x3 x2 S _ _ _ hP hS (lv_sub hl [0, 1, 3] rfl) h
            · have h := ite_t c28 h
              exact B53 x0 x1 x3 x2 S _ _ _ hP hS (lv_sub hl [0, 1, 3] rfl) h
  unfold fX1_marks at h
  refine lv_iconst (v := (0 : Int32)) hx hb dX1_marks_0 (by decide) ?_
  refine lv_istore_n (lv' := [(2, .int (0 : Int32)), (0, .ref x0), (1, .int x1)]) hx hb dX1_marks_1 rfl hl (by decide) rfl (fun ls hl => ?_)
  refine lv_iconst (v := (0 : Int32)) hx hb dX1_marks_2 (by decide) ?_
  refine lv_istore_n (lv' := [(3, .int (0 : Int32)), (2, .int (0 : Int32)), (0, .ref x0), (1, .int x1)]) hx hb dX1_marks_3 rfl hl (by decide) rfl (fun ls hl => ?_)
  exact L4 FU x0 x1 (0 : Int32) (0 : Int32) S _ _ _ hP hS (lv_sub hl [2, 3, 1, 0] rfl) h

def fX1_at (x0 : Nat) (x1 : Int32) (S : XS) : Option (Nat × XS) :=
bn1 (gR S x0 1 8) fun a2 =>
bn1 (aR S a2 4 x1) fun a4 =>
bn1 (gQ S a4 2 0) fun a6 =>
bn1 a6 fun a7 =>
chk (mkB S a7) (some (a7, S))
set_option maxHeartbeats 4000000 in
set_option maxRecDepth 100000 in
theorem mX1_at {l : Launch} {D : va_G} {cA : Nat → ClassId} {A : Nat → Prop} (x0 : Nat) (x1 : Int32) (S : XS) {out : (Nat × XS)} (h : fX1_at x0 x1 S = some out) : Met l yX1_at (ws_ yX1_at cX1_at 2 (some (.object "PictureBlock$Mark"))) ({ frames := 0, cells := 0, slots := 0, locals := 0 } : Room) (gPc (xK D cA A) (xP D cA A) A [.ref x0, .int x1] S) (gQr (xK D cA A) (xP D cA A) A out) 0 0 A := by
  refine gMet_r (Or.inl ⟨_, rfl⟩) (by decide) (Nat.le_of_ble_eq_true rfl) ?_ xKst
  intro p e s m below meth c Q ls args H locs hC hP hS hl ret
  obtain ⟨hx, hb, hml, hown, hts, hA, hK⟩ := hC
  have hown : s.vm.findClass RX1 = some m.cls := hown
  have hl : lv_has ls 2 [(0, .ref x0), (1, .int x1)] := hl
  unfold fX1_at at h
  refine lv_aload_n hx hb dX1_at_0 rfl (lv_at hl 0 rfl) ?_
  obtain ⟨a2, e1, h⟩ := bn1_some h
  refine x_get (C := RX1) (T := TX1) (N := 16) (ci := 1) hx hb hts in_X1 hown hK.1 hP rfl 8 (by decide) (hts _ q161) (fun _ h9 => h9) (gR_some e1) dX1_at_1 ?_
  refine lv_iload_n hx hb dX1_at_4 rfl (lv_at hl 1 rfl) ?_
  obtain ⟨a4, e3, h⟩ := bn1_some h
  refine x_aldr (t := 4) hx hb hK.1 hP (by decide) e3 dX1_at_5 ?_
  obtain ⟨a6, e5, h⟩ := bn1_some h
  refine x_getN (C := RX2) (T := TX2) (N := 1) (ci := 2) hx hb hts in_X2 hown hK.1 hP rfl 0 (by decide) (hK.2.1 _ q138 rfl) (fun _ h9 => h9) (gQ_some e5) dX1_at_6 ?_
  obtain ⟨a7, e8, h⟩ := bn1_some h
  subst e8
  obtain ⟨g9, h⟩ := chk_some h
  refine x_castM hx hb hown (hts _ q388) hK hP g9 dX1_at_9 ?_
  exact ret _ _ _ _ _ _ dX1_at_12 hP hS h

def bX1_tied_119 (k4 : Nat → Int32 → Int32 → Int32 → XS → Option (Int32 × XS)) (k12 : Nat → Int32 → Int32 → Int32 → Int32 → XS → Option (Int32 × XS)) (x0 : Nat) (x1 : Int32) (x2 : Int32) (x3 : Int32) (x4 : Int32) (S : XS) : Option (Int32 × XS) :=
nm (x4 + (1 : Int32)) fun y1 =>
k12 x0 x1 x2 x3 y1 S
def bX1_tied_82 (k4 : Nat → Int32 → Int32 → Int32 → XS → Option (Int32 × XS)) (k12 : Nat → Int32 → Int32 → Int32 → Int32 → XS → Option (Int32 × XS)) (x0 : Nat) (x1 : Int32) (x2 : Int32) (x3 : Int32) (x4 : Int32) (S : XS) : Option (Int32 × XS) :=
bn1 (gR S x0 1 10) fun a3 =>
bn1 (aI S a3 0 x4) fun v5 =>
(if ((x2 >>> (v5 &&& 31)) &&& (1 : Int32)) = (1 : Int32) then
bn1 (gR S x0 1 9) fun a8 =>
bn1 (aI S a8 0 x4) fun v10 =>
(if v10 < 0 then
bX1_tied_119 k4 k12 x0 x1 x2 x3 x4 S
else
bn1 (gR S x0 1 9) fun a13 =>
bn1 (aI S a13 0 x4) fun v15 =>
nm (x2 ||| ((1 : Int32) <<< (v15 &&& 31))) fun y16 =>
bX1_tied_119 k4 k12 x0 x1 y16 x3 x4 S)
else
bX1_tied_119 k4 k12 x0 x1 x2 x3 x4 S)
def bX1_tied_63 (k4 : Nat → Int32 → Int32 → Int32 → XS → Option (Int32 × XS)) (k12 : Nat → Int32 → Int32 → Int32 → Int32 → XS → Option (Int32 × XS)) (x0 : Nat) (x1 : Int32) (x2 : Int32) (x3 : Int32) (x4 : Int32) (t0 : Int32) (S : XS) : Option (Int32 × XS) :=
(if t0 = 0 then
bX1_tied_82 k4 k12 x0 x1 x2 x3 x4 S
else
bn1 (gR S x0 1 10) fun a19 =>
bn1 (aI S a19 0 x4) fun v21 =>
nm (x2 ||| ((1 : Int32) <<< (v21 &&& 31))) fun y22 =>
bX1_tied_82 k4 k12 x0 x1 y22 x3 x4 S)
def bX1_tied_58 (k4 : Nat → Int32 → Int32 → Int32 → XS → Option (Int32 × XS)) (k12 : Nat → Int32 → Int32 → Int32 → Int32 → XS → Option (Int32 × XS)) (x0 : Nat) (x1 : Int32) (x2 : Int32) (x3 : Int32) (x4 : Int32) (S : XS) : Option (Int32 × XS) :=
bX1_tied_63 k4 k12 x0 x1 x2 x3 x4 (1 : Int32) S
def bX1_tied_12 (k4 : Nat → Int32 → Int32 → Int32 → XS → Option (Int32 × XS)) (k12 : Nat → Int32 → Int32 → Int32 → Int32 → XS → Option (Int32 × XS)) (x0 : Nat) (x1 : Int32) (x2 : Int32) (x3 : Int32) (x4 : Int32) (S : XS) : Option (Int32 × XS) :=
bn1 (gI S x0 1 0) fun v24 =>
(if v24 ≤ x4 then
nm (x3 + (1 : Int32)) fun y26 =>
k4 x0 x1 x2 y26 S
else
(if ((x1 >>> (x4 &&& 31)) &&& (1 : Int32)) = 0 then
bX1_tied_119 k4 k12 x0 x1 x2 x3 x4 S
else
bn1 (gR S x0 1 9) fun a29 =>
bn1 (aI S a29 0 x4) fun v31 =>
(if v31 < 0 then
bX1_tied_58 k4 k12 x0 x1 x2 x3 x4 S
else
bn1 (gR S x0 1 9) fun a34 =>
bn1 (aI S a34 0 x4) fun v36 =>
(if ((x2 >>> (v36 &&& 31)) &&& (1 : Int32)) = (1 : Int32) then
bX1_tied_58 k4 k12 x0 x1 x2 x3 x4 S
else
bX1_tied_63 k4 k12 x0 x1 x2 x3 x4 (0 : Int32) S))))
def lX1_tied_12 (k4 : Nat → Int32 → Int32 → Int32 → XS → Option (Int32 × XS)) : Nat → (Nat → Int32 → Int32 → Int32 → Int32 → XS → Option (Int32 × XS))
  | 0 => fun _ _ _ _ _ _ => none
  | n + 1 => bX1_tied_12 k4 (lX1_tied_12 k4 n)
def bX1_tied_4 (k4 : Nat → Int32 → Int32 → Int32 → XS → Option (Int32 × XS)) (x0 : Nat) (x1 : Int32) (x2 : Int32) (x3 : Int32) (S : XS) : Option (Int32 × XS) :=
(if (4 : Int32) ≤ x3 then
some (x2, S)
else
lX1_tied_12 k4 FU x0 x1 x2 x3 (0 : Int32) S)
def lX1_tied_4 : Nat → (Nat → Int32 → Int32 → Int32 → XS → Option (Int32 × XS))
  | 0 => fun _ _ _ _ _ => none
  | n + 1 => bX1_tied_4 (lX1_tied_4 n)
def fX1_tied (x0 : Nat) (x1 : Int32) (S : XS) : Option (Int32 × XS) :=
lX1_tied_4 FU x0 x1 (0 : Int32) (0 : Int32) S
set_option maxHeartbeats 4000000 in
set_option maxRecDepth 100000 in
theorem mX1_tied {l : Launch} {D : va_G} {cA : Nat → ClassId} {A : Nat → Prop} (x0 : Nat) (x1 : Int32) (S : XS) {out : (Int32 × XS)} (h : fX1_tied x0 x1 S = some out) : Met l yX1_tied (ws_ yX1_tied cX1_tied 6 (some .int)) ({ frames := 0, cells := 0, slots := 0, locals := 0 } : Room) (gPc (xK D cA A) (xP D cA A) A [.ref x0, .int x1] S) (gQi (xK D cA A) (xP D cA A) A out) 0 0 A := by
  refine gMet_z (by decide) (Nat.le_of_ble_eq_true rfl) ?_ xKst
  intro p e s m below meth c Q ls args H locs hC hP hS hl ret
  obtain ⟨hx, hb, hml, hown, hts, hA, hK⟩ := hC
  have hown : s.vm.findClass RX1 = some m.cls := hown
  have hl : lv_has ls 6 [(0, .ref x0), (1, .int x1)] := hl
  have L4 : ∀ (n4 : Nat) (x0 : Nat) (x1 : Int32) (x2 : Int32) (x3 : Int32) (S : XS) (H : Heap) (locs : List Loc) (ls : Array Slot), xP D cA A S H → va_S A s.heap H locs → lv_has ls 6 [(0, .ref x0), (1, .int x1), (2, .int x2), (3, .int x3)] → lX1_tied_4 n4 x0 x1 x2 x3 S = some out → W p l e ({ frames := 0, cells := 0, slots := 0, locals := 0 } : Room) s m args below meth c H locs 0 0 Q (F0 m 4 ls []) := by
    intro n4
    induction n4 with
    | zero =>
      intro x0 x1 x2 x3 S H locs ls hP hS hl h
      cases h
    | succ n4 ih4 =>
      have L12 : ∀ (n12 : Nat) (x0 : Nat) (x1 : Int32) (x2 : Int32) (x3 : Int32) (x4 : Int32) (S : XS) (H : Heap) (locs : List Loc) (ls : Array Slot), xP D cA A S H → va_S A s.heap H locs → lv_has ls 6 [(0, .ref x0), (1, .int x1), (2, .int x2), (3, .int x3), (4, .int x4)] → lX1_tied_12 (lX1_tied_4 n4) n12 x0 x1 x2 x3 x4 S = some out → W p l e ({ frames := 0, cells := 0, slots := 0, locals := 0 } : Room) s m args below meth c H locs 0 0 Q (F0 m 12 ls []) := by
        intro n12
        induction n12 with
        | zero =>
          intro x0 x1 x2 x3 x4 S H locs ls hP hS hl h
          cases h
        | succ n12 ih12 =>
          have B119 : ∀ (x0 : Nat) (x1 : Int32) (x2 : Int32) (x3 : Int32) (x4 : Int32) (S : XS) (H : Heap) (locs : List Loc) (ls : Array Slot), xP D cA A S H → va_S A s.heap H locs → lv_has ls 6 [(0, .ref x0), (1, .int x1), (2, .int x2), (3, .int x3), (4, .int x4)] → bX1_tied_119 (lX1_tied_4 n4) (lX1_tied_12 (lX1_tied_4 n4) n12) x0 x1 x2 x3 x4 S = some out → W p l e ({ frames := 0, cells := 0, slots := 0, locals := 0 } : Room) s m args below meth c H locs 0 0 Q (F0 m 119 ls []) := by
            intro x0 x1 x2 x3 x4 S H locs ls hP hS hl h
            unfold bX1_tied_119 at h
            obtain ⟨y1, ey1⟩ : ∃ y : Int32, y = x4 + (1 : Int32) := ⟨_, rfl⟩
            refine lv_iinc (v := y1) (lv' := [(4, .int y1), (0, .ref x0), (1, .int x1), (2, .int x2), (3, .int x3)]) hx hb dX1_tied_119 hl (k := 4) rfl (by rw [ey1]; rfl) (by decide) rfl (fun ls hl => ?_)
            have h := nm_at ey1 h
            refine lv_goto (tgt := 12) hx hb dX1_tied_122 (by decide) ?_
            exact ih12 x0 x1 x2 x3 y1 S _ _ _ hP hS (lv_sub hl [1, 2, 3, 4, 0] rfl) h
          have B82 : ∀ (x0 : Nat) (x1 : Int32) (x2 : Int32) (x3 : Int32) (x4 : Int32) (S : XS) (H : Heap) (locs : List Loc) (ls : Array Slot), xP D cA A S H → va_S A s.heap H locs → lv_has ls 6 [(0, .ref x0), (1, .int x1), (2, .int x2), (3, .int x3), (4, .int x4)] → bX1_tied_82 (lX1_tied_4 n4) (lX1_tied_12 (lX1_tied_4 n4) n12) x0 x1 x2 x3 x4 S = some out → W p l e ({ frames := 0, cells := 0, slots := 0, locals := 0 } : Room) s m args below meth c H locs 0 0 Q (F0 m 82 ls []) := by
            intro x0 x1 x2 x3 x4 S H locs ls hP hS hl h
            unfold bX1_tied_82 at h
            refine lv_iload_n hx hb dX1_tied_82 rfl (lv_at hl 2 rfl) ?_
            refine lv_aload_n hx hb dX1_tied_83 rfl (lv_at hl 0 rfl) ?_
            obtain ⟨a3, e2, h⟩ := bn1_some h
            refine x_get (C := RX1) (T := TX1) (N := 16) (ci := 1) hx hb hts in_X1 hown hK.1 hP rfl 10 (by decide) (hts _ q165) (fun _ h9 => h9) (gR_some e2) dX1_tied_84 ?_
            refine lv_iload hx hb dX1_tied_87 (lv_at hl 4 rfl) ?_
            obtain ⟨v5, e4, h⟩ := bn1_some h
            refine x_iald hx hb hK.1 hP e4 dX1_tied_89 ?_
            refine lv_ishr hx hb dX1_tied_90 ?_
            refine lv_iconst (v := (1 : Int32)) hx hb dX1_tied_91 (by decide) ?_
            refine lv_iand hx hb dX1_tied_92 ?_
            refine lv_iconst (v := (1 : Int32)) hx hb dX1_tied_93 (by decide) ?_
            refine lv_icmp_ne (tgt := 119) hx hb dX1_tied_94 (by decide) (fun c6 => ?_) (fun c6 => ?_)
            · have h := ite_f c6 h
              exact B119 x0 x1 x2 x3 x4 S _ _ _ hP hS hl h
            · have h := ite_t c6 h
              refine lv_aload_n hx hb dX1_tied_97 rfl (lv_at hl 0 rfl) ?_
              obtain ⟨a8, e7, h⟩ := bn1_some h
              refine x_get (C := RX1) (T := TX1) (N := 16) (ci := 1) hx hb hts in_X1 hown hK.1 hP rfl 9 (by decide) (hts _ q163) (fun _ h9 => h9) (gR_some e7) dX1_tied_98 ?_
              refine lv_iload hx hb dX1_tied_101 (lv_at hl 4 rfl) ?_
              obtain ⟨v10, e9, h⟩ := bn1_some h
              refine x_iald hx hb hK.1 hP e9 dX1_tied_103 ?_
              refine lv_if_lt (tgt := 119) hx hb dX1_tied_104 (by decide) (fun c11 => ?_) (fun c11 => ?_)
              · have h := ite_t c11 h
                exact B119 x0 x1 x2 x3 x4 S _ _ _ hP hS hl h
              · have h := ite_f c11 h
                refine lv_iload_n hx hb dX1_tied_107 rfl (lv_at hl 2 rfl) ?_
                refine lv_iconst (v := (1 : Int32)) hx hb dX1_tied_108 (by decide) ?_
                refine lv_aload_n hx hb dX1_tied_109 rfl (lv_at hl 0 rfl) ?_
                obtain ⟨a13, e12, h⟩ := bn1_some h
                refine x_get (C := RX1) (T := TX1) (N := 16) (ci := 1) hx hb hts in_X1 hown hK.1 hP rfl 9 (by decide) (hts _ q163) (fun _ h9 => h9) (gR_some e12) dX1_tied_110 ?_
                refine lv_iload hx hb dX1_tied_113 (lv_at hl 4 rfl) ?_
                obtain ⟨v15, e14, h⟩ := bn1_some h
                refine x_iald hx hb hK.1 hP e14 dX1_tied_115 ?_
                refine lv_ishl hx hb dX1_tied_116 ?_
                refine lv_ior hx hb dX1_tied_117 ?_
                refine lv_topi (fun y16 ey16 => ?_)
                have h := nm_at ey16 h
                refine lv_istore_n (lv' := [(2, .int y16), (0, .ref x0), (1, .int x1), (3, .int x3), (4, .int x4)]) hx hb dX1_tied_118 rfl hl (by decide) rfl (fun ls hl => ?_)
                exact B119 x0 x1 y16 x3 x4 S _ _ _ hP hS (lv_sub hl [1, 2, 0, 3, 4] rfl) h
          have B63 : ∀ (x0 : Nat) (x1 : Int32) (x2 : Int32) (x3 : Int32) (x4 : Int32) (t0 : Int32) (S : XS) (H : Heap) (locs : List Loc) (ls : Array Slot), xP D cA A S H → va_S A s.heap H locs → lv_has ls 6 [(0, .ref x0), (1, .int x1), (2, .int x2), (3, .int x3), (4, .int x4)] → bX1_tied_63 (lX1_tied_4 n4) (lX1_tied_12 (lX1_tied_4 n4) n12) x0 x1 x2 x3 x4 t0 S = some out → W p l e ({ frames := 0, cells := 0, slots := 0, locals := 0 } : Room) s m args below meth c H locs 0 0 Q (F0 m 63 ls [.int t0]) := by
            intro x0 x1 x2 x3 x4 t0 S H locs ls hP hS hl h
            unfold bX1_tied_63 at h
            refine lv_istore (lv' := [(5, .int t0), (0, .ref x0), (1, .int x1), (2, .int x2), (3, .int x3), (4, .int x4)]) hx hb dX1_tied_63 hl (by decide) rfl (fun ls hl => ?_)
            refine lv_iload hx hb dX1_tied_65 (lv_at hl 0 rfl) ?_
            refine lv_if_eq (tgt := 82) hx hb dX1_tied_67 (by decide) (fun c17 => ?_) (fun c17 => ?_)
            · have h := ite_t c17 h
              exact B82 x0 x1 x2 x3 x4 S _ _ _ hP hS (lv_sub hl [1, 2, 3, 4, 5] rfl) h
            · have h := ite_f c17 h
              refine lv_iload_n hx hb dX1_tied_70 rfl (lv_at hl 3 rfl) ?_
              refine lv_iconst (v := (1 : Int32)) hx hb dX1_tied_71 (by decide) ?_
              refine lv_aload_n hx hb dX1_tied_72 rfl (lv_at hl 1 rfl) ?_
              obtain ⟨a19, e18, h⟩ := bn1_some h
              refine x_get (C := RX1) (T := TX1) (N := 16) (ci := 1) hx hb hts in_X1 hown hK.1 hP rfl 10 (by decide) (hts _ q165) (fun _ h9 => h9) (gR_some e18) dX1_tied_73 ?_
              refine lv_iload hx hb dX1_tied_76 (lv_at hl 5 rfl) ?_
              obtain ⟨v21, e20, h⟩ := bn1_some h
              refine x_iald hx hb hK.1 hP e20 dX1_tied_78 ?_
              refine lv_ishl hx hb dX1_tied_79 ?_
              refine lv_ior hx hb dX1_tied_80 ?_
              refine lv_topi (fun y22 ey22 => ?_)
              have h := nm_at ey22 h
              refine lv_istore_n (lv' := [(2, .int y22), (5, .int t0), (0, .ref x0), (1, .int x1), (3, .int x3), (4, .int x4)]) hx hb dX1_tied_81 rfl hl (by decide) rfl (fun ls hl => ?_)
              exact B82 x0 x1 y22 x3 x4 S _ _ _ hP hS (lv_sub hl [2, 3, 0, 4, 5] rfl) h
          have B58 : ∀ (x0 : Nat) (x1 : Int32) (x2 : Int32) (x3 : Int32) (x4 : Int32) (S : XS) (H : Heap) (locs : List Loc) (ls : Array Slot), xP D cA A S H → va_S A s.heap H locs → lv_has ls 6 [(0, .ref x0), (1, .int x1), (2, .int x2), (3, .int x3), (4, .int x4)] → bX1_tied_58 (lX1_tied_4 n4) (lX1_tied_12 (lX1_tied_4 n4) n12) x0 x1 x2 x3 x4 S = some out → W p l e ({ frames := 0, cells := 0, slots := 0, locals := 0 } : Room) s m args below meth c H locs 0 0 Q (F0 m 58 ls []) := by
            intro x0 x1 x2 x3 x4 S H locs ls hP hS hl h
            unfold bX1_tied_58 at h
            refine lv_iconst (v := (1 : Int32)) hx hb dX1_tied_58 (by decide) ?_
            refine lv_goto (tgt := 63) hx hb dX1_tied_59 (by decide) ?_
            exact B63 x0 x1 x2 x3 x4 (1 : Int32) S _ _ _ hP hS hl h
          intro x0 x1 x2 x3 x4 S H locs ls hP hS hl h
          replace h : bX1_tied_12 (lX1_tied_4 n4) (lX1_tied_12 (lX1_tied_4 n4) n12) x0 x1 x2 x3 x4 S = some out := h
          unfold bX1_tied_12 at h
          refine lv_iload hx hb dX1_tied_12 (lv_at hl 4 rfl) ?_
          refine lv_aload_n hx hb dX1_tied_14 rfl (lv_at hl 0 rfl) ?_
          obtain ⟨v24, e23, h⟩ := bn1_some h
          refine x_get (C := RX1) (T := TX1) (N := 16) (ci := 1) hx hb hts in_X1 hown hK.1 hP rfl 0 (by decide) (hts _ q145) (fun _ h9 => h9) (gI_some e23) dX1_tied_15 ?_
          refine lv_icmp_ge (tgt := 125) hx hb dX1_tied_18 (by decide) (fun c25 => ?_) (fun c25 => ?_)
          · have h := ite_t c25 h
            obtain ⟨y26, ey26⟩ : ∃ y : Int32, y = x3 + (1 : Int32) := ⟨_, rfl⟩
            refine lv_iinc (v := y26) (lv' := [(3, .int y26), (0, .ref x0), (1, .int x1), (2, .int x2), (4, .int x4)]) hx hb dX1_tied_125 hl (k := 3) rfl (by rw [ey26]; rfl) (by decide) rfl (fun ls hl => ?_)
            have h := nm_at ey26 h
            refine lv_goto (tgt := 4) hx hb dX1_tied_128 (by decide) ?_
            exact ih4 x0 x1 x2 y26 S _ _ _ hP hS (lv_sub hl [1, 2, 3, 0] rfl) h
          · have h := ite_f c25 h
            refine lv_iload_n hx hb dX1_tied_21 rfl (lv_at hl 1 rfl) ?_
            refine lv_iload hx hb dX1_tied_22 (lv_at hl 4 rfl) ?_
            refine lv_ishr hx hb dX1_tied_24 ?_
            refine lv_iconst (v := (1 : Int32)) hx hb dX1_tied_25 (by decide) ?_
            refine lv_iand hx hb dX1_tied_26 ?_
            refine lv_if_ne (tgt := 33) hx hb dX1_tied_27 (by decide) (fun c27 => ?_) (fun c27 => ?_)
            · have h := ite_f c27 h
              refine lv_aload_n hx hb dX1_tied_33 rfl (lv_at hl 0 rfl) ?_
              obtain ⟨a29, e28, h⟩ := bn1_some h
              refine x_get (C := RX1) (T := TX1) (N := 16) (ci := 1) hx hb hts in_X1 hown hK.1 hP rfl 9 (by decide) (hts _ q163) (fun _ h9 => h9) (gR_some e28) dX1_tied_34 ?_
              refine lv_iload hx hb dX1_tied_37 (lv_at hl 4 rfl) ?_
              obtain ⟨v31, e30, h⟩ := bn1_some h
              refine x_iald hx hb hK.1 hP e30 dX1_tied_39 ?_
              refine lv_if_lt (tgt := 58) hx hb dX1_tied_40 (by decide) (fun c32 => ?_) (fun c32 => ?_)
              · have h := ite_t c32 h
                exact B58 x0 x1 x2 x3 x4 S _ _ _ hP hS hl h
              · have h := ite_f c32 h
                refine lv_iload_n hx hb dX1_tied_43 rfl (lv_at hl 2 rfl) ?_
                refine lv_aload_n hx hb dX1_tied_44 rfl (lv_at hl 0 rfl) ?_
                obtain ⟨a34, e33, h⟩ := bn1_some h
                refine x_get (C := RX1) (T := TX1) (N := 16) (ci := 1) hx hb hts in_X1 hown hK.1 hP rfl 9 (by decide) (hts _ q163) (fun _ h9 => h9) (gR_some e33) dX1_tied_45 ?_
                refine lv_iload hx hb dX1_tied_48 (lv_at hl 4 rfl) ?_
                obtain ⟨v36, e35, h⟩ := bn1_some h
                refine x_iald hx hb hK.1 hP e35 dX1_tied_50 ?_
                refine lv_ishr hx hb dX1_tied_51 ?_
                refine lv_iconst (v := (1 : Int32)) hx hb dX1_tied_52 (by decide) ?_
                refine lv_iand hx hb dX1_tied_53 ?_
                refine lv_iconst (v := (1 : Int32)) hx hb dX1_tied_54 (by decide) ?_
                refine lv_icmp_ne (tgt := 62) hx hb dX1_tied_55 (by decide) (fun c37 => ?_) (fun c37 => ?_)
                · have h := ite_f c37 h
                  refine lv_iconst (v := (0 : Int32)) hx hb dX1_tied_62 (by decide) ?_
                  exact B63 x0 x1 x2 x3 x4 (0 : Int32) S _ _ _ hP hS hl h
                · have h := ite_t c37 h
                  exact B58 x0 x1 x2 x3 x4 S _ _ _ hP hS hl h
            · have h := ite_t c27 h
              refine lv_goto (tgt := 119) hx hb dX1_tied_30 (by decide) ?_
              exact B119 x0 x1 x2 x3 x4 S _ _ _ hP hS hl h
      intro x0 x1 x2 x3 S H locs ls hP hS hl h
      replace h : bX1_tied_4 (lX1_tied_4 n4) x0 x1 x2 x3 S = some out := h
      unfold bX1_tied_4 at h
      refine lv_iload_n hx hb dX1_tied_4 rfl (lv_at hl 3 rfl) ?_
      refine lv_iconst (v := (4 : Int32)) hx hb dX1_tied_5 (by decide) ?_
      refine lv_icmp_ge (tgt := 131) hx hb dX1_tied_6 (by decide) (fun c38 => ?_) (fun c38 => ?_)
      · have h := ite_t c38 h
        refine lv_iload_n hx hb dX1_tied_131 rfl (lv_at hl 2 rfl) ?_
        exact ret _ _ _ _ _ _ dX1_tied_132 rfl hP hS h
      · have h := ite_f c38 h
        refine lv_iconst (v := (0 : Int32)) hx hb dX1_tied_9 (by decide) ?_
        refine lv_istore (lv' := [(4, .int (0 : Int32)), (0, .ref x0), (1, .int x1), (2, .int x2), (3, .int x3)]) hx hb dX1_tied_10 hl (by decide) rfl (fun ls hl => ?_)
        exact L12 FU x0 x1 x2 x3 (0 : Int32) S _ _ _ hP hS (lv_sub hl [1, 2, 3, 4, 0] rfl) h
  unfold fX1_tied at h
  refine lv_iconst (v := (0 : Int32)) hx hb dX1_tied_0 (by decide) ?_
  refine lv_istore_n (lv' := [(2, .int (0 : Int32)), (0, .ref x0), (1, .int x1)]) hx hb dX1_tied_1 rfl hl (by decide) rfl (fun ls hl => ?_)
  refine lv_iconst (v := (0 : Int32)) hx hb dX1_tied_2 (by decide) ?_
  refine lv_istore_n (lv' := [(3, .int (0 : Int32)), (2, .int (0 : Int32)), (0, .ref x0), (1, .int x1)]) hx hb dX1_tied_3 rfl hl (by decide) rfl (fun ls hl => ?_)
  exact L4 FU x0 x1 (0 : Int32) (0 : Int32) S _ _ _ hP hS (lv_sub hl [2, 3, 1, 0] rfl) h

def fX1_drawn (x0 : Nat) (S : XS) : Option (Int32 × XS) :=
bn1 (gI S x0 1 5) fun v2 =>
nm ((v2 * (1103515245 : Int32)) + (12345 : Int32)) fun y3 =>
bn1 (pF S x0 1 5 (.int y3)) fun S5 =>
bn1 (gI S5 x0 1 5) fun v7 =>
some ((((v7).toUInt32 >>> (((8 : Int32)).toUInt32 &&& Int32.toUInt32 31)).toInt32), S5)
set_option maxHeartbeats 4000000 in
set_option maxRecDepth 100000 in
theorem mX1_drawn {l : Launch} {D : va_G} {cA : Nat → ClassId} {A : Nat → Prop} (x0 : Nat) (S : XS) {out : (Int32 × XS)} (h : fX1_drawn x0 S = some out) : Met l yX1_drawn (ws_ yX1_drawn cX1_drawn 1 (some .int)) ({ frames := 0, cells := 0, slots := 0, locals := 0 } : Room) (gPc (xK D cA A) (xP D cA A) A [.ref x0] S) (gQi (xK D cA A) (xP D cA A) A out) 0 0 A := by
  refine gMet_z (by decide) (Nat.le_of_ble_eq_true rfl) ?_ xKst
  intro p e s m below meth c Q ls args H locs hC hP hS hl ret
  obtain ⟨hx, hb, hml, hown, hts, hA, hK⟩ := hC
  have hown : s.vm.findClass RX1 = some m.cls := hown
  have hl : lv_has ls 1 [(0, .ref x0)] := hl
  unfold fX1_drawn at h
  refine lv_aload_n hx hb dX1_drawn_0 rfl (lv_at hl 0 rfl) ?_
  refine lv_aload_n hx hb dX1_drawn_1 rfl (lv_at hl 0 rfl) ?_
  obtain ⟨v2, e1, h⟩ := bn1_some h
  refine x_get (C := RX1) (T := TX1) (N := 16) (ci := 1) hx hb hts in_X1 hown hK.1 hP rfl 5 (by decide) (hts _ q155) (fun _ h9 => h9) (gI_some e1) dX1_drawn_2 ?_
  refine lv_ldc (v := (1103515245 : Int32)) hx hb hown (hts _ q937) dX1_drawn_5 ?_
  refine lv_imul hx hb dX1_drawn_7 ?_
  refine lv_sipush (v := (12345 : Int32)) hx hb dX1_drawn_8 (by decide) ?_
  refine lv_iadd hx hb dX1_drawn_11 ?_
  refine lv_topi (fun y3 ey3 => ?_)
  have h := nm_at ey3 h
  obtain ⟨S5, e4, h⟩ := bn1_some h
  refine x_put (v := .int y3) (ty := .int) (C := RX1) (T := TX1) (N := 16) (ci := 1) hx hb hts in_X1 tyX1 tyX1_ok nmX1 hown hK.1 hP hS rfl 5 (by decide) (hts _ q155) (fun _ h9 => h9) rfl (by decide +kernel) rfl rfl e4 dX1_drawn_12 (fun H locs hP hS => ?_)
  refine lv_aload_n hx hb dX1_drawn_15 rfl (lv_at hl 0 rfl) ?_
  obtain ⟨v7, e6, h⟩ := bn1_some h
  refine x_get (C := RX1) (T := TX1) (N := 16) (ci := 1) hx hb hts in_X1 hown hK.1 hP rfl 5 (by decide) (hts _ q155) (fun _ h9 => h9) (gI_some e6) dX1_drawn_16 ?_
  refine lv_bipush (v := (8 : Int32)) hx hb dX1_drawn_19 (by decide) ?_
  refine lv_iushr hx hb dX1_drawn_21 rfl ?_
  exact ret _ _ _ _ _ _ dX1_drawn_22 rfl hP hS h

def bX1_follows_66 (k66 : Nat → Nat → Int32 → XS → Option XS) (x0 : Nat) (x1 : Nat) (x2 : Int32) (S : XS) : Option XS :=
(if (8 : Int32) ≤ x2 then
bn1 (gR S x1 1 9) fun a3 =>
bn1 (gR S x0 1 9) fun a5 =>
bn1 (cpI S 0 a3 (0 : Int32) a5 (0 : Int32) (8 : Int32)) fun S7 =>
bn1 (gR S7 x1 1 10) fun a9 =>
bn1 (gR S7 x0 1 10) fun a11 =>
bn1 (cpI S7 0 a9 (0 : Int32) a11 (0 : Int32) (8 : Int32)) fun S13 =>
bn1 (gR S13 x1 1 11) fun a15 =>
bn1 (gR S13 x0 1 11) fun a17 =>
bn1 (cpI S13 0 a15 (0 : Int32) a17 (0 : Int32) (8 : Int32)) fun S19 =>
bn1 (gR S19 x1 1 12) fun a21 =>
bn1 (gR S19 x0 1 12) fun a23 =>
bn1 (cpI S19 0 a21 (0 : Int32) a23 (0 : Int32) (8 : Int32)) fun S25 =>
bn1 (gR S25 x1 1 13) fun a27 =>
bn1 (gR S25 x0 1 13) fun a29 =>
bn1 (cpQ S25 5 13 a27 (0 : Int32) a29 (0 : Int32) (2 : Int32)) fun S31 =>
bn1 (gR S31 x1 1 14) fun a33 =>
bn1 (gR S31 x0 1 14) fun a35 =>
bn1 (cpI S31 1 a33 (0 : Int32) a35 (0 : Int32) (60 : Int32)) fun S37 =>
bn1 (gR S37 x1 1 15) fun a39 =>
bn1 (gR S37 x0 1 15) fun a41 =>
bn1 (cpI S37 0 a39 (0 : Int32) a41 (0 : Int32) (24 : Int32)) fun S43 =>
some S43
else
bn1 (gR S x0 1 8) fun a45 =>
bn1 (aR S a45 4 x2) fun a47 =>
bn1 (gR S x1 1 8) fun a49 =>
bn1 (aR S a49 4 x2) fun a51 =>
bn1 (gQ S a51 2 0) fun a53 =>
bn1 (pF S a47 2 0 (va_rf a53)) fun S55 =>
nm (x2 + (1 : Int32)) fun y56 =>
k66 x0 x1 y56 S55)
def lX1_follows_66 : Nat → (Nat → Nat → Int32 → XS → Option XS)
  | 0 => fun _ _ _ _ => none
  | n + 1 => bX1_follows_66 (lX1_follows_66 n)
def fX1_follows (x0 : Nat) (x1 : Nat) (S : XS) : Option XS :=
bn1 (gI S x1 1 0) fun v58 =>
bn1 (pF S x0 1 0 (.int v58)) fun S60 =>
bn1 (gI S60 x1 1 1) fun v62 =>
bn1 (pF S60 x0 1 1 (.int v62)) fun S64 =>
bn1 (gI S64 x1 1 2) fun v66 =>
bn1 (pF S64 x0 1 2 (.int v66)) fun S68 =>
bn1 (gI S68 x1 1 3) fun v70 =>
bn1 (pF S68 x0 1 3 (.int v70)) fun S72 =>
bn1 (gI S72 x1 1 4) fun v74 =>
bn1 (pF S72 x0 1 4 (.int v74)) fun S76 =>
bn1 (gI S76 x1 1 5) fun v78 =>
bn1 (pF S76 x0 1 5 (.int v78)) fun S80 =>
bn1 (gI S80 x1 1 6) fun v82 =>
bn1 (pF S80 x0 1 6 (.int v82)) fun S84 =>
bn1 (gI S84 x1 1 7) fun v86 =>
bn1 (pF S84 x0 1 7 (.int v86)) fun S88 =>
lX1_follows_66 FU x0 x1 (0 : Int32) S88
set_option maxHeartbeats 4000000 in
set_option maxRecDepth 100000 in
theorem mX1_follows {l : Launch} {D : va_G} {cA : Nat → ClassId} {A : Nat → Prop} (x0 : Nat) (x1 : Nat) (S : XS) {out : XS} (h : fX1_follows x0 x1 S = some out) : Met l yX1_follows (ws_ yX1_follows cX1_follows 3 none) ({ frames := 1, cells := 0, slots := 0, locals := 60 } : Room) (gPc (xK D cA A) (xP D cA A) A [.ref x0, .ref x1] S) (gQv (xK D cA A) (xP D cA A) A out) 0 0 A := by
  refine gMet_v (by decide) (Nat.le_of_ble_eq_true rfl) ?_ xKst
  intro p e s m below meth c Q ls args H locs hC hP hS hl hmi ret
  obtain ⟨hx, hb, hml, hown, hts, hA, hK⟩ := hC
  have hown : s.vm.findClass RX1 = some m.cls := hown
  have hl : lv_has ls 3 [(0, .ref x0), (1, .ref x1)] := hl
  have L66 : ∀ (n66 : Nat) (x0 : Nat) (x1 : Nat) (x2 : Int32) (S : XS) (H : Heap) (locs : List Loc) (ls : Array Slot), xP D cA A S H → va_S A s.heap H locs → lv_has ls 3 [(0, .ref x0), (1, .ref x1), (2, .int x2)] → lX1_follows_66 n66 x0 x1 x2 S = some out → W p l e ({ frames := 1, cells := 0, slots := 0, locals := 60 } : Room) s m args below meth c H locs 0 0 Q (F0 m 66 ls []) := by
    intro n66
    induction n66 with
    | zero =>
      intro x0 x1 x2 S H locs ls hP hS hl h
      cases h
    | succ n66 ih66 =>
      intro x0 x1 x2 S H locs ls hP hS hl h
      replace h : bX1_follows_66 (lX1_follows_66 n66) x0 x1 x2 S = some out := h
      unfold bX1_follows_66 at h
      refine lv_iload_n hx hb dX1_follows_66 rfl (lv_at hl 2 rfl) ?_
      refine lv_bipush (v := (8 : Int32)) hx hb dX1_follows_67 (by decide) ?_
      refine lv_icmp_ge (tgt := 96) hx hb dX1_follows_69 (by decide) (fun c1 => ?_) (fun c1 => ?_)
      · have h := ite_t c1 h
        refine lv_aload_n hx hb dX1_follows_96 rfl (lv_at hl 1 rfl) ?_
        obtain ⟨a3, e2, h⟩ := bn1_some h
        refine x_get (C := RX1) (T := TX1) (N := 16) (ci := 1) hx hb hts in_X1 hown hK.1 hP rfl 9 (by decide) (hts _ q163) (fun _ h9 => h9) (gR_some e2) dX1_follows_97 ?_
        refine lv_iconst (v := (0 : Int32)) hx hb dX1_follows_100 (by decide) ?_
        refine lv_aload_n hx hb dX1_follows_101 rfl (lv_at hl 0 rfl) ?_
        obtain ⟨a5, e4, h⟩ := bn1_some h
        refine x_get (C := RX1) (T := TX1) (N := 16) (ci := 1) hx hb hts in_X1 hown hK.1 hP rfl 9 (by decide) (hts _ q163) (fun _ h9 => h9) (gR_some e4) dX1_follows_102 ?_
        refine lv_iconst (v := (0 : Int32)) hx hb dX1_follows_105 (by decide) ?_
        refine lv_bipush (v := (8 : Int32)) hx hb dX1_follows_106 (by decide) ?_
        obtain ⟨S7, e6, h⟩ := bn1_some h
        refine x_copyi (t := 0) hx hb (hml.trans hl.1.symm) hown (hts _ q988) (hts _ q990) (hts _ q989) (hts _ q110) hK.1 hP hS (by decide) e6 (by first | decide | omega) (by first | decide | omega) dX1_follows_108 (fun H locs hP hS => ?_)
        refine lv_aload_n hx hb dX1_follows_111 rfl (lv_at hl 1 rfl) ?_
        obtain ⟨a9, e8, h⟩ := bn1_some h
        refine x_get (C := RX1) (T := TX1) (N := 16) (ci := 1) hx hb hts in_X1 hown hK.1 hP rfl 10 (by decide) (hts _ q165) (fun _ h9 => h9) (gR_some e8) dX1_follows_112 ?_
        refine lv_iconst (v := (0 : Int32)) hx hb dX1_follows_115 (by decide) ?_
        refine lv_aload_n hx hb dX1_follows_116 rfl (lv_at hl 0 rfl) ?_
        obtain ⟨a11, e10, h⟩ := bn1_some h
        refine x_get (C := RX1) (T := TX1) (N := 16) (ci := 1) hx hb hts in_X1 hown hK.1 hP rfl 10 (by decide) (hts _ q165) (fun _ h9 => h9) (gR_some e10) dX1_follows_117 ?_
        refine lv_iconst (v := (0 : Int32)) hx hb dX1_follows_120 (by decide) ?_
        refine lv_bipush (v := (8 : Int32)) hx hb dX1_follows_121 (by decide) ?_
        obtain ⟨S13, e12, h⟩ := bn1_some h
        refine x_copyi (t := 0) hx hb (hml.trans hl.1.symm) hown (hts _ q988) (hts _ q990) (hts _ q989) (hts _ q110) hK.1 hP hS (by decide) e12 (by first | decide | omega) (by first | decide | omega) dX1_follows_123 (fun H locs hP hS => ?_)
        refine lv_aload_n hx hb dX1_follows_126 rfl (lv_at hl 1 rfl) ?_
        obtain ⟨a15, e14, h⟩ := bn1_some h
        refine x_get (C := RX1) (T := TX1) (N := 16) (ci := 1) hx hb hts in_X1 hown hK.1 hP rfl 11 (by decide) (hts _ q167) (fun _ h9 => h9) (gR_some e14) dX1_follows_127 ?_
        refine lv_iconst (v := (0 : Int32)) hx hb dX1_follows_130 (by decide) ?_
        refine lv_aload_n hx hb dX1_follows_131 rfl (lv_at hl 0 rfl) ?_
        obtain ⟨a17, e16, h⟩ := bn1_some h
        refine x_get (C := RX1) (T := TX1) (N := 16) (ci := 1) hx hb hts in_X1 hown hK.1 hP rfl 11 (by decide) (hts _ q167) (fun _ h9 => h9) (gR_some e16) dX1_follows_132 ?_
        refine lv_iconst (v := (0 : Int32)) hx hb dX1_follows_135 (by decide) ?_
        refine lv_bipush (v := (8 : Int32)) hx hb dX1_follows_136 (by decide) ?_
        obtain ⟨S19, e18, h⟩ := bn1_some h
        refine x_copyi (t := 0) hx hb (hml.trans hl.1.symm) hown (hts _ q988) (hts _ q990) (hts _ q989) (hts _ q110) hK.1 hP hS (by decide) e18 (by first | decide | omega) (by first | decide | omega) dX1_follows_138 (fun H locs hP hS => ?_)
        refine lv_aload_n hx hb dX1_follows_141 rfl (lv_at hl 1 rfl) ?_
        obtain ⟨a21, e20, h⟩ := bn1_some h
        refine x_get (C := RX1) (T := TX1) (N := 16) (ci := 1) hx hb hts in_X1 hown hK.1 hP rfl 12 (by decide) (hts _ q169) (fun _ h9 => h9) (gR_some e20) dX1_follows_142 ?_
        refine lv_iconst (v := (0 : Int32)) hx hb dX1_follows_145 (by decide) ?_
        refine lv_aload_n hx hb dX1_follows_146 rfl (lv_at hl 0 rfl) ?_
        obtain ⟨a23, e22, h⟩ := bn1_some h
        refine x_get (C := RX1) (T := TX1) (N := 16) (ci := 1) hx hb hts in_X1 hown hK.1 hP rfl 12 (by decide) (hts _ q169) (fun _ h9 => h9) (gR_some e22) dX1_follows_147 ?_
        refine lv_iconst (v := (0 : Int32)) hx hb dX1_follows_150 (by decide) ?_
        refine lv_bipush (v := (8 : Int32)) hx hb dX1_follows_151 (by decide) ?_
        obtain ⟨S25, e24, h⟩ := bn1_some h
        refine x_copyi (t := 0) hx hb (hml.trans hl.1.symm) hown (hts _ q988) (hts _ q990) (hts _ q989) (hts _ q110) hK.1 hP hS (by decide) e24 (by first | decide | omega) (by first | decide | omega) dX1_follows_153 (fun H locs hP hS => ?_)
        refine lv_aload_n hx hb dX1_follows_156 rfl (lv_at hl 1 rfl) ?_
        obtain ⟨a27, e26, h⟩ := bn1_some h
        refine x_get (C := RX1) (T := TX1) (N := 16) (ci := 1) hx hb hts in_X1 hown hK.1 hP rfl 13 (by decide) (hts _ q171) (fun _ h9 => h9) (gR_some e26) dX1_follows_157 ?_
        refine lv_iconst (v := (0 : Int32)) hx hb dX1_follows_160 (by decide) ?_
        refine lv_aload_n hx hb dX1_follows_161 rfl (lv_at hl 0 rfl) ?_
        obtain ⟨a29, e28, h⟩ := bn1_some h
        refine x_get (C := RX1) (T := TX1) (N := 16) (ci := 1) hx hb hts in_X1 hown hK.1 hP rfl 13 (by decide) (hts _ q171) (fun _ h9 => h9) (gR_some e28) dX1_follows_162 ?_
        refine lv_iconst (v := (0 : Int32)) hx hb dX1_follows_165 (by decide) ?_
        refine lv_iconst (v := (2 : Int32)) hx hb dX1_follows_166 (by decide) ?_
        obtain ⟨S31, e30, h⟩ := bn1_some h
        refine x_copyq (t := 5) (ci := 13) (r := (RX13, TX13, 3)) hx hb (hml.trans hl.1.symm) hown (hts _ q988) (hts _ q990) (hts _ q989) (hts _ q110) hK.1 hP hS rfl rfl e30 (by first | decide | omega) (by first | decide | omega) dX1_follows_167 (fun H locs hP hS => ?_)
        refine lv_aload_n hx hb dX1_follows_170 rfl (lv_at hl 1 rfl) ?_
        obtain ⟨a33, e32, h⟩ := bn1_some h
        refine x_get (C := RX1) (T := TX1) (N := 16) (ci := 1) hx hb hts in_X1 hown hK.1 hP rfl 14 (by decide) (hts _ q173) (fun _ h9 => h9) (gR_some e32) dX1_follows_171 ?_
        refine lv_iconst (v := (0 : Int32)) hx hb dX1_follows_174 (by decide) ?_
        refine lv_aload_n hx hb dX1_follows_175 rfl (lv_at hl 0 rfl) ?_
        obtain ⟨a35, e34, h⟩ := bn1_some h
        refine x_get (C := RX1) (T := TX1) (N := 16) (ci := 1) hx hb hts in_X1 hown hK.1 hP rfl 14 (by decide) (hts _ q173) (fun _ h9 => h9) (gR_some e34) dX1_follows_176 ?_
        refine lv_iconst (v := (0 : Int32)) hx hb dX1_follows_179 (by decide) ?_
        refine lv_bipush (v := (60 : Int32)) hx hb dX1_follows_180 (by decide) ?_
        obtain ⟨S37, e36, h⟩ := bn1_some h
        refine x_copyi (t := 1) hx hb (hml.trans hl.1.symm) hown (hts _ q988) (hts _ q990) (hts _ q989) (hts _ q110) hK.1 hP hS (by decide) e36 (by first | decide | omega) (by first | decide | omega) dX1_follows_182 (fun H locs hP hS => ?_)
        refine lv_aload_n hx hb dX1_follows_185 rfl (lv_at hl 1 rfl) ?_
        obtain ⟨a39, e38, h⟩ := bn1_some h
        refine x_get (C := RX1) (T := TX1) (N := 16) (ci := 1) hx hb hts in_X1 hown hK.1 hP rfl 15 (by decide) (hts _ q175) (fun _ h9 => h9) (gR_some e38) dX1_follows_186 ?_
        refine lv_iconst (v := (0 : Int32)) hx hb dX1_follows_189 (by decide) ?_
        refine lv_aload_n hx hb dX1_follows_190 rfl (lv_at hl 0 rfl) ?_
        obtain ⟨a41, e40, h⟩ := bn1_some h
        refine x_get (C := RX1) (T := TX1) (N := 16) (ci := 1) hx hb hts in_X1 hown hK.1 hP rfl 15 (by decide) (hts _ q175) (fun _ h9 => h9) (gR_some e40) dX1_follows_191 ?_
        refine lv_iconst (v := (0 : Int32)) hx hb dX1_follows_194 (by decide) ?_
        refine lv_bipush (v := (24 : Int32)) hx hb dX1_follows_195 (by decide) ?_
        obtain ⟨S43, e42, h⟩ := bn1_some h
        refine x_copyi (t := 0) hx hb (hml.trans hl.1.symm) hown (hts _ q988) (hts _ q990) (hts _ q989) (hts _ q110) hK.1 hP hS (by decide) e42 (by first | decide | omega) (by first | decide | omega) dX1_follows_197 (fun H locs hP hS => ?_)
        exact ret _ _ _ _ _ dX1_follows_200 hP hS h
      · have h := ite_f c1 h
        refine lv_aload_n hx hb dX1_follows_72 rfl (lv_at hl 0 rfl) ?_
        obtain ⟨a45, e44, h⟩ := bn1_some h
        refine x_get (C := RX1) (T := TX1) (N := 16) (ci := 1) hx hb hts in_X1 hown hK.1 hP rfl 8 (by decide) (hts _ q161) (fun _ h9 => h9) (gR_some e44) dX1_follows_73 ?_
        refine lv_iload_n hx hb dX1_follows_76 rfl (lv_at hl 2 rfl) ?_
        obtain ⟨a47, e46, h⟩ := bn1_some h
        refine x_aldr (t := 4) hx hb hK.1 hP (by decide) e46 dX1_follows_77 ?_
        refine lv_aload_n hx hb dX1_follows_78 rfl (lv_at hl 1 rfl) ?_
        obtain ⟨a49, e48, h⟩ := bn1_some h
        refine x_get (C := RX1) (T := TX1) (N := 16) (ci := 1) hx hb hts in_X1 hown hK.1 hP rfl 8 (by decide) (hts _ q161) (fun _ h9 => h9) (gR_some e48) dX1_follows_79 ?_
        refine lv_iload_n hx hb dX1_follows_82 rfl (lv_at hl 2 rfl) ?_
        obtain ⟨a51, e50, h⟩ := bn1_some h
        refine x_aldr (t := 4) hx hb hK.1 hP (by decide) e50 dX1_follows_83 ?_
        obtain ⟨a53, e52, h⟩ := bn1_some h
        refine x_getN (C := RX2) (T := TX2) (N := 1) (ci := 2) hx hb hts in_X2 hown hK.1 hP rfl 0 (by decide) (hK.2.1 _ q138 rfl) (fun _ h9 => h9) (gQ_some e52) dX1_follows_84 ?_
        obtain ⟨S55, e54, h⟩ := bn1_some h
        refine x_putN (v := va_rf a53) (ty := (.object "java/lang/Object")) (C := RX2) (T := TX2) (N := 1) (ci := 2) hx hb hts in_X2 tyX2 tyX2_ok nmX2 hown hK.1 hP hS rfl 0 (by decide) (hK.2.1 _ q138 rfl) (fun _ h9 => h9) rfl (by decide +kernel) (rf_nar _) (rf_fit _) e54 dX1_follows_87 (fun H locs hP hS => ?_)
        obtain ⟨y56, ey56⟩ : ∃ y : Int32, y = x2 + (1 : Int32) := ⟨_, rfl⟩
        refine lv_iinc (v := y56) (lv' := [(2, .int y56), (0, .ref x0), (1, .ref x1)]) hx hb dX1_follows_90 hl (k := 2) rfl (by rw [ey56]; rfl) (by decide) rfl (fun ls hl => ?_)
        have h := nm_at ey56 h
        refine lv_goto (tgt := 66) hx hb dX1_follows_93 (by decide) ?_
        exact ih66 x0 x1 y56 S55 _ _ _ hP hS (lv_sub hl [1, 2, 0] rfl) h
  unfold fX1_follows at h
  refine lv_aload_n hx hb dX1_follows_0 rfl (lv_at hl 0 rfl) ?_
  refine lv_aload_n hx hb dX1_follows_1 rfl (lv_at hl 1 rfl) ?_
  obtain ⟨v58, e57, h⟩ := bn1_some h
  refine x_get (C := RX1) (T := TX1) (N := 16) (ci := 1) hx hb hts in_X1 hown hK.1 hP rfl 0 (by decide) (hts _ q145) (fun _ h9 => h9) (gI_some e57) dX1_follows_2 ?_
  obtain ⟨S60, e59, h⟩ := bn1_some h
  refine x_put (v := .int v58) (ty := .int) (C := RX1) (T := TX1) (N := 16) (ci := 1) hx hb hts in_X1 tyX1 tyX1_ok nmX1 hown hK.1 hP hS rfl 0 (by decide) (hts _ q145) (fun _ h9 => h9) rfl (by decide +kernel) rfl rfl e59 dX1_follows_5 (fun H locs hP hS => ?_)
  refine lv_aload_n hx hb dX1_follows_8 rfl (lv_at hl 0 rfl) ?_
  refine lv_aload_n hx hb dX1_follows_9 rfl (lv_at hl 1 rfl) ?_
  obtain ⟨v62, e61, h⟩ := bn1_some h
  refine x_get (C := RX1) (T := TX1) (N := 16) (ci := 1) hx hb hts in_X1 hown hK.1 hP rfl 1 (by decide) (hts _ q147) (fun _ h9 => h9) (gI_some e61) dX1_follows_10 ?_
  obtain ⟨S64, e63, h⟩ := bn1_some h
  refine x_put (v := .int v62) (ty := .int) (C := RX1) (T := TX1) (N := 16) (ci := 1) hx hb hts in_X1 tyX1 tyX1_ok nmX1 hown hK.1 hP hS rfl 1 (by decide) (hts _ q147) (fun _ h9 => h9) rfl (by decide +kernel) rfl rfl e63 dX1_follows_13 (fun H locs hP hS => ?_)
  refine lv_aload_n hx hb dX1_follows_16 rfl (lv_at hl 0 rfl) ?_
  refine lv_aload_n hx hb dX1_follows_17 rfl (lv_at hl 1 rfl) ?_
  obtain ⟨v66, e65, h⟩ := bn1_some h
  refine x_get (C := RX1) (T := TX1) (N := 16) (ci := 1) hx hb hts in_X1 hown hK.1 hP rfl 2 (by decide) (hts _ q149) (fun _ h9 => h9) (gI_some e65) dX1_follows_18 ?_
  obtain ⟨S68, e67, h⟩ := bn1_some h
  refine x_put (v := .int v66) (ty := .int) (C := RX1) (T := TX1) (N := 16) (ci := 1) hx hb hts in_X1 tyX1 tyX1_ok nmX1 hown hK.1 hP hS rfl 2 (by decide) (hts _ q149) (fun _ h9 => h9) rfl (by decide +kernel) rfl rfl e67 dX1_follows_21 (fun H locs hP hS => ?_)
  refine lv_aload_n hx hb dX1_follows_24 rfl (lv_at hl 0 rfl) ?_
  refine lv_aload_n hx hb dX1_follows_25 rfl (lv_at hl 1 rfl) ?_
  obtain ⟨v70, e69, h⟩ := bn1_some h
  refine x_get (C := RX1) (T := TX1) (N := 16) (ci := 1) hx hb hts in_X1 hown hK.1 hP rfl 3 (by decide) (hts _ q151) (fun _ h9 => h9) (gI_some e69) dX1_follows_26 ?_
  obtain ⟨S72, e71, h⟩ := bn1_some h
  refine x_put (v := .int v70) (ty := .int) (C := RX1) (T := TX1) (N := 16) (ci := 1) hx hb hts in_X1 tyX1 tyX1_ok nmX1 hown hK.1 hP hS rfl 3 (by decide) (hts _ q151) (fun _ h9 => h9) rfl (by decide +kernel) rfl rfl e71 dX1_follows_29 (fun H locs hP hS => ?_)
  refine lv_aload_n hx hb dX1_follows_32 rfl (lv_at hl 0 rfl) ?_
  refine lv_aload_n hx hb dX1_follows_33 rfl (lv_at hl 1 rfl) ?_
  obtain ⟨v74, e73, h⟩ := bn1_some h
  refine x_get (C := RX1) (T := TX1) (N := 16) (ci := 1) hx hb hts in_X1 hown hK.1 hP rfl 4 (by decide) (hts _ q153) (fun _ h9 => h9) (gI_some e73) dX1_follows_34 ?_
  obtain ⟨S76, e75, h⟩ := bn1_some h
  refine x_put (v := .int v74) (ty := .int) (C := RX1) (T := TX1) (N := 16) (ci := 1) hx hb hts in_X1 tyX1 tyX1_ok nmX1 hown hK.1 hP hS rfl 4 (by decide) (hts _ q153) (fun _ h9 => h9) rfl (by decide +kernel) rfl rfl e75 dX1_follows_37 (fun H locs hP hS => ?_)
  refine lv_aload_n hx hb dX1_follows_40 rfl (lv_at hl 0 rfl) ?_
  refine lv_aload_n hx hb dX1_follows_41 rfl (lv_at hl 1 rfl) ?_
  obtain ⟨v78, e77, h⟩ := bn1_some h
  refine x_get (C := RX1) (T := TX1) (N := 16) (ci := 1) hx hb hts in_X1 hown hK.1 hP rfl 5 (by decide) (hts _ q155) (fun _ h9 => h9) (gI_some e77) dX1_follows_42 ?_
  obtain ⟨S80, e79, h⟩ := bn1_some h
  refine x_put (v := .int v78) (ty := .int) (C := RX1) (T := TX1) (N := 16) (ci := 1) hx hb hts in_X1 tyX1 tyX1_ok nmX1 hown hK.1 hP hS rfl 5 (by decide) (hts _ q155) (fun _ h9 => h9) rfl (by decide +kernel) rfl rfl e79 dX1_follows_45 (fun H locs hP hS => ?_)
  refine lv_aload_n hx hb dX1_follows_48 rfl (lv_at hl 0 rfl) ?_
  refine lv_aload_n hx hb dX1_follows_49 rfl (lv_at hl 1 rfl) ?_
  obtain ⟨v82, e81, h⟩ := bn1_some h
  refine x_get (C := RX1) (T := TX1) (N := 16) (ci := 1) hx hb hts in_X1 hown hK.1 hP rfl 6 (by decide) (hts _ q157) (fun _ h9 => h9) (gI_some e81) dX1_follows_50 ?_
  obtain ⟨S84, e83, h⟩ := bn1_some h
  refine x_put (v := .int v82) (ty := .int) (C := RX1) (T := TX1) (N := 16) (ci := 1) hx hb hts in_X1 tyX1 tyX1_ok nmX1 hown hK.1 hP hS rfl 6 (by decide) (hts _ q157) (fun _ h9 => h9) rfl (by decide +kernel) rfl rfl e83 dX1_follows_53 (fun H locs hP hS => ?_)
  refine lv_aload_n hx hb dX1_follows_56 rfl (lv_at hl 0 rfl) ?_
  refine lv_aload_n hx hb dX1_follows_57 rfl (lv_at hl 1 rfl) ?_
  obtain ⟨v86, e85, h⟩ := bn1_some h
  refine x_get (C := RX1) (T := TX1) (N := 16) (ci := 1) hx hb hts in_X1 hown hK.1 hP rfl 7 (by decide) (hts _ q159) (fun _ h9 => h9) (gI_some e85) dX1_follows_58 ?_
  obtain ⟨S88, e87, h⟩ := bn1_some h
  refine x_put (v := .int v86) (ty := .int) (C := RX1) (T := TX1) (N := 16) (ci := 1) hx hb hts in_X1 tyX1 tyX1_ok nmX1 hown hK.1 hP hS rfl 7 (by decide) (hts _ q159) (fun _ h9 => h9) rfl (by decide +kernel) rfl rfl e87 dX1_follows_61 (fun H locs hP hS => ?_)
  refine lv_iconst (v := (0 : Int32)) hx hb dX1_follows_64 (by decide) ?_
  refine lv_istore_n (lv' := [(2, .int (0 : Int32)), (0, .ref x0), (1, .ref x1)]) hx hb dX1_follows_65 rfl hl (by decide) rfl (fun ls hl => ?_)
  exact L66 FU x0 x1 (0 : Int32) S88 _ _ _ hP hS (lv_sub hl [1, 2, 0] rfl) h

def fX5_init (x0 : Nat) (x1 : Int32) (x2 : Int32) (S : XS) : Option XS :=
bn1 (pFM S x0 0 (.int x1)) fun S2 =>
bn1 (pFM S2 x0 1 (.int x2)) fun S4 =>
some S4
set_option maxHeartbeats 4000000 in
set_option maxRecDepth 100000 in
theorem mX5_init {l : Launch} {D : va_G} {cA : Nat → ClassId} {A : Nat → Prop} (x0 : Nat) (x1 : Int32) (x2 : Int32) (S : XS) {out : XS} (h : fX5_init x0 x1 x2 S = some out) : Met l yX5_init (ws_ yX5_init cX5_init 3 none) ({ frames := 1, cells := 0, slots := 0, locals := 24 } : Room) (gPc (xK D cA A) (xP D cA A) A [.ref x0, .int x1, .int x2] S) (gQv (xK D cA A) (xP D cA A) A out) 0 0 A := by
  refine gMet_v (by decide) (Nat.le_of_ble_eq_true rfl) ?_ xKst
  intro p e s m below meth c Q ls args H locs hC hP hS hl hmi ret
  obtain ⟨hx, hb, hml, hown, hts, hA, hK⟩ := hC
  have hown : s.vm.findClass RX5 = some m.cls := hown
  have hl : lv_has ls 3 [(0, .ref x0), (1, .int x1), (2, .int x2)] := hl
  have hmi := hmi rfl
  unfold fX5_init at h
  refine lv_aload_n hx hb dX5_init_0 rfl (lv_at hl 0 rfl) ?_
  refine W.objInit hx hb hown (hts _ q306) (hts _ q121) (hts _ q122) rfl (by rw [hml]; exact hl.1) rfl dX5_init_1 (Nat.le_of_ble_eq_true rfl) (Nat.le_of_ble_eq_true rfl) ?_
  refine W.eq (g2 := F0 m 4 ls []) rfl ?_
  refine lv_aload_n hx hb dX5_init_4 rfl (lv_at hl 0 rfl) ?_
  refine lv_iload_n hx hb dX5_init_5 rfl (lv_at hl 1 rfl) ?_
  obtain ⟨S2, e1, h⟩ := bn1_some h
  refine x_putFM hx hb hts hown hK hP hS 0 (by decide) (hts _ q307) hmi e1 dX5_init_6 (fun H locs hP hS => ?_)
  refine lv_aload_n hx hb dX5_init_9 rfl (lv_at hl 0 rfl) ?_
  refine lv_iload_n hx hb dX5_init_10 rfl (lv_at hl 2 rfl) ?_
  obtain ⟨S4, e3, h⟩ := bn1_some h
  refine x_putFM hx hb hts hown hK hP hS 1 (by decide) (hts _ q312) hmi e3 dX5_init_11 (fun H locs hP hS => ?_)
  exact ret _ _ _ _ _ dX5_init_14 hP hS h

def fX5_kind (x0 : Nat) (S : XS) : Option (Int32 × XS) :=
some ((0 : Int32), S)
set_option maxHeartbeats 4000000 in
set_option maxRecDepth 100000 in
theorem mX5_kind {l : Launch} {D : va_G} {cA : Nat → ClassId} {A : Nat → Prop} (x0 : Nat) (S : XS) {out : (Int32 × XS)} (h : fX5_kind x0 S = some out) : Met l yX5_kind (ws_ yX5_kind cX5_kind 1 (some .int)) ({ frames := 0, cells := 0, slots := 0, locals := 0 } : Room) (gPc (xK D cA A) (xP D cA A) A [.ref x0] S) (gQi (xK D cA A) (xP D cA A) A out) 0 0 A := by
  refine gMet_z (by decide) (Nat.le_of_ble_eq_true rfl) ?_ xKst
  intro p e s m below meth c Q ls args H locs hC hP hS hl ret
  obtain ⟨hx, hb, hml, hown, hts, hA, hK⟩ := hC
  have hown : s.vm.findClass RX5 = some m.cls := hown
  have hl : lv_has ls 1 [(0, .ref x0)] := hl
  unfold fX5_kind at h
  refine lv_iconst (v := (0 : Int32)) hx hb dX5_kind_0 (by decide) ?_
  exact ret _ _ _ _ _ _ dX5_kind_1 rfl hP hS h

def fX5_value (x0 : Nat) (x1 : Nat) (S : XS) : Option (Int32 × XS) :=
bn1 (gIM S x0 0) fun v2 =>
chk (isC S x1 1) (bnd (fX1_told x1 v2 S) fun v6 S4 =>
some (v6, S4))
set_option maxHeartbeats 4000000 in
set_option maxRecDepth 100000 in
theorem mX5_value {l : Launch} {D : va_G} {cA : Nat → ClassId} {A : Nat → Prop} (x0 : Nat) (x1 : Nat) (S : XS) {out : (Int32 × XS)} (h : fX5_value x0 x1 S = some out) : Met l yX5_value (ws_ yX5_value cX5_value 2 (some .int)) ({ frames := 1, cells := 0, slots := 0, locals := 21 } : Room) (gPc (xK D cA A) (xP D cA A) A [.ref x0, .ref x1] S) (gQi (xK D cA A) (xP D cA A) A out) 0 0 A := by
  refine gMet_z (by decide) (Nat.le_of_ble_eq_true rfl) ?_ xKst
  intro p e s m below meth c Q ls args H locs hC hP hS hl ret
  obtain ⟨hx, hb, hml, hown, hts, hA, hK⟩ := hC
  have hown : s.vm.findClass RX5 = some m.cls := hown
  have hl : lv_has ls 2 [(0, .ref x0), (1, .ref x1)] := hl
  unfold fX5_value at h
  refine lv_aload_n hx hb dX5_value_0 rfl (lv_at hl 1 rfl) ?_
  refine lv_aload_n hx hb dX5_value_1 rfl (lv_at hl 0 rfl) ?_
  obtain ⟨v2, e1, h⟩ := bn1_some h
  refine x_getM hx hb hts hown hK hP 0 (by decide) (hts _ q307) (fun _ h9 => h9) e1 dX5_value_2 ?_
  obtain ⟨g5, h⟩ := chk_some h
  obtain ⟨fg5, g5⟩ := isC_some g5
  obtain ⟨v6, S4, e3, h⟩ := bnd_some h
  refine gc5 (va_runF (cC := D.1 1) (hK.1.1 1 _ rfl).2 ⟨hx, hb, hml, hown, hts⟩ (mX1_told (l := l) (D := D) (cA := cA) (A := A) x1 v2 S e3) (va_cwF (C := RX1) 1 hts (lw_app (xw4 q533 q536 q538 q87) (lw_meth q540)) rfl rfl rfl (hK.2.2.2.1 ("PictureBlock$House", ⟨"PictureBlock$Block", "told", "(I)I"⟩, ⟨"PictureBlock$House", "told", "(I)I"⟩) (by decide)) (by decide +kernel) ⟨Nat.le_of_ble_eq_true rfl, Nat.le_of_ble_eq_true rfl⟩) (gPreV (As := [.int v2]) xKst hK hA hS hP (x_recv (q := (RX1, TX1, 16)) hK.1 hP rfl g5)) (rest := []) rfl rfl hl.1 rfl (lv_room (Nat.le_of_ble_eq_true rfl)) dX5_value_5 ⟨by first | omega | (dsimp only; omega), by first | omega | (dsimp only; omega)⟩) hS (fun H locs hP hS => ?_)
  exact ret _ _ _ _ _ _ dX5_value_10 rfl hP hS h

def fX5_weighs (x0 : Nat) (x1 : Int32) (x2 : Nat) (S : XS) : Option (Int32 × XS) :=
chk (isC S x2 3) (bn1 (fX3_ran x2 (10 : Int32) S) fun S2 =>
bn1 (gIM S2 x0 0) fun v5 =>
some ((x1 + v5), S2))
set_option maxHeartbeats 4000000 in
set_option maxRecDepth 100000 in
theorem mX5_weighs {l : Launch} {D : va_G} {cA : Nat → ClassId} {A : Nat → Prop} (x0 : Nat) (x1 : Int32) (x2 : Nat) (S : XS) {out : (Int32 × XS)} (h : fX5_weighs x0 x1 x2 S = some out) : Met l yX5_weighs (ws_ yX5_weighs cX5_weighs 3 (some .int)) ({ frames := 1, cells := 0, slots := 0, locals := 21 } : Room) (gPc (xK D cA A) (xP D cA A) A [.ref x0, .int x1, .ref x2] S) (gQi (xK D cA A) (xP D cA A) A out) 0 0 A := by
  refine gMet_z (by decide) (Nat.le_of_ble_eq_true rfl) ?_ xKst
  intro p e s m below meth c Q ls args H locs hC hP hS hl ret
  obtain ⟨hx, hb, hml, hown, hts, hA, hK⟩ := hC
  have hown : s.vm.findClass RX5 = some m.cls := hown
  have hl : lv_has ls 3 [(0, .ref x0), (1, .int x1), (2, .ref x2)] := hl
  unfold fX5_weighs at h
  refine lv_aload_n hx hb dX5_weighs_0 rfl (lv_at hl 2 rfl) ?_
  refine lv_bipush (v := (10 : Int32)) hx hb dX5_weighs_1 (by decide) ?_
  obtain ⟨g3, h⟩ := chk_some h
  obtain ⟨fg3, g3⟩ := isC_some g3
  obtain ⟨S2, e1, h⟩ := bn1_some h
  refine gc_v (va_runV (As := [.int (10 : Int32)]) (rest := []) ⟨hx, hb, hml, hown, hts⟩ (mX3_ran (l := l) (D := D) (cA := cA) (A := A) x2 (10 : Int32) S e1) (cwV 1 hts (lw_V q1081 q1064 q1065 q89 q1066) rfl rfl rfl (by decide +kernel) ⟨Nat.le_of_ble_eq_true rfl, Nat.le_of_ble_eq_true rfl⟩) (gPreV xKst hK hA hS hP (x_recv (q := (RX3, TX3, 2)) hK.1 hP rfl g3)) rfl rfl hl.1 rfl (lv_room (Nat.le_of_ble_eq_true rfl)) dX5_weighs_3 ⟨by first | omega | (dsimp only; omega), by first | omega | (dsimp only; omega)⟩) hS (fun H locs hP hS => ?_)
  refine lv_iload_n hx hb dX5_weighs_6 rfl (lv_at hl 1 rfl) ?_
  refine lv_aload_n hx hb dX5_weighs_7 rfl (lv_at hl 0 rfl) ?_
  obtain ⟨v5, e4, h⟩ := bn1_some h
  refine x_getM hx hb hts hown hK hP 0 (by decide) (hts _ q307) (fun _ h9 => h9) e4 dX5_weighs_8 ?_
  refine lv_iadd hx hb dX5_weighs_11 ?_
  exact ret _ _ _ _ _ _ dX5_weighs_12 rfl hP hS h

def fX5_weight (x0 : Nat) (x1 : Nat) (S : XS) : Option (Int32 × XS) :=
some ((2 : Int32), S)
set_option maxHeartbeats 4000000 in
set_option maxRecDepth 100000 in
theorem mX5_weight {l : Launch} {D : va_G} {cA : Nat → ClassId} {A : Nat → Prop} (x0 : Nat) (x1 : Nat) (S : XS) {out : (Int32 × XS)} (h : fX5_weight x0 x1 S = some out) : Met l yX5_weight (ws_ yX5_weight cX5_weight 2 (some .int)) ({ frames := 0, cells := 0, slots := 0, locals := 0 } : Room) (gPc (xK D cA A) (xP D cA A) A [.ref x0, .ref x1] S) (gQi (xK D cA A) (xP D cA A) A out) 0 0 A := by
  refine gMet_z (by decide) (Nat.le_of_ble_eq_true rfl) ?_ xKst
  intro p e s m below meth c Q ls args H locs hC hP hS hl ret
  obtain ⟨hx, hb, hml, hown, hts, hA, hK⟩ := hC
  have hown : s.vm.findClass RX5 = some m.cls := hown
  have hl : lv_has ls 2 [(0, .ref x0), (1, .ref x1)] := hl
  unfold fX5_weight at h
  refine lv_iconst (v := (2 : Int32)) hx hb dX5_weight_0 (by decide) ?_
  exact ret _ _ _ _ _ _ dX5_weight_1 rfl hP hS h

def fX0_all (x0 : Int32) (S : XS) : Option (Int32 × XS) :=
some ((((1 : Int32) <<< (x0 &&& 31)) - (1 : Int32)), S)
set_option maxHeartbeats 4000000 in
set_option maxRecDepth 100000 in
theorem mX0_all {l : Launch} {D : va_G} {cA : Nat → ClassId} {A : Nat → Prop} (x0 : Int32) (S : XS) {out : (Int32 × XS)} (h : fX0_all x0 S = some out) : Met l yX0_all (ws_ yX0_all cX0_all 1 (some .int)) ({ frames := 0, cells := 0, slots := 0, locals := 0 } : Room) (gPc (xK D cA A) (xP D cA A) A [.int x0] S) (gQi (xK D cA A) (xP D cA A) A out) 0 0 A := by
  refine gMet_z (by decide) (Nat.le_of_ble_eq_true rfl) ?_ xKst
  intro p e s m below meth c Q ls args H locs hC hP hS hl ret
  obtain ⟨hx, hb, hml, hown, hts, hA, hK⟩ := hC
  have hown : s.vm.findClass RX0 = some m.cls := hown
  have hl : lv_has ls 1 [(0, .int x0)] := hl
  unfold fX0_all at h
  refine lv_iconst (v := (1 : Int32)) hx hb dX0_all_0 (by decide) ?_
  refine lv_iload_n hx hb dX0_all_1 rfl (lv_at hl 0 rfl) ?_
  refine lv_ishl hx hb dX0_all_2 ?_
  refine lv_iconst (v := (1 : Int32)) hx hb dX0_all_3 (by decide) ?_
  refine lv_isub hx hb dX0_all_4 ?_
  exact ret _ _ _ _ _ _ dX0_all_5 rfl hP hS h

def bX0_isHeld_32 (x0 : Nat) (t0 : Int32) (S : XS) : Option (Int32 × XS) :=
chk (isB t0) (some (t0, S))
def fX0_isHeld (x0 : Nat) (S : XS) : Option (Int32 × XS) :=
bn1 (gR S x0 0 2) fun a3 =>
bn1 (gR S x0 0 2) fun a5 =>
chk (isC S a5 1) (bnd (fX1_used a5 S) fun v9 S7 =>
chk (isC S7 a3 1) (bnd (fX1_tied a3 v9 S7) fun v13 S11 =>
bn1 (gR S11 x0 0 2) fun a15 =>
bn1 (gI S11 a15 1 1) fun v17 =>
bnd (fX0_all v17 S11) fun v20 S19 =>
(if v13 = v20 then
bX0_isHeld_32 x0 (1 : Int32) S19
else
bX0_isHeld_32 x0 (0 : Int32) S19)))
set_option maxHeartbeats 4000000 in
set_option maxRecDepth 100000 in
theorem mX0_isHeld {l : Launch} {D : va_G} {cA : Nat → ClassId} {A : Nat → Prop} (x0 : Nat) (S : XS) {out : (Int32 × XS)} (h : fX0_isHeld x0 S = some out) : Met l yX0_isHeld (ws_ yX0_isHeld cX0_isHeld 1 (some .boolean)) ({ frames := 1, cells := 0, slots := 0, locals := 25 } : Room) (gPc (xK D cA A) (xP D cA A) A [.ref x0] S) (gQi (xK D cA A) (xP D cA A) A out) 0 0 A := by
  refine gMet_z (by decide) (Nat.le_of_ble_eq_true rfl) ?_ xKst
  intro p e s m below meth c Q ls args H locs hC hP hS hl ret
  obtain ⟨hx, hb, hml, hown, hts, hA, hK⟩ := hC
  have hown : s.vm.findClass RX0 = some m.cls := hown
  have hl : lv_has ls 1 [(0, .ref x0)] := hl
  have B32 : ∀ (x0 : Nat) (t0 : Int32) (S : XS) (H : Heap) (locs : List Loc) (ls : Array Slot), xP D cA A S H → va_S A s.heap H locs → lv_has ls 1 [(0, .ref x0)] → bX0_isHeld_32  x0 t0 S = some out → W p l e ({ frames := 1, cells := 0, slots := 0, locals := 25 } : Room) s m args below meth c H locs 0 0 Q (F0 m 32 ls [.int t0]) := by
    intro x0 t0 S H locs ls hP hS hl h
    unfold bX0_isHeld_32 at h
    obtain ⟨g1, h⟩ := chk_some h
    exact ret _ _ _ _ _ _ dX0_isHeld_32 (isB_nar g1) hP hS h
  unfold fX0_isHeld at h
  refine lv_aload_n hx hb dX0_isHeld_0 rfl (lv_at hl 0 rfl) ?_
  obtain ⟨a3, e2, h⟩ := bn1_some h
  refine x_get (C := RX0) (T := TX0) (N := 16) (ci := 0) hx hb hts in_X0 hown hK.1 hP rfl 2 (by decide) (hts _ q231) (fun _ h9 => h9) (gR_some e2) dX0_isHeld_1 ?_
  refine lv_aload_n hx hb dX0_isHeld_4 rfl (lv_at hl 0 rfl) ?_
  obtain ⟨a5, e4, h⟩ := bn1_some h
  refine x_get (C := RX0) (T := TX0) (N := 16) (ci := 0) hx hb hts in_X0 hown hK.1 hP rfl 2 (by decide) (hts _ q231) (fun _ h9 => h9) (gR_some e4) dX0_isHeld_5 ?_
  obtain ⟨g8, h⟩ := chk_some h
  obtain ⟨fg8, g8⟩ := isC_some g8
  obtain ⟨v9, S7, e6, h⟩ := bnd_some h
  refine gci (va_runV (As := []) (rest := [.ref a3]) ⟨hx, hb, hml, hown, hts⟩ (mX1_used (l := l) (D := D) (cA := cA) (A := A) a5 S e6) (cwV 0 hts (lw_V q893 q894 q895 q87 q896) rfl rfl rfl (by decide +kernel) ⟨Nat.le_of_ble_eq_true rfl, Nat.le_of_ble_eq_true rfl⟩) (gPreV xKst hK hA hS hP (x_recv (q := (RX1, TX1, 16)) hK.1 hP rfl g8)) rfl rfl hl.1 rfl (lv_room (Nat.le_of_ble_eq_true rfl)) dX0_isHeld_8 ⟨by first | omega | (dsimp only; omega), by first | omega | (dsimp only; omega)⟩) hS (fun H locs hP hS => ?_)
  obtain ⟨g12, h⟩ := chk_some h
  obtain ⟨fg12, g12⟩ := isC_some g12
  obtain ⟨v13, S11, e10, h⟩ := bnd_some h
  refine gci (va_runV (As := [.int v9]) (rest := []) ⟨hx, hb, hml, hown, hts⟩ (mX1_tied (l := l) (D := D) (cA := cA) (A := A) a3 v9 S7 e10) (cwV 1 hts (lw_V q897 q898 q899 q87 q900) rfl rfl rfl (by decide +kernel) ⟨Nat.le_of_ble_eq_true rfl, Nat.le_of_ble_eq_true rfl⟩) (gPreV xKst hK hA hS hP (x_recv (q := (RX1, TX1, 16)) hK.1 hP rfl g12)) rfl rfl hl.1 rfl (lv_room (Nat.le_of_ble_eq_true rfl)) dX0_isHeld_11 ⟨by first | omega | (dsimp only; omega), by first | omega | (dsimp only; omega)⟩) hS (fun H locs hP hS => ?_)
  refine lv_aload_n hx hb dX0_isHeld_14 rfl (lv_at hl 0 rfl) ?_
  obtain ⟨a15, e14, h⟩ := bn1_some h
  refine x_get (C := RX0) (T := TX0) (N := 16) (ci := 0) hx hb hts in_X0 hown hK.1 hP rfl 2 (by decide) (hts _ q231) (fun _ h9 => h9) (gR_some e14) dX0_isHeld_15 ?_
  obtain ⟨v17, e16, h⟩ := bn1_some h
  refine x_getN (C := RX1) (T := TX1) (N := 16) (ci := 1) hx hb hts in_X1 hown hK.1 hP rfl 1 (by decide) (hK.2.1 _ q148 rfl) (fun _ h9 => h9) (gI_some e16) dX0_isHeld_18 ?_
  obtain ⟨v20, S19, e18, h⟩ := bnd_some h
  refine gci (va_runS (As := [.int v17]) (rest := [.int v13]) ⟨hx, hb, hml, hown, hts⟩ (mX0_all (l := l) (D := D) (cA := cA) (A := A) v17 S11 e18) (va_cwS 1 hts (lw_S q901 q902 q86 q903) rfl rfl rfl (by decide +kernel) ⟨Nat.le_of_ble_eq_true rfl, Nat.le_of_ble_eq_true rfl⟩) (gPreS xKst hK hA hS hP) rfl rfl hl.1 rfl (lv_room (Nat.le_of_ble_eq_true rfl)) dX0_isHeld_21 ⟨by first | omega | (dsimp only; omega), by first | omega | (dsimp only; omega)⟩) hS (fun H locs hP hS => ?_)
  refine lv_icmp_ne (tgt := 31) hx hb dX0_isHeld_24 (by decide) (fun c21 => ?_) (fun c21 => ?_)
  · have h := ite_f c21 h
    refine lv_iconst (v := (0 : Int32)) hx hb dX0_isHeld_31 (by decide) ?_
    exact B32 x0 (0 : Int32) S19 _ _ _ hP hS hl h
  · have h := ite_t c21 h
    refine lv_iconst (v := (1 : Int32)) hx hb dX0_isHeld_27 (by decide) ?_
    refine lv_goto (tgt := 32) hx hb dX0_isHeld_28 (by decide) ?_
    exact B32 x0 (1 : Int32) S19 _ _ _ hP hS hl h

def bX7_weight_25 (x0 : Nat) (t0 : Int32) (S : XS) : Option (Int32 × XS) :=
some (t0, S)
def fX7_weight (x0 : Nat) (x1 : Nat) (S : XS) : Option (Int32 × XS) :=
bn1 (gIM S x0 0) fun v2 =>
chk (isC S x1 1) (bnd (fX1_marks x1 v2 S) fun v6 S4 =>
(if v6 ≤ (3 : Int32) then
chk (mkB S4 x0) (bnd (fX5_weight x0 x1 S4) fun v11 S9 =>
bX7_weight_25 x0 (v11 + (1 : Int32)) S9)
else
bX7_weight_25 x0 (1 : Int32) S4))
set_option maxHeartbeats 4000000 in
set_option maxRecDepth 100000 in
theorem mX7_weight {l : Launch} {D : va_G} {cA : Nat → ClassId} {A : Nat → Prop} (x0 : Nat) (x1 : Nat) (S : XS) {out : (Int32 × XS)} (h : fX7_weight x0 x1 S = some out) : Met l yX7_weight (ws_ yX7_weight cX7_weight 2 (some .int)) ({ frames := 1, cells := 0, slots := 0, locals := 23 } : Room) (gPc (xK D cA A) (xP D cA A) A [.ref x0, .ref x1] S) (gQi (xK D cA A) (xP D cA A) A out) 0 0 A := by
  refine gMet_z (by decide) (Nat.le_of_ble_eq_true rfl) ?_ xKst
  intro p e s m below meth c Q ls args H locs hC hP hS hl ret
  obtain ⟨hx, hb, hml, hown, hts, hA, hK⟩ := hC
  have hown : s.vm.findClass RX7 = some m.cls := hown
  have hl : lv_has ls 2 [(0, .ref x0), (1, .ref x1)] := hl
  have B25 : ∀ (x0 : Nat) (t0 : Int32) (S : XS) (H : Heap) (locs : List Loc) (ls : Array Slot), xP D cA A S H → va_S A s.heap H locs → lv_has ls 2 [(0, .ref x0)] → bX7_weight_25  x0 t0 S = some out → W p l e ({ frames := 1, cells := 0, slots := 0, locals := 23 } : Room) s m args below meth c H locs 0 0 Q (F0 m 25 ls [.int t0]) := by
    intro x0 t0 S H locs ls hP hS hl h
    unfold bX7_weight_25 at h
    exact ret _ _ _ _ _ _ dX7_weight_25 rfl hP hS h
  unfold fX7_weight at h
  refine lv_aload_n hx hb dX7_weight_0 rfl (lv_at hl 1 rfl) ?_
  refine lv_aload_n hx hb dX7_weight_1 rfl (lv_at hl 0 rfl) ?_
  obtain ⟨v2, e1, h⟩ := bn1_some h
  refine x_getM hx hb hts hown hK hP 0 (by decide) (hts _ q308) (fun x h9 => u_same (hts _ q309) x h9) e1 dX7_weight_2 ?_
  obtain ⟨g5, h⟩ := chk_some h
  obtain ⟨fg5, g5⟩ := isC_some g5
  obtain ⟨v6, S4, e3, h⟩ := bnd_some h
  refine gc5 (va_runF (cC := D.1 1) (hK.1.1 1 _ rfl).2 ⟨hx, hb, hml, hown, hts⟩ (mX1_marks (l := l) (D := D) (cA := cA) (A := A) x1 v2 S e3) (va_cwF (C := RX1) 1 hts (lw_app (xw4 q458 q461 q463 q87) (lw_meth q465)) rfl rfl rfl (hK.2.2.2.1 ("PictureBlock$House", ⟨"PictureBlock$Block", "marks", "(I)I"⟩, ⟨"PictureBlock$House", "marks", "(I)I"⟩) (by decide)) (by decide +kernel) ⟨Nat.le_of_ble_eq_true rfl, Nat.le_of_ble_eq_true rfl⟩) (gPreV (As := [.int v2]) xKst hK hA hS hP (x_recv (q := (RX1, TX1, 16)) hK.1 hP rfl g5)) (rest := []) rfl rfl hl.1 rfl (lv_room (Nat.le_of_ble_eq_true rfl)) dX7_weight_5 ⟨by first | omega | (dsimp only; omega), by first | omega | (dsimp only; omega)⟩) hS (fun H locs hP hS => ?_)
  refine lv_iconst (v := (3 : Int32)) hx hb dX7_weight_10 (by decide) ?_
  refine lv_icmp_le (tgt := 18) hx hb dX7_weight_11 (by decide) (fun c7 => ?_) (fun c7 => ?_)
  · have h := ite_t c7 h
    refine lv_aload_n hx hb dX7_weight_18 rfl (lv_at hl 0 rfl) ?_
    refine lv_aload_n hx hb dX7_weight_19 rfl (lv_at hl 1 rfl) ?_
    obtain ⟨g10, h⟩ := chk_some h
    obtain ⟨C1, cC1, hat1, hrv1⟩ := x_recvM hK.1 hP g10
    obtain ⟨v11, S9, e8, h⟩ := bnd_some h
    refine gci (x_runSU (n := 1) (As := [.ref x1]) (rest := []) hat1 ⟨hx, hb, hml, hown, hts⟩ (mX5_weight (l := l) (D := D) (cA := cA) (A := A) x0 x1 S4 e8) rfl (lw_meth q447) rfl rfl (hts _ q466) (hts _ q1752) (hts _ q333) (Or.inl rfl) ⟨rfl, rfl⟩ (hts _ q446) (hts _ q91) (by decide +kernel) ⟨Nat.le_of_ble_eq_true rfl, Nat.le_of_ble_eq_true rfl⟩ (gPreV xKst hK hA hS hP hrv1) rfl rfl hl.1 rfl (lv_room (Nat.le_of_ble_eq_true rfl)) dX7_weight_20 ⟨by first | omega | (dsimp only; omega), by first | omega | (dsimp only; omega)⟩) hS (fun H locs hP hS => ?_)
    refine lv_iconst (v := (1 : Int32)) hx hb dX7_weight_23 (by decide) ?_
    refine lv_iadd hx hb dX7_weight_24 ?_
    exact B25 x0 (v11 + (1 : Int32)) S9 _ _ _ hP hS (lv_sub hl [0] rfl) h
  · have h := ite_f c7 h
    refine lv_iconst (v := (1 : Int32)) hx hb dX7_weight_14 (by decide) ?_
    refine lv_goto (tgt := 25) hx hb dX7_weight_15 (by decide) ?_
    exact B25 x0 (1 : Int32) S4 _ _ _ hP hS (lv_sub hl [0] rfl) h

def fX10_weight (x0 : Nat) (x1 : Nat) (S : XS) : Option (Int32 × XS) :=
chk (mkB S x0) (bnd (fX7_weight x0 x1 S) fun v4 S2 =>
some ((v4 - (1 : Int32)), S2))
set_option maxHeartbeats 4000000 in
set_option maxRecDepth 100000 in
theorem mX10_weight {l : Launch} {D : va_G} {cA : Nat → ClassId} {A : Nat → Prop} (x0 : Nat) (x1 : Nat) (S : XS) {out : (Int32 × XS)} (h : fX10_weight x0 x1 S = some out) : Met l yX10_weight (ws_ yX10_weight cX10_weight 2 (some .int)) ({ frames := 2, cells := 0, slots := 0, locals := 44 } : Room) (gPc (xK D cA A) (xP D cA A) A [.ref x0, .ref x1] S) (gQi (xK D cA A) (xP D cA A) A out) 0 0 A := by
  refine gMet_z (by decide) (Nat.le_of_ble_eq_true rfl) ?_ xKst
  intro p e s m below meth c Q ls args H locs hC hP hS hl ret
  obtain ⟨hx, hb, hml, hown, hts, hA, hK⟩ := hC
  have hown : s.vm.findClass RX10 = some m.cls := hown
  have hl : lv_has ls 2 [(0, .ref x0), (1, .ref x1)] := hl
  unfold fX10_weight at h
  refine lv_aload_n hx hb dX10_weight_0 rfl (lv_at hl 0 rfl) ?_
  refine lv_aload_n hx hb dX10_weight_1 rfl (lv_at hl 1 rfl) ?_
  obtain ⟨g3, h⟩ := chk_some h
  obtain ⟨C1, cC1, hat1, hrv1⟩ := x_recvM hK.1 hP g3
  obtain ⟨v4, S2, e1, h⟩ := bnd_some h
  refine gci (x_runSU (n := 1) (As := [.ref x1]) (rest := []) hat1 ⟨hx, hb, hml, hown, hts⟩ (mX7_weight (l := l) (D := D) (cA := cA) (A := A) x0 x1 S e1) rfl (lw_meth q456) rfl rfl (hts _ q454) (hts _ q1753) (hts _ q360) (Or.inl rfl) ⟨rfl, rfl⟩ (hts _ q455) (hts _ q93) (by decide +kernel) ⟨Nat.le_of_ble_eq_true rfl, Nat.le_of_ble_eq_true rfl⟩ (gPreV xKst hK hA hS hP hrv1) rfl rfl hl.1 rfl (lv_room (Nat.le_of_ble_eq_true rfl)) dX10_weight_2 ⟨by first | omega | (dsimp only; omega), by first | omega | (dsimp only; omega)⟩) hS (fun H locs hP hS => ?_)
  refine lv_iconst (v := (1 : Int32)) hx hb dX10_weight_5 (by decide) ?_
  refine lv_isub hx hb dX10_weight_6 ?_
  exact ret _ _ _ _ _ _ dX10_weight_7 rfl hP hS h

def fX11_weight (x0 : Nat) (x1 : Nat) (S : XS) : Option (Int32 × XS) :=
chk (mkB S x0) (bnd (fX5_weight x0 x1 S) fun v4 S2 =>
some ((v4 * (2 : Int32)), S2))
set_option maxHeartbeats 4000000 in
set_option maxRecDepth 100000 in
theorem mX11_weight {l : Launch} {D : va_G} {cA : Nat → ClassId} {A : Nat → Prop} (x0 : Nat) (x1 : Nat) (S : XS) {out : (Int32 × XS)} (h : fX11_weight x0 x1 S = some out) : Met l yX11_weight (ws_ yX11_weight cX11_weight 2 (some .int)) ({ frames := 1, cells := 0, slots := 0, locals := 21 } : Room) (gPc (xK D cA A) (xP D cA A) A [.ref x0, .ref x1] S) (gQi (xK D cA A) (xP D cA A) A out) 0 0 A := by
  refine gMet_z (by decide) (Nat.le_of_ble_eq_true rfl) ?_ xKst
  intro p e s m below meth c Q ls args H locs hC hP hS hl ret
  obtain ⟨hx, hb, hml, hown, hts, hA, hK⟩ := hC
  have hown : s.vm.findClass RX11 = some m.cls := hown
  have hl : lv_has ls 2 [(0, .ref x0), (1, .ref x1)] := hl
  unfold fX11_weight at h
  refine lv_aload_n hx hb dX11_weight_0 rfl (lv_at hl 0 rfl) ?_
  refine lv_aload_n hx hb dX11_weight_1 rfl (lv_at hl 1 rfl) ?_
  obtain ⟨g3, h⟩ := chk_some h
  obtain ⟨C1, cC1, hat1, hrv1⟩ := x_recvM hK.1 hP g3
  obtain ⟨v4, S2, e1, h⟩ := bnd_some h
  refine gci (x_runSU (n := 1) (As := [.ref x1]) (rest := []) hat1 ⟨hx, hb, hml, hown, hts⟩ (mX5_weight (l := l) (D := D) (cA := cA) (A := A) x0 x1 S e1) rfl (lw_meth q447) rfl rfl (hts _ q488) (hts _ q1752) (hts _ q369) (Or.inl rfl) ⟨rfl, rfl⟩ (hts _ q446) (hts _ q91) (by decide +kernel) ⟨Nat.le_of_ble_eq_true rfl, Nat.le_of_ble_eq_true rfl⟩ (gPreV xKst hK hA hS hP hrv1) rfl rfl hl.1 rfl (lv_room (Nat.le_of_ble_eq_true rfl)) dX11_weight_2 ⟨by first | omega | (dsimp only; omega), by first | omega | (dsimp only; omega)⟩) hS (fun H locs hP hS => ?_)
  refine lv_iconst (v := (2 : Int32)) hx hb dX11_weight_5 (by decide) ?_
  refine lv_imul hx hb dX11_weight_6 ?_
  exact ret _ _ _ _ _ _ dX11_weight_7 rfl hP hS h

def fX6_weight (x0 : Nat) (x1 : Nat) (S : XS) : Option (Int32 × XS) :=
chk (mkB S x0) (bnd (fX5_weight x0 x1 S) fun v4 S2 =>
some ((v4 + (1 : Int32)), S2))
set_option maxHeartbeats 4000000 in
set_option maxRecDepth 100000 in
theorem mX6_weight {l : Launch} {D : va_G} {cA : Nat → ClassId} {A : Nat → Prop} (x0 : Nat) (x1 : Nat) (S : XS) {out : (Int32 × XS)} (h : fX6_weight x0 x1 S = some out) : Met l yX6_weight (ws_ yX6_weight cX6_weight 2 (some .int)) ({ frames := 1, cells := 0, slots := 0, locals := 21 } : Room) (gPc (xK D cA A) (xP D cA A) A [.ref x0, .ref x1] S) (gQi (xK D cA A) (xP D cA A) A out) 0 0 A := by
  refine gMet_z (by decide) (Nat.le_of_ble_eq_true rfl) ?_ xKst
  intro p e s m below meth c Q ls args H locs hC hP hS hl ret
  obtain ⟨hx, hb, hml, hown, hts, hA, hK⟩ := hC
  have hown : s.vm.findClass RX6 = some m.cls := hown
  have hl : lv_has ls 2 [(0, .ref x0), (1, .ref x1)] := hl
  unfold fX6_weight at h
  refine lv_aload_n hx hb dX6_weight_0 rfl (lv_at hl 0 rfl) ?_
  refine lv_aload_n hx hb dX6_weight_1 rfl (lv_at hl 1 rfl) ?_
  obtain ⟨g3, h⟩ := chk_some h
  obtain ⟨C1, cC1, hat1, hrv1⟩ := x_recvM hK.1 hP g3
  obtain ⟨v4, S2, e1, h⟩ := bnd_some h
  refine gci (x_runSU (n := 1) (As := [.ref x1]) (rest := []) hat1 ⟨hx, hb, hml, hown, hts⟩ (mX5_weight (l := l) (D := D) (cA := cA) (A := A) x0 x1 S e1) rfl (lw_meth q447) rfl rfl (hts _ q445) (hts _ q1752) (hts _ q324) (Or.inl rfl) ⟨rfl, rfl⟩ (hts _ q446) (hts _ q91) (by decide +kernel) ⟨Nat.le_of_ble_eq_true rfl, Nat.le_of_ble_eq_true rfl⟩ (gPreV xKst hK hA hS hP hrv1) rfl rfl hl.1 rfl (lv_room (Nat.le_of_ble_eq_true rfl)) dX6_weight_2 ⟨by first | omega | (dsimp only; omega), by first | omega | (dsimp only; omega)⟩) hS (fun H locs hP hS => ?_)
  refine lv_iconst (v := (1 : Int32)) hx hb dX6_weight_5 (by decide) ?_
  refine lv_iadd hx hb dX6_weight_6 ?_
  exact ret _ _ _ _ _ _ dX6_weight_7 rfl hP hS h

def bX8_weight_17 (x0 : Nat) (t0 : Int32) (S : XS) : Option (Int32 × XS) :=
some (t0, S)
def fX8_weight (x0 : Nat) (x1 : Nat) (S : XS) : Option (Int32 × XS) :=
bn1 (gIM S x0 1) fun v2 =>
(if v2 ≤ (4 : Int32) then
chk (mkB S x0) (bnd (fX5_weight x0 x1 S) fun v7 S5 =>
bX8_weight_17 x0 v7 S5)
else
bX8_weight_17 x0 (4 : Int32) S)
set_option maxHeartbeats 4000000 in
set_option maxRecDepth 100000 in
theorem mX8_weight {l : Launch} {D : va_G} {cA : Nat → ClassId} {A : Nat → Prop} (x0 : Nat) (x1 : Nat) (S : XS) {out : (Int32 × XS)} (h : fX8_weight x0 x1 S = some out) : Met l yX8_weight (ws_ yX8_weight cX8_weight 2 (some .int)) ({ frames := 1, cells := 0, slots := 0, locals := 21 } : Room) (gPc (xK D cA A) (xP D cA A) A [.ref x0, .ref x1] S) (gQi (xK D cA A) (xP D cA A) A out) 0 0 A := by
  refine gMet_z (by decide) (Nat.le_of_ble_eq_true rfl) ?_ xKst
  intro p e s m below meth c Q ls args H locs hC hP hS hl ret
  obtain ⟨hx, hb, hml, hown, hts, hA, hK⟩ := hC
  have hown : s.vm.findClass RX8 = some m.cls := hown
  have hl : lv_has ls 2 [(0, .ref x0), (1, .ref x1)] := hl
  have B17 : ∀ (x0 : Nat) (t0 : Int32) (S : XS) (H : Heap) (locs : List Loc) (ls : Array Slot), xP D cA A S H → va_S A s.heap H locs → lv_has ls 2 [(0, .ref x0)] → bX8_weight_17  x0 t0 S = some out → W p l e ({ frames := 1, cells := 0, slots := 0, locals := 21 } : Room) s m args below meth c H locs 0 0 Q (F0 m 17 ls [.int t0]) := by
    intro x0 t0 S H locs ls hP hS hl h
    unfold bX8_weight_17 at h
    exact ret _ _ _ _ _ _ dX8_weight_17 rfl hP hS h
  unfold fX8_weight at h
  refine lv_aload_n hx hb dX8_weight_0 rfl (lv_at hl 0 rfl) ?_
  obtain ⟨v2, e1, h⟩ := bn1_some h
  refine x_getM hx hb hts hown hK hP 1 (by decide) (hts _ q313) (fun x h9 => u_same (hts _ q314) x h9) e1 dX8_weight_1 ?_
  refine lv_iconst (v := (4 : Int32)) hx hb dX8_weight_4 (by decide) ?_
  refine lv_icmp_le (tgt := 12) hx hb dX8_weight_5 (by decide) (fun c3 => ?_) (fun c3 => ?_)
  · have h := ite_t c3 h
    refine lv_aload_n hx hb dX8_weight_12 rfl (lv_at hl 0 rfl) ?_
    refine lv_aload_n hx hb dX8_weight_13 rfl (lv_at hl 1 rfl) ?_
    obtain ⟨g6, h⟩ := chk_some h
    obtain ⟨C1, cC1, hat1, hrv1⟩ := x_recvM hK.1 hP g6
    obtain ⟨v7, S5, e4, h⟩ := bnd_some h
    refine gci (x_runSU (n := 1) (As := [.ref x1]) (rest := []) hat1 ⟨hx, hb, hml, hown, hts⟩ (mX5_weight (l := l) (D := D) (cA := cA) (A := A) x0 x1 S e4) rfl (lw_meth q447) rfl rfl (hts _ q481) (hts _ q1752) (hts _ q342) (Or.inl rfl) ⟨rfl, rfl⟩ (hts _ q446) (hts _ q91) (by decide +kernel) ⟨Nat.le_of_ble_eq_true rfl, Nat.le_of_ble_eq_true rfl⟩ (gPreV xKst hK hA hS hP hrv1) rfl rfl hl.1 rfl (lv_room (Nat.le_of_ble_eq_true rfl)) dX8_weight_14 ⟨by first | omega | (dsimp only; omega), by first | omega | (dsimp only; omega)⟩) hS (fun H locs hP hS => ?_)
    exact B17 x0 v7 S5 _ _ _ hP hS (lv_sub hl [0] rfl) h
  · have h := ite_f c3 h
    refine lv_iconst (v := (4 : Int32)) hx hb dX8_weight_8 (by decide) ?_
    refine lv_goto (tgt := 17) hx hb dX8_weight_9 (by decide) ?_
    exact B17 x0 (4 : Int32) S _ _ _ hP hS (lv_sub hl [0] rfl) h

def bX9_weight_20 (x0 : Nat) (t0 : Int32) (S : XS) : Option (Int32 × XS) :=
some (t0, S)
def fX9_weight (x0 : Nat) (x1 : Nat) (S : XS) : Option (Int32 × XS) :=
chk (isC S x1 1) (bnd (fX1_round x1 S) fun v4 S2 =>
(if (v4 - v4 / (2 : Int32) * (2 : Int32)) = 0 then
chk (mkB S2 x0) (bnd (fX6_weight x0 x1 S2) fun v9 S7 =>
bX9_weight_20 x0 v9 S7)
else
bX9_weight_20 x0 (1 : Int32) S2))
set_option maxHeartbeats 4000000 in
set_option maxRecDepth 100000 in
theorem mX9_weight {l : Launch} {D : va_G} {cA : Nat → ClassId} {A : Nat → Prop} (x0 : Nat) (x1 : Nat) (S : XS) {out : (Int32 × XS)} (h : fX9_weight x0 x1 S = some out) : Met l yX9_weight (ws_ yX9_weight cX9_weight 2 (some .int)) ({ frames := 2, cells := 0, slots := 0, locals := 42 } : Room) (gPc (xK D cA A) (xP D cA A) A [.ref x0, .ref x1] S) (gQi (xK D cA A) (xP D cA A) A out) 0 0 A := by
  refine gMet_z (by decide) (Nat.le_of_ble_eq_true rfl) ?_ xKst
  intro p e s m below meth c Q ls args H locs hC hP hS hl ret
  obtain ⟨hx, hb, hml, hown, hts, hA, hK⟩ := hC
  have hown : s.vm.findClass RX9 = some m.cls := hown
  have hl : lv_has ls 2 [(0, .ref x0), (1, .ref x1)] := hl
  have B20 : ∀ (x0 : Nat) (t0 : Int32) (S : XS) (H : Heap) (locs : List Loc) (ls : Array Slot), xP D cA A S H → va_S A s.heap H locs → lv_has ls 2 [(0, .ref x0)] → bX9_weight_20  x0 t0 S = some out → W p l e ({ frames := 2, cells := 0, slots := 0, locals := 42 } : Room) s m args below meth c H locs 0 0 Q (F0 m 20 ls [.int t0]) := by
    intro x0 t0 S H locs ls hP hS hl h
    unfold bX9_weight_20 at h
    exact ret _ _ _ _ _ _ dX9_weight_20 rfl hP hS h
  unfold fX9_weight at h
  refine lv_aload_n hx hb dX9_weight_0 rfl (lv_at hl 1 rfl) ?_
  obtain ⟨g3, h⟩ := chk_some h
  obtain ⟨fg3, g3⟩ := isC_some g3
  obtain ⟨v4, S2, e1, h⟩ := bnd_some h
  refine gc5 (va_runF (cC := D.1 1) (hK.1.1 1 _ rfl).2 ⟨hx, hb, hml, hown, hts⟩ (mX1_round (l := l) (D := D) (cA := cA) (A := A) x1 S e1) (va_cwF (C := RX1) 0 hts (lw_app (xw4 q433 q437 q439 q87) (lw_meth q441)) rfl rfl rfl (hK.2.2.2.1 ("PictureBlock$House", ⟨"PictureBlock$Block", "round", "()I"⟩, ⟨"PictureBlock$House", "round", "()I"⟩) (by decide)) (by decide +kernel) ⟨Nat.le_of_ble_eq_true rfl, Nat.le_of_ble_eq_true rfl⟩) (gPreV (As := []) xKst hK hA hS hP (x_recv (q := (RX1, TX1, 16)) hK.1 hP rfl g3)) (rest := []) rfl rfl hl.1 rfl (lv_room (Nat.le_of_ble_eq_true rfl)) dX9_weight_1 ⟨by first | omega | (dsimp only; omega), by first | omega | (dsimp only; omega)⟩) hS (fun H locs hP hS => ?_)
  refine lv_iconst (v := (2 : Int32)) hx hb dX9_weight_6 (by decide) ?_
  refine lv_irem hx hb dX9_weight_7 (by decide) ?_
  refine lv_if_ne (tgt := 19) hx hb dX9_weight_8 (by decide) (fun c5 => ?_) (fun c5 => ?_)
  · have h := ite_f c5 h
    refine lv_iconst (v := (1 : Int32)) hx hb dX9_weight_19 (by decide) ?_
    exact B20 x0 (1 : Int32) S2 _ _ _ hP hS (lv_sub hl [0] rfl) h
  · have h := ite_t c5 h
    refine lv_aload_n hx hb dX9_weight_11 rfl (lv_at hl 0 rfl) ?_
    refine lv_aload_n hx hb dX9_weight_12 rfl (lv_at hl 1 rfl) ?_
    obtain ⟨g8, h⟩ := chk_some h
    obtain ⟨C1, cC1, hat1, hrv1⟩ := x_recvM hK.1 hP g8
    obtain ⟨v9, S7, e6, h⟩ := bnd_some h
    refine gci (x_runSU (n := 1) (As := [.ref x1]) (rest := []) hat1 ⟨hx, hb, hml, hown, hts⟩ (mX6_weight (l := l) (D := D) (cA := cA) (A := A) x0 x1 S2 e6) rfl (lw_meth q444) rfl rfl (hts _ q442) (hts _ q1751) (hts _ q351) (Or.inl rfl) ⟨rfl, rfl⟩ (hts _ q443) (hts _ q92) (by decide +kernel) ⟨Nat.le_of_ble_eq_true rfl, Nat.le_of_ble_eq_true rfl⟩ (gPreV xKst hK hA hS hP hrv1) rfl rfl hl.1 rfl (lv_room (Nat.le_of_ble_eq_true rfl)) dX9_weight_13 ⟨by first | omega | (dsimp only; omega), by first | omega | (dsimp only; omega)⟩) hS (fun H locs hP hS => ?_)
    refine lv_goto (tgt := 20) hx hb dX9_weight_16 (by decide) ?_
    exact B20 x0 v9 S7 _ _ _ hP hS (lv_sub hl [0] rfl) h

def bX0_both_155 (t0 : Int32) (S : XS) : Option (Int32 × XS) :=
some (t0, S)
def bX0_both_202 (t0 : Int32) (S : XS) : Option (Int32 × XS) :=
some (t0, S)
def bX0_both_201 (S : XS) : Option (Int32 × XS) :=
bX0_both_202 (0 : Int32) S
def bX0_both_216 (t0 : Int32) (S : XS) : Option (Int32 × XS) :=
some (t0, S)
def bX0_both_211 (S : XS) : Option (Int32 × XS) :=
bX0_both_216 (1 : Int32) S
def bX0_both_203 (x1 : Int32) (x2 : Int32) (S : XS) : Option (Int32 × XS) :=
(if x1 = 0 then
(if x2 = 0 then
bX0_both_216 (0 : Int32) S
else
bX0_both_211 S)
else
bX0_both_211 S)
def bX0_both_143 (t0 : Int32) (S : XS) : Option (Int32 × XS) :=
some (t0, S)
def bX0_both_166 (t0 : Int32) (S : XS) : Option (Int32 × XS) :=
some (t0, S)
def bX0_both_177 (t0 : Int32) (S : XS) : Option (Int32 × XS) :=
some (t0, S)
def bX0_both_188 (t0 : Int32) (S : XS) : Option (Int32 × XS) :=
some (t0, S)
def fX0_both (x0 : Int32) (x1 : Int32) (x2 : Int32) (S : XS) : Option (Int32 × XS) :=
(if x0 = (37 : Int32) then
(if x2 = 0 then
bX0_both_155 (0 : Int32) S
else
chk (ne0 x2) (bX0_both_155 (x1 - x1 / x2 * x2) S))
else
(if x0 = (38 : Int32) then
(if x1 = 0 then
bX0_both_201 S
else
(if x2 = 0 then
bX0_both_201 S
else
bX0_both_202 (1 : Int32) S))
else
(if x0 = (42 : Int32) then
some ((x1 * x2), S)
else
(if x0 = (43 : Int32) then
some ((x1 + x2), S)
else
(if x0 = (45 : Int32) then
some ((x1 - x2), S)
else
(if x0 = (47 : Int32) then
(if x2 = 0 then
bX0_both_143 (0 : Int32) S
else
chk (ne0 x2) (bX0_both_143 (x1 / x2) S))
else
(if x0 = (60 : Int32) then
(if x2 ≤ x1 then
bX0_both_166 (0 : Int32) S
else
bX0_both_166 (1 : Int32) S)
else
(if x0 = (61 : Int32) then
(if x1 = x2 then
bX0_both_177 (1 : Int32) S
else
bX0_both_177 (0 : Int32) S)
else
(if x0 = (62 : Int32) then
(if x1 ≤ x2 then
bX0_both_188 (0 : Int32) S
else
bX0_both_188 (1 : Int32) S)
else
bX0_both_203 x1 x2 S)))))))))
set_option maxHeartbeats 4000000 in
set_option maxRecDepth 100000 in
theorem mX0_both {l : Launch} {D : va_G} {cA : Nat → ClassId} {A : Nat → Prop} (x0 : Int32) (x1 : Int32) (x2 : Int32) (S : XS) {out : (Int32 × XS)} (h : fX0_both x0 x1 x2 S = some out) : Met l yX0_both (ws_ yX0_both cX0_both 3 (some .int)) ({ frames := 0, cells := 0, slots := 0, locals := 0 } : Room) (gPc (xK D cA A) (xP D cA A) A [.int x0, .int x1, .int x2] S) (gQi (xK D cA A) (xP D cA A) A out) 0 0 A := by
  refine gMet_z (by decide) (Nat.le_of_ble_eq_true rfl) ?_ xKst
  intro p e s m below meth c Q ls args H locs hC hP hS hl ret
  obtain ⟨hx, hb, hml, hown, hts, hA, hK⟩ := hC
  have hown : s.vm.findClass RX0 = some m.cls := hown
  have hl : lv_has ls 3 [(0, .int x0), (1, .int x1), (2, .int x2)] := hl
  have B155 : ∀ (t0 : Int32) (S : XS) (H : Heap) (locs : List Loc) (ls : Array Slot), xP D cA A S H → va_S A s.heap H locs → lv_has ls 3 [] → bX0_both_155  t0 S = some out → W p l e ({ frames := 0, cells := 0, slots := 0, locals := 0 } : Room) s m args below meth c H locs 0 0 Q (F0 m 155 ls [.int t0]) := by
    intro t0 S H locs ls hP hS hl h
    unfold bX0_both_155 at h
    exact ret _ _ _ _ _ _ dX0_both_155 rfl hP hS h
  have B202 : ∀ (t0 : Int32) (S : XS) (H : Heap) (locs : List Loc) (ls : Array Slot), xP D cA A S H → va_S A s.heap H locs → lv_has ls 3 [] → bX0_both_202  t0 S = some out → W p l e ({ frames := 0, cells := 0, slots := 0, locals := 0 } : Room) s m args below meth c H locs 0 0 Q (F0 m 202 ls [.int t0]) := by
    intro t0 S H locs ls hP hS hl h
    unfold bX0_both_202 at h
    exact ret _ _ _ _ _ _ dX0_both_202 rfl hP hS h
  have B201 : ∀  (S : XS) (H : Heap) (locs : List Loc) (ls : Array Slot), xP D cA A S H → va_S A s.heap H locs → lv_has ls 3 [] → bX0_both_201   S = some out → W p l e ({ frames := 0, cells := 0, slots := 0, locals := 0 } : Room) s m args below meth c H locs 0 0 Q (F0 m 201 ls []) := by
    intro  S H locs ls hP hS hl h
    unfold bX0_both_201 at h
    refine lv_iconst (v := (0 : Int32)) hx hb dX0_both_201 (by decide) ?_
    exact B202 (0 : Int32) S _ _ _ hP hS hl h
  have B216 : ∀ (t0 : Int32) (S : XS) (H : Heap) (locs : List Loc) (ls : Array Slot), xP D cA A S H → va_S A s.heap H locs → lv_has ls 3 [] → bX0_both_216  t0 S = some out → W p l e ({ frames := 0, cells := 0, slots := 0, locals := 0 } : Room) s m args below meth c H locs 0 0 Q (F0 m 216 ls [.int t0]) := by
    intro t0 S H locs ls hP hS hl h
    unfold bX0_both_216 at h
    exact ret _ _ _ _ _ _ dX0_both_216 rfl hP hS h
  have B211 : ∀  (S : XS) (H : Heap) (locs : List Loc) (ls : Array Slot), xP D cA A S H → va_S A s.heap H locs → lv_has ls 3 [] → bX0_both_211   S = some out → W p l e ({ frames := 0, cells := 0, slots := 0, locals := 0 } : Room) s m args below meth c H locs 0 0 Q (F0 m 211 ls []) := by
    intro  S H locs ls hP hS hl h
    unfold bX0_both_211 at h
    refine lv_iconst (v := (1 : Int32)) hx hb dX0_both_211 (by decide) ?_
    refine lv_goto (tgt := 216) hx hb dX0_both_212 (by decide) ?_
    exact B216 (1 : Int32) S _ _ _ hP hS hl h
  have B203 : ∀ (x1 : Int32) (x2 : Int32) (S : XS) (H : Heap) (locs : List Loc) (ls : Array Slot), xP D cA A S H → va_S A s.heap H locs → lv_has ls 3 [(1, .int x1), (2, .int x2)] → bX0_both_203  x1 x2 S = some out → W p l e ({ frames := 0, cells := 0, slots := 0, locals := 0 } : Room) s m args below meth c H locs 0 0 Q (F0 m 203 ls []) := by
    intro x1 x2 S H locs ls hP hS hl h
    unfold bX0_both_203 at h
    refine lv_iload_n hx hb dX0_both_203 rfl (lv_at hl 0 rfl) ?_
    refine lv_if_ne (tgt := 211) hx hb dX0_both_204 (by decide) (fun c1 => ?_) (fun c1 => ?_)
    · have h := ite_f c1 h
      exact B211 S _ _ _ hP hS (lv_sub hl [] rfl) h
    · have h := ite_t c1 h
      refine lv_iload_n hx hb dX0_both_207 rfl (lv_at hl 1 rfl) ?_
      refine lv_if_eq (tgt := 215) hx hb dX0_both_208 (by decide) (fun c2 => ?_) (fun c2 => ?_)
      · have h := ite_t c2 h
        refine lv_iconst (v := (0 : Int32)) hx hb dX0_both_215 (by decide) ?_
        exact B216 (0 : Int32) S _ _ _ hP hS (lv_sub hl [] rfl) h
      · have h := ite_f c2 h
        exact B211 S _ _ _ hP hS (lv_sub hl [] rfl) h
  have B143 : ∀ (t0 : Int32) (S : XS) (H : Heap) (locs : List Loc) (ls : Array Slot), xP D cA A S H → va_S A s.heap H locs → lv_has ls 3 [] → bX0_both_143  t0 S = some out → W p l e ({ frames := 0, cells := 0, slots := 0, locals := 0 } : Room) s m args below meth c H locs 0 0 Q (F0 m 143 ls [.int t0]) := by
    intro t0 S H locs ls hP hS hl h
    unfold bX0_both_143 at h
    exact ret _ _ _ _ _ _ dX0_both_143 rfl hP hS h
  have B166 : ∀ (t0 : Int32) (S : XS) (H : Heap) (locs : List Loc) (ls : Array Slot), xP D cA A S H → va_S A s.heap H locs → lv_has ls 3 [] → bX0_both_166  t0 S = some out → W p l e ({ frames := 0, cells := 0, slots := 0, locals := 0 } : Room) s m args below meth c H locs 0 0 Q (F0 m 166 ls [.int t0]) := by
    intro t0 S H locs ls hP hS hl h
    unfold bX0_both_166 at h
    exact ret _ _ _ _ _ _ dX0_both_166 rfl hP hS h
  have B177 : ∀ (t0 : Int32) (S : XS) (H : Heap) (locs : List Loc) (ls : Array Slot), xP D cA A S H → va_S A s.heap H locs → lv_has ls 3 [] → bX0_both_177  t0 S = some out → W p l e ({ frames := 0, cells := 0, slots := 0, locals := 0 } : Room) s m args below meth c H locs 0 0 Q (F0 m 177 ls [.int t0]) := by
    intro t0 S H locs ls hP hS hl h
    unfold bX0_both_177 at h
    exact ret _ _ _ _ _ _ dX0_both_177 rfl hP hS h
  have B188 : ∀ (t0 : Int32) (S : XS) (H : Heap) (locs : List Loc) (ls : Array Slot), xP D cA A S H → va_S A s.heap H locs → lv_has ls 3 [] → bX0_both_188  t0 S = some out → W p l e ({ frames := 0, cells := 0, slots := 0, locals := 0 } : Room) s m args below meth c H locs 0 0 Q (F0 m 188 ls [.int t0]) := by
    intro t0 S H locs ls hP hS hl h
    unfold bX0_both_188 at h
    exact ret _ _ _ _ _ _ dX0_both_188 rfl hP hS h
  unfold fX0_both at h
  refine lv_iload_n hx hb dX0_both_0 rfl (lv_at hl 0 rfl) ?_
  by_cases c3 : x0 = (37 : Int32)
  · have h := ite_t c3 h
    refine lv_tableIn (off := 143) (tgt := 144) hx hb dX0_both_1 (by rw [c3]; decide) (by rw [c3]; decide) (by rw [c3]; rfl) (by decide) ?_
    refine lv_iload_n hx hb dX0_both_144 rfl (lv_at hl 2 rfl) ?_
    refine lv_if_ne (tgt := 152) hx hb dX0_both_145 (by decide) (fun c4 => ?_) (fun c4 => ?_)
    · have h := ite_f c4 h
      refine lv_iload_n hx hb dX0_both_152 rfl (lv_at hl 1 rfl) ?_
      refine lv_iload_n hx hb dX0_both_153 rfl (lv_at hl 2 rfl) ?_
      obtain ⟨g5, h⟩ := chk_some h
      refine lv_irem hx hb dX0_both_154 (ne0_n g5) ?_
      exact B155 (x1 - x1 / x2 * x2) S _ _ _ hP hS (lv_sub hl [] rfl) h
    · have h := ite_t c4 h
      refine lv_iconst (v := (0 : Int32)) hx hb dX0_both_148 (by decide) ?_
      refine lv_goto (tgt := 155) hx hb dX0_both_149 (by decide) ?_
      exact B155 (0 : Int32) S _ _ _ hP hS (lv_sub hl [] rfl) h
  · have h := ite_f c3 h
    by_cases c6 : x0 = (38 : Int32)
    · have h := ite_t c6 h
      refine lv_tableIn (off := 188) (tgt := 189) hx hb dX0_both_1 (by rw [c6]; decide) (by rw [c6]; decide) (by rw [c6]; rfl) (by decide) ?_
      refine lv_iload_n hx hb dX0_both_189 rfl (lv_at hl 1 rfl) ?_
      refine lv_if_eq (tgt := 201) hx hb dX0_both_190 (by decide) (fun c7 => ?_) (fun c7 => ?_)
      · have h := ite_t c7 h
        exact B201 S _ _ _ hP hS (lv_sub hl [] rfl) h
      · have h := ite_f c7 h
        refine lv_iload_n hx hb dX0_both_193 rfl (lv_at hl 2 rfl) ?_
        refine lv_if_eq (tgt := 201) hx hb dX0_both_194 (by decide) (fun c8 => ?_) (fun c8 => ?_)
        · have h := ite_t c8 h
          exact B201 S _ _ _ hP hS (lv_sub hl [] rfl) h
        · have h := ite_f c8 h
          refine lv_iconst (v := (1 : Int32)) hx hb dX0_both_197 (by decide) ?_
          refine lv_goto (tgt := 202) hx hb dX0_both_198 (by decide) ?_
          exact B202 (1 : Int32) S _ _ _ hP hS (lv_sub hl [] rfl) h
    · have h := ite_f c6 h
      by_cases c9 : x0 = (42 : Int32)
      · have h := ite_t c9 h
        refine lv_tableIn (off := 127) (tgt := 128) hx hb dX0_both_1 (by rw [c9]; decide) (by rw [c9]; decide) (by rw [c9]; rfl) (by decide) ?_
        refine lv_iload_n hx hb dX0_both_128 rfl (lv_at hl 1 rfl) ?_
        refine lv_iload_n hx hb dX0_both_129 rfl (lv_at hl 2 rfl) ?_
        refine lv_imul hx hb dX0_both_130 ?_
        exact ret _ _ _ _ _ _ dX0_both_131 rfl hP hS h
      · have h := ite_f c9 h
        by_cases c10 : x0 = (43 : Int32)
        · have h := ite_t c10 h
          refine lv_tableIn (off := 119) (tgt := 120) hx hb dX0_both_1 (by rw [c10]; decide) (by rw [c10]; decide) (by rw [c10]; rfl) (by decide) ?_
          refine lv_iload_n hx hb dX0_both_120 rfl (lv_at hl 1 rfl) ?_
          refine lv_iload_n hx hb dX0_both_121 rfl (lv_at hl 2 rfl) ?_
          refine lv_iadd hx hb dX0_both_122 ?_
          exact ret _ _ _ _ _ _ dX0_both_123 rfl hP hS h
        · have h := ite_f c10 h
          by_cases c11 : x0 = (45 : Int32)
          · have h := ite_t c11 h
            refine lv_tableIn (off := 123) (tgt := 124) hx hb dX0_both_1 (by rw [c11]; decide) (by rw [c11]; decide) (by rw [c11]; rfl) (by decide) ?_
            refine lv_iload_n hx hb dX0_both_124 rfl (lv_at hl 1 rfl) ?_
            refine lv_iload_n hx hb dX0_both_125 rfl (lv_at hl 2 rfl) ?_
            refine lv_isub hx hb dX0_both_126 ?_
            exact ret _ _ _ _ _ _ dX0_both_127 rfl hP hS h
          · have h := ite_f c11 h
            by_cases c12 : x0 = (47 : Int32)
            · have h := ite_t c12 h
              refine lv_tableIn (off := 131) (tgt := 132) hx hb dX0_both_1 (by rw [c12]; decide) (by rw [c12]; decide) (by rw [c12]; rfl) (by decide) ?_
              refine lv_iload_n hx hb dX0_both_132 rfl (lv_at hl 2 rfl) ?_
              refine lv_if_ne (tgt := 140) hx hb dX0_both_133 (by decide) (fun c13 => ?_) (fun c13 => ?_)
              · have h := ite_f c13 h
                refine lv_iload_n hx hb dX0_both_140 rfl (lv_at hl 1 rfl) ?_
                refine lv_iload_n hx hb dX0_both_141 rfl (lv_at hl 2 rfl) ?_
                obtain ⟨g14, h⟩ := chk_some h
                refine lv_idiv hx hb dX0_both_142 (ne0_n g14) ?_
                exact B143 (x1 / x2) S _ _ _ hP hS (lv_sub hl [] rfl) h
              · have h := ite_t c13 h
                refine lv_iconst (v := (0 : Int32)) hx hb dX0_both_136 (by decide) ?_
                refine lv_goto (tgt := 143) hx hb dX0_both_137 (by decide) ?_
                exact B143 (0 : Int32) S _ _ _ hP hS (lv_sub hl [] rfl) h
            · have h := ite_f c12 h
              by_cases c15 : x0 = (60 : Int32)
              · have h := ite_t c15 h
                refine lv_tableIn (off := 155) (tgt := 156) hx hb dX0_both_1 (by rw [c15]; decide) (by rw [c15]; decide) (by rw [c15]; rfl) (by decide) ?_
                refine lv_iload_n hx hb dX0_both_156 rfl (lv_at hl 1 rfl) ?_
                refine lv_iload_n hx hb dX0_both_157 rfl (lv_at hl 2 rfl) ?_
                refine lv_icmp_ge (tgt := 165) hx hb dX0_both_158 (by decide) (fun c16 => ?_) (fun c16 => ?_)
                · have h := ite_t c16 h
                  refine lv_iconst (v := (0 : Int32)) hx hb dX0_both_165 (by decide) ?_
                  exact B166 (0 : Int32) S _ _ _ hP hS (lv_sub hl [] rfl) h
                · have h := ite_f c16 h
                  refine lv_iconst (v := (1 : Int32)) hx hb dX0_both_161 (by decide) ?_
                  refine lv_goto (tgt := 166) hx hb dX0_both_162 (by decide) ?_
                  exact B166 (1 : Int32) S _ _ _ hP hS (lv_sub hl [] rfl) h
              · have h := ite_f c15 h
                by_cases c17 : x0 = (61 : Int32)
                · have h := ite_t c17 h
                  refine lv_tableIn (off := 166) (tgt := 167) hx hb dX0_both_1 (by rw [c17]; decide) (by rw [c17]; decide) (by rw [c17]; rfl) (by decide) ?_
                  refine lv_iload_n hx hb dX0_both_167 rfl (lv_at hl 1 rfl) ?_
                  refine lv_iload_n hx hb dX0_both_168 rfl (lv_at hl 2 rfl) ?_
                  refine lv_icmp_ne (tgt := 176) hx hb dX0_both_169 (by decide) (fun c18 => ?_) (fun c18 => ?_)
                  · have h := ite_f c18 h
                    refine lv_iconst (v := (0 : Int32)) hx hb dX0_both_176 (by decide) ?_
                    exact B177 (0 : Int32) S _ _ _ hP hS (lv_sub hl [] rfl) h
                  · have h := ite_t c18 h
                    refine lv_iconst (v := (1 : Int32)) hx hb dX0_both_172 (by decide) ?_
                    refine lv_goto (tgt := 177) hx hb dX0_both_173 (by decide) ?_
                    exact B177 (1 : Int32) S _ _ _ hP hS (lv_sub hl [] rfl) h
                · have h := ite_f c17 h
                  by_cases c19 : x0 = (62 : Int32)
                  · have h := ite_t c19 h
                    refine lv_tableIn (off := 177) (tgt := 178) hx hb dX0_both_1 (by rw [c19]; decide) (by rw [c19]; decide) (by rw [c19]; rfl) (by decide) ?_
                    refine lv_iload_n hx hb dX0_both_178 rfl (lv_at hl 1 rfl) ?_
                    refine lv_iload_n hx hb dX0_both_179 rfl (lv_at hl 2 rfl) ?_
                    refine lv_icmp_le (tgt := 187) hx hb dX0_both_180 (by decide) (fun c20 => ?_) (fun c20 => ?_)
                    · have h := ite_t c20 h
                      refine lv_iconst (v := (0 : Int32)) hx hb dX0_both_187 (by decide) ?_
                      exact B188 (0 : Int32) S _ _ _ hP hS (lv_sub hl [] rfl) h
                    · have h := ite_f c20 h
                      refine lv_iconst (v := (1 : Int32)) hx hb dX0_both_183 (by decide) ?_
                      refine lv_goto (tgt := 188) hx hb dX0_both_184 (by decide) ?_
                      exact B188 (1 : Int32) S _ _ _ hP hS (lv_sub hl [] rfl) h
                  · have h := ite_f c19 h
                    have nc3 := lv_neT (a := 37) c3 (by decide)
                    have nc6 := lv_neT (a := 38) c6 (by decide)
                    have nc9 := lv_neT (a := 42) c9 (by decide)
                    have nc10 := lv_neT (a := 43) c10 (by decide)
                    have nc11 := lv_neT (a := 45) c11 (by decide)
                    have nc12 := lv_neT (a := 47) c12 (by decide)
                    have nc15 := lv_neT (a := 60) c15 (by decide)
                    have nc17 := lv_neT (a := 61) c17 (by decide)
                    have nc19 := lv_neT (a := 62) c19 (by decide)
                    have hd21 : W p l e ({ frames := 0, cells := 0, slots := 0, locals := 0 } : Room) s m args below meth c H locs 0 0 Q (F0 m 203 ls []) := by
                      exact B203 x1 x2 S _ _ _ hP hS (lv_sub hl [1, 2] rfl) h
                    by_cases u22 : (x0).toInt < 37 ∨ 62 < (x0).toInt
                    · exact lv_tableOut (tgt := 203) hx hb dX0_both_1 u22 (by decide) hd21
                    · have q23 : (x0).toInt = 39 ∨ (x0).toInt = 40 ∨ (x0).toInt = 41 ∨ (x0).toInt = 44 ∨ (x0).toInt = 46 ∨ (x0).toInt = 48 ∨ (x0).toInt = 49 ∨ (x0).toInt = 50 ∨ (x0).toInt = 51 ∨ (x0).toInt = 52 ∨ (x0).toInt = 53 ∨ (x0).toInt = 54 ∨ (x0).toInt = 55 ∨ (x0).toInt = 56 ∨ (x0).toInt = 57 ∨ (x0).toInt = 58 ∨ (x0).toInt = 59 := by omega
                      rcases q23 with q23 | q23 | q23 | q23 | q23 | q23 | q23 | q23 | q23 | q23 | q23 | q23 | q23 | q23 | q23 | q23 | q23
                      · have c24 : x0 = (39 : Int32) := Int32.toInt_inj.mp (q23.trans (by decide))
                        exact lv_tableIn (off := 202) (tgt := 203) hx hb dX0_both_1 (by rw [c24]; decide) (by rw [c24]; decide) (by rw [c24]; rfl) (by decide) hd21
                      · have c25 : x0 = (40 : Int32) := Int32.toInt_inj.mp (q23.trans (by decide))
                        exact lv_tableIn (off := 202) (tgt := 203) hx hb dX0_both_1 (by rw [c25]; decide) (by rw [c25]; decide) (by rw [c25]; rfl) (by decide) hd21
                      · have c26 : x0 = (41 : Int32) := Int32.toInt_inj.mp (q23.trans (by decide))
                        exact lv_tableIn (off := 202) (tgt := 203) hx hb dX0_both_1 (by rw [c26]; decide) (by rw [c26]; decide) (by rw [c26]; rfl) (by decide) hd21
                      · have c27 : x0 = (44 : Int32) := Int32.toInt_inj.mp (q23.trans (by decide))
                        exact lv_tableIn (off := 202) (tgt := 203) hx hb dX0_both_1 (by rw [c27]; decide) (by rw [c27]; decide) (by rw [c27]; rfl) (by decide) hd21
                      · have c28 : x0 = (46 : Int32) := Int32.toInt_inj.mp (q23.trans (by decide))
                        exact lv_tableIn (off := 202) (tgt := 203) hx hb dX0_both_1 (by rw [c28]; decide) (by rw [c28]; decide) (by rw [c28]; rfl) (by decide) hd21
                      · have c29 : x0 = (48 : Int32) := Int32.toInt_inj.mp (q23.trans (by decide))
                        exact lv_tableIn (off := 202) (tgt := 203) hx hb dX0_both_1 (by rw [c29]; decide) (by rw [c29]; decide) (by rw [c29]; rfl) (by decide) hd21
                      · have c30 : x0 = (49 : Int32) := Int32.toInt_inj.mp (q23.trans (by decide))
                        exact lv_tableIn (off := 202) (tgt := 203) hx hb dX0_both_1 (by rw [c30]; decide) (by rw [c30]; decide) (by rw [c30]; rfl) (by decide) hd21
                      · have c31 : x0 = (50 : Int32) := Int32.toInt_inj.mp (q23.trans (by decide))
                        exact lv_tableIn (off := 202) (tgt := 203) hx hb dX0_both_1 (by rw [c31]; decide) (by rw [c31]; decide) (by rw [c31]; rfl) (by decide) hd21
                      · have c32 : x0 = (51 : Int32) := Int32.toInt_inj.mp (q23.trans (by decide))
                        exact lv_tableIn (off := 202) (tgt := 203) hx hb dX0_both_1 (by rw [c32]; decide) (by rw [c32]; decide) (by rw [c32]; rfl) (by decide) hd21
                      · have c33 : x0 = (52 : Int32) := Int32.toInt_inj.mp (q23.trans (by decide))
                        exact lv_tableIn (off := 202) (tgt := 203) hx hb dX0_both_1 (by rw [c33]; decide) (by rw [c33]; decide) (by rw [c33]; rfl) (by decide) hd21
                      · have c34 : x0 = (53 : Int32) := Int32.toInt_inj.mp (q23.trans (by decide))
                        exact lv_tableIn (off := 202) (tgt := 203) hx hb dX0_both_1 (by rw [c34]; decide) (by rw [c34]; decide) (by rw [c34]; rfl) (by decide) hd21
                      · have c35 : x0 = (54 : Int32) := Int32.toInt_inj.mp (q23.trans (by decide))
                        exact lv_tableIn (off := 202) (tgt := 203) hx hb dX0_both_1 (by rw [c35]; decide) (by rw [c35]; decide) (by rw [c35]; rfl) (by decide) hd21
                      · have c36 : x0 = (55 : Int32) := Int32.toInt_inj.mp (q23.trans (by decide))
                        exact lv_tableIn (off := 202) (tgt := 203) hx hb dX0_both_1 (by rw [c36]; decide) (by rw [c36]; decide) (by rw [c36]; rfl) (by decide) hd21
                      · have c37 : x0 = (56 : Int32) := Int32.toInt_inj.mp (q23.trans (by decide))
                        exact lv_tableIn (off := 202) (tgt := 203) hx hb dX0_both_1 (by rw [c37]; decide) (by rw [c37]; decide) (by rw [c37]; rfl) (by decide) hd21
                      · have c38 : x0 = (57 : Int32) := Int32.toInt_inj.mp (q23.trans (by decide))
                        exact lv_tableIn (off := 202) (tgt := 203) hx hb dX0_both_1 (by rw [c38]; decide) (by rw [c38]; decide) (by rw [c38]; rfl) (by decide) hd21
                      · have c39 : x0 = (58 : Int32) := Int32.toInt_inj.mp (q23.trans (by decide))
                        exact lv_tableIn (off := 202) (tgt := 203) hx hb dX0_both_1 (by rw [c39]; decide) (by rw [c39]; decide) (by rw [c39]; rfl) (by decide) hd21
                      · have c40 : x0 = (59 : Int32) := Int32.toInt_inj.mp (q23.trans (by decide))
                        exact lv_tableIn (off := 202) (tgt := 203) hx hb dX0_both_1 (by rw [c40]; decide) (by rw [c40]; decide) (by rw [c40]; rfl) (by decide) hd21
