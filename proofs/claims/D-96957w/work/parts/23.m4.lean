def bX4_put_92 (t1 : Int32) (t2 : Int32) (S : MS) : Option (Int32 × MS) :=
chk (inB t1 96) (nm (sIA S 7 (upd (mIA S 7) (t1).toNatClampNeg t2)) fun S2 =>
some ((1 : Int32), S2))
def bX4_put_35 (x1 : Int32) (x2 : Int32) (x3 : Int32) (t0 : Int32) (S : MS) : Option (Int32 × MS) :=
(if t0 = 0 then
chk (inB x1 4) ((if (mIA S 5 (x1).toNatClampNeg) = (8 : Int32) then
bX4_put_92 (((24 : Int32) * x1) + x2) ((x3).toInt8.toInt32) S
else
chk (inB x1 4) ((if (mIA S 5 (x1).toNatClampNeg) = (16 : Int32) then
bX4_put_92 (((24 : Int32) * x1) + x2) ((x3).toInt16.toInt32) S
else
bX4_put_92 (((24 : Int32) * x1) + x2) x3 S))))
else
bnd (fX4_error t0 S) fun v10 S9 =>
some (v10, S9))
def bX4_put_33 (x1 : Int32) (x2 : Int32) (x3 : Int32) (x4 : Int32) (S : MS) : Option (Int32 × MS) :=
bX4_put_35 x1 x2 x3 x4 S
def fX4_put (x1 : Int32) (x2 : Int32) (x3 : Int32) (S : MS) : Option (Int32 × MS) :=
bnd (fX4_notThere x1 S) fun v13 S12 =>
(if v13 = 0 then
chk (inB x1 4) (bnd (fX4_in x2 (0 : Int32) ((mIA S12 6 (x1).toNatClampNeg) - (1 : Int32)) S12) fun v18 S17 =>
(if v18 = 0 then
bX4_put_35 x1 x2 x3 (-1000000001 : Int32) S17
else
bX4_put_33 x1 x2 x3 v13 S17))
else
bX4_put_33 x1 x2 x3 v13 S12)
set_option maxHeartbeats 4000000 in
set_option maxRecDepth 100000 in
theorem mX4_put {l : Launch} {D : va_G} {cA : Nat → ClassId} {o : Nat → Nat} {A : Nat → Prop} (x1 : Int32) (x2 : Int32) (x3 : Int32) (S : MS) {out : (Int32 × MS)} (h : fX4_put x1 x2 x3 S = some out) : Met l yX4_put (ws_ yX4_put cX4_put 5 (some .int)) ({ frames := 3, cells := 0, slots := 0, locals := 63 } : Room) (gPc (mK D cA) (mP D cA o A) A [.ref (o 24), .int x1, .int x2, .int x3] S) (gQi (mK D cA) (mP D cA o A) A out) 0 0 A := by
  refine gMet_z (by decide) (Nat.le_of_ble_eq_true rfl) ?_ mKst
  intro p e s m below meth c Q ls args H locs hC hP hS hl ret
  obtain ⟨hx, hb, hml, hown, hts, hA, hK⟩ := hC
  have hown : s.vm.findClass RX4 = some m.cls := hown
  have hl : lv_has ls 5 [(0, .ref (o 24)), (1, .int x1), (2, .int x2), (3, .int x3)] := hl
  have B92 : ∀ (t1 : Int32) (t2 : Int32) (S : MS) (H : Heap) (locs : List Loc) (ls : Array Slot), mP D cA o A S H → va_S A s.heap H locs → lv_has ls 5 [(0, .ref (o 24))] → bX4_put_92  t1 t2 S = some out → W p l e ({ frames := 3, cells := 0, slots := 0, locals := 63 } : Room) s m args below meth c H locs 0 0 Q (F0 m 92 ls [.int t2, .int t1, .ref (o 7)]) := by
    intro t1 t2 S H locs ls hP hS hl h
    unfold bX4_put_92 at h
    obtain ⟨g1, h⟩ := chk_some h
    refine va_iast hx hb hK hP.1 hP.2 hS 7 0 rfl rfl (inB_in g1) dX4_put_92 (fun H locs hP1 hD1 hS => ?_)
    obtain ⟨S2, eS2⟩ : ∃ y : MS, y = (sIA S 7 (upd (mIA S 7) (t1).toNatClampNeg t2)) := ⟨_, rfl⟩
    have hP : mP D cA o A S2 H := by rw [eS2]; exact ⟨hP1, hD1⟩
    have h := nm_at eS2 h
    refine lv_iconst (v := (1 : Int32)) hx hb dX4_put_93 (by decide) ?_
    exact ret _ _ _ _ _ _ dX4_put_94 rfl hP hS h
  have B35 : ∀ (x1 : Int32) (x2 : Int32) (x3 : Int32) (t0 : Int32) (S : MS) (H : Heap) (locs : List Loc) (ls : Array Slot), mP D cA o A S H → va_S A s.heap H locs → lv_has ls 5 [(0, .ref (o 24)), (1, .int x1), (2, .int x2), (3, .int x3)] → bX4_put_35  x1 x2 x3 t0 S = some out → W p l e ({ frames := 3, cells := 0, slots := 0, locals := 63 } : Room) s m args below meth c H locs 0 0 Q (F0 m 35 ls [.int t0]) := by
    intro x1 x2 x3 t0 S H locs ls hP hS hl h
    unfold bX4_put_35 at h
    refine lv_istore (lv' := [(4, .int t0), (0, .ref (o 24)), (1, .int x1), (2, .int x2), (3, .int x3)]) hx hb dX4_put_35 hl (by decide) rfl (fun ls hl => ?_)
    refine lv_iload hx hb dX4_put_37 (lv_at hl 0 rfl) ?_
    refine lv_if_eq (tgt := 49) hx hb dX4_put_39 (by decide) (fun c3 => ?_) (fun c3 => ?_)
    · have h := ite_t c3 h
      refine lv_aload_n hx hb dX4_put_49 rfl (lv_at hl 1 rfl) ?_
      refine va_get (D := D) (ci := 4) (v := .ref (o 7)) (C := RX4) (T := TX4) (N := 24) hx hb hts in_X4 hown hK hP.1 0 rfl rfl 7 (by decide) (hts _ q1256) (fun _ h9 => h9) rfl dX4_put_50 ?_
      refine lv_bipush (v := (24 : Int32)) hx hb dX4_put_53 (by decide) ?_
      refine lv_iload_n hx hb dX4_put_55 rfl (lv_at hl 2 rfl) ?_
      refine lv_imul hx hb dX4_put_56 ?_
      refine lv_iload_n hx hb dX4_put_57 rfl (lv_at hl 3 rfl) ?_
      refine lv_iadd hx hb dX4_put_58 ?_
      refine lv_aload_n hx hb dX4_put_59 rfl (lv_at hl 1 rfl) ?_
      refine va_get (D := D) (ci := 4) (v := .ref (o 5)) (C := RX4) (T := TX4) (N := 24) hx hb hts in_X4 hown hK hP.1 0 rfl rfl 5 (by decide) (hts _ q1254) (fun _ h9 => h9) rfl dX4_put_60 ?_
      refine lv_iload_n hx hb dX4_put_63 rfl (lv_at hl 2 rfl) ?_
      obtain ⟨g4, h⟩ := chk_some h
      refine va_iald hx hb hK hP.1 5 0 rfl rfl (inB_in g4) dX4_put_64 ?_
      refine lv_bipush (v := (8 : Int32)) hx hb dX4_put_65 (by decide) ?_
      refine lv_icmp_ne (tgt := 75) hx hb dX4_put_67 (by decide) (fun c5 => ?_) (fun c5 => ?_)
      · have h := ite_f c5 h
        refine lv_aload_n hx hb dX4_put_75 rfl (lv_at hl 1 rfl) ?_
        refine va_get (D := D) (ci := 4) (v := .ref (o 5)) (C := RX4) (T := TX4) (N := 24) hx hb hts in_X4 hown hK hP.1 0 rfl rfl 5 (by decide) (hts _ q1254) (fun _ h9 => h9) rfl dX4_put_76 ?_
        refine lv_iload_n hx hb dX4_put_79 rfl (lv_at hl 2 rfl) ?_
        obtain ⟨g6, h⟩ := chk_some h
        refine va_iald hx hb hK hP.1 5 0 rfl rfl (inB_in g6) dX4_put_80 ?_
        refine lv_bipush (v := (16 : Int32)) hx hb dX4_put_81 (by decide) ?_
        refine lv_icmp_ne (tgt := 91) hx hb dX4_put_83 (by decide) (fun c7 => ?_) (fun c7 => ?_)
        · have h := ite_f c7 h
          refine lv_iload_n hx hb dX4_put_91 rfl (lv_at hl 4 rfl) ?_
          exact B92 (((24 : Int32) * x1) + x2) x3 S _ _ _ hP hS (lv_sub hl [1] rfl) h
        · have h := ite_t c7 h
          refine lv_iload_n hx hb dX4_put_86 rfl (lv_at hl 4 rfl) ?_
          refine lv_i2s hx hb dX4_put_87 rfl ?_
          refine lv_goto (tgt := 92) hx hb dX4_put_88 (by decide) ?_
          exact B92 (((24 : Int32) * x1) + x2) ((x3).toInt16.toInt32) S _ _ _ hP hS (lv_sub hl [1] rfl) h
      · have h := ite_t c5 h
        refine lv_iload_n hx hb dX4_put_70 rfl (lv_at hl 4 rfl) ?_
        refine lv_i2b hx hb dX4_put_71 rfl ?_
        refine lv_goto (tgt := 92) hx hb dX4_put_72 (by decide) ?_
        exact B92 (((24 : Int32) * x1) + x2) ((x3).toInt8.toInt32) S _ _ _ hP hS (lv_sub hl [1] rfl) h
    · have h := ite_f c3 h
      refine lv_aload_n hx hb dX4_put_42 rfl (lv_at hl 1 rfl) ?_
      refine lv_iload hx hb dX4_put_43 (lv_at hl 0 rfl) ?_
      obtain ⟨v10, S9, e8, h⟩ := bnd_some h
      refine gc0_i (va_runV (As := [.int t0]) (rest := []) ⟨hx, hb, hml, hown, hts⟩ (mX4_error (l := l) (D := D) (cA := cA) (o := o) (A := A) t0 S e8) (cwV 1 hts (lw_V q1337 q1339 qs30 q90 q1340) rfl rfl rfl (by decide +kernel) ⟨Nat.le_of_ble_eq_true rfl, Nat.le_of_ble_eq_true rfl⟩) (gPreV mKst hK hA hS hP (mRecv hK hP)) rfl rfl hl.1 rfl (lv_room (Nat.le_of_ble_eq_true rfl)) dX4_put_45 ⟨Nat.zero_le _, Nat.zero_le _⟩) hS (fun H locs hP hS => ?_)
      exact ret _ _ _ _ _ _ dX4_put_48 rfl hP hS h
  have B33 : ∀ (x1 : Int32) (x2 : Int32) (x3 : Int32) (x4 : Int32) (S : MS) (H : Heap) (locs : List Loc) (ls : Array Slot), mP D cA o A S H → va_S A s.heap H locs → lv_has ls 5 [(0, .ref (o 24)), (1, .int x1), (2, .int x2), (3, .int x3), (4, .int x4)] → bX4_put_33  x1 x2 x3 x4 S = some out → W p l e ({ frames := 3, cells := 0, slots := 0, locals := 63 } : Room) s m args below meth c H locs 0 0 Q (F0 m 33 ls []) := by
    intro x1 x2 x3 x4 S H locs ls hP hS hl h
    unfold bX4_put_33 at h
    refine lv_iload hx hb dX4_put_33 (lv_at hl 4 rfl) ?_
    exact B35 x1 x2 x3 x4 S _ _ _ hP hS (lv_sub hl [0, 1, 2, 3] rfl) h
  unfold fX4_put at h
  refine lv_aload_n hx hb dX4_put_0 rfl (lv_at hl 0 rfl) ?_
  refine lv_iload_n hx hb dX4_put_1 rfl (lv_at hl 1 rfl) ?_
  obtain ⟨v13, S12, e11, h⟩ := bnd_some h
  refine gc0_i (va_runV (As := [.int x1]) (rest := []) ⟨hx, hb, hml, hown, hts⟩ (mX4_notThere (l := l) (D := D) (cA := cA) (o := o) (A := A) x1 S e11) (cwV 1 hts (lw_V q1704 q1706 qs83 q90 q1707) rfl rfl rfl (by decide +kernel) ⟨Nat.le_of_ble_eq_true rfl, Nat.le_of_ble_eq_true rfl⟩) (gPreV mKst hK hA hS hP (mRecv hK hP)) rfl rfl hl.1 rfl (lv_room (Nat.le_of_ble_eq_true rfl)) dX4_put_2 ⟨Nat.zero_le _, Nat.zero_le _⟩) hS (fun H locs hP hS => ?_)
  refine lv_istore (lv' := [(4, .int v13), (0, .ref (o 24)), (1, .int x1), (2, .int x2), (3, .int x3)]) hx hb dX4_put_5 hl (by decide) rfl (fun ls hl => ?_)
  refine lv_iload hx hb dX4_put_7 (lv_at hl 0 rfl) ?_
  refine lv_if_ne (tgt := 33) hx hb dX4_put_9 (by decide) (fun c14 => ?_) (fun c14 => ?_)
  · have h := ite_f c14 h
    exact B33 x1 x2 x3 v13 S12 _ _ _ hP hS (lv_sub hl [1, 2, 3, 4, 0] rfl) h
  · have h := ite_t c14 h
    refine lv_iload_n hx hb dX4_put_12 rfl (lv_at hl 3 rfl) ?_
    refine lv_iconst (v := (0 : Int32)) hx hb dX4_put_13 (by decide) ?_
    refine lv_aload_n hx hb dX4_put_14 rfl (lv_at hl 1 rfl) ?_
    refine va_get (D := D) (ci := 4) (v := .ref (o 6)) (C := RX4) (T := TX4) (N := 24) hx hb hts in_X4 hown hK hP.1 0 rfl rfl 6 (by decide) (hts _ q1255) (fun _ h9 => h9) rfl dX4_put_15 ?_
    refine lv_iload_n hx hb dX4_put_18 rfl (lv_at hl 2 rfl) ?_
    obtain ⟨g15, h⟩ := chk_some h
    refine va_iald hx hb hK hP.1 6 0 rfl rfl (inB_in g15) dX4_put_19 ?_
    refine lv_iconst (v := (1 : Int32)) hx hb dX4_put_20 (by decide) ?_
    refine lv_isub hx hb dX4_put_21 ?_
    obtain ⟨v18, S17, e16, h⟩ := bnd_some h
    refine gc0_i (va_runS (As := [.int x2, .int (0 : Int32), .int ((mIA S12 6 (x1).toNatClampNeg) - (1 : Int32))]) (rest := []) ⟨hx, hb, hml, hown, hts⟩ (mX4_in (l := l) (D := D) (cA := cA) (o := o) (A := A) x2 (0 : Int32) ((mIA S12 6 (x1).toNatClampNeg) - (1 : Int32)) S12 e16) (va_cwS 3 hts (lw_S q1329 q1330 q90 q1331) rfl rfl rfl (by decide +kernel) ⟨Nat.le_of_ble_eq_true rfl, Nat.le_of_ble_eq_true rfl⟩) (gPreS mKst hK hA hS hP) rfl rfl hl.1 rfl (lv_room (Nat.le_of_ble_eq_true rfl)) dX4_put_22 ⟨Nat.zero_le _, Nat.zero_le _⟩) hS (fun H locs hP hS => ?_)
    refine lv_if_ne (tgt := 33) hx hb dX4_put_25 (by decide) (fun c19 => ?_) (fun c19 => ?_)
    · have h := ite_f c19 h
      exact B33 x1 x2 x3 v13 S17 _ _ _ hP hS (lv_sub hl [1, 2, 3, 4, 0] rfl) h
    · have h := ite_t c19 h
      refine lv_ldc (v := (-1000000001 : Int32)) hx hb hown (hts _ q1336) dX4_put_28 ?_
      refine lv_goto (tgt := 35) hx hb dX4_put_30 (by decide) ?_
      exact B35 x1 x2 x3 (-1000000001 : Int32) S17 _ _ _ hP hS (lv_sub hl [1, 2, 3, 4] rfl) h

def fX4_restore (S : MS) : Option (Int32 × MS) :=
(if (mIF S 3) = 0 then
bnd (fX4_error (-1000000002 : Int32) S) fun v6 S5 =>
some (v6, S5)
else
bn1 (fX4_copyAll_1_0  S) fun S3 =>
some ((mIA S3 0 ((0 : Int32)).toNatClampNeg), S3))
set_option maxHeartbeats 4000000 in
set_option maxRecDepth 100000 in
theorem mX4_restore {l : Launch} {D : va_G} {cA : Nat → ClassId} {o : Nat → Nat} {A : Nat → Prop} (S : MS) {out : (Int32 × MS)} (h : fX4_restore  S = some out) : Met l yX4_restore (ws_ yX4_restore cX4_restore 1 (some .int)) ({ frames := 1, cells := 0, slots := 0, locals := 22 } : Room) (gPc (mK D cA) (mP D cA o A) A [.ref (o 24)] S) (gQi (mK D cA) (mP D cA o A) A out) 0 0 A := by
  refine gMet_z (by decide) (Nat.le_of_ble_eq_true rfl) ?_ mKst
  intro p e s m below meth c Q ls args H locs hC hP hS hl ret
  obtain ⟨hx, hb, hml, hown, hts, hA, hK⟩ := hC
  have hown : s.vm.findClass RX4 = some m.cls := hown
  have hl : lv_has ls 1 [(0, .ref (o 24))] := hl
  unfold fX4_restore at h
  refine lv_aload_n hx hb dX4_restore_0 rfl (lv_at hl 0 rfl) ?_
  refine va_get (D := D) (ci := 4) (v := .int (mIF S 3)) (C := RX4) (T := TX4) (N := 24) hx hb hts in_X4 hown hK hP.1 0 rfl rfl 3 (by decide) (hts _ q1252) (fun _ h9 => h9) rfl dX4_restore_1 ?_
  refine lv_if_ne (tgt := 14) hx hb dX4_restore_4 (by decide) (fun c1 => ?_) (fun c1 => ?_)
  · have h := ite_f c1 h
    refine lv_aload_n hx hb dX4_restore_14 rfl (lv_at hl 0 rfl) ?_
    refine va_get (D := D) (ci := 4) (v := .ref (o 1)) (C := RX4) (T := TX4) (N := 24) hx hb hts in_X4 hown hK hP.1 0 rfl rfl 1 (by decide) (hts _ q1250) (fun _ h9 => h9) rfl dX4_restore_15 ?_
    refine lv_aload_n hx hb dX4_restore_18 rfl (lv_at hl 0 rfl) ?_
    refine va_get (D := D) (ci := 4) (v := .ref (o 0)) (C := RX4) (T := TX4) (N := 24) hx hb hts in_X4 hown hK hP.1 0 rfl rfl 0 (by decide) (hts _ q1249) (fun _ h9 => h9) rfl dX4_restore_19 ?_
    obtain ⟨S3, e2, h⟩ := bn1_some h
    refine gc0_v (va_runS (As := [.ref (o 1), .ref (o 0)]) (rest := []) ⟨hx, hb, hml, hown, hts⟩ (mX4_copyAll_1_0 (l := l) (D := D) (cA := cA) (o := o) (A := A)  S e2) (va_cwS 2 hts (lw_S q1602 q1603 q90 q1604) rfl rfl rfl (by decide +kernel) ⟨Nat.le_of_ble_eq_true rfl, Nat.le_of_ble_eq_true rfl⟩) (gPreS mKst hK hA hS hP) rfl rfl hl.1 rfl (lv_room (Nat.le_of_ble_eq_true rfl)) dX4_restore_22 ⟨Nat.zero_le _, Nat.zero_le _⟩) hS (fun H locs hP hS => ?_)
    refine lv_aload_n hx hb dX4_restore_25 rfl (lv_at hl 0 rfl) ?_
    refine va_get (D := D) (ci := 4) (v := .ref (o 0)) (C := RX4) (T := TX4) (N := 24) hx hb hts in_X4 hown hK hP.1 0 rfl rfl 0 (by decide) (hts _ q1249) (fun _ h9 => h9) rfl dX4_restore_26 ?_
    refine lv_iconst (v := (0 : Int32)) hx hb dX4_restore_29 (by decide) ?_
    refine va_iald hx hb hK hP.1 1 0 rfl rfl (inB_in (by decide)) dX4_restore_30 ?_
    exact ret _ _ _ _ _ _ dX4_restore_31 rfl hP hS h
  · have h := ite_t c1 h
    refine lv_aload_n hx hb dX4_restore_7 rfl (lv_at hl 0 rfl) ?_
    refine lv_ldc (v := (-1000000002 : Int32)) hx hb hown (hts _ q1613) dX4_restore_8 ?_
    obtain ⟨v6, S5, e4, h⟩ := bnd_some h
    refine gc0_i (va_runV (As := [.int (-1000000002 : Int32)]) (rest := []) ⟨hx, hb, hml, hown, hts⟩ (mX4_error (l := l) (D := D) (cA := cA) (o := o) (A := A) (-1000000002 : Int32) S e4) (cwV 1 hts (lw_V q1337 q1339 qs30 q90 q1340) rfl rfl rfl (by decide +kernel) ⟨Nat.le_of_ble_eq_true rfl, Nat.le_of_ble_eq_true rfl⟩) (gPreV mKst hK hA hS hP (mRecv hK hP)) rfl rfl hl.1 rfl (lv_room (Nat.le_of_ble_eq_true rfl)) dX4_restore_10 ⟨Nat.zero_le _, Nat.zero_le _⟩) hS (fun H locs hP hS => ?_)
    exact ret _ _ _ _ _ _ dX4_restore_13 rfl hP hS h

def bX4_round_26 (t0 : Int32) (S : MS) : Option (Int32 × MS) :=
some (t0, S)
def fX4_round (x1 : Int32) (S : MS) : Option (Int32 × MS) :=
bnd (fX4_in x1 (0 : Int32) (9999 : Int32) S) fun v3 S2 =>
(if v3 = 0 then
bnd (fX4_error (-1000000001 : Int32) S2) fun v7 S6 =>
bX4_round_26 v7 S6
else
bnd (fX4_becomes (0 : Int32) x1 S2) fun v10 S9 =>
bX4_round_26 v10 S9)
set_option maxHeartbeats 4000000 in
set_option maxRecDepth 100000 in
theorem mX4_round {l : Launch} {D : va_G} {cA : Nat → ClassId} {o : Nat → Nat} {A : Nat → Prop} (x1 : Int32) (S : MS) {out : (Int32 × MS)} (h : fX4_round x1 S = some out) : Met l yX4_round (ws_ yX4_round cX4_round 2 (some .int)) ({ frames := 1, cells := 0, slots := 0, locals := 23 } : Room) (gPc (mK D cA) (mP D cA o A) A [.ref (o 24), .int x1] S) (gQi (mK D cA) (mP D cA o A) A out) 0 0 A := by
  refine gMet_z (by decide) (Nat.le_of_ble_eq_true rfl) ?_ mKst
  intro p e s m below meth c Q ls args H locs hC hP hS hl ret
  obtain ⟨hx, hb, hml, hown, hts, hA, hK⟩ := hC
  have hown : s.vm.findClass RX4 = some m.cls := hown
  have hl : lv_has ls 2 [(0, .ref (o 24)), (1, .int x1)] := hl
  have B26 : ∀ (t0 : Int32) (S : MS) (H : Heap) (locs : List Loc) (ls : Array Slot), mP D cA o A S H → va_S A s.heap H locs → lv_has ls 2 [(0, .ref (o 24))] → bX4_round_26  t0 S = some out → W p l e ({ frames := 1, cells := 0, slots := 0, locals := 23 } : Room) s m args below meth c H locs 0 0 Q (F0 m 26 ls [.int t0]) := by
    intro t0 S H locs ls hP hS hl h
    unfold bX4_round_26 at h
    exact ret _ _ _ _ _ _ dX4_round_26 rfl hP hS h
  unfold fX4_round at h
  refine lv_iload_n hx hb dX4_round_0 rfl (lv_at hl 1 rfl) ?_
  refine lv_iconst (v := (0 : Int32)) hx hb dX4_round_1 (by decide) ?_
  refine lv_sipush (v := (9999 : Int32)) hx hb dX4_round_2 (by decide) ?_
  obtain ⟨v3, S2, e1, h⟩ := bnd_some h
  refine gc0_i (va_runS (As := [.int x1, .int (0 : Int32), .int (9999 : Int32)]) (rest := []) ⟨hx, hb, hml, hown, hts⟩ (mX4_in (l := l) (D := D) (cA := cA) (o := o) (A := A) x1 (0 : Int32) (9999 : Int32) S e1) (va_cwS 3 hts (lw_S q1329 q1330 q90 q1331) rfl rfl rfl (by decide +kernel) ⟨Nat.le_of_ble_eq_true rfl, Nat.le_of_ble_eq_true rfl⟩) (gPreS mKst hK hA hS hP) rfl rfl hl.1 rfl (lv_room (Nat.le_of_ble_eq_true rfl)) dX4_round_5 ⟨Nat.zero_le _, Nat.zero_le _⟩) hS (fun H locs hP hS => ?_)
  refine lv_if_eq (tgt := 20) hx hb dX4_round_8 (by decide) (fun c4 => ?_) (fun c4 => ?_)
  · have h := ite_t c4 h
    refine lv_aload_n hx hb dX4_round_20 rfl (lv_at hl 0 rfl) ?_
    refine lv_ldc (v := (-1000000001 : Int32)) hx hb hown (hts _ q1336) dX4_round_21 ?_
    obtain ⟨v7, S6, e5, h⟩ := bnd_some h
    refine gc0_i (va_runV (As := [.int (-1000000001 : Int32)]) (rest := []) ⟨hx, hb, hml, hown, hts⟩ (mX4_error (l := l) (D := D) (cA := cA) (o := o) (A := A) (-1000000001 : Int32) S2 e5) (cwV 1 hts (lw_V q1337 q1339 qs30 q90 q1340) rfl rfl rfl (by decide +kernel) ⟨Nat.le_of_ble_eq_true rfl, Nat.le_of_ble_eq_true rfl⟩) (gPreV mKst hK hA hS hP (mRecv hK hP)) rfl rfl hl.1 rfl (lv_room (Nat.le_of_ble_eq_true rfl)) dX4_round_23 ⟨Nat.zero_le _, Nat.zero_le _⟩) hS (fun H locs hP hS => ?_)
    exact B26 v7 S6 _ _ _ hP hS (lv_sub hl [0] rfl) h
  · have h := ite_f c4 h
    refine lv_aload_n hx hb dX4_round_11 rfl (lv_at hl 0 rfl) ?_
    refine lv_iconst (v := (0 : Int32)) hx hb dX4_round_12 (by decide) ?_
    refine lv_iload_n hx hb dX4_round_13 rfl (lv_at hl 1 rfl) ?_
    obtain ⟨v10, S9, e8, h⟩ := bnd_some h
    refine gc0_i (va_runV (As := [.int (0 : Int32), .int x1]) (rest := []) ⟨hx, hb, hml, hown, hts⟩ (mX4_becomes (l := l) (D := D) (cA := cA) (o := o) (A := A) (0 : Int32) x1 S2 e8) (cwV 2 hts (lw_V q1397 q1399 qs41 q90 q1400) rfl rfl rfl (by decide +kernel) ⟨Nat.le_of_ble_eq_true rfl, Nat.le_of_ble_eq_true rfl⟩) (gPreV mKst hK hA hS hP (mRecv hK hP)) rfl rfl hl.1 rfl (lv_room (Nat.le_of_ble_eq_true rfl)) dX4_round_14 ⟨Nat.zero_le _, Nat.zero_le _⟩) hS (fun H locs hP hS => ?_)
    refine lv_goto (tgt := 26) hx hb dX4_round_17 (by decide) ?_
    exact B26 v10 S9 _ _ _ hP hS (lv_sub hl [0] rfl) h

def fX4_rounds (x1 : Int32) (S : MS) : Option (Int32 × MS) :=
bnd (fX4_in x1 (1 : Int32) (60 : Int32) S) fun v3 S2 =>
(if v3 = 0 then
bnd (fX4_error (-1000000001 : Int32) S2) fun v19 S18 =>
some (v19, S18)
else
(if ((mIA S2 0 ((0 : Int32)).toNatClampNeg) + x1) ≤ (9999 : Int32) then
bn1 (fX4_goesFor x1 S2) fun S7 =>
bnd (fX4_onOnes  S7) fun v10 S9 =>
bnd (fX4_bits v10 S9) fun v13 S12 =>
some (v13, S12)
else
bnd (fX4_error (-1000000003 : Int32) S2) fun v16 S15 =>
some (v16, S15)))
set_option maxHeartbeats 4000000 in
set_option maxRecDepth 100000 in
theorem mX4_rounds {l : Launch} {D : va_G} {cA : Nat → ClassId} {o : Nat → Nat} {A : Nat → Prop} (x1 : Int32) (S : MS) {out : (Int32 × MS)} (h : fX4_rounds x1 S = some out) : Met l yX4_rounds (ws_ yX4_rounds cX4_rounds 2 (some .int)) ({ frames := 12, cells := 0, slots := 0, locals := 343 } : Room) (gPc (mK D cA) (mP D cA o A) A [.ref (o 24), .int x1] S) (gQi (mK D cA) (mP D cA o A) A out) 0 0 A := by
  refine gMet_z (by decide) (Nat.le_of_ble_eq_true rfl) ?_ mKst
  intro p e s m below meth c Q ls args H locs hC hP hS hl ret
  obtain ⟨hx, hb, hml, hown, hts, hA, hK⟩ := hC
  have hown : s.vm.findClass RX4 = some m.cls := hown
  have hl : lv_has ls 2 [(0, .ref (o 24)), (1, .int x1)] := hl
  unfold fX4_rounds at h
  refine lv_iload_n hx hb dX4_rounds_0 rfl (lv_at hl 1 rfl) ?_
  refine lv_iconst (v := (1 : Int32)) hx hb dX4_rounds_1 (by decide) ?_
  refine lv_bipush (v := (60 : Int32)) hx hb dX4_rounds_2 (by decide) ?_
  obtain ⟨v3, S2, e1, h⟩ := bnd_some h
  refine gc0_i (va_runS (As := [.int x1, .int (1 : Int32), .int (60 : Int32)]) (rest := []) ⟨hx, hb, hml, hown, hts⟩ (mX4_in (l := l) (D := D) (cA := cA) (o := o) (A := A) x1 (1 : Int32) (60 : Int32) S e1) (va_cwS 3 hts (lw_S q1329 q1330 q90 q1331) rfl rfl rfl (by decide +kernel) ⟨Nat.le_of_ble_eq_true rfl, Nat.le_of_ble_eq_true rfl⟩) (gPreS mKst hK hA hS hP) rfl rfl hl.1 rfl (lv_room (Nat.le_of_ble_eq_true rfl)) dX4_rounds_4 ⟨Nat.zero_le _, Nat.zero_le _⟩) hS (fun H locs hP hS => ?_)
  refine lv_if_ne (tgt := 17) hx hb dX4_rounds_7 (by decide) (fun c4 => ?_) (fun c4 => ?_)
  · have h := ite_f c4 h
    refine lv_aload_n hx hb dX4_rounds_17 rfl (lv_at hl 0 rfl) ?_
    refine va_get (D := D) (ci := 4) (v := .ref (o 0)) (C := RX4) (T := TX4) (N := 24) hx hb hts in_X4 hown hK hP.1 0 rfl rfl 0 (by decide) (hts _ q1249) (fun _ h9 => h9) rfl dX4_rounds_18 ?_
    refine lv_iconst (v := (0 : Int32)) hx hb dX4_rounds_21 (by decide) ?_
    refine va_iald hx hb hK hP.1 1 0 rfl rfl (inB_in (by decide)) dX4_rounds_22 ?_
    refine lv_iload_n hx hb dX4_rounds_23 rfl (lv_at hl 1 rfl) ?_
    refine lv_iadd hx hb dX4_rounds_24 ?_
    refine lv_sipush (v := (9999 : Int32)) hx hb dX4_rounds_25 (by decide) ?_
    refine lv_icmp_le (tgt := 38) hx hb dX4_rounds_28 (by decide) (fun c5 => ?_) (fun c5 => ?_)
    · have h := ite_t c5 h
      refine lv_aload_n hx hb dX4_rounds_38 rfl (lv_at hl 0 rfl) ?_
      refine lv_iload_n hx hb dX4_rounds_39 rfl (lv_at hl 1 rfl) ?_
      obtain ⟨S7, e6, h⟩ := bn1_some h
      refine gc0_v (va_runV (As := [.int x1]) (rest := []) ⟨hx, hb, hml, hown, hts⟩ (mX4_goesFor (l := l) (D := D) (cA := cA) (o := o) (A := A) x1 S2 e6) (cwV 1 hts (lw_V q1488 q1490 qs53 q90 q1491) rfl rfl rfl (by decide +kernel) ⟨Nat.le_of_ble_eq_true rfl, Nat.le_of_ble_eq_true rfl⟩) (gPreV mKst hK hA hS hP (mRecv hK hP)) rfl rfl hl.1 rfl (lv_room (Nat.le_of_ble_eq_true rfl)) dX4_rounds_40 ⟨Nat.zero_le _, Nat.zero_le _⟩) hS (fun H locs hP hS => ?_)
      refine lv_aload_n hx hb dX4_rounds_43 rfl (lv_at hl 0 rfl) ?_
      obtain ⟨v10, S9, e8, h⟩ := bnd_some h
      refine gc0_i (va_runV (As := []) (rest := []) ⟨hx, hb, hml, hown, hts⟩ (mX4_onOnes (l := l) (D := D) (cA := cA) (o := o) (A := A)  S7 e8) (cwV 0 hts (lw_V q1500 q1502 qs56 q90 q1503) rfl rfl rfl (by decide +kernel) ⟨Nat.le_of_ble_eq_true rfl, Nat.le_of_ble_eq_true rfl⟩) (gPreV mKst hK hA hS hP (mRecv hK hP)) rfl rfl hl.1 rfl (lv_room (Nat.le_of_ble_eq_true rfl)) dX4_rounds_44 ⟨Nat.zero_le _, Nat.zero_le _⟩) hS (fun H locs hP hS => ?_)
      obtain ⟨v13, S12, e11, h⟩ := bnd_some h
      refine gc0_i (va_runS (As := [.int v10]) (rest := []) ⟨hx, hb, hml, hown, hts⟩ (mX4_bits (l := l) (D := D) (cA := cA) (o := o) (A := A) v10 S9 e11) (va_cwS 1 hts (lw_S q1532 q1533 q90 q1534) rfl rfl rfl (by decide +kernel) ⟨Nat.le_of_ble_eq_true rfl, Nat.le_of_ble_eq_true rfl⟩) (gPreS mKst hK hA hS hP) rfl rfl hl.1 rfl (lv_room (Nat.le_of_ble_eq_true rfl)) dX4_rounds_47 ⟨Nat.zero_le _, Nat.zero_le _⟩) hS (fun H locs hP hS => ?_)
      exact ret _ _ _ _ _ _ dX4_rounds_50 rfl hP hS h
    · have h := ite_f c5 h
      refine lv_aload_n hx hb dX4_rounds_31 rfl (lv_at hl 0 rfl) ?_
      refine lv_ldc (v := (-1000000003 : Int32)) hx hb hown (hts _ q1418) dX4_rounds_32 ?_
      obtain ⟨v16, S15, e14, h⟩ := bnd_some h
      refine gc0_i (va_runV (As := [.int (-1000000003 : Int32)]) (rest := []) ⟨hx, hb, hml, hown, hts⟩ (mX4_error (l := l) (D := D) (cA := cA) (o := o) (A := A) (-1000000003 : Int32) S2 e14) (cwV 1 hts (lw_V q1337 q1339 qs30 q90 q1340) rfl rfl rfl (by decide +kernel) ⟨Nat.le_of_ble_eq_true rfl, Nat.le_of_ble_eq_true rfl⟩) (gPreV mKst hK hA hS hP (mRecv hK hP)) rfl rfl hl.1 rfl (lv_room (Nat.le_of_ble_eq_true rfl)) dX4_rounds_34 ⟨Nat.zero_le _, Nat.zero_le _⟩) hS (fun H locs hP hS => ?_)
      exact ret _ _ _ _ _ _ dX4_rounds_37 rfl hP hS h
  · have h := ite_t c4 h
    refine lv_aload_n hx hb dX4_rounds_10 rfl (lv_at hl 0 rfl) ?_
    refine lv_ldc (v := (-1000000001 : Int32)) hx hb hown (hts _ q1336) dX4_rounds_11 ?_
    obtain ⟨v19, S18, e17, h⟩ := bnd_some h
    refine gc0_i (va_runV (As := [.int (-1000000001 : Int32)]) (rest := []) ⟨hx, hb, hml, hown, hts⟩ (mX4_error (l := l) (D := D) (cA := cA) (o := o) (A := A) (-1000000001 : Int32) S2 e17) (cwV 1 hts (lw_V q1337 q1339 qs30 q90 q1340) rfl rfl rfl (by decide +kernel) ⟨Nat.le_of_ble_eq_true rfl, Nat.le_of_ble_eq_true rfl⟩) (gPreV mKst hK hA hS hP (mRecv hK hP)) rfl rfl hl.1 rfl (lv_room (Nat.le_of_ble_eq_true rfl)) dX4_rounds_13 ⟨Nat.zero_le _, Nat.zero_le _⟩) hS (fun H locs hP hS => ?_)
    exact ret _ _ _ _ _ _ dX4_rounds_16 rfl hP hS h

def fX4_seed (x1 : Int32) (S : MS) : Option (Int32 × MS) :=
bnd (fX4_becomes (1 : Int32) x1 S) fun v3 S2 =>
some (v3, S2)
set_option maxHeartbeats 4000000 in
set_option maxRecDepth 100000 in
theorem mX4_seed {l : Launch} {D : va_G} {cA : Nat → ClassId} {o : Nat → Nat} {A : Nat → Prop} (x1 : Int32) (S : MS) {out : (Int32 × MS)} (h : fX4_seed x1 S = some out) : Met l yX4_seed (ws_ yX4_seed cX4_seed 2 (some .int)) ({ frames := 1, cells := 0, slots := 0, locals := 23 } : Room) (gPc (mK D cA) (mP D cA o A) A [.ref (o 24), .int x1] S) (gQi (mK D cA) (mP D cA o A) A out) 0 0 A := by
  refine gMet_z (by decide) (Nat.le_of_ble_eq_true rfl) ?_ mKst
  intro p e s m below meth c Q ls args H locs hC hP hS hl ret
  obtain ⟨hx, hb, hml, hown, hts, hA, hK⟩ := hC
  have hown : s.vm.findClass RX4 = some m.cls := hown
  have hl : lv_has ls 2 [(0, .ref (o 24)), (1, .int x1)] := hl
  unfold fX4_seed at h
  refine lv_aload_n hx hb dX4_seed_0 rfl (lv_at hl 0 rfl) ?_
  refine lv_iconst (v := (1 : Int32)) hx hb dX4_seed_1 (by decide) ?_
  refine lv_iload_n hx hb dX4_seed_2 rfl (lv_at hl 1 rfl) ?_
  obtain ⟨v3, S2, e1, h⟩ := bnd_some h
  refine gc0_i (va_runV (As := [.int (1 : Int32), .int x1]) (rest := []) ⟨hx, hb, hml, hown, hts⟩ (mX4_becomes (l := l) (D := D) (cA := cA) (o := o) (A := A) (1 : Int32) x1 S e1) (cwV 2 hts (lw_V q1397 q1399 qs41 q90 q1400) rfl rfl rfl (by decide +kernel) ⟨Nat.le_of_ble_eq_true rfl, Nat.le_of_ble_eq_true rfl⟩) (gPreV mKst hK hA hS hP (mRecv hK hP)) rfl rfl hl.1 rfl (lv_room (Nat.le_of_ble_eq_true rfl)) dX4_seed_3 ⟨Nat.zero_le _, Nat.zero_le _⟩) hS (fun H locs hP hS => ?_)
  exact ret _ _ _ _ _ _ dX4_seed_6 rfl hP hS h

def bX4_sheet_29 (S : MS) : Option (Int32 × MS) :=
bnd (fX4_error (-1000000001 : Int32) S) fun v3 S2 =>
some (v3, S2)
def bX4_sheet_93 (k93 : Int32 → Int32 → MS → Option (Int32 × MS)) (x1 : Int32) (x4 : Int32) (S : MS) : Option (Int32 × MS) :=
(if (24 : Int32) ≤ x4 then
some ((1 : Int32), S)
else
chk (inB (((24 : Int32) * x1) + x4) 96) (nm (sIA S 7 (upd (mIA S 7) ((((24 : Int32) * x1) + x4)).toNatClampNeg (0 : Int32))) fun S6 =>
nm (x4 + (1 : Int32)) fun y7 =>
k93 x1 y7 S6))
def lX4_sheet_93 : Nat → (Int32 → Int32 → MS → Option (Int32 × MS))
  | 0 => fun _ _ _ => none
  | n + 1 => bX4_sheet_93 (lX4_sheet_93 n)
def bX4_sheet_89 (x1 : Int32) (t1 : Int32) (t2 : Int32) (S : MS) : Option (Int32 × MS) :=
chk (inB t1 4) (nm (sIA S 6 (upd (mIA S 6) (t1).toNatClampNeg t2)) fun S9 =>
lX4_sheet_93 FU x1 (0 : Int32) S9)
def bX4_sheet_68 (x1 : Int32) (x2 : Int32) (x3 : Int32) (S : MS) : Option (Int32 × MS) :=
chk (inB x1 4) (nm (sIA S 5 (upd (mIA S 5) (x1).toNatClampNeg x2)) fun S11 =>
(if x2 = 0 then
bX4_sheet_89 x1 x1 (0 : Int32) S11
else
bX4_sheet_89 x1 x1 x3 S11))
def bX4_sheet_51 (x1 : Int32) (x2 : Int32) (x3 : Int32) (S : MS) : Option (Int32 × MS) :=
(if x2 ≤ 0 then
bX4_sheet_68 x1 x2 x3 S
else
(if x3 ≤ (24 : Int32) then
bX4_sheet_68 x1 x2 x3 S
else
bnd (fX4_error (-1000000001 : Int32) S) fun v17 S16 =>
some (v17, S16)))
def bX4_sheet_36 (x1 : Int32) (x2 : Int32) (x3 : Int32) (S : MS) : Option (Int32 × MS) :=
(if x2 ≤ 0 then
bX4_sheet_51 x1 x2 x3 S
else
(if 0 ≤ x3 then
bX4_sheet_51 x1 x2 x3 S
else
bnd (fX4_error (-1000000003 : Int32) S) fun v22 S21 =>
some (v22, S21)))
def fX4_sheet (x1 : Int32) (x2 : Int32) (x3 : Int32) (S : MS) : Option (Int32 × MS) :=
bnd (fX4_isSheet x1 S) fun v25 S24 =>
(if v25 = 0 then
bX4_sheet_29 S24
else
(if x2 = 0 then
bX4_sheet_36 x1 x2 x3 S24
else
(if x2 = (8 : Int32) then
bX4_sheet_36 x1 x2 x3 S24
else
(if x2 = (16 : Int32) then
bX4_sheet_36 x1 x2 x3 S24
else
(if x2 = (32 : Int32) then
bX4_sheet_36 x1 x2 x3 S24
else
bX4_sheet_29 S24)))))
set_option maxHeartbeats 4000000 in
set_option maxRecDepth 100000 in
theorem mX4_sheet {l : Launch} {D : va_G} {cA : Nat → ClassId} {o : Nat → Nat} {A : Nat → Prop} (x1 : Int32) (x2 : Int32) (x3 : Int32) (S : MS) {out : (Int32 × MS)} (h : fX4_sheet x1 x2 x3 S = some out) : Met l yX4_sheet (ws_ yX4_sheet cX4_sheet 5 (some .int)) ({ frames := 2, cells := 0, slots := 0, locals := 42 } : Room) (gPc (mK D cA) (mP D cA o A) A [.ref (o 24), .int x1, .int x2, .int x3] S) (gQi (mK D cA) (mP D cA o A) A out) 0 0 A := by
  refine gMet_z (by decide) (Nat.le_of_ble_eq_true rfl) ?_ mKst
  intro p e s m below meth c Q ls args H locs hC hP hS hl ret
  obtain ⟨hx, hb, hml, hown, hts, hA, hK⟩ := hC
  have hown : s.vm.findClass RX4 = some m.cls := hown
  have hl : lv_has ls 5 [(0, .ref (o 24)), (1, .int x1), (2, .int x2), (3, .int x3)] := hl
  have B29 : ∀  (S : MS) (H : Heap) (locs : List Loc) (ls : Array Slot), mP D cA o A S H → va_S A s.heap H locs → lv_has ls 5 [(0, .ref (o 24))] → bX4_sheet_29   S = some out → W p l e ({ frames := 2, cells := 0, slots := 0, locals := 42 } : Room) s m args below meth c H locs 0 0 Q (F0 m 29 ls []) := by
    intro  S H locs ls hP hS hl h
    unfold bX4_sheet_29 at h
    refine lv_aload_n hx hb dX4_sheet_29 rfl (lv_at hl 0 rfl) ?_
    refine lv_ldc (v := (-1000000001 : Int32)) hx hb hown (hts _ q1336) dX4_sheet_30 ?_
    obtain ⟨v3, S2, e1, h⟩ := bnd_some h
    refine gc0_i (va_runV (As := [.int (-1000000001 : Int32)]) (rest := []) ⟨hx, hb, hml, hown, hts⟩ (mX4_error (l := l) (D := D) (cA := cA) (o := o) (A := A) (-1000000001 : Int32) S e1) (cwV 1 hts (lw_V q1337 q1339 qs30 q90 q1340) rfl rfl rfl (by decide +kernel) ⟨Nat.le_of_ble_eq_true rfl, Nat.le_of_ble_eq_true rfl⟩) (gPreV mKst hK hA hS hP (mRecv hK hP)) rfl rfl hl.1 rfl (lv_room (Nat.le_of_ble_eq_true rfl)) dX4_sheet_32 ⟨Nat.zero_le _, Nat.zero_le _⟩) hS (fun H locs hP hS => ?_)
    exact ret _ _ _ _ _ _ dX4_sheet_35 rfl hP hS h
  have L93 : ∀ (n93 : Nat) (x1 : Int32) (x4 : Int32) (S : MS) (H : Heap) (locs : List Loc) (ls : Array Slot), mP D cA o A S H → va_S A s.heap H locs → lv_has ls 5 [(0, .ref (o 24)), (1, .int x1), (4, .int x4)] → lX4_sheet_93 n93 x1 x4 S = some out → W p l e ({ frames := 2, cells := 0, slots := 0, locals := 42 } : Room) s m args below meth c H locs 0 0 Q (F0 m 93 ls []) := by
    intro n93
    induction n93 with
    | zero =>
      intro x1 x4 S H locs ls hP hS hl h
      cases h
    | succ n93 ih93 =>
      intro x1 x4 S H locs ls hP hS hl h
      replace h : bX4_sheet_93 (lX4_sheet_93 n93) x1 x4 S = some out := h
      unfold bX4_sheet_93 at h
      refine lv_iload hx hb dX4_sheet_93 (lv_at hl 2 rfl) ?_
      refine lv_bipush (v := (24 : Int32)) hx hb dX4_sheet_95 (by decide) ?_
      refine lv_icmp_ge (tgt := 119) hx hb dX4_sheet_97 (by decide) (fun c4 => ?_) (fun c4 => ?_)
      · have h := ite_t c4 h
        refine lv_iconst (v := (1 : Int32)) hx hb dX4_sheet_119 (by decide) ?_
        exact ret _ _ _ _ _ _ dX4_sheet_120 rfl hP hS h
      · have h := ite_f c4 h
        refine lv_aload_n hx hb dX4_sheet_100 rfl (lv_at hl 0 rfl) ?_
        refine va_get (D := D) (ci := 4) (v := .ref (o 7)) (C := RX4) (T := TX4) (N := 24) hx hb hts in_X4 hown hK hP.1 0 rfl rfl 7 (by decide) (hts _ q1256) (fun _ h9 => h9) rfl dX4_sheet_101 ?_
        refine lv_bipush (v := (24 : Int32)) hx hb dX4_sheet_104 (by decide) ?_
        refine lv_iload_n hx hb dX4_sheet_106 rfl (lv_at hl 1 rfl) ?_
        refine lv_imul hx hb dX4_sheet_107 ?_
        refine lv_iload hx hb dX4_sheet_108 (lv_at hl 2 rfl) ?_
        refine lv_iadd hx hb dX4_sheet_110 ?_
        refine lv_iconst (v := (0 : Int32)) hx hb dX4_sheet_111 (by decide) ?_
        obtain ⟨g5, h⟩ := chk_some h
        refine va_iast hx hb hK hP.1 hP.2 hS 7 0 rfl rfl (inB_in g5) dX4_sheet_112 (fun H locs hP1 hD1 hS => ?_)
        obtain ⟨S6, eS6⟩ : ∃ y : MS, y = (sIA S 7 (upd (mIA S 7) ((((24 : Int32) * x1) + x4)).toNatClampNeg (0 : Int32))) := ⟨_, rfl⟩
        have hP : mP D cA o A S6 H := by rw [eS6]; exact ⟨hP1, hD1⟩
        have h := nm_at eS6 h
        obtain ⟨y7, ey7⟩ : ∃ y : Int32, y = x4 + (1 : Int32) := ⟨_, rfl⟩
        refine lv_iinc (v := y7) (lv' := [(4, .int y7), (0, .ref (o 24)), (1, .int x1)]) hx hb dX4_sheet_113 hl (k := 2) rfl (by rw [ey7]; rfl) (by decide) rfl (fun ls hl => ?_)
        have h := nm_at ey7 h
        refine lv_goto (tgt := 93) hx hb dX4_sheet_116 (by decide) ?_
        exact ih93 x1 y7 S6 _ _ _ hP hS (lv_sub hl [1, 2, 0] rfl) h
  have B89 : ∀ (x1 : Int32) (t1 : Int32) (t2 : Int32) (S : MS) (H : Heap) (locs : List Loc) (ls : Array Slot), mP D cA o A S H → va_S A s.heap H locs → lv_has ls 5 [(0, .ref (o 24)), (1, .int x1)] → bX4_sheet_89  x1 t1 t2 S = some out → W p l e ({ frames := 2, cells := 0, slots := 0, locals := 42 } : Room) s m args below meth c H locs 0 0 Q (F0 m 89 ls [.int t2, .int t1, .ref (o 6)]) := by
    intro x1 t1 t2 S H locs ls hP hS hl h
    unfold bX4_sheet_89 at h
    obtain ⟨g8, h⟩ := chk_some h
    refine va_iast hx hb hK hP.1 hP.2 hS 6 0 rfl rfl (inB_in g8) dX4_sheet_89 (fun H locs hP1 hD1 hS => ?_)
    obtain ⟨S9, eS9⟩ : ∃ y : MS, y = (sIA S 6 (upd (mIA S 6) (t1).toNatClampNeg t2)) := ⟨_, rfl⟩
    have hP : mP D cA o A S9 H := by rw [eS9]; exact ⟨hP1, hD1⟩
    have h := nm_at eS9 h
    refine lv_iconst (v := (0 : Int32)) hx hb dX4_sheet_90 (by decide) ?_
    refine lv_istore (lv' := [(4, .int (0 : Int32)), (0, .ref (o 24)), (1, .int x1)]) hx hb dX4_sheet_91 hl (by decide) rfl (fun ls hl => ?_)
    exact L93 FU x1 (0 : Int32) S9 _ _ _ hP hS (lv_sub hl [1, 2, 0] rfl) h
  have B68 : ∀ (x1 : Int32) (x2 : Int32) (x3 : Int32) (S : MS) (H : Heap) (locs : List Loc) (ls : Array Slot), mP D cA o A S H → va_S A s.heap H locs → lv_has ls 5 [(0, .ref (o 24)), (1, .int x1), (2, .int x2), (3, .int x3)] → bX4_sheet_68  x1 x2 x3 S = some out → W p l e ({ frames := 2, cells := 0, slots := 0, locals := 42 } : Room) s m args below meth c H locs 0 0 Q (F0 m 68 ls []) := by
    intro x1 x2 x3 S H locs ls hP hS hl h
    unfold bX4_sheet_68 at h
    refine lv_aload_n hx hb dX4_sheet_68 rfl (lv_at hl 0 rfl) ?_
    refine va_get (D := D) (ci := 4) (v := .ref (o 5)) (C := RX4) (T := TX4) (N := 24) hx hb hts in_X4 hown hK hP.1 0 rfl rfl 5 (by decide) (hts _ q1254) (fun _ h9 => h9) rfl dX4_sheet_69 ?_
    refine lv_iload_n hx hb dX4_sheet_72 rfl (lv_at hl 1 rfl) ?_
    refine lv_iload_n hx hb dX4_sheet_73 rfl (lv_at hl 2 rfl) ?_
    obtain ⟨g10, h⟩ := chk_some h
    refine va_iast hx hb hK hP.1 hP.2 hS 5 0 rfl rfl (inB_in g10) dX4_sheet_74 (fun H locs hP1 hD1 hS => ?_)
    obtain ⟨S11, eS11⟩ : ∃ y : MS, y = (sIA S 5 (upd (mIA S 5) (x1).toNatClampNeg x2)) := ⟨_, rfl⟩
    have hP : mP D cA o A S11 H := by rw [eS11]; exact ⟨hP1, hD1⟩
    have h := nm_at eS11 h
    refine lv_aload_n hx hb dX4_sheet_75 rfl (lv_at hl 0 rfl) ?_
    refine va_get (D := D) (ci := 4) (v := .ref (o 6)) (C := RX4) (T := TX4) (N := 24) hx hb hts in_X4 hown hK hP.1 0 rfl rfl 6 (by decide) (hts _ q1255) (fun _ h9 => h9) rfl dX4_sheet_76 ?_
    refine lv_iload_n hx hb dX4_sheet_79 rfl (lv_at hl 1 rfl) ?_
    refine lv_iload_n hx hb dX4_sheet_80 rfl (lv_at hl 2 rfl) ?_
    refine lv_if_ne (tgt := 88) hx hb dX4_sheet_81 (by decide) (fun c12 => ?_) (fun c12 => ?_)
    · have h := ite_f c12 h
      refine lv_iload_n hx hb dX4_sheet_88 rfl (lv_at hl 3 rfl) ?_
      exact B89 x1 x1 x3 S11 _ _ _ hP hS (lv_sub hl [0, 1] rfl) h
    · have h := ite_t c12 h
      refine lv_iconst (v := (0 : Int32)) hx hb dX4_sheet_84 (by decide) ?_
      refine lv_goto (tgt := 89) hx hb dX4_sheet_85 (by decide) ?_
      exact B89 x1 x1 (0 : Int32) S11 _ _ _ hP hS (lv_sub hl [0, 1] rfl) h
  have B51 : ∀ (x1 : Int32) (x2 : Int32) (x3 : Int32) (S : MS) (H : Heap) (locs : List Loc) (ls : Array Slot), mP D cA o A S H → va_S A s.heap H locs → lv_has ls 5 [(0, .ref (o 24)), (1, .int x1), (2, .int x2), (3, .int x3)] → bX4_sheet_51  x1 x2 x3 S = some out → W p l e ({ frames := 2, cells := 0, slots := 0, locals := 42 } : Room) s m args below meth c H locs 0 0 Q (F0 m 51 ls []) := by
    intro x1 x2 x3 S H locs ls hP hS hl h
    unfold bX4_sheet_51 at h
    refine lv_iload_n hx hb dX4_sheet_51 rfl (lv_at hl 2 rfl) ?_
    refine lv_if_le (tgt := 68) hx hb dX4_sheet_52 (by decide) (fun c13 => ?_) (fun c13 => ?_)
    · have h := ite_t c13 h
      exact B68 x1 x2 x3 S _ _ _ hP hS hl h
    · have h := ite_f c13 h
      refine lv_iload_n hx hb dX4_sheet_55 rfl (lv_at hl 3 rfl) ?_
      refine lv_bipush (v := (24 : Int32)) hx hb dX4_sheet_56 (by decide) ?_
      refine lv_icmp_le (tgt := 68) hx hb dX4_sheet_58 (by decide) (fun c14 => ?_) (fun c14 => ?_)
      · have h := ite_t c14 h
        exact B68 x1 x2 x3 S _ _ _ hP hS hl h
      · have h := ite_f c14 h
        refine lv_aload_n hx hb dX4_sheet_61 rfl (lv_at hl 0 rfl) ?_
        refine lv_ldc (v := (-1000000001 : Int32)) hx hb hown (hts _ q1336) dX4_sheet_62 ?_
        obtain ⟨v17, S16, e15, h⟩ := bnd_some h
        refine gc0_i (va_runV (As := [.int (-1000000001 : Int32)]) (rest := []) ⟨hx, hb, hml, hown, hts⟩ (mX4_error (l := l) (D := D) (cA := cA) (o := o) (A := A) (-1000000001 : Int32) S e15) (cwV 1 hts (lw_V q1337 q1339 qs30 q90 q1340) rfl rfl rfl (by decide +kernel) ⟨Nat.le_of_ble_eq_true rfl, Nat.le_of_ble_eq_true rfl⟩) (gPreV mKst hK hA hS hP (mRecv hK hP)) rfl rfl hl.1 rfl (lv_room (Nat.le_of_ble_eq_true rfl)) dX4_sheet_64 ⟨Nat.zero_le _, Nat.zero_le _⟩) hS (fun H locs hP hS => ?_)
        exact ret _ _ _ _ _ _ dX4_sheet_67 rfl hP hS h
  have B36 : ∀ (x1 : Int32) (x2 : Int32) (x3 : Int32) (S : MS) (H : Heap) (locs : List Loc) (ls : Array Slot), mP D cA o A S H → va_S A s.heap H locs → lv_has ls 5 [(0, .ref (o 24)), (1, .int x1), (2, .int x2), (3, .int x3)] → bX4_sheet_36  x1 x2 x3 S = some out → W p l e ({ frames := 2, cells := 0, slots := 0, locals := 42 } : Room) s m args below meth c H locs 0 0 Q (F0 m 36 ls []) := by
    intro x1 x2 x3 S H locs ls hP hS hl h
    unfold bX4_sheet_36 at h
    refine lv_iload_n hx hb dX4_sheet_36 rfl (lv_at hl 2 rfl) ?_
    refine lv_if_le (tgt := 51) hx hb dX4_sheet_37 (by decide) (fun c18 => ?_) (fun c18 => ?_)
    · have h := ite_t c18 h
      exact B51 x1 x2 x3 S _ _ _ hP hS hl h
    · have h := ite_f c18 h
      refine lv_iload_n hx hb dX4_sheet_40 rfl (lv_at hl 3 rfl) ?_
      refine lv_if_ge (tgt := 51) hx hb dX4_sheet_41 (by decide) (fun c19 => ?_) (fun c19 => ?_)
      · have h := ite_t c19 h
        exact B51 x1 x2 x3 S _ _ _ hP hS hl h
      · have h := ite_f c19 h
        refine lv_aload_n hx hb dX4_sheet_44 rfl (lv_at hl 0 rfl) ?_
        refine lv_ldc (v := (-1000000003 : Int32)) hx hb hown (hts _ q1418) dX4_sheet_45 ?_
        obtain ⟨v22, S21, e20, h⟩ := bnd_some h
        refine gc0_i (va_runV (As := [.int (-1000000003 : Int32)]) (rest := []) ⟨hx, hb, hml, hown, hts⟩ (mX4_error (l := l) (D := D) (cA := cA) (o := o) (A := A) (-1000000003 : Int32) S e20) (cwV 1 hts (lw_V q1337 q1339 qs30 q90 q1340) rfl rfl rfl (by decide +kernel) ⟨Nat.le_of_ble_eq_true rfl, Nat.le_of_ble_eq_true rfl⟩) (gPreV mKst hK hA hS hP (mRecv hK hP)) rfl rfl hl.1 rfl (lv_room (Nat.le_of_ble_eq_true rfl)) dX4_sheet_47 ⟨Nat.zero_le _, Nat.zero_le _⟩) hS (fun H locs hP hS => ?_)
        exact ret _ _ _ _ _ _ dX4_sheet_50 rfl hP hS h
  unfold fX4_sheet at h
  refine lv_iload_n hx hb dX4_sheet_0 rfl (lv_at hl 1 rfl) ?_
  obtain ⟨v25, S24, e23, h⟩ := bnd_some h
  refine gc0_i (va_runS (As := [.int x1]) (rest := []) ⟨hx, hb, hml, hown, hts⟩ (mX4_isSheet (l := l) (D := D) (cA := cA) (o := o) (A := A) x1 S e23) (va_cwS 1 hts (lw_S q1636 q1637 q90 q1638) rfl rfl rfl (by decide +kernel) ⟨Nat.le_of_ble_eq_true rfl, Nat.le_of_ble_eq_true rfl⟩) (gPreS mKst hK hA hS hP) rfl rfl hl.1 rfl (lv_room (Nat.le_of_ble_eq_true rfl)) dX4_sheet_1 ⟨Nat.zero_le _, Nat.zero_le _⟩) hS (fun H locs hP hS => ?_)
  refine lv_if_eq (tgt := 29) hx hb dX4_sheet_4 (by decide) (fun c26 => ?_) (fun c26 => ?_)
  · have h := ite_t c26 h
    exact B29 S24 _ _ _ hP hS (lv_sub hl [0] rfl) h
  · have h := ite_f c26 h
    refine lv_iload_n hx hb dX4_sheet_7 rfl (lv_at hl 2 rfl) ?_
    refine lv_if_eq (tgt := 36) hx hb dX4_sheet_8 (by decide) (fun c27 => ?_) (fun c27 => ?_)
    · have h := ite_t c27 h
      exact B36 x1 x2 x3 S24 _ _ _ hP hS hl h
    · have h := ite_f c27 h
      refine lv_iload_n hx hb dX4_sheet_11 rfl (lv_at hl 2 rfl) ?_
      refine lv_bipush (v := (8 : Int32)) hx hb dX4_sheet_12 (by decide) ?_
      refine lv_icmp_eq (tgt := 36) hx hb dX4_sheet_14 (by decide) (fun c28 => ?_) (fun c28 => ?_)
      · have h := ite_t c28 h
        exact B36 x1 x2 x3 S24 _ _ _ hP hS hl h
      · have h := ite_f c28 h
        refine lv_iload_n hx hb dX4_sheet_17 rfl (lv_at hl 2 rfl) ?_
        refine lv_bipush (v := (16 : Int32)) hx hb dX4_sheet_18 (by decide) ?_
        refine lv_icmp_eq (tgt := 36) hx hb dX4_sheet_20 (by decide) (fun c29 => ?_) (fun c29 => ?_)
        · have h := ite_t c29 h
          exact B36 x1 x2 x3 S24 _ _ _ hP hS hl h
        · have h := ite_f c29 h
          refine lv_iload_n hx hb dX4_sheet_23 rfl (lv_at hl 2 rfl) ?_
          refine lv_bipush (v := (32 : Int32)) hx hb dX4_sheet_24 (by decide) ?_
          refine lv_icmp_eq (tgt := 36) hx hb dX4_sheet_26 (by decide) (fun c30 => ?_) (fun c30 => ?_)
          · have h := ite_t c30 h
            exact B36 x1 x2 x3 S24 _ _ _ hP hS hl h
          · have h := ite_f c30 h
            exact B29 S24 _ _ _ hP hS (lv_sub hl [0] rfl) h

def bX4_soonest_67 (t0 : Int32) (S : MS) : Option (Int32 × MS) :=
some (t0, S)
def bX4_soonest_47 (x2 : Int32) (S : MS) : Option (Int32 × MS) :=
bn1 (fX4_putsBack  S) fun S2 =>
(if x2 ≤ (60 : Int32) then
bX4_soonest_67 x2 S2
else
bnd (fX4_error (-1000000002 : Int32) S2) fun v6 S5 =>
bX4_soonest_67 v6 S5)
def bX4_soonest_21 (k21 : Int32 → Int32 → MS → Option (Int32 × MS)) (x1 : Int32) (x2 : Int32) (S : MS) : Option (Int32 × MS) :=
(if (60 : Int32) < x2 then
bX4_soonest_47 x2 S
else
bnd (fX4_of x1 (5 : Int32) S) fun v10 S9 =>
(if v10 = (1 : Int32) then
bn1 (fX4_goes  S9) fun S13 =>
nm (x2 + (1 : Int32)) fun y14 =>
k21 x1 y14 S13
else
bX4_soonest_47 x2 S9))
def lX4_soonest_21 : Nat → (Int32 → Int32 → MS → Option (Int32 × MS))
  | 0 => fun _ _ _ => none
  | n + 1 => bX4_soonest_21 (lX4_soonest_21 n)
def fX4_soonest (x1 : Int32) (S : MS) : Option (Int32 × MS) :=
bnd (fX4_isMark x1 S) fun v17 S16 =>
(if v17 = 0 then
bnd (fX4_error (-1000000001 : Int32) S16) fun v23 S22 =>
some (v23, S22)
else
bn1 (fX4_thinks  S16) fun S20 =>
lX4_soonest_21 FU x1 (0 : Int32) S20)
set_option maxHeartbeats 4000000 in
set_option maxRecDepth 100000 in
theorem mX4_soonest {l : Launch} {D : va_G} {cA : Nat → ClassId} {o : Nat → Nat} {A : Nat → Prop} (x1 : Int32) (S : MS) {out : (Int32 × MS)} (h : fX4_soonest x1 S = some out) : Met l yX4_soonest (ws_ yX4_soonest cX4_soonest 3 (some .int)) ({ frames := 11, cells := 0, slots := 0, locals := 321 } : Room) (gPc (mK D cA) (mP D cA o A) A [.ref (o 24), .int x1] S) (gQi (mK D cA) (mP D cA o A) A out) 0 0 A := by
  refine gMet_z (by decide) (Nat.le_of_ble_eq_true rfl) ?_ mKst
  intro p e s m below meth c Q ls args H locs hC hP hS hl ret
  obtain ⟨hx, hb, hml, hown, hts, hA, hK⟩ := hC
  have hown : s.vm.findClass RX4 = some m.cls := hown
  have hl : lv_has ls 3 [(0, .ref (o 24)), (1, .int x1)] := hl
  have B67 : ∀ (t0 : Int32) (S : MS) (H : Heap) (locs : List Loc) (ls : Array Slot), mP D cA o A S H → va_S A s.heap H locs → lv_has ls 3 [(0, .ref (o 24))] → bX4_soonest_67  t0 S = some out → W p l e ({ frames := 11, cells := 0, slots := 0, locals := 321 } : Room) s m args below meth c H locs 0 0 Q (F0 m 67 ls [.int t0]) := by
    intro t0 S H locs ls hP hS hl h
    unfold bX4_soonest_67 at h
    exact ret _ _ _ _ _ _ dX4_soonest_67 rfl hP hS h
  have B47 : ∀ (x2 : Int32) (S : MS) (H : Heap) (locs : List Loc) (ls : Array Slot), mP D cA o A S H → va_S A s.heap H locs → lv_has ls 3 [(0, .ref (o 24)), (2, .int x2)] → bX4_soonest_47  x2 S = some out → W p l e ({ frames := 11, cells := 0, slots := 0, locals := 321 } : Room) s m args below meth c H locs 0 0 Q (F0 m 47 ls []) := by
    intro x2 S H locs ls hP hS hl h
    unfold bX4_soonest_47 at h
    refine lv_aload_n hx hb dX4_soonest_47 rfl (lv_at hl 0 rfl) ?_
    obtain ⟨S2, e1, h⟩ := bn1_some h
    refine gc0_v (va_runV (As := []) (rest := []) ⟨hx, hb, hml, hown, hts⟩ (mX4_putsBack (l := l) (D := D) (cA := cA) (o := o) (A := A)  S e1) (cwV 0 hts (lw_V q1605 q1607 qs69 q90 q1608) rfl rfl rfl (by decide +kernel) ⟨Nat.le_of_ble_eq_true rfl, Nat.le_of_ble_eq_true rfl⟩) (gPreV mKst hK hA hS hP (mRecv hK hP)) rfl rfl hl.1 rfl (lv_room (Nat.le_of_ble_eq_true rfl)) dX4_soonest_48 ⟨Nat.zero_le _, Nat.zero_le _⟩) hS (fun H locs hP hS => ?_)
    refine lv_iload_n hx hb dX4_soonest_51 rfl (lv_at hl 1 rfl) ?_
    refine lv_bipush (v := (60 : Int32)) hx hb dX4_soonest_52 (by decide) ?_
    refine lv_icmp_le (tgt := 66) hx hb dX4_soonest_54 (by decide) (fun c3 => ?_) (fun c3 => ?_)
    · have h := ite_t c3 h
      refine lv_iload_n hx hb dX4_soonest_66 rfl (lv_at hl 1 rfl) ?_
      exact B67 x2 S2 _ _ _ hP hS (lv_sub hl [0] rfl) h
    · have h := ite_f c3 h
      refine lv_aload_n hx hb dX4_soonest_57 rfl (lv_at hl 0 rfl) ?_
      refine lv_ldc (v := (-1000000002 : Int32)) hx hb hown (hts _ q1613) dX4_soonest_58 ?_
      obtain ⟨v6, S5, e4, h⟩ := bnd_some h
      refine gc0_i (va_runV (As := [.int (-1000000002 : Int32)]) (rest := []) ⟨hx, hb, hml, hown, hts⟩ (mX4_error (l := l) (D := D) (cA := cA) (o := o) (A := A) (-1000000002 : Int32) S2 e4) (cwV 1 hts (lw_V q1337 q1339 qs30 q90 q1340) rfl rfl rfl (by decide +kernel) ⟨Nat.le_of_ble_eq_true rfl, Nat.le_of_ble_eq_true rfl⟩) (gPreV mKst hK hA hS hP (mRecv hK hP)) rfl rfl hl.1 rfl (lv_room (Nat.le_of_ble_eq_true rfl)) dX4_soonest_60 ⟨Nat.zero_le _, Nat.zero_le _⟩) hS (fun H locs hP hS => ?_)
      refine lv_goto (tgt := 67) hx hb dX4_soonest_63 (by decide) ?_
      exact B67 v6 S5 _ _ _ hP hS (lv_sub hl [0] rfl) h
  have L21 : ∀ (n21 : Nat) (x1 : Int32) (x2 : Int32) (S : MS) (H : Heap) (locs : List Loc) (ls : Array Slot), mP D cA o A S H → va_S A s.heap H locs → lv_has ls 3 [(0, .ref (o 24)), (1, .int x1), (2, .int x2)] → lX4_soonest_21 n21 x1 x2 S = some out → W p l e ({ frames := 11, cells := 0, slots := 0, locals := 321 } : Room) s m args below meth c H locs 0 0 Q (F0 m 21 ls []) := by
    intro n21
    induction n21 with
    | zero =>
      intro x1 x2 S H locs ls hP hS hl h
      cases h
    | succ n21 ih21 =>
      intro x1 x2 S H locs ls hP hS hl h
      replace h : bX4_soonest_21 (lX4_soonest_21 n21) x1 x2 S = some out := h
      unfold bX4_soonest_21 at h
      refine lv_iload_n hx hb dX4_soonest_21 rfl (lv_at hl 2 rfl) ?_
      refine lv_bipush (v := (60 : Int32)) hx hb dX4_soonest_22 (by decide) ?_
      refine lv_icmp_gt (tgt := 47) hx hb dX4_soonest_24 (by decide) (fun c7 => ?_) (fun c7 => ?_)
      · have h := ite_t c7 h
        exact B47 x2 S _ _ _ hP hS (lv_sub hl [0, 2] rfl) h
      · have h := ite_f c7 h
        refine lv_aload_n hx hb dX4_soonest_27 rfl (lv_at hl 0 rfl) ?_
        refine lv_iload_n hx hb dX4_soonest_28 rfl (lv_at hl 1 rfl) ?_
        refine lv_iconst (v := (5 : Int32)) hx hb dX4_soonest_29 (by decide) ?_
        obtain ⟨v10, S9, e8, h⟩ := bnd_some h
        refine gc0_i (va_runV (As := [.int x1, .int (5 : Int32)]) (rest := []) ⟨hx, hb, hml, hown, hts⟩ (mX4_of (l := l) (D := D) (cA := cA) (o := o) (A := A) x1 (5 : Int32) S e8) (cwV 2 hts (lw_V q1355 q1357 qs33 q90 q1358) rfl rfl rfl (by decide +kernel) ⟨Nat.le_of_ble_eq_true rfl, Nat.le_of_ble_eq_true rfl⟩) (gPreV mKst hK hA hS hP (mRecv hK hP)) rfl rfl hl.1 rfl (lv_room (Nat.le_of_ble_eq_true rfl)) dX4_soonest_30 ⟨Nat.zero_le _, Nat.zero_le _⟩) hS (fun H locs hP hS => ?_)
        refine lv_iconst (v := (1 : Int32)) hx hb dX4_soonest_33 (by decide) ?_
        refine lv_icmp_ne (tgt := 47) hx hb dX4_soonest_34 (by decide) (fun c11 => ?_) (fun c11 => ?_)
        · have h := ite_f c11 h
          exact B47 x2 S9 _ _ _ hP hS (lv_sub hl [0, 2] rfl) h
        · have h := ite_t c11 h
          refine lv_aload_n hx hb dX4_soonest_37 rfl (lv_at hl 0 rfl) ?_
          obtain ⟨S13, e12, h⟩ := bn1_some h
          refine gc0_v (va_runV (As := []) (rest := []) ⟨hx, hb, hml, hown, hts⟩ (mX4_goes (l := l) (D := D) (cA := cA) (o := o) (A := A)  S9 e12) (cwV 0 hts (lw_V q1492 q1494 qs54 q90 q1495) rfl rfl rfl (by decide +kernel) ⟨Nat.le_of_ble_eq_true rfl, Nat.le_of_ble_eq_true rfl⟩) (gPreV mKst hK hA hS hP (mRecv hK hP)) rfl rfl hl.1 rfl (lv_room (Nat.le_of_ble_eq_true rfl)) dX4_soonest_38 ⟨Nat.zero_le _, Nat.zero_le _⟩) hS (fun H locs hP hS => ?_)
          obtain ⟨y14, ey14⟩ : ∃ y : Int32, y = x2 + (1 : Int32) := ⟨_, rfl⟩
          refine lv_iinc (v := y14) (lv' := [(2, .int y14), (0, .ref (o 24)), (1, .int x1)]) hx hb dX4_soonest_41 hl (k := 2) rfl (by rw [ey14]; rfl) (by decide) rfl (fun ls hl => ?_)
          have h := nm_at ey14 h
          refine lv_goto (tgt := 21) hx hb dX4_soonest_44 (by decide) ?_
          exact ih21 x1 y14 S13 _ _ _ hP hS (lv_sub hl [1, 2, 0] rfl) h
  unfold fX4_soonest at h
  refine lv_aload_n hx hb dX4_soonest_0 rfl (lv_at hl 0 rfl) ?_
  refine lv_iload_n hx hb dX4_soonest_1 rfl (lv_at hl 1 rfl) ?_
  obtain ⟨v17, S16, e15, h⟩ := bnd_some h
  refine gc0_i (va_runV (As := [.int x1]) (rest := []) ⟨hx, hb, hml, hown, hts⟩ (mX4_isMark (l := l) (D := D) (cA := cA) (o := o) (A := A) x1 S e15) (cwV 1 hts (lw_V q1351 q1353 qs32 q90 q1354) rfl rfl rfl (by decide +kernel) ⟨Nat.le_of_ble_eq_true rfl, Nat.le_of_ble_eq_true rfl⟩) (gPreV mKst hK hA hS hP (mRecv hK hP)) rfl rfl hl.1 rfl (lv_room (Nat.le_of_ble_eq_true rfl)) dX4_soonest_2 ⟨Nat.zero_le _, Nat.zero_le _⟩) hS (fun H locs hP hS => ?_)
  refine lv_if_ne (tgt := 15) hx hb dX4_soonest_5 (by decide) (fun c18 => ?_) (fun c18 => ?_)
  · have h := ite_f c18 h
    refine lv_aload_n hx hb dX4_soonest_15 rfl (lv_at hl 0 rfl) ?_
    obtain ⟨S20, e19, h⟩ := bn1_some h
    refine gc0_v (va_runV (As := []) (rest := []) ⟨hx, hb, hml, hown, hts⟩ (mX4_thinks (l := l) (D := D) (cA := cA) (o := o) (A := A)  S16 e19) (cwV 0 hts (lw_V q1598 q1600 qs68 q90 q1601) rfl rfl rfl (by decide +kernel) ⟨Nat.le_of_ble_eq_true rfl, Nat.le_of_ble_eq_true rfl⟩) (gPreV mKst hK hA hS hP (mRecv hK hP)) rfl rfl hl.1 rfl (lv_room (Nat.le_of_ble_eq_true rfl)) dX4_soonest_16 ⟨Nat.zero_le _, Nat.zero_le _⟩) hS (fun H locs hP hS => ?_)
    refine lv_iconst (v := (0 : Int32)) hx hb dX4_soonest_19 (by decide) ?_
    refine lv_istore_n (lv' := [(2, .int (0 : Int32)), (0, .ref (o 24)), (1, .int x1)]) hx hb dX4_soonest_20 rfl hl (by decide) rfl (fun ls hl => ?_)
    exact L21 FU x1 (0 : Int32) S20 _ _ _ hP hS (lv_sub hl [1, 2, 0] rfl) h
  · have h := ite_t c18 h
    refine lv_aload_n hx hb dX4_soonest_8 rfl (lv_at hl 0 rfl) ?_
    refine lv_ldc (v := (-1000000001 : Int32)) hx hb hown (hts _ q1336) dX4_soonest_9 ?_
    obtain ⟨v23, S22, e21, h⟩ := bnd_some h
    refine gc0_i (va_runV (As := [.int (-1000000001 : Int32)]) (rest := []) ⟨hx, hb, hml, hown, hts⟩ (mX4_error (l := l) (D := D) (cA := cA) (o := o) (A := A) (-1000000001 : Int32) S16 e21) (cwV 1 hts (lw_V q1337 q1339 qs30 q90 q1340) rfl rfl rfl (by decide +kernel) ⟨Nat.le_of_ble_eq_true rfl, Nat.le_of_ble_eq_true rfl⟩) (gPreV mKst hK hA hS hP (mRecv hK hP)) rfl rfl hl.1 rfl (lv_room (Nat.le_of_ble_eq_true rfl)) dX4_soonest_11 ⟨Nat.zero_le _, Nat.zero_le _⟩) hS (fun H locs hP hS => ?_)
    exact ret _ _ _ _ _ _ dX4_soonest_14 rfl hP hS h

def bX4_weightOf_33 (k4 : Int32 → Int32 → Int32 → MS → Option (Int32 × MS)) (x1 : Int32) (x3 : Int32) (t0 : Int32) (t1 : Int32) (S : MS) : Option (Int32 × MS) :=
nm (t0 + t1) fun y1 =>
nm (x3 + (1 : Int32)) fun y2 =>
k4 x1 y1 y2 S
def bX4_weightOf_4 (k4 : Int32 → Int32 → Int32 → MS → Option (Int32 × MS)) (x1 : Int32) (x2 : Int32) (x3 : Int32) (S : MS) : Option (Int32 × MS) :=
(if (mIA S 0 ((2 : Int32)).toNatClampNeg) ≤ x3 then
some (x2, S)
else
(if ((x1 >>> (x3 &&& 31)) &&& (1 : Int32)) = (1 : Int32) then
bnd (fX4_weight x3 S) fun v7 S6 =>
bX4_weightOf_33 k4 x1 x3 x2 v7 S6
else
bX4_weightOf_33 k4 x1 x3 x2 (0 : Int32) S))
def lX4_weightOf_4 : Nat → (Int32 → Int32 → Int32 → MS → Option (Int32 × MS))
  | 0 => fun _ _ _ _ => none
  | n + 1 => bX4_weightOf_4 (lX4_weightOf_4 n)
def fX4_weightOf (x1 : Int32) (S : MS) : Option (Int32 × MS) :=
lX4_weightOf_4 FU x1 (0 : Int32) (0 : Int32) S
set_option maxHeartbeats 4000000 in
set_option maxRecDepth 100000 in
theorem mX4_weightOf {l : Launch} {D : va_G} {cA : Nat → ClassId} {o : Nat → Nat} {A : Nat → Prop} (x1 : Int32) (S : MS) {out : (Int32 × MS)} (h : fX4_weightOf x1 S = some out) : Met l yX4_weightOf (ws_ yX4_weightOf cX4_weightOf 4 (some .int)) ({ frames := 4, cells := 0, slots := 0, locals := 93 } : Room) (gPc (mK D cA) (mP D cA o A) A [.ref (o 24), .int x1] S) (gQi (mK D cA) (mP D cA o A) A out) 0 0 A := by
  refine gMet_z (by decide) (Nat.le_of_ble_eq_true rfl) ?_ mKst
  intro p e s m below meth c Q ls args H locs hC hP hS hl ret
  obtain ⟨hx, hb, hml, hown, hts, hA, hK⟩ := hC
  have hown : s.vm.findClass RX4 = some m.cls := hown
  have hl : lv_has ls 4 [(0, .ref (o 24)), (1, .int x1)] := hl
  have L4 : ∀ (n4 : Nat) (x1 : Int32) (x2 : Int32) (x3 : Int32) (S : MS) (H : Heap) (locs : List Loc) (ls : Array Slot), mP D cA o A S H → va_S A s.heap H locs → lv_has ls 4 [(0, .ref (o 24)), (1, .int x1), (2, .int x2), (3, .int x3)] → lX4_weightOf_4 n4 x1 x2 x3 S = some out → W p l e ({ frames := 4, cells := 0, slots := 0, locals := 93 } : Room) s m args below meth c H locs 0 0 Q (F0 m 4 ls []) := by
    intro n4
    induction n4 with
    | zero =>
      intro x1 x2 x3 S H locs ls hP hS hl h
      cases h
    | succ n4 ih4 =>
      have B33 : ∀ (x1 : Int32) (x3 : Int32) (t0 : Int32) (t1 : Int32) (S : MS) (H : Heap) (locs : List Loc) (ls : Array Slot), mP D cA o A S H → va_S A s.heap H locs → lv_has ls 4 [(0, .ref (o 24)), (1, .int x1), (3, .int x3)] → bX4_weightOf_33 (lX4_weightOf_4 n4) x1 x3 t0 t1 S = some out → W p l e ({ frames := 4, cells := 0, slots := 0, locals := 93 } : Room) s m args below meth c H locs 0 0 Q (F0 m 33 ls [.int t1, .int t0]) := by
        intro x1 x3 t0 t1 S H locs ls hP hS hl h
        unfold bX4_weightOf_33 at h
        refine lv_iadd hx hb dX4_weightOf_33 ?_
        refine lv_topi (fun y1 ey1 => ?_)
        have h := nm_at ey1 h
        refine lv_istore_n (lv' := [(2, .int y1), (0, .ref (o 24)), (1, .int x1), (3, .int x3)]) hx hb dX4_weightOf_34 rfl hl (by decide) rfl (fun ls hl => ?_)
        obtain ⟨y2, ey2⟩ : ∃ y : Int32, y = x3 + (1 : Int32) := ⟨_, rfl⟩
        refine lv_iinc (v := y2) (lv' := [(3, .int y2), (2, .int y1), (0, .ref (o 24)), (1, .int x1)]) hx hb dX4_weightOf_35 hl (k := 3) rfl (by rw [ey2]; rfl) (by decide) rfl (fun ls hl => ?_)
        have h := nm_at ey2 h
        refine lv_goto (tgt := 4) hx hb dX4_weightOf_38 (by decide) ?_
        exact ih4 x1 y1 y2 S _ _ _ hP hS (lv_sub hl [2, 3, 1, 0] rfl) h
      intro x1 x2 x3 S H locs ls hP hS hl h
      replace h : bX4_weightOf_4 (lX4_weightOf_4 n4) x1 x2 x3 S = some out := h
      unfold bX4_weightOf_4 at h
      refine lv_iload_n hx hb dX4_weightOf_4 rfl (lv_at hl 3 rfl) ?_
      refine lv_aload_n hx hb dX4_weightOf_5 rfl (lv_at hl 0 rfl) ?_
      refine va_get (D := D) (ci := 4) (v := .ref (o 0)) (C := RX4) (T := TX4) (N := 24) hx hb hts in_X4 hown hK hP.1 0 rfl rfl 0 (by decide) (hts _ q1249) (fun _ h9 => h9) rfl dX4_weightOf_6 ?_
      refine lv_iconst (v := (2 : Int32)) hx hb dX4_weightOf_9 (by decide) ?_
      refine va_iald hx hb hK hP.1 1 0 rfl rfl (inB_in (by decide)) dX4_weightOf_10 ?_
      refine lv_icmp_ge (tgt := 41) hx hb dX4_weightOf_11 (by decide) (fun c3 => ?_) (fun c3 => ?_)
      · have h := ite_t c3 h
        refine lv_iload_n hx hb dX4_weightOf_41 rfl (lv_at hl 2 rfl) ?_
        exact ret _ _ _ _ _ _ dX4_weightOf_42 rfl hP hS h
      · have h := ite_f c3 h
        refine lv_iload_n hx hb dX4_weightOf_14 rfl (lv_at hl 2 rfl) ?_
        refine lv_iload_n hx hb dX4_weightOf_15 rfl (lv_at hl 1 rfl) ?_
        refine lv_iload_n hx hb dX4_weightOf_16 rfl (lv_at hl 3 rfl) ?_
        refine lv_ishr hx hb dX4_weightOf_17 ?_
        refine lv_iconst (v := (1 : Int32)) hx hb dX4_weightOf_18 (by decide) ?_
        refine lv_iand hx hb dX4_weightOf_19 ?_
        refine lv_iconst (v := (1 : Int32)) hx hb dX4_weightOf_20 (by decide) ?_
        refine lv_icmp_ne (tgt := 32) hx hb dX4_weightOf_21 (by decide) (fun c4 => ?_) (fun c4 => ?_)
        · have h := ite_f c4 h
          refine lv_iconst (v := (0 : Int32)) hx hb dX4_weightOf_32 (by decide) ?_
          exact B33 x1 x3 x2 (0 : Int32) S _ _ _ hP hS (lv_sub hl [0, 1, 3] rfl) h
        · have h := ite_t c4 h
          refine lv_aload_n hx hb dX4_weightOf_24 rfl (lv_at hl 0 rfl) ?_
          refine lv_iload_n hx hb dX4_weightOf_25 rfl (lv_at hl 3 rfl) ?_
          obtain ⟨v7, S6, e5, h⟩ := bnd_some h
          refine gc0_i (va_runV (As := [.int x3]) (rest := [.int x2]) ⟨hx, hb, hml, hown, hts⟩ (mX4_weight (l := l) (D := D) (cA := cA) (o := o) (A := A) x3 S e5) (cwV 1 hts (lw_V q1359 q1361 qs34 q90 q1362) rfl rfl rfl (by decide +kernel) ⟨Nat.le_of_ble_eq_true rfl, Nat.le_of_ble_eq_true rfl⟩) (gPreV mKst hK hA hS hP (mRecv hK hP)) rfl rfl hl.1 rfl (lv_room (Nat.le_of_ble_eq_true rfl)) dX4_weightOf_26 ⟨Nat.zero_le _, Nat.zero_le _⟩) hS (fun H locs hP hS => ?_)
          refine lv_goto (tgt := 33) hx hb dX4_weightOf_29 (by decide) ?_
          exact B33 x1 x3 x2 v7 S6 _ _ _ hP hS (lv_sub hl [0, 1, 3] rfl) h
  unfold fX4_weightOf at h
  refine lv_iconst (v := (0 : Int32)) hx hb dX4_weightOf_0 (by decide) ?_
  refine lv_istore_n (lv' := [(2, .int (0 : Int32)), (0, .ref (o 24)), (1, .int x1)]) hx hb dX4_weightOf_1 rfl hl (by decide) rfl (fun ls hl => ?_)
  refine lv_iconst (v := (0 : Int32)) hx hb dX4_weightOf_2 (by decide) ?_
  refine lv_istore_n (lv' := [(3, .int (0 : Int32)), (2, .int (0 : Int32)), (0, .ref (o 24)), (1, .int x1)]) hx hb dX4_weightOf_3 rfl hl (by decide) rfl (fun ls hl => ?_)
  exact L4 FU x1 (0 : Int32) (0 : Int32) S _ _ _ hP hS (lv_sub hl [2, 3, 1, 0] rfl) h

def bX4_spine_96 (k24 : Int32 → Int32 → Int32 → MS → Option (Int32 × MS)) (x1 : Int32) (x3 : Int32) (t0 : Int32) (S : MS) : Option (Int32 × MS) :=
nm (x3 + (-1 : Int32)) fun y1 =>
k24 x1 t0 y1 S
def bX4_spine_95 (k24 : Int32 → Int32 → Int32 → MS → Option (Int32 × MS)) (x1 : Int32) (x2 : Int32) (x3 : Int32) (S : MS) : Option (Int32 × MS) :=
bX4_spine_96 k24 x1 x3 x2 S
def bX4_spine_91 (k24 : Int32 → Int32 → Int32 → MS → Option (Int32 × MS)) (x1 : Int32) (x3 : Int32) (S : MS) : Option (Int32 × MS) :=
bX4_spine_96 k24 x1 x3 x3 S
def bX4_spine_60 (k24 : Int32 → Int32 → Int32 → MS → Option (Int32 × MS)) (x1 : Int32) (x2 : Int32) (x3 : Int32) (t0 : Int32) (S : MS) : Option (Int32 × MS) :=
(if t0 = 0 then
bX4_spine_95 k24 x1 x2 x3 S
else
bnd (fX4_bits x3 S) fun v5 S4 =>
bnd (fX4_bits x2 S4) fun v8 S7 =>
(if v5 < v8 then
bX4_spine_91 k24 x1 x3 S7
else
bnd (fX4_weightOf x3 S7) fun v12 S11 =>
bnd (fX4_weightOf x2 S11) fun v15 S14 =>
(if v12 < v15 then
bX4_spine_95 k24 x1 x2 x3 S14
else
bX4_spine_91 k24 x1 x3 S14)))
def bX4_spine_59 (k24 : Int32 → Int32 → Int32 → MS → Option (Int32 × MS)) (x1 : Int32) (x2 : Int32) (x3 : Int32) (S : MS) : Option (Int32 × MS) :=
bX4_spine_60 k24 x1 x2 x3 (0 : Int32) S
def bX4_spine_24 (k24 : Int32 → Int32 → Int32 → MS → Option (Int32 × MS)) (x1 : Int32) (x2 : Int32) (x3 : Int32) (S : MS) : Option (Int32 × MS) :=
(if x3 < 0 then
some (x2, S)
else
(if (x3 &&& (x1 ^^^ (-1 : Int32))) = 0 then
bnd (fX4_bits x3 S) fun v21 S20 =>
bnd (fX4_bits x2 S20) fun v24 S23 =>
(if v24 < v21 then
bX4_spine_59 k24 x1 x2 x3 S23
else
bnd (fX4_doesHold x3 S23) fun v28 S27 =>
(if v28 = 0 then
bX4_spine_59 k24 x1 x2 x3 S27
else
bX4_spine_60 k24 x1 x2 x3 (1 : Int32) S27))
else
bX4_spine_59 k24 x1 x2 x3 S))
def lX4_spine_24 : Nat → (Int32 → Int32 → Int32 → MS → Option (Int32 × MS))
  | 0 => fun _ _ _ _ => none
  | n + 1 => bX4_spine_24 (lX4_spine_24 n)
def fX4_spine (S : MS) : Option (Int32 × MS) :=
bnd (fX4_onOnes  S) fun v32 S31 =>
bnd (fX4_doesHold v32 S31) fun v35 S34 =>
(if v35 = 0 then
bnd (fX4_error (-1000000003 : Int32) S34) fun v39 S38 =>
some (v39, S38)
else
lX4_spine_24 FU v32 v32 v32 S34)
set_option maxHeartbeats 4000000 in
set_option maxRecDepth 100000 in
theorem mX4_spine {l : Launch} {D : va_G} {cA : Nat → ClassId} {o : Nat → Nat} {A : Nat → Prop} (S : MS) {out : (Int32 × MS)} (h : fX4_spine  S = some out) : Met l yX4_spine (ws_ yX4_spine cX4_spine 5 (some .int)) ({ frames := 5, cells := 0, slots := 0, locals := 116 } : Room) (gPc (mK D cA) (mP D cA o A) A [.ref (o 24)] S) (gQi (mK D cA) (mP D cA o A) A out) 0 0 A := by
  refine gMet_z (by decide) (Nat.le_of_ble_eq_true rfl) ?_ mKst
  intro p e s m below meth c Q ls args H locs hC hP hS hl ret
  obtain ⟨hx, hb, hml, hown, hts, hA, hK⟩ := hC
  have hown : s.vm.findClass RX4 = some m.cls := hown
  have hl : lv_has ls 5 [(0, .ref (o 24))] := hl
  have L24 : ∀ (n24 : Nat) (x1 : Int32) (x2 : Int32) (x3 : Int32) (S : MS) (H : Heap) (locs : List Loc) (ls : Array Slot), mP D cA o A S H → va_S A s.heap H locs → lv_has ls 5 [(0, .ref (o 24)), (1, .int x1), (2, .int x2), (3, .int x3)] → lX4_spine_24 n24 x1 x2 x3 S = some out → W p l e ({ frames := 5, cells := 0, slots := 0, locals := 116 } : Room) s m args below meth c H locs 0 0 Q (F0 m 24 ls []) := by
    intro n24
    induction n24 with
    | zero =>
      intro x1 x2 x3 S H locs ls hP hS hl h
      cases h
    | succ n24 ih24 =>
      have B96 : ∀ (x1 : Int32) (x3 : Int32) (t0 : Int32) (S : MS) (H : Heap) (locs : List Loc) (ls : Array Slot), mP D cA o A S H → va_S A s.heap H locs → lv_has ls 5 [(0, .ref (o 24)), (1, .int x1), (3, .int x3)] → bX4_spine_96 (lX4_spine_24 n24) x1 x3 t0 S = some out → W p l e ({ frames := 5, cells := 0, slots := 0, locals := 116 } : Room) s m args below meth c H locs 0 0 Q (F0 m 96 ls [.int t0]) := by
        intro x1 x3 t0 S H locs ls hP hS hl h
        unfold bX4_spine_96 at h
        refine lv_istore_n (lv' := [(2, .int t0), (0, .ref (o 24)), (1, .int x1), (3, .int x3)]) hx hb dX4_spine_96 rfl hl (by decide) rfl (fun ls hl => ?_)
        obtain ⟨y1, ey1⟩ : ∃ y : Int32, y = x3 + (-1 : Int32) := ⟨_, rfl⟩
        refine lv_iinc (v := y1) (lv' := [(3, .int y1), (2, .int t0), (0, .ref (o 24)), (1, .int x1)]) hx hb dX4_spine_97 hl (k := 3) rfl (by rw [ey1]; rfl) (by decide) rfl (fun ls hl => ?_)
        have h := nm_at ey1 h
        refine lv_goto (tgt := 24) hx hb dX4_spine_100 (by decide) ?_
        exact ih24 x1 t0 y1 S _ _ _ hP hS (lv_sub hl [2, 3, 1, 0] rfl) h
      have B95 : ∀ (x1 : Int32) (x2 : Int32) (x3 : Int32) (S : MS) (H : Heap) (locs : List Loc) (ls : Array Slot), mP D cA o A S H → va_S A s.heap H locs → lv_has ls 5 [(0, .ref (o 24)), (1, .int x1), (2, .int x2), (3, .int x3)] → bX4_spine_95 (lX4_spine_24 n24) x1 x2 x3 S = some out → W p l e ({ frames := 5, cells := 0, slots := 0, locals := 116 } : Room) s m args below meth c H locs 0 0 Q (F0 m 95 ls []) := by
        intro x1 x2 x3 S H locs ls hP hS hl h
        unfold bX4_spine_95 at h
        refine lv_iload_n hx hb dX4_spine_95 rfl (lv_at hl 2 rfl) ?_
        exact B96 x1 x3 x2 S _ _ _ hP hS (lv_sub hl [0, 1, 3] rfl) h
      have B91 : ∀ (x1 : Int32) (x3 : Int32) (S : MS) (H : Heap) (locs : List Loc) (ls : Array Slot), mP D cA o A S H → va_S A s.heap H locs → lv_has ls 5 [(0, .ref (o 24)), (1, .int x1), (3, .int x3)] → bX4_spine_91 (lX4_spine_24 n24) x1 x3 S = some out → W p l e ({ frames := 5, cells := 0, slots := 0, locals := 116 } : Room) s m args below meth c H locs 0 0 Q (F0 m 91 ls []) := by
        intro x1 x3 S H locs ls hP hS hl h
        unfold bX4_spine_91 at h
        refine lv_iload_n hx hb dX4_spine_91 rfl (lv_at hl 2 rfl) ?_
        refine lv_goto (tgt := 96) hx hb dX4_spine_92 (by decide) ?_
        exact B96 x1 x3 x3 S _ _ _ hP hS hl h
      have B60 : ∀ (x1 : Int32) (x2 : Int32) (x3 : Int32) (t0 : Int32) (S : MS) (H : Heap) (locs : List Loc) (ls : Array Slot), mP D cA o A S H → va_S A s.heap H locs → lv_has ls 5 [(0, .ref (o 24)), (1, .int x1), (2, .int x2), (3, .int x3)] → bX4_spine_60 (lX4_spine_24 n24) x1 x2 x3 t0 S = some out → W p l e ({ frames := 5, cells := 0, slots := 0, locals := 116 } : Room) s m args below meth c H locs 0 0 Q (F0 m 60 ls [.int t0]) := by
        intro x1 x2 x3 t0 S H locs ls hP hS hl h
        unfold bX4_spine_60 at h
        refine lv_istore (lv' := [(4, .int t0), (0, .ref (o 24)), (1, .int x1), (2, .int x2), (3, .int x3)]) hx hb dX4_spine_60 hl (by decide) rfl (fun ls hl => ?_)
        refine lv_iload hx hb dX4_spine_62 (lv_at hl 0 rfl) ?_
        refine lv_if_eq (tgt := 95) hx hb dX4_spine_64 (by decide) (fun c2 => ?_) (fun c2 => ?_)
        · have h := ite_t c2 h
          exact B95 x1 x2 x3 S _ _ _ hP hS (lv_sub hl [1, 2, 3, 4] rfl) h
        · have h := ite_f c2 h
          refine lv_iload_n hx hb dX4_spine_67 rfl (lv_at hl 4 rfl) ?_
          obtain ⟨v5, S4, e3, h⟩ := bnd_some h
          refine gc0_i (va_runS (As := [.int x3]) (rest := []) ⟨hx, hb, hml, hown, hts⟩ (mX4_bits (l := l) (D := D) (cA := cA) (o := o) (A := A) x3 S e3) (va_cwS 1 hts (lw_S q1532 q1533 q90 q1534) rfl rfl rfl (by decide +kernel) ⟨Nat.le_of_ble_eq_true rfl, Nat.le_of_ble_eq_true rfl⟩) (gPreS mKst hK hA hS hP) rfl rfl hl.1 rfl (lv_room (Nat.le_of_ble_eq_true rfl)) dX4_spine_68 ⟨Nat.zero_le _, Nat.zero_le _⟩) hS (fun H locs hP hS => ?_)
          refine lv_iload_n hx hb dX4_spine_71 rfl (lv_at hl 3 rfl) ?_
          obtain ⟨v8, S7, e6, h⟩ := bnd_some h
          refine gc0_i (va_runS (As := [.int x2]) (rest := [.int v5]) ⟨hx, hb, hml, hown, hts⟩ (mX4_bits (l := l) (D := D) (cA := cA) (o := o) (A := A) x2 S4 e6) (va_cwS 1 hts (lw_S q1532 q1533 q90 q1534) rfl rfl rfl (by decide +kernel) ⟨Nat.le_of_ble_eq_true rfl, Nat.le_of_ble_eq_true rfl⟩) (gPreS mKst hK hA hS hP) rfl rfl hl.1 rfl (lv_room (Nat.le_of_ble_eq_true rfl)) dX4_spine_72 ⟨Nat.zero_le _, Nat.zero_le _⟩) hS (fun H locs hP hS => ?_)
          refine lv_icmp_lt (tgt := 91) hx hb dX4_spine_75 (by decide) (fun c9 => ?_) (fun c9 => ?_)
          · have h := ite_t c9 h
            exact B91 x1 x3 S7 _ _ _ hP hS (lv_sub hl [1, 2, 4] rfl) h
          · have h := ite_f c9 h
            refine lv_aload_n hx hb dX4_spine_78 rfl (lv_at hl 1 rfl) ?_
            refine lv_iload_n hx hb dX4_spine_79 rfl (lv_at hl 4 rfl) ?_
            obtain ⟨v12, S11, e10, h⟩ := bnd_some h
            refine gc0_i (va_runV (As := [.int x3]) (rest := []) ⟨hx, hb, hml, hown, hts⟩ (mX4_weightOf (l := l) (D := D) (cA := cA) (o := o) (A := A) x3 S7 e10) (cwV 1 hts (lw_V q1590 q1592 qs67 q90 q1593) rfl rfl rfl (by decide +kernel) ⟨Nat.le_of_ble_eq_true rfl, Nat.le_of_ble_eq_true rfl⟩) (gPreV mKst hK hA hS hP (mRecv hK hP)) rfl rfl hl.1 rfl (lv_room (Nat.le_of_ble_eq_true rfl)) dX4_spine_80 ⟨Nat.zero_le _, Nat.zero_le _⟩) hS (fun H locs hP hS => ?_)
            refine lv_aload_n hx hb dX4_spine_83 rfl (lv_at hl 1 rfl) ?_
            refine lv_iload_n hx hb dX4_spine_84 rfl (lv_at hl 3 rfl) ?_
            obtain ⟨v15, S14, e13, h⟩ := bnd_some h
            refine gc0_i (va_runV (As := [.int x2]) (rest := [.int v12]) ⟨hx, hb, hml, hown, hts⟩ (mX4_weightOf (l := l) (D := D) (cA := cA) (o := o) (A := A) x2 S11 e13) (cwV 1 hts (lw_V q1590 q1592 qs67 q90 q1593) rfl rfl rfl (by decide +kernel) ⟨Nat.le_of_ble_eq_true rfl, Nat.le_of_ble_eq_true rfl⟩) (gPreV mKst hK hA hS hP (mRecv hK hP)) rfl rfl hl.1 rfl (lv_room (Nat.le_of_ble_eq_true rfl)) dX4_spine_85 ⟨Nat.zero_le _, Nat.zero_le _⟩) hS (fun H locs hP hS => ?_)
            refine lv_icmp_lt (tgt := 95) hx hb dX4_spine_88 (by decide) (fun c16 => ?_) (fun c16 => ?_)
            · have h := ite_t c16 h
              exact B95 x1 x2 x3 S14 _ _ _ hP hS (lv_sub hl [1, 2, 3, 4] rfl) h
            · have h := ite_f c16 h
              exact B91 x1 x3 S14 _ _ _ hP hS (lv_sub hl [1, 2, 4] rfl) h
      have B59 : ∀ (x1 : Int32) (x2 : Int32) (x3 : Int32) (S : MS) (H : Heap) (locs : List Loc) (ls : Array Slot), mP D cA o A S H → va_S A s.heap H locs → lv_has ls 5 [(0, .ref (o 24)), (1, .int x1), (2, .int x2), (3, .int x3)] → bX4_spine_59 (lX4_spine_24 n24) x1 x2 x3 S = some out → W p l e ({ frames := 5, cells := 0, slots := 0, locals := 116 } : Room) s m args below meth c H locs 0 0 Q (F0 m 59 ls []) := by
        intro x1 x2 x3 S H locs ls hP hS hl h
        unfold bX4_spine_59 at h
        refine lv_iconst (v := (0 : Int32)) hx hb dX4_spine_59 (by decide) ?_
        exact B60 x1 x2 x3 (0 : Int32) S _ _ _ hP hS hl h
      intro x1 x2 x3 S H locs ls hP hS hl h
      replace h : bX4_spine_24 (lX4_spine_24 n24) x1 x2 x3 S = some out := h
      unfold bX4_spine_24 at h
      refine lv_iload_n hx hb dX4_spine_24 rfl (lv_at hl 3 rfl) ?_
      refine lv_if_lt (tgt := 103) hx hb dX4_spine_25 (by decide) (fun c17 => ?_) (fun c17 => ?_)
      · have h := ite_t c17 h
        refine lv_iload_n hx hb dX4_spine_103 rfl (lv_at hl 2 rfl) ?_
        exact ret _ _ _ _ _ _ dX4_spine_104 rfl hP hS h
      · have h := ite_f c17 h
        refine lv_iload_n hx hb dX4_spine_28 rfl (lv_at hl 3 rfl) ?_
        refine lv_iload_n hx hb dX4_spine_29 rfl (lv_at hl 1 rfl) ?_
        refine lv_iconst (v := (-1 : Int32)) hx hb dX4_spine_30 (by decide) ?_
        refine lv_ixor hx hb dX4_spine_31 ?_
        refine lv_iand hx hb dX4_spine_32 ?_
        refine lv_if_ne (tgt := 59) hx hb dX4_spine_33 (by decide) (fun c18 => ?_) (fun c18 => ?_)
        · have h := ite_f c18 h
          exact B59 x1 x2 x3 S _ _ _ hP hS hl h
        · have h := ite_t c18 h
          refine lv_iload_n hx hb dX4_spine_36 rfl (lv_at hl 3 rfl) ?_
          obtain ⟨v21, S20, e19, h⟩ := bnd_some h
          refine gc0_i (va_runS (As := [.int x3]) (rest := []) ⟨hx, hb, hml, hown, hts⟩ (mX4_bits (l := l) (D := D) (cA := cA) (o := o) (A := A) x3 S e19) (va_cwS 1 hts (lw_S q1532 q1533 q90 q1534) rfl rfl rfl (by decide +kernel) ⟨Nat.le_of_ble_eq_true rfl, Nat.le_of_ble_eq_true rfl⟩) (gPreS mKst hK hA hS hP) rfl rfl hl.1 rfl (lv_room (Nat.le_of_ble_eq_true rfl)) dX4_spine_37 ⟨Nat.zero_le _, Nat.zero_le _⟩) hS (fun H locs hP hS => ?_)
          refine lv_iload_n hx hb dX4_spine_40 rfl (lv_at hl 2 rfl) ?_
          obtain ⟨v24, S23, e22, h⟩ := bnd_some h
          refine gc0_i (va_runS (As := [.int x2]) (rest := [.int v21]) ⟨hx, hb, hml, hown, hts⟩ (mX4_bits (l := l) (D := D) (cA := cA) (o := o) (A := A) x2 S20 e22) (va_cwS 1 hts (lw_S q1532 q1533 q90 q1534) rfl rfl rfl (by decide +kernel) ⟨Nat.le_of_ble_eq_true rfl, Nat.le_of_ble_eq_true rfl⟩) (gPreS mKst hK hA hS hP) rfl rfl hl.1 rfl (lv_room (Nat.le_of_ble_eq_true rfl)) dX4_spine_41 ⟨Nat.zero_le _, Nat.zero_le _⟩) hS (fun H locs hP hS => ?_)
          refine lv_icmp_gt (tgt := 59) hx hb dX4_spine_44 (by decide) (fun c25 => ?_) (fun c25 => ?_)
          · have h := ite_t c25 h
            exact B59 x1 x2 x3 S23 _ _ _ hP hS hl h
          · have h := ite_f c25 h
            refine lv_aload_n hx hb dX4_spine_47 rfl (lv_at hl 0 rfl) ?_
            refine lv_iload_n hx hb dX4_spine_48 rfl (lv_at hl 3 rfl) ?_
            obtain ⟨v28, S27, e26, h⟩ := bnd_some h
            refine gc0_i (va_runV (As := [.int x3]) (rest := []) ⟨hx, hb, hml, hown, hts⟩ (mX4_doesHold (l := l) (D := D) (cA := cA) (o := o) (A := A) x3 S23 e26) (cwV 1 hts (lw_V q1504 q1506 qs57 q90 q1507) rfl rfl rfl (by decide +kernel) ⟨Nat.le_of_ble_eq_true rfl, Nat.le_of_ble_eq_true rfl⟩) (gPreV mKst hK hA hS hP (mRecv hK hP)) rfl rfl hl.1 rfl (lv_room (Nat.le_of_ble_eq_true rfl)) dX4_spine_49 ⟨Nat.zero_le _, Nat.zero_le _⟩) hS (fun H locs hP hS => ?_)
            refine lv_if_eq (tgt := 59) hx hb dX4_spine_52 (by decide) (fun c29 => ?_) (fun c29 => ?_)
            · have h := ite_t c29 h
              exact B59 x1 x2 x3 S27 _ _ _ hP hS hl h
            · have h := ite_f c29 h
              refine lv_iconst (v := (1 : Int32)) hx hb dX4_spine_55 (by decide) ?_
              refine lv_goto (tgt := 60) hx hb dX4_spine_56 (by decide) ?_
              exact B60 x1 x2 x3 (1 : Int32) S27 _ _ _ hP hS hl h
  unfold fX4_spine at h
  refine lv_aload_n hx hb dX4_spine_0 rfl (lv_at hl 0 rfl) ?_
  obtain ⟨v32, S31, e30, h⟩ := bnd_some h
  refine gc0_i (va_runV (As := []) (rest := []) ⟨hx, hb, hml, hown, hts⟩ (mX4_onOnes (l := l) (D := D) (cA := cA) (o := o) (A := A)  S e30) (cwV 0 hts (lw_V q1500 q1502 qs56 q90 q1503) rfl rfl rfl (by decide +kernel) ⟨Nat.le_of_ble_eq_true rfl, Nat.le_of_ble_eq_true rfl⟩) (gPreV mKst hK hA hS hP (mRecv hK hP)) rfl rfl hl.1 rfl (lv_room (Nat.le_of_ble_eq_true rfl)) dX4_spine_1 ⟨Nat.zero_le _, Nat.zero_le _⟩) hS (fun H locs hP hS => ?_)
  refine lv_istore_n (lv' := [(1, .int v32), (0, .ref (o 24))]) hx hb dX4_spine_4 rfl hl (by decide) rfl (fun ls hl => ?_)
  refine lv_aload_n hx hb dX4_spine_5 rfl (lv_at hl 1 rfl) ?_
  refine lv_iload_n hx hb dX4_spine_6 rfl (lv_at hl 0 rfl) ?_
  obtain ⟨v35, S34, e33, h⟩ := bnd_some h
  refine gc0_i (va_runV (As := [.int v32]) (rest := []) ⟨hx, hb, hml, hown, hts⟩ (mX4_doesHold (l := l) (D := D) (cA := cA) (o := o) (A := A) v32 S31 e33) (cwV 1 hts (lw_V q1504 q1506 qs57 q90 q1507) rfl rfl rfl (by decide +kernel) ⟨Nat.le_of_ble_eq_true rfl, Nat.le_of_ble_eq_true rfl⟩) (gPreV mKst hK hA hS hP (mRecv hK hP)) rfl rfl hl.1 rfl (lv_room (Nat.le_of_ble_eq_true rfl)) dX4_spine_7 ⟨Nat.zero_le _, Nat.zero_le _⟩) hS (fun H locs hP hS => ?_)
  refine lv_if_ne (tgt := 20) hx hb dX4_spine_10 (by decide) (fun c36 => ?_) (fun c36 => ?_)
  · have h := ite_f c36 h
    refine lv_iload_n hx hb dX4_spine_20 rfl (lv_at hl 0 rfl) ?_
    refine lv_istore_n (lv' := [(2, .int v32), (1, .int v32), (0, .ref (o 24))]) hx hb dX4_spine_21 rfl hl (by decide) rfl (fun ls hl => ?_)
    refine lv_iload_n hx hb dX4_spine_22 rfl (lv_at hl 1 rfl) ?_
    refine lv_istore_n (lv' := [(3, .int v32), (2, .int v32), (1, .int v32), (0, .ref (o 24))]) hx hb dX4_spine_23 rfl hl (by decide) rfl (fun ls hl => ?_)
    exact L24 FU v32 v32 v32 S34 _ _ _ hP hS (lv_sub hl [3, 2, 1, 0] rfl) h
  · have h := ite_t c36 h
    refine lv_aload_n hx hb dX4_spine_13 rfl (lv_at hl 1 rfl) ?_
    refine lv_ldc (v := (-1000000003 : Int32)) hx hb hown (hts _ q1418) dX4_spine_14 ?_
    obtain ⟨v39, S38, e37, h⟩ := bnd_some h
    refine gc0_i (va_runV (As := [.int (-1000000003 : Int32)]) (rest := []) ⟨hx, hb, hml, hown, hts⟩ (mX4_error (l := l) (D := D) (cA := cA) (o := o) (A := A) (-1000000003 : Int32) S34 e37) (cwV 1 hts (lw_V q1337 q1339 qs30 q90 q1340) rfl rfl rfl (by decide +kernel) ⟨Nat.le_of_ble_eq_true rfl, Nat.le_of_ble_eq_true rfl⟩) (gPreV mKst hK hA hS hP (mRecv hK hP)) rfl rfl hl.1 rfl (lv_room (Nat.le_of_ble_eq_true rfl)) dX4_spine_16 ⟨Nat.zero_le _, Nat.zero_le _⟩) hS (fun H locs hP hS => ?_)
    exact ret _ _ _ _ _ _ dX4_spine_19 rfl hP hS h

def bX4_sum_49 (t0 : Int64) (S : MS) : Option (Int64 × MS) :=
some (t0, S)
def fX4_sum (x1 : Int32) (S : MS) : Option (Int64 × MS) :=
bnd (fX4_isPart x1 S) fun v3 S2 =>
(if v3 = 0 then
bnd (fX4_error (-1000000001 : Int32) S2) fun v20 S19 =>
some (((v20).toInt64), S19)
else
bnd (fX4_isSolved  S2) fun v7 S6 =>
(if v7 = 0 then
bnd (fX4_error (-1000000003 : Int32) S6) fun v11 S10 =>
bX4_sum_49 ((v11).toInt64) S10
else
bnd (fX4_allMiss  S6) fun v14 S13 =>
bnd (fX4_inTerms v14 ((mLF S13) * (mLF S13)) x1 S13) fun v17 S16 =>
bX4_sum_49 v17 S16))
set_option maxHeartbeats 4000000 in
set_option maxRecDepth 100000 in
theorem mX4_sum {l : Launch} {D : va_G} {cA : Nat → ClassId} {o : Nat → Nat} {A : Nat → Prop} (x1 : Int32) (S : MS) {out : (Int64 × MS)} (h : fX4_sum x1 S = some out) : Met l yX4_sum (ws_ yX4_sum cX4_sum 2 (some .long)) ({ frames := 10, cells := 0, slots := 0, locals := 300 } : Room) (gPc (mK D cA) (mP D cA o A) A [.ref (o 24), .int x1] S) (gQl (mK D cA) (mP D cA o A) A out) 0 0 A := by
  refine gMet_l (by decide) (Nat.le_of_ble_eq_true rfl) ?_ mKst
  intro p e s m below meth c Q ls args H locs hC hP hS hl ret
  obtain ⟨hx, hb, hml, hown, hts, hA, hK⟩ := hC
  have hown : s.vm.findClass RX4 = some m.cls := hown
  have hl : lv_has ls 2 [(0, .ref (o 24)), (1, .int x1)] := hl
  have B49 : ∀ (t0 : Int64) (S : MS) (H : Heap) (locs : List Loc) (ls : Array Slot), mP D cA o A S H → va_S A s.heap H locs → lv_has ls 2 [(0, .ref (o 24))] → bX4_sum_49  t0 S = some out → W p l e ({ frames := 10, cells := 0, slots := 0, locals := 300 } : Room) s m args below meth c H locs 0 0 Q (F0 m 49 ls [.long t0]) := by
    intro t0 S H locs ls hP hS hl h
    unfold bX4_sum_49 at h
    exact ret _ _ _ _ _ _ dX4_sum_49 hP hS h
  unfold fX4_sum at h
  refine lv_iload_n hx hb dX4_sum_0 rfl (lv_at hl 1 rfl) ?_
  obtain ⟨v3, S2, e1, h⟩ := bnd_some h
  refine gc0_i (va_runS (As := [.int x1]) (rest := []) ⟨hx, hb, hml, hown, hts⟩ (mX4_isPart (l := l) (D := D) (cA := cA) (o := o) (A := A) x1 S e1) (va_cwS 1 hts (lw_S q1560 q1561 q90 q1562) rfl rfl rfl (by decide +kernel) ⟨Nat.le_of_ble_eq_true rfl, Nat.le_of_ble_eq_true rfl⟩) (gPreS mKst hK hA hS hP) rfl rfl hl.1 rfl (lv_room (Nat.le_of_ble_eq_true rfl)) dX4_sum_1 ⟨Nat.zero_le _, Nat.zero_le _⟩) hS (fun H locs hP hS => ?_)
  refine lv_if_ne (tgt := 15) hx hb dX4_sum_4 (by decide) (fun c4 => ?_) (fun c4 => ?_)
  · have h := ite_f c4 h
    refine lv_aload_n hx hb dX4_sum_15 rfl (lv_at hl 0 rfl) ?_
    obtain ⟨v7, S6, e5, h⟩ := bnd_some h
    refine gc0_i (va_runV (As := []) (rest := []) ⟨hx, hb, hml, hown, hts⟩ (mX4_isSolved (l := l) (D := D) (cA := cA) (o := o) (A := A)  S2 e5) (cwV 0 hts (lw_V q1496 q1498 qs55 q90 q1499) rfl rfl rfl (by decide +kernel) ⟨Nat.le_of_ble_eq_true rfl, Nat.le_of_ble_eq_true rfl⟩) (gPreV mKst hK hA hS hP (mRecv hK hP)) rfl rfl hl.1 rfl (lv_room (Nat.le_of_ble_eq_true rfl)) dX4_sum_16 ⟨Nat.zero_le _, Nat.zero_le _⟩) hS (fun H locs hP hS => ?_)
    refine lv_if_eq (tgt := 42) hx hb dX4_sum_19 (by decide) (fun c8 => ?_) (fun c8 => ?_)
    · have h := ite_t c8 h
      refine lv_aload_n hx hb dX4_sum_42 rfl (lv_at hl 0 rfl) ?_
      refine lv_ldc (v := (-1000000003 : Int32)) hx hb hown (hts _ q1418) dX4_sum_43 ?_
      obtain ⟨v11, S10, e9, h⟩ := bnd_some h
      refine gc0_i (va_runV (As := [.int (-1000000003 : Int32)]) (rest := []) ⟨hx, hb, hml, hown, hts⟩ (mX4_error (l := l) (D := D) (cA := cA) (o := o) (A := A) (-1000000003 : Int32) S6 e9) (cwV 1 hts (lw_V q1337 q1339 qs30 q90 q1340) rfl rfl rfl (by decide +kernel) ⟨Nat.le_of_ble_eq_true rfl, Nat.le_of_ble_eq_true rfl⟩) (gPreV mKst hK hA hS hP (mRecv hK hP)) rfl rfl hl.1 rfl (lv_room (Nat.le_of_ble_eq_true rfl)) dX4_sum_45 ⟨Nat.zero_le _, Nat.zero_le _⟩) hS (fun H locs hP hS => ?_)
      refine lv_i2l hx hb dX4_sum_48 rfl ?_
      exact B49 ((v11).toInt64) S10 _ _ _ hP hS (lv_sub hl [0] rfl) h
    · have h := ite_f c8 h
      refine lv_aload_n hx hb dX4_sum_22 rfl (lv_at hl 0 rfl) ?_
      obtain ⟨v14, S13, e12, h⟩ := bnd_some h
      refine gc0_l (va_runV (As := []) (rest := []) ⟨hx, hb, hml, hown, hts⟩ (mX4_allMiss (l := l) (D := D) (cA := cA) (o := o) (A := A)  S6 e12) (cwV 0 hts (lw_V q1574 q1576 qs66 q90 q1577) rfl rfl rfl (by decide +kernel) ⟨Nat.le_of_ble_eq_true rfl, Nat.le_of_ble_eq_true rfl⟩) (gPreV mKst hK hA hS hP (mRecv hK hP)) rfl rfl hl.1 rfl (lv_room (Nat.le_of_ble_eq_true rfl)) dX4_sum_23 ⟨Nat.zero_le _, Nat.zero_le _⟩) hS (fun H locs hP hS => ?_)
      refine lv_aload_n hx hb dX4_sum_26 rfl (lv_at hl 0 rfl) ?_
      refine va_get (D := D) (ci := 4) (v := .long (mLF S13)) (C := RX4) (T := TX4) (N := 24) hx hb hts in_X4 hown hK hP.1 0 rfl rfl 11 (by decide) (hts _ q1260) (fun _ h9 => h9) rfl dX4_sum_27 ?_
      refine lv_aload_n hx hb dX4_sum_30 rfl (lv_at hl 0 rfl) ?_
      refine va_get (D := D) (ci := 4) (v := .long (mLF S13)) (C := RX4) (T := TX4) (N := 24) hx hb hts in_X4 hown hK hP.1 0 rfl rfl 11 (by decide) (hts _ q1260) (fun _ h9 => h9) rfl dX4_sum_31 ?_
      refine lv_lmul hx hb dX4_sum_34 ?_
      refine lv_iload_n hx hb dX4_sum_35 rfl (lv_at hl 1 rfl) ?_
      obtain ⟨v17, S16, e15, h⟩ := bnd_some h
      refine gc0_l (va_runS (As := [.long v14, .long ((mLF S13) * (mLF S13)), .int x1]) (rest := []) ⟨hx, hb, hml, hown, hts⟩ (mX4_inTerms (l := l) (D := D) (cA := cA) (o := o) (A := A) v14 ((mLF S13) * (mLF S13)) x1 S13 e15) (va_cwS 3 hts (lw_S q1563 q1564 q90 q1565) rfl rfl rfl (by decide +kernel) ⟨Nat.le_of_ble_eq_true rfl, Nat.le_of_ble_eq_true rfl⟩) (gPreS mKst hK hA hS hP) rfl rfl hl.1 rfl (lv_room (Nat.le_of_ble_eq_true rfl)) dX4_sum_36 ⟨Nat.zero_le _, Nat.zero_le _⟩) hS (fun H locs hP hS => ?_)
      refine lv_goto (tgt := 49) hx hb dX4_sum_39 (by decide) ?_
      exact B49 v17 S16 _ _ _ hP hS (lv_sub hl [0] rfl) h
  · have h := ite_t c4 h
    refine lv_aload_n hx hb dX4_sum_7 rfl (lv_at hl 0 rfl) ?_
    refine lv_ldc (v := (-1000000001 : Int32)) hx hb hown (hts _ q1336) dX4_sum_8 ?_
    obtain ⟨v20, S19, e18, h⟩ := bnd_some h
    refine gc0_i (va_runV (As := [.int (-1000000001 : Int32)]) (rest := []) ⟨hx, hb, hml, hown, hts⟩ (mX4_error (l := l) (D := D) (cA := cA) (o := o) (A := A) (-1000000001 : Int32) S2 e18) (cwV 1 hts (lw_V q1337 q1339 qs30 q90 q1340) rfl rfl rfl (by decide +kernel) ⟨Nat.le_of_ble_eq_true rfl, Nat.le_of_ble_eq_true rfl⟩) (gPreV mKst hK hA hS hP (mRecv hK hP)) rfl rfl hl.1 rfl (lv_room (Nat.le_of_ble_eq_true rfl)) dX4_sum_10 ⟨Nat.zero_le _, Nat.zero_le _⟩) hS (fun H locs hP hS => ?_)
    refine lv_i2l hx hb dX4_sum_13 rfl ?_
    exact ret _ _ _ _ _ _ dX4_sum_14 hP hS h

def fX4_tell (x1 : Int32) (S : MS) : Option (Int32 × MS) :=
(if (mIA S 0 ((7 : Int32)).toNatClampNeg) = (24 : Int32) then
bnd (fX4_error (-1000000004 : Int32) S) fun v7 S6 =>
some (v7, S6)
else
chk (inB ((116 : Int32) + (mIA S 0 ((7 : Int32)).toNatClampNeg)) 382) (nm (sIA S 0 (upd (mIA S 0) (((116 : Int32) + (mIA S 0 ((7 : Int32)).toNatClampNeg))).toNatClampNeg x1)) fun S3 =>
nm (sIA S3 0 (upd (mIA S3 0) ((7 : Int32)).toNatClampNeg ((mIA S3 0 ((7 : Int32)).toNatClampNeg) + (1 : Int32)))) fun S4 =>
some ((mIA S4 0 ((7 : Int32)).toNatClampNeg), S4)))
set_option maxHeartbeats 4000000 in
set_option maxRecDepth 100000 in
theorem mX4_tell {l : Launch} {D : va_G} {cA : Nat → ClassId} {o : Nat → Nat} {A : Nat → Prop} (x1 : Int32) (S : MS) {out : (Int32 × MS)} (h : fX4_tell x1 S = some out) : Met l yX4_tell (ws_ yX4_tell cX4_tell 2 (some .int)) ({ frames := 1, cells := 0, slots := 0, locals := 21 } : Room) (gPc (mK D cA) (mP D cA o A) A [.ref (o 24), .int x1] S) (gQi (mK D cA) (mP D cA o A) A out) 0 0 A := by
  refine gMet_z (by decide) (Nat.le_of_ble_eq_true rfl) ?_ mKst
  intro p e s m below meth c Q ls args H locs hC hP hS hl ret
  obtain ⟨hx, hb, hml, hown, hts, hA, hK⟩ := hC
  have hown : s.vm.findClass RX4 = some m.cls := hown
  have hl : lv_has ls 2 [(0, .ref (o 24)), (1, .int x1)] := hl
  unfold fX4_tell at h
  refine lv_aload_n hx hb dX4_tell_0 rfl (lv_at hl 0 rfl) ?_
  refine va_get (D := D) (ci := 4) (v := .ref (o 0)) (C := RX4) (T := TX4) (N := 24) hx hb hts in_X4 hown hK hP.1 0 rfl rfl 0 (by decide) (hts _ q1249) (fun _ h9 => h9) rfl dX4_tell_1 ?_
  refine lv_bipush (v := (7 : Int32)) hx hb dX4_tell_4 (by decide) ?_
  refine va_iald hx hb hK hP.1 1 0 rfl rfl (inB_in (by decide)) dX4_tell_6 ?_
  refine lv_bipush (v := (24 : Int32)) hx hb dX4_tell_7 (by decide) ?_
  refine lv_icmp_ne (tgt := 19) hx hb dX4_tell_9 (by decide) (fun c1 => ?_) (fun c1 => ?_)
  · have h := ite_f c1 h
    refine lv_aload_n hx hb dX4_tell_19 rfl (lv_at hl 0 rfl) ?_
    refine va_get (D := D) (ci := 4) (v := .ref (o 0)) (C := RX4) (T := TX4) (N := 24) hx hb hts in_X4 hown hK hP.1 0 rfl rfl 0 (by decide) (hts _ q1249) (fun _ h9 => h9) rfl dX4_tell_20 ?_
    refine lv_bipush (v := (116 : Int32)) hx hb dX4_tell_23 (by decide) ?_
    refine lv_aload_n hx hb dX4_tell_25 rfl (lv_at hl 0 rfl) ?_
    refine va_get (D := D) (ci := 4) (v := .ref (o 0)) (C := RX4) (T := TX4) (N := 24) hx hb hts in_X4 hown hK hP.1 0 rfl rfl 0 (by decide) (hts _ q1249) (fun _ h9 => h9) rfl dX4_tell_26 ?_
    refine lv_bipush (v := (7 : Int32)) hx hb dX4_tell_29 (by decide) ?_
    refine va_iald hx hb hK hP.1 1 0 rfl rfl (inB_in (by decide)) dX4_tell_31 ?_
    refine lv_iadd hx hb dX4_tell_32 ?_
    refine lv_iload_n hx hb dX4_tell_33 rfl (lv_at hl 1 rfl) ?_
    obtain ⟨g2, h⟩ := chk_some h
    refine va_iast hx hb hK hP.1 hP.2 hS 1 0 rfl rfl (inB_in g2) dX4_tell_34 (fun H locs hP1 hD1 hS => ?_)
    obtain ⟨S3, eS3⟩ : ∃ y : MS, y = (sIA S 0 (upd (mIA S 0) (((116 : Int32) + (mIA S 0 ((7 : Int32)).toNatClampNeg))).toNatClampNeg x1)) := ⟨_, rfl⟩
    have hP : mP D cA o A S3 H := by rw [eS3]; exact ⟨hP1, hD1⟩
    have h := nm_at eS3 h
    refine lv_aload_n hx hb dX4_tell_35 rfl (lv_at hl 0 rfl) ?_
    refine va_get (D := D) (ci := 4) (v := .ref (o 0)) (C := RX4) (T := TX4) (N := 24) hx hb hts in_X4 hown hK hP.1 0 rfl rfl 0 (by decide) (hts _ q1249) (fun _ h9 => h9) rfl dX4_tell_36 ?_
    refine lv_bipush (v := (7 : Int32)) hx hb dX4_tell_39 (by decide) ?_
    refine lv_dup2_11 hx hb dX4_tell_41 rfl rfl ?_
    refine va_iald hx hb hK hP.1 1 0 rfl rfl (inB_in (by decide)) dX4_tell_42 ?_
    refine lv_iconst (v := (1 : Int32)) hx hb dX4_tell_43 (by decide) ?_
    refine lv_iadd hx hb dX4_tell_44 ?_
    refine va_iast hx hb hK hP.1 hP.2 hS 1 0 rfl rfl (inB_in (by decide)) dX4_tell_45 (fun H locs hP1 hD1 hS => ?_)
    obtain ⟨S4, eS4⟩ : ∃ y : MS, y = (sIA S3 0 (upd (mIA S3 0) ((7 : Int32)).toNatClampNeg ((mIA S3 0 ((7 : Int32)).toNatClampNeg) + (1 : Int32)))) := ⟨_, rfl⟩
    have hP : mP D cA o A S4 H := by rw [eS4]; exact ⟨hP1, hD1⟩
    have h := nm_at eS4 h
    refine lv_aload_n hx hb dX4_tell_46 rfl (lv_at hl 0 rfl) ?_
    refine va_get (D := D) (ci := 4) (v := .ref (o 0)) (C := RX4) (T := TX4) (N := 24) hx hb hts in_X4 hown hK hP.1 0 rfl rfl 0 (by decide) (hts _ q1249) (fun _ h9 => h9) rfl dX4_tell_47 ?_
    refine lv_bipush (v := (7 : Int32)) hx hb dX4_tell_50 (by decide) ?_
    refine va_iald hx hb hK hP.1 1 0 rfl rfl (inB_in (by decide)) dX4_tell_52 ?_
    exact ret _ _ _ _ _ _ dX4_tell_53 rfl hP hS h
  · have h := ite_t c1 h
    refine lv_aload_n hx hb dX4_tell_12 rfl (lv_at hl 0 rfl) ?_
    refine lv_ldc (v := (-1000000004 : Int32)) hx hb hown (hts _ q1342) dX4_tell_13 ?_
    obtain ⟨v7, S6, e5, h⟩ := bnd_some h
    refine gc0_i (va_runV (As := [.int (-1000000004 : Int32)]) (rest := []) ⟨hx, hb, hml, hown, hts⟩ (mX4_error (l := l) (D := D) (cA := cA) (o := o) (A := A) (-1000000004 : Int32) S e5) (cwV 1 hts (lw_V q1337 q1339 qs30 q90 q1340) rfl rfl rfl (by decide +kernel) ⟨Nat.le_of_ble_eq_true rfl, Nat.le_of_ble_eq_true rfl⟩) (gPreV mKst hK hA hS hP (mRecv hK hP)) rfl rfl hl.1 rfl (lv_room (Nat.le_of_ble_eq_true rfl)) dX4_tell_15 ⟨Nat.zero_le _, Nat.zero_le _⟩) hS (fun H locs hP hS => ?_)
    exact ret _ _ _ _ _ _ dX4_tell_18 rfl hP hS h

def bX4_tells_82 (x3 : Int32) (S : MS) : Option (Int32 × MS) :=
some (x3, S)
def bX4_tells_18 (k18 : Int32 → Int32 → MS → Option (Int32 × MS)) (x1 : Int32) (x3 : Int32) (S : MS) : Option (Int32 × MS) :=
chk (inB x1 4) ((if (mIA S 6 (x1).toNatClampNeg) ≤ x3 then
bX4_tells_82 x3 S
else
(if (mIA S 0 ((2 : Int32)).toNatClampNeg) ≤ x3 then
bX4_tells_82 x3 S
else
chk (inB (((24 : Int32) * x1) + x3) 96) (bnd (fX4_in (mIA S 7 ((((24 : Int32) * x1) + x3)).toNatClampNeg) (-20 : Int32) (20 : Int32) S) fun v7 S6 =>
(if v7 = 0 then
bX4_tells_82 x3 S6
else
chk (inB (((24 : Int32) * x1) + x3) 96) (bn1 (fX4_puts x3 (4 : Int32) (mIA S6 7 ((((24 : Int32) * x1) + x3)).toNatClampNeg) S6) fun S11 =>
nm (x3 + (1 : Int32)) fun y12 =>
k18 x1 y12 S11))))))
def lX4_tells_18 : Nat → (Int32 → Int32 → MS → Option (Int32 × MS))
  | 0 => fun _ _ _ => none
  | n + 1 => bX4_tells_18 (lX4_tells_18 n)
def fX4_tells (x1 : Int32) (S : MS) : Option (Int32 × MS) :=
bnd (fX4_notThere x1 S) fun v15 S14 =>
(if v15 = 0 then
lX4_tells_18 FU x1 (0 : Int32) S14
else
bnd (fX4_error v15 S14) fun v19 S18 =>
some (v19, S18))
set_option maxHeartbeats 4000000 in
set_option maxRecDepth 100000 in
theorem mX4_tells {l : Launch} {D : va_G} {cA : Nat → ClassId} {o : Nat → Nat} {A : Nat → Prop} (x1 : Int32) (S : MS) {out : (Int32 × MS)} (h : fX4_tells x1 S = some out) : Met l yX4_tells (ws_ yX4_tells cX4_tells 4 (some .int)) ({ frames := 3, cells := 0, slots := 0, locals := 63 } : Room) (gPc (mK D cA) (mP D cA o A) A [.ref (o 24), .int x1] S) (gQi (mK D cA) (mP D cA o A) A out) 0 0 A := by
  refine gMet_z (by decide) (Nat.le_of_ble_eq_true rfl) ?_ mKst
  intro p e s m below meth c Q ls args H locs hC hP hS hl ret
  obtain ⟨hx, hb, hml, hown, hts, hA, hK⟩ := hC
  have hown : s.vm.findClass RX4 = some m.cls := hown
  have hl : lv_has ls 4 [(0, .ref (o 24)), (1, .int x1)] := hl
  have B82 : ∀ (x3 : Int32) (S : MS) (H : Heap) (locs : List Loc) (ls : Array Slot), mP D cA o A S H → va_S A s.heap H locs → lv_has ls 4 [(0, .ref (o 24)), (3, .int x3)] → bX4_tells_82  x3 S = some out → W p l e ({ frames := 3, cells := 0, slots := 0, locals := 63 } : Room) s m args below meth c H locs 0 0 Q (F0 m 82 ls []) := by
    intro x3 S H locs ls hP hS hl h
    unfold bX4_tells_82 at h
    refine lv_iload_n hx hb dX4_tells_82 rfl (lv_at hl 1 rfl) ?_
    exact ret _ _ _ _ _ _ dX4_tells_83 rfl hP hS h
  have L18 : ∀ (n18 : Nat) (x1 : Int32) (x3 : Int32) (S : MS) (H : Heap) (locs : List Loc) (ls : Array Slot), mP D cA o A S H → va_S A s.heap H locs → lv_has ls 4 [(0, .ref (o 24)), (1, .int x1), (3, .int x3)] → lX4_tells_18 n18 x1 x3 S = some out → W p l e ({ frames := 3, cells := 0, slots := 0, locals := 63 } : Room) s m args below meth c H locs 0 0 Q (F0 m 18 ls []) := by
    intro n18
    induction n18 with
    | zero =>
      intro x1 x3 S H locs ls hP hS hl h
      cases h
    | succ n18 ih18 =>
      intro x1 x3 S H locs ls hP hS hl h
      replace h : bX4_tells_18 (lX4_tells_18 n18) x1 x3 S = some out := h
      unfold bX4_tells_18 at h
      refine lv_iload_n hx hb dX4_tells_18 rfl (lv_at hl 2 rfl) ?_
      refine lv_aload_n hx hb dX4_tells_19 rfl (lv_at hl 0 rfl) ?_
      refine va_get (D := D) (ci := 4) (v := .ref (o 6)) (C := RX4) (T := TX4) (N := 24) hx hb hts in_X4 hown hK hP.1 0 rfl rfl 6 (by decide) (hts _ q1255) (fun _ h9 => h9) rfl dX4_tells_20 ?_
      refine lv_iload_n hx hb dX4_tells_23 rfl (lv_at hl 1 rfl) ?_
      obtain ⟨g1, h⟩ := chk_some h
      refine va_iald hx hb hK hP.1 6 0 rfl rfl (inB_in g1) dX4_tells_24 ?_
      refine lv_icmp_ge (tgt := 82) hx hb dX4_tells_25 (by decide) (fun c2 => ?_) (fun c2 => ?_)
      · have h := ite_t c2 h
        exact B82 x3 S _ _ _ hP hS (lv_sub hl [0, 2] rfl) h
      · have h := ite_f c2 h
        refine lv_iload_n hx hb dX4_tells_28 rfl (lv_at hl 2 rfl) ?_
        refine lv_aload_n hx hb dX4_tells_29 rfl (lv_at hl 0 rfl) ?_
        refine va_get (D := D) (ci := 4) (v := .ref (o 0)) (C := RX4) (T := TX4) (N := 24) hx hb hts in_X4 hown hK hP.1 0 rfl rfl 0 (by decide) (hts _ q1249) (fun _ h9 => h9) rfl dX4_tells_30 ?_
        refine lv_iconst (v := (2 : Int32)) hx hb dX4_tells_33 (by decide) ?_
        refine va_iald hx hb hK hP.1 1 0 rfl rfl (inB_in (by decide)) dX4_tells_34 ?_
        refine lv_icmp_ge (tgt := 82) hx hb dX4_tells_35 (by decide) (fun c3 => ?_) (fun c3 => ?_)
        · have h := ite_t c3 h
          exact B82 x3 S _ _ _ hP hS (lv_sub hl [0, 2] rfl) h
        · have h := ite_f c3 h
          refine lv_aload_n hx hb dX4_tells_38 rfl (lv_at hl 0 rfl) ?_
          refine va_get (D := D) (ci := 4) (v := .ref (o 7)) (C := RX4) (T := TX4) (N := 24) hx hb hts in_X4 hown hK hP.1 0 rfl rfl 7 (by decide) (hts _ q1256) (fun _ h9 => h9) rfl dX4_tells_39 ?_
          refine lv_bipush (v := (24 : Int32)) hx hb dX4_tells_42 (by decide) ?_
          refine lv_iload_n hx hb dX4_tells_44 rfl (lv_at hl 1 rfl) ?_
          refine lv_imul hx hb dX4_tells_45 ?_
          refine lv_iload_n hx hb dX4_tells_46 rfl (lv_at hl 2 rfl) ?_
          refine lv_iadd hx hb dX4_tells_47 ?_
          obtain ⟨g4, h⟩ := chk_some h
          refine va_iald hx hb hK hP.1 7 0 rfl rfl (inB_in g4) dX4_tells_48 ?_
          refine lv_bipush (v := (-20 : Int32)) hx hb dX4_tells_49 (by decide) ?_
          refine lv_bipush (v := (20 : Int32)) hx hb dX4_tells_51 (by decide) ?_
          obtain ⟨v7, S6, e5, h⟩ := bnd_some h
          refine gc0_i (va_runS (As := [.int (mIA S 7 ((((24 : Int32) * x1) + x3)).toNatClampNeg), .int (-20 : Int32), .int (20 : Int32)]) (rest := []) ⟨hx, hb, hml, hown, hts⟩ (mX4_in (l := l) (D := D) (cA := cA) (o := o) (A := A) (mIA S 7 ((((24 : Int32) * x1) + x3)).toNatClampNeg) (-20 : Int32) (20 : Int32) S e5) (va_cwS 3 hts (lw_S q1329 q1330 q90 q1331) rfl rfl rfl (by decide +kernel) ⟨Nat.le_of_ble_eq_true rfl, Nat.le_of_ble_eq_true rfl⟩) (gPreS mKst hK hA hS hP) rfl rfl hl.1 rfl (lv_room (Nat.le_of_ble_eq_true rfl)) dX4_tells_53 ⟨Nat.zero_le _, Nat.zero_le _⟩) hS (fun H locs hP hS => ?_)
          refine lv_if_eq (tgt := 82) hx hb dX4_tells_56 (by decide) (fun c8 => ?_) (fun c8 => ?_)
          · have h := ite_t c8 h
            exact B82 x3 S6 _ _ _ hP hS (lv_sub hl [0, 2] rfl) h
          · have h := ite_f c8 h
            refine lv_aload_n hx hb dX4_tells_59 rfl (lv_at hl 0 rfl) ?_
            refine lv_iload_n hx hb dX4_tells_60 rfl (lv_at hl 2 rfl) ?_
            refine lv_iconst (v := (4 : Int32)) hx hb dX4_tells_61 (by decide) ?_
            refine lv_aload_n hx hb dX4_tells_62 rfl (lv_at hl 0 rfl) ?_
            refine va_get (D := D) (ci := 4) (v := .ref (o 7)) (C := RX4) (T := TX4) (N := 24) hx hb hts in_X4 hown hK hP.1 0 rfl rfl 7 (by decide) (hts _ q1256) (fun _ h9 => h9) rfl dX4_tells_63 ?_
            refine lv_bipush (v := (24 : Int32)) hx hb dX4_tells_66 (by decide) ?_
            refine lv_iload_n hx hb dX4_tells_68 rfl (lv_at hl 1 rfl) ?_
            refine lv_imul hx hb dX4_tells_69 ?_
            refine lv_iload_n hx hb dX4_tells_70 rfl (lv_at hl 2 rfl) ?_
            refine lv_iadd hx hb dX4_tells_71 ?_
            obtain ⟨g9, h⟩ := chk_some h
            refine va_iald hx hb hK hP.1 7 0 rfl rfl (inB_in g9) dX4_tells_72 ?_
            obtain ⟨S11, e10, h⟩ := bn1_some h
            refine gc0_v (va_runV (As := [.int x3, .int (4 : Int32), .int (mIA S6 7 ((((24 : Int32) * x1) + x3)).toNatClampNeg)]) (rest := []) ⟨hx, hb, hml, hown, hts⟩ (mX4_puts (l := l) (D := D) (cA := cA) (o := o) (A := A) x3 (4 : Int32) (mIA S6 7 ((((24 : Int32) * x1) + x3)).toNatClampNeg) S6 e10) (cwV 3 hts (lw_V q1343 q1345 qs31 q90 q1346) rfl rfl rfl (by decide +kernel) ⟨Nat.le_of_ble_eq_true rfl, Nat.le_of_ble_eq_true rfl⟩) (gPreV mKst hK hA hS hP (mRecv hK hP)) rfl rfl hl.1 rfl (lv_room (Nat.le_of_ble_eq_true rfl)) dX4_tells_73 ⟨Nat.zero_le _, Nat.zero_le _⟩) hS (fun H locs hP hS => ?_)
            obtain ⟨y12, ey12⟩ : ∃ y : Int32, y = x3 + (1 : Int32) := ⟨_, rfl⟩
            refine lv_iinc (v := y12) (lv' := [(3, .int y12), (0, .ref (o 24)), (1, .int x1)]) hx hb dX4_tells_76 hl (k := 2) rfl (by rw [ey12]; rfl) (by decide) rfl (fun ls hl => ?_)
            have h := nm_at ey12 h
            refine lv_goto (tgt := 18) hx hb dX4_tells_79 (by decide) ?_
            exact ih18 x1 y12 S11 _ _ _ hP hS (lv_sub hl [1, 2, 0] rfl) h
  unfold fX4_tells at h
  refine lv_aload_n hx hb dX4_tells_0 rfl (lv_at hl 0 rfl) ?_
  refine lv_iload_n hx hb dX4_tells_1 rfl (lv_at hl 1 rfl) ?_
  obtain ⟨v15, S14, e13, h⟩ := bnd_some h
  refine gc0_i (va_runV (As := [.int x1]) (rest := []) ⟨hx, hb, hml, hown, hts⟩ (mX4_notThere (l := l) (D := D) (cA := cA) (o := o) (A := A) x1 S e13) (cwV 1 hts (lw_V q1704 q1706 qs83 q90 q1707) rfl rfl rfl (by decide +kernel) ⟨Nat.le_of_ble_eq_true rfl, Nat.le_of_ble_eq_true rfl⟩) (gPreV mKst hK hA hS hP (mRecv hK hP)) rfl rfl hl.1 rfl (lv_room (Nat.le_of_ble_eq_true rfl)) dX4_tells_2 ⟨Nat.zero_le _, Nat.zero_le _⟩) hS (fun H locs hP hS => ?_)
  refine lv_istore_n (lv' := [(2, .int v15), (0, .ref (o 24)), (1, .int x1)]) hx hb dX4_tells_5 rfl hl (by decide) rfl (fun ls hl => ?_)
  refine lv_iload_n hx hb dX4_tells_6 rfl (lv_at hl 0 rfl) ?_
  refine lv_if_eq (tgt := 16) hx hb dX4_tells_7 (by decide) (fun c16 => ?_) (fun c16 => ?_)
  · have h := ite_t c16 h
    refine lv_iconst (v := (0 : Int32)) hx hb dX4_tells_16 (by decide) ?_
    refine lv_istore_n (lv' := [(3, .int (0 : Int32)), (2, .int v15), (0, .ref (o 24)), (1, .int x1)]) hx hb dX4_tells_17 rfl hl (by decide) rfl (fun ls hl => ?_)
    exact L18 FU x1 (0 : Int32) S14 _ _ _ hP hS (lv_sub hl [2, 3, 0] rfl) h
  · have h := ite_f c16 h
    refine lv_aload_n hx hb dX4_tells_10 rfl (lv_at hl 1 rfl) ?_
    refine lv_iload_n hx hb dX4_tells_11 rfl (lv_at hl 0 rfl) ?_
    obtain ⟨v19, S18, e17, h⟩ := bnd_some h
    refine gc0_i (va_runV (As := [.int v15]) (rest := []) ⟨hx, hb, hml, hown, hts⟩ (mX4_error (l := l) (D := D) (cA := cA) (o := o) (A := A) v15 S14 e17) (cwV 1 hts (lw_V q1337 q1339 qs30 q90 q1340) rfl rfl rfl (by decide +kernel) ⟨Nat.le_of_ble_eq_true rfl, Nat.le_of_ble_eq_true rfl⟩) (gPreV mKst hK hA hS hP (mRecv hK hP)) rfl rfl hl.1 rfl (lv_room (Nat.le_of_ble_eq_true rfl)) dX4_tells_12 ⟨Nat.zero_le _, Nat.zero_le _⟩) hS (fun H locs hP hS => ?_)
    exact ret _ _ _ _ _ _ dX4_tells_15 rfl hP hS h

def bX4_text_119 (k119 : Int32 → Int32 → MS → Option (Int32 × MS)) (x2 : Int32) (x3 : Int32) (S : MS) : Option (Int32 × MS) :=
(if (mIF S 16) ≤ x3 then
some ((1 : Int32), S)
else
chk (inB x3 60) (chk (inB ((x2 + (1 : Int32)) + x3) 382) (nm (sIA S 0 (upd (mIA S 0) (((x2 + (1 : Int32)) + x3)).toNatClampNeg (mIA S 12 (x3).toNatClampNeg))) fun S4 =>
chk (inB x3 60) (chk (inB ((x2 + (61 : Int32)) + x3) 382) (nm (sIA S4 0 (upd (mIA S4 0) (((x2 + (61 : Int32)) + x3)).toNatClampNeg (mIA S4 13 (x3).toNatClampNeg))) fun S7 =>
nm (x3 + (1 : Int32)) fun y8 =>
k119 x2 y8 S7)))))
def lX4_text_119 : Nat → (Int32 → Int32 → MS → Option (Int32 × MS))
  | 0 => fun _ _ _ => none
  | n + 1 => bX4_text_119 (lX4_text_119 n)
def bX4_text_72 (x1 : Int32) (t1 : Int32) (S : MS) : Option (Int32 × MS) :=
chk (isB t1) (nm (sIA (sIF S 19 t1) 0 (upd (mIA (sIF S 19 t1) 0) ((6 : Int32)).toNatClampNeg (0 : Int32))) fun S10 =>
(if (mIF S10 19) = 0 then
nm ((140 : Int32) + ((121 : Int32) * x1)) fun y12 =>
chk (inB y12 382) (nm (sIA S10 0 (upd (mIA S10 0) (y12).toNatClampNeg (mIF S10 16))) fun S14 =>
lX4_text_119 FU y12 (0 : Int32) S14)
else
some (((-10 : Int32) - (mIF S10 17)), S10)))
def bX4_text_67 (x1 : Int32) (S : MS) : Option (Int32 × MS) :=
bX4_text_72 x1 (1 : Int32) S
def fX4_text (x1 : Int32) (S : MS) : Option (Int32 × MS) :=
bnd (fX4_in x1 (0 : Int32) (1 : Int32) S) fun v17 S16 =>
(if v17 = 0 then
bnd (fX4_error (-1000000001 : Int32) S16) fun v25 S24 =>
some (v25, S24)
else
bn1 (fX4_any (fX4_opens DEP)  (sIF (sIF (sIF (sIF (sIF S16 20 x1) 16 (0 : Int32)) 17 (0 : Int32)) 18 (0 : Int32)) 19 (0 : Int32))) fun S20 =>
(if (mIF S20 19) = 0 then
(if (mIA S20 0 ((6 : Int32)).toNatClampNeg) ≤ (mIF S20 17) then
bX4_text_72 x1 (0 : Int32) S20
else
bX4_text_67 x1 S20)
else
bX4_text_67 x1 S20))
set_option maxHeartbeats 4000000 in
set_option maxRecDepth 100000 in
theorem mX4_text {l : Launch} {D : va_G} {cA : Nat → ClassId} {o : Nat → Nat} {A : Nat → Prop} (x1 : Int32) (S : MS) {out : (Int32 × MS)} (h : fX4_text x1 S = some out) : Met l yX4_text (ws_ yX4_text cX4_text 4 (some .int)) ({ frames := 64, cells := 0, slots := 0, locals := 1345 } : Room) (gPc (mK D cA) (mP D cA o A) A [.ref (o 24), .int x1] S) (gQi (mK D cA) (mP D cA o A) A out) 0 0 A := by
  refine gMet_z (by decide) (Nat.le_of_ble_eq_true rfl) ?_ mKst
  intro p e s m below meth c Q ls args H locs hC hP hS hl ret
  obtain ⟨hx, hb, hml, hown, hts, hA, hK⟩ := hC
  have hown : s.vm.findClass RX4 = some m.cls := hown
  have hl : lv_has ls 4 [(0, .ref (o 24)), (1, .int x1)] := hl
  have L119 : ∀ (n119 : Nat) (x2 : Int32) (x3 : Int32) (S : MS) (H : Heap) (locs : List Loc) (ls : Array Slot), mP D cA o A S H → va_S A s.heap H locs → lv_has ls 4 [(0, .ref (o 24)), (2, .int x2), (3, .int x3)] → lX4_text_119 n119 x2 x3 S = some out → W p l e ({ frames := 64, cells := 0, slots := 0, locals := 1345 } : Room) s m args below meth c H locs 0 0 Q (F0 m 119 ls []) := by
    intro n119
    induction n119 with
    | zero =>
      intro x2 x3 S H locs ls hP hS hl h
      cases h
    | succ n119 ih119 =>
      intro x2 x3 S H locs ls hP hS hl h
      replace h : bX4_text_119 (lX4_text_119 n119) x2 x3 S = some out := h
      unfold bX4_text_119 at h
      refine lv_iload_n hx hb dX4_text_119 rfl (lv_at hl 2 rfl) ?_
      refine lv_aload_n hx hb dX4_text_120 rfl (lv_at hl 0 rfl) ?_
      refine va_get (D := D) (ci := 4) (v := .int (mIF S 16)) (C := RX4) (T := TX4) (N := 24) hx hb hts in_X4 hown hK hP.1 0 rfl rfl 16 (by decide) (hts _ q1265) (fun _ h9 => h9) rfl dX4_text_121 ?_
      refine lv_icmp_ge (tgt := 166) hx hb dX4_text_124 (by decide) (fun c1 => ?_) (fun c1 => ?_)
      · have h := ite_t c1 h
        refine lv_iconst (v := (1 : Int32)) hx hb dX4_text_166 (by decide) ?_
        exact ret _ _ _ _ _ _ dX4_text_167 rfl hP hS h
      · have h := ite_f c1 h
        refine lv_aload_n hx hb dX4_text_127 rfl (lv_at hl 0 rfl) ?_
        refine va_get (D := D) (ci := 4) (v := .ref (o 0)) (C := RX4) (T := TX4) (N := 24) hx hb hts in_X4 hown hK hP.1 0 rfl rfl 0 (by decide) (hts _ q1249) (fun _ h9 => h9) rfl dX4_text_128 ?_
        refine lv_iload_n hx hb dX4_text_131 rfl (lv_at hl 1 rfl) ?_
        refine lv_iconst (v := (1 : Int32)) hx hb dX4_text_132 (by decide) ?_
        refine lv_iadd hx hb dX4_text_133 ?_
        refine lv_iload_n hx hb dX4_text_134 rfl (lv_at hl 2 rfl) ?_
        refine lv_iadd hx hb dX4_text_135 ?_
        refine lv_aload_n hx hb dX4_text_136 rfl (lv_at hl 0 rfl) ?_
        refine va_get (D := D) (ci := 4) (v := .ref (o 12)) (C := RX4) (T := TX4) (N := 24) hx hb hts in_X4 hown hK hP.1 0 rfl rfl 12 (by decide) (hts _ q1261) (fun _ h9 => h9) rfl dX4_text_137 ?_
        refine lv_iload_n hx hb dX4_text_140 rfl (lv_at hl 2 rfl) ?_
        obtain ⟨g2, h⟩ := chk_some h
        refine va_iald hx hb hK hP.1 11 0 rfl rfl (inB_in g2) dX4_text_141 ?_
        obtain ⟨g3, h⟩ := chk_some h
        refine va_iast hx hb hK hP.1 hP.2 hS 1 0 rfl rfl (inB_in g3) dX4_text_142 (fun H locs hP1 hD1 hS => ?_)
        obtain ⟨S4, eS4⟩ : ∃ y : MS, y = (sIA S 0 (upd (mIA S 0) (((x2 + (1 : Int32)) + x3)).toNatClampNeg (mIA S 12 (x3).toNatClampNeg))) := ⟨_, rfl⟩
        have hP : mP D cA o A S4 H := by rw [eS4]; exact ⟨hP1, hD1⟩
        have h := nm_at eS4 h
        refine lv_aload_n hx hb dX4_text_143 rfl (lv_at hl 0 rfl) ?_
        refine va_get (D := D) (ci := 4) (v := .ref (o 0)) (C := RX4) (T := TX4) (N := 24) hx hb hts in_X4 hown hK hP.1 0 rfl rfl 0 (by decide) (hts _ q1249) (fun _ h9 => h9) rfl dX4_text_144 ?_
        refine lv_iload_n hx hb dX4_text_147 rfl (lv_at hl 1 rfl) ?_
        refine lv_bipush (v := (61 : Int32)) hx hb dX4_text_148 (by decide) ?_
        refine lv_iadd hx hb dX4_text_150 ?_
        refine lv_iload_n hx hb dX4_text_151 rfl (lv_at hl 2 rfl) ?_
        refine lv_iadd hx hb dX4_text_152 ?_
        refine lv_aload_n hx hb dX4_text_153 rfl (lv_at hl 0 rfl) ?_
        refine va_get (D := D) (ci := 4) (v := .ref (o 13)) (C := RX4) (T := TX4) (N := 24) hx hb hts in_X4 hown hK hP.1 0 rfl rfl 13 (by decide) (hts _ q1262) (fun _ h9 => h9) rfl dX4_text_154 ?_
        refine lv_iload_n hx hb dX4_text_157 rfl (lv_at hl 2 rfl) ?_
        obtain ⟨g5, h⟩ := chk_some h
        refine va_iald hx hb hK hP.1 12 0 rfl rfl (inB_in g5) dX4_text_158 ?_
        obtain ⟨g6, h⟩ := chk_some h
        refine va_iast hx hb hK hP.1 hP.2 hS 1 0 rfl rfl (inB_in g6) dX4_text_159 (fun H locs hP1 hD1 hS => ?_)
        obtain ⟨S7, eS7⟩ : ∃ y : MS, y = (sIA S4 0 (upd (mIA S4 0) (((x2 + (61 : Int32)) + x3)).toNatClampNeg (mIA S4 13 (x3).toNatClampNeg))) := ⟨_, rfl⟩
        have hP : mP D cA o A S7 H := by rw [eS7]; exact ⟨hP1, hD1⟩
        have h := nm_at eS7 h
        obtain ⟨y8, ey8⟩ : ∃ y : Int32, y = x3 + (1 : Int32) := ⟨_, rfl⟩
        refine lv_iinc (v := y8) (lv' := [(3, .int y8), (0, .ref (o 24)), (2, .int x2)]) hx hb dX4_text_160 hl (k := 2) rfl (by rw [ey8]; rfl) (by decide) rfl (fun ls hl => ?_)
        have h := nm_at ey8 h
        refine lv_goto (tgt := 119) hx hb dX4_text_163 (by decide) ?_
        exact ih119 x2 y8 S7 _ _ _ hP hS (lv_sub hl [1, 2, 0] rfl) h
  have B72 : ∀ (x1 : Int32) (t1 : Int32) (S : MS) (H : Heap) (locs : List Loc) (ls : Array Slot), mP D cA o A S H → va_S A s.heap H locs → lv_has ls 4 [(0, .ref (o 24)), (1, .int x1)] → bX4_text_72  x1 t1 S = some out → W p l e ({ frames := 64, cells := 0, slots := 0, locals := 1345 } : Room) s m args below meth c H locs 0 0 Q (F0 m 72 ls [.int t1, .ref (o 24)]) := by
    intro x1 t1 S H locs ls hP hS hl h
    unfold bX4_text_72 at h
    obtain ⟨g9, h⟩ := chk_some h
    refine va_put (D := D) (ci := 4) (v := .int t1) (ty := .boolean) (C := RX4) (T := TX4) (N := 24) hx hb hts in_X4 tyX4 tyX4_ok nmX4 hown hK hP.1 hP.2 hS 0 rfl rfl 19 (by decide) (hts _ q1268) (fun _ h9 => h9) rfl (by decide +kernel) (isB_nar g9) (isB_fit g9) (Nat.le_of_ble_eq_true rfl) dX4_text_72 (fun H locs hP1 hD1 hS => ?_)
    have hP : mP D cA o A (sIF S 19 t1) H := ⟨hP1, hD1⟩
    refine lv_aload_n hx hb dX4_text_75 rfl (lv_at hl 0 rfl) ?_
    refine va_get (D := D) (ci := 4) (v := .ref (o 0)) (C := RX4) (T := TX4) (N := 24) hx hb hts in_X4 hown hK hP.1 0 rfl rfl 0 (by decide) (hts _ q1249) (fun _ h9 => h9) rfl dX4_text_76 ?_
    refine lv_bipush (v := (6 : Int32)) hx hb dX4_text_79 (by decide) ?_
    refine lv_iconst (v := (0 : Int32)) hx hb dX4_text_81 (by decide) ?_
    refine va_iast hx hb hK hP.1 hP.2 hS 1 0 rfl rfl (inB_in (by decide)) dX4_text_82 (fun H locs hP1 hD1 hS => ?_)
    obtain ⟨S10, eS10⟩ : ∃ y : MS, y = (sIA (sIF S 19 t1) 0 (upd (mIA (sIF S 19 t1) 0) ((6 : Int32)).toNatClampNeg (0 : Int32))) := ⟨_, rfl⟩
    have hP : mP D cA o A S10 H := by rw [eS10]; exact ⟨hP1, hD1⟩
    have h := nm_at eS10 h
    refine lv_aload_n hx hb dX4_text_83 rfl (lv_at hl 0 rfl) ?_
    refine va_get (D := D) (ci := 4) (v := .int (mIF S10 19)) (C := RX4) (T := TX4) (N := 24) hx hb hts in_X4 hown hK hP.1 0 rfl rfl 19 (by decide) (hts _ q1268) (fun _ h9 => h9) rfl dX4_text_84 ?_
    refine lv_if_eq (tgt := 98) hx hb dX4_text_87 (by decide) (fun c11 => ?_) (fun c11 => ?_)
    · have h := ite_t c11 h
      refine lv_sipush (v := (140 : Int32)) hx hb dX4_text_98 (by decide) ?_
      refine lv_bipush (v := (121 : Int32)) hx hb dX4_text_101 (by decide) ?_
      refine lv_iload_n hx hb dX4_text_103 rfl (lv_at hl 1 rfl) ?_
      refine lv_imul hx hb dX4_text_104 ?_
      refine lv_iadd hx hb dX4_text_105 ?_
      refine lv_topi (fun y12 ey12 => ?_)
      have h := nm_at ey12 h
      refine lv_istore_n (lv' := [(2, .int y12), (0, .ref (o 24)), (1, .int x1)]) hx hb dX4_text_106 rfl hl (by decide) rfl (fun ls hl => ?_)
      refine lv_aload_n hx hb dX4_text_107 rfl (lv_at hl 1 rfl) ?_
      refine va_get (D := D) (ci := 4) (v := .ref (o 0)) (C := RX4) (T := TX4) (N := 24) hx hb hts in_X4 hown hK hP.1 0 rfl rfl 0 (by decide) (hts _ q1249) (fun _ h9 => h9) rfl dX4_text_108 ?_
      refine lv_iload_n hx hb dX4_text_111 rfl (lv_at hl 0 rfl) ?_
      refine lv_aload_n hx hb dX4_text_112 rfl (lv_at hl 1 rfl) ?_
      refine va_get (D := D) (ci := 4) (v := .int (mIF S10 16)) (C := RX4) (T := TX4) (N := 24) hx hb hts in_X4 hown hK hP.1 0 rfl rfl 16 (by decide) (hts _ q1265) (fun _ h9 => h9) rfl dX4_text_113 ?_
      obtain ⟨g13, h⟩ := chk_some h
      refine va_iast hx hb hK hP.1 hP.2 hS 1 0 rfl rfl (inB_in g13) dX4_text_116 (fun H locs hP1 hD1 hS => ?_)
      obtain ⟨S14, eS14⟩ : ∃ y : MS, y = (sIA S10 0 (upd (mIA S10 0) (y12).toNatClampNeg (mIF S10 16))) := ⟨_, rfl⟩
      have hP : mP D cA o A S14 H := by rw [eS14]; exact ⟨hP1, hD1⟩
      have h := nm_at eS14 h
      refine lv_iconst (v := (0 : Int32)) hx hb dX4_text_117 (by decide) ?_
      refine lv_istore_n (lv' := [(3, .int (0 : Int32)), (2, .int y12), (0, .ref (o 24)), (1, .int x1)]) hx hb dX4_text_118 rfl hl (by decide) rfl (fun ls hl => ?_)
      exact L119 FU y12 (0 : Int32) S14 _ _ _ hP hS (lv_sub hl [2, 1, 0] rfl) h
    · have h := ite_f c11 h
      refine lv_bipush (v := (-10 : Int32)) hx hb dX4_text_90 (by decide) ?_
      refine lv_aload_n hx hb dX4_text_92 rfl (lv_at hl 0 rfl) ?_
      refine va_get (D := D) (ci := 4) (v := .int (mIF S10 17)) (C := RX4) (T := TX4) (N := 24) hx hb hts in_X4 hown hK hP.1 0 rfl rfl 17 (by decide) (hts _ q1266) (fun _ h9 => h9) rfl dX4_text_93 ?_
      refine lv_isub hx hb dX4_text_96 ?_
      exact ret _ _ _ _ _ _ dX4_text_97 rfl hP hS h
  have B67 : ∀ (x1 : Int32) (S : MS) (H : Heap) (locs : List Loc) (ls : Array Slot), mP D cA o A S H → va_S A s.heap H locs → lv_has ls 4 [(0, .ref (o 24)), (1, .int x1)] → bX4_text_67  x1 S = some out → W p l e ({ frames := 64, cells := 0, slots := 0, locals := 1345 } : Room) s m args below meth c H locs 0 0 Q (F0 m 67 ls [.ref (o 24)]) := by
    intro x1 S H locs ls hP hS hl h
    unfold bX4_text_67 at h
    refine lv_iconst (v := (1 : Int32)) hx hb dX4_text_67 (by decide) ?_
    refine lv_goto (tgt := 72) hx hb dX4_text_68 (by decide) ?_
    exact B72 x1 (1 : Int32) S _ _ _ hP hS hl h
  unfold fX4_text at h
  refine lv_iload_n hx hb dX4_text_0 rfl (lv_at hl 1 rfl) ?_
  refine lv_iconst (v := (0 : Int32)) hx hb dX4_text_1 (by decide) ?_
  refine lv_iconst (v := (1 : Int32)) hx hb dX4_text_2 (by decide) ?_
  obtain ⟨v17, S16, e15, h⟩ := bnd_some h
  refine gc0_i (va_runS (As := [.int x1, .int (0 : Int32), .int (1 : Int32)]) (rest := []) ⟨hx, hb, hml, hown, hts⟩ (mX4_in (l := l) (D := D) (cA := cA) (o := o) (A := A) x1 (0 : Int32) (1 : Int32) S e15) (va_cwS 3 hts (lw_S q1329 q1330 q90 q1331) rfl rfl rfl (by decide +kernel) ⟨Nat.le_of_ble_eq_true rfl, Nat.le_of_ble_eq_true rfl⟩) (gPreS mKst hK hA hS hP) rfl rfl hl.1 rfl (lv_room (Nat.le_of_ble_eq_true rfl)) dX4_text_3 ⟨Nat.zero_le _, Nat.zero_le _⟩) hS (fun H locs hP hS => ?_)
  refine lv_if_ne (tgt := 16) hx hb dX4_text_6 (by decide) (fun c18 => ?_) (fun c18 => ?_)
  · have h := ite_f c18 h
    refine lv_aload_n hx hb dX4_text_16 rfl (lv_at hl 0 rfl) ?_
    refine lv_iload_n hx hb dX4_text_17 rfl (lv_at hl 1 rfl) ?_
    refine va_put (D := D) (ci := 4) (v := .int x1) (ty := .int) (C := RX4) (T := TX4) (N := 24) hx hb hts in_X4 tyX4 tyX4_ok nmX4 hown hK hP.1 hP.2 hS 0 rfl rfl 20 (by decide) (hts _ q1269) (fun _ h9 => h9) rfl (by decide +kernel) rfl rfl (Nat.le_of_ble_eq_true rfl) dX4_text_18 (fun H locs hP1 hD1 hS => ?_)
    have hP : mP D cA o A (sIF S16 20 x1) H := ⟨hP1, hD1⟩
    refine lv_aload_n hx hb dX4_text_21 rfl (lv_at hl 0 rfl) ?_
    refine lv_iconst (v := (0 : Int32)) hx hb dX4_text_22 (by decide) ?_
    refine va_put (D := D) (ci := 4) (v := .int (0 : Int32)) (ty := .int) (C := RX4) (T := TX4) (N := 24) hx hb hts in_X4 tyX4 tyX4_ok nmX4 hown hK hP.1 hP.2 hS 0 rfl rfl 16 (by decide) (hts _ q1265) (fun _ h9 => h9) rfl (by decide +kernel) rfl rfl (Nat.le_of_ble_eq_true rfl) dX4_text_23 (fun H locs hP1 hD1 hS => ?_)
    have hP : mP D cA o A (sIF (sIF S16 20 x1) 16 (0 : Int32)) H := ⟨hP1, hD1⟩
    refine lv_aload_n hx hb dX4_text_26 rfl (lv_at hl 0 rfl) ?_
    refine lv_iconst (v := (0 : Int32)) hx hb dX4_text_27 (by decide) ?_
    refine va_put (D := D) (ci := 4) (v := .int (0 : Int32)) (ty := .int) (C := RX4) (T := TX4) (N := 24) hx hb hts in_X4 tyX4 tyX4_ok nmX4 hown hK hP.1 hP.2 hS 0 rfl rfl 17 (by decide) (hts _ q1266) (fun _ h9 => h9) rfl (by decide +kernel) rfl rfl (Nat.le_of_ble_eq_true rfl) dX4_text_28 (fun H locs hP1 hD1 hS => ?_)
    have hP : mP D cA o A (sIF (sIF (sIF S16 20 x1) 16 (0 : Int32)) 17 (0 : Int32)) H := ⟨hP1, hD1⟩
    refine lv_aload_n hx hb dX4_text_31 rfl (lv_at hl 0 rfl) ?_
    refine lv_iconst (v := (0 : Int32)) hx hb dX4_text_32 (by decide) ?_
    refine va_put (D := D) (ci := 4) (v := .int (0 : Int32)) (ty := .int) (C := RX4) (T := TX4) (N := 24) hx hb hts in_X4 tyX4 tyX4_ok nmX4 hown hK hP.1 hP.2 hS 0 rfl rfl 18 (by decide) (hts _ q1267) (fun _ h9 => h9) rfl (by decide +kernel) rfl rfl (Nat.le_of_ble_eq_true rfl) dX4_text_33 (fun H locs hP1 hD1 hS => ?_)
    have hP : mP D cA o A (sIF (sIF (sIF (sIF S16 20 x1) 16 (0 : Int32)) 17 (0 : Int32)) 18 (0 : Int32)) H := ⟨hP1, hD1⟩
    refine lv_aload_n hx hb dX4_text_36 rfl (lv_at hl 0 rfl) ?_
    refine lv_iconst (v := (0 : Int32)) hx hb dX4_text_37 (by decide) ?_
    refine va_put (D := D) (ci := 4) (v := .int (0 : Int32)) (ty := .boolean) (C := RX4) (T := TX4) (N := 24) hx hb hts in_X4 tyX4 tyX4_ok nmX4 hown hK hP.1 hP.2 hS 0 rfl rfl 19 (by decide) (hts _ q1268) (fun _ h9 => h9) rfl (by decide +kernel) rfl rfl (Nat.le_of_ble_eq_true rfl) dX4_text_38 (fun H locs hP1 hD1 hS => ?_)
    have hP : mP D cA o A (sIF (sIF (sIF (sIF (sIF S16 20 x1) 16 (0 : Int32)) 17 (0 : Int32)) 18 (0 : Int32)) 19 (0 : Int32)) H := ⟨hP1, hD1⟩
    refine lv_aload_n hx hb dX4_text_41 rfl (lv_at hl 0 rfl) ?_
    obtain ⟨S20, e19, h⟩ := bn1_some h
    refine gc0_v (va_runV (As := []) (rest := []) ⟨hx, hb, hml, hown, hts⟩ (mX4_any (l := l) (D := D) (cA := cA) (o := o) (A := A) DEP (fX4_opens DEP) (fun a0 S out h => mX4_opens DEP a0 S h)  (sIF (sIF (sIF (sIF (sIF S16 20 x1) 16 (0 : Int32)) 17 (0 : Int32)) 18 (0 : Int32)) 19 (0 : Int32)) e19) (cwV 0 hts (lw_V q1432 q1434 qs42 q90 q1435) rfl rfl rfl (by decide +kernel) ⟨Nat.le_of_ble_eq_true rfl, Nat.le_of_ble_eq_true rfl⟩) (gPreV mKst hK hA hS hP (mRecv hK hP)) rfl rfl hl.1 rfl (lv_room (Nat.le_of_ble_eq_true rfl)) dX4_text_42 ⟨Nat.zero_le _, Nat.zero_le _⟩) hS (fun H locs hP hS => ?_)
    refine lv_aload_n hx hb dX4_text_45 rfl (lv_at hl 0 rfl) ?_
    refine lv_aload_n hx hb dX4_text_46 rfl (lv_at hl 0 rfl) ?_
    refine va_get (D := D) (ci := 4) (v := .int (mIF S20 19)) (C := RX4) (T := TX4) (N := 24) hx hb hts in_X4 hown hK hP.1 0 rfl rfl 19 (by decide) (hts _ q1268) (fun _ h9 => h9) rfl dX4_text_47 ?_
    refine lv_if_ne (tgt := 67) hx hb dX4_text_50 (by decide) (fun c21 => ?_) (fun c21 => ?_)
    · have h := ite_f c21 h
      exact B67 x1 S20 _ _ _ hP hS hl h
    · have h := ite_t c21 h
      refine lv_aload_n hx hb dX4_text_53 rfl (lv_at hl 0 rfl) ?_
      refine va_get (D := D) (ci := 4) (v := .int (mIF S20 17)) (C := RX4) (T := TX4) (N := 24) hx hb hts in_X4 hown hK hP.1 0 rfl rfl 17 (by decide) (hts _ q1266) (fun _ h9 => h9) rfl dX4_text_54 ?_
      refine lv_aload_n hx hb dX4_text_57 rfl (lv_at hl 0 rfl) ?_
      refine va_get (D := D) (ci := 4) (v := .ref (o 0)) (C := RX4) (T := TX4) (N := 24) hx hb hts in_X4 hown hK hP.1 0 rfl rfl 0 (by decide) (hts _ q1249) (fun _ h9 => h9) rfl dX4_text_58 ?_
      refine lv_bipush (v := (6 : Int32)) hx hb dX4_text_61 (by decide) ?_
      refine va_iald hx hb hK hP.1 1 0 rfl rfl (inB_in (by decide)) dX4_text_63 ?_
      refine lv_icmp_ge (tgt := 71) hx hb dX4_text_64 (by decide) (fun c22 => ?_) (fun c22 => ?_)
      · have h := ite_t c22 h
        refine lv_iconst (v := (0 : Int32)) hx hb dX4_text_71 (by decide) ?_
        exact B72 x1 (0 : Int32) S20 _ _ _ hP hS hl h
      · have h := ite_f c22 h
        exact B67 x1 S20 _ _ _ hP hS hl h
  · have h := ite_t c18 h
    refine lv_aload_n hx hb dX4_text_9 rfl (lv_at hl 0 rfl) ?_
    refine lv_ldc (v := (-1000000001 : Int32)) hx hb hown (hts _ q1336) dX4_text_10 ?_
    obtain ⟨v25, S24, e23, h⟩ := bnd_some h
    refine gc0_i (va_runV (As := [.int (-1000000001 : Int32)]) (rest := []) ⟨hx, hb, hml, hown, hts⟩ (mX4_error (l := l) (D := D) (cA := cA) (o := o) (A := A) (-1000000001 : Int32) S16 e23) (cwV 1 hts (lw_V q1337 q1339 qs30 q90 q1340) rfl rfl rfl (by decide +kernel) ⟨Nat.le_of_ble_eq_true rfl, Nat.le_of_ble_eq_true rfl⟩) (gPreV mKst hK hA hS hP (mRecv hK hP)) rfl rfl hl.1 rfl (lv_room (Nat.le_of_ble_eq_true rfl)) dX4_text_12 ⟨Nat.zero_le _, Nat.zero_le _⟩) hS (fun H locs hP hS => ?_)
    exact ret _ _ _ _ _ _ dX4_text_15 rfl hP hS h

def bX4_then_19 (S : MS) : Option (Int32 × MS) :=
bnd (fX4_error (-1000000001 : Int32) S) fun v3 S2 =>
some (v3, S2)
def bX4_then_68 (t0 : Int32) (S : MS) : Option (Int32 × MS) :=
bn1 (fX4_putsBack  S) fun S5 =>
some (t0, S5)
def fX4_then (x1 : Int32) (x2 : Int32) (S : MS) : Option (Int32 × MS) :=
bnd (fX4_in x1 (0 : Int32) (60 : Int32) S) fun v8 S7 =>
(if v8 = 0 then
bX4_then_19 S7
else
bnd (fX4_in x2 (0 : Int32) (2 : Int32) S7) fun v12 S11 =>
(if v12 = 0 then
bX4_then_19 S11
else
bn1 (fX4_thinks  S11) fun S15 =>
bn1 (fX4_goesFor x1 S15) fun S17 =>
(if x2 = (2 : Int32) then
bX4_then_68 (mIA S17 0 ((5 : Int32)).toNatClampNeg) S17
else
(if x2 = (1 : Int32) then
bnd (fX4_onOnes  S17) fun v28 S27 =>
bX4_then_68 v28 S27
else
bnd (fX4_onOnes  S17) fun v22 S21 =>
bnd (fX4_bits v22 S21) fun v25 S24 =>
bX4_then_68 v25 S24))))
set_option maxHeartbeats 4000000 in
set_option maxRecDepth 100000 in
theorem mX4_then {l : Launch} {D : va_G} {cA : Nat → ClassId} {o : Nat → Nat} {A : Nat → Prop} (x1 : Int32) (x2 : Int32) (S : MS) {out : (Int32 × MS)} (h : fX4_then x1 x2 S = some out) : Met l yX4_then (ws_ yX4_then cX4_then 4 (some .int)) ({ frames := 12, cells := 0, slots := 0, locals := 343 } : Room) (gPc (mK D cA) (mP D cA o A) A [.ref (o 24), .int x1, .int x2] S) (gQi (mK D cA) (mP D cA o A) A out) 0 0 A := by
  refine gMet_z (by decide) (Nat.le_of_ble_eq_true rfl) ?_ mKst
  intro p e s m below meth c Q ls args H locs hC hP hS hl ret
  obtain ⟨hx, hb, hml, hown, hts, hA, hK⟩ := hC
  have hown : s.vm.findClass RX4 = some m.cls := hown
  have hl : lv_has ls 4 [(0, .ref (o 24)), (1, .int x1), (2, .int x2)] := hl
  have B19 : ∀  (S : MS) (H : Heap) (locs : List Loc) (ls : Array Slot), mP D cA o A S H → va_S A s.heap H locs → lv_has ls 4 [(0, .ref (o 24))] → bX4_then_19   S = some out → W p l e ({ frames := 12, cells := 0, slots := 0, locals := 343 } : Room) s m args below meth c H locs 0 0 Q (F0 m 19 ls []) := by
    intro  S H locs ls hP hS hl h
    unfold bX4_then_19 at h
    refine lv_aload_n hx hb dX4_then_19 rfl (lv_at hl 0 rfl) ?_
    refine lv_ldc (v := (-1000000001 : Int32)) hx hb hown (hts _ q1336) dX4_then_20 ?_
    obtain ⟨v3, S2, e1, h⟩ := bnd_some h
    refine gc0_i (va_runV (As := [.int (-1000000001 : Int32)]) (rest := []) ⟨hx, hb, hml, hown, hts⟩ (mX4_error (l := l) (D := D) (cA := cA) (o := o) (A := A) (-1000000001 : Int32) S e1) (cwV 1 hts (lw_V q1337 q1339 qs30 q90 q1340) rfl rfl rfl (by decide +kernel) ⟨Nat.le_of_ble_eq_true rfl, Nat.le_of_ble_eq_true rfl⟩) (gPreV mKst hK hA hS hP (mRecv hK hP)) rfl rfl hl.1 rfl (lv_room (Nat.le_of_ble_eq_true rfl)) dX4_then_22 ⟨Nat.zero_le _, Nat.zero_le _⟩) hS (fun H locs hP hS => ?_)
    exact ret _ _ _ _ _ _ dX4_then_25 rfl hP hS h
  have B68 : ∀ (t0 : Int32) (S : MS) (H : Heap) (locs : List Loc) (ls : Array Slot), mP D cA o A S H → va_S A s.heap H locs → lv_has ls 4 [(0, .ref (o 24))] → bX4_then_68  t0 S = some out → W p l e ({ frames := 12, cells := 0, slots := 0, locals := 343 } : Room) s m args below meth c H locs 0 0 Q (F0 m 68 ls [.int t0]) := by
    intro t0 S H locs ls hP hS hl h
    unfold bX4_then_68 at h
    refine lv_istore_n (lv' := [(3, .int t0), (0, .ref (o 24))]) hx hb dX4_then_68 rfl hl (by decide) rfl (fun ls hl => ?_)
    refine lv_aload_n hx hb dX4_then_69 rfl (lv_at hl 1 rfl) ?_
    obtain ⟨S5, e4, h⟩ := bn1_some h
    refine gc0_v (va_runV (As := []) (rest := []) ⟨hx, hb, hml, hown, hts⟩ (mX4_putsBack (l := l) (D := D) (cA := cA) (o := o) (A := A)  S e4) (cwV 0 hts (lw_V q1605 q1607 qs69 q90 q1608) rfl rfl rfl (by decide +kernel) ⟨Nat.le_of_ble_eq_true rfl, Nat.le_of_ble_eq_true rfl⟩) (gPreV mKst hK hA hS hP (mRecv hK hP)) rfl rfl hl.1 rfl (lv_room (Nat.le_of_ble_eq_true rfl)) dX4_then_70 ⟨Nat.zero_le _, Nat.zero_le _⟩) hS (fun H locs hP hS => ?_)
    refine lv_iload_n hx hb dX4_then_73 rfl (lv_at hl 0 rfl) ?_
    exact ret _ _ _ _ _ _ dX4_then_74 rfl hP hS h
  unfold fX4_then at h
  refine lv_iload_n hx hb dX4_then_0 rfl (lv_at hl 1 rfl) ?_
  refine lv_iconst (v := (0 : Int32)) hx hb dX4_then_1 (by decide) ?_
  refine lv_bipush (v := (60 : Int32)) hx hb dX4_then_2 (by decide) ?_
  obtain ⟨v8, S7, e6, h⟩ := bnd_some h
  refine gc0_i (va_runS (As := [.int x1, .int (0 : Int32), .int (60 : Int32)]) (rest := []) ⟨hx, hb, hml, hown, hts⟩ (mX4_in (l := l) (D := D) (cA := cA) (o := o) (A := A) x1 (0 : Int32) (60 : Int32) S e6) (va_cwS 3 hts (lw_S q1329 q1330 q90 q1331) rfl rfl rfl (by decide +kernel) ⟨Nat.le_of_ble_eq_true rfl, Nat.le_of_ble_eq_true rfl⟩) (gPreS mKst hK hA hS hP) rfl rfl hl.1 rfl (lv_room (Nat.le_of_ble_eq_true rfl)) dX4_then_4 ⟨Nat.zero_le _, Nat.zero_le _⟩) hS (fun H locs hP hS => ?_)
  refine lv_if_eq (tgt := 19) hx hb dX4_then_7 (by decide) (fun c9 => ?_) (fun c9 => ?_)
  · have h := ite_t c9 h
    exact B19 S7 _ _ _ hP hS (lv_sub hl [0] rfl) h
  · have h := ite_f c9 h
    refine lv_iload_n hx hb dX4_then_10 rfl (lv_at hl 2 rfl) ?_
    refine lv_iconst (v := (0 : Int32)) hx hb dX4_then_11 (by decide) ?_
    refine lv_iconst (v := (2 : Int32)) hx hb dX4_then_12 (by decide) ?_
    obtain ⟨v12, S11, e10, h⟩ := bnd_some h
    refine gc0_i (va_runS (As := [.int x2, .int (0 : Int32), .int (2 : Int32)]) (rest := []) ⟨hx, hb, hml, hown, hts⟩ (mX4_in (l := l) (D := D) (cA := cA) (o := o) (A := A) x2 (0 : Int32) (2 : Int32) S7 e10) (va_cwS 3 hts (lw_S q1329 q1330 q90 q1331) rfl rfl rfl (by decide +kernel) ⟨Nat.le_of_ble_eq_true rfl, Nat.le_of_ble_eq_true rfl⟩) (gPreS mKst hK hA hS hP) rfl rfl hl.1 rfl (lv_room (Nat.le_of_ble_eq_true rfl)) dX4_then_13 ⟨Nat.zero_le _, Nat.zero_le _⟩) hS (fun H locs hP hS => ?_)
    refine lv_if_ne (tgt := 26) hx hb dX4_then_16 (by decide) (fun c13 => ?_) (fun c13 => ?_)
    · have h := ite_f c13 h
      refine lv_aload_n hx hb dX4_then_26 rfl (lv_at hl 0 rfl) ?_
      obtain ⟨S15, e14, h⟩ := bn1_some h
      refine gc0_v (va_runV (As := []) (rest := []) ⟨hx, hb, hml, hown, hts⟩ (mX4_thinks (l := l) (D := D) (cA := cA) (o := o) (A := A)  S11 e14) (cwV 0 hts (lw_V q1598 q1600 qs68 q90 q1601) rfl rfl rfl (by decide +kernel) ⟨Nat.le_of_ble_eq_true rfl, Nat.le_of_ble_eq_true rfl⟩) (gPreV mKst hK hA hS hP (mRecv hK hP)) rfl rfl hl.1 rfl (lv_room (Nat.le_of_ble_eq_true rfl)) dX4_then_27 ⟨Nat.zero_le _, Nat.zero_le _⟩) hS (fun H locs hP hS => ?_)
      refine lv_aload_n hx hb dX4_then_30 rfl (lv_at hl 0 rfl) ?_
      refine lv_iload_n hx hb dX4_then_31 rfl (lv_at hl 1 rfl) ?_
      obtain ⟨S17, e16, h⟩ := bn1_some h
      refine gc0_v (va_runV (As := [.int x1]) (rest := []) ⟨hx, hb, hml, hown, hts⟩ (mX4_goesFor (l := l) (D := D) (cA := cA) (o := o) (A := A) x1 S15 e16) (cwV 1 hts (lw_V q1488 q1490 qs53 q90 q1491) rfl rfl rfl (by decide +kernel) ⟨Nat.le_of_ble_eq_true rfl, Nat.le_of_ble_eq_true rfl⟩) (gPreV mKst hK hA hS hP (mRecv hK hP)) rfl rfl hl.1 rfl (lv_room (Nat.le_of_ble_eq_true rfl)) dX4_then_32 ⟨Nat.zero_le _, Nat.zero_le _⟩) hS (fun H locs hP hS => ?_)
      refine lv_iload_n hx hb dX4_then_35 rfl (lv_at hl 2 rfl) ?_
      refine lv_iconst (v := (2 : Int32)) hx hb dX4_then_36 (by decide) ?_
      refine lv_icmp_ne (tgt := 49) hx hb dX4_then_37 (by decide) (fun c18 => ?_) (fun c18 => ?_)
      · have h := ite_f c18 h
        refine lv_iload_n hx hb dX4_then_49 rfl (lv_at hl 2 rfl) ?_
        refine lv_iconst (v := (1 : Int32)) hx hb dX4_then_50 (by decide) ?_
        refine lv_icmp_ne (tgt := 61) hx hb dX4_then_51 (by decide) (fun c19 => ?_) (fun c19 => ?_)
        · have h := ite_f c19 h
          refine lv_aload_n hx hb dX4_then_61 rfl (lv_at hl 0 rfl) ?_
          obtain ⟨v22, S21, e20, h⟩ := bnd_some h
          refine gc0_i (va_runV (As := []) (rest := []) ⟨hx, hb, hml, hown, hts⟩ (mX4_onOnes (l := l) (D := D) (cA := cA) (o := o) (A := A)  S17 e20) (cwV 0 hts (lw_V q1500 q1502 qs56 q90 q1503) rfl rfl rfl (by decide +kernel) ⟨Nat.le_of_ble_eq_true rfl, Nat.le_of_ble_eq_true rfl⟩) (gPreV mKst hK hA hS hP (mRecv hK hP)) rfl rfl hl.1 rfl (lv_room (Nat.le_of_ble_eq_true rfl)) dX4_then_62 ⟨Nat.zero_le _, Nat.zero_le _⟩) hS (fun H locs hP hS => ?_)
          obtain ⟨v25, S24, e23, h⟩ := bnd_some h
          refine gc0_i (va_runS (As := [.int v22]) (rest := []) ⟨hx, hb, hml, hown, hts⟩ (mX4_bits (l := l) (D := D) (cA := cA) (o := o) (A := A) v22 S21 e23) (va_cwS 1 hts (lw_S q1532 q1533 q90 q1534) rfl rfl rfl (by decide +kernel) ⟨Nat.le_of_ble_eq_true rfl, Nat.le_of_ble_eq_true rfl⟩) (gPreS mKst hK hA hS hP) rfl rfl hl.1 rfl (lv_room (Nat.le_of_ble_eq_true rfl)) dX4_then_65 ⟨Nat.zero_le _, Nat.zero_le _⟩) hS (fun H locs hP hS => ?_)
          exact B68 v25 S24 _ _ _ hP hS (lv_sub hl [0] rfl) h
        · have h := ite_t c19 h
          refine lv_aload_n hx hb dX4_then_54 rfl (lv_at hl 0 rfl) ?_
          obtain ⟨v28, S27, e26, h⟩ := bnd_some h
          refine gc0_i (va_runV (As := []) (rest := []) ⟨hx, hb, hml, hown, hts⟩ (mX4_onOnes (l := l) (D := D) (cA := cA) (o := o) (A := A)  S17 e26) (cwV 0 hts (lw_V q1500 q1502 qs56 q90 q1503) rfl rfl rfl (by decide +kernel) ⟨Nat.le_of_ble_eq_true rfl, Nat.le_of_ble_eq_true rfl⟩) (gPreV mKst hK hA hS hP (mRecv hK hP)) rfl rfl hl.1 rfl (lv_room (Nat.le_of_ble_eq_true rfl)) dX4_then_55 ⟨Nat.zero_le _, Nat.zero_le _⟩) hS (fun H locs hP hS => ?_)
          refine lv_goto (tgt := 68) hx hb dX4_then_58 (by decide) ?_
          exact B68 v28 S27 _ _ _ hP hS (lv_sub hl [0] rfl) h
      · have h := ite_t c18 h
        refine lv_aload_n hx hb dX4_then_40 rfl (lv_at hl 0 rfl) ?_
        refine va_get (D := D) (ci := 4) (v := .ref (o 0)) (C := RX4) (T := TX4) (N := 24) hx hb hts in_X4 hown hK hP.1 0 rfl rfl 0 (by decide) (hts _ q1249) (fun _ h9 => h9) rfl dX4_then_41 ?_
        refine lv_iconst (v := (5 : Int32)) hx hb dX4_then_44 (by decide) ?_
        refine va_iald hx hb hK hP.1 1 0 rfl rfl (inB_in (by decide)) dX4_then_45 ?_
        refine lv_goto (tgt := 68) hx hb dX4_then_46 (by decide) ?_
        exact B68 (mIA S17 0 ((5 : Int32)).toNatClampNeg) S17 _ _ _ hP hS (lv_sub hl [0] rfl) h
    · have h := ite_t c13 h
      exact B19 S11 _ _ _ hP hS (lv_sub hl [0] rfl) h

def fX4_ties (x1 : Int32) (x2 : Int32) (S : MS) : Option (Int32 × MS) :=
bnd (fX4_of x1 (0 : Int32) S) fun v3 S2 =>
(if v3 = (3 : Int32) then
bn1 (fX4_begins (40 : Int32) S2) fun S6 =>
bnd (fX4_plainTies x1 (x2 / (2 : Int32)) S6) fun v9 S8 =>
some (v9, S8)
else
(if v3 = (4 : Int32) then
bn1 (fX4_begins (51 : Int32) S2) fun S12 =>
bnd (fX4_plainTies x1 x2 S12) fun v15 S14 =>
some ((v15 ^^^ x1), S14)
else
bnd (fX4_plainTies x1 x2 S2) fun v18 S17 =>
some (v18, S17)))
set_option maxHeartbeats 4000000 in
set_option maxRecDepth 100000 in
theorem mX4_ties {l : Launch} {D : va_G} {cA : Nat → ClassId} {o : Nat → Nat} {A : Nat → Prop} (x1 : Int32) (x2 : Int32) (S : MS) {out : (Int32 × MS)} (h : fX4_ties x1 x2 S = some out) : Met l yX4_ties (ws_ yX4_ties cX4_ties 3 (some .int)) ({ frames := 8, cells := 0, slots := 0, locals := 175 } : Room) (gPc (mK D cA) (mP D cA o A) A [.ref (o 24), .int x1, .int x2] S) (gQi (mK D cA) (mP D cA o A) A out) 0 0 A := by
  refine gMet_z (by decide) (Nat.le_of_ble_eq_true rfl) ?_ mKst
  intro p e s m below meth c Q ls args H locs hC hP hS hl ret
  obtain ⟨hx, hb, hml, hown, hts, hA, hK⟩ := hC
  have hown : s.vm.findClass RX4 = some m.cls := hown
  have hl : lv_has ls 3 [(0, .ref (o 24)), (1, .int x1), (2, .int x2)] := hl
  unfold fX4_ties at h
  refine lv_aload_n hx hb dX4_ties_0 rfl (lv_at hl 0 rfl) ?_
  refine lv_iload_n hx hb dX4_ties_1 rfl (lv_at hl 1 rfl) ?_
  refine lv_iconst (v := (0 : Int32)) hx hb dX4_ties_2 (by decide) ?_
  obtain ⟨v3, S2, e1, h⟩ := bnd_some h
  refine gc0_i (va_runV (As := [.int x1, .int (0 : Int32)]) (rest := []) ⟨hx, hb, hml, hown, hts⟩ (mX4_of (l := l) (D := D) (cA := cA) (o := o) (A := A) x1 (0 : Int32) S e1) (cwV 2 hts (lw_V q1355 q1357 qs33 q90 q1358) rfl rfl rfl (by decide +kernel) ⟨Nat.le_of_ble_eq_true rfl, Nat.le_of_ble_eq_true rfl⟩) (gPreV mKst hK hA hS hP (mRecv hK hP)) rfl rfl hl.1 rfl (lv_room (Nat.le_of_ble_eq_true rfl)) dX4_ties_3 ⟨Nat.zero_le _, Nat.zero_le _⟩) hS (fun H locs hP hS => ?_)
  by_cases c4 : v3 = (3 : Int32)
  · have h := ite_t c4 h
    refine lv_lookup (off := 26) (tgt := 32) hx hb dX4_ties_6 (by decide) (by rw [c4]; rfl) (by decide) ?_
    refine lv_aload_n hx hb dX4_ties_32 rfl (lv_at hl 0 rfl) ?_
    refine lv_bipush (v := (40 : Int32)) hx hb dX4_ties_33 (by decide) ?_
    obtain ⟨S6, e5, h⟩ := bn1_some h
    refine gc0_v (va_runV (As := [.int (40 : Int32)]) (rest := []) ⟨hx, hb, hml, hown, hts⟩ (mX4_begins (l := l) (D := D) (cA := cA) (o := o) (A := A) (40 : Int32) S2 e5) (cwV 1 hts (lw_V q1655 q1657 qs74 q90 q1658) rfl rfl rfl (by decide +kernel) ⟨Nat.le_of_ble_eq_true rfl, Nat.le_of_ble_eq_true rfl⟩) (gPreV mKst hK hA hS hP (mRecv hK hP)) rfl rfl hl.1 rfl (lv_room (Nat.le_of_ble_eq_true rfl)) dX4_ties_35 ⟨Nat.zero_le _, Nat.zero_le _⟩) hS (fun H locs hP hS => ?_)
    refine lv_aload_n hx hb dX4_ties_38 rfl (lv_at hl 0 rfl) ?_
    refine lv_iload_n hx hb dX4_ties_39 rfl (lv_at hl 1 rfl) ?_
    refine lv_iload_n hx hb dX4_ties_40 rfl (lv_at hl 2 rfl) ?_
    refine lv_iconst (v := (2 : Int32)) hx hb dX4_ties_41 (by decide) ?_
    refine lv_idiv hx hb dX4_ties_42 (by decide) ?_
    obtain ⟨v9, S8, e7, h⟩ := bnd_some h
    refine gc0_i (va_runV (As := [.int x1, .int (x2 / (2 : Int32))]) (rest := []) ⟨hx, hb, hml, hown, hts⟩ (mX4_plainTies (l := l) (D := D) (cA := cA) (o := o) (A := A) x1 (x2 / (2 : Int32)) S6 e7) (cwV 2 hts (lw_V q1679 q1681 qs80 q90 q1682) rfl rfl rfl (by decide +kernel) ⟨Nat.le_of_ble_eq_true rfl, Nat.le_of_ble_eq_true rfl⟩) (gPreV mKst hK hA hS hP (mRecv hK hP)) rfl rfl hl.1 rfl (lv_room (Nat.le_of_ble_eq_true rfl)) dX4_ties_43 ⟨Nat.zero_le _, Nat.zero_le _⟩) hS (fun H locs hP hS => ?_)
    exact ret _ _ _ _ _ _ dX4_ties_46 rfl hP hS h
  · have h := ite_f c4 h
    by_cases c10 : v3 = (4 : Int32)
    · have h := ite_t c10 h
      refine lv_lookup (off := 41) (tgt := 47) hx hb dX4_ties_6 (by decide) (by rw [c10]; rfl) (by decide) ?_
      refine lv_aload_n hx hb dX4_ties_47 rfl (lv_at hl 0 rfl) ?_
      refine lv_bipush (v := (51 : Int32)) hx hb dX4_ties_48 (by decide) ?_
      obtain ⟨S12, e11, h⟩ := bn1_some h
      refine gc0_v (va_runV (As := [.int (51 : Int32)]) (rest := []) ⟨hx, hb, hml, hown, hts⟩ (mX4_begins (l := l) (D := D) (cA := cA) (o := o) (A := A) (51 : Int32) S2 e11) (cwV 1 hts (lw_V q1655 q1657 qs74 q90 q1658) rfl rfl rfl (by decide +kernel) ⟨Nat.le_of_ble_eq_true rfl, Nat.le_of_ble_eq_true rfl⟩) (gPreV mKst hK hA hS hP (mRecv hK hP)) rfl rfl hl.1 rfl (lv_room (Nat.le_of_ble_eq_true rfl)) dX4_ties_50 ⟨Nat.zero_le _, Nat.zero_le _⟩) hS (fun H locs hP hS => ?_)
      refine lv_aload_n hx hb dX4_ties_53 rfl (lv_at hl 0 rfl) ?_
      refine lv_iload_n hx hb dX4_ties_54 rfl (lv_at hl 1 rfl) ?_
      refine lv_iload_n hx hb dX4_ties_55 rfl (lv_at hl 2 rfl) ?_
      obtain ⟨v15, S14, e13, h⟩ := bnd_some h
      refine gc0_i (va_runV (As := [.int x1, .int x2]) (rest := []) ⟨hx, hb, hml, hown, hts⟩ (mX4_plainTies (l := l) (D := D) (cA := cA) (o := o) (A := A) x1 x2 S12 e13) (cwV 2 hts (lw_V q1679 q1681 qs80 q90 q1682) rfl rfl rfl (by decide +kernel) ⟨Nat.le_of_ble_eq_true rfl, Nat.le_of_ble_eq_true rfl⟩) (gPreV mKst hK hA hS hP (mRecv hK hP)) rfl rfl hl.1 rfl (lv_room (Nat.le_of_ble_eq_true rfl)) dX4_ties_56 ⟨Nat.zero_le _, Nat.zero_le _⟩) hS (fun H locs hP hS => ?_)
      refine lv_iload_n hx hb dX4_ties_59 rfl (lv_at hl 1 rfl) ?_
      refine lv_ixor hx hb dX4_ties_60 ?_
      exact ret _ _ _ _ _ _ dX4_ties_61 rfl hP hS h
    · have h := ite_f c10 h
      refine lv_lookup (off := 56) (tgt := 62) hx hb dX4_ties_6 (by decide) (by rw [lv_osw c4 (by decide), lv_osw c10 (by decide)]; rfl) (by decide) ?_
      refine lv_aload_n hx hb dX4_ties_62 rfl (lv_at hl 0 rfl) ?_
      refine lv_iload_n hx hb dX4_ties_63 rfl (lv_at hl 1 rfl) ?_
      refine lv_iload_n hx hb dX4_ties_64 rfl (lv_at hl 2 rfl) ?_
      obtain ⟨v18, S17, e16, h⟩ := bnd_some h
      refine gc0_i (va_runV (As := [.int x1, .int x2]) (rest := []) ⟨hx, hb, hml, hown, hts⟩ (mX4_plainTies (l := l) (D := D) (cA := cA) (o := o) (A := A) x1 x2 S2 e16) (cwV 2 hts (lw_V q1679 q1681 qs80 q90 q1682) rfl rfl rfl (by decide +kernel) ⟨Nat.le_of_ble_eq_true rfl, Nat.le_of_ble_eq_true rfl⟩) (gPreV mKst hK hA hS hP (mRecv hK hP)) rfl rfl hl.1 rfl (lv_room (Nat.le_of_ble_eq_true rfl)) dX4_ties_65 ⟨Nat.zero_le _, Nat.zero_le _⟩) hS (fun H locs hP hS => ?_)
      exact ret _ _ _ _ _ _ dX4_ties_68 rfl hP hS h

def bX4_told_25 (t0 : Int32) (S : MS) : Option (Int32 × MS) :=
some (t0, S)
def fX4_told (x1 : Int32) (S : MS) : Option (Int32 × MS) :=
bnd (fX4_in x1 (1 : Int32) (6 : Int32) S) fun v3 S2 =>
(if v3 = 0 then
bnd (fX4_error (-1000000001 : Int32) S2) fun v7 S6 =>
bX4_told_25 v7 S6
else
chk (inB x1 7) (bX4_told_25 (mIA S2 4 (x1).toNatClampNeg) S2))
set_option maxHeartbeats 4000000 in
set_option maxRecDepth 100000 in
theorem mX4_told {l : Launch} {D : va_G} {cA : Nat → ClassId} {o : Nat → Nat} {A : Nat → Prop} (x1 : Int32) (S : MS) {out : (Int32 × MS)} (h : fX4_told x1 S = some out) : Met l yX4_told (ws_ yX4_told cX4_told 2 (some .int)) ({ frames := 1, cells := 0, slots := 0, locals := 22 } : Room) (gPc (mK D cA) (mP D cA o A) A [.ref (o 24), .int x1] S) (gQi (mK D cA) (mP D cA o A) A out) 0 0 A := by
  refine gMet_z (by decide) (Nat.le_of_ble_eq_true rfl) ?_ mKst
  intro p e s m below meth c Q ls args H locs hC hP hS hl ret
  obtain ⟨hx, hb, hml, hown, hts, hA, hK⟩ := hC
  have hown : s.vm.findClass RX4 = some m.cls := hown
  have hl : lv_has ls 2 [(0, .ref (o 24)), (1, .int x1)] := hl
  have B25 : ∀ (t0 : Int32) (S : MS) (H : Heap) (locs : List Loc) (ls : Array Slot), mP D cA o A S H → va_S A s.heap H locs → lv_has ls 2 [(0, .ref (o 24))] → bX4_told_25  t0 S = some out → W p l e ({ frames := 1, cells := 0, slots := 0, locals := 22 } : Room) s m args below meth c H locs 0 0 Q (F0 m 25 ls [.int t0]) := by
    intro t0 S H locs ls hP hS hl h
    unfold bX4_told_25 at h
    exact ret _ _ _ _ _ _ dX4_told_25 rfl hP hS h
  unfold fX4_told at h
  refine lv_iload_n hx hb dX4_told_0 rfl (lv_at hl 1 rfl) ?_
  refine lv_iconst (v := (1 : Int32)) hx hb dX4_told_1 (by decide) ?_
  refine lv_bipush (v := (6 : Int32)) hx hb dX4_told_2 (by decide) ?_
  obtain ⟨v3, S2, e1, h⟩ := bnd_some h
  refine gc0_i (va_runS (As := [.int x1, .int (1 : Int32), .int (6 : Int32)]) (rest := []) ⟨hx, hb, hml, hown, hts⟩ (mX4_in (l := l) (D := D) (cA := cA) (o := o) (A := A) x1 (1 : Int32) (6 : Int32) S e1) (va_cwS 3 hts (lw_S q1329 q1330 q90 q1331) rfl rfl rfl (by decide +kernel) ⟨Nat.le_of_ble_eq_true rfl, Nat.le_of_ble_eq_true rfl⟩) (gPreS mKst hK hA hS hP) rfl rfl hl.1 rfl (lv_room (Nat.le_of_ble_eq_true rfl)) dX4_told_4 ⟨Nat.zero_le _, Nat.zero_le _⟩) hS (fun H locs hP hS => ?_)
  refine lv_if_eq (tgt := 19) hx hb dX4_told_7 (by decide) (fun c4 => ?_) (fun c4 => ?_)
  · have h := ite_t c4 h
    refine lv_aload_n hx hb dX4_told_19 rfl (lv_at hl 0 rfl) ?_
    refine lv_ldc (v := (-1000000001 : Int32)) hx hb hown (hts _ q1336) dX4_told_20 ?_
    obtain ⟨v7, S6, e5, h⟩ := bnd_some h
    refine gc0_i (va_runV (As := [.int (-1000000001 : Int32)]) (rest := []) ⟨hx, hb, hml, hown, hts⟩ (mX4_error (l := l) (D := D) (cA := cA) (o := o) (A := A) (-1000000001 : Int32) S2 e5) (cwV 1 hts (lw_V q1337 q1339 qs30 q90 q1340) rfl rfl rfl (by decide +kernel) ⟨Nat.le_of_ble_eq_true rfl, Nat.le_of_ble_eq_true rfl⟩) (gPreV mKst hK hA hS hP (mRecv hK hP)) rfl rfl hl.1 rfl (lv_room (Nat.le_of_ble_eq_true rfl)) dX4_told_22 ⟨Nat.zero_le _, Nat.zero_le _⟩) hS (fun H locs hP hS => ?_)
    exact B25 v7 S6 _ _ _ hP hS (lv_sub hl [0] rfl) h
  · have h := ite_f c4 h
    refine lv_aload_n hx hb dX4_told_10 rfl (lv_at hl 0 rfl) ?_
    refine va_get (D := D) (ci := 4) (v := .ref (o 4)) (C := RX4) (T := TX4) (N := 24) hx hb hts in_X4 hown hK hP.1 0 rfl rfl 4 (by decide) (hts _ q1253) (fun _ h9 => h9) rfl dX4_told_11 ?_
    refine lv_iload_n hx hb dX4_told_14 rfl (lv_at hl 1 rfl) ?_
    obtain ⟨g8, h⟩ := chk_some h
    refine va_iald hx hb hK hP.1 4 0 rfl rfl (inB_in g8) dX4_told_15 ?_
    refine lv_goto (tgt := 25) hx hb dX4_told_16 (by decide) ?_
    exact B25 (mIA S2 4 (x1).toNatClampNeg) S2 _ _ _ hP hS (lv_sub hl [0] rfl) h

def bX4_toldFor_118 (k43 : Int32 → Int32 → Int64 → Int32 → MS → Option (Int32 × MS)) (x1 : Int32) (x2 : Int32) (x5 : Int32) (t0 : Int64) (S : MS) : Option (Int32 × MS) :=
nm (x5 + (1 : Int32)) fun y1 =>
k43 x1 x2 t0 y1 S
def bX4_toldFor_106 (k43 : Int32 → Int32 → Int64 → Int32 → MS → Option (Int32 × MS)) (x1 : Int32) (x3 : Int64) (x5 : Int32) (x7 : Int64) (x9 : Int32) (t0 : Int32) (S : MS) : Option (Int32 × MS) :=
(if x9 = 0 then
bX4_toldFor_118 k43 x1 t0 x5 x3 S
else
bX4_toldFor_118 k43 x1 t0 x5 x7 S)
def bX4_toldFor_93 (k43 : Int32 → Int32 → Int64 → Int32 → MS → Option (Int32 × MS)) (x1 : Int32) (x2 : Int32) (x3 : Int64) (x5 : Int32) (x7 : Int64) (t0 : Int32) (S : MS) : Option (Int32 × MS) :=
(if t0 = 0 then
bX4_toldFor_106 k43 x1 x3 x5 x7 t0 x2 S
else
bX4_toldFor_106 k43 x1 x3 x5 x7 t0 x5 S)
def bX4_toldFor_92 (k43 : Int32 → Int32 → Int64 → Int32 → MS → Option (Int32 × MS)) (x1 : Int32) (x2 : Int32) (x3 : Int64) (x5 : Int32) (x7 : Int64) (S : MS) : Option (Int32 × MS) :=
bX4_toldFor_93 k43 x1 x2 x3 x5 x7 (0 : Int32) S
def bX4_toldFor_88 (k43 : Int32 → Int32 → Int64 → Int32 → MS → Option (Int32 × MS)) (x1 : Int32) (x2 : Int32) (x3 : Int64) (x5 : Int32) (x7 : Int64) (S : MS) : Option (Int32 × MS) :=
bX4_toldFor_93 k43 x1 x2 x3 x5 x7 (1 : Int32) S
def bX4_toldFor_43 (k43 : Int32 → Int32 → Int64 → Int32 → MS → Option (Int32 × MS)) (x1 : Int32) (x2 : Int32) (x3 : Int64) (x5 : Int32) (S : MS) : Option (Int32 × MS) :=
(if (20 : Int32) < x5 then
bn1 (fX4_putsBack  S) fun S6 =>
some (x2, S6)
else
bn1 (fX4_puts x1 (4 : Int32) x5 S) fun S8 =>
bnd (fX4_isSolved  S8) fun v11 S10 =>
bnd (fX4_allMiss  S10) fun v14 S13 =>
(if v11 = 0 then
bX4_toldFor_92 k43 x1 x2 x3 x5 v14 S13
else
(if (lg_cmp x3 (0 : Int64)) < 0 then
bX4_toldFor_88 k43 x1 x2 x3 x5 v14 S13
else
(if 0 ≤ (lg_cmp v14 x3) then
bX4_toldFor_92 k43 x1 x2 x3 x5 v14 S13
else
bX4_toldFor_88 k43 x1 x2 x3 x5 v14 S13))))
def lX4_toldFor_43 : Nat → (Int32 → Int32 → Int64 → Int32 → MS → Option (Int32 × MS))
  | 0 => fun _ _ _ _ _ => none
  | n + 1 => bX4_toldFor_43 (lX4_toldFor_43 n)
def fX4_toldFor (x1 : Int32) (S : MS) : Option (Int32 × MS) :=
bnd (fX4_isMark x1 S) fun v20 S19 =>
(if v20 = 0 then
bnd (fX4_error (-1000000001 : Int32) S19) fun v33 S32 =>
some (v33, S32)
else
bnd (fX4_isSolved  S19) fun v24 S23 =>
(if v24 = 0 then
bnd (fX4_error (-1000000003 : Int32) S23) fun v30 S29 =>
some (v30, S29)
else
bn1 (fX4_thinks  S23) fun S27 =>
lX4_toldFor_43 FU x1 (0 : Int32) (-1 : Int64) (-20 : Int32) S27))
set_option maxHeartbeats 4000000 in
set_option maxRecDepth 100000 in
theorem mX4_toldFor {l : Launch} {D : va_G} {cA : Nat → ClassId} {o : Nat → Nat} {A : Nat → Prop} (x1 : Int32) (S : MS) {out : (Int32 × MS)} (h : fX4_toldFor x1 S = some out) : Met l yX4_toldFor (ws_ yX4_toldFor cX4_toldFor 10 (some .int)) ({ frames := 10, cells := 0, slots := 0, locals := 300 } : Room) (gPc (mK D cA) (mP D cA o A) A [.ref (o 24), .int x1] S) (gQi (mK D cA) (mP D cA o A) A out) 0 0 A := by
  refine gMet_z (by decide) (Nat.le_of_ble_eq_true rfl) ?_ mKst
  intro p e s m below meth c Q ls args H locs hC hP hS hl ret
  obtain ⟨hx, hb, hml, hown, hts, hA, hK⟩ := hC
  have hown : s.vm.findClass RX4 = some m.cls := hown
  have hl : lv_has ls 10 [(0, .ref (o 24)), (1, .int x1)] := hl
  have L43 : ∀ (n43 : Nat) (x1 : Int32) (x2 : Int32) (x3 : Int64) (x5 : Int32) (S : MS) (H : Heap) (locs : List Loc) (ls : Array Slot), mP D cA o A S H → va_S A s.heap H locs → lv_has ls 10 [(0, .ref (o 24)), (1, .int x1), (2, .int x2), (3, .long x3), (5, .int x5)] → lX4_toldFor_43 n43 x1 x2 x3 x5 S = some out → W p l e ({ frames := 10, cells := 0, slots := 0, locals := 300 } : Room) s m args below meth c H locs 0 0 Q (F0 m 43 ls []) := by
    intro n43
    induction n43 with
    | zero =>
      intro x1 x2 x3 x5 S H locs ls hP hS hl h
      cases h
    | succ n43 ih43 =>
      have B118 : ∀ (x1 : Int32) (x2 : Int32) (x5 : Int32) (t0 : Int64) (S : MS) (H : Heap) (locs : List Loc) (ls : Array Slot), mP D cA o A S H → va_S A s.heap H locs → lv_has ls 10 [(0, .ref (o 24)), (1, .int x1), (2, .int x2), (5, .int x5)] → bX4_toldFor_118 (lX4_toldFor_43 n43) x1 x2 x5 t0 S = some out → W p l e ({ frames := 10, cells := 0, slots := 0, locals := 300 } : Room) s m args below meth c H locs 0 0 Q (F0 m 118 ls [.long t0]) := by
        intro x1 x2 x5 t0 S H locs ls hP hS hl h
        unfold bX4_toldFor_118 at h
        refine lv_lstore_n (lv' := [(3, .long t0), (0, .ref (o 24)), (1, .int x1), (2, .int x2), (5, .int x5)]) hx hb dX4_toldFor_118 rfl hl (by decide) rfl (fun ls hl => ?_)
        obtain ⟨y1, ey1⟩ : ∃ y : Int32, y = x5 + (1 : Int32) := ⟨_, rfl⟩
        refine lv_iinc (v := y1) (lv' := [(5, .int y1), (3, .long t0), (0, .ref (o 24)), (1, .int x1), (2, .int x2)]) hx hb dX4_toldFor_119 hl (k := 4) rfl (by rw [ey1]; rfl) (by decide) rfl (fun ls hl => ?_)
        have h := nm_at ey1 h
        refine lv_goto (tgt := 43) hx hb dX4_toldFor_122 (by decide) ?_
        exact ih43 x1 x2 t0 y1 S _ _ _ hP hS (lv_sub hl [2, 3, 4, 1, 0] rfl) h
      have B106 : ∀ (x1 : Int32) (x3 : Int64) (x5 : Int32) (x7 : Int64) (x9 : Int32) (t0 : Int32) (S : MS) (H : Heap) (locs : List Loc) (ls : Array Slot), mP D cA o A S H → va_S A s.heap H locs → lv_has ls 10 [(0, .ref (o 24)), (1, .int x1), (3, .long x3), (5, .int x5), (7, .long x7), (9, .int x9)] → bX4_toldFor_106 (lX4_toldFor_43 n43) x1 x3 x5 x7 x9 t0 S = some out → W p l e ({ frames := 10, cells := 0, slots := 0, locals := 300 } : Room) s m args below meth c H locs 0 0 Q (F0 m 106 ls [.int t0]) := by
        intro x1 x3 x5 x7 x9 t0 S H locs ls hP hS hl h
        unfold bX4_toldFor_106 at h
        refine lv_istore_n (lv' := [(2, .int t0), (0, .ref (o 24)), (1, .int x1), (3, .long x3), (5, .int x5), (7, .long x7), (9, .int x9)]) hx hb dX4_toldFor_106 rfl hl (by decide) rfl (fun ls hl => ?_)
        refine lv_iload hx hb dX4_toldFor_107 (lv_at hl 6 rfl) ?_
        refine lv_if_eq (tgt := 117) hx hb dX4_toldFor_109 (by decide) (fun c2 => ?_) (fun c2 => ?_)
        · have h := ite_t c2 h
          refine lv_lload_n hx hb dX4_toldFor_117 rfl (lv_at hl 3 rfl) ?_
          exact B118 x1 t0 x5 x3 S _ _ _ hP hS (lv_sub hl [1, 2, 0, 4] rfl) h
        · have h := ite_f c2 h
          refine lv_lload hx hb dX4_toldFor_112 (lv_at hl 5 rfl) ?_
          refine lv_goto (tgt := 118) hx hb dX4_toldFor_114 (by decide) ?_
          exact B118 x1 t0 x5 x7 S _ _ _ hP hS (lv_sub hl [1, 2, 0, 4] rfl) h
      have B93 : ∀ (x1 : Int32) (x2 : Int32) (x3 : Int64) (x5 : Int32) (x7 : Int64) (t0 : Int32) (S : MS) (H : Heap) (locs : List Loc) (ls : Array Slot), mP D cA o A S H → va_S A s.heap H locs → lv_has ls 10 [(0, .ref (o 24)), (1, .int x1), (2, .int x2), (3, .long x3), (5, .int x5), (7, .long x7)] → bX4_toldFor_93 (lX4_toldFor_43 n43) x1 x2 x3 x5 x7 t0 S = some out → W p l e ({ frames := 10, cells := 0, slots := 0, locals := 300 } : Room) s m args below meth c H locs 0 0 Q (F0 m 93 ls [.int t0]) := by
        intro x1 x2 x3 x5 x7 t0 S H locs ls hP hS hl h
        unfold bX4_toldFor_93 at h
        refine lv_istore (lv' := [(9, .int t0), (0, .ref (o 24)), (1, .int x1), (2, .int x2), (3, .long x3), (5, .int x5), (7, .long x7)]) hx hb dX4_toldFor_93 hl (by decide) rfl (fun ls hl => ?_)
        refine lv_iload hx hb dX4_toldFor_95 (lv_at hl 0 rfl) ?_
        refine lv_if_eq (tgt := 105) hx hb dX4_toldFor_97 (by decide) (fun c3 => ?_) (fun c3 => ?_)
        · have h := ite_t c3 h
          refine lv_iload_n hx hb dX4_toldFor_105 rfl (lv_at hl 3 rfl) ?_
          exact B106 x1 x3 x5 x7 t0 x2 S _ _ _ hP hS (lv_sub hl [1, 2, 4, 5, 6, 0] rfl) h
        · have h := ite_f c3 h
          refine lv_iload hx hb dX4_toldFor_100 (lv_at hl 5 rfl) ?_
          refine lv_goto (tgt := 106) hx hb dX4_toldFor_102 (by decide) ?_
          exact B106 x1 x3 x5 x7 t0 x5 S _ _ _ hP hS (lv_sub hl [1, 2, 4, 5, 6, 0] rfl) h
      have B92 : ∀ (x1 : Int32) (x2 : Int32) (x3 : Int64) (x5 : Int32) (x7 : Int64) (S : MS) (H : Heap) (locs : List Loc) (ls : Array Slot), mP D cA o A S H → va_S A s.heap H locs → lv_has ls 10 [(0, .ref (o 24)), (1, .int x1), (2, .int x2), (3, .long x3), (5, .int x5), (7, .long x7)] → bX4_toldFor_92 (lX4_toldFor_43 n43) x1 x2 x3 x5 x7 S = some out → W p l e ({ frames := 10, cells := 0, slots := 0, locals := 300 } : Room) s m args below meth c H locs 0 0 Q (F0 m 92 ls []) := by
        intro x1 x2 x3 x5 x7 S H locs ls hP hS hl h
        unfold bX4_toldFor_92 at h
        refine lv_iconst (v := (0 : Int32)) hx hb dX4_toldFor_92 (by decide) ?_
        exact B93 x1 x2 x3 x5 x7 (0 : Int32) S _ _ _ hP hS hl h
      have B88 : ∀ (x1 : Int32) (x2 : Int32) (x3 : Int64) (x5 : Int32) (x7 : Int64) (S : MS) (H : Heap) (locs : List Loc) (ls : Array Slot), mP D cA o A S H → va_S A s.heap H locs → lv_has ls 10 [(0, .ref (o 24)), (1, .int x1), (2, .int x2), (3, .long x3), (5, .int x5), (7, .long x7)] → bX4_toldFor_88 (lX4_toldFor_43 n43) x1 x2 x3 x5 x7 S = some out → W p l e ({ frames := 10, cells := 0, slots := 0, locals := 300 } : Room) s m args below meth c H locs 0 0 Q (F0 m 88 ls []) := by
        intro x1 x2 x3 x5 x7 S H locs ls hP hS hl h
        unfold bX4_toldFor_88 at h
        refine lv_iconst (v := (1 : Int32)) hx hb dX4_toldFor_88 (by decide) ?_
        refine lv_goto (tgt := 93) hx hb dX4_toldFor_89 (by decide) ?_
        exact B93 x1 x2 x3 x5 x7 (1 : Int32) S _ _ _ hP hS hl h
      intro x1 x2 x3 x5 S H locs ls hP hS hl h
      replace h : bX4_toldFor_43 (lX4_toldFor_43 n43) x1 x2 x3 x5 S = some out := h
      unfold bX4_toldFor_43 at h
      refine lv_iload hx hb dX4_toldFor_43 (lv_at hl 4 rfl) ?_
      refine lv_bipush (v := (20 : Int32)) hx hb dX4_toldFor_45 (by decide) ?_
      refine lv_icmp_gt (tgt := 125) hx hb dX4_toldFor_47 (by decide) (fun c4 => ?_) (fun c4 => ?_)
      · have h := ite_t c4 h
        refine lv_aload_n hx hb dX4_toldFor_125 rfl (lv_at hl 0 rfl) ?_
        obtain ⟨S6, e5, h⟩ := bn1_some h
        refine gc0_v (va_runV (As := []) (rest := []) ⟨hx, hb, hml, hown, hts⟩ (mX4_putsBack (l := l) (D := D) (cA := cA) (o := o) (A := A)  S e5) (cwV 0 hts (lw_V q1605 q1607 qs69 q90 q1608) rfl rfl rfl (by decide +kernel) ⟨Nat.le_of_ble_eq_true rfl, Nat.le_of_ble_eq_true rfl⟩) (gPreV mKst hK hA hS hP (mRecv hK hP)) rfl rfl hl.1 rfl (lv_room (Nat.le_of_ble_eq_true rfl)) dX4_toldFor_126 ⟨Nat.zero_le _, Nat.zero_le _⟩) hS (fun H locs hP hS => ?_)
        refine lv_iload_n hx hb dX4_toldFor_129 rfl (lv_at hl 2 rfl) ?_
        exact ret _ _ _ _ _ _ dX4_toldFor_130 rfl hP hS h
      · have h := ite_f c4 h
        refine lv_aload_n hx hb dX4_toldFor_50 rfl (lv_at hl 0 rfl) ?_
        refine lv_iload_n hx hb dX4_toldFor_51 rfl (lv_at hl 1 rfl) ?_
        refine lv_iconst (v := (4 : Int32)) hx hb dX4_toldFor_52 (by decide) ?_
        refine lv_iload hx hb dX4_toldFor_53 (lv_at hl 4 rfl) ?_
        obtain ⟨S8, e7, h⟩ := bn1_some h
        refine gc0_v (va_runV (As := [.int x1, .int (4 : Int32), .int x5]) (rest := []) ⟨hx, hb, hml, hown, hts⟩ (mX4_puts (l := l) (D := D) (cA := cA) (o := o) (A := A) x1 (4 : Int32) x5 S e7) (cwV 3 hts (lw_V q1343 q1345 qs31 q90 q1346) rfl rfl rfl (by decide +kernel) ⟨Nat.le_of_ble_eq_true rfl, Nat.le_of_ble_eq_true rfl⟩) (gPreV mKst hK hA hS hP (mRecv hK hP)) rfl rfl hl.1 rfl (lv_room (Nat.le_of_ble_eq_true rfl)) dX4_toldFor_55 ⟨Nat.zero_le _, Nat.zero_le _⟩) hS (fun H locs hP hS => ?_)
        refine lv_aload_n hx hb dX4_toldFor_58 rfl (lv_at hl 0 rfl) ?_
        obtain ⟨v11, S10, e9, h⟩ := bnd_some h
        refine gc0_i (va_runV (As := []) (rest := []) ⟨hx, hb, hml, hown, hts⟩ (mX4_isSolved (l := l) (D := D) (cA := cA) (o := o) (A := A)  S8 e9) (cwV 0 hts (lw_V q1496 q1498 qs55 q90 q1499) rfl rfl rfl (by decide +kernel) ⟨Nat.le_of_ble_eq_true rfl, Nat.le_of_ble_eq_true rfl⟩) (gPreV mKst hK hA hS hP (mRecv hK hP)) rfl rfl hl.1 rfl (lv_room (Nat.le_of_ble_eq_true rfl)) dX4_toldFor_59 ⟨Nat.zero_le _, Nat.zero_le _⟩) hS (fun H locs hP hS => ?_)
        refine lv_istore (lv' := [(6, .int v11), (0, .ref (o 24)), (1, .int x1), (2, .int x2), (3, .long x3), (5, .int x5)]) hx hb dX4_toldFor_62 hl (by decide) rfl (fun ls hl => ?_)
        refine lv_aload_n hx hb dX4_toldFor_64 rfl (lv_at hl 1 rfl) ?_
        obtain ⟨v14, S13, e12, h⟩ := bnd_some h
        refine gc0_l (va_runV (As := []) (rest := []) ⟨hx, hb, hml, hown, hts⟩ (mX4_allMiss (l := l) (D := D) (cA := cA) (o := o) (A := A)  S10 e12) (cwV 0 hts (lw_V q1574 q1576 qs66 q90 q1577) rfl rfl rfl (by decide +kernel) ⟨Nat.le_of_ble_eq_true rfl, Nat.le_of_ble_eq_true rfl⟩) (gPreV mKst hK hA hS hP (mRecv hK hP)) rfl rfl hl.1 rfl (lv_room (Nat.le_of_ble_eq_true rfl)) dX4_toldFor_65 ⟨Nat.zero_le _, Nat.zero_le _⟩) hS (fun H locs hP hS => ?_)
        refine lv_lstore (lv' := [(7, .long v14), (6, .int v11), (0, .ref (o 24)), (1, .int x1), (2, .int x2), (3, .long x3), (5, .int x5)]) hx hb dX4_toldFor_68 hl (by decide) rfl (fun ls hl => ?_)
        refine lv_iload hx hb dX4_toldFor_70 (lv_at hl 1 rfl) ?_
        refine lv_if_eq (tgt := 92) hx hb dX4_toldFor_72 (by decide) (fun c15 => ?_) (fun c15 => ?_)
        · have h := ite_t c15 h
          exact B92 x1 x2 x3 x5 v14 S13 _ _ _ hP hS (lv_sub hl [2, 3, 4, 5, 6, 0] rfl) h
        · have h := ite_f c15 h
          refine lv_lload_n hx hb dX4_toldFor_75 rfl (lv_at hl 5 rfl) ?_
          refine lv_lconst (v := (0 : Int64)) hx hb dX4_toldFor_76 (by decide) ?_
          refine W.lcmp hx hb dX4_toldFor_77 ?_
          refine lv_if_lt (tgt := 88) hx hb dX4_toldFor_78 (by decide) (fun c16 => ?_) (fun c16 => ?_)
          · have h := ite_t c16 h
            exact B88 x1 x2 x3 x5 v14 S13 _ _ _ hP hS (lv_sub hl [2, 3, 4, 5, 6, 0] rfl) h
          · have h := ite_f c16 h
            refine lv_lload hx hb dX4_toldFor_81 (lv_at hl 0 rfl) ?_
            refine lv_lload_n hx hb dX4_toldFor_83 rfl (lv_at hl 5 rfl) ?_
            refine W.lcmp hx hb dX4_toldFor_84 ?_
            refine lv_if_ge (tgt := 92) hx hb dX4_toldFor_85 (by decide) (fun c17 => ?_) (fun c17 => ?_)
            · have h := ite_t c17 h
              exact B92 x1 x2 x3 x5 v14 S13 _ _ _ hP hS (lv_sub hl [2, 3, 4, 5, 6, 0] rfl) h
            · have h := ite_f c17 h
              exact B88 x1 x2 x3 x5 v14 S13 _ _ _ hP hS (lv_sub hl [2, 3, 4, 5, 6, 0] rfl) h
  unfold fX4_toldFor at h
  refine lv_aload_n hx hb dX4_toldFor_0 rfl (lv_at hl 0 rfl) ?_
  refine lv_iload_n hx hb dX4_toldFor_1 rfl (lv_at hl 1 rfl) ?_
  obtain ⟨v20, S19, e18, h⟩ := bnd_some h
  refine gc0_i (va_runV (As := [.int x1]) (rest := []) ⟨hx, hb, hml, hown, hts⟩ (mX4_isMark (l := l) (D := D) (cA := cA) (o := o) (A := A) x1 S e18) (cwV 1 hts (lw_V q1351 q1353 qs32 q90 q1354) rfl rfl rfl (by decide +kernel) ⟨Nat.le_of_ble_eq_true rfl, Nat.le_of_ble_eq_true rfl⟩) (gPreV mKst hK hA hS hP (mRecv hK hP)) rfl rfl hl.1 rfl (lv_room (Nat.le_of_ble_eq_true rfl)) dX4_toldFor_2 ⟨Nat.zero_le _, Nat.zero_le _⟩) hS (fun H locs hP hS => ?_)
  refine lv_if_ne (tgt := 15) hx hb dX4_toldFor_5 (by decide) (fun c21 => ?_) (fun c21 => ?_)
  · have h := ite_f c21 h
    refine lv_aload_n hx hb dX4_toldFor_15 rfl (lv_at hl 0 rfl) ?_
    obtain ⟨v24, S23, e22, h⟩ := bnd_some h
    refine gc0_i (va_runV (As := []) (rest := []) ⟨hx, hb, hml, hown, hts⟩ (mX4_isSolved (l := l) (D := D) (cA := cA) (o := o) (A := A)  S19 e22) (cwV 0 hts (lw_V q1496 q1498 qs55 q90 q1499) rfl rfl rfl (by decide +kernel) ⟨Nat.le_of_ble_eq_true rfl, Nat.le_of_ble_eq_true rfl⟩) (gPreV mKst hK hA hS hP (mRecv hK hP)) rfl rfl hl.1 rfl (lv_room (Nat.le_of_ble_eq_true rfl)) dX4_toldFor_16 ⟨Nat.zero_le _, Nat.zero_le _⟩) hS (fun H locs hP hS => ?_)
    refine lv_if_ne (tgt := 29) hx hb dX4_toldFor_19 (by decide) (fun c25 => ?_) (fun c25 => ?_)
    · have h := ite_f c25 h
      refine lv_aload_n hx hb dX4_toldFor_29 rfl (lv_at hl 0 rfl) ?_
      obtain ⟨S27, e26, h⟩ := bn1_some h
      refine gc0_v (va_runV (As := []) (rest := []) ⟨hx, hb, hml, hown, hts⟩ (mX4_thinks (l := l) (D := D) (cA := cA) (o := o) (A := A)  S23 e26) (cwV 0 hts (lw_V q1598 q1600 qs68 q90 q1601) rfl rfl rfl (by decide +kernel) ⟨Nat.le_of_ble_eq_true rfl, Nat.le_of_ble_eq_true rfl⟩) (gPreV mKst hK hA hS hP (mRecv hK hP)) rfl rfl hl.1 rfl (lv_room (Nat.le_of_ble_eq_true rfl)) dX4_toldFor_30 ⟨Nat.zero_le _, Nat.zero_le _⟩) hS (fun H locs hP hS => ?_)
      refine lv_iconst (v := (0 : Int32)) hx hb dX4_toldFor_33 (by decide) ?_
      refine lv_istore_n (lv' := [(2, .int (0 : Int32)), (0, .ref (o 24)), (1, .int x1)]) hx hb dX4_toldFor_34 rfl hl (by decide) rfl (fun ls hl => ?_)
      refine lv_ldc2 (v := (-1 : Int64)) hx hb hown (hts _ q1626) dX4_toldFor_35 ?_
      refine lv_lstore_n (lv' := [(3, .long (-1 : Int64)), (2, .int (0 : Int32)), (0, .ref (o 24)), (1, .int x1)]) hx hb dX4_toldFor_38 rfl hl (by decide) rfl (fun ls hl => ?_)
      refine lv_bipush (v := (-20 : Int32)) hx hb dX4_toldFor_39 (by decide) ?_
      refine lv_istore (lv' := [(5, .int (-20 : Int32)), (3, .long (-1 : Int64)), (2, .int (0 : Int32)), (0, .ref (o 24)), (1, .int x1)]) hx hb dX4_toldFor_41 hl (by decide) rfl (fun ls hl => ?_)
      exact L43 FU x1 (0 : Int32) (-1 : Int64) (-20 : Int32) S27 _ _ _ hP hS (lv_sub hl [3, 4, 2, 1, 0] rfl) h
    · have h := ite_t c25 h
      refine lv_aload_n hx hb dX4_toldFor_22 rfl (lv_at hl 0 rfl) ?_
      refine lv_ldc (v := (-1000000003 : Int32)) hx hb hown (hts _ q1418) dX4_toldFor_23 ?_
      obtain ⟨v30, S29, e28, h⟩ := bnd_some h
      refine gc0_i (va_runV (As := [.int (-1000000003 : Int32)]) (rest := []) ⟨hx, hb, hml, hown, hts⟩ (mX4_error (l := l) (D := D) (cA := cA) (o := o) (A := A) (-1000000003 : Int32) S23 e28) (cwV 1 hts (lw_V q1337 q1339 qs30 q90 q1340) rfl rfl rfl (by decide +kernel) ⟨Nat.le_of_ble_eq_true rfl, Nat.le_of_ble_eq_true rfl⟩) (gPreV mKst hK hA hS hP (mRecv hK hP)) rfl rfl hl.1 rfl (lv_room (Nat.le_of_ble_eq_true rfl)) dX4_toldFor_25 ⟨Nat.zero_le _, Nat.zero_le _⟩) hS (fun H locs hP hS => ?_)
      exact ret _ _ _ _ _ _ dX4_toldFor_28 rfl hP hS h
  · have h := ite_t c21 h
    refine lv_aload_n hx hb dX4_toldFor_8 rfl (lv_at hl 0 rfl) ?_
    refine lv_ldc (v := (-1000000001 : Int32)) hx hb hown (hts _ q1336) dX4_toldFor_9 ?_
    obtain ⟨v33, S32, e31, h⟩ := bnd_some h
    refine gc0_i (va_runV (As := [.int (-1000000001 : Int32)]) (rest := []) ⟨hx, hb, hml, hown, hts⟩ (mX4_error (l := l) (D := D) (cA := cA) (o := o) (A := A) (-1000000001 : Int32) S19 e31) (cwV 1 hts (lw_V q1337 q1339 qs30 q90 q1340) rfl rfl rfl (by decide +kernel) ⟨Nat.le_of_ble_eq_true rfl, Nat.le_of_ble_eq_true rfl⟩) (gPreV mKst hK hA hS hP (mRecv hK hP)) rfl rfl hl.1 rfl (lv_room (Nat.le_of_ble_eq_true rfl)) dX4_toldFor_11 ⟨Nat.zero_le _, Nat.zero_le _⟩) hS (fun H locs hP hS => ?_)
    exact ret _ _ _ _ _ _ dX4_toldFor_14 rfl hP hS h

def bX4_untell_37 (t0 : Int32) (S : MS) : Option (Int32 × MS) :=
some (t0, S)
def fX4_untell (x1 : Int32) (S : MS) : Option (Int32 × MS) :=
bnd (fX4_in x1 (0 : Int32) (1 : Int32) S) fun v3 S2 =>
(if v3 = 0 then
bnd (fX4_error (-1000000001 : Int32) S2) fun v11 S10 =>
some (v11, S10)
else
bnd (fX4_becomes ((140 : Int32) + ((121 : Int32) * x1)) (0 : Int32) S2) fun v7 S6 =>
(if v7 ≤ 0 then
bX4_untell_37 (0 : Int32) S6
else
bX4_untell_37 (1 : Int32) S6))
set_option maxHeartbeats 4000000 in
set_option maxRecDepth 100000 in
theorem mX4_untell {l : Launch} {D : va_G} {cA : Nat → ClassId} {o : Nat → Nat} {A : Nat → Prop} (x1 : Int32) (S : MS) {out : (Int32 × MS)} (h : fX4_untell x1 S = some out) : Met l yX4_untell (ws_ yX4_untell cX4_untell 2 (some .int)) ({ frames := 1, cells := 0, slots := 0, locals := 23 } : Room) (gPc (mK D cA) (mP D cA o A) A [.ref (o 24), .int x1] S) (gQi (mK D cA) (mP D cA o A) A out) 0 0 A := by
  refine gMet_z (by decide) (Nat.le_of_ble_eq_true rfl) ?_ mKst
  intro p e s m below meth c Q ls args H locs hC hP hS hl ret
  obtain ⟨hx, hb, hml, hown, hts, hA, hK⟩ := hC
  have hown : s.vm.findClass RX4 = some m.cls := hown
  have hl : lv_has ls 2 [(0, .ref (o 24)), (1, .int x1)] := hl
  have B37 : ∀ (t0 : Int32) (S : MS) (H : Heap) (locs : List Loc) (ls : Array Slot), mP D cA o A S H → va_S A s.heap H locs → lv_has ls 2 [(0, .ref (o 24))] → bX4_untell_37  t0 S = some out → W p l e ({ frames := 1, cells := 0, slots := 0, locals := 23 } : Room) s m args below meth c H locs 0 0 Q (F0 m 37 ls [.int t0]) := by
    intro t0 S H locs ls hP hS hl h
    unfold bX4_untell_37 at h
    exact ret _ _ _ _ _ _ dX4_untell_37 rfl hP hS h
  unfold fX4_untell at h
  refine lv_iload_n hx hb dX4_untell_0 rfl (lv_at hl 1 rfl) ?_
  refine lv_iconst (v := (0 : Int32)) hx hb dX4_untell_1 (by decide) ?_
  refine lv_iconst (v := (1 : Int32)) hx hb dX4_untell_2 (by decide) ?_
  obtain ⟨v3, S2, e1, h⟩ := bnd_some h
  refine gc0_i (va_runS (As := [.int x1, .int (0 : Int32), .int (1 : Int32)]) (rest := []) ⟨hx, hb, hml, hown, hts⟩ (mX4_in (l := l) (D := D) (cA := cA) (o := o) (A := A) x1 (0 : Int32) (1 : Int32) S e1) (va_cwS 3 hts (lw_S q1329 q1330 q90 q1331) rfl rfl rfl (by decide +kernel) ⟨Nat.le_of_ble_eq_true rfl, Nat.le_of_ble_eq_true rfl⟩) (gPreS mKst hK hA hS hP) rfl rfl hl.1 rfl (lv_room (Nat.le_of_ble_eq_true rfl)) dX4_untell_3 ⟨Nat.zero_le _, Nat.zero_le _⟩) hS (fun H locs hP hS => ?_)
  refine lv_if_ne (tgt := 16) hx hb dX4_untell_6 (by decide) (fun c4 => ?_) (fun c4 => ?_)
  · have h := ite_f c4 h
    refine lv_aload_n hx hb dX4_untell_16 rfl (lv_at hl 0 rfl) ?_
    refine lv_sipush (v := (140 : Int32)) hx hb dX4_untell_17 (by decide) ?_
    refine lv_bipush (v := (121 : Int32)) hx hb dX4_untell_20 (by decide) ?_
    refine lv_iload_n hx hb dX4_untell_22 rfl (lv_at hl 1 rfl) ?_
    refine lv_imul hx hb dX4_untell_23 ?_
    refine lv_iadd hx hb dX4_untell_24 ?_
    refine lv_iconst (v := (0 : Int32)) hx hb dX4_untell_25 (by decide) ?_
    obtain ⟨v7, S6, e5, h⟩ := bnd_some h
    refine gc0_i (va_runV (As := [.int ((140 : Int32) + ((121 : Int32) * x1)), .int (0 : Int32)]) (rest := []) ⟨hx, hb, hml, hown, hts⟩ (mX4_becomes (l := l) (D := D) (cA := cA) (o := o) (A := A) ((140 : Int32) + ((121 : Int32) * x1)) (0 : Int32) S2 e5) (cwV 2 hts (lw_V q1397 q1399 qs41 q90 q1400) rfl rfl rfl (by decide +kernel) ⟨Nat.le_of_ble_eq_true rfl, Nat.le_of_ble_eq_true rfl⟩) (gPreV mKst hK hA hS hP (mRecv hK hP)) rfl rfl hl.1 rfl (lv_room (Nat.le_of_ble_eq_true rfl)) dX4_untell_26 ⟨Nat.zero_le _, Nat.zero_le _⟩) hS (fun H locs hP hS => ?_)
    refine lv_if_le (tgt := 36) hx hb dX4_untell_29 (by decide) (fun c8 => ?_) (fun c8 => ?_)
    · have h := ite_t c8 h
      refine lv_iconst (v := (0 : Int32)) hx hb dX4_untell_36 (by decide) ?_
      exact B37 (0 : Int32) S6 _ _ _ hP hS (lv_sub hl [0] rfl) h
    · have h := ite_f c8 h
      refine lv_iconst (v := (1 : Int32)) hx hb dX4_untell_32 (by decide) ?_
      refine lv_goto (tgt := 37) hx hb dX4_untell_33 (by decide) ?_
      exact B37 (1 : Int32) S6 _ _ _ hP hS (lv_sub hl [0] rfl) h
  · have h := ite_t c4 h
    refine lv_aload_n hx hb dX4_untell_9 rfl (lv_at hl 0 rfl) ?_
    refine lv_ldc (v := (-1000000001 : Int32)) hx hb hown (hts _ q1336) dX4_untell_10 ?_
    obtain ⟨v11, S10, e9, h⟩ := bnd_some h
    refine gc0_i (va_runV (As := [.int (-1000000001 : Int32)]) (rest := []) ⟨hx, hb, hml, hown, hts⟩ (mX4_error (l := l) (D := D) (cA := cA) (o := o) (A := A) (-1000000001 : Int32) S2 e9) (cwV 1 hts (lw_V q1337 q1339 qs30 q90 q1340) rfl rfl rfl (by decide +kernel) ⟨Nat.le_of_ble_eq_true rfl, Nat.le_of_ble_eq_true rfl⟩) (gPreV mKst hK hA hS hP (mRecv hK hP)) rfl rfl hl.1 rfl (lv_room (Nat.le_of_ble_eq_true rfl)) dX4_untell_12 ⟨Nat.zero_le _, Nat.zero_le _⟩) hS (fun H locs hP hS => ?_)
    exact ret _ _ _ _ _ _ dX4_untell_15 rfl hP hS h

def bX4_voice_17 (S : MS) : Option (Int32 × MS) :=
bnd (fX4_error (-1000000001 : Int32) S) fun v3 S2 =>
some (v3, S2)
def bX4_voice_102 (t0 : Int32) (S : MS) : Option (Int32 × MS) :=
some (t0, S)
def bX4_voice_81 (t0 : Int32) (S : MS) : Option (Int32 × MS) :=
(if (mIF S 23) = 0 then
bX4_voice_102 t0 S
else
bnd (fX4_error (-1000000006 : Int32) S) fun v7 S6 =>
bX4_voice_102 v7 S6)
def fX4_voice (x1 : Int32) (x2 : Int32) (x3 : Int32) (S : MS) : Option (Int32 × MS) :=
bnd (fX4_isMark x1 S) fun v10 S9 =>
(if v10 = 0 then
bX4_voice_17 S9
else
bnd (fX4_in x2 (0 : Int32) (3 : Int32) S9) fun v14 S13 =>
(if v14 = 0 then
bX4_voice_17 S13
else
(if x2 = 0 then
bnd (fX4_weighs x1 x3 (sIF (sIF S13 22 (0 : Int32)) 23 (0 : Int32))) fun v30 S29 =>
bX4_voice_81 v30 S29
else
(if x2 = (1 : Int32) then
bnd (fX4_says x1 x3 (sIF (sIF S13 22 (0 : Int32)) 23 (0 : Int32))) fun v27 S26 =>
bX4_voice_81 v27 S26
else
(if x2 = (2 : Int32) then
bnd (fX4_ties x1 x3 (sIF (sIF S13 22 (0 : Int32)) 23 (0 : Int32))) fun v24 S23 =>
bX4_voice_81 v24 S23
else
bnd (fX4_partsBy x1 x3 (sIF (sIF S13 22 (0 : Int32)) 23 (0 : Int32))) fun v21 S20 =>
bX4_voice_81 v21 S20)))))
set_option maxHeartbeats 4000000 in
set_option maxRecDepth 100000 in
theorem mX4_voice {l : Launch} {D : va_G} {cA : Nat → ClassId} {o : Nat → Nat} {A : Nat → Prop} (x1 : Int32) (x2 : Int32) (x3 : Int32) (S : MS) {out : (Int32 × MS)} (h : fX4_voice x1 x2 x3 S = some out) : Met l yX4_voice (ws_ yX4_voice cX4_voice 5 (some .int)) ({ frames := 9, cells := 0, slots := 0, locals := 197 } : Room) (gPc (mK D cA) (mP D cA o A) A [.ref (o 24), .int x1, .int x2, .int x3] S) (gQi (mK D cA) (mP D cA o A) A out) 0 0 A := by
  refine gMet_z (by decide) (Nat.le_of_ble_eq_true rfl) ?_ mKst
  intro p e s m below meth c Q ls args H locs hC hP hS hl ret
  obtain ⟨hx, hb, hml, hown, hts, hA, hK⟩ := hC
  have hown : s.vm.findClass RX4 = some m.cls := hown
  have hl : lv_has ls 5 [(0, .ref (o 24)), (1, .int x1), (2, .int x2), (3, .int x3)] := hl
  have B17 : ∀  (S : MS) (H : Heap) (locs : List Loc) (ls : Array Slot), mP D cA o A S H → va_S A s.heap H locs → lv_has ls 5 [(0, .ref (o 24))] → bX4_voice_17   S = some out → W p l e ({ frames := 9, cells := 0, slots := 0, locals := 197 } : Room) s m args below meth c H locs 0 0 Q (F0 m 17 ls []) := by
    intro  S H locs ls hP hS hl h
    unfold bX4_voice_17 at h
    refine lv_aload_n hx hb dX4_voice_17 rfl (lv_at hl 0 rfl) ?_
    refine lv_ldc (v := (-1000000001 : Int32)) hx hb hown (hts _ q1336) dX4_voice_18 ?_
    obtain ⟨v3, S2, e1, h⟩ := bnd_some h
    refine gc0_i (va_runV (As := [.int (-1000000001 : Int32)]) (rest := []) ⟨hx, hb, hml, hown, hts⟩ (mX4_error (l := l) (D := D) (cA := cA) (o := o) (A := A) (-1000000001 : Int32) S e1) (cwV 1 hts (lw_V q1337 q1339 qs30 q90 q1340) rfl rfl rfl (by decide +kernel) ⟨Nat.le_of_ble_eq_true rfl, Nat.le_of_ble_eq_true rfl⟩) (gPreV mKst hK hA hS hP (mRecv hK hP)) rfl rfl hl.1 rfl (lv_room (Nat.le_of_ble_eq_true rfl)) dX4_voice_20 ⟨Nat.zero_le _, Nat.zero_le _⟩) hS (fun H locs hP hS => ?_)
    exact ret _ _ _ _ _ _ dX4_voice_23 rfl hP hS h
  have B102 : ∀ (t0 : Int32) (S : MS) (H : Heap) (locs : List Loc) (ls : Array Slot), mP D cA o A S H → va_S A s.heap H locs → lv_has ls 5 [(0, .ref (o 24))] → bX4_voice_102  t0 S = some out → W p l e ({ frames := 9, cells := 0, slots := 0, locals := 197 } : Room) s m args below meth c H locs 0 0 Q (F0 m 102 ls [.int t0]) := by
    intro t0 S H locs ls hP hS hl h
    unfold bX4_voice_102 at h
    exact ret _ _ _ _ _ _ dX4_voice_102 rfl hP hS h
  have B81 : ∀ (t0 : Int32) (S : MS) (H : Heap) (locs : List Loc) (ls : Array Slot), mP D cA o A S H → va_S A s.heap H locs → lv_has ls 5 [(0, .ref (o 24))] → bX4_voice_81  t0 S = some out → W p l e ({ frames := 9, cells := 0, slots := 0, locals := 197 } : Room) s m args below meth c H locs 0 0 Q (F0 m 81 ls [.int t0]) := by
    intro t0 S H locs ls hP hS hl h
    unfold bX4_voice_81 at h
    refine lv_istore (lv' := [(4, .int t0), (0, .ref (o 24))]) hx hb dX4_voice_81 hl (by decide) rfl (fun ls hl => ?_)
    refine lv_aload_n hx hb dX4_voice_83 rfl (lv_at hl 1 rfl) ?_
    refine va_get (D := D) (ci := 4) (v := .int (mIF S 23)) (C := RX4) (T := TX4) (N := 24) hx hb hts in_X4 hown hK hP.1 0 rfl rfl 23 (by decide) (hts _ q1272) (fun _ h9 => h9) rfl dX4_voice_84 ?_
    refine lv_if_eq (tgt := 100) hx hb dX4_voice_87 (by decide) (fun c4 => ?_) (fun c4 => ?_)
    · have h := ite_t c4 h
      refine lv_iload hx hb dX4_voice_100 (lv_at hl 0 rfl) ?_
      exact B102 t0 S _ _ _ hP hS (lv_sub hl [1] rfl) h
    · have h := ite_f c4 h
      refine lv_aload_n hx hb dX4_voice_90 rfl (lv_at hl 1 rfl) ?_
      refine lv_ldcw (v := (-1000000006 : Int32)) hx hb hown (hts _ q1691) dX4_voice_91 ?_
      obtain ⟨v7, S6, e5, h⟩ := bnd_some h
      refine gc0_i (va_runV (As := [.int (-1000000006 : Int32)]) (rest := []) ⟨hx, hb, hml, hown, hts⟩ (mX4_error (l := l) (D := D) (cA := cA) (o := o) (A := A) (-1000000006 : Int32) S e5) (cwV 1 hts (lw_V q1337 q1339 qs30 q90 q1340) rfl rfl rfl (by decide +kernel) ⟨Nat.le_of_ble_eq_true rfl, Nat.le_of_ble_eq_true rfl⟩) (gPreV mKst hK hA hS hP (mRecv hK hP)) rfl rfl hl.1 rfl (lv_room (Nat.le_of_ble_eq_true rfl)) dX4_voice_94 ⟨Nat.zero_le _, Nat.zero_le _⟩) hS (fun H locs hP hS => ?_)
      refine lv_goto (tgt := 102) hx hb dX4_voice_97 (by decide) ?_
      exact B102 v7 S6 _ _ _ hP hS (lv_sub hl [1] rfl) h
  unfold fX4_voice at h
  refine lv_aload_n hx hb dX4_voice_0 rfl (lv_at hl 0 rfl) ?_
  refine lv_iload_n hx hb dX4_voice_1 rfl (lv_at hl 1 rfl) ?_
  obtain ⟨v10, S9, e8, h⟩ := bnd_some h
  refine gc0_i (va_runV (As := [.int x1]) (rest := []) ⟨hx, hb, hml, hown, hts⟩ (mX4_isMark (l := l) (D := D) (cA := cA) (o := o) (A := A) x1 S e8) (cwV 1 hts (lw_V q1351 q1353 qs32 q90 q1354) rfl rfl rfl (by decide +kernel) ⟨Nat.le_of_ble_eq_true rfl, Nat.le_of_ble_eq_true rfl⟩) (gPreV mKst hK hA hS hP (mRecv hK hP)) rfl rfl hl.1 rfl (lv_room (Nat.le_of_ble_eq_true rfl)) dX4_voice_2 ⟨Nat.zero_le _, Nat.zero_le _⟩) hS (fun H locs hP hS => ?_)
  refine lv_if_eq (tgt := 17) hx hb dX4_voice_5 (by decide) (fun c11 => ?_) (fun c11 => ?_)
  · have h := ite_t c11 h
    exact B17 S9 _ _ _ hP hS (lv_sub hl [0] rfl) h
  · have h := ite_f c11 h
    refine lv_iload_n hx hb dX4_voice_8 rfl (lv_at hl 2 rfl) ?_
    refine lv_iconst (v := (0 : Int32)) hx hb dX4_voice_9 (by decide) ?_
    refine lv_iconst (v := (3 : Int32)) hx hb dX4_voice_10 (by decide) ?_
    obtain ⟨v14, S13, e12, h⟩ := bnd_some h
    refine gc0_i (va_runS (As := [.int x2, .int (0 : Int32), .int (3 : Int32)]) (rest := []) ⟨hx, hb, hml, hown, hts⟩ (mX4_in (l := l) (D := D) (cA := cA) (o := o) (A := A) x2 (0 : Int32) (3 : Int32) S9 e12) (va_cwS 3 hts (lw_S q1329 q1330 q90 q1331) rfl rfl rfl (by decide +kernel) ⟨Nat.le_of_ble_eq_true rfl, Nat.le_of_ble_eq_true rfl⟩) (gPreS mKst hK hA hS hP) rfl rfl hl.1 rfl (lv_room (Nat.le_of_ble_eq_true rfl)) dX4_voice_11 ⟨Nat.zero_le _, Nat.zero_le _⟩) hS (fun H locs hP hS => ?_)
    refine lv_if_ne (tgt := 24) hx hb dX4_voice_14 (by decide) (fun c15 => ?_) (fun c15 => ?_)
    · have h := ite_f c15 h
      refine lv_aload_n hx hb dX4_voice_24 rfl (lv_at hl 0 rfl) ?_
      refine lv_iconst (v := (0 : Int32)) hx hb dX4_voice_25 (by decide) ?_
      refine va_put (D := D) (ci := 4) (v := .int (0 : Int32)) (ty := .int) (C := RX4) (T := TX4) (N := 24) hx hb hts in_X4 tyX4 tyX4_ok nmX4 hown hK hP.1 hP.2 hS 0 rfl rfl 22 (by decide) (hts _ q1271) (fun _ h9 => h9) rfl (by decide +kernel) rfl rfl (Nat.le_of_ble_eq_true rfl) dX4_voice_26 (fun H locs hP1 hD1 hS => ?_)
      have hP : mP D cA o A (sIF S13 22 (0 : Int32)) H := ⟨hP1, hD1⟩
      refine lv_aload_n hx hb dX4_voice_29 rfl (lv_at hl 0 rfl) ?_
      refine lv_iconst (v := (0 : Int32)) hx hb dX4_voice_30 (by decide) ?_
      refine va_put (D := D) (ci := 4) (v := .int (0 : Int32)) (ty := .boolean) (C := RX4) (T := TX4) (N := 24) hx hb hts in_X4 tyX4 tyX4_ok nmX4 hown hK hP.1 hP.2 hS 0 rfl rfl 23 (by decide) (hts _ q1272) (fun _ h9 => h9) rfl (by decide +kernel) rfl rfl (Nat.le_of_ble_eq_true rfl) dX4_voice_31 (fun H locs hP1 hD1 hS => ?_)
      have hP : mP D cA o A (sIF (sIF S13 22 (0 : Int32)) 23 (0 : Int32)) H := ⟨hP1, hD1⟩
      refine lv_iload_n hx hb dX4_voice_34 rfl (lv_at hl 2 rfl) ?_
      refine lv_if_ne (tgt := 47) hx hb dX4_voice_35 (by decide) (fun c16 => ?_) (fun c16 => ?_)
      · have h := ite_f c16 h
        refine lv_iload_n hx hb dX4_voice_47 rfl (lv_at hl 2 rfl) ?_
        refine lv_iconst (v := (1 : Int32)) hx hb dX4_voice_48 (by decide) ?_
        refine lv_icmp_ne (tgt := 61) hx hb dX4_voice_49 (by decide) (fun c17 => ?_) (fun c17 => ?_)
        · have h := ite_f c17 h
          refine lv_iload_n hx hb dX4_voice_61 rfl (lv_at hl 2 rfl) ?_
          refine lv_iconst (v := (2 : Int32)) hx hb dX4_voice_62 (by decide) ?_
          refine lv_icmp_ne (tgt := 75) hx hb dX4_voice_63 (by decide) (fun c18 => ?_) (fun c18 => ?_)
          · have h := ite_f c18 h
            refine lv_aload_n hx hb dX4_voice_75 rfl (lv_at hl 0 rfl) ?_
            refine lv_iload_n hx hb dX4_voice_76 rfl (lv_at hl 1 rfl) ?_
            refine lv_iload_n hx hb dX4_voice_77 rfl (lv_at hl 3 rfl) ?_
            obtain ⟨v21, S20, e19, h⟩ := bnd_some h
            refine gc0_i (va_runV (As := [.int x1, .int x3]) (rest := []) ⟨hx, hb, hml, hown, hts⟩ (mX4_partsBy (l := l) (D := D) (cA := cA) (o := o) (A := A) x1 x3 (sIF (sIF S13 22 (0 : Int32)) 23 (0 : Int32)) e19) (cwV 2 hts (lw_V q1683 q1685 qs81 q90 q1686) rfl rfl rfl (by decide +kernel) ⟨Nat.le_of_ble_eq_true rfl, Nat.le_of_ble_eq_true rfl⟩) (gPreV mKst hK hA hS hP (mRecv hK hP)) rfl rfl hl.1 rfl (lv_room (Nat.le_of_ble_eq_true rfl)) dX4_voice_78 ⟨Nat.zero_le _, Nat.zero_le _⟩) hS (fun H locs hP hS => ?_)
            exact B81 v21 S20 _ _ _ hP hS (lv_sub hl [0] rfl) h
          · have h := ite_t c18 h
            refine lv_aload_n hx hb dX4_voice_66 rfl (lv_at hl 0 rfl) ?_
            refine lv_iload_n hx hb dX4_voice_67 rfl (lv_at hl 1 rfl) ?_
            refine lv_iload_n hx hb dX4_voice_68 rfl (lv_at hl 3 rfl) ?_
            obtain ⟨v24, S23, e22, h⟩ := bnd_some h
            refine gc0_i (va_runV (As := [.int x1, .int x3]) (rest := []) ⟨hx, hb, hml, hown, hts⟩ (mX4_ties (l := l) (D := D) (cA := cA) (o := o) (A := A) x1 x3 (sIF (sIF S13 22 (0 : Int32)) 23 (0 : Int32)) e22) (cwV 2 hts (lw_V q1675 q1677 qs79 q90 q1678) rfl rfl rfl (by decide +kernel) ⟨Nat.le_of_ble_eq_true rfl, Nat.le_of_ble_eq_true rfl⟩) (gPreV mKst hK hA hS hP (mRecv hK hP)) rfl rfl hl.1 rfl (lv_room (Nat.le_of_ble_eq_true rfl)) dX4_voice_69 ⟨Nat.zero_le _, Nat.zero_le _⟩) hS (fun H locs hP hS => ?_)
            refine lv_goto (tgt := 81) hx hb dX4_voice_72 (by decide) ?_
            exact B81 v24 S23 _ _ _ hP hS (lv_sub hl [0] rfl) h
        · have h := ite_t c17 h
          refine lv_aload_n hx hb dX4_voice_52 rfl (lv_at hl 0 rfl) ?_
          refine lv_iload_n hx hb dX4_voice_53 rfl (lv_at hl 1 rfl) ?_
          refine lv_iload_n hx hb dX4_voice_54 rfl (lv_at hl 3 rfl) ?_
          obtain ⟨v27, S26, e25, h⟩ := bnd_some h
          refine gc0_i (va_runV (As := [.int x1, .int x3]) (rest := []) ⟨hx, hb, hml, hown, hts⟩ (mX4_says (l := l) (D := D) (cA := cA) (o := o) (A := A) x1 x3 (sIF (sIF S13 22 (0 : Int32)) 23 (0 : Int32)) e25) (cwV 2 hts (lw_V q1663 q1665 qs76 q90 q1666) rfl rfl rfl (by decide +kernel) ⟨Nat.le_of_ble_eq_true rfl, Nat.le_of_ble_eq_true rfl⟩) (gPreV mKst hK hA hS hP (mRecv hK hP)) rfl rfl hl.1 rfl (lv_room (Nat.le_of_ble_eq_true rfl)) dX4_voice_55 ⟨Nat.zero_le _, Nat.zero_le _⟩) hS (fun H locs hP hS => ?_)
          refine lv_goto (tgt := 81) hx hb dX4_voice_58 (by decide) ?_
          exact B81 v27 S26 _ _ _ hP hS (lv_sub hl [0] rfl) h
      · have h := ite_t c16 h
        refine lv_aload_n hx hb dX4_voice_38 rfl (lv_at hl 0 rfl) ?_
        refine lv_iload_n hx hb dX4_voice_39 rfl (lv_at hl 1 rfl) ?_
        refine lv_iload_n hx hb dX4_voice_40 rfl (lv_at hl 3 rfl) ?_
        obtain ⟨v30, S29, e28, h⟩ := bnd_some h
        refine gc0_i (va_runV (As := [.int x1, .int x3]) (rest := []) ⟨hx, hb, hml, hown, hts⟩ (mX4_weighs (l := l) (D := D) (cA := cA) (o := o) (A := A) x1 x3 (sIF (sIF S13 22 (0 : Int32)) 23 (0 : Int32)) e28) (cwV 2 hts (lw_V q1647 q1649 qs72 q90 q1650) rfl rfl rfl (by decide +kernel) ⟨Nat.le_of_ble_eq_true rfl, Nat.le_of_ble_eq_true rfl⟩) (gPreV mKst hK hA hS hP (mRecv hK hP)) rfl rfl hl.1 rfl (lv_room (Nat.le_of_ble_eq_true rfl)) dX4_voice_41 ⟨Nat.zero_le _, Nat.zero_le _⟩) hS (fun H locs hP hS => ?_)
        refine lv_goto (tgt := 81) hx hb dX4_voice_44 (by decide) ?_
        exact B81 v30 S29 _ _ _ hP hS (lv_sub hl [0] rfl) h
    · have h := ite_t c15 h
      exact B17 S13 _ _ _ hP hS (lv_sub hl [0] rfl) h
