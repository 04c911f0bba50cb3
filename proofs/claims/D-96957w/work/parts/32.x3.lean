def bX0_aRound_66 (x0 : Nat) (S : XS) : Option XS :=
bn1 (gR S x0 0 2) fun a2 =>
bn1 (gI S a2 1 2) fun v4 =>
nm (v4 + (1 : Int32)) fun y5 =>
bn1 (pF S a2 1 2 (.int y5)) fun S7 =>
some S7
def fX0_aRound (x0 : Nat) (S : XS) : Option XS :=
chk (isC S x0 0) (bnd (fX0_isSolved x0 S) fun v11 S9 =>
(if v11 = 0 then
bX0_aRound_66 x0 S9
else
chk (isC S9 x0 0) (bnd (fX0_mostDoubted x0 S9) fun v16 S14 =>
chk (isC S14 x0 0) (bnd (fX0_doubtOf x0 v16 S14) fun v20 S18 =>
bn1 (gR S18 x0 0 2) fun a22 =>
bn1 (gI S18 a22 1 3) fun v24 =>
bn1 (gL S18 x0 0 14) fun v26 =>
(if (lg_cmp v20 (((v24).toInt64) * v26)) ≤ 0 then
bX0_aRound_66 x0 S18
else
bn1 (gR S18 x0 0 2) fun a29 =>
bn1 (gR S18 a29 1 12) fun a31 =>
bn1 (sI S18 a31 0 v16 (0 : Int32)) fun S33 =>
bn1 (gR S33 x0 0 2) fun a35 =>
bn1 (gR S33 x0 0 2) fun a37 =>
bn1 (gI S33 a37 1 4) fun v39 =>
nm (if (v39 + (1 : Int32)) < (9999 : Int32) then (v39 + (1 : Int32)) else (9999 : Int32)) fun y40 =>
bn1 (pF S33 a35 1 4 (.int y40)) fun S42 =>
bX0_aRound_66 x0 S42)))))
set_option maxHeartbeats 4000000 in
set_option maxRecDepth 100000 in
theorem mX0_aRound {l : Launch} {D : va_G} {cA : Nat → ClassId} {A : Nat → Prop} (x0 : Nat) (S : XS) {out : XS} (h : fX0_aRound x0 S = some out) : Met l yX0_aRound (ws_ yX0_aRound cX0_aRound 2 none) ({ frames := 5, cells := 0, slots := 0, locals := 153 } : Room) (gPc (xK D cA A) (xP D cA A) A [.ref x0] S) (gQv (xK D cA A) (xP D cA A) A out) 0 0 A := by
  refine gMet_v (by decide) (Nat.le_of_ble_eq_true rfl) ?_ xKst
  intro p e s m below meth c Q ls args H locs hC hP hS hl hmi ret
  obtain ⟨hx, hb, hml, hown, hts, hA, hK⟩ := hC
  have hown : s.vm.findClass RX0 = some m.cls := hown
  have hl : lv_has ls 2 [(0, .ref x0)] := hl
  have B66 : ∀ (x0 : Nat) (S : XS) (H : Heap) (locs : List Loc) (ls : Array Slot), xP D cA A S H → va_S A s.heap H locs → lv_has ls 2 [(0, .ref x0)] → bX0_aRound_66  x0 S = some out → W p l e ({ frames := 5, cells := 0, slots := 0, locals := 153 } : Room) s m args below meth c H locs 0 0 Q (F0 m 66 ls []) := by
    intro x0 S H locs ls hP hS hl h
    unfold bX0_aRound_66 at h
    refine lv_aload_n hx hb dX0_aRound_66 rfl (lv_at hl 0 rfl) ?_
    obtain ⟨a2, e1, h⟩ := bn1_some h
    refine x_get (C := RX0) (T := TX0) (N := 16) (ci := 0) hx hb hts in_X0 hown hK.1 hP rfl 2 (by decide) (hts _ q231) (fun _ h9 => h9) (gR_some e1) dX0_aRound_67 ?_
    refine lv_dup hx hb dX0_aRound_70 rfl ?_
    obtain ⟨v4, e3, h⟩ := bn1_some h
    refine x_getN (C := RX1) (T := TX1) (N := 16) (ci := 1) hx hb hts in_X1 hown hK.1 hP rfl 2 (by decide) (hK.2.1 _ q150 rfl) (fun _ h9 => h9) (gI_some e3) dX0_aRound_71 ?_
    refine lv_iconst (v := (1 : Int32)) hx hb dX0_aRound_74 (by decide) ?_
    refine lv_iadd hx hb dX0_aRound_75 ?_
    refine lv_topi (fun y5 ey5 => ?_)
    have h := nm_at ey5 h
    obtain ⟨S7, e6, h⟩ := bn1_some h
    refine x_putN (v := .int y5) (ty := .int) (C := RX1) (T := TX1) (N := 16) (ci := 1) hx hb hts in_X1 tyX1 tyX1_ok nmX1 hown hK.1 hP hS rfl 2 (by decide) (hK.2.1 _ q150 rfl) (fun _ h9 => h9) rfl (by decide +kernel) rfl rfl e6 dX0_aRound_76 (fun H locs hP hS => ?_)
    exact ret _ _ _ _ _ dX0_aRound_79 hP hS h
  unfold fX0_aRound at h
  refine lv_aload_n hx hb dX0_aRound_0 rfl (lv_at hl 0 rfl) ?_
  obtain ⟨g10, h⟩ := chk_some h
  obtain ⟨fg10, g10⟩ := isC_some g10
  obtain ⟨v11, S9, e8, h⟩ := bnd_some h
  refine gci (va_runV (As := []) (rest := []) ⟨hx, hb, hml, hown, hts⟩ (mX0_isSolved (l := l) (D := D) (cA := cA) (A := A) x0 S e8) (cwV 0 hts (lw_V q885 q887 qs22 q86 q888) rfl rfl rfl (by decide +kernel) ⟨Nat.le_of_ble_eq_true rfl, Nat.le_of_ble_eq_true rfl⟩) (gPreV xKst hK hA hS hP (x_recv (q := (RX0, TX0, 16)) hK.1 hP rfl g10)) rfl rfl hl.1 rfl (lv_room (Nat.le_of_ble_eq_true rfl)) dX0_aRound_1 ⟨by first | omega | (dsimp only; omega), by first | omega | (dsimp only; omega)⟩) hS (fun H locs hP hS => ?_)
  refine lv_if_eq (tgt := 66) hx hb dX0_aRound_4 (by decide) (fun c12 => ?_) (fun c12 => ?_)
  · have h := ite_t c12 h
    exact B66 x0 S9 _ _ _ hP hS hl h
  · have h := ite_f c12 h
    refine lv_aload_n hx hb dX0_aRound_7 rfl (lv_at hl 0 rfl) ?_
    obtain ⟨g15, h⟩ := chk_some h
    obtain ⟨fg15, g15⟩ := isC_some g15
    obtain ⟨v16, S14, e13, h⟩ := bnd_some h
    refine gci (va_runV (As := []) (rest := []) ⟨hx, hb, hml, hown, hts⟩ (mX0_mostDoubted (l := l) (D := D) (cA := cA) (A := A) x0 S9 e13) (cwV 0 hts (lw_V q908 q910 qs25 q86 q911) rfl rfl rfl (by decide +kernel) ⟨Nat.le_of_ble_eq_true rfl, Nat.le_of_ble_eq_true rfl⟩) (gPreV xKst hK hA hS hP (x_recv (q := (RX0, TX0, 16)) hK.1 hP rfl g15)) rfl rfl hl.1 rfl (lv_room (Nat.le_of_ble_eq_true rfl)) dX0_aRound_8 ⟨by first | omega | (dsimp only; omega), by first | omega | (dsimp only; omega)⟩) hS (fun H locs hP hS => ?_)
    refine lv_istore_n (lv' := [(1, .int v16), (0, .ref x0)]) hx hb dX0_aRound_11 rfl hl (by decide) rfl (fun ls hl => ?_)
    refine lv_aload_n hx hb dX0_aRound_12 rfl (lv_at hl 1 rfl) ?_
    refine lv_iload_n hx hb dX0_aRound_13 rfl (lv_at hl 0 rfl) ?_
    obtain ⟨g19, h⟩ := chk_some h
    obtain ⟨fg19, g19⟩ := isC_some g19
    obtain ⟨v20, S18, e17, h⟩ := bnd_some h
    refine gcl (va_runV (As := [.int v16]) (rest := []) ⟨hx, hb, hml, hown, hts⟩ (mX0_doubtOf (l := l) (D := D) (cA := cA) (A := A) x0 v16 S14 e17) (cwV 1 hts (lw_V q912 q914 qs26 q86 q915) rfl rfl rfl (by decide +kernel) ⟨Nat.le_of_ble_eq_true rfl, Nat.le_of_ble_eq_true rfl⟩) (gPreV xKst hK hA hS hP (x_recv (q := (RX0, TX0, 16)) hK.1 hP rfl g19)) rfl rfl hl.1 rfl (lv_room (Nat.le_of_ble_eq_true rfl)) dX0_aRound_14 ⟨by first | omega | (dsimp only; omega), by first | omega | (dsimp only; omega)⟩) hS (fun H locs hP hS => ?_)
    refine lv_aload_n hx hb dX0_aRound_17 rfl (lv_at hl 1 rfl) ?_
    obtain ⟨a22, e21, h⟩ := bn1_some h
    refine x_get (C := RX0) (T := TX0) (N := 16) (ci := 0) hx hb hts in_X0 hown hK.1 hP rfl 2 (by decide) (hts _ q231) (fun _ h9 => h9) (gR_some e21) dX0_aRound_18 ?_
    obtain ⟨v24, e23, h⟩ := bn1_some h
    refine x_getN (C := RX1) (T := TX1) (N := 16) (ci := 1) hx hb hts in_X1 hown hK.1 hP rfl 3 (by decide) (hK.2.1 _ q152 rfl) (fun _ h9 => h9) (gI_some e23) dX0_aRound_21 ?_
    refine lv_i2l hx hb dX0_aRound_24 rfl ?_
    refine lv_aload_n hx hb dX0_aRound_25 rfl (lv_at hl 1 rfl) ?_
    obtain ⟨v26, e25, h⟩ := bn1_some h
    refine x_get (C := RX0) (T := TX0) (N := 16) (ci := 0) hx hb hts in_X0 hown hK.1 hP rfl 14 (by decide) (hts _ q243) (fun _ h9 => h9) (gL_some e25) dX0_aRound_26 ?_
    refine lv_lmul hx hb dX0_aRound_29 ?_
    refine W.lcmp hx hb dX0_aRound_30 ?_
    refine lv_if_le (tgt := 66) hx hb dX0_aRound_31 (by decide) (fun c27 => ?_) (fun c27 => ?_)
    · have h := ite_t c27 h
      exact B66 x0 S18 _ _ _ hP hS (lv_sub hl [1] rfl) h
    · have h := ite_f c27 h
      refine lv_aload_n hx hb dX0_aRound_34 rfl (lv_at hl 1 rfl) ?_
      obtain ⟨a29, e28, h⟩ := bn1_some h
      refine x_get (C := RX0) (T := TX0) (N := 16) (ci := 0) hx hb hts in_X0 hown hK.1 hP rfl 2 (by decide) (hts _ q231) (fun _ h9 => h9) (gR_some e28) dX0_aRound_35 ?_
      obtain ⟨a31, e30, h⟩ := bn1_some h
      refine x_getN (C := RX1) (T := TX1) (N := 16) (ci := 1) hx hb hts in_X1 hown hK.1 hP rfl 12 (by decide) (hK.2.1 _ q170 rfl) (fun _ h9 => h9) (gR_some e30) dX0_aRound_38 ?_
      refine lv_iload_n hx hb dX0_aRound_41 rfl (lv_at hl 0 rfl) ?_
      refine lv_iconst (v := (0 : Int32)) hx hb dX0_aRound_42 (by decide) ?_
      obtain ⟨S33, e32, h⟩ := bn1_some h
      refine x_iast hx hb hK.1 hP hS e32 dX0_aRound_43 (fun H locs hP hS => ?_)
      refine lv_aload_n hx hb dX0_aRound_44 rfl (lv_at hl 1 rfl) ?_
      obtain ⟨a35, e34, h⟩ := bn1_some h
      refine x_get (C := RX0) (T := TX0) (N := 16) (ci := 0) hx hb hts in_X0 hown hK.1 hP rfl 2 (by decide) (hts _ q231) (fun _ h9 => h9) (gR_some e34) dX0_aRound_45 ?_
      refine lv_sipush (v := (9999 : Int32)) hx hb dX0_aRound_48 (by decide) ?_
      refine lv_aload_n hx hb dX0_aRound_51 rfl (lv_at hl 1 rfl) ?_
      obtain ⟨a37, e36, h⟩ := bn1_some h
      refine x_get (C := RX0) (T := TX0) (N := 16) (ci := 0) hx hb hts in_X0 hown hK.1 hP rfl 2 (by decide) (hts _ q231) (fun _ h9 => h9) (gR_some e36) dX0_aRound_52 ?_
      obtain ⟨v39, e38, h⟩ := bn1_some h
      refine x_getN (C := RX1) (T := TX1) (N := 16) (ci := 1) hx hb hts in_X1 hown hK.1 hP rfl 4 (by decide) (hK.2.1 _ q154 rfl) (fun _ h9 => h9) (gI_some e38) dX0_aRound_55 ?_
      refine lv_iconst (v := (1 : Int32)) hx hb dX0_aRound_58 (by decide) ?_
      refine lv_iadd hx hb dX0_aRound_59 ?_
      refine va_mmin hx hb (hml.trans hl.1.symm) hown (hts _ q508) (hts _ q509) (hts _ q98) (hts _ q510) (Nat.le_of_ble_eq_true rfl) (Nat.le_of_ble_eq_true rfl) (by first | exact Nat.zero_le _ | (dsimp only; omega)) (by first | exact Nat.zero_le _ | (dsimp only; omega)) dX0_aRound_60 ?_
      refine lv_topi (fun y40 ey40 => ?_)
      have h := nm_at ey40 h
      obtain ⟨S42, e41, h⟩ := bn1_some h
      refine x_putN (v := .int y40) (ty := .int) (C := RX1) (T := TX1) (N := 16) (ci := 1) hx hb hts in_X1 tyX1 tyX1_ok nmX1 hown hK.1 hP hS rfl 4 (by decide) (hK.2.1 _ q154 rfl) (fun _ h9 => h9) rfl (by decide +kernel) rfl rfl e41 dX0_aRound_63 (fun H locs hP hS => ?_)
      exact B66 x0 S42 _ _ _ hP hS (lv_sub hl [1] rfl) h

def bX0_isIn_15 (t0 : Int32) (S : XS) : Option (Int32 × XS) :=
chk (isB t0) (some (t0, S))
def bX0_isIn_14 (S : XS) : Option (Int32 × XS) :=
bX0_isIn_15 (0 : Int32) S
def fX0_isIn (x0 : Int32) (x1 : Int32) (x2 : Int32) (S : XS) : Option (Int32 × XS) :=
(if x0 < x1 then
bX0_isIn_14 S
else
(if x2 < x0 then
bX0_isIn_14 S
else
bX0_isIn_15 (1 : Int32) S))
set_option maxHeartbeats 4000000 in
set_option maxRecDepth 100000 in
theorem mX0_isIn {l : Launch} {D : va_G} {cA : Nat → ClassId} {A : Nat → Prop} (x0 : Int32) (x1 : Int32) (x2 : Int32) (S : XS) {out : (Int32 × XS)} (h : fX0_isIn x0 x1 x2 S = some out) : Met l yX0_isIn (ws_ yX0_isIn cX0_isIn 3 (some .boolean)) ({ frames := 0, cells := 0, slots := 0, locals := 0 } : Room) (gPc (xK D cA A) (xP D cA A) A [.int x0, .int x1, .int x2] S) (gQi (xK D cA A) (xP D cA A) A out) 0 0 A := by
  refine gMet_z (by decide) (Nat.le_of_ble_eq_true rfl) ?_ xKst
  intro p e s m below meth c Q ls args H locs hC hP hS hl ret
  obtain ⟨hx, hb, hml, hown, hts, hA, hK⟩ := hC
  have hown : s.vm.findClass RX0 = some m.cls := hown
  have hl : lv_has ls 3 [(0, .int x0), (1, .int x1), (2, .int x2)] := hl
  have B15 : ∀ (t0 : Int32) (S : XS) (H : Heap) (locs : List Loc) (ls : Array Slot), xP D cA A S H → va_S A s.heap H locs → lv_has ls 3 [] → bX0_isIn_15  t0 S = some out → W p l e ({ frames := 0, cells := 0, slots := 0, locals := 0 } : Room) s m args below meth c H locs 0 0 Q (F0 m 15 ls [.int t0]) := by
    intro t0 S H locs ls hP hS hl h
    unfold bX0_isIn_15 at h
    obtain ⟨g1, h⟩ := chk_some h
    exact ret _ _ _ _ _ _ dX0_isIn_15 (isB_nar g1) hP hS h
  have B14 : ∀  (S : XS) (H : Heap) (locs : List Loc) (ls : Array Slot), xP D cA A S H → va_S A s.heap H locs → lv_has ls 3 [] → bX0_isIn_14   S = some out → W p l e ({ frames := 0, cells := 0, slots := 0, locals := 0 } : Room) s m args below meth c H locs 0 0 Q (F0 m 14 ls []) := by
    intro  S H locs ls hP hS hl h
    unfold bX0_isIn_14 at h
    refine lv_iconst (v := (0 : Int32)) hx hb dX0_isIn_14 (by decide) ?_
    exact B15 (0 : Int32) S _ _ _ hP hS hl h
  unfold fX0_isIn at h
  refine lv_iload_n hx hb dX0_isIn_0 rfl (lv_at hl 0 rfl) ?_
  refine lv_iload_n hx hb dX0_isIn_1 rfl (lv_at hl 1 rfl) ?_
  refine lv_icmp_lt (tgt := 14) hx hb dX0_isIn_2 (by decide) (fun c2 => ?_) (fun c2 => ?_)
  · have h := ite_t c2 h
    exact B14 S _ _ _ hP hS (lv_sub hl [] rfl) h
  · have h := ite_f c2 h
    refine lv_iload_n hx hb dX0_isIn_5 rfl (lv_at hl 0 rfl) ?_
    refine lv_iload_n hx hb dX0_isIn_6 rfl (lv_at hl 2 rfl) ?_
    refine lv_icmp_gt (tgt := 14) hx hb dX0_isIn_7 (by decide) (fun c3 => ?_) (fun c3 => ?_)
    · have h := ite_t c3 h
      exact B14 S _ _ _ hP hS (lv_sub hl [] rfl) h
    · have h := ite_f c3 h
      refine lv_iconst (v := (1 : Int32)) hx hb dX0_isIn_10 (by decide) ?_
      refine lv_goto (tgt := 15) hx hb dX0_isIn_11 (by decide) ?_
      exact B15 (1 : Int32) S _ _ _ hP hS (lv_sub hl [] rfl) h

def fX0_isMark (x0 : Nat) (x1 : Int32) (S : XS) : Option (Int32 × XS) :=
bn1 (gR S x0 0 2) fun a2 =>
bn1 (gI S a2 1 0) fun v4 =>
bnd (fX0_isIn x1 (0 : Int32) (v4 - (1 : Int32)) S) fun v7 S6 =>
chk (isB v7) (some (v7, S6))
set_option maxHeartbeats 4000000 in
set_option maxRecDepth 100000 in
theorem mX0_isMark {l : Launch} {D : va_G} {cA : Nat → ClassId} {A : Nat → Prop} (x0 : Nat) (x1 : Int32) (S : XS) {out : (Int32 × XS)} (h : fX0_isMark x0 x1 S = some out) : Met l yX0_isMark (ws_ yX0_isMark cX0_isMark 2 (some .boolean)) ({ frames := 1, cells := 0, slots := 0, locals := 22 } : Room) (gPc (xK D cA A) (xP D cA A) A [.ref x0, .int x1] S) (gQi (xK D cA A) (xP D cA A) A out) 0 0 A := by
  refine gMet_z (by decide) (Nat.le_of_ble_eq_true rfl) ?_ xKst
  intro p e s m below meth c Q ls args H locs hC hP hS hl ret
  obtain ⟨hx, hb, hml, hown, hts, hA, hK⟩ := hC
  have hown : s.vm.findClass RX0 = some m.cls := hown
  have hl : lv_has ls 2 [(0, .ref x0), (1, .int x1)] := hl
  unfold fX0_isMark at h
  refine lv_iload_n hx hb dX0_isMark_0 rfl (lv_at hl 1 rfl) ?_
  refine lv_iconst (v := (0 : Int32)) hx hb dX0_isMark_1 (by decide) ?_
  refine lv_aload_n hx hb dX0_isMark_2 rfl (lv_at hl 0 rfl) ?_
  obtain ⟨a2, e1, h⟩ := bn1_some h
  refine x_get (C := RX0) (T := TX0) (N := 16) (ci := 0) hx hb hts in_X0 hown hK.1 hP rfl 2 (by decide) (hts _ q231) (fun _ h9 => h9) (gR_some e1) dX0_isMark_3 ?_
  obtain ⟨v4, e3, h⟩ := bn1_some h
  refine x_getN (C := RX1) (T := TX1) (N := 16) (ci := 1) hx hb hts in_X1 hown hK.1 hP rfl 0 (by decide) (hK.2.1 _ q146 rfl) (fun _ h9 => h9) (gI_some e3) dX0_isMark_6 ?_
  refine lv_iconst (v := (1 : Int32)) hx hb dX0_isMark_9 (by decide) ?_
  refine lv_isub hx hb dX0_isMark_10 ?_
  obtain ⟨v7, S6, e5, h⟩ := bnd_some h
  refine gci (va_runS (As := [.int x1, .int (0 : Int32), .int (v4 - (1 : Int32))]) (rest := []) ⟨hx, hb, hml, hown, hts⟩ (mX0_isIn (l := l) (D := D) (cA := cA) (A := A) x1 (0 : Int32) (v4 - (1 : Int32)) S e5) (va_cwS 3 hts (lw_S q283 q284 q86 q285) rfl rfl rfl (by decide +kernel) ⟨Nat.le_of_ble_eq_true rfl, Nat.le_of_ble_eq_true rfl⟩) (gPreS xKst hK hA hS hP) rfl rfl hl.1 rfl (lv_room (Nat.le_of_ble_eq_true rfl)) dX0_isMark_11 ⟨by first | omega | (dsimp only; omega), by first | omega | (dsimp only; omega)⟩) hS (fun H locs hP hS => ?_)
  obtain ⟨g8, h⟩ := chk_some h
  exact ret _ _ _ _ _ _ dX0_isMark_14 (isB_nar g8) hP hS h

def fX0_finds (x0 : Nat) (x1 : Int32) (S : XS) : Option (Int32 × XS) :=
bn1 (gR S x0 0 6) fun a2 =>
bn1 (aI S a2 0 x1) fun v4 =>
bn1 (sI S a2 0 x1 (v4 + (1 : Int32))) fun S6 =>
some (((-1000000000 : Int32) - x1), S6)
set_option maxHeartbeats 4000000 in
set_option maxRecDepth 100000 in
theorem mX0_finds {l : Launch} {D : va_G} {cA : Nat → ClassId} {A : Nat → Prop} (x0 : Nat) (x1 : Int32) (S : XS) {out : (Int32 × XS)} (h : fX0_finds x0 x1 S = some out) : Met l yX0_finds (ws_ yX0_finds cX0_finds 2 (some .int)) ({ frames := 0, cells := 0, slots := 0, locals := 0 } : Room) (gPc (xK D cA A) (xP D cA A) A [.ref x0, .int x1] S) (gQi (xK D cA A) (xP D cA A) A out) 0 0 A := by
  refine gMet_z (by decide) (Nat.le_of_ble_eq_true rfl) ?_ xKst
  intro p e s m below meth c Q ls args H locs hC hP hS hl ret
  obtain ⟨hx, hb, hml, hown, hts, hA, hK⟩ := hC
  have hown : s.vm.findClass RX0 = some m.cls := hown
  have hl : lv_has ls 2 [(0, .ref x0), (1, .int x1)] := hl
  unfold fX0_finds at h
  refine lv_aload_n hx hb dX0_finds_0 rfl (lv_at hl 0 rfl) ?_
  obtain ⟨a2, e1, h⟩ := bn1_some h
  refine x_get (C := RX0) (T := TX0) (N := 16) (ci := 0) hx hb hts in_X0 hown hK.1 hP rfl 6 (by decide) (hts _ q235) (fun _ h9 => h9) (gR_some e1) dX0_finds_1 ?_
  refine lv_iload_n hx hb dX0_finds_4 rfl (lv_at hl 1 rfl) ?_
  refine lv_dup2_11 hx hb dX0_finds_5 rfl rfl ?_
  obtain ⟨v4, e3, h⟩ := bn1_some h
  refine x_iald hx hb hK.1 hP e3 dX0_finds_6 ?_
  refine lv_iconst (v := (1 : Int32)) hx hb dX0_finds_7 (by decide) ?_
  refine lv_iadd hx hb dX0_finds_8 ?_
  obtain ⟨S6, e5, h⟩ := bn1_some h
  refine x_iast hx hb hK.1 hP hS e5 dX0_finds_9 (fun H locs hP hS => ?_)
  refine lv_ldc (v := (-1000000000 : Int32)) hx hb hown (hts _ q294) dX0_finds_10 ?_
  refine lv_iload_n hx hb dX0_finds_12 rfl (lv_at hl 1 rfl) ?_
  refine lv_isub hx hb dX0_finds_13 ?_
  exact ret _ _ _ _ _ _ dX0_finds_14 rfl hP hS h

def fX0_isOf (x0 : Nat) (x1 : Int32) (S : XS) : Option (Int32 × XS) :=
(if x1 = (1 : Int32) then
bn1 (insM S x0 6) fun v2 =>
chk (isB v2) (some (v2, S))
else
(if x1 = (2 : Int32) then
bn1 (insM S x0 7) fun v6 =>
chk (isB v6) (some (v6, S))
else
(if x1 = (3 : Int32) then
bn1 (insM S x0 8) fun v10 =>
chk (isB v10) (some (v10, S))
else
(if x1 = (4 : Int32) then
bn1 (insM S x0 9) fun v14 =>
chk (isB v14) (some (v14, S))
else
(if x1 = (5 : Int32) then
bn1 (insM S x0 10) fun v18 =>
chk (isB v18) (some (v18, S))
else
(if x1 = (6 : Int32) then
bn1 (insM S x0 11) fun v22 =>
chk (isB v22) (some (v22, S))
else
bn1 (insM S x0 5) fun v25 =>
chk (isB v25) (some (v25, S))))))))
set_option maxHeartbeats 4000000 in
set_option maxRecDepth 100000 in
theorem mX0_isOf {l : Launch} {D : va_G} {cA : Nat → ClassId} {A : Nat → Prop} (x0 : Nat) (x1 : Int32) (S : XS) {out : (Int32 × XS)} (h : fX0_isOf x0 x1 S = some out) : Met l yX0_isOf (ws_ yX0_isOf cX0_isOf 2 (some .boolean)) ({ frames := 0, cells := 0, slots := 0, locals := 0 } : Room) (gPc (xK D cA A) (xP D cA A) A [.ref x0, .int x1] S) (gQi (xK D cA A) (xP D cA A) A out) 0 0 A := by
  refine gMet_z (by decide) (Nat.le_of_ble_eq_true rfl) ?_ xKst
  intro p e s m below meth c Q ls args H locs hC hP hS hl ret
  obtain ⟨hx, hb, hml, hown, hts, hA, hK⟩ := hC
  have hown : s.vm.findClass RX0 = some m.cls := hown
  have hl : lv_has ls 2 [(0, .ref x0), (1, .int x1)] := hl
  unfold fX0_isOf at h
  refine lv_iload_n hx hb dX0_isOf_0 rfl (lv_at hl 1 rfl) ?_
  by_cases c1 : x1 = (1 : Int32)
  · have h := ite_t c1 h
    refine lv_tableIn (off := 39) (tgt := 40) hx hb dX0_isOf_1 (by rw [c1]; decide) (by rw [c1]; decide) (by rw [c1]; rfl) (by decide) ?_
    refine lv_aload_n hx hb dX0_isOf_40 rfl (lv_at hl 0 rfl) ?_
    obtain ⟨v2, e3, h⟩ := bn1_some h
    refine x_inst6 hx hb hown (hts _ q298) hK hP e3 dX0_isOf_41 ?_
    obtain ⟨g4, h⟩ := chk_some h
    exact ret _ _ _ _ _ _ dX0_isOf_44 (isB_nar g4) hP hS h
  · have h := ite_f c1 h
    by_cases c5 : x1 = (2 : Int32)
    · have h := ite_t c5 h
      refine lv_tableIn (off := 44) (tgt := 45) hx hb dX0_isOf_1 (by rw [c5]; decide) (by rw [c5]; decide) (by rw [c5]; rfl) (by decide) ?_
      refine lv_aload_n hx hb dX0_isOf_45 rfl (lv_at hl 0 rfl) ?_
      obtain ⟨v6, e7, h⟩ := bn1_some h
      refine x_inst7 hx hb hown (hts _ q325) hK hP e7 dX0_isOf_46 ?_
      obtain ⟨g8, h⟩ := chk_some h
      exact ret _ _ _ _ _ _ dX0_isOf_49 (isB_nar g8) hP hS h
    · have h := ite_f c5 h
      by_cases c9 : x1 = (3 : Int32)
      · have h := ite_t c9 h
        refine lv_tableIn (off := 49) (tgt := 50) hx hb dX0_isOf_1 (by rw [c9]; decide) (by rw [c9]; decide) (by rw [c9]; rfl) (by decide) ?_
        refine lv_aload_n hx hb dX0_isOf_50 rfl (lv_at hl 0 rfl) ?_
        obtain ⟨v10, e11, h⟩ := bn1_some h
        refine x_inst8 hx hb hown (hts _ q334) hK hP e11 dX0_isOf_51 ?_
        obtain ⟨g12, h⟩ := chk_some h
        exact ret _ _ _ _ _ _ dX0_isOf_54 (isB_nar g12) hP hS h
      · have h := ite_f c9 h
        by_cases c13 : x1 = (4 : Int32)
        · have h := ite_t c13 h
          refine lv_tableIn (off := 54) (tgt := 55) hx hb dX0_isOf_1 (by rw [c13]; decide) (by rw [c13]; decide) (by rw [c13]; rfl) (by decide) ?_
          refine lv_aload_n hx hb dX0_isOf_55 rfl (lv_at hl 0 rfl) ?_
          obtain ⟨v14, e15, h⟩ := bn1_some h
          refine x_inst9 hx hb hown (hts _ q343) hK hP e15 dX0_isOf_56 ?_
          obtain ⟨g16, h⟩ := chk_some h
          exact ret _ _ _ _ _ _ dX0_isOf_59 (isB_nar g16) hP hS h
        · have h := ite_f c13 h
          by_cases c17 : x1 = (5 : Int32)
          · have h := ite_t c17 h
            refine lv_tableIn (off := 59) (tgt := 60) hx hb dX0_isOf_1 (by rw [c17]; decide) (by rw [c17]; decide) (by rw [c17]; rfl) (by decide) ?_
            refine lv_aload_n hx hb dX0_isOf_60 rfl (lv_at hl 0 rfl) ?_
            obtain ⟨v18, e19, h⟩ := bn1_some h
            refine x_inst10 hx hb hown (hts _ q352) hK hP e19 dX0_isOf_61 ?_
            obtain ⟨g20, h⟩ := chk_some h
            exact ret _ _ _ _ _ _ dX0_isOf_64 (isB_nar g20) hP hS h
          · have h := ite_f c17 h
            by_cases c21 : x1 = (6 : Int32)
            · have h := ite_t c21 h
              refine lv_tableIn (off := 64) (tgt := 65) hx hb dX0_isOf_1 (by rw [c21]; decide) (by rw [c21]; decide) (by rw [c21]; rfl) (by decide) ?_
              refine lv_aload_n hx hb dX0_isOf_65 rfl (lv_at hl 0 rfl) ?_
              obtain ⟨v22, e23, h⟩ := bn1_some h
              refine x_inst11 hx hb hown (hts _ q361) hK hP e23 dX0_isOf_66 ?_
              obtain ⟨g24, h⟩ := chk_some h
              exact ret _ _ _ _ _ _ dX0_isOf_69 (isB_nar g24) hP hS h
            · have h := ite_f c21 h
              have nc1 := lv_neT (a := 1) c1 (by decide)
              have nc5 := lv_neT (a := 2) c5 (by decide)
              have nc9 := lv_neT (a := 3) c9 (by decide)
              have nc13 := lv_neT (a := 4) c13 (by decide)
              have nc17 := lv_neT (a := 5) c17 (by decide)
              have nc21 := lv_neT (a := 6) c21 (by decide)
              refine lv_tableOut (tgt := 70) hx hb dX0_isOf_1 (by omega) (by decide) ?_
              refine lv_aload_n hx hb dX0_isOf_70 rfl (lv_at hl 0 rfl) ?_
              obtain ⟨v25, e26, h⟩ := bn1_some h
              refine x_inst5 hx hb hown (hts _ q370) hK hP e26 dX0_isOf_71 ?_
              obtain ⟨g27, h⟩ := chk_some h
              exact ret _ _ _ _ _ _ dX0_isOf_74 (isB_nar g27) hP hS h

def bX0_as_18 (x0 : Nat) (S : XS) : Option (Int32 × XS) :=
chk (isC S x0 0) (bnd (fX0_finds x0 (1 : Int32) S) fun v4 S2 =>
some (v4, S2))
def bX0_as_62 (x0 : Nat) (t0 : Int32) (S : XS) : Option (Int32 × XS) :=
some (t0, S)
def fX0_as (x0 : Nat) (x1 : Int32) (x2 : Int32) (S : XS) : Option (Int32 × XS) :=
chk (isC S x0 0) (bnd (fX0_isMark x0 x1 S) fun v8 S6 =>
(if v8 = 0 then
bX0_as_18 x0 S6
else
bnd (fX0_isIn x2 (0 : Int32) (6 : Int32) S6) fun v12 S11 =>
(if v12 = 0 then
bX0_as_18 x0 S11
else
bn1 (gR S11 x0 0 2) fun a15 =>
bn1 (gR S11 a15 1 8) fun a17 =>
bn1 (aR S11 a17 4 x1) fun a19 =>
bn1 (gQ S11 a19 2 0) fun a21 =>
bn1 a21 fun a22 =>
bnd (fX0_isOf a22 x2 S11) fun v26 S25 =>
(if v26 = 0 then
chk (isC S25 x0 0) (bnd (fX0_finds x0 (5 : Int32) S25) fun v31 S29 =>
bX0_as_62 x0 v31 S29)
else
bn1 (gR S25 x0 0 2) fun a33 =>
chk (isC S25 a33 1) (bnd (fX1_at a33 x1 S25) fun a37 S35 =>
bn1 (gIM S35 a37 1) fun v39 =>
bX0_as_62 x0 v39 S35)))))
set_option maxHeartbeats 4000000 in
set_option maxRecDepth 100000 in
theorem mX0_as {l : Launch} {D : va_G} {cA : Nat → ClassId} {A : Nat → Prop} (x0 : Nat) (x1 : Int32) (x2 : Int32) (S : XS) {out : (Int32 × XS)} (h : fX0_as x0 x1 x2 S = some out) : Met l yX0_as (ws_ yX0_as cX0_as 3 (some .int)) ({ frames := 2, cells := 0, slots := 0, locals := 43 } : Room) (gPc (xK D cA A) (xP D cA A) A [.ref x0, .int x1, .int x2] S) (gQi (xK D cA A) (xP D cA A) A out) 0 0 A := by
  refine gMet_z (by decide) (Nat.le_of_ble_eq_true rfl) ?_ xKst
  intro p e s m below meth c Q ls args H locs hC hP hS hl ret
  obtain ⟨hx, hb, hml, hown, hts, hA, hK⟩ := hC
  have hown : s.vm.findClass RX0 = some m.cls := hown
  have hl : lv_has ls 3 [(0, .ref x0), (1, .int x1), (2, .int x2)] := hl
  have B18 : ∀ (x0 : Nat) (S : XS) (H : Heap) (locs : List Loc) (ls : Array Slot), xP D cA A S H → va_S A s.heap H locs → lv_has ls 3 [(0, .ref x0)] → bX0_as_18  x0 S = some out → W p l e ({ frames := 2, cells := 0, slots := 0, locals := 43 } : Room) s m args below meth c H locs 0 0 Q (F0 m 18 ls []) := by
    intro x0 S H locs ls hP hS hl h
    unfold bX0_as_18 at h
    refine lv_aload_n hx hb dX0_as_18 rfl (lv_at hl 0 rfl) ?_
    refine lv_iconst (v := (1 : Int32)) hx hb dX0_as_19 (by decide) ?_
    obtain ⟨g3, h⟩ := chk_some h
    obtain ⟨fg3, g3⟩ := isC_some g3
    obtain ⟨v4, S2, e1, h⟩ := bnd_some h
    refine gci (va_runV (As := [.int (1 : Int32)]) (rest := []) ⟨hx, hb, hml, hown, hts⟩ (mX0_finds (l := l) (D := D) (cA := cA) (A := A) x0 (1 : Int32) S e1) (cwV 1 hts (lw_V q290 q292 qs1 q86 q293) rfl rfl rfl (by decide +kernel) ⟨Nat.le_of_ble_eq_true rfl, Nat.le_of_ble_eq_true rfl⟩) (gPreV xKst hK hA hS hP (x_recv (q := (RX0, TX0, 16)) hK.1 hP rfl g3)) rfl rfl hl.1 rfl (lv_room (Nat.le_of_ble_eq_true rfl)) dX0_as_20 ⟨by first | omega | (dsimp only; omega), by first | omega | (dsimp only; omega)⟩) hS (fun H locs hP hS => ?_)
    exact ret _ _ _ _ _ _ dX0_as_23 rfl hP hS h
  have B62 : ∀ (x0 : Nat) (t0 : Int32) (S : XS) (H : Heap) (locs : List Loc) (ls : Array Slot), xP D cA A S H → va_S A s.heap H locs → lv_has ls 3 [(0, .ref x0)] → bX0_as_62  x0 t0 S = some out → W p l e ({ frames := 2, cells := 0, slots := 0, locals := 43 } : Room) s m args below meth c H locs 0 0 Q (F0 m 62 ls [.int t0]) := by
    intro x0 t0 S H locs ls hP hS hl h
    unfold bX0_as_62 at h
    exact ret _ _ _ _ _ _ dX0_as_62 rfl hP hS h
  unfold fX0_as at h
  refine lv_aload_n hx hb dX0_as_0 rfl (lv_at hl 0 rfl) ?_
  refine lv_iload_n hx hb dX0_as_1 rfl (lv_at hl 1 rfl) ?_
  obtain ⟨g7, h⟩ := chk_some h
  obtain ⟨fg7, g7⟩ := isC_some g7
  obtain ⟨v8, S6, e5, h⟩ := bnd_some h
  refine gci (va_runV (As := [.int x1]) (rest := []) ⟨hx, hb, hml, hown, hts⟩ (mX0_isMark (l := l) (D := D) (cA := cA) (A := A) x0 x1 S e5) (cwV 1 hts (lw_V q380 q382 qs2 q86 q383) rfl rfl rfl (by decide +kernel) ⟨Nat.le_of_ble_eq_true rfl, Nat.le_of_ble_eq_true rfl⟩) (gPreV xKst hK hA hS hP (x_recv (q := (RX0, TX0, 16)) hK.1 hP rfl g7)) rfl rfl hl.1 rfl (lv_room (Nat.le_of_ble_eq_true rfl)) dX0_as_2 ⟨by first | omega | (dsimp only; omega), by first | omega | (dsimp only; omega)⟩) hS (fun H locs hP hS => ?_)
  refine lv_if_eq (tgt := 18) hx hb dX0_as_5 (by decide) (fun c9 => ?_) (fun c9 => ?_)
  · have h := ite_t c9 h
    exact B18 x0 S6 _ _ _ hP hS (lv_sub hl [0] rfl) h
  · have h := ite_f c9 h
    refine lv_iload_n hx hb dX0_as_8 rfl (lv_at hl 2 rfl) ?_
    refine lv_iconst (v := (0 : Int32)) hx hb dX0_as_9 (by decide) ?_
    refine lv_bipush (v := (6 : Int32)) hx hb dX0_as_10 (by decide) ?_
    obtain ⟨v12, S11, e10, h⟩ := bnd_some h
    refine gci (va_runS (As := [.int x2, .int (0 : Int32), .int (6 : Int32)]) (rest := []) ⟨hx, hb, hml, hown, hts⟩ (mX0_isIn (l := l) (D := D) (cA := cA) (A := A) x2 (0 : Int32) (6 : Int32) S6 e10) (va_cwS 3 hts (lw_S q283 q284 q86 q285) rfl rfl rfl (by decide +kernel) ⟨Nat.le_of_ble_eq_true rfl, Nat.le_of_ble_eq_true rfl⟩) (gPreS xKst hK hA hS hP) rfl rfl hl.1 rfl (lv_room (Nat.le_of_ble_eq_true rfl)) dX0_as_12 ⟨by first | omega | (dsimp only; omega), by first | omega | (dsimp only; omega)⟩) hS (fun H locs hP hS => ?_)
    refine lv_if_ne (tgt := 24) hx hb dX0_as_15 (by decide) (fun c13 => ?_) (fun c13 => ?_)
    · have h := ite_f c13 h
      refine lv_aload_n hx hb dX0_as_24 rfl (lv_at hl 0 rfl) ?_
      obtain ⟨a15, e14, h⟩ := bn1_some h
      refine x_get (C := RX0) (T := TX0) (N := 16) (ci := 0) hx hb hts in_X0 hown hK.1 hP rfl 2 (by decide) (hts _ q231) (fun _ h9 => h9) (gR_some e14) dX0_as_25 ?_
      obtain ⟨a17, e16, h⟩ := bn1_some h
      refine x_getN (C := RX1) (T := TX1) (N := 16) (ci := 1) hx hb hts in_X1 hown hK.1 hP rfl 8 (by decide) (hK.2.1 _ q162 rfl) (fun _ h9 => h9) (gR_some e16) dX0_as_28 ?_
      refine lv_iload_n hx hb dX0_as_31 rfl (lv_at hl 1 rfl) ?_
      obtain ⟨a19, e18, h⟩ := bn1_some h
      refine x_aldr (t := 4) hx hb hK.1 hP (by decide) e18 dX0_as_32 ?_
      obtain ⟨a21, e20, h⟩ := bn1_some h
      refine x_getN (C := RX2) (T := TX2) (N := 1) (ci := 2) hx hb hts in_X2 hown hK.1 hP rfl 0 (by decide) (hK.2.1 _ q139 rfl) (fun _ h9 => h9) (gQ_some e20) dX0_as_33 ?_
      refine lv_iload_n hx hb dX0_as_36 rfl (lv_at hl 2 rfl) ?_
      obtain ⟨a22, e23, h⟩ := bn1_some h
      subst e23
      obtain ⟨v26, S25, e24, h⟩ := bnd_some h
      refine gci (va_runS (As := [.ref a22, .int x2]) (rest := []) ⟨hx, hb, hml, hown, hts⟩ (mX0_isOf (l := l) (D := D) (cA := cA) (A := A) a22 x2 S11 e24) (va_cwS 2 hts (lw_S q576 q577 q86 q578) rfl rfl rfl (by decide +kernel) ⟨Nat.le_of_ble_eq_true rfl, Nat.le_of_ble_eq_true rfl⟩) (gPreS xKst hK hA hS hP) rfl rfl hl.1 rfl (lv_room (Nat.le_of_ble_eq_true rfl)) dX0_as_37 ⟨by first | omega | (dsimp only; omega), by first | omega | (dsimp only; omega)⟩) hS (fun H locs hP hS => ?_)
      refine lv_if_eq (tgt := 57) hx hb dX0_as_40 (by decide) (fun c27 => ?_) (fun c27 => ?_)
      · have h := ite_t c27 h
        refine lv_aload_n hx hb dX0_as_57 rfl (lv_at hl 0 rfl) ?_
        refine lv_iconst (v := (5 : Int32)) hx hb dX0_as_58 (by decide) ?_
        obtain ⟨g30, h⟩ := chk_some h
        obtain ⟨fg30, g30⟩ := isC_some g30
        obtain ⟨v31, S29, e28, h⟩ := bnd_some h
        refine gci (va_runV (As := [.int (5 : Int32)]) (rest := []) ⟨hx, hb, hml, hown, hts⟩ (mX0_finds (l := l) (D := D) (cA := cA) (A := A) x0 (5 : Int32) S25 e28) (cwV 1 hts (lw_V q290 q292 qs1 q86 q293) rfl rfl rfl (by decide +kernel) ⟨Nat.le_of_ble_eq_true rfl, Nat.le_of_ble_eq_true rfl⟩) (gPreV xKst hK hA hS hP (x_recv (q := (RX0, TX0, 16)) hK.1 hP rfl g30)) rfl rfl hl.1 rfl (lv_room (Nat.le_of_ble_eq_true rfl)) dX0_as_59 ⟨by first | omega | (dsimp only; omega), by first | omega | (dsimp only; omega)⟩) hS (fun H locs hP hS => ?_)
        exact B62 x0 v31 S29 _ _ _ hP hS (lv_sub hl [0] rfl) h
      · have h := ite_f c27 h
        refine lv_aload_n hx hb dX0_as_43 rfl (lv_at hl 0 rfl) ?_
        obtain ⟨a33, e32, h⟩ := bn1_some h
        refine x_get (C := RX0) (T := TX0) (N := 16) (ci := 0) hx hb hts in_X0 hown hK.1 hP rfl 2 (by decide) (hts _ q231) (fun _ h9 => h9) (gR_some e32) dX0_as_44 ?_
        refine lv_iload_n hx hb dX0_as_47 rfl (lv_at hl 1 rfl) ?_
        obtain ⟨g36, h⟩ := chk_some h
        obtain ⟨fg36, g36⟩ := isC_some g36
        obtain ⟨a37, S35, e34, h⟩ := bnd_some h
        refine gcr (va_runV (As := [.int x1]) (rest := []) ⟨hx, hb, hml, hown, hts⟩ (mX1_at (l := l) (D := D) (cA := cA) (A := A) a33 x1 S25 e34) (cwV 1 hts (lw_V q384 q385 q386 q87 q387) rfl rfl rfl (by decide +kernel) ⟨Nat.le_of_ble_eq_true rfl, Nat.le_of_ble_eq_true rfl⟩) (gPreV xKst hK hA hS hP (x_recv (q := (RX1, TX1, 16)) hK.1 hP rfl g36)) rfl rfl hl.1 rfl (lv_room (Nat.le_of_ble_eq_true rfl)) dX0_as_48 ⟨by first | omega | (dsimp only; omega), by first | omega | (dsimp only; omega)⟩) hS (fun H locs hP hS => ?_)
        obtain ⟨v39, e38, h⟩ := bn1_some h
        refine x_getM hx hb hts hown hK hP 1 (by decide) (hts _ q319) (fun _ h9 => h9) e38 dX0_as_51 ?_
        refine lv_goto (tgt := 62) hx hb dX0_as_54 (by decide) ?_
        exact B62 x0 v39 S35 _ _ _ hP hS (lv_sub hl [0] rfl) h
    · have h := ite_t c13 h
      exact B18 x0 S11 _ _ _ hP hS (lv_sub hl [0] rfl) h

def fX7_kind (x0 : Nat) (S : XS) : Option (Int32 × XS) :=
chk (mkB S x0) (bnd (fX5_kind x0 S) fun v4 S2 =>
some ((v4 + (2 : Int32)), S2))
set_option maxHeartbeats 4000000 in
set_option maxRecDepth 100000 in
theorem mX7_kind {l : Launch} {D : va_G} {cA : Nat → ClassId} {A : Nat → Prop} (x0 : Nat) (S : XS) {out : (Int32 × XS)} (h : fX7_kind x0 S = some out) : Met l yX7_kind (ws_ yX7_kind cX7_kind 1 (some .int)) ({ frames := 1, cells := 0, slots := 0, locals := 20 } : Room) (gPc (xK D cA A) (xP D cA A) A [.ref x0] S) (gQi (xK D cA A) (xP D cA A) A out) 0 0 A := by
  refine gMet_z (by decide) (Nat.le_of_ble_eq_true rfl) ?_ xKst
  intro p e s m below meth c Q ls args H locs hC hP hS hl ret
  obtain ⟨hx, hb, hml, hown, hts, hA, hK⟩ := hC
  have hown : s.vm.findClass RX7 = some m.cls := hown
  have hl : lv_has ls 1 [(0, .ref x0)] := hl
  unfold fX7_kind at h
  refine lv_aload_n hx hb dX7_kind_0 rfl (lv_at hl 0 rfl) ?_
  obtain ⟨g3, h⟩ := chk_some h
  obtain ⟨C1, cC1, hat1, hrv1⟩ := x_recvM hK.1 hP g3
  obtain ⟨v4, S2, e1, h⟩ := bnd_some h
  refine gci (x_runSU (n := 0) (As := []) (rest := []) hat1 ⟨hx, hb, hml, hown, hts⟩ (mX5_kind (l := l) (D := D) (cA := cA) (A := A) x0 S e1) rfl (lw_meth q417) rfl rfl (hts _ q406) (hts _ q392) (hts _ q333) (Or.inl rfl) ⟨rfl, rfl⟩ (hts _ q390) (hts _ q91) (by decide +kernel) ⟨Nat.le_of_ble_eq_true rfl, Nat.le_of_ble_eq_true rfl⟩ (gPreV xKst hK hA hS hP hrv1) rfl rfl hl.1 rfl (lv_room (Nat.le_of_ble_eq_true rfl)) dX7_kind_1 ⟨by first | omega | (dsimp only; omega), by first | omega | (dsimp only; omega)⟩) hS (fun H locs hP hS => ?_)
  refine lv_iconst (v := (2 : Int32)) hx hb dX7_kind_4 (by decide) ?_
  refine lv_iadd hx hb dX7_kind_5 ?_
  exact ret _ _ _ _ _ _ dX7_kind_6 rfl hP hS h

def fX10_kind (x0 : Nat) (S : XS) : Option (Int32 × XS) :=
chk (mkB S x0) (bnd (fX7_kind x0 S) fun v4 S2 =>
some ((v4 + (3 : Int32)), S2))
set_option maxHeartbeats 4000000 in
set_option maxRecDepth 100000 in
theorem mX10_kind {l : Launch} {D : va_G} {cA : Nat → ClassId} {A : Nat → Prop} (x0 : Nat) (S : XS) {out : (Int32 × XS)} (h : fX10_kind x0 S = some out) : Met l yX10_kind (ws_ yX10_kind cX10_kind 1 (some .int)) ({ frames := 2, cells := 0, slots := 0, locals := 40 } : Room) (gPc (xK D cA A) (xP D cA A) A [.ref x0] S) (gQi (xK D cA A) (xP D cA A) A out) 0 0 A := by
  refine gMet_z (by decide) (Nat.le_of_ble_eq_true rfl) ?_ xKst
  intro p e s m below meth c Q ls args H locs hC hP hS hl ret
  obtain ⟨hx, hb, hml, hown, hts, hA, hK⟩ := hC
  have hown : s.vm.findClass RX10 = some m.cls := hown
  have hl : lv_has ls 1 [(0, .ref x0)] := hl
  unfold fX10_kind at h
  refine lv_aload_n hx hb dX10_kind_0 rfl (lv_at hl 0 rfl) ?_
  obtain ⟨g3, h⟩ := chk_some h
  obtain ⟨C1, cC1, hat1, hrv1⟩ := x_recvM hK.1 hP g3
  obtain ⟨v4, S2, e1, h⟩ := bnd_some h
  refine gci (x_runSU (n := 0) (As := []) (rest := []) hat1 ⟨hx, hb, hml, hown, hts⟩ (mX7_kind (l := l) (D := D) (cA := cA) (A := A) x0 S e1) rfl (lw_meth q405) rfl rfl (hts _ q403) (hts _ q1750) (hts _ q360) (Or.inl rfl) ⟨rfl, rfl⟩ (hts _ q404) (hts _ q93) (by decide +kernel) ⟨Nat.le_of_ble_eq_true rfl, Nat.le_of_ble_eq_true rfl⟩ (gPreV xKst hK hA hS hP hrv1) rfl rfl hl.1 rfl (lv_room (Nat.le_of_ble_eq_true rfl)) dX10_kind_1 ⟨by first | omega | (dsimp only; omega), by first | omega | (dsimp only; omega)⟩) hS (fun H locs hP hS => ?_)
  refine lv_iconst (v := (3 : Int32)) hx hb dX10_kind_4 (by decide) ?_
  refine lv_iadd hx hb dX10_kind_5 ?_
  exact ret _ _ _ _ _ _ dX10_kind_6 rfl hP hS h

def fX11_kind (x0 : Nat) (S : XS) : Option (Int32 × XS) :=
chk (mkB S x0) (bnd (fX5_kind x0 S) fun v4 S2 =>
some ((v4 + (6 : Int32)), S2))
set_option maxHeartbeats 4000000 in
set_option maxRecDepth 100000 in
theorem mX11_kind {l : Launch} {D : va_G} {cA : Nat → ClassId} {A : Nat → Prop} (x0 : Nat) (S : XS) {out : (Int32 × XS)} (h : fX11_kind x0 S = some out) : Met l yX11_kind (ws_ yX11_kind cX11_kind 1 (some .int)) ({ frames := 1, cells := 0, slots := 0, locals := 20 } : Room) (gPc (xK D cA A) (xP D cA A) A [.ref x0] S) (gQi (xK D cA A) (xP D cA A) A out) 0 0 A := by
  refine gMet_z (by decide) (Nat.le_of_ble_eq_true rfl) ?_ xKst
  intro p e s m below meth c Q ls args H locs hC hP hS hl ret
  obtain ⟨hx, hb, hml, hown, hts, hA, hK⟩ := hC
  have hown : s.vm.findClass RX11 = some m.cls := hown
  have hl : lv_has ls 1 [(0, .ref x0)] := hl
  unfold fX11_kind at h
  refine lv_aload_n hx hb dX11_kind_0 rfl (lv_at hl 0 rfl) ?_
  obtain ⟨g3, h⟩ := chk_some h
  obtain ⟨C1, cC1, hat1, hrv1⟩ := x_recvM hK.1 hP g3
  obtain ⟨v4, S2, e1, h⟩ := bnd_some h
  refine gci (x_runSU (n := 0) (As := []) (rest := []) hat1 ⟨hx, hb, hml, hown, hts⟩ (mX5_kind (l := l) (D := D) (cA := cA) (A := A) x0 S e1) rfl (lw_meth q417) rfl rfl (hts _ q415) (hts _ q392) (hts _ q369) (Or.inl rfl) ⟨rfl, rfl⟩ (hts _ q390) (hts _ q91) (by decide +kernel) ⟨Nat.le_of_ble_eq_true rfl, Nat.le_of_ble_eq_true rfl⟩ (gPreV xKst hK hA hS hP hrv1) rfl rfl hl.1 rfl (lv_room (Nat.le_of_ble_eq_true rfl)) dX11_kind_1 ⟨by first | omega | (dsimp only; omega), by first | omega | (dsimp only; omega)⟩) hS (fun H locs hP hS => ?_)
  refine lv_bipush (v := (6 : Int32)) hx hb dX11_kind_4 (by decide) ?_
  refine lv_iadd hx hb dX11_kind_6 ?_
  exact ret _ _ _ _ _ _ dX11_kind_7 rfl hP hS h

def fX6_kind (x0 : Nat) (S : XS) : Option (Int32 × XS) :=
chk (mkB S x0) (bnd (fX5_kind x0 S) fun v4 S2 =>
some ((v4 + (1 : Int32)), S2))
set_option maxHeartbeats 4000000 in
set_option maxRecDepth 100000 in
theorem mX6_kind {l : Launch} {D : va_G} {cA : Nat → ClassId} {A : Nat → Prop} (x0 : Nat) (S : XS) {out : (Int32 × XS)} (h : fX6_kind x0 S = some out) : Met l yX6_kind (ws_ yX6_kind cX6_kind 1 (some .int)) ({ frames := 1, cells := 0, slots := 0, locals := 20 } : Room) (gPc (xK D cA A) (xP D cA A) A [.ref x0] S) (gQi (xK D cA A) (xP D cA A) A out) 0 0 A := by
  refine gMet_z (by decide) (Nat.le_of_ble_eq_true rfl) ?_ xKst
  intro p e s m below meth c Q ls args H locs hC hP hS hl ret
  obtain ⟨hx, hb, hml, hown, hts, hA, hK⟩ := hC
  have hown : s.vm.findClass RX6 = some m.cls := hown
  have hl : lv_has ls 1 [(0, .ref x0)] := hl
  unfold fX6_kind at h
  refine lv_aload_n hx hb dX6_kind_0 rfl (lv_at hl 0 rfl) ?_
  obtain ⟨g3, h⟩ := chk_some h
  obtain ⟨C1, cC1, hat1, hrv1⟩ := x_recvM hK.1 hP g3
  obtain ⟨v4, S2, e1, h⟩ := bnd_some h
  refine gci (x_runSU (n := 0) (As := []) (rest := []) hat1 ⟨hx, hb, hml, hown, hts⟩ (mX5_kind (l := l) (D := D) (cA := cA) (A := A) x0 S e1) rfl (lw_meth q417) rfl rfl (hts _ q399) (hts _ q392) (hts _ q324) (Or.inl rfl) ⟨rfl, rfl⟩ (hts _ q390) (hts _ q91) (by decide +kernel) ⟨Nat.le_of_ble_eq_true rfl, Nat.le_of_ble_eq_true rfl⟩ (gPreV xKst hK hA hS hP hrv1) rfl rfl hl.1 rfl (lv_room (Nat.le_of_ble_eq_true rfl)) dX6_kind_1 ⟨by first | omega | (dsimp only; omega), by first | omega | (dsimp only; omega)⟩) hS (fun H locs hP hS => ?_)
  refine lv_iconst (v := (1 : Int32)) hx hb dX6_kind_4 (by decide) ?_
  refine lv_iadd hx hb dX6_kind_5 ?_
  exact ret _ _ _ _ _ _ dX6_kind_6 rfl hP hS h

def fX8_kind (x0 : Nat) (S : XS) : Option (Int32 × XS) :=
chk (mkB S x0) (bnd (fX5_kind x0 S) fun v4 S2 =>
some ((v4 + (3 : Int32)), S2))
set_option maxHeartbeats 4000000 in
set_option maxRecDepth 100000 in
theorem mX8_kind {l : Launch} {D : va_G} {cA : Nat → ClassId} {A : Nat → Prop} (x0 : Nat) (S : XS) {out : (Int32 × XS)} (h : fX8_kind x0 S = some out) : Met l yX8_kind (ws_ yX8_kind cX8_kind 1 (some .int)) ({ frames := 1, cells := 0, slots := 0, locals := 20 } : Room) (gPc (xK D cA A) (xP D cA A) A [.ref x0] S) (gQi (xK D cA A) (xP D cA A) A out) 0 0 A := by
  refine gMet_z (by decide) (Nat.le_of_ble_eq_true rfl) ?_ xKst
  intro p e s m below meth c Q ls args H locs hC hP hS hl ret
  obtain ⟨hx, hb, hml, hown, hts, hA, hK⟩ := hC
  have hown : s.vm.findClass RX8 = some m.cls := hown
  have hl : lv_has ls 1 [(0, .ref x0)] := hl
  unfold fX8_kind at h
  refine lv_aload_n hx hb dX8_kind_0 rfl (lv_at hl 0 rfl) ?_
  obtain ⟨g3, h⟩ := chk_some h
  obtain ⟨C1, cC1, hat1, hrv1⟩ := x_recvM hK.1 hP g3
  obtain ⟨v4, S2, e1, h⟩ := bnd_some h
  refine gci (x_runSU (n := 0) (As := []) (rest := []) hat1 ⟨hx, hb, hml, hown, hts⟩ (mX5_kind (l := l) (D := D) (cA := cA) (A := A) x0 S e1) rfl (lw_meth q417) rfl rfl (hts _ q411) (hts _ q392) (hts _ q342) (Or.inl rfl) ⟨rfl, rfl⟩ (hts _ q390) (hts _ q91) (by decide +kernel) ⟨Nat.le_of_ble_eq_true rfl, Nat.le_of_ble_eq_true rfl⟩ (gPreV xKst hK hA hS hP hrv1) rfl rfl hl.1 rfl (lv_room (Nat.le_of_ble_eq_true rfl)) dX8_kind_1 ⟨by first | omega | (dsimp only; omega), by first | omega | (dsimp only; omega)⟩) hS (fun H locs hP hS => ?_)
  refine lv_iconst (v := (3 : Int32)) hx hb dX8_kind_4 (by decide) ?_
  refine lv_iadd hx hb dX8_kind_5 ?_
  exact ret _ _ _ _ _ _ dX8_kind_6 rfl hP hS h

def fX9_kind (x0 : Nat) (S : XS) : Option (Int32 × XS) :=
chk (mkB S x0) (bnd (fX6_kind x0 S) fun v4 S2 =>
some ((v4 + (3 : Int32)), S2))
set_option maxHeartbeats 4000000 in
set_option maxRecDepth 100000 in
theorem mX9_kind {l : Launch} {D : va_G} {cA : Nat → ClassId} {A : Nat → Prop} (x0 : Nat) (S : XS) {out : (Int32 × XS)} (h : fX9_kind x0 S = some out) : Met l yX9_kind (ws_ yX9_kind cX9_kind 1 (some .int)) ({ frames := 2, cells := 0, slots := 0, locals := 40 } : Room) (gPc (xK D cA A) (xP D cA A) A [.ref x0] S) (gQi (xK D cA A) (xP D cA A) A out) 0 0 A := by
  refine gMet_z (by decide) (Nat.le_of_ble_eq_true rfl) ?_ xKst
  intro p e s m below meth c Q ls args H locs hC hP hS hl ret
  obtain ⟨hx, hb, hml, hown, hts, hA, hK⟩ := hC
  have hown : s.vm.findClass RX9 = some m.cls := hown
  have hl : lv_has ls 1 [(0, .ref x0)] := hl
  unfold fX9_kind at h
  refine lv_aload_n hx hb dX9_kind_0 rfl (lv_at hl 0 rfl) ?_
  obtain ⟨g3, h⟩ := chk_some h
  obtain ⟨C1, cC1, hat1, hrv1⟩ := x_recvM hK.1 hP g3
  obtain ⟨v4, S2, e1, h⟩ := bnd_some h
  refine gci (x_runSU (n := 0) (As := []) (rest := []) hat1 ⟨hx, hb, hml, hown, hts⟩ (mX6_kind (l := l) (D := D) (cA := cA) (A := A) x0 S e1) rfl (lw_meth q398) rfl rfl (hts _ q396) (hts _ q1749) (hts _ q351) (Or.inl rfl) ⟨rfl, rfl⟩ (hts _ q397) (hts _ q92) (by decide +kernel) ⟨Nat.le_of_ble_eq_true rfl, Nat.le_of_ble_eq_true rfl⟩ (gPreV xKst hK hA hS hP hrv1) rfl rfl hl.1 rfl (lv_room (Nat.le_of_ble_eq_true rfl)) dX9_kind_1 ⟨by first | omega | (dsimp only; omega), by first | omega | (dsimp only; omega)⟩) hS (fun H locs hP hS => ?_)
  refine lv_iconst (v := (3 : Int32)) hx hb dX9_kind_4 (by decide) ?_
  refine lv_iadd hx hb dX9_kind_5 ?_
  exact ret _ _ _ _ _ _ dX9_kind_6 rfl hP hS h

def fX6_init (x0 : Nat) (x1 : Int32) (x2 : Int32) (S : XS) : Option XS :=
bn1 (fX5_init x0 x1 x2 S) fun S2 =>
some S2
set_option maxHeartbeats 4000000 in
set_option maxRecDepth 100000 in
theorem mX6_init {l : Launch} {D : va_G} {cA : Nat → ClassId} {A : Nat → Prop} (x0 : Nat) (x1 : Int32) (x2 : Int32) (S : XS) {out : XS} (h : fX6_init x0 x1 x2 S = some out) : Met l yX6_init (ws_ yX6_init cX6_init 3 none) ({ frames := 2, cells := 0, slots := 0, locals := 46 } : Room) (gPc (xK D cA A) (xP D cA A) A [.ref x0, .int x1, .int x2] S) (gQv (xK D cA A) (xP D cA A) A out) 0 0 A := by
  refine gMet_v (by decide) (Nat.le_of_ble_eq_true rfl) ?_ xKst
  intro p e s m below meth c Q ls args H locs hC hP hS hl hmi ret
  obtain ⟨hx, hb, hml, hown, hts, hA, hK⟩ := hC
  have hown : s.vm.findClass RX6 = some m.cls := hown
  have hl : lv_has ls 3 [(0, .ref x0), (1, .int x1), (2, .int x2)] := hl
  have hmi := hmi rfl
  unfold fX6_init at h
  refine lv_aload_n hx hb dX6_init_0 rfl (lv_at hl 0 rfl) ?_
  refine lv_iload_n hx hb dX6_init_1 rfl (lv_at hl 1 rfl) ?_
  refine lv_iload_n hx hb dX6_init_2 rfl (lv_at hl 2 rfl) ?_
  obtain ⟨S2, e1, h⟩ := bn1_some h
  refine gc_v (va_runI (As := [.int x1, .int x2]) (rest := []) ⟨hx, hb, hml, hown, hts⟩ (mX5_init (l := l) (D := D) (cA := cA) (A := A) x0 x1 x2 S e1) (cwI 2 hts (lw_meth q305) rfl rfl rfl (hts _ q91) (hts _ q303) (hts _ q304) rfl (by decide +kernel) ⟨Nat.le_of_ble_eq_true rfl, Nat.le_of_ble_eq_true rfl⟩) (gPreS xKst hK hA hS hP) rfl rfl hl.1 rfl (lv_room (Nat.le_of_ble_eq_true rfl)) dX6_init_3 ⟨by first | omega | (dsimp only; omega), by first | omega | (dsimp only; omega)⟩) hS (fun H locs hP hS => ?_)
  exact ret _ _ _ _ _ dX6_init_6 hP hS h

def fX7_init (x0 : Nat) (x1 : Int32) (x2 : Int32) (S : XS) : Option XS :=
bn1 (fX5_init x0 x1 x2 S) fun S2 =>
some S2
set_option maxHeartbeats 4000000 in
set_option maxRecDepth 100000 in
theorem mX7_init {l : Launch} {D : va_G} {cA : Nat → ClassId} {A : Nat → Prop} (x0 : Nat) (x1 : Int32) (x2 : Int32) (S : XS) {out : XS} (h : fX7_init x0 x1 x2 S = some out) : Met l yX7_init (ws_ yX7_init cX7_init 3 none) ({ frames := 2, cells := 0, slots := 0, locals := 46 } : Room) (gPc (xK D cA A) (xP D cA A) A [.ref x0, .int x1, .int x2] S) (gQv (xK D cA A) (xP D cA A) A out) 0 0 A := by
  refine gMet_v (by decide) (Nat.le_of_ble_eq_true rfl) ?_ xKst
  intro p e s m below meth c Q ls args H locs hC hP hS hl hmi ret
  obtain ⟨hx, hb, hml, hown, hts, hA, hK⟩ := hC
  have hown : s.vm.findClass RX7 = some m.cls := hown
  have hl : lv_has ls 3 [(0, .ref x0), (1, .int x1), (2, .int x2)] := hl
  have hmi := hmi rfl
  unfold fX7_init at h
  refine lv_aload_n hx hb dX7_init_0 rfl (lv_at hl 0 rfl) ?_
  refine lv_iload_n hx hb dX7_init_1 rfl (lv_at hl 1 rfl) ?_
  refine lv_iload_n hx hb dX7_init_2 rfl (lv_at hl 2 rfl) ?_
  obtain ⟨S2, e1, h⟩ := bn1_some h
  refine gc_v (va_runI (As := [.int x1, .int x2]) (rest := []) ⟨hx, hb, hml, hown, hts⟩ (mX5_init (l := l) (D := D) (cA := cA) (A := A) x0 x1 x2 S e1) (cwI 2 hts (lw_meth q305) rfl rfl rfl (hts _ q91) (hts _ q330) (hts _ q304) rfl (by decide +kernel) ⟨Nat.le_of_ble_eq_true rfl, Nat.le_of_ble_eq_true rfl⟩) (gPreS xKst hK hA hS hP) rfl rfl hl.1 rfl (lv_room (Nat.le_of_ble_eq_true rfl)) dX7_init_3 ⟨by first | omega | (dsimp only; omega), by first | omega | (dsimp only; omega)⟩) hS (fun H locs hP hS => ?_)
  exact ret _ _ _ _ _ dX7_init_6 hP hS h

def fX8_init (x0 : Nat) (x1 : Int32) (x2 : Int32) (S : XS) : Option XS :=
bn1 (fX5_init x0 x1 x2 S) fun S2 =>
some S2
set_option maxHeartbeats 4000000 in
set_option maxRecDepth 100000 in
theorem mX8_init {l : Launch} {D : va_G} {cA : Nat → ClassId} {A : Nat → Prop} (x0 : Nat) (x1 : Int32) (x2 : Int32) (S : XS) {out : XS} (h : fX8_init x0 x1 x2 S = some out) : Met l yX8_init (ws_ yX8_init cX8_init 3 none) ({ frames := 2, cells := 0, slots := 0, locals := 46 } : Room) (gPc (xK D cA A) (xP D cA A) A [.ref x0, .int x1, .int x2] S) (gQv (xK D cA A) (xP D cA A) A out) 0 0 A := by
  refine gMet_v (by decide) (Nat.le_of_ble_eq_true rfl) ?_ xKst
  intro p e s m below meth c Q ls args H locs hC hP hS hl hmi ret
  obtain ⟨hx, hb, hml, hown, hts, hA, hK⟩ := hC
  have hown : s.vm.findClass RX8 = some m.cls := hown
  have hl : lv_has ls 3 [(0, .ref x0), (1, .int x1), (2, .int x2)] := hl
  have hmi := hmi rfl
  unfold fX8_init at h
  refine lv_aload_n hx hb dX8_init_0 rfl (lv_at hl 0 rfl) ?_
  refine lv_iload_n hx hb dX8_init_1 rfl (lv_at hl 1 rfl) ?_
  refine lv_iload_n hx hb dX8_init_2 rfl (lv_at hl 2 rfl) ?_
  obtain ⟨S2, e1, h⟩ := bn1_some h
  refine gc_v (va_runI (As := [.int x1, .int x2]) (rest := []) ⟨hx, hb, hml, hown, hts⟩ (mX5_init (l := l) (D := D) (cA := cA) (A := A) x0 x1 x2 S e1) (cwI 2 hts (lw_meth q305) rfl rfl rfl (hts _ q91) (hts _ q339) (hts _ q304) rfl (by decide +kernel) ⟨Nat.le_of_ble_eq_true rfl, Nat.le_of_ble_eq_true rfl⟩) (gPreS xKst hK hA hS hP) rfl rfl hl.1 rfl (lv_room (Nat.le_of_ble_eq_true rfl)) dX8_init_3 ⟨by first | omega | (dsimp only; omega), by first | omega | (dsimp only; omega)⟩) hS (fun H locs hP hS => ?_)
  exact ret _ _ _ _ _ dX8_init_6 hP hS h

def fX9_init (x0 : Nat) (x1 : Int32) (x2 : Int32) (S : XS) : Option XS :=
bn1 (fX6_init x0 x1 x2 S) fun S2 =>
some S2
set_option maxHeartbeats 4000000 in
set_option maxRecDepth 100000 in
theorem mX9_init {l : Launch} {D : va_G} {cA : Nat → ClassId} {A : Nat → Prop} (x0 : Nat) (x1 : Int32) (x2 : Int32) (S : XS) {out : XS} (h : fX9_init x0 x1 x2 S = some out) : Met l yX9_init (ws_ yX9_init cX9_init 3 none) ({ frames := 3, cells := 0, slots := 0, locals := 68 } : Room) (gPc (xK D cA A) (xP D cA A) A [.ref x0, .int x1, .int x2] S) (gQv (xK D cA A) (xP D cA A) A out) 0 0 A := by
  refine gMet_v (by decide) (Nat.le_of_ble_eq_true rfl) ?_ xKst
  intro p e s m below meth c Q ls args H locs hC hP hS hl hmi ret
  obtain ⟨hx, hb, hml, hown, hts, hA, hK⟩ := hC
  have hown : s.vm.findClass RX9 = some m.cls := hown
  have hl : lv_has ls 3 [(0, .ref x0), (1, .int x1), (2, .int x2)] := hl
  have hmi := hmi rfl
  unfold fX9_init at h
  refine lv_aload_n hx hb dX9_init_0 rfl (lv_at hl 0 rfl) ?_
  refine lv_iload_n hx hb dX9_init_1 rfl (lv_at hl 1 rfl) ?_
  refine lv_iload_n hx hb dX9_init_2 rfl (lv_at hl 2 rfl) ?_
  obtain ⟨S2, e1, h⟩ := bn1_some h
  refine gc_v (va_runI (As := [.int x1, .int x2]) (rest := []) ⟨hx, hb, hml, hown, hts⟩ (mX6_init (l := l) (D := D) (cA := cA) (A := A) x0 x1 x2 S e1) (cwI 2 hts (lw_meth q302) rfl rfl rfl (hts _ q92) (hts _ q348) (hts _ q301) rfl (by decide +kernel) ⟨Nat.le_of_ble_eq_true rfl, Nat.le_of_ble_eq_true rfl⟩) (gPreS xKst hK hA hS hP) rfl rfl hl.1 rfl (lv_room (Nat.le_of_ble_eq_true rfl)) dX9_init_3 ⟨by first | omega | (dsimp only; omega), by first | omega | (dsimp only; omega)⟩) hS (fun H locs hP hS => ?_)
  exact ret _ _ _ _ _ dX9_init_6 hP hS h

def fX10_init (x0 : Nat) (x1 : Int32) (x2 : Int32) (S : XS) : Option XS :=
bn1 (fX7_init x0 x1 x2 S) fun S2 =>
some S2
set_option maxHeartbeats 4000000 in
set_option maxRecDepth 100000 in
theorem mX10_init {l : Launch} {D : va_G} {cA : Nat → ClassId} {A : Nat → Prop} (x0 : Nat) (x1 : Int32) (x2 : Int32) (S : XS) {out : XS} (h : fX10_init x0 x1 x2 S = some out) : Met l yX10_init (ws_ yX10_init cX10_init 3 none) ({ frames := 3, cells := 0, slots := 0, locals := 68 } : Room) (gPc (xK D cA A) (xP D cA A) A [.ref x0, .int x1, .int x2] S) (gQv (xK D cA A) (xP D cA A) A out) 0 0 A := by
  refine gMet_v (by decide) (Nat.le_of_ble_eq_true rfl) ?_ xKst
  intro p e s m below meth c Q ls args H locs hC hP hS hl hmi ret
  obtain ⟨hx, hb, hml, hown, hts, hA, hK⟩ := hC
  have hown : s.vm.findClass RX10 = some m.cls := hown
  have hl : lv_has ls 3 [(0, .ref x0), (1, .int x1), (2, .int x2)] := hl
  have hmi := hmi rfl
  unfold fX10_init at h
  refine lv_aload_n hx hb dX10_init_0 rfl (lv_at hl 0 rfl) ?_
  refine lv_iload_n hx hb dX10_init_1 rfl (lv_at hl 1 rfl) ?_
  refine lv_iload_n hx hb dX10_init_2 rfl (lv_at hl 2 rfl) ?_
  obtain ⟨S2, e1, h⟩ := bn1_some h
  refine gc_v (va_runI (As := [.int x1, .int x2]) (rest := []) ⟨hx, hb, hml, hown, hts⟩ (mX7_init (l := l) (D := D) (cA := cA) (A := A) x0 x1 x2 S e1) (cwI 2 hts (lw_meth q329) rfl rfl rfl (hts _ q93) (hts _ q357) (hts _ q328) rfl (by decide +kernel) ⟨Nat.le_of_ble_eq_true rfl, Nat.le_of_ble_eq_true rfl⟩) (gPreS xKst hK hA hS hP) rfl rfl hl.1 rfl (lv_room (Nat.le_of_ble_eq_true rfl)) dX10_init_3 ⟨by first | omega | (dsimp only; omega), by first | omega | (dsimp only; omega)⟩) hS (fun H locs hP hS => ?_)
  exact ret _ _ _ _ _ dX10_init_6 hP hS h

def fX11_init (x0 : Nat) (x1 : Int32) (x2 : Int32) (S : XS) : Option XS :=
bn1 (fX5_init x0 x1 x2 S) fun S2 =>
some S2
set_option maxHeartbeats 4000000 in
set_option maxRecDepth 100000 in
theorem mX11_init {l : Launch} {D : va_G} {cA : Nat → ClassId} {A : Nat → Prop} (x0 : Nat) (x1 : Int32) (x2 : Int32) (S : XS) {out : XS} (h : fX11_init x0 x1 x2 S = some out) : Met l yX11_init (ws_ yX11_init cX11_init 3 none) ({ frames := 2, cells := 0, slots := 0, locals := 46 } : Room) (gPc (xK D cA A) (xP D cA A) A [.ref x0, .int x1, .int x2] S) (gQv (xK D cA A) (xP D cA A) A out) 0 0 A := by
  refine gMet_v (by decide) (Nat.le_of_ble_eq_true rfl) ?_ xKst
  intro p e s m below meth c Q ls args H locs hC hP hS hl hmi ret
  obtain ⟨hx, hb, hml, hown, hts, hA, hK⟩ := hC
  have hown : s.vm.findClass RX11 = some m.cls := hown
  have hl : lv_has ls 3 [(0, .ref x0), (1, .int x1), (2, .int x2)] := hl
  have hmi := hmi rfl
  unfold fX11_init at h
  refine lv_aload_n hx hb dX11_init_0 rfl (lv_at hl 0 rfl) ?_
  refine lv_iload_n hx hb dX11_init_1 rfl (lv_at hl 1 rfl) ?_
  refine lv_iload_n hx hb dX11_init_2 rfl (lv_at hl 2 rfl) ?_
  obtain ⟨S2, e1, h⟩ := bn1_some h
  refine gc_v (va_runI (As := [.int x1, .int x2]) (rest := []) ⟨hx, hb, hml, hown, hts⟩ (mX5_init (l := l) (D := D) (cA := cA) (A := A) x0 x1 x2 S e1) (cwI 2 hts (lw_meth q305) rfl rfl rfl (hts _ q91) (hts _ q366) (hts _ q304) rfl (by decide +kernel) ⟨Nat.le_of_ble_eq_true rfl, Nat.le_of_ble_eq_true rfl⟩) (gPreS xKst hK hA hS hP) rfl rfl hl.1 rfl (lv_room (Nat.le_of_ble_eq_true rfl)) dX11_init_3 ⟨by first | omega | (dsimp only; omega), by first | omega | (dsimp only; omega)⟩) hS (fun H locs hP hS => ?_)
  exact ret _ _ _ _ _ dX11_init_6 hP hS h

def fX0_made (x0 : Int32) (x1 : Int32) (x2 : Int32) (S : XS) : Option (Nat × XS) :=
(if x0 = (1 : Int32) then
nm (xnew S (aeO 6 [.int 0, .int 0])) fun S2 =>
bn1 (fX6_init (S.2) x1 x2 S2) fun S4 =>
some (S.2, S4)
else
(if x0 = (2 : Int32) then
nm (xnew S (aeO 7 [.int 0, .int 0])) fun S6 =>
bn1 (fX7_init (S.2) x1 x2 S6) fun S8 =>
some (S.2, S8)
else
(if x0 = (3 : Int32) then
nm (xnew S (aeO 8 [.int 0, .int 0])) fun S10 =>
bn1 (fX8_init (S.2) x1 x2 S10) fun S12 =>
some (S.2, S12)
else
(if x0 = (4 : Int32) then
nm (xnew S (aeO 9 [.int 0, .int 0])) fun S14 =>
bn1 (fX9_init (S.2) x1 x2 S14) fun S16 =>
some (S.2, S16)
else
(if x0 = (5 : Int32) then
nm (xnew S (aeO 10 [.int 0, .int 0])) fun S18 =>
bn1 (fX10_init (S.2) x1 x2 S18) fun S20 =>
some (S.2, S20)
else
(if x0 = (6 : Int32) then
nm (xnew S (aeO 11 [.int 0, .int 0])) fun S22 =>
bn1 (fX11_init (S.2) x1 x2 S22) fun S24 =>
some (S.2, S24)
else
nm (xnew S (aeO 5 [.int 0, .int 0])) fun S25 =>
bn1 (fX5_init (S.2) x1 x2 S25) fun S27 =>
some (S.2, S27)))))))
set_option maxHeartbeats 4000000 in
set_option maxRecDepth 100000 in
theorem mX0_made {l : Launch} {D : va_G} {cA : Nat → ClassId} {A : Nat → Prop} (x0 : Int32) (x1 : Int32) (x2 : Int32) (S : XS) {out : (Nat × XS)} (h : fX0_made x0 x1 x2 S = some out) : Met l yX0_made (ws_ yX0_made cX0_made 3 (some (.object "PictureBlock$Mark"))) ({ frames := 4, cells := 1, slots := 2, locals := 90 } : Room) (gPc (xK D cA A) (xP D cA A) A [.int x0, .int x1, .int x2] S) (gQr (xK D cA A) (xP D cA A) A out) 1 2 A := by
  refine gMet_r (Or.inl ⟨_, rfl⟩) (by decide) (Nat.le_of_ble_eq_true rfl) ?_ xKst
  intro p e s m below meth c Q ls args H locs hC hP hS hl ret
  obtain ⟨hx, hb, hml, hown, hts, hA, hK⟩ := hC
  have hown : s.vm.findClass RX0 = some m.cls := hown
  have hl : lv_has ls 3 [(0, .int x0), (1, .int x1), (2, .int x2)] := hl
  unfold fX0_made at h
  refine lv_iload_n hx hb dX0_made_0 rfl (lv_at hl 0 rfl) ?_
  by_cases c1 : x0 = (1 : Int32)
  · have h := ite_t c1 h
    refine lv_tableIn (off := 39) (tgt := 40) hx hb dX0_made_1 (by rw [c1]; decide) (by rw [c1]; decide) (by rw [c1]; rfl) (by decide) ?_
    refine x_new (C := RX6) (T := TX6) (N := 2) (ci := 6) (fs := [.int 0, .int 0]) hx hb hts in_X6 tyX6 tyX6_ok hown (hts _ q298) (hts _ q299) (hts _ q92) hK.1 hP hS hA rfl (fun j hj => by rcases (show j = 0 ∨ j = 1 by omega) with rfl | rfl <;> rfl) (by first | omega | (dsimp only; omega)) (by first | omega | (dsimp only; omega)) dX0_made_40 (fun H hP hS => ?_)
    obtain ⟨S2, eS2⟩ : ∃ y : XS, y = xnew S (aeO 6 [.int 0, .int 0]) := ⟨_, rfl⟩
    rw [← eS2] at hP
    have h := nm_at eS2 h
    refine lv_dup hx hb dX0_made_43 rfl ?_
    refine lv_iload_n hx hb dX0_made_44 rfl (lv_at hl 1 rfl) ?_
    refine lv_iload_n hx hb dX0_made_45 rfl (lv_at hl 2 rfl) ?_
    obtain ⟨S4, e3, h⟩ := bn1_some h
    refine gc_v (va_runI (As := [.int x1, .int x2]) (rest := [.ref S.2]) ⟨hx, hb, hml, hown, hts⟩ (mX6_init (l := l) (D := D) (cA := cA) (A := A) (S.2) x1 x2 S2 e3) (cwI 2 hts (lw_meth q302) rfl rfl rfl (hts _ q92) (hts _ q300) (hts _ q301) rfl (by decide +kernel) ⟨Nat.le_of_ble_eq_true rfl, Nat.le_of_ble_eq_true rfl⟩) (gPreS xKst hK hA hS hP) rfl rfl hl.1 rfl (lv_room (Nat.le_of_ble_eq_true rfl)) dX0_made_46 ⟨by first | omega | (dsimp only; omega), by first | omega | (dsimp only; omega)⟩) hS (fun H locs hP hS => ?_)
    refine W.widen (k := 1) (n := 2) (by omega) (by omega) ?_
    exact ret _ _ _ _ _ _ dX0_made_49 hP hS h
  · have h := ite_f c1 h
    by_cases c5 : x0 = (2 : Int32)
    · have h := ite_t c5 h
      refine lv_tableIn (off := 49) (tgt := 50) hx hb dX0_made_1 (by rw [c5]; decide) (by rw [c5]; decide) (by rw [c5]; rfl) (by decide) ?_
      refine x_new (C := RX7) (T := TX7) (N := 2) (ci := 7) (fs := [.int 0, .int 0]) hx hb hts in_X7 tyX7 tyX7_ok hown (hts _ q325) (hts _ q326) (hts _ q93) hK.1 hP hS hA rfl (fun j hj => by rcases (show j = 0 ∨ j = 1 by omega) with rfl | rfl <;> rfl) (by first | omega | (dsimp only; omega)) (by first | omega | (dsimp only; omega)) dX0_made_50 (fun H hP hS => ?_)
      obtain ⟨S6, eS6⟩ : ∃ y : XS, y = xnew S (aeO 7 [.int 0, .int 0]) := ⟨_, rfl⟩
      rw [← eS6] at hP
      have h := nm_at eS6 h
      refine lv_dup hx hb dX0_made_53 rfl ?_
      refine lv_iload_n hx hb dX0_made_54 rfl (lv_at hl 1 rfl) ?_
      refine lv_iload_n hx hb dX0_made_55 rfl (lv_at hl 2 rfl) ?_
      obtain ⟨S8, e7, h⟩ := bn1_some h
      refine gc_v (va_runI (As := [.int x1, .int x2]) (rest := [.ref S.2]) ⟨hx, hb, hml, hown, hts⟩ (mX7_init (l := l) (D := D) (cA := cA) (A := A) (S.2) x1 x2 S6 e7) (cwI 2 hts (lw_meth q329) rfl rfl rfl (hts _ q93) (hts _ q327) (hts _ q328) rfl (by decide +kernel) ⟨Nat.le_of_ble_eq_true rfl, Nat.le_of_ble_eq_true rfl⟩) (gPreS xKst hK hA hS hP) rfl rfl hl.1 rfl (lv_room (Nat.le_of_ble_eq_true rfl)) dX0_made_56 ⟨by first | omega | (dsimp only; omega), by first | omega | (dsimp only; omega)⟩) hS (fun H locs hP hS => ?_)
      refine W.widen (k := 1) (n := 2) (by omega) (by omega) ?_
      exact ret _ _ _ _ _ _ dX0_made_59 hP hS h
    · have h := ite_f c5 h
      by_cases c9 : x0 = (3 : Int32)
      · have h := ite_t c9 h
        refine lv_tableIn (off := 59) (tgt := 60) hx hb dX0_made_1 (by rw [c9]; decide) (by rw [c9]; decide) (by rw [c9]; rfl) (by decide) ?_
        refine x_new (C := RX8) (T := TX8) (N := 2) (ci := 8) (fs := [.int 0, .int 0]) hx hb hts in_X8 tyX8 tyX8_ok hown (hts _ q334) (hts _ q335) (hts _ q94) hK.1 hP hS hA rfl (fun j hj => by rcases (show j = 0 ∨ j = 1 by omega) with rfl | rfl <;> rfl) (by first | omega | (dsimp only; omega)) (by first | omega | (dsimp only; omega)) dX0_made_60 (fun H hP hS => ?_)
        obtain ⟨S10, eS10⟩ : ∃ y : XS, y = xnew S (aeO 8 [.int 0, .int 0]) := ⟨_, rfl⟩
        rw [← eS10] at hP
        have h := nm_at eS10 h
        refine lv_dup hx hb dX0_made_63 rfl ?_
        refine lv_iload_n hx hb dX0_made_64 rfl (lv_at hl 1 rfl) ?_
        refine lv_iload_n hx hb dX0_made_65 rfl (lv_at hl 2 rfl) ?_
        obtain ⟨S12, e11, h⟩ := bn1_some h
        refine gc_v (va_runI (As := [.int x1, .int x2]) (rest := [.ref S.2]) ⟨hx, hb, hml, hown, hts⟩ (mX8_init (l := l) (D := D) (cA := cA) (A := A) (S.2) x1 x2 S10 e11) (cwI 2 hts (lw_meth q338) rfl rfl rfl (hts _ q94) (hts _ q336) (hts _ q337) rfl (by decide +kernel) ⟨Nat.le_of_ble_eq_true rfl, Nat.le_of_ble_eq_true rfl⟩) (gPreS xKst hK hA hS hP) rfl rfl hl.1 rfl (lv_room (Nat.le_of_ble_eq_true rfl)) dX0_made_66 ⟨by first | omega | (dsimp only; omega), by first | omega | (dsimp only; omega)⟩) hS (fun H locs hP hS => ?_)
        refine W.widen (k := 1) (n := 2) (by omega) (by omega) ?_
        exact ret _ _ _ _ _ _ dX0_made_69 hP hS h
      · have h := ite_f c9 h
        by_cases c13 : x0 = (4 : Int32)
        · have h := ite_t c13 h
          refine lv_tableIn (off := 69) (tgt := 70) hx hb dX0_made_1 (by rw [c13]; decide) (by rw [c13]; decide) (by rw [c13]; rfl) (by decide) ?_
          refine x_new (C := RX9) (T := TX9) (N := 2) (ci := 9) (fs := [.int 0, .int 0]) hx hb hts in_X9 tyX9 tyX9_ok hown (hts _ q343) (hts _ q344) (hts _ q95) hK.1 hP hS hA rfl (fun j hj => by rcases (show j = 0 ∨ j = 1 by omega) with rfl | rfl <;> rfl) (by first | omega | (dsimp only; omega)) (by first | omega | (dsimp only; omega)) dX0_made_70 (fun H hP hS => ?_)
          obtain ⟨S14, eS14⟩ : ∃ y : XS, y = xnew S (aeO 9 [.int 0, .int 0]) := ⟨_, rfl⟩
          rw [← eS14] at hP
          have h := nm_at eS14 h
          refine lv_dup hx hb dX0_made_73 rfl ?_
          refine lv_iload_n hx hb dX0_made_74 rfl (lv_at hl 1 rfl) ?_
          refine lv_iload_n hx hb dX0_made_75 rfl (lv_at hl 2 rfl) ?_
          obtain ⟨S16, e15, h⟩ := bn1_some h
          refine gc_v (va_runI (As := [.int x1, .int x2]) (rest := [.ref S.2]) ⟨hx, hb, hml, hown, hts⟩ (mX9_init (l := l) (D := D) (cA := cA) (A := A) (S.2) x1 x2 S14 e15) (cwI 2 hts (lw_meth q347) rfl rfl rfl (hts _ q95) (hts _ q345) (hts _ q346) rfl (by decide +kernel) ⟨Nat.le_of_ble_eq_true rfl, Nat.le_of_ble_eq_true rfl⟩) (gPreS xKst hK hA hS hP) rfl rfl hl.1 rfl (lv_room (Nat.le_of_ble_eq_true rfl)) dX0_made_76 ⟨by first | omega | (dsimp only; omega), by first | omega | (dsimp only; omega)⟩) hS (fun H locs hP hS => ?_)
          refine W.widen (k := 1) (n := 2) (by omega) (by omega) ?_
          exact ret _ _ _ _ _ _ dX0_made_79 hP hS h
        · have h := ite_f c13 h
          by_cases c17 : x0 = (5 : Int32)
          · have h := ite_t c17 h
            refine lv_tableIn (off := 79) (tgt := 80) hx hb dX0_made_1 (by rw [c17]; decide) (by rw [c17]; decide) (by rw [c17]; rfl) (by decide) ?_
            refine x_new (C := RX10) (T := TX10) (N := 2) (ci := 10) (fs := [.int 0, .int 0]) hx hb hts in_X10 tyX10 tyX10_ok hown (hts _ q352) (hts _ q353) (hts _ q96) hK.1 hP hS hA rfl (fun j hj => by rcases (show j = 0 ∨ j = 1 by omega) with rfl | rfl <;> rfl) (by first | omega | (dsimp only; omega)) (by first | omega | (dsimp only; omega)) dX0_made_80 (fun H hP hS => ?_)
            obtain ⟨S18, eS18⟩ : ∃ y : XS, y = xnew S (aeO 10 [.int 0, .int 0]) := ⟨_, rfl⟩
            rw [← eS18] at hP
            have h := nm_at eS18 h
            refine lv_dup hx hb dX0_made_83 rfl ?_
            refine lv_iload_n hx hb dX0_made_84 rfl (lv_at hl 1 rfl) ?_
            refine lv_iload_n hx hb dX0_made_85 rfl (lv_at hl 2 rfl) ?_
            obtain ⟨S20, e19, h⟩ := bn1_some h
            refine gc_v (va_runI (As := [.int x1, .int x2]) (rest := [.ref S.2]) ⟨hx, hb, hml, hown, hts⟩ (mX10_init (l := l) (D := D) (cA := cA) (A := A) (S.2) x1 x2 S18 e19) (cwI 2 hts (lw_meth q356) rfl rfl rfl (hts _ q96) (hts _ q354) (hts _ q355) rfl (by decide +kernel) ⟨Nat.le_of_ble_eq_true rfl, Nat.le_of_ble_eq_true rfl⟩) (gPreS xKst hK hA hS hP) rfl rfl hl.1 rfl (lv_room (Nat.le_of_ble_eq_true rfl)) dX0_made_86 ⟨by first | omega | (dsimp only; omega), by first | omega | (dsimp only; omega)⟩) hS (fun H locs hP hS => ?_)
            refine W.widen (k := 1) (n := 2) (by omega) (by omega) ?_
            exact ret _ _ _ _ _ _ dX0_made_89 hP hS h
          · have h := ite_f c17 h
            by_cases c21 : x0 = (6 : Int32)
            · have h := ite_t c21 h
              refine lv_tableIn (off := 89) (tgt := 90) hx hb dX0_made_1 (by rw [c21]; decide) (by rw [c21]; decide) (by rw [c21]; rfl) (by decide) ?_
              refine x_new (C := RX11) (T := TX11) (N := 2) (ci := 11) (fs := [.int 0, .int 0]) hx hb hts in_X11 tyX11 tyX11_ok hown (hts _ q361) (hts _ q362) (hts _ q97) hK.1 hP hS hA rfl (fun j hj => by rcases (show j = 0 ∨ j = 1 by omega) with rfl | rfl <;> rfl) (by first | omega | (dsimp only; omega)) (by first | omega | (dsimp only; omega)) dX0_made_90 (fun H hP hS => ?_)
              obtain ⟨S22, eS22⟩ : ∃ y : XS, y = xnew S (aeO 11 [.int 0, .int 0]) := ⟨_, rfl⟩
              rw [← eS22] at hP
              have h := nm_at eS22 h
              refine lv_dup hx hb dX0_made_93 rfl ?_
              refine lv_iload_n hx hb dX0_made_94 rfl (lv_at hl 1 rfl) ?_
              refine lv_iload_n hx hb dX0_made_95 rfl (lv_at hl 2 rfl) ?_
              obtain ⟨S24, e23, h⟩ := bn1_some h
              refine gc_v (va_runI (As := [.int x1, .int x2]) (rest := [.ref S.2]) ⟨hx, hb, hml, hown, hts⟩ (mX11_init (l := l) (D := D) (cA := cA) (A := A) (S.2) x1 x2 S22 e23) (cwI 2 hts (lw_meth q365) rfl rfl rfl (hts _ q97) (hts _ q363) (hts _ q364) rfl (by decide +kernel) ⟨Nat.le_of_ble_eq_true rfl, Nat.le_of_ble_eq_true rfl⟩) (gPreS xKst hK hA hS hP) rfl rfl hl.1 rfl (lv_room (Nat.le_of_ble_eq_true rfl)) dX0_made_96 ⟨by first | omega | (dsimp only; omega), by first | omega | (dsimp only; omega)⟩) hS (fun H locs hP hS => ?_)
              refine W.widen (k := 1) (n := 2) (by omega) (by omega) ?_
              exact ret _ _ _ _ _ _ dX0_made_99 hP hS h
            · have h := ite_f c21 h
              have nc1 := lv_neT (a := 1) c1 (by decide)
              have nc5 := lv_neT (a := 2) c5 (by decide)
              have nc9 := lv_neT (a := 3) c9 (by decide)
              have nc13 := lv_neT (a := 4) c13 (by decide)
              have nc17 := lv_neT (a := 5) c17 (by decide)
              have nc21 := lv_neT (a := 6) c21 (by decide)
              refine lv_tableOut (tgt := 100) hx hb dX0_made_1 (by omega) (by decide) ?_
              refine x_new (C := RX5) (T := TX5) (N := 2) (ci := 5) (fs := [.int 0, .int 0]) hx hb hts in_X5 tyX5 tyX5_ok hown (hts _ q370) (hts _ q371) (hts _ q91) hK.1 hP hS hA rfl (fun j hj => by rcases (show j = 0 ∨ j = 1 by omega) with rfl | rfl <;> rfl) (by first | omega | (dsimp only; omega)) (by first | omega | (dsimp only; omega)) dX0_made_100 (fun H hP hS => ?_)
              obtain ⟨S25, eS25⟩ : ∃ y : XS, y = xnew S (aeO 5 [.int 0, .int 0]) := ⟨_, rfl⟩
              rw [← eS25] at hP
              have h := nm_at eS25 h
              refine lv_dup hx hb dX0_made_103 rfl ?_
              refine lv_iload_n hx hb dX0_made_104 rfl (lv_at hl 1 rfl) ?_
              refine lv_iload_n hx hb dX0_made_105 rfl (lv_at hl 2 rfl) ?_
              obtain ⟨S27, e26, h⟩ := bn1_some h
              refine gc_v (va_runI (As := [.int x1, .int x2]) (rest := [.ref S.2]) ⟨hx, hb, hml, hown, hts⟩ (mX5_init (l := l) (D := D) (cA := cA) (A := A) (S.2) x1 x2 S25 e26) (cwI 2 hts (lw_meth q305) rfl rfl rfl (hts _ q91) (hts _ q372) (hts _ q304) rfl (by decide +kernel) ⟨Nat.le_of_ble_eq_true rfl, Nat.le_of_ble_eq_true rfl⟩) (gPreS xKst hK hA hS hP) rfl rfl hl.1 rfl (lv_room (Nat.le_of_ble_eq_true rfl)) dX0_made_106 ⟨by first | omega | (dsimp only; omega), by first | omega | (dsimp only; omega)⟩) hS (fun H locs hP hS => ?_)
              refine W.widen (k := 1) (n := 2) (by omega) (by omega) ?_
              exact ret _ _ _ _ _ _ dX0_made_109 hP hS h

def v_X5_kind (a : Nat)  (S : XS) : Option (Int32 × XS) :=
  if isC S a 5 = true then fX5_kind a  S else
  if isC S a 6 = true then fX6_kind a  S else
  if isC S a 7 = true then fX7_kind a  S else
  if isC S a 8 = true then fX8_kind a  S else
  if isC S a 9 = true then fX9_kind a  S else
  if isC S a 10 = true then fX10_kind a  S else
  if isC S a 11 = true then fX11_kind a  S else
  none
theorem v_X5_kind_c {a : Nat}  {S : XS} {o : (Int32 × XS)} (h : v_X5_kind a  S = some o) : (isC S a 5 = true ∧ fX5_kind a  S = some o) ∨ (isC S a 6 = true ∧ fX6_kind a  S = some o) ∨ (isC S a 7 = true ∧ fX7_kind a  S = some o) ∨ (isC S a 8 = true ∧ fX8_kind a  S = some o) ∨ (isC S a 9 = true ∧ fX9_kind a  S = some o) ∨ (isC S a 10 = true ∧ fX10_kind a  S = some o) ∨ (isC S a 11 = true ∧ fX11_kind a  S = some o) := by
  unfold v_X5_kind at h
  split at h
  · next hc => exact (Or.inl ⟨hc, h⟩)
  · skip
    split at h
    · next hc => exact (Or.inr (Or.inl ⟨hc, h⟩))
    · skip
      split at h
      · next hc => exact (Or.inr (Or.inr (Or.inl ⟨hc, h⟩)))
      · skip
        split at h
        · next hc => exact (Or.inr (Or.inr (Or.inr (Or.inl ⟨hc, h⟩))))
        · skip
          split at h
          · next hc => exact (Or.inr (Or.inr (Or.inr (Or.inr (Or.inl ⟨hc, h⟩)))))
          · skip
            split at h
            · next hc => exact (Or.inr (Or.inr (Or.inr (Or.inr (Or.inr (Or.inl ⟨hc, h⟩))))))
            · skip
              split at h
              · next hc => exact (Or.inr (Or.inr (Or.inr (Or.inr (Or.inr (Or.inr ⟨hc, h⟩))))))
              · cases h
def bX0_become_21 (x0 : Nat) (S : XS) : Option (Int32 × XS) :=
chk (isC S x0 0) (bnd (fX0_finds x0 (1 : Int32) S) fun v4 S2 =>
some (v4, S2))
def fX0_become (x0 : Nat) (x1 : Int32) (x2 : Int32) (S : XS) : Option (Int32 × XS) :=
chk (isC S x0 0) (bnd (fX0_isMark x0 x1 S) fun v8 S6 =>
(if v8 = 0 then
bX0_become_21 x0 S6
else
(if x2 < 0 then
bX0_become_21 x0 S6
else
(if (x2 / (10 : Int32)) ≤ (6 : Int32) then
bn1 (gR S6 x0 0 2) fun a13 =>
chk (isC S6 a13 1) (bnd (fX1_at a13 x1 S6) fun a17 S15 =>
bnd (v_X5_kind a17  S15) fun v18 S19 =>
bn1 (gR S19 x0 0 2) fun a22 =>
bn1 (gR S19 a22 1 8) fun a24 =>
bn1 (aR S19 a24 4 x1) fun a26 =>
bnd (fX0_made (x2 / (10 : Int32)) x1 (x2 - x2 / (10 : Int32) * (10 : Int32)) S19) fun a29 S28 =>
bn1 (pF S28 a26 2 0 (.ref a29)) fun S31 =>
some (v18, S31))
else
bX0_become_21 x0 S6))))
set_option maxHeartbeats 4000000 in
set_option maxRecDepth 100000 in
theorem mX0_become {l : Launch} {D : va_G} {cA : Nat → ClassId} {A : Nat → Prop} (x0 : Nat) (x1 : Int32) (x2 : Int32) (S : XS) {out : (Int32 × XS)} (h : fX0_become x0 x1 x2 S = some out) : Met l yX0_become (ws_ yX0_become cX0_become 4 (some .int)) ({ frames := 5, cells := 1, slots := 2, locals := 112 } : Room) (gPc (xK D cA A) (xP D cA A) A [.ref x0, .int x1, .int x2] S) (gQi (xK D cA A) (xP D cA A) A out) 1 2 A := by
  refine gMet_z (by decide) (Nat.le_of_ble_eq_true rfl) ?_ xKst
  intro p e s m below meth c Q ls args H locs hC hP hS hl ret
  obtain ⟨hx, hb, hml, hown, hts, hA, hK⟩ := hC
  have hown : s.vm.findClass RX0 = some m.cls := hown
  have hl : lv_has ls 4 [(0, .ref x0), (1, .int x1), (2, .int x2)] := hl
  have B21 : ∀ (x0 : Nat) (S : XS) (H : Heap) (locs : List Loc) (ls : Array Slot), xP D cA A S H → va_S A s.heap H locs → lv_has ls 4 [(0, .ref x0)] → bX0_become_21  x0 S = some out → W p l e ({ frames := 5, cells := 1, slots := 2, locals := 112 } : Room) s m args below meth c H locs 0 0 Q (F0 m 21 ls []) := by
    intro x0 S H locs ls hP hS hl h
    unfold bX0_become_21 at h
    refine lv_aload_n hx hb dX0_become_21 rfl (lv_at hl 0 rfl) ?_
    refine lv_iconst (v := (1 : Int32)) hx hb dX0_become_22 (by decide) ?_
    obtain ⟨g3, h⟩ := chk_some h
    obtain ⟨fg3, g3⟩ := isC_some g3
    obtain ⟨v4, S2, e1, h⟩ := bnd_some h
    refine gci (va_runV (As := [.int (1 : Int32)]) (rest := []) ⟨hx, hb, hml, hown, hts⟩ (mX0_finds (l := l) (D := D) (cA := cA) (A := A) x0 (1 : Int32) S e1) (cwV 1 hts (lw_V q290 q292 qs1 q86 q293) rfl rfl rfl (by decide +kernel) ⟨Nat.le_of_ble_eq_true rfl, Nat.le_of_ble_eq_true rfl⟩) (gPreV xKst hK hA hS hP (x_recv (q := (RX0, TX0, 16)) hK.1 hP rfl g3)) rfl rfl hl.1 rfl (lv_room (Nat.le_of_ble_eq_true rfl)) dX0_become_23 ⟨by first | omega | (dsimp only; omega), by first | omega | (dsimp only; omega)⟩) hS (fun H locs hP hS => ?_)
    refine W.widen (k := 1) (n := 2) (by omega) (by omega) ?_
    exact ret _ _ _ _ _ _ dX0_become_26 rfl hP hS h
  unfold fX0_become at h
  refine lv_aload_n hx hb dX0_become_0 rfl (lv_at hl 0 rfl) ?_
  refine lv_iload_n hx hb dX0_become_1 rfl (lv_at hl 1 rfl) ?_
  obtain ⟨g7, h⟩ := chk_some h
  obtain ⟨fg7, g7⟩ := isC_some g7
  obtain ⟨v8, S6, e5, h⟩ := bnd_some h
  refine gci (va_runV (As := [.int x1]) (rest := []) ⟨hx, hb, hml, hown, hts⟩ (mX0_isMark (l := l) (D := D) (cA := cA) (A := A) x0 x1 S e5) (cwV 1 hts (lw_V q380 q382 qs2 q86 q383) rfl rfl rfl (by decide +kernel) ⟨Nat.le_of_ble_eq_true rfl, Nat.le_of_ble_eq_true rfl⟩) (gPreV xKst hK hA hS hP (x_recv (q := (RX0, TX0, 16)) hK.1 hP rfl g7)) rfl rfl hl.1 rfl (lv_room (Nat.le_of_ble_eq_true rfl)) dX0_become_2 ⟨by first | omega | (dsimp only; omega), by first | omega | (dsimp only; omega)⟩) hS (fun H locs hP hS => ?_)
  refine lv_if_eq (tgt := 21) hx hb dX0_become_5 (by decide) (fun c9 => ?_) (fun c9 => ?_)
  · have h := ite_t c9 h
    refine W.widen (k := 0) (n := 0) (by omega) (by omega) ?_
    exact B21 x0 S6 _ _ _ hP hS (lv_sub hl [0] rfl) h
  · have h := ite_f c9 h
    refine lv_iload_n hx hb dX0_become_8 rfl (lv_at hl 2 rfl) ?_
    refine lv_if_lt (tgt := 21) hx hb dX0_become_9 (by decide) (fun c10 => ?_) (fun c10 => ?_)
    · have h := ite_t c10 h
      refine W.widen (k := 0) (n := 0) (by omega) (by omega) ?_
      exact B21 x0 S6 _ _ _ hP hS (lv_sub hl [0] rfl) h
    · have h := ite_f c10 h
      refine lv_iload_n hx hb dX0_become_12 rfl (lv_at hl 2 rfl) ?_
      refine lv_bipush (v := (10 : Int32)) hx hb dX0_become_13 (by decide) ?_
      refine lv_idiv hx hb dX0_become_15 (by decide) ?_
      refine lv_bipush (v := (6 : Int32)) hx hb dX0_become_16 (by decide) ?_
      refine lv_icmp_le (tgt := 27) hx hb dX0_become_18 (by decide) (fun c11 => ?_) (fun c11 => ?_)
      · have h := ite_t c11 h
        refine lv_aload_n hx hb dX0_become_27 rfl (lv_at hl 0 rfl) ?_
        obtain ⟨a13, e12, h⟩ := bn1_some h
        refine x_get (C := RX0) (T := TX0) (N := 16) (ci := 0) hx hb hts in_X0 hown hK.1 hP rfl 2 (by decide) (hts _ q231) (fun _ h9 => h9) (gR_some e12) dX0_become_28 ?_
        refine lv_iload_n hx hb dX0_become_31 rfl (lv_at hl 1 rfl) ?_
        obtain ⟨g16, h⟩ := chk_some h
        obtain ⟨fg16, g16⟩ := isC_some g16
        obtain ⟨a17, S15, e14, h⟩ := bnd_some h
        refine gcr (va_runV (As := [.int x1]) (rest := []) ⟨hx, hb, hml, hown, hts⟩ (mX1_at (l := l) (D := D) (cA := cA) (A := A) a13 x1 S6 e14) (cwV 1 hts (lw_V q384 q385 q386 q87 q387) rfl rfl rfl (by decide +kernel) ⟨Nat.le_of_ble_eq_true rfl, Nat.le_of_ble_eq_true rfl⟩) (gPreV xKst hK hA hS hP (x_recv (q := (RX1, TX1, 16)) hK.1 hP rfl g16)) rfl rfl hl.1 rfl (lv_room (Nat.le_of_ble_eq_true rfl)) dX0_become_32 ⟨by first | omega | (dsimp only; omega), by first | omega | (dsimp only; omega)⟩) hS (fun H locs hP hS => ?_)
        obtain ⟨v18, S19, e20, h⟩ := bnd_some h
        have hr32 : va_Run p l e ({ frames := 5, cells := 1, slots := 2, locals := 112 } : Room) s m args below meth c H locs 0 0 0 0 (F0 m 35 ls [.ref a17]) [] (gQi (xK D cA A) (xP D cA A) A (v18, S19) ([.ref a17]).toArray) A := by
          rcases v_X5_kind_c e20 with ⟨gc, ec⟩ | ⟨gc, ec⟩ | ⟨gc, ec⟩ | ⟨gc, ec⟩ | ⟨gc, ec⟩ | ⟨gc, ec⟩ | ⟨gc, ec⟩
          · obtain ⟨fc, gc⟩ := isC_some gc
            exact va_runU (rest := []) ⟨hx, hb, hml, hown, hts⟩ (mX5_kind (l := l) (D := D) (cA := cA) (A := A) a17  S15 ec) (va_cwO (C := RX5) (owner := RX5) 0 hts (lw_app (xw6 q389 q392 q390 q391 q390 q91) (lw_meth q417)) rfl rfl rfl q417 (by decide +kernel) ⟨Nat.le_of_ble_eq_true rfl, Nat.le_of_ble_eq_true rfl⟩) (gPreV (As := []) xKst hK hA hS hP (x_recv (q := (RX5, TX5, 2)) hK.1 hP rfl gc)) rfl rfl hl.1 rfl (lv_room (Nat.le_of_ble_eq_true rfl)) dX0_become_35 ⟨by first | exact Nat.zero_le _ | (dsimp only; omega), by first | exact Nat.zero_le _ | (dsimp only; omega)⟩
          · obtain ⟨fc, gc⟩ := isC_some gc
            exact va_runU (rest := []) ⟨hx, hb, hml, hown, hts⟩ (mX6_kind (l := l) (D := D) (cA := cA) (A := A) a17  S15 ec) (va_cwO (C := RX6) (owner := RX5) 0 hts (lw_app (xw6 q389 q392 q390 q407 q397 q92) (lw_meth q398)) rfl rfl rfl q417 (by decide +kernel) ⟨Nat.le_of_ble_eq_true rfl, Nat.le_of_ble_eq_true rfl⟩) (gPreV (As := []) xKst hK hA hS hP (x_recv (q := (RX6, TX6, 2)) hK.1 hP rfl gc)) rfl rfl hl.1 rfl (lv_room (Nat.le_of_ble_eq_true rfl)) dX0_become_35 ⟨by first | exact Nat.zero_le _ | (dsimp only; omega), by first | exact Nat.zero_le _ | (dsimp only; omega)⟩
          · obtain ⟨fc, gc⟩ := isC_some gc
            exact va_runU (rest := []) ⟨hx, hb, hml, hown, hts⟩ (mX7_kind (l := l) (D := D) (cA := cA) (A := A) a17  S15 ec) (va_cwO (C := RX7) (owner := RX5) 0 hts (lw_app (xw6 q389 q392 q390 q416 q404 q93) (lw_meth q405)) rfl rfl rfl q417 (by decide +kernel) ⟨Nat.le_of_ble_eq_true rfl, Nat.le_of_ble_eq_true rfl⟩) (gPreV (As := []) xKst hK hA hS hP (x_recv (q := (RX7, TX7, 2)) hK.1 hP rfl gc)) rfl rfl hl.1 rfl (lv_room (Nat.le_of_ble_eq_true rfl)) dX0_become_35 ⟨by first | exact Nat.zero_le _ | (dsimp only; omega), by first | exact Nat.zero_le _ | (dsimp only; omega)⟩
          · obtain ⟨fc, gc⟩ := isC_some gc
            exact va_runU (rest := []) ⟨hx, hb, hml, hown, hts⟩ (mX8_kind (l := l) (D := D) (cA := cA) (A := A) a17  S15 ec) (va_cwO (C := RX8) (owner := RX5) 0 hts (lw_app (xw6 q389 q392 q390 q408 q409 q94) (lw_meth q410)) rfl rfl rfl q417 (by decide +kernel) ⟨Nat.le_of_ble_eq_true rfl, Nat.le_of_ble_eq_true rfl⟩) (gPreV (As := []) xKst hK hA hS hP (x_recv (q := (RX8, TX8, 2)) hK.1 hP rfl gc)) rfl rfl hl.1 rfl (lv_room (Nat.le_of_ble_eq_true rfl)) dX0_become_35 ⟨by first | exact Nat.zero_le _ | (dsimp only; omega), by first | exact Nat.zero_le _ | (dsimp only; omega)⟩
          · obtain ⟨fc, gc⟩ := isC_some gc
            exact va_runU (rest := []) ⟨hx, hb, hml, hown, hts⟩ (mX9_kind (l := l) (D := D) (cA := cA) (A := A) a17  S15 ec) (va_cwO (C := RX9) (owner := RX5) 0 hts (lw_app (xw6 q389 q392 q390 q393 q394 q95) (lw_meth q395)) rfl rfl rfl q417 (by decide +kernel) ⟨Nat.le_of_ble_eq_true rfl, Nat.le_of_ble_eq_true rfl⟩) (gPreV (As := []) xKst hK hA hS hP (x_recv (q := (RX9, TX9, 2)) hK.1 hP rfl gc)) rfl rfl hl.1 rfl (lv_room (Nat.le_of_ble_eq_true rfl)) dX0_become_35 ⟨by first | exact Nat.zero_le _ | (dsimp only; omega), by first | exact Nat.zero_le _ | (dsimp only; omega)⟩
          · obtain ⟨fc, gc⟩ := isC_some gc
            exact va_runU (rest := []) ⟨hx, hb, hml, hown, hts⟩ (mX10_kind (l := l) (D := D) (cA := cA) (A := A) a17  S15 ec) (va_cwO (C := RX10) (owner := RX5) 0 hts (lw_app (xw6 q389 q392 q390 q400 q401 q96) (lw_meth q402)) rfl rfl rfl q417 (by decide +kernel) ⟨Nat.le_of_ble_eq_true rfl, Nat.le_of_ble_eq_true rfl⟩) (gPreV (As := []) xKst hK hA hS hP (x_recv (q := (RX10, TX10, 2)) hK.1 hP rfl gc)) rfl rfl hl.1 rfl (lv_room (Nat.le_of_ble_eq_true rfl)) dX0_become_35 ⟨by first | exact Nat.zero_le _ | (dsimp only; omega), by first | exact Nat.zero_le _ | (dsimp only; omega)⟩
          · obtain ⟨fc, gc⟩ := isC_some gc
            exact va_runU (rest := []) ⟨hx, hb, hml, hown, hts⟩ (mX11_kind (l := l) (D := D) (cA := cA) (A := A) a17  S15 ec) (va_cwO (C := RX11) (owner := RX5) 0 hts (lw_app (xw6 q389 q392 q390 q412 q413 q97) (lw_meth q414)) rfl rfl rfl q417 (by decide +kernel) ⟨Nat.le_of_ble_eq_true rfl, Nat.le_of_ble_eq_true rfl⟩) (gPreV (As := []) xKst hK hA hS hP (x_recv (q := (RX11, TX11, 2)) hK.1 hP rfl gc)) rfl rfl hl.1 rfl (lv_room (Nat.le_of_ble_eq_true rfl)) dX0_become_35 ⟨by first | exact Nat.zero_le _ | (dsimp only; omega), by first | exact Nat.zero_le _ | (dsimp only; omega)⟩
        refine gci0 hr32 hS (fun H locs hP hS => ?_)
        refine lv_istore_n (lv' := [(3, .int v18), (0, .ref x0), (1, .int x1), (2, .int x2)]) hx hb dX0_become_38 rfl hl (by decide) rfl (fun ls hl => ?_)
        refine lv_aload_n hx hb dX0_become_39 rfl (lv_at hl 1 rfl) ?_
        obtain ⟨a22, e21, h⟩ := bn1_some h
        refine x_get (C := RX0) (T := TX0) (N := 16) (ci := 0) hx hb hts in_X0 hown hK.1 hP rfl 2 (by decide) (hts _ q231) (fun _ h9 => h9) (gR_some e21) dX0_become_40 ?_
        obtain ⟨a24, e23, h⟩ := bn1_some h
        refine x_getN (C := RX1) (T := TX1) (N := 16) (ci := 1) hx hb hts in_X1 hown hK.1 hP rfl 8 (by decide) (hK.2.1 _ q162 rfl) (fun _ h9 => h9) (gR_some e23) dX0_become_43 ?_
        refine lv_iload_n hx hb dX0_become_46 rfl (lv_at hl 2 rfl) ?_
        obtain ⟨a26, e25, h⟩ := bn1_some h
        refine x_aldr (t := 4) hx hb hK.1 hP (by decide) e25 dX0_become_47 ?_
        refine lv_iload_n hx hb dX0_become_48 rfl (lv_at hl 3 rfl) ?_
        refine lv_bipush (v := (10 : Int32)) hx hb dX0_become_49 (by decide) ?_
        refine lv_idiv hx hb dX0_become_51 (by decide) ?_
        refine lv_iload_n hx hb dX0_become_52 rfl (lv_at hl 2 rfl) ?_
        refine lv_iload_n hx hb dX0_become_53 rfl (lv_at hl 3 rfl) ?_
        refine lv_bipush (v := (10 : Int32)) hx hb dX0_become_54 (by decide) ?_
        refine lv_irem hx hb dX0_become_56 (by decide) ?_
        obtain ⟨a29, S28, e27, h⟩ := bnd_some h
        refine gcr (va_runS (As := [.int (x2 / (10 : Int32)), .int x1, .int (x2 - x2 / (10 : Int32) * (10 : Int32))]) (rest := [.ref a26]) ⟨hx, hb, hml, hown, hts⟩ (mX0_made (l := l) (D := D) (cA := cA) (A := A) (x2 / (10 : Int32)) x1 (x2 - x2 / (10 : Int32) * (10 : Int32)) S19 e27) (va_cwS 3 hts (lw_S q295 q296 q86 q297) rfl rfl rfl (by decide +kernel) ⟨Nat.le_of_ble_eq_true rfl, Nat.le_of_ble_eq_true rfl⟩) (gPreS xKst hK hA hS hP) rfl rfl hl.1 rfl (lv_room (Nat.le_of_ble_eq_true rfl)) dX0_become_57 ⟨by first | omega | (dsimp only; omega), by first | omega | (dsimp only; omega)⟩) hS (fun H locs hP hS => ?_)
        obtain ⟨S31, e30, h⟩ := bn1_some h
        refine x_putN (v := .ref a29) (ty := (.object "java/lang/Object")) (C := RX2) (T := TX2) (N := 1) (ci := 2) hx hb hts in_X2 tyX2 tyX2_ok nmX2 hown hK.1 hP hS rfl 0 (by decide) (hK.2.1 _ q139 rfl) (fun _ h9 => h9) rfl (by decide +kernel) rfl rfl e30 dX0_become_60 (fun H locs hP hS => ?_)
        refine lv_iload_n hx hb dX0_become_63 rfl (lv_at hl 0 rfl) ?_
        refine W.widen (k := 1) (n := 2) (by omega) (by omega) ?_
        exact ret _ _ _ _ _ _ dX0_become_64 rfl hP hS h
      · have h := ite_f c11 h
        refine W.widen (k := 0) (n := 0) (by omega) (by omega) ?_
        exact B21 x0 S6 _ _ _ hP hS (lv_sub hl [0] rfl) h

def bX0_body_34 (x0 : Nat) (t0 : Int32) (S : XS) : Option (Int32 × XS) :=
some (t0, S)
def fX0_body (x0 : Nat) (x1 : Int32) (S : XS) : Option (Int32 × XS) :=
bn1 (gR S x0 0 5) fun a2 =>
bn1 (gI S a2 3 1) fun v4 =>
bnd (fX0_isIn x1 (0 : Int32) (v4 - (1 : Int32)) S) fun v7 S6 =>
(if v7 = 0 then
chk (isC S6 x0 0) (bnd (fX0_finds x0 (2 : Int32) S6) fun v12 S10 =>
bX0_body_34 x0 v12 S10)
else
bn1 (gR S6 x0 0 5) fun a14 =>
bn1 (gR S6 a14 3 0) fun a16 =>
bn1 (aI S6 a16 1 x1) fun v18 =>
bX0_body_34 x0 v18 S6)
set_option maxHeartbeats 4000000 in
set_option maxRecDepth 100000 in
theorem mX0_body {l : Launch} {D : va_G} {cA : Nat → ClassId} {A : Nat → Prop} (x0 : Nat) (x1 : Int32) (S : XS) {out : (Int32 × XS)} (h : fX0_body x0 x1 S = some out) : Met l yX0_body (ws_ yX0_body cX0_body 2 (some .int)) ({ frames := 1, cells := 0, slots := 0, locals := 22 } : Room) (gPc (xK D cA A) (xP D cA A) A [.ref x0, .int x1] S) (gQi (xK D cA A) (xP D cA A) A out) 0 0 A := by
  refine gMet_z (by decide) (Nat.le_of_ble_eq_true rfl) ?_ xKst
  intro p e s m below meth c Q ls args H locs hC hP hS hl ret
  obtain ⟨hx, hb, hml, hown, hts, hA, hK⟩ := hC
  have hown : s.vm.findClass RX0 = some m.cls := hown
  have hl : lv_has ls 2 [(0, .ref x0), (1, .int x1)] := hl
  have B34 : ∀ (x0 : Nat) (t0 : Int32) (S : XS) (H : Heap) (locs : List Loc) (ls : Array Slot), xP D cA A S H → va_S A s.heap H locs → lv_has ls 2 [(0, .ref x0)] → bX0_body_34  x0 t0 S = some out → W p l e ({ frames := 1, cells := 0, slots := 0, locals := 22 } : Room) s m args below meth c H locs 0 0 Q (F0 m 34 ls [.int t0]) := by
    intro x0 t0 S H locs ls hP hS hl h
    unfold bX0_body_34 at h
    exact ret _ _ _ _ _ _ dX0_body_34 rfl hP hS h
  unfold fX0_body at h
  refine lv_iload_n hx hb dX0_body_0 rfl (lv_at hl 1 rfl) ?_
  refine lv_iconst (v := (0 : Int32)) hx hb dX0_body_1 (by decide) ?_
  refine lv_aload_n hx hb dX0_body_2 rfl (lv_at hl 0 rfl) ?_
  obtain ⟨a2, e1, h⟩ := bn1_some h
  refine x_get (C := RX0) (T := TX0) (N := 16) (ci := 0) hx hb hts in_X0 hown hK.1 hP rfl 5 (by decide) (hts _ q234) (fun _ h9 => h9) (gR_some e1) dX0_body_3 ?_
  obtain ⟨v4, e3, h⟩ := bn1_some h
  refine x_getN (C := RX3) (T := TX3) (N := 2) (ci := 3) hx hb hts in_X3 hown hK.1 hP rfl 1 (by decide) (hK.2.1 _ q219 rfl) (fun _ h9 => h9) (gI_some e3) dX0_body_6 ?_
  refine lv_iconst (v := (1 : Int32)) hx hb dX0_body_9 (by decide) ?_
  refine lv_isub hx hb dX0_body_10 ?_
  obtain ⟨v7, S6, e5, h⟩ := bnd_some h
  refine gci (va_runS (As := [.int x1, .int (0 : Int32), .int (v4 - (1 : Int32))]) (rest := []) ⟨hx, hb, hml, hown, hts⟩ (mX0_isIn (l := l) (D := D) (cA := cA) (A := A) x1 (0 : Int32) (v4 - (1 : Int32)) S e5) (va_cwS 3 hts (lw_S q283 q284 q86 q285) rfl rfl rfl (by decide +kernel) ⟨Nat.le_of_ble_eq_true rfl, Nat.le_of_ble_eq_true rfl⟩) (gPreS xKst hK hA hS hP) rfl rfl hl.1 rfl (lv_room (Nat.le_of_ble_eq_true rfl)) dX0_body_11 ⟨by first | omega | (dsimp only; omega), by first | omega | (dsimp only; omega)⟩) hS (fun H locs hP hS => ?_)
  refine lv_if_eq (tgt := 29) hx hb dX0_body_14 (by decide) (fun c8 => ?_) (fun c8 => ?_)
  · have h := ite_t c8 h
    refine lv_aload_n hx hb dX0_body_29 rfl (lv_at hl 0 rfl) ?_
    refine lv_iconst (v := (2 : Int32)) hx hb dX0_body_30 (by decide) ?_
    obtain ⟨g11, h⟩ := chk_some h
    obtain ⟨fg11, g11⟩ := isC_some g11
    obtain ⟨v12, S10, e9, h⟩ := bnd_some h
    refine gci (va_runV (As := [.int (2 : Int32)]) (rest := []) ⟨hx, hb, hml, hown, hts⟩ (mX0_finds (l := l) (D := D) (cA := cA) (A := A) x0 (2 : Int32) S6 e9) (cwV 1 hts (lw_V q290 q292 qs1 q86 q293) rfl rfl rfl (by decide +kernel) ⟨Nat.le_of_ble_eq_true rfl, Nat.le_of_ble_eq_true rfl⟩) (gPreV xKst hK hA hS hP (x_recv (q := (RX0, TX0, 16)) hK.1 hP rfl g11)) rfl rfl hl.1 rfl (lv_room (Nat.le_of_ble_eq_true rfl)) dX0_body_31 ⟨by first | omega | (dsimp only; omega), by first | omega | (dsimp only; omega)⟩) hS (fun H locs hP hS => ?_)
    exact B34 x0 v12 S10 _ _ _ hP hS (lv_sub hl [0] rfl) h
  · have h := ite_f c8 h
    refine lv_aload_n hx hb dX0_body_17 rfl (lv_at hl 0 rfl) ?_
    obtain ⟨a14, e13, h⟩ := bn1_some h
    refine x_get (C := RX0) (T := TX0) (N := 16) (ci := 0) hx hb hts in_X0 hown hK.1 hP rfl 5 (by decide) (hts _ q234) (fun _ h9 => h9) (gR_some e13) dX0_body_18 ?_
    obtain ⟨a16, e15, h⟩ := bn1_some h
    refine x_getN (C := RX3) (T := TX3) (N := 2) (ci := 3) hx hb hts in_X3 hown hK.1 hP rfl 0 (by decide) (hK.2.1 _ q217 rfl) (fun _ h9 => h9) (gR_some e15) dX0_body_21 ?_
    refine lv_iload_n hx hb dX0_body_24 rfl (lv_at hl 1 rfl) ?_
    obtain ⟨v18, e17, h⟩ := bn1_some h
    refine x_bald hx hb hK.1 hP e17 dX0_body_25 ?_
    refine lv_goto (tgt := 34) hx hb dX0_body_26 (by decide) ?_
    exact B34 x0 v18 S6 _ _ _ hP hS (lv_sub hl [0] rfl) h

def bX0_check_66 (x0 : Nat) (t0 : Int32) (S : XS) : Option (Int32 × XS) :=
some (t0, S)
def bX0_check_54 (x0 : Nat) (x1 : Int32) (x2 : Int32) (S : XS) : Option (Int32 × XS) :=
(if x2 = x1 then
bX0_check_66 x0 (0 : Int32) S
else
bX0_check_66 x0 ((1 : Int32) + x2) S)
def bX0_check_18 (k18 : Nat → Int32 → Int32 → XS → Option (Int32 × XS)) (x0 : Nat) (x1 : Int32) (x2 : Int32) (S : XS) : Option (Int32 × XS) :=
(if x1 ≤ x2 then
bX0_check_54 x0 x1 x2 S
else
chk (isC S x0 0) (bnd (fX0_isMark x0 x2 S) fun v6 S4 =>
(if v6 = 0 then
bX0_check_54 x0 x1 x2 S4
else
bn1 (gR S4 x0 0 2) fun a9 =>
bn1 (gR S4 a9 1 15) fun a11 =>
bn1 (aI S4 a11 0 x2) fun v13 =>
chk (isC S4 x0 0) (bnd (fX0_saidBy x0 x2 S4) fun v17 S15 =>
(if v13 = v17 then
nm (x2 + (1 : Int32)) fun y19 =>
k18 x0 x1 y19 S15
else
bX0_check_54 x0 x1 x2 S15)))))
def lX0_check_18 : Nat → (Nat → Int32 → Int32 → XS → Option (Int32 × XS))
  | 0 => fun _ _ _ _ => none
  | n + 1 => bX0_check_18 (lX0_check_18 n)
def fX0_check (x0 : Nat) (S : XS) : Option (Int32 × XS) :=
bn1 (gR S x0 0 2) fun a21 =>
bn1 (gI S a21 1 7) fun v23 =>
bn1 (gR S x0 0 2) fun a25 =>
bn1 (pF S a25 1 7 (.int (0 : Int32))) fun S27 =>
lX0_check_18 FU x0 v23 (0 : Int32) S27
set_option maxHeartbeats 4000000 in
set_option maxRecDepth 100000 in
theorem mX0_check {l : Launch} {D : va_G} {cA : Nat → ClassId} {A : Nat → Prop} (x0 : Nat) (S : XS) {out : (Int32 × XS)} (h : fX0_check x0 S = some out) : Met l yX0_check (ws_ yX0_check cX0_check 3 (some .int)) ({ frames := 4, cells := 0, slots := 0, locals := 129 } : Room) (gPc (xK D cA A) (xP D cA A) A [.ref x0] S) (gQi (xK D cA A) (xP D cA A) A out) 0 0 A := by
  refine gMet_z (by decide) (Nat.le_of_ble_eq_true rfl) ?_ xKst
  intro p e s m below meth c Q ls args H locs hC hP hS hl ret
  obtain ⟨hx, hb, hml, hown, hts, hA, hK⟩ := hC
  have hown : s.vm.findClass RX0 = some m.cls := hown
  have hl : lv_has ls 3 [(0, .ref x0)] := hl
  have B66 : ∀ (x0 : Nat) (t0 : Int32) (S : XS) (H : Heap) (locs : List Loc) (ls : Array Slot), xP D cA A S H → va_S A s.heap H locs → lv_has ls 3 [(0, .ref x0)] → bX0_check_66  x0 t0 S = some out → W p l e ({ frames := 4, cells := 0, slots := 0, locals := 129 } : Room) s m args below meth c H locs 0 0 Q (F0 m 66 ls [.int t0]) := by
    intro x0 t0 S H locs ls hP hS hl h
    unfold bX0_check_66 at h
    exact ret _ _ _ _ _ _ dX0_check_66 rfl hP hS h
  have B54 : ∀ (x0 : Nat) (x1 : Int32) (x2 : Int32) (S : XS) (H : Heap) (locs : List Loc) (ls : Array Slot), xP D cA A S H → va_S A s.heap H locs → lv_has ls 3 [(0, .ref x0), (1, .int x1), (2, .int x2)] → bX0_check_54  x0 x1 x2 S = some out → W p l e ({ frames := 4, cells := 0, slots := 0, locals := 129 } : Room) s m args below meth c H locs 0 0 Q (F0 m 54 ls []) := by
    intro x0 x1 x2 S H locs ls hP hS hl h
    unfold bX0_check_54 at h
    refine lv_iload_n hx hb dX0_check_54 rfl (lv_at hl 2 rfl) ?_
    refine lv_iload_n hx hb dX0_check_55 rfl (lv_at hl 1 rfl) ?_
    refine lv_icmp_ne (tgt := 63) hx hb dX0_check_56 (by decide) (fun c1 => ?_) (fun c1 => ?_)
    · have h := ite_f c1 h
      refine lv_iconst (v := (1 : Int32)) hx hb dX0_check_63 (by decide) ?_
      refine lv_iload_n hx hb dX0_check_64 rfl (lv_at hl 2 rfl) ?_
      refine lv_iadd hx hb dX0_check_65 ?_
      exact B66 x0 ((1 : Int32) + x2) S _ _ _ hP hS (lv_sub hl [0] rfl) h
    · have h := ite_t c1 h
      refine lv_iconst (v := (0 : Int32)) hx hb dX0_check_59 (by decide) ?_
      refine lv_goto (tgt := 66) hx hb dX0_check_60 (by decide) ?_
      exact B66 x0 (0 : Int32) S _ _ _ hP hS (lv_sub hl [0] rfl) h
  have L18 : ∀ (n18 : Nat) (x0 : Nat) (x1 : Int32) (x2 : Int32) (S : XS) (H : Heap) (locs : List Loc) (ls : Array Slot), xP D cA A S H → va_S A s.heap H locs → lv_has ls 3 [(0, .ref x0), (1, .int x1), (2, .int x2)] → lX0_check_18 n18 x0 x1 x2 S = some out → W p l e ({ frames := 4, cells := 0, slots := 0, locals := 129 } : Room) s m args below meth c H locs 0 0 Q (F0 m 18 ls []) := by
    intro n18
    induction n18 with
    | zero =>
      intro x0 x1 x2 S H locs ls hP hS hl h
      cases h
    | succ n18 ih18 =>
      intro x0 x1 x2 S H locs ls hP hS hl h
      replace h : bX0_check_18 (lX0_check_18 n18) x0 x1 x2 S = some out := h
      unfold bX0_check_18 at h
      refine lv_iload_n hx hb dX0_check_18 rfl (lv_at hl 2 rfl) ?_
      refine lv_iload_n hx hb dX0_check_19 rfl (lv_at hl 1 rfl) ?_
      refine lv_icmp_ge (tgt := 54) hx hb dX0_check_20 (by decide) (fun c2 => ?_) (fun c2 => ?_)
      · have h := ite_t c2 h
        exact B54 x0 x1 x2 S _ _ _ hP hS hl h
      · have h := ite_f c2 h
        refine lv_aload_n hx hb dX0_check_23 rfl (lv_at hl 0 rfl) ?_
        refine lv_iload_n hx hb dX0_check_24 rfl (lv_at hl 2 rfl) ?_
        obtain ⟨g5, h⟩ := chk_some h
        obtain ⟨fg5, g5⟩ := isC_some g5
        obtain ⟨v6, S4, e3, h⟩ := bnd_some h
        refine gci (va_runV (As := [.int x2]) (rest := []) ⟨hx, hb, hml, hown, hts⟩ (mX0_isMark (l := l) (D := D) (cA := cA) (A := A) x0 x2 S e3) (cwV 1 hts (lw_V q380 q382 qs2 q86 q383) rfl rfl rfl (by decide +kernel) ⟨Nat.le_of_ble_eq_true rfl, Nat.le_of_ble_eq_true rfl⟩) (gPreV xKst hK hA hS hP (x_recv (q := (RX0, TX0, 16)) hK.1 hP rfl g5)) rfl rfl hl.1 rfl (lv_room (Nat.le_of_ble_eq_true rfl)) dX0_check_25 ⟨by first | omega | (dsimp only; omega), by first | omega | (dsimp only; omega)⟩) hS (fun H locs hP hS => ?_)
        refine lv_if_eq (tgt := 54) hx hb dX0_check_28 (by decide) (fun c7 => ?_) (fun c7 => ?_)
        · have h := ite_t c7 h
          exact B54 x0 x1 x2 S4 _ _ _ hP hS hl h
        · have h := ite_f c7 h
          refine lv_aload_n hx hb dX0_check_31 rfl (lv_at hl 0 rfl) ?_
          obtain ⟨a9, e8, h⟩ := bn1_some h
          refine x_get (C := RX0) (T := TX0) (N := 16) (ci := 0) hx hb hts in_X0 hown hK.1 hP rfl 2 (by decide) (hts _ q231) (fun _ h9 => h9) (gR_some e8) dX0_check_32 ?_
          obtain ⟨a11, e10, h⟩ := bn1_some h
          refine x_getN (C := RX1) (T := TX1) (N := 16) (ci := 1) hx hb hts in_X1 hown hK.1 hP rfl 15 (by decide) (hK.2.1 _ q176 rfl) (fun _ h9 => h9) (gR_some e10) dX0_check_35 ?_
          refine lv_iload_n hx hb dX0_check_38 rfl (lv_at hl 2 rfl) ?_
          obtain ⟨v13, e12, h⟩ := bn1_some h
          refine x_iald hx hb hK.1 hP e12 dX0_check_39 ?_
          refine lv_aload_n hx hb dX0_check_40 rfl (lv_at hl 0 rfl) ?_
          refine lv_iload_n hx hb dX0_check_41 rfl (lv_at hl 2 rfl) ?_
          obtain ⟨g16, h⟩ := chk_some h
          obtain ⟨fg16, g16⟩ := isC_some g16
          obtain ⟨v17, S15, e14, h⟩ := bnd_some h
          refine gci (va_runV (As := [.int x2]) (rest := [.int v13]) ⟨hx, hb, hml, hown, hts⟩ (mX0_saidBy (l := l) (D := D) (cA := cA) (A := A) x0 x2 S4 e14) (cwV 1 hts (lw_V q514 q516 qs6 q86 q517) rfl rfl rfl (by decide +kernel) ⟨Nat.le_of_ble_eq_true rfl, Nat.le_of_ble_eq_true rfl⟩) (gPreV xKst hK hA hS hP (x_recv (q := (RX0, TX0, 16)) hK.1 hP rfl g16)) rfl rfl hl.1 rfl (lv_room (Nat.le_of_ble_eq_true rfl)) dX0_check_42 ⟨by first | omega | (dsimp only; omega), by first | omega | (dsimp only; omega)⟩) hS (fun H locs hP hS => ?_)
          refine lv_icmp_ne (tgt := 54) hx hb dX0_check_45 (by decide) (fun c18 => ?_) (fun c18 => ?_)
          · have h := ite_f c18 h
            exact B54 x0 x1 x2 S15 _ _ _ hP hS hl h
          · have h := ite_t c18 h
            obtain ⟨y19, ey19⟩ : ∃ y : Int32, y = x2 + (1 : Int32) := ⟨_, rfl⟩
            refine lv_iinc (v := y19) (lv' := [(2, .int y19), (0, .ref x0), (1, .int x1)]) hx hb dX0_check_48 hl (k := 2) rfl (by rw [ey19]; rfl) (by decide) rfl (fun ls hl => ?_)
            have h := nm_at ey19 h
            refine lv_goto (tgt := 18) hx hb dX0_check_51 (by decide) ?_
            exact ih18 x0 x1 y19 S15 _ _ _ hP hS (lv_sub hl [1, 2, 0] rfl) h
  unfold fX0_check at h
  refine lv_aload_n hx hb dX0_check_0 rfl (lv_at hl 0 rfl) ?_
  obtain ⟨a21, e20, h⟩ := bn1_some h
  refine x_get (C := RX0) (T := TX0) (N := 16) (ci := 0) hx hb hts in_X0 hown hK.1 hP rfl 2 (by decide) (hts _ q231) (fun _ h9 => h9) (gR_some e20) dX0_check_1 ?_
  obtain ⟨v23, e22, h⟩ := bn1_some h
  refine x_getN (C := RX1) (T := TX1) (N := 16) (ci := 1) hx hb hts in_X1 hown hK.1 hP rfl 7 (by decide) (hK.2.1 _ q160 rfl) (fun _ h9 => h9) (gI_some e22) dX0_check_4 ?_
  refine lv_istore_n (lv' := [(1, .int v23), (0, .ref x0)]) hx hb dX0_check_7 rfl hl (by decide) rfl (fun ls hl => ?_)
  refine lv_aload_n hx hb dX0_check_8 rfl (lv_at hl 1 rfl) ?_
  obtain ⟨a25, e24, h⟩ := bn1_some h
  refine x_get (C := RX0) (T := TX0) (N := 16) (ci := 0) hx hb hts in_X0 hown hK.1 hP rfl 2 (by decide) (hts _ q231) (fun _ h9 => h9) (gR_some e24) dX0_check_9 ?_
  refine lv_iconst (v := (0 : Int32)) hx hb dX0_check_12 (by decide) ?_
  obtain ⟨S27, e26, h⟩ := bn1_some h
  refine x_putN (v := .int (0 : Int32)) (ty := .int) (C := RX1) (T := TX1) (N := 16) (ci := 1) hx hb hts in_X1 tyX1 tyX1_ok nmX1 hown hK.1 hP hS rfl 7 (by decide) (hK.2.1 _ q160 rfl) (fun _ h9 => h9) rfl (by decide +kernel) rfl rfl e26 dX0_check_13 (fun H locs hP hS => ?_)
  refine lv_iconst (v := (0 : Int32)) hx hb dX0_check_16 (by decide) ?_
  refine lv_istore_n (lv' := [(2, .int (0 : Int32)), (1, .int v23), (0, .ref x0)]) hx hb dX0_check_17 rfl hl (by decide) rfl (fun ls hl => ?_)
  exact L18 FU x0 v23 (0 : Int32) S27 _ _ _ hP hS (lv_sub hl [2, 1, 0] rfl) h

def bX0_common_9 (k9 : Int64 → Int64 → XS → Option (Int64 × XS)) (x4 : Int64) (x6 : Int64) (S : XS) : Option (Int64 × XS) :=
(if (lg_cmp x6 (0 : Int64)) = 0 then
some (x4, S)
else
chk (ne0L x6) (nm (x4 - x4 / x6 * x6) fun y3 =>
k9 x6 y3 S))
def lX0_common_9 : Nat → (Int64 → Int64 → XS → Option (Int64 × XS))
  | 0 => fun _ _ _ => none
  | n + 1 => bX0_common_9 (lX0_common_9 n)
def fX0_common (x0 : Int64) (x2 : Int64) (S : XS) : Option (Int64 × XS) :=
nm (if 0 < x0 then x0 else (-x0)) fun y4 =>
lX0_common_9 FU y4 x2 S
set_option maxHeartbeats 4000000 in
set_option maxRecDepth 100000 in
theorem mX0_common {l : Launch} {D : va_G} {cA : Nat → ClassId} {A : Nat → Prop} (x0 : Int64) (x2 : Int64) (S : XS) {out : (Int64 × XS)} (h : fX0_common x0 x2 S = some out) : Met l yX0_common (ws_ yX0_common cX0_common 10 (some .long)) ({ frames := 1, cells := 0, slots := 0, locals := 60 } : Room) (gPc (xK D cA A) (xP D cA A) A [.long x0, .long x2] S) (gQl (xK D cA A) (xP D cA A) A out) 0 0 A := by
  refine gMet_l (by decide) (Nat.le_of_ble_eq_true rfl) ?_ xKst
  intro p e s m below meth c Q ls args H locs hC hP hS hl ret
  obtain ⟨hx, hb, hml, hown, hts, hA, hK⟩ := hC
  have hown : s.vm.findClass RX0 = some m.cls := hown
  have hl : lv_has ls 10 [(0, .long x0), (2, .long x2)] := hl
  have L9 : ∀ (n9 : Nat) (x4 : Int64) (x6 : Int64) (S : XS) (H : Heap) (locs : List Loc) (ls : Array Slot), xP D cA A S H → va_S A s.heap H locs → lv_has ls 10 [(4, .long x4), (6, .long x6)] → lX0_common_9 n9 x4 x6 S = some out → W p l e ({ frames := 1, cells := 0, slots := 0, locals := 60 } : Room) s m args below meth c H locs 0 0 Q (F0 m 9 ls []) := by
    intro n9
    induction n9 with
    | zero =>
      intro x4 x6 S H locs ls hP hS hl h
      cases h
    | succ n9 ih9 =>
      intro x4 x6 S H locs ls hP hS hl h
      replace h : bX0_common_9 (lX0_common_9 n9) x4 x6 S = some out := h
      unfold bX0_common_9 at h
      refine lv_lload hx hb dX0_common_9 (lv_at hl 1 rfl) ?_
      refine lv_lconst (v := (0 : Int64)) hx hb dX0_common_11 (by decide) ?_
      refine W.lcmp hx hb dX0_common_12 ?_
      refine lv_if_eq (tgt := 34) hx hb dX0_common_13 (by decide) (fun c1 => ?_) (fun c1 => ?_)
      · have h := ite_t c1 h
        refine lv_lload hx hb dX0_common_34 (lv_at hl 0 rfl) ?_
        exact ret _ _ _ _ _ _ dX0_common_36 hP hS h
      · have h := ite_f c1 h
        refine lv_lload hx hb dX0_common_16 (lv_at hl 0 rfl) ?_
        refine lv_lload hx hb dX0_common_18 (lv_at hl 1 rfl) ?_
        obtain ⟨g2, h⟩ := chk_some h
        refine lv_lrem hx hb dX0_common_20 (ne0L_n g2) ?_
        refine lv_topl (fun y3 ey3 => ?_)
        have h := nm_at ey3 h
        refine lv_lstore (lv' := [(8, .long y3), (4, .long x4), (6, .long x6)]) hx hb dX0_common_21 hl (by decide) rfl (fun ls hl => ?_)
        refine lv_lload hx hb dX0_common_23 (lv_at hl 2 rfl) ?_
        refine lv_lstore (lv' := [(4, .long x6), (8, .long y3), (6, .long x6)]) hx hb dX0_common_25 hl (by decide) rfl (fun ls hl => ?_)
        refine lv_lload hx hb dX0_common_27 (lv_at hl 1 rfl) ?_
        refine lv_lstore (lv' := [(6, .long y3), (4, .long x6), (8, .long y3)]) hx hb dX0_common_29 hl (by decide) rfl (fun ls hl => ?_)
        refine lv_goto (tgt := 9) hx hb dX0_common_31 (by decide) ?_
        exact ih9 x6 y3 S _ _ _ hP hS (lv_sub hl [1, 0] rfl) h
  unfold fX0_common at h
  refine lv_lload_n hx hb dX0_common_0 rfl (lv_at hl 0 rfl) ?_
  refine va_mabs_long hx hb (hml.trans hl.1.symm) hown (hts _ q920) (hts _ q921) (hts _ q98) (hts _ q922) (Nat.le_of_ble_eq_true rfl) (Nat.le_of_ble_eq_true rfl) (by first | exact Nat.zero_le _ | (dsimp only; omega)) (by first | exact Nat.zero_le _ | (dsimp only; omega)) dX0_common_1 ?_
  refine lv_topl (fun y4 ey4 => ?_)
  have h := nm_at ey4 h
  refine lv_lstore (lv' := [(4, .long y4), (0, .long x0), (2, .long x2)]) hx hb dX0_common_4 hl (by decide) rfl (fun ls hl => ?_)
  refine lv_lload_n hx hb dX0_common_6 rfl (lv_at hl 2 rfl) ?_
  refine lv_lstore (lv' := [(6, .long x2), (4, .long y4), (0, .long x0), (2, .long x2)]) hx hb dX0_common_7 hl (by decide) rfl (fun ls hl => ?_)
  exact L9 FU y4 x2 S _ _ _ hP hS (lv_sub hl [1, 0] rfl) h

def fX0_count (x0 : Nat) (x1 : Int32) (S : XS) : Option (Int32 × XS) :=
(if x1 = (0 : Int32) then
bn1 (gR S x0 0 2) fun a3 =>
bn1 (gI S a3 1 0) fun v5 =>
some (v5, S)
else
(if x1 = (1 : Int32) then
bn1 (gR S x0 0 2) fun a8 =>
bn1 (gI S a8 1 1) fun v10 =>
some (v10, S)
else
(if x1 = (2 : Int32) then
bn1 (gR S x0 0 2) fun a13 =>
bn1 (gI S a13 1 2) fun v15 =>
some (v15, S)
else
(if x1 = (3 : Int32) then
bn1 (gR S x0 0 2) fun a18 =>
bn1 (gI S a18 1 3) fun v20 =>
some (v20, S)
else
(if x1 = (4 : Int32) then
bn1 (gR S x0 0 2) fun a23 =>
bn1 (gI S a23 1 4) fun v25 =>
some (v25, S)
else
(if x1 = (5 : Int32) then
bn1 (gR S x0 0 2) fun a28 =>
chk (isC S a28 1) (bnd (fX1_used a28 S) fun v32 S30 =>
some (v32, S30))
else
(if x1 = (6 : Int32) then
bn1 (gR S x0 0 2) fun a35 =>
bn1 (gR S x0 0 2) fun a37 =>
chk (isC S a37 1) (bnd (fX1_used a37 S) fun v41 S39 =>
chk (isC S39 a35 1) (bnd (fX1_tied a35 v41 S39) fun v45 S43 =>
some (v45, S43)))
else
(if x1 = (7 : Int32) then
bn1 (gR S x0 0 2) fun a48 =>
bn1 (gI S a48 1 6) fun v50 =>
some (v50, S)
else
(if x1 = (8 : Int32) then
bn1 (gR S x0 0 2) fun a53 =>
bn1 (gI S a53 1 7) fun v55 =>
some (v55, S)
else
(if x1 = (9 : Int32) then
bn1 (gR S x0 0 5) fun a58 =>
bn1 (gI S a58 3 1) fun v60 =>
some (v60, S)
else
(if x1 = (10 : Int32) then
bn1 (gR S x0 0 2) fun a63 =>
bn1 (gI S a63 1 5) fun v65 =>
some (v65, S)
else
chk (isC S x0 0) (bnd (fX0_finds x0 (1 : Int32) S) fun v69 S67 =>
some (v69, S67)))))))))))))
set_option maxHeartbeats 4000000 in
set_option maxRecDepth 100000 in
theorem mX0_count {l : Launch} {D : va_G} {cA : Nat → ClassId} {A : Nat → Prop} (x0 : Nat) (x1 : Int32) (S : XS) {out : (Int32 × XS)} (h : fX0_count x0 x1 S = some out) : Met l yX0_count (ws_ yX0_count cX0_count 2 (some .int)) ({ frames := 1, cells := 0, slots := 0, locals := 25 } : Room) (gPc (xK D cA A) (xP D cA A) A [.ref x0, .int x1] S) (gQi (xK D cA A) (xP D cA A) A out) 0 0 A := by
  refine gMet_z (by decide) (Nat.le_of_ble_eq_true rfl) ?_ xKst
  intro p e s m below meth c Q ls args H locs hC hP hS hl ret
  obtain ⟨hx, hb, hml, hown, hts, hA, hK⟩ := hC
  have hown : s.vm.findClass RX0 = some m.cls := hown
  have hl : lv_has ls 2 [(0, .ref x0), (1, .int x1)] := hl
  unfold fX0_count at h
  refine lv_iload_n hx hb dX0_count_0 rfl (lv_at hl 1 rfl) ?_
  by_cases c1 : x1 = (0 : Int32)
  · have h := ite_t c1 h
    refine lv_tableIn (off := 59) (tgt := 60) hx hb dX0_count_1 (by rw [c1]; decide) (by rw [c1]; decide) (by rw [c1]; rfl) (by decide) ?_
    refine lv_aload_n hx hb dX0_count_60 rfl (lv_at hl 0 rfl) ?_
    obtain ⟨a3, e2, h⟩ := bn1_some h
    refine x_get (C := RX0) (T := TX0) (N := 16) (ci := 0) hx hb hts in_X0 hown hK.1 hP rfl 2 (by decide) (hts _ q231) (fun _ h9 => h9) (gR_some e2) dX0_count_61 ?_
    obtain ⟨v5, e4, h⟩ := bn1_some h
    refine x_getN (C := RX1) (T := TX1) (N := 16) (ci := 1) hx hb hts in_X1 hown hK.1 hP rfl 0 (by decide) (hK.2.1 _ q146 rfl) (fun _ h9 => h9) (gI_some e4) dX0_count_64 ?_
    exact ret _ _ _ _ _ _ dX0_count_67 rfl hP hS h
  · have h := ite_f c1 h
    by_cases c6 : x1 = (1 : Int32)
    · have h := ite_t c6 h
      refine lv_tableIn (off := 67) (tgt := 68) hx hb dX0_count_1 (by rw [c6]; decide) (by rw [c6]; decide) (by rw [c6]; rfl) (by decide) ?_
      refine lv_aload_n hx hb dX0_count_68 rfl (lv_at hl 0 rfl) ?_
      obtain ⟨a8, e7, h⟩ := bn1_some h
      refine x_get (C := RX0) (T := TX0) (N := 16) (ci := 0) hx hb hts in_X0 hown hK.1 hP rfl 2 (by decide) (hts _ q231) (fun _ h9 => h9) (gR_some e7) dX0_count_69 ?_
      obtain ⟨v10, e9, h⟩ := bn1_some h
      refine x_getN (C := RX1) (T := TX1) (N := 16) (ci := 1) hx hb hts in_X1 hown hK.1 hP rfl 1 (by decide) (hK.2.1 _ q148 rfl) (fun _ h9 => h9) (gI_some e9) dX0_count_72 ?_
      exact ret _ _ _ _ _ _ dX0_count_75 rfl hP hS h
    · have h := ite_f c6 h
      by_cases c11 : x1 = (2 : Int32)
      · have h := ite_t c11 h
        refine lv_tableIn (off := 75) (tgt := 76) hx hb dX0_count_1 (by rw [c11]; decide) (by rw [c11]; decide) (by rw [c11]; rfl) (by decide) ?_
        refine lv_aload_n hx hb dX0_count_76 rfl (lv_at hl 0 rfl) ?_
        obtain ⟨a13, e12, h⟩ := bn1_some h
        refine x_get (C := RX0) (T := TX0) (N := 16) (ci := 0) hx hb hts in_X0 hown hK.1 hP rfl 2 (by decide) (hts _ q231) (fun _ h9 => h9) (gR_some e12) dX0_count_77 ?_
        obtain ⟨v15, e14, h⟩ := bn1_some h
        refine x_getN (C := RX1) (T := TX1) (N := 16) (ci := 1) hx hb hts in_X1 hown hK.1 hP rfl 2 (by decide) (hK.2.1 _ q150 rfl) (fun _ h9 => h9) (gI_some e14) dX0_count_80 ?_
        exact ret _ _ _ _ _ _ dX0_count_83 rfl hP hS h
      · have h := ite_f c11 h
        by_cases c16 : x1 = (3 : Int32)
        · have h := ite_t c16 h
          refine lv_tableIn (off := 83) (tgt := 84) hx hb dX0_count_1 (by rw [c16]; decide) (by rw [c16]; decide) (by rw [c16]; rfl) (by decide) ?_
          refine lv_aload_n hx hb dX0_count_84 rfl (lv_at hl 0 rfl) ?_
          obtain ⟨a18, e17, h⟩ := bn1_some h
          refine x_get (C := RX0) (T := TX0) (N := 16) (ci := 0) hx hb hts in_X0 hown hK.1 hP rfl 2 (by decide) (hts _ q231) (fun _ h9 => h9) (gR_some e17) dX0_count_85 ?_
          obtain ⟨v20, e19, h⟩ := bn1_some h
          refine x_getN (C := RX1) (T := TX1) (N := 16) (ci := 1) hx hb hts in_X1 hown hK.1 hP rfl 3 (by decide) (hK.2.1 _ q152 rfl) (fun _ h9 => h9) (gI_some e19) dX0_count_88 ?_
          exact ret _ _ _ _ _ _ dX0_count_91 rfl hP hS h
        · have h := ite_f c16 h
          by_cases c21 : x1 = (4 : Int32)
          · have h := ite_t c21 h
            refine lv_tableIn (off := 91) (tgt := 92) hx hb dX0_count_1 (by rw [c21]; decide) (by rw [c21]; decide) (by rw [c21]; rfl) (by decide) ?_
            refine lv_aload_n hx hb dX0_count_92 rfl (lv_at hl 0 rfl) ?_
            obtain ⟨a23, e22, h⟩ := bn1_some h
            refine x_get (C := RX0) (T := TX0) (N := 16) (ci := 0) hx hb hts in_X0 hown hK.1 hP rfl 2 (by decide) (hts _ q231) (fun _ h9 => h9) (gR_some e22) dX0_count_93 ?_
            obtain ⟨v25, e24, h⟩ := bn1_some h
            refine x_getN (C := RX1) (T := TX1) (N := 16) (ci := 1) hx hb hts in_X1 hown hK.1 hP rfl 4 (by decide) (hK.2.1 _ q154 rfl) (fun _ h9 => h9) (gI_some e24) dX0_count_96 ?_
            exact ret _ _ _ _ _ _ dX0_count_99 rfl hP hS h
          · have h := ite_f c21 h
            by_cases c26 : x1 = (5 : Int32)
            · have h := ite_t c26 h
              refine lv_tableIn (off := 99) (tgt := 100) hx hb dX0_count_1 (by rw [c26]; decide) (by rw [c26]; decide) (by rw [c26]; rfl) (by decide) ?_
              refine lv_aload_n hx hb dX0_count_100 rfl (lv_at hl 0 rfl) ?_
              obtain ⟨a28, e27, h⟩ := bn1_some h
              refine x_get (C := RX0) (T := TX0) (N := 16) (ci := 0) hx hb hts in_X0 hown hK.1 hP rfl 2 (by decide) (hts _ q231) (fun _ h9 => h9) (gR_some e27) dX0_count_101 ?_
              obtain ⟨g31, h⟩ := chk_some h
              obtain ⟨fg31, g31⟩ := isC_some g31
              obtain ⟨v32, S30, e29, h⟩ := bnd_some h
              refine gci (va_runV (As := []) (rest := []) ⟨hx, hb, hml, hown, hts⟩ (mX1_used (l := l) (D := D) (cA := cA) (A := A) a28 S e29) (cwV 0 hts (lw_V q893 q894 q895 q87 q896) rfl rfl rfl (by decide +kernel) ⟨Nat.le_of_ble_eq_true rfl, Nat.le_of_ble_eq_true rfl⟩) (gPreV xKst hK hA hS hP (x_recv (q := (RX1, TX1, 16)) hK.1 hP rfl g31)) rfl rfl hl.1 rfl (lv_room (Nat.le_of_ble_eq_true rfl)) dX0_count_104 ⟨by first | omega | (dsimp only; omega), by first | omega | (dsimp only; omega)⟩) hS (fun H locs hP hS => ?_)
              exact ret _ _ _ _ _ _ dX0_count_107 rfl hP hS h
            · have h := ite_f c26 h
              by_cases c33 : x1 = (6 : Int32)
              · have h := ite_t c33 h
                refine lv_tableIn (off := 107) (tgt := 108) hx hb dX0_count_1 (by rw [c33]; decide) (by rw [c33]; decide) (by rw [c33]; rfl) (by decide) ?_
                refine lv_aload_n hx hb dX0_count_108 rfl (lv_at hl 0 rfl) ?_
                obtain ⟨a35, e34, h⟩ := bn1_some h
                refine x_get (C := RX0) (T := TX0) (N := 16) (ci := 0) hx hb hts in_X0 hown hK.1 hP rfl 2 (by decide) (hts _ q231) (fun _ h9 => h9) (gR_some e34) dX0_count_109 ?_
                refine lv_aload_n hx hb dX0_count_112 rfl (lv_at hl 0 rfl) ?_
                obtain ⟨a37, e36, h⟩ := bn1_some h
                refine x_get (C := RX0) (T := TX0) (N := 16) (ci := 0) hx hb hts in_X0 hown hK.1 hP rfl 2 (by decide) (hts _ q231) (fun _ h9 => h9) (gR_some e36) dX0_count_113 ?_
                obtain ⟨g40, h⟩ := chk_some h
                obtain ⟨fg40, g40⟩ := isC_some g40
                obtain ⟨v41, S39, e38, h⟩ := bnd_some h
                refine gci (va_runV (As := []) (rest := [.ref a35]) ⟨hx, hb, hml, hown, hts⟩ (mX1_used (l := l) (D := D) (cA := cA) (A := A) a37 S e38) (cwV 0 hts (lw_V q893 q894 q895 q87 q896) rfl rfl rfl (by decide +kernel) ⟨Nat.le_of_ble_eq_true rfl, Nat.le_of_ble_eq_true rfl⟩) (gPreV xKst hK hA hS hP (x_recv (q := (RX1, TX1, 16)) hK.1 hP rfl g40)) rfl rfl hl.1 rfl (lv_room (Nat.le_of_ble_eq_true rfl)) dX0_count_116 ⟨by first | omega | (dsimp only; omega), by first | omega | (dsimp only; omega)⟩) hS (fun H locs hP hS => ?_)
                obtain ⟨g44, h⟩ := chk_some h
                obtain ⟨fg44, g44⟩ := isC_some g44
                obtain ⟨v45, S43, e42, h⟩ := bnd_some h
                refine gci (va_runV (As := [.int v41]) (rest := []) ⟨hx, hb, hml, hown, hts⟩ (mX1_tied (l := l) (D := D) (cA := cA) (A := A) a35 v41 S39 e42) (cwV 1 hts (lw_V q897 q898 q899 q87 q900) rfl rfl rfl (by decide +kernel) ⟨Nat.le_of_ble_eq_true rfl, Nat.le_of_ble_eq_true rfl⟩) (gPreV xKst hK hA hS hP (x_recv (q := (RX1, TX1, 16)) hK.1 hP rfl g44)) rfl rfl hl.1 rfl (lv_room (Nat.le_of_ble_eq_true rfl)) dX0_count_119 ⟨by first | omega | (dsimp only; omega), by first | omega | (dsimp only; omega)⟩) hS (fun H locs hP hS => ?_)
                exact ret _ _ _ _ _ _ dX0_count_122 rfl hP hS h
              · have h := ite_f c33 h
                by_cases c46 : x1 = (7 : Int32)
                · have h := ite_t c46 h
                  refine lv_tableIn (off := 122) (tgt := 123) hx hb dX0_count_1 (by rw [c46]; decide) (by rw [c46]; decide) (by rw [c46]; rfl) (by decide) ?_
                  refine lv_aload_n hx hb dX0_count_123 rfl (lv_at hl 0 rfl) ?_
                  obtain ⟨a48, e47, h⟩ := bn1_some h
                  refine x_get (C := RX0) (T := TX0) (N := 16) (ci := 0) hx hb hts in_X0 hown hK.1 hP rfl 2 (by decide) (hts _ q231) (fun _ h9 => h9) (gR_some e47) dX0_count_124 ?_
                  obtain ⟨v50, e49, h⟩ := bn1_some h
                  refine x_getN (C := RX1) (T := TX1) (N := 16) (ci := 1) hx hb hts in_X1 hown hK.1 hP rfl 6 (by decide) (hK.2.1 _ q158 rfl) (fun _ h9 => h9) (gI_some e49) dX0_count_127 ?_
                  exact ret _ _ _ _ _ _ dX0_count_130 rfl hP hS h
                · have h := ite_f c46 h
                  by_cases c51 : x1 = (8 : Int32)
                  · have h := ite_t c51 h
                    refine lv_tableIn (off := 130) (tgt := 131) hx hb dX0_count_1 (by rw [c51]; decide) (by rw [c51]; decide) (by rw [c51]; rfl) (by decide) ?_
                    refine lv_aload_n hx hb dX0_count_131 rfl (lv_at hl 0 rfl) ?_
                    obtain ⟨a53, e52, h⟩ := bn1_some h
                    refine x_get (C := RX0) (T := TX0) (N := 16) (ci := 0) hx hb hts in_X0 hown hK.1 hP rfl 2 (by decide) (hts _ q231) (fun _ h9 => h9) (gR_some e52) dX0_count_132 ?_
                    obtain ⟨v55, e54, h⟩ := bn1_some h
                    refine x_getN (C := RX1) (T := TX1) (N := 16) (ci := 1) hx hb hts in_X1 hown hK.1 hP rfl 7 (by decide) (hK.2.1 _ q160 rfl) (fun _ h9 => h9) (gI_some e54) dX0_count_135 ?_
                    exact ret _ _ _ _ _ _ dX0_count_138 rfl hP hS h
                  · have h := ite_f c51 h
                    by_cases c56 : x1 = (9 : Int32)
                    · have h := ite_t c56 h
                      refine lv_tableIn (off := 138) (tgt := 139) hx hb dX0_count_1 (by rw [c56]; decide) (by rw [c56]; decide) (by rw [c56]; rfl) (by decide) ?_
                      refine lv_aload_n hx hb dX0_count_139 rfl (lv_at hl 0 rfl) ?_
                      obtain ⟨a58, e57, h⟩ := bn1_some h
                      refine x_get (C := RX0) (T := TX0) (N := 16) (ci := 0) hx hb hts in_X0 hown hK.1 hP rfl 5 (by decide) (hts _ q234) (fun _ h9 => h9) (gR_some e57) dX0_count_140 ?_
                      obtain ⟨v60, e59, h⟩ := bn1_some h
                      refine x_getN (C := RX3) (T := TX3) (N := 2) (ci := 3) hx hb hts in_X3 hown hK.1 hP rfl 1 (by decide) (hK.2.1 _ q219 rfl) (fun _ h9 => h9) (gI_some e59) dX0_count_143 ?_
                      exact ret _ _ _ _ _ _ dX0_count_146 rfl hP hS h
                    · have h := ite_f c56 h
                      by_cases c61 : x1 = (10 : Int32)
                      · have h := ite_t c61 h
                        refine lv_tableIn (off := 146) (tgt := 147) hx hb dX0_count_1 (by rw [c61]; decide) (by rw [c61]; decide) (by rw [c61]; rfl) (by decide) ?_
                        refine lv_aload_n hx hb dX0_count_147 rfl (lv_at hl 0 rfl) ?_
                        obtain ⟨a63, e62, h⟩ := bn1_some h
                        refine x_get (C := RX0) (T := TX0) (N := 16) (ci := 0) hx hb hts in_X0 hown hK.1 hP rfl 2 (by decide) (hts _ q231) (fun _ h9 => h9) (gR_some e62) dX0_count_148 ?_
                        obtain ⟨v65, e64, h⟩ := bn1_some h
                        refine x_getN (C := RX1) (T := TX1) (N := 16) (ci := 1) hx hb hts in_X1 hown hK.1 hP rfl 5 (by decide) (hK.2.1 _ q156 rfl) (fun _ h9 => h9) (gI_some e64) dX0_count_151 ?_
                        exact ret _ _ _ _ _ _ dX0_count_154 rfl hP hS h
                      · have h := ite_f c61 h
                        have nc1 := lv_neT (a := 0) c1 (by decide)
                        have nc6 := lv_neT (a := 1) c6 (by decide)
                        have nc11 := lv_neT (a := 2) c11 (by decide)
                        have nc16 := lv_neT (a := 3) c16 (by decide)
                        have nc21 := lv_neT (a := 4) c21 (by decide)
                        have nc26 := lv_neT (a := 5) c26 (by decide)
                        have nc33 := lv_neT (a := 6) c33 (by decide)
                        have nc46 := lv_neT (a := 7) c46 (by decide)
                        have nc51 := lv_neT (a := 8) c51 (by decide)
                        have nc56 := lv_neT (a := 9) c56 (by decide)
                        have nc61 := lv_neT (a := 10) c61 (by decide)
                        refine lv_tableOut (tgt := 155) hx hb dX0_count_1 (by omega) (by decide) ?_
                        refine lv_aload_n hx hb dX0_count_155 rfl (lv_at hl 0 rfl) ?_
                        refine lv_iconst (v := (1 : Int32)) hx hb dX0_count_156 (by decide) ?_
                        obtain ⟨g68, h⟩ := chk_some h
                        obtain ⟨fg68, g68⟩ := isC_some g68
                        obtain ⟨v69, S67, e66, h⟩ := bnd_some h
                        refine gci (va_runV (As := [.int (1 : Int32)]) (rest := []) ⟨hx, hb, hml, hown, hts⟩ (mX0_finds (l := l) (D := D) (cA := cA) (A := A) x0 (1 : Int32) S e66) (cwV 1 hts (lw_V q290 q292 qs1 q86 q293) rfl rfl rfl (by decide +kernel) ⟨Nat.le_of_ble_eq_true rfl, Nat.le_of_ble_eq_true rfl⟩) (gPreV xKst hK hA hS hP (x_recv (q := (RX0, TX0, 16)) hK.1 hP rfl g68)) rfl rfl hl.1 rfl (lv_room (Nat.le_of_ble_eq_true rfl)) dX0_count_157 ⟨by first | omega | (dsimp only; omega), by first | omega | (dsimp only; omega)⟩) hS (fun H locs hP hS => ?_)
                        exact ret _ _ _ _ _ _ dX0_count_160 rfl hP hS h

def bX0_doubted_19 (x0 : Nat) (t0 : Int32) (S : XS) : Option (Int32 × XS) :=
some (t0, S)
def fX0_doubted (x0 : Nat) (S : XS) : Option (Int32 × XS) :=
chk (isC S x0 0) (bnd (fX0_isSolved x0 S) fun v4 S2 =>
(if v4 = 0 then
chk (isC S2 x0 0) (bnd (fX0_finds x0 (3 : Int32) S2) fun v9 S7 =>
bX0_doubted_19 x0 v9 S7)
else
chk (isC S2 x0 0) (bnd (fX0_mostDoubted x0 S2) fun v13 S11 =>
bX0_doubted_19 x0 v13 S11)))
set_option maxHeartbeats 4000000 in
set_option maxRecDepth 100000 in
theorem mX0_doubted {l : Launch} {D : va_G} {cA : Nat → ClassId} {A : Nat → Prop} (x0 : Nat) (S : XS) {out : (Int32 × XS)} (h : fX0_doubted x0 S = some out) : Met l yX0_doubted (ws_ yX0_doubted cX0_doubted 1 (some .int)) ({ frames := 5, cells := 0, slots := 0, locals := 153 } : Room) (gPc (xK D cA A) (xP D cA A) A [.ref x0] S) (gQi (xK D cA A) (xP D cA A) A out) 0 0 A := by
  refine gMet_z (by decide) (Nat.le_of_ble_eq_true rfl) ?_ xKst
  intro p e s m below meth c Q ls args H locs hC hP hS hl ret
  obtain ⟨hx, hb, hml, hown, hts, hA, hK⟩ := hC
  have hown : s.vm.findClass RX0 = some m.cls := hown
  have hl : lv_has ls 1 [(0, .ref x0)] := hl
  have B19 : ∀ (x0 : Nat) (t0 : Int32) (S : XS) (H : Heap) (locs : List Loc) (ls : Array Slot), xP D cA A S H → va_S A s.heap H locs → lv_has ls 1 [(0, .ref x0)] → bX0_doubted_19  x0 t0 S = some out → W p l e ({ frames := 5, cells := 0, slots := 0, locals := 153 } : Room) s m args below meth c H locs 0 0 Q (F0 m 19 ls [.int t0]) := by
    intro x0 t0 S H locs ls hP hS hl h
    unfold bX0_doubted_19 at h
    exact ret _ _ _ _ _ _ dX0_doubted_19 rfl hP hS h
  unfold fX0_doubted at h
  refine lv_aload_n hx hb dX0_doubted_0 rfl (lv_at hl 0 rfl) ?_
  obtain ⟨g3, h⟩ := chk_some h
  obtain ⟨fg3, g3⟩ := isC_some g3
  obtain ⟨v4, S2, e1, h⟩ := bnd_some h
  refine gci (va_runV (As := []) (rest := []) ⟨hx, hb, hml, hown, hts⟩ (mX0_isSolved (l := l) (D := D) (cA := cA) (A := A) x0 S e1) (cwV 0 hts (lw_V q885 q887 qs22 q86 q888) rfl rfl rfl (by decide +kernel) ⟨Nat.le_of_ble_eq_true rfl, Nat.le_of_ble_eq_true rfl⟩) (gPreV xKst hK hA hS hP (x_recv (q := (RX0, TX0, 16)) hK.1 hP rfl g3)) rfl rfl hl.1 rfl (lv_room (Nat.le_of_ble_eq_true rfl)) dX0_doubted_1 ⟨by first | omega | (dsimp only; omega), by first | omega | (dsimp only; omega)⟩) hS (fun H locs hP hS => ?_)
  refine lv_if_eq (tgt := 14) hx hb dX0_doubted_4 (by decide) (fun c5 => ?_) (fun c5 => ?_)
  · have h := ite_t c5 h
    refine lv_aload_n hx hb dX0_doubted_14 rfl (lv_at hl 0 rfl) ?_
    refine lv_iconst (v := (3 : Int32)) hx hb dX0_doubted_15 (by decide) ?_
    obtain ⟨g8, h⟩ := chk_some h
    obtain ⟨fg8, g8⟩ := isC_some g8
    obtain ⟨v9, S7, e6, h⟩ := bnd_some h
    refine gci (va_runV (As := [.int (3 : Int32)]) (rest := []) ⟨hx, hb, hml, hown, hts⟩ (mX0_finds (l := l) (D := D) (cA := cA) (A := A) x0 (3 : Int32) S2 e6) (cwV 1 hts (lw_V q290 q292 qs1 q86 q293) rfl rfl rfl (by decide +kernel) ⟨Nat.le_of_ble_eq_true rfl, Nat.le_of_ble_eq_true rfl⟩) (gPreV xKst hK hA hS hP (x_recv (q := (RX0, TX0, 16)) hK.1 hP rfl g8)) rfl rfl hl.1 rfl (lv_room (Nat.le_of_ble_eq_true rfl)) dX0_doubted_16 ⟨by first | omega | (dsimp only; omega), by first | omega | (dsimp only; omega)⟩) hS (fun H locs hP hS => ?_)
    exact B19 x0 v9 S7 _ _ _ hP hS hl h
  · have h := ite_f c5 h
    refine lv_aload_n hx hb dX0_doubted_7 rfl (lv_at hl 0 rfl) ?_
    obtain ⟨g12, h⟩ := chk_some h
    obtain ⟨fg12, g12⟩ := isC_some g12
    obtain ⟨v13, S11, e10, h⟩ := bnd_some h
    refine gci (va_runV (As := []) (rest := []) ⟨hx, hb, hml, hown, hts⟩ (mX0_mostDoubted (l := l) (D := D) (cA := cA) (A := A) x0 S2 e10) (cwV 0 hts (lw_V q908 q910 qs25 q86 q911) rfl rfl rfl (by decide +kernel) ⟨Nat.le_of_ble_eq_true rfl, Nat.le_of_ble_eq_true rfl⟩) (gPreV xKst hK hA hS hP (x_recv (q := (RX0, TX0, 16)) hK.1 hP rfl g12)) rfl rfl hl.1 rfl (lv_room (Nat.le_of_ble_eq_true rfl)) dX0_doubted_8 ⟨by first | omega | (dsimp only; omega), by first | omega | (dsimp only; omega)⟩) hS (fun H locs hP hS => ?_)
    refine lv_goto (tgt := 19) hx hb dX0_doubted_11 (by decide) ?_
    exact B19 x0 v13 S11 _ _ _ hP hS hl h

def bX0_feed_39 (k39 : Nat → Int64 → Int32 → Int32 → XS → Option (Int32 × XS)) (x0 : Nat) (x1 : Int64) (x3 : Int32) (x4 : Int32) (S : XS) : Option (Int32 × XS) :=
(if x3 ≤ x4 then
bn1 (gR S x0 0 2) fun a3 =>
bn1 (gI S a3 1 6) fun v5 =>
some (v5, S)
else
bn1 (gR S x0 0 2) fun a7 =>
bn1 (gR S a7 1 14) fun a9 =>
bn1 (gR S x0 0 2) fun a11 =>
bn1 (gI S a11 1 6) fun v13 =>
bn1 (sI S a9 1 v13 (((((x1 >>> ((((8 : Int32) * x4)).toInt64 &&& 63))).toInt32)).toInt8.toInt32)) fun S15 =>
bn1 (gR S15 x0 0 2) fun a17 =>
bn1 (gI S15 a17 1 6) fun v19 =>
nm (v19 + (1 : Int32)) fun y20 =>
bn1 (pF S15 a17 1 6 (.int y20)) fun S22 =>
nm (x4 + (1 : Int32)) fun y23 =>
k39 x0 x1 x3 y23 S22)
def lX0_feed_39 : Nat → (Nat → Int64 → Int32 → Int32 → XS → Option (Int32 × XS))
  | 0 => fun _ _ _ _ _ => none
  | n + 1 => bX0_feed_39 (lX0_feed_39 n)
def fX0_feed (x0 : Nat) (x1 : Int64) (x3 : Int32) (S : XS) : Option (Int32 × XS) :=
bnd (fX0_isIn x3 (1 : Int32) (8 : Int32) S) fun v26 S25 =>
(if v26 = 0 then
chk (isC S25 x0 0) (bnd (fX0_finds x0 (1 : Int32) S25) fun v40 S38 =>
some (v40, S38))
else
bn1 (gR S25 x0 0 2) fun a29 =>
bn1 (gI S25 a29 1 6) fun v31 =>
(if (v31 + x3) ≤ (60 : Int32) then
lX0_feed_39 FU x0 x1 x3 (0 : Int32) S25
else
chk (isC S25 x0 0) (bnd (fX0_finds x0 (4 : Int32) S25) fun v36 S34 =>
some (v36, S34))))
set_option maxHeartbeats 4000000 in
set_option maxRecDepth 100000 in
theorem mX0_feed {l : Launch} {D : va_G} {cA : Nat → ClassId} {A : Nat → Prop} (x0 : Nat) (x1 : Int64) (x3 : Int32) (S : XS) {out : (Int32 × XS)} (h : fX0_feed x0 x1 x3 S = some out) : Met l yX0_feed (ws_ yX0_feed cX0_feed 5 (some .int)) ({ frames := 1, cells := 0, slots := 0, locals := 22 } : Room) (gPc (xK D cA A) (xP D cA A) A [.ref x0, .long x1, .int x3] S) (gQi (xK D cA A) (xP D cA A) A out) 0 0 A := by
  refine gMet_z (by decide) (Nat.le_of_ble_eq_true rfl) ?_ xKst
  intro p e s m below meth c Q ls args H locs hC hP hS hl ret
  obtain ⟨hx, hb, hml, hown, hts, hA, hK⟩ := hC
  have hown : s.vm.findClass RX0 = some m.cls := hown
  have hl : lv_has ls 5 [(0, .ref x0), (1, .long x1), (3, .int x3)] := hl
  have L39 : ∀ (n39 : Nat) (x0 : Nat) (x1 : Int64) (x3 : Int32) (x4 : Int32) (S : XS) (H : Heap) (locs : List Loc) (ls : Array Slot), xP D cA A S H → va_S A s.heap H locs → lv_has ls 5 [(0, .ref x0), (1, .long x1), (3, .int x3), (4, .int x4)] → lX0_feed_39 n39 x0 x1 x3 x4 S = some out → W p l e ({ frames := 1, cells := 0, slots := 0, locals := 22 } : Room) s m args below meth c H locs 0 0 Q (F0 m 39 ls []) := by
    intro n39
    induction n39 with
    | zero =>
      intro x0 x1 x3 x4 S H locs ls hP hS hl h
      cases h
    | succ n39 ih39 =>
      intro x0 x1 x3 x4 S H locs ls hP hS hl h
      replace h : bX0_feed_39 (lX0_feed_39 n39) x0 x1 x3 x4 S = some out := h
      unfold bX0_feed_39 at h
      refine lv_iload hx hb dX0_feed_39 (lv_at hl 3 rfl) ?_
      refine lv_iload_n hx hb dX0_feed_41 rfl (lv_at hl 2 rfl) ?_
      refine lv_icmp_ge (tgt := 88) hx hb dX0_feed_42 (by decide) (fun c1 => ?_) (fun c1 => ?_)
      · have h := ite_t c1 h
        refine lv_aload_n hx hb dX0_feed_88 rfl (lv_at hl 0 rfl) ?_
        obtain ⟨a3, e2, h⟩ := bn1_some h
        refine x_get (C := RX0) (T := TX0) (N := 16) (ci := 0) hx hb hts in_X0 hown hK.1 hP rfl 2 (by decide) (hts _ q231) (fun _ h9 => h9) (gR_some e2) dX0_feed_89 ?_
        obtain ⟨v5, e4, h⟩ := bn1_some h
        refine x_getN (C := RX1) (T := TX1) (N := 16) (ci := 1) hx hb hts in_X1 hown hK.1 hP rfl 6 (by decide) (hK.2.1 _ q158 rfl) (fun _ h9 => h9) (gI_some e4) dX0_feed_92 ?_
        exact ret _ _ _ _ _ _ dX0_feed_95 rfl hP hS h
      · have h := ite_f c1 h
        refine lv_aload_n hx hb dX0_feed_45 rfl (lv_at hl 0 rfl) ?_
        obtain ⟨a7, e6, h⟩ := bn1_some h
        refine x_get (C := RX0) (T := TX0) (N := 16) (ci := 0) hx hb hts in_X0 hown hK.1 hP rfl 2 (by decide) (hts _ q231) (fun _ h9 => h9) (gR_some e6) dX0_feed_46 ?_
        obtain ⟨a9, e8, h⟩ := bn1_some h
        refine x_getN (C := RX1) (T := TX1) (N := 16) (ci := 1) hx hb hts in_X1 hown hK.1 hP rfl 14 (by decide) (hK.2.1 _ q174 rfl) (fun _ h9 => h9) (gR_some e8) dX0_feed_49 ?_
        refine lv_aload_n hx hb dX0_feed_52 rfl (lv_at hl 0 rfl) ?_
        obtain ⟨a11, e10, h⟩ := bn1_some h
        refine x_get (C := RX0) (T := TX0) (N := 16) (ci := 0) hx hb hts in_X0 hown hK.1 hP rfl 2 (by decide) (hts _ q231) (fun _ h9 => h9) (gR_some e10) dX0_feed_53 ?_
        obtain ⟨v13, e12, h⟩ := bn1_some h
        refine x_getN (C := RX1) (T := TX1) (N := 16) (ci := 1) hx hb hts in_X1 hown hK.1 hP rfl 6 (by decide) (hK.2.1 _ q158 rfl) (fun _ h9 => h9) (gI_some e12) dX0_feed_56 ?_
        refine lv_lload_n hx hb dX0_feed_59 rfl (lv_at hl 1 rfl) ?_
        refine lv_bipush (v := (8 : Int32)) hx hb dX0_feed_60 (by decide) ?_
        refine lv_iload hx hb dX0_feed_62 (lv_at hl 3 rfl) ?_
        refine lv_imul hx hb dX0_feed_64 ?_
        refine lv_lshr hx hb dX0_feed_65 rfl ?_
        refine lv_l2i hx hb dX0_feed_66 rfl ?_
        refine lv_i2b hx hb dX0_feed_67 rfl ?_
        obtain ⟨S15, e14, h⟩ := bn1_some h
        refine x_bast hx hb hK.1 hP hS e14 dX0_feed_68 (fun H locs hP hS => ?_)
        refine lv_aload_n hx hb dX0_feed_69 rfl (lv_at hl 0 rfl) ?_
        obtain ⟨a17, e16, h⟩ := bn1_some h
        refine x_get (C := RX0) (T := TX0) (N := 16) (ci := 0) hx hb hts in_X0 hown hK.1 hP rfl 2 (by decide) (hts _ q231) (fun _ h9 => h9) (gR_some e16) dX0_feed_70 ?_
        refine lv_dup hx hb dX0_feed_73 rfl ?_
        obtain ⟨v19, e18, h⟩ := bn1_some h
        refine x_getN (C := RX1) (T := TX1) (N := 16) (ci := 1) hx hb hts in_X1 hown hK.1 hP rfl 6 (by decide) (hK.2.1 _ q158 rfl) (fun _ h9 => h9) (gI_some e18) dX0_feed_74 ?_
        refine lv_iconst (v := (1 : Int32)) hx hb dX0_feed_77 (by decide) ?_
        refine lv_iadd hx hb dX0_feed_78 ?_
        refine lv_topi (fun y20 ey20 => ?_)
        have h := nm_at ey20 h
        obtain ⟨S22, e21, h⟩ := bn1_some h
        refine x_putN (v := .int y20) (ty := .int) (C := RX1) (T := TX1) (N := 16) (ci := 1) hx hb hts in_X1 tyX1 tyX1_ok nmX1 hown hK.1 hP hS rfl 6 (by decide) (hK.2.1 _ q158 rfl) (fun _ h9 => h9) rfl (by decide +kernel) rfl rfl e21 dX0_feed_79 (fun H locs hP hS => ?_)
        obtain ⟨y23, ey23⟩ : ∃ y : Int32, y = x4 + (1 : Int32) := ⟨_, rfl⟩
        refine lv_iinc (v := y23) (lv' := [(4, .int y23), (0, .ref x0), (1, .long x1), (3, .int x3)]) hx hb dX0_feed_82 hl (k := 3) rfl (by rw [ey23]; rfl) (by decide) rfl (fun ls hl => ?_)
        have h := nm_at ey23 h
        refine lv_goto (tgt := 39) hx hb dX0_feed_85 (by decide) ?_
        exact ih39 x0 x1 x3 y23 S22 _ _ _ hP hS (lv_sub hl [1, 2, 3, 0] rfl) h
  unfold fX0_feed at h
  refine lv_iload_n hx hb dX0_feed_0 rfl (lv_at hl 2 rfl) ?_
  refine lv_iconst (v := (1 : Int32)) hx hb dX0_feed_1 (by decide) ?_
  refine lv_bipush (v := (8 : Int32)) hx hb dX0_feed_2 (by decide) ?_
  obtain ⟨v26, S25, e24, h⟩ := bnd_some h
  refine gci (va_runS (As := [.int x3, .int (1 : Int32), .int (8 : Int32)]) (rest := []) ⟨hx, hb, hml, hown, hts⟩ (mX0_isIn (l := l) (D := D) (cA := cA) (A := A) x3 (1 : Int32) (8 : Int32) S e24) (va_cwS 3 hts (lw_S q283 q284 q86 q285) rfl rfl rfl (by decide +kernel) ⟨Nat.le_of_ble_eq_true rfl, Nat.le_of_ble_eq_true rfl⟩) (gPreS xKst hK hA hS hP) rfl rfl hl.1 rfl (lv_room (Nat.le_of_ble_eq_true rfl)) dX0_feed_4 ⟨by first | omega | (dsimp only; omega), by first | omega | (dsimp only; omega)⟩) hS (fun H locs hP hS => ?_)
  refine lv_if_ne (tgt := 16) hx hb dX0_feed_7 (by decide) (fun c27 => ?_) (fun c27 => ?_)
  · have h := ite_f c27 h
    refine lv_aload_n hx hb dX0_feed_16 rfl (lv_at hl 0 rfl) ?_
    obtain ⟨a29, e28, h⟩ := bn1_some h
    refine x_get (C := RX0) (T := TX0) (N := 16) (ci := 0) hx hb hts in_X0 hown hK.1 hP rfl 2 (by decide) (hts _ q231) (fun _ h9 => h9) (gR_some e28) dX0_feed_17 ?_
    obtain ⟨v31, e30, h⟩ := bn1_some h
    refine x_getN (C := RX1) (T := TX1) (N := 16) (ci := 1) hx hb hts in_X1 hown hK.1 hP rfl 6 (by decide) (hK.2.1 _ q158 rfl) (fun _ h9 => h9) (gI_some e30) dX0_feed_20 ?_
    refine lv_iload_n hx hb dX0_feed_23 rfl (lv_at hl 2 rfl) ?_
    refine lv_iadd hx hb dX0_feed_24 ?_
    refine lv_bipush (v := (60 : Int32)) hx hb dX0_feed_25 (by decide) ?_
    refine lv_icmp_le (tgt := 36) hx hb dX0_feed_27 (by decide) (fun c32 => ?_) (fun c32 => ?_)
    · have h := ite_t c32 h
      refine lv_iconst (v := (0 : Int32)) hx hb dX0_feed_36 (by decide) ?_
      refine lv_istore (lv' := [(4, .int (0 : Int32)), (0, .ref x0), (1, .long x1), (3, .int x3)]) hx hb dX0_feed_37 hl (by decide) rfl (fun ls hl => ?_)
      exact L39 FU x0 x1 x3 (0 : Int32) S25 _ _ _ hP hS (lv_sub hl [1, 2, 3, 0] rfl) h
    · have h := ite_f c32 h
      refine lv_aload_n hx hb dX0_feed_30 rfl (lv_at hl 0 rfl) ?_
      refine lv_iconst (v := (4 : Int32)) hx hb dX0_feed_31 (by decide) ?_
      obtain ⟨g35, h⟩ := chk_some h
      obtain ⟨fg35, g35⟩ := isC_some g35
      obtain ⟨v36, S34, e33, h⟩ := bnd_some h
      refine gci (va_runV (As := [.int (4 : Int32)]) (rest := []) ⟨hx, hb, hml, hown, hts⟩ (mX0_finds (l := l) (D := D) (cA := cA) (A := A) x0 (4 : Int32) S25 e33) (cwV 1 hts (lw_V q290 q292 qs1 q86 q293) rfl rfl rfl (by decide +kernel) ⟨Nat.le_of_ble_eq_true rfl, Nat.le_of_ble_eq_true rfl⟩) (gPreV xKst hK hA hS hP (x_recv (q := (RX0, TX0, 16)) hK.1 hP rfl g35)) rfl rfl hl.1 rfl (lv_room (Nat.le_of_ble_eq_true rfl)) dX0_feed_32 ⟨by first | omega | (dsimp only; omega), by first | omega | (dsimp only; omega)⟩) hS (fun H locs hP hS => ?_)
      exact ret _ _ _ _ _ _ dX0_feed_35 rfl hP hS h
  · have h := ite_t c27 h
    refine lv_aload_n hx hb dX0_feed_10 rfl (lv_at hl 0 rfl) ?_
    refine lv_iconst (v := (1 : Int32)) hx hb dX0_feed_11 (by decide) ?_
    obtain ⟨g39, h⟩ := chk_some h
    obtain ⟨fg39, g39⟩ := isC_some g39
    obtain ⟨v40, S38, e37, h⟩ := bnd_some h
    refine gci (va_runV (As := [.int (1 : Int32)]) (rest := []) ⟨hx, hb, hml, hown, hts⟩ (mX0_finds (l := l) (D := D) (cA := cA) (A := A) x0 (1 : Int32) S25 e37) (cwV 1 hts (lw_V q290 q292 qs1 q86 q293) rfl rfl rfl (by decide +kernel) ⟨Nat.le_of_ble_eq_true rfl, Nat.le_of_ble_eq_true rfl⟩) (gPreV xKst hK hA hS hP (x_recv (q := (RX0, TX0, 16)) hK.1 hP rfl g39)) rfl rfl hl.1 rfl (lv_room (Nat.le_of_ble_eq_true rfl)) dX0_feed_12 ⟨by first | omega | (dsimp only; omega), by first | omega | (dsimp only; omega)⟩) hS (fun H locs hP hS => ?_)
    exact ret _ _ _ _ _ _ dX0_feed_15 rfl hP hS h

def fX0_isSheet (x0 : Int32) (S : XS) : Option (Int32 × XS) :=
bnd (fX0_isIn x0 (0 : Int32) (3 : Int32) S) fun v3 S2 =>
chk (isB v3) (some (v3, S2))
set_option maxHeartbeats 4000000 in
set_option maxRecDepth 100000 in
theorem mX0_isSheet {l : Launch} {D : va_G} {cA : Nat → ClassId} {A : Nat → Prop} (x0 : Int32) (S : XS) {out : (Int32 × XS)} (h : fX0_isSheet x0 S = some out) : Met l yX0_isSheet (ws_ yX0_isSheet cX0_isSheet 1 (some .boolean)) ({ frames := 1, cells := 0, slots := 0, locals := 22 } : Room) (gPc (xK D cA A) (xP D cA A) A [.int x0] S) (gQi (xK D cA A) (xP D cA A) A out) 0 0 A := by
  refine gMet_z (by decide) (Nat.le_of_ble_eq_true rfl) ?_ xKst
  intro p e s m below meth c Q ls args H locs hC hP hS hl ret
  obtain ⟨hx, hb, hml, hown, hts, hA, hK⟩ := hC
  have hown : s.vm.findClass RX0 = some m.cls := hown
  have hl : lv_has ls 1 [(0, .int x0)] := hl
  unfold fX0_isSheet at h
  refine lv_iload_n hx hb dX0_isSheet_0 rfl (lv_at hl 0 rfl) ?_
  refine lv_iconst (v := (0 : Int32)) hx hb dX0_isSheet_1 (by decide) ?_
  refine lv_iconst (v := (3 : Int32)) hx hb dX0_isSheet_2 (by decide) ?_
  obtain ⟨v3, S2, e1, h⟩ := bnd_some h
  refine gci (va_runS (As := [.int x0, .int (0 : Int32), .int (3 : Int32)]) (rest := []) ⟨hx, hb, hml, hown, hts⟩ (mX0_isIn (l := l) (D := D) (cA := cA) (A := A) x0 (0 : Int32) (3 : Int32) S e1) (va_cwS 3 hts (lw_S q283 q284 q86 q285) rfl rfl rfl (by decide +kernel) ⟨Nat.le_of_ble_eq_true rfl, Nat.le_of_ble_eq_true rfl⟩) (gPreS xKst hK hA hS hP) rfl rfl hl.1 rfl (lv_room (Nat.le_of_ble_eq_true rfl)) dX0_isSheet_3 ⟨by first | omega | (dsimp only; omega), by first | omega | (dsimp only; omega)⟩) hS (fun H locs hP hS => ?_)
  obtain ⟨g4, h⟩ := chk_some h
  exact ret _ _ _ _ _ _ dX0_isSheet_6 (isB_nar g4) hP hS h

def bX0_sizeOf_35 (t0 : Int32) (S : XS) : Option (Int32 × XS) :=
some (t0, S)
def fX0_sizeOf (x0 : Nat) (S : XS) : Option (Int32 × XS) :=
bn1 (insA S x0 1) fun v1 =>
(if v1 = 0 then
bn1 (insA S x0 2) fun v4 =>
(if v4 = 0 then
chk (isA S x0 0) (bn1 (xLen S x0) fun n8 =>
bX0_sizeOf_35 (Int32.ofNat n8) S)
else
chk (isA S x0 2) (bn1 (xLen S x0) fun n11 =>
bX0_sizeOf_35 (Int32.ofNat n11) S))
else
chk (isA S x0 1) (bn1 (xLen S x0) fun n14 =>
bX0_sizeOf_35 (Int32.ofNat n14) S))
set_option maxHeartbeats 4000000 in
set_option maxRecDepth 100000 in
theorem mX0_sizeOf {l : Launch} {D : va_G} {cA : Nat → ClassId} {A : Nat → Prop} (x0 : Nat) (S : XS) {out : (Int32 × XS)} (h : fX0_sizeOf x0 S = some out) : Met l yX0_sizeOf (ws_ yX0_sizeOf cX0_sizeOf 1 (some .int)) ({ frames := 0, cells := 0, slots := 0, locals := 0 } : Room) (gPc (xK D cA A) (xP D cA A) A [.ref x0] S) (gQi (xK D cA A) (xP D cA A) A out) 0 0 A := by
  refine gMet_z (by decide) (Nat.le_of_ble_eq_true rfl) ?_ xKst
  intro p e s m below meth c Q ls args H locs hC hP hS hl ret
  obtain ⟨hx, hb, hml, hown, hts, hA, hK⟩ := hC
  have hown : s.vm.findClass RX0 = some m.cls := hown
  have hl : lv_has ls 1 [(0, .ref x0)] := hl
  have B35 : ∀ (t0 : Int32) (S : XS) (H : Heap) (locs : List Loc) (ls : Array Slot), xP D cA A S H → va_S A s.heap H locs → lv_has ls 1 [] → bX0_sizeOf_35  t0 S = some out → W p l e ({ frames := 0, cells := 0, slots := 0, locals := 0 } : Room) s m args below meth c H locs 0 0 Q (F0 m 35 ls [.int t0]) := by
    intro t0 S H locs ls hP hS hl h
    unfold bX0_sizeOf_35 at h
    exact ret _ _ _ _ _ _ dX0_sizeOf_35 rfl hP hS h
  unfold fX0_sizeOf at h
  refine lv_aload_n hx hb dX0_sizeOf_0 rfl (lv_at hl 0 rfl) ?_
  obtain ⟨v1, e2, h⟩ := bn1_some h
  refine x_insA1 hx hb hown (hts _ q1017) hK hP e2 dX0_sizeOf_1 ?_
  refine lv_if_eq (tgt := 15) hx hb dX0_sizeOf_4 (by decide) (fun c3 => ?_) (fun c3 => ?_)
  · have h := ite_t c3 h
    refine lv_aload_n hx hb dX0_sizeOf_15 rfl (lv_at hl 0 rfl) ?_
    obtain ⟨v4, e5, h⟩ := bn1_some h
    refine x_insA2 hx hb hown (hts _ q1018) hK hP e5 dX0_sizeOf_16 ?_
    refine lv_if_eq (tgt := 30) hx hb dX0_sizeOf_19 (by decide) (fun c6 => ?_) (fun c6 => ?_)
    · have h := ite_t c6 h
      refine lv_aload_n hx hb dX0_sizeOf_30 rfl (lv_at hl 0 rfl) ?_
      obtain ⟨g7, h⟩ := chk_some h
      refine x_castA0 hx hb hown (hts _ q1019) hK hP g7 dX0_sizeOf_31 ?_
      obtain ⟨n8, e9, h⟩ := bn1_some h
      refine x_alen hx hb hK.1 hP e9 dX0_sizeOf_34 ?_
      exact B35 (Int32.ofNat n8) S _ _ _ hP hS (lv_sub hl [] rfl) h
    · have h := ite_f c6 h
      refine lv_aload_n hx hb dX0_sizeOf_22 rfl (lv_at hl 0 rfl) ?_
      obtain ⟨g10, h⟩ := chk_some h
      refine x_castA2 hx hb hown (hts _ q1018) hK hP g10 dX0_sizeOf_23 ?_
      obtain ⟨n11, e12, h⟩ := bn1_some h
      refine x_alen hx hb hK.1 hP e12 dX0_sizeOf_26 ?_
      refine lv_goto (tgt := 35) hx hb dX0_sizeOf_27 (by decide) ?_
      exact B35 (Int32.ofNat n11) S _ _ _ hP hS (lv_sub hl [] rfl) h
  · have h := ite_f c3 h
    refine lv_aload_n hx hb dX0_sizeOf_7 rfl (lv_at hl 0 rfl) ?_
    obtain ⟨g13, h⟩ := chk_some h
    refine x_castA1 hx hb hown (hts _ q1017) hK hP g13 dX0_sizeOf_8 ?_
    obtain ⟨n14, e15, h⟩ := bn1_some h
    refine x_alen hx hb hK.1 hP e15 dX0_sizeOf_11 ?_
    refine lv_goto (tgt := 35) hx hb dX0_sizeOf_12 (by decide) ?_
    exact B35 (Int32.ofNat n14) S _ _ _ hP hS (lv_sub hl [] rfl) h

def bX0_numberOf_38 (t0 : Int32) (S : XS) : Option (Int32 × XS) :=
some (t0, S)
def fX0_numberOf (x0 : Nat) (x1 : Int32) (S : XS) : Option (Int32 × XS) :=
bn1 (insA S x0 1) fun v1 =>
(if v1 = 0 then
bn1 (insA S x0 2) fun v4 =>
(if v4 = 0 then
chk (isA S x0 0) (bn1 (aI S x0 0 x1) fun v9 =>
bX0_numberOf_38 v9 S)
else
chk (isA S x0 2) (bn1 (aI S x0 2 x1) fun v12 =>
bX0_numberOf_38 v12 S))
else
chk (isA S x0 1) (bn1 (aI S x0 1 x1) fun v15 =>
bX0_numberOf_38 v15 S))
set_option maxHeartbeats 4000000 in
set_option maxRecDepth 100000 in
theorem mX0_numberOf {l : Launch} {D : va_G} {cA : Nat → ClassId} {A : Nat → Prop} (x0 : Nat) (x1 : Int32) (S : XS) {out : (Int32 × XS)} (h : fX0_numberOf x0 x1 S = some out) : Met l yX0_numberOf (ws_ yX0_numberOf cX0_numberOf 2 (some .int)) ({ frames := 0, cells := 0, slots := 0, locals := 0 } : Room) (gPc (xK D cA A) (xP D cA A) A [.ref x0, .int x1] S) (gQi (xK D cA A) (xP D cA A) A out) 0 0 A := by
  refine gMet_z (by decide) (Nat.le_of_ble_eq_true rfl) ?_ xKst
  intro p e s m below meth c Q ls args H locs hC hP hS hl ret
  obtain ⟨hx, hb, hml, hown, hts, hA, hK⟩ := hC
  have hown : s.vm.findClass RX0 = some m.cls := hown
  have hl : lv_has ls 2 [(0, .ref x0), (1, .int x1)] := hl
  have B38 : ∀ (t0 : Int32) (S : XS) (H : Heap) (locs : List Loc) (ls : Array Slot), xP D cA A S H → va_S A s.heap H locs → lv_has ls 2 [] → bX0_numberOf_38  t0 S = some out → W p l e ({ frames := 0, cells := 0, slots := 0, locals := 0 } : Room) s m args below meth c H locs 0 0 Q (F0 m 38 ls [.int t0]) := by
    intro t0 S H locs ls hP hS hl h
    unfold bX0_numberOf_38 at h
    exact ret _ _ _ _ _ _ dX0_numberOf_38 rfl hP hS h
  unfold fX0_numberOf at h
  refine lv_aload_n hx hb dX0_numberOf_0 rfl (lv_at hl 0 rfl) ?_
  obtain ⟨v1, e2, h⟩ := bn1_some h
  refine x_insA1 hx hb hown (hts _ q1017) hK hP e2 dX0_numberOf_1 ?_
  refine lv_if_eq (tgt := 16) hx hb dX0_numberOf_4 (by decide) (fun c3 => ?_) (fun c3 => ?_)
  · have h := ite_t c3 h
    refine lv_aload_n hx hb dX0_numberOf_16 rfl (lv_at hl 0 rfl) ?_
    obtain ⟨v4, e5, h⟩ := bn1_some h
    refine x_insA2 hx hb hown (hts _ q1018) hK hP e5 dX0_numberOf_17 ?_
    refine lv_if_eq (tgt := 32) hx hb dX0_numberOf_20 (by decide) (fun c6 => ?_) (fun c6 => ?_)
    · have h := ite_t c6 h
      refine lv_aload_n hx hb dX0_numberOf_32 rfl (lv_at hl 0 rfl) ?_
      obtain ⟨g7, h⟩ := chk_some h
      refine x_castA0 hx hb hown (hts _ q1019) hK hP g7 dX0_numberOf_33 ?_
      refine lv_iload_n hx hb dX0_numberOf_36 rfl (lv_at hl 1 rfl) ?_
      obtain ⟨v9, e8, h⟩ := bn1_some h
      refine x_iald hx hb hK.1 hP e8 dX0_numberOf_37 ?_
      exact B38 v9 S _ _ _ hP hS (lv_sub hl [] rfl) h
    · have h := ite_f c6 h
      refine lv_aload_n hx hb dX0_numberOf_23 rfl (lv_at hl 0 rfl) ?_
      obtain ⟨g10, h⟩ := chk_some h
      refine x_castA2 hx hb hown (hts _ q1018) hK hP g10 dX0_numberOf_24 ?_
      refine lv_iload_n hx hb dX0_numberOf_27 rfl (lv_at hl 1 rfl) ?_
      obtain ⟨v12, e11, h⟩ := bn1_some h
      refine x_sald hx hb hK.1 hP e11 dX0_numberOf_28 ?_
      refine lv_goto (tgt := 38) hx hb dX0_numberOf_29 (by decide) ?_
      exact B38 v12 S _ _ _ hP hS (lv_sub hl [] rfl) h
  · have h := ite_f c3 h
    refine lv_aload_n hx hb dX0_numberOf_7 rfl (lv_at hl 0 rfl) ?_
    obtain ⟨g13, h⟩ := chk_some h
    refine x_castA1 hx hb hown (hts _ q1017) hK hP g13 dX0_numberOf_8 ?_
    refine lv_iload_n hx hb dX0_numberOf_11 rfl (lv_at hl 1 rfl) ?_
    obtain ⟨v15, e14, h⟩ := bn1_some h
    refine x_bald hx hb hK.1 hP e14 dX0_numberOf_12 ?_
    refine lv_goto (tgt := 38) hx hb dX0_numberOf_13 (by decide) ?_
    exact B38 v15 S _ _ _ hP hS (lv_sub hl [] rfl) h

def bX0_fits_24 (x0 : Nat) (S : XS) : Option (Int32 × XS) :=
chk (isC S x0 0) (bnd (fX0_finds x0 (1 : Int32) S) fun v4 S2 =>
some (v4, S2))
def bX0_fits_213 (x0 : Nat) (t0 : Int32) (S : XS) : Option (Int32 × XS) :=
some (t0, S)
def bX0_fits_190 (k82 : Nat → Int32 → Int32 → Option Nat → Int32 → Int32 → Int32 → XS → Option (Int32 × XS)) (x0 : Nat) (x2 : Int32) (x3 : Int32) (x4 : Option Nat) (x5 : Int32) (x7 : Int32) (t0 : Int32) (t1 : Int32) (S : XS) : Option (Int32 × XS) :=
nm (t0 ||| t1) fun y5 =>
nm (x7 + (1 : Int32)) fun y6 =>
k82 x0 x2 x3 x4 x5 y5 y6 S
def bX0_fits_164 (k82 : Nat → Int32 → Int32 → Option Nat → Int32 → Int32 → Int32 → XS → Option (Int32 × XS)) (x0 : Nat) (x2 : Int32) (x3 : Int32) (x4 : Option Nat) (x5 : Int32) (x6 : Int32) (x7 : Int32) (x8 : Int32) (S : XS) : Option (Int32 × XS) :=
bn1 (gR S x0 0 2) fun a8 =>
bn1 (gR S x0 0 4) fun a10 =>
chk (isC S a8 1) (bn1 (fX1_follows a8 a10 S) fun S12 =>
(if x8 = 0 then
bX0_fits_190 k82 x0 x2 x3 x4 x5 x7 x6 (0 : Int32) S12
else
bX0_fits_190 k82 x0 x2 x3 x4 x5 x7 x6 ((1 : Int32) <<< (x7 &&& 31)) S12))
def bX0_fits_152 (k82 : Nat → Int32 → Int32 → Option Nat → Int32 → Int32 → Int32 → XS → Option (Int32 × XS)) (k115 : Nat → Int32 → Int32 → Option Nat → Int32 → Int32 → Int32 → Int32 → Int32 → XS → Option (Int32 × XS)) (x0 : Nat) (x2 : Int32) (x3 : Int32) (x4 : Option Nat) (x5 : Int32) (x6 : Int32) (x7 : Int32) (x9 : Int32) (t0 : Int32) (S : XS) : Option (Int32 × XS) :=
chk (isC S x0 0) (bn1 (fX0_aRound x0 S) fun S16 =>
nm (x9 + (1 : Int32)) fun y18 =>
k115 x0 x2 x3 x4 x5 x6 x7 t0 y18 S16)
def bX0_fits_115 (k82 : Nat → Int32 → Int32 → Option Nat → Int32 → Int32 → Int32 → XS → Option (Int32 × XS)) (k115 : Nat → Int32 → Int32 → Option Nat → Int32 → Int32 → Int32 → Int32 → Int32 → XS → Option (Int32 × XS)) (x0 : Nat) (x2 : Int32) (x3 : Int32) (x4 : Option Nat) (x5 : Int32) (x6 : Int32) (x7 : Int32) (x8 : Int32) (x9 : Int32) (S : XS) : Option (Int32 × XS) :=
bn1 x4 fun a19 =>
bnd (fX0_sizeOf a19 S) fun v23 S22 =>
(if v23 ≤ x9 then
bX0_fits_164 k82 x0 x2 x3 (some a19) x5 x6 x7 x8 S22
else
(if x8 = 0 then
bX0_fits_164 k82 x0 x2 x3 (some a19) x5 x6 x7 x8 S22
else
bnd (fX0_numberOf a19 x9 S22) fun v28 S27 =>
bn1 (gR S27 x0 0 2) fun a30 =>
chk (isC S27 a30 1) (bnd (fX1_used a30 S27) fun v34 S32 =>
(if v28 = v34 then
bX0_fits_152 k82 k115 x0 x2 x3 (some a19) x5 x6 x7 x9 (1 : Int32) S32
else
bX0_fits_152 k82 k115 x0 x2 x3 (some a19) x5 x6 x7 x9 (0 : Int32) S32))))
def lX0_fits_115 (k82 : Nat → Int32 → Int32 → Option Nat → Int32 → Int32 → Int32 → XS → Option (Int32 × XS)) : Nat → (Nat → Int32 → Int32 → Option Nat → Int32 → Int32 → Int32 → Int32 → Int32 → XS → Option (Int32 × XS))
  | 0 => fun _ _ _ _ _ _ _ _ _ _ => none
  | n + 1 => bX0_fits_115 k82 (lX0_fits_115 k82 n)
def bX0_fits_82 (k82 : Nat → Int32 → Int32 → Option Nat → Int32 → Int32 → Int32 → XS → Option (Int32 × XS)) (x0 : Nat) (x2 : Int32) (x3 : Int32) (x4 : Option Nat) (x5 : Int32) (x6 : Int32) (x7 : Int32) (S : XS) : Option (Int32 × XS) :=
(if (6 : Int32) < x7 then
(if x3 = 0 then
bX0_fits_213 x0 x6 S
else
bnd (fJ8_bitCount x6 S) fun v40 S39 =>
bX0_fits_213 x0 v40 S39)
else
bn1 (gR S x0 0 2) fun a42 =>
bn1 (gR S a42 1 8) fun a44 =>
bn1 (aR S a44 4 x2) fun a46 =>
bnd (fX0_made x7 x2 x5 S) fun a49 S48 =>
bn1 (pF S48 a46 2 0 (.ref a49)) fun S51 =>
lX0_fits_115 k82 FU x0 x2 x3 x4 x5 x6 x7 (1 : Int32) (0 : Int32) S51)
def lX0_fits_82 : Nat → (Nat → Int32 → Int32 → Option Nat → Int32 → Int32 → Int32 → XS → Option (Int32 × XS))
  | 0 => fun _ _ _ _ _ _ _ _ => none
  | n + 1 => bX0_fits_82 (lX0_fits_82 n)
def fX0_fits (x0 : Nat) (x1 : Int32) (x2 : Int32) (x3 : Int32) (S : XS) : Option (Int32 × XS) :=
bnd (fX0_isSheet x1 S) fun v54 S53 =>
(if v54 = 0 then
bX0_fits_24 x0 S53
else
chk (isC S53 x0 0) (bnd (fX0_isMark x0 x2 S53) fun v59 S57 =>
(if v59 = 0 then
bX0_fits_24 x0 S57
else
bnd (fX0_isIn x3 (0 : Int32) (1 : Int32) S57) fun v63 S62 =>
(if v63 = 0 then
bX0_fits_24 x0 S62
else
bn1 (gR S62 x0 0 7) fun a66 =>
bn1 (aR S62 a66 4 x1) fun a68 =>
bn1 (gQ S62 a68 2 0) fun a70 =>
nlc a70 (
chk (isC S62 x0 0) (bnd (fX0_finds x0 (2 : Int32) S62) fun v75 S73 =>
some (v75, S73))) fun a71 =>
bn1 (gR S62 x0 0 2) fun a77 =>
chk (isC S62 a77 1) (bnd (fX1_at a77 x2 S62) fun a81 S79 =>
bn1 (gIM S79 a81 1) fun v83 =>
bn1 (gR S79 x0 0 4) fun a85 =>
bn1 (gR S79 x0 0 2) fun a87 =>
chk (isC S79 a85 1) (bn1 (fX1_follows a85 a87 S79) fun S89 =>
lX0_fits_82 8 x0 x2 x3 (some a71) v83 (0 : Int32) (0 : Int32) S89))))))
set_option maxHeartbeats 4000000 in
set_option maxRecDepth 100000 in
theorem mX0_fits {l : Launch} {D : va_G} {cA : Nat → ClassId} {A : Nat → Prop} (x0 : Nat) (x1 : Int32) (x2 : Int32) (x3 : Int32) (S : XS) {out : (Int32 × XS)} (h : fX0_fits x0 x1 x2 x3 S = some out) : Met l yX0_fits (ws_ yX0_fits cX0_fits 10 (some .int)) ({ frames := 6, cells := 8, slots := 16, locals := 174 } : Room) (gPc (xK D cA A) (xP D cA A) A [.ref x0, .int x1, .int x2, .int x3] S) (gQi (xK D cA A) (xP D cA A) A out) 8 16 A := by
  refine gMet_z (by decide) (Nat.le_of_ble_eq_true rfl) ?_ xKst
  intro p e s m below meth c Q ls args H locs hC hP hS hl ret
  obtain ⟨hx, hb, hml, hown, hts, hA, hK⟩ := hC
  have hown : s.vm.findClass RX0 = some m.cls := hown
  have hl : lv_has ls 10 [(0, .ref x0), (1, .int x1), (2, .int x2), (3, .int x3)] := hl
  have B24 : ∀ (x0 : Nat) (S : XS) (H : Heap) (locs : List Loc) (ls : Array Slot), xP D cA A S H → va_S A s.heap H locs → lv_has ls 10 [(0, .ref x0)] → bX0_fits_24  x0 S = some out → W p l e ({ frames := 6, cells := 8, slots := 16, locals := 174 } : Room) s m args below meth c H locs 0 0 Q (F0 m 24 ls []) := by
    intro x0 S H locs ls hP hS hl h
    unfold bX0_fits_24 at h
    refine lv_aload_n hx hb dX0_fits_24 rfl (lv_at hl 0 rfl) ?_
    refine lv_iconst (v := (1 : Int32)) hx hb dX0_fits_25 (by decide) ?_
    obtain ⟨g3, h⟩ := chk_some h
    obtain ⟨fg3, g3⟩ := isC_some g3
    obtain ⟨v4, S2, e1, h⟩ := bnd_some h
    refine gci (va_runV (As := [.int (1 : Int32)]) (rest := []) ⟨hx, hb, hml, hown, hts⟩ (mX0_finds (l := l) (D := D) (cA := cA) (A := A) x0 (1 : Int32) S e1) (cwV 1 hts (lw_V q290 q292 qs1 q86 q293) rfl rfl rfl (by decide +kernel) ⟨Nat.le_of_ble_eq_true rfl, Nat.le_of_ble_eq_true rfl⟩) (gPreV xKst hK hA hS hP (x_recv (q := (RX0, TX0, 16)) hK.1 hP rfl g3)) rfl rfl hl.1 rfl (lv_room (Nat.le_of_ble_eq_true rfl)) dX0_fits_26 ⟨by first | omega | (dsimp only; omega), by first | omega | (dsimp only; omega)⟩) hS (fun H locs hP hS => ?_)
    refine W.widen (k := 8) (n := 16) (by omega) (by omega) ?_
    exact ret _ _ _ _ _ _ dX0_fits_29 rfl hP hS h
  have B213 : ∀ (x0 : Nat) (t0 : Int32) (S : XS) (H : Heap) (locs : List Loc) (ls : Array Slot), xP D cA A S H → va_S A s.heap H locs → lv_has ls 10 [(0, .ref x0)] → bX0_fits_213  x0 t0 S = some out → W p l e ({ frames := 6, cells := 8, slots := 16, locals := 174 } : Room) s m args below meth c H locs 8 16 Q (F0 m 213 ls [.int t0]) := by
    intro x0 t0 S H locs ls hP hS hl h
    unfold bX0_fits_213 at h
    refine W.widen (k := 8) (n := 16) (by omega) (by omega) ?_
    exact ret _ _ _ _ _ _ dX0_fits_213 rfl hP hS h
  have L82 : ∀ (n82 : Nat), n82 ≤ 8 → ∀  (x0 : Nat) (x2 : Int32) (x3 : Int32) (x4 : Option Nat) (x5 : Int32) (x6 : Int32) (x7 : Int32) (S : XS) (H : Heap) (locs : List Loc) (ls : Array Slot), xP D cA A S H → va_S A s.heap H locs → lv_has ls 10 [(0, .ref x0), (2, .int x2), (3, .int x3), (4, va_rf x4), (5, .int x5), (6, .int x6), (7, .int x7)] → lX0_fits_82 n82 x0 x2 x3 x4 x5 x6 x7 S = some out → W p l e ({ frames := 6, cells := 8, slots := 16, locals := 174 } : Room) s m args below meth c H locs (0 + (8 - n82) * 1 + 0) (0 + (8 - n82) * 2 + 0) Q (F0 m 82 ls []) := by
    intro n82
    induction n82 with
    | zero =>
      intro _ x0 x2 x3 x4 x5 x6 x7 S H locs ls hP hS hl h
      cases h
    | succ n82 ih82 =>
      intro hn82
      have B190 : ∀ (x0 : Nat) (x2 : Int32) (x3 : Int32) (x4 : Option Nat) (x5 : Int32) (x7 : Int32) (t0 : Int32) (t1 : Int32) (S : XS) (H : Heap) (locs : List Loc) (ls : Array Slot), xP D cA A S H → va_S A s.heap H locs → lv_has ls 10 [(0, .ref x0), (2, .int x2), (3, .int x3), (4, va_rf x4), (5, .int x5), (7, .int x7)] → bX0_fits_190 (lX0_fits_82 n82) x0 x2 x3 x4 x5 x7 t0 t1 S = some out → W p l e ({ frames := 6, cells := 8, slots := 16, locals := 174 } : Room) s m args below meth c H locs (0 + (8 - (n82 + 1)) * 1 + 1) (0 + (8 - (n82 + 1)) * 2 + 2) Q (F0 m 190 ls [.int t1, .int t0]) := by
        intro x0 x2 x3 x4 x5 x7 t0 t1 S H locs ls hP hS hl h
        unfold bX0_fits_190 at h
        refine lv_ior hx hb dX0_fits_190 ?_
        refine lv_topi (fun y5 ey5 => ?_)
        have h := nm_at ey5 h
        refine lv_istore (lv' := [(6, .int y5), (0, .ref x0), (2, .int x2), (3, .int x3), (4, va_rf x4), (5, .int x5), (7, .int x7)]) hx hb dX0_fits_191 hl (by decide) rfl (fun ls hl => ?_)
        obtain ⟨y6, ey6⟩ : ∃ y : Int32, y = x7 + (1 : Int32) := ⟨_, rfl⟩
        refine lv_iinc (v := y6) (lv' := [(7, .int y6), (6, .int y5), (0, .ref x0), (2, .int x2), (3, .int x3), (4, va_rf x4), (5, .int x5)]) hx hb dX0_fits_193 hl (k := 6) rfl (by rw [ey6]; rfl) (by decide) rfl (fun ls hl => ?_)
        have h := nm_at ey6 h
        refine lv_goto (tgt := 82) hx hb dX0_fits_196 (by decide) ?_
        refine W.widen (k := (0 + (8 - n82) * 1 + 0)) (n := (0 + (8 - n82) * 2 + 0)) (by omega) (by omega) ?_
        exact ih82 (by omega) x0 x2 x3 x4 x5 y5 y6 S _ _ _ hP hS (lv_sub hl [2, 3, 4, 5, 6, 1, 0] rfl) h
      have B164 : ∀ (x0 : Nat) (x2 : Int32) (x3 : Int32) (x4 : Option Nat) (x5 : Int32) (x6 : Int32) (x7 : Int32) (x8 : Int32) (S : XS) (H : Heap) (locs : List Loc) (ls : Array Slot), xP D cA A S H → va_S A s.heap H locs → lv_has ls 10 [(0, .ref x0), (2, .int x2), (3, .int x3), (4, va_rf x4), (5, .int x5), (6, .int x6), (7, .int x7), (8, .int x8)] → bX0_fits_164 (lX0_fits_82 n82) x0 x2 x3 x4 x5 x6 x7 x8 S = some out → W p l e ({ frames := 6, cells := 8, slots := 16, locals := 174 } : Room) s m args below meth c H locs (0 + (8 - (n82 + 1)) * 1 + 1) (0 + (8 - (n82 + 1)) * 2 + 2) Q (F0 m 164 ls []) := by
        intro x0 x2 x3 x4 x5 x6 x7 x8 S H locs ls hP hS hl h
        unfold bX0_fits_164 at h
        refine lv_aload_n hx hb dX0_fits_164 rfl (lv_at hl 0 rfl) ?_
        obtain ⟨a8, e7, h⟩ := bn1_some h
        refine x_get (C := RX0) (T := TX0) (N := 16) (ci := 0) hx hb hts in_X0 hown hK.1 hP rfl 2 (by decide) (hts _ q231) (fun _ h9 => h9) (gR_some e7) dX0_fits_165 ?_
        refine lv_aload_n hx hb dX0_fits_168 rfl (lv_at hl 0 rfl) ?_
        obtain ⟨a10, e9, h⟩ := bn1_some h
        refine x_get (C := RX0) (T := TX0) (N := 16) (ci := 0) hx hb hts in_X0 hown hK.1 hP rfl 4 (by decide) (hts _ q233) (fun _ h9 => h9) (gR_some e9) dX0_fits_169 ?_
        obtain ⟨g13, h⟩ := chk_some h
        obtain ⟨fg13, g13⟩ := isC_some g13
        obtain ⟨S12, e11, h⟩ := bn1_some h
        refine gc_v (va_runV (As := [.ref a10]) (rest := []) ⟨hx, hb, hml, hown, hts⟩ (mX1_follows (l := l) (D := D) (cA := cA) (A := A) a8 a10 S e11) (cwV 1 hts (lw_V q984 q985 q986 q87 q987) rfl rfl rfl (by decide +kernel) ⟨Nat.le_of_ble_eq_true rfl, Nat.le_of_ble_eq_true rfl⟩) (gPreV xKst hK hA hS hP (x_recv (q := (RX1, TX1, 16)) hK.1 hP rfl g13)) rfl rfl hl.1 rfl (lv_room (Nat.le_of_ble_eq_true rfl)) dX0_fits_172 ⟨by first | omega | (dsimp only; omega), by first | omega | (dsimp only; omega)⟩) hS (fun H locs hP hS => ?_)
        refine lv_iload hx hb dX0_fits_175 (lv_at hl 5 rfl) ?_
        refine lv_iload hx hb dX0_fits_177 (lv_at hl 7 rfl) ?_
        refine lv_if_eq (tgt := 189) hx hb dX0_fits_179 (by decide) (fun c14 => ?_) (fun c14 => ?_)
        · have h := ite_t c14 h
          refine lv_iconst (v := (0 : Int32)) hx hb dX0_fits_189 (by decide) ?_
          refine W.widen (k := (0 + (8 - (n82 + 1)) * 1 + 1)) (n := (0 + (8 - (n82 + 1)) * 2 + 2)) (by omega) (by omega) ?_
          exact B190 x0 x2 x3 x4 x5 x7 x6 (0 : Int32) S12 _ _ _ hP hS (lv_sub hl [0, 1, 2, 3, 4, 6] rfl) h
        · have h := ite_f c14 h
          refine lv_iconst (v := (1 : Int32)) hx hb dX0_fits_182 (by decide) ?_
          refine lv_iload hx hb dX0_fits_183 (lv_at hl 6 rfl) ?_
          refine lv_ishl hx hb dX0_fits_185 ?_
          refine lv_goto (tgt := 190) hx hb dX0_fits_186 (by decide) ?_
          refine W.widen (k := (0 + (8 - (n82 + 1)) * 1 + 1)) (n := (0 + (8 - (n82 + 1)) * 2 + 2)) (by omega) (by omega) ?_
          exact B190 x0 x2 x3 x4 x5 x7 x6 ((1 : Int32) <<< (x7 &&& 31)) S12 _ _ _ hP hS (lv_sub hl [0, 1, 2, 3, 4, 6] rfl) h
      have L115 : ∀ (n115 : Nat) (x0 : Nat) (x2 : Int32) (x3 : Int32) (x4 : Option Nat) (x5 : Int32) (x6 : Int32) (x7 : Int32) (x8 : Int32) (x9 : Int32) (S : XS) (H : Heap) (locs : List Loc) (ls : Array Slot), xP D cA A S H → va_S A s.heap H locs → lv_has ls 10 [(0, .ref x0), (2, .int x2), (3, .int x3), (4, va_rf x4), (5, .int x5), (6, .int x6), (7, .int x7), (8, .int x8), (9, .int x9)] → lX0_fits_115 (lX0_fits_82 n82) n115 x0 x2 x3 x4 x5 x6 x7 x8 x9 S = some out → W p l e ({ frames := 6, cells := 8, slots := 16, locals := 174 } : Room) s m args below meth c H locs (0 + (8 - (n82 + 1)) * 1 + 1) (0 + (8 - (n82 + 1)) * 2 + 2) Q (F0 m 115 ls []) := by
        intro n115
        induction n115 with
        | zero =>
          intro x0 x2 x3 x4 x5 x6 x7 x8 x9 S H locs ls hP hS hl h
          cases h
        | succ n115 ih115 =>
          have B152 : ∀ (x0 : Nat) (x2 : Int32) (x3 : Int32) (x4 : Option Nat) (x5 : Int32) (x6 : Int32) (x7 : Int32) (x9 : Int32) (t0 : Int32) (S : XS) (H : Heap) (locs : List Loc) (ls : Array Slot), xP D cA A S H → va_S A s.heap H locs → lv_has ls 10 [(0, .ref x0), (2, .int x2), (3, .int x3), (4, va_rf x4), (5, .int x5), (6, .int x6), (7, .int x7), (9, .int x9)] → bX0_fits_152 (lX0_fits_82 n82) (lX0_fits_115 (lX0_fits_82 n82) n115) x0 x2 x3 x4 x5 x6 x7 x9 t0 S = some out → W p l e ({ frames := 6, cells := 8, slots := 16, locals := 174 } : Room) s m args below meth c H locs (0 + (8 - (n82 + 1)) * 1 + 1) (0 + (8 - (n82 + 1)) * 2 + 2) Q (F0 m 152 ls [.int t0]) := by
            intro x0 x2 x3 x4 x5 x6 x7 x9 t0 S H locs ls hP hS hl h
            unfold bX0_fits_152 at h
            refine lv_istore (lv' := [(8, .int t0), (0, .ref x0), (2, .int x2), (3, .int x3), (4, va_rf x4), (5, .int x5), (6, .int x6), (7, .int x7), (9, .int x9)]) hx hb dX0_fits_152 hl (by decide) rfl (fun ls hl => ?_)
            refine lv_aload_n hx hb dX0_fits_154 rfl (lv_at hl 1 rfl) ?_
            obtain ⟨g17, h⟩ := chk_some h
            obtain ⟨fg17, g17⟩ := isC_some g17
            obtain ⟨S16, e15, h⟩ := bn1_some h
            refine gc_v (va_runV (As := []) (rest := []) ⟨hx, hb, hml, hown, hts⟩ (mX0_aRound (l := l) (D := D) (cA := cA) (A := A) x0 S e15) (cwV 0 hts (lw_V q881 q883 qs21 q86 q884) rfl rfl rfl (by decide +kernel) ⟨Nat.le_of_ble_eq_true rfl, Nat.le_of_ble_eq_true rfl⟩) (gPreV xKst hK hA hS hP (x_recv (q := (RX0, TX0, 16)) hK.1 hP rfl g17)) rfl rfl hl.1 rfl (lv_room (Nat.le_of_ble_eq_true rfl)) dX0_fits_155 ⟨by first | omega | (dsimp only; omega), by first | omega | (dsimp only; omega)⟩) hS (fun H locs hP hS => ?_)
            obtain ⟨y18, ey18⟩ : ∃ y : Int32, y = x9 + (1 : Int32) := ⟨_, rfl⟩
            refine lv_iinc (v := y18) (lv' := [(9, .int y18), (8, .int t0), (0, .ref x0), (2, .int x2), (3, .int x3), (4, va_rf x4), (5, .int x5), (6, .int x6), (7, .int x7)]) hx hb dX0_fits_158 hl (k := 8) rfl (by rw [ey18]; rfl) (by decide) rfl (fun ls hl => ?_)
            have h := nm_at ey18 h
            refine lv_goto (tgt := 115) hx hb dX0_fits_161 (by decide) ?_
            refine W.widen (k := (0 + (8 - (n82 + 1)) * 1 + 1)) (n := (0 + (8 - (n82 + 1)) * 2 + 2)) (by omega) (by omega) ?_
            exact ih115 x0 x2 x3 x4 x5 x6 x7 t0 y18 S16 _ _ _ hP hS (lv_sub hl [2, 3, 4, 5, 6, 7, 8, 1, 0] rfl) h
          intro x0 x2 x3 x4 x5 x6 x7 x8 x9 S H locs ls hP hS hl h
          replace h : bX0_fits_115 (lX0_fits_82 n82) (lX0_fits_115 (lX0_fits_82 n82) n115) x0 x2 x3 x4 x5 x6 x7 x8 x9 S = some out := h
          unfold bX0_fits_115 at h
          refine lv_iload hx hb dX0_fits_115 (lv_at hl 8 rfl) ?_
          refine x_aload hx hb dX0_fits_117 (lv_at hl 3 rfl) ?_
          obtain ⟨a19, e20, h⟩ := bn1_some h
          subst e20
          obtain ⟨v23, S22, e21, h⟩ := bnd_some h
          refine gci (va_runS (As := [.ref a19]) (rest := [.int x9]) ⟨hx, hb, hml, hown, hts⟩ (mX0_sizeOf (l := l) (D := D) (cA := cA) (A := A) a19 S e21) (va_cwS 1 hts (lw_S q1014 q1015 q86 q1016) rfl rfl rfl (by decide +kernel) ⟨Nat.le_of_ble_eq_true rfl, Nat.le_of_ble_eq_true rfl⟩) (gPreS xKst hK hA hS hP) rfl rfl hl.1 rfl (lv_room (Nat.le_of_ble_eq_true rfl)) dX0_fits_119 ⟨by first | omega | (dsimp only; omega), by first | omega | (dsimp only; omega)⟩) hS (fun H locs hP hS => ?_)
          refine lv_icmp_ge (tgt := 164) hx hb dX0_fits_122 (by decide) (fun c24 => ?_) (fun c24 => ?_)
          · have h := ite_t c24 h
            refine W.widen (k := (0 + (8 - (n82 + 1)) * 1 + 1)) (n := (0 + (8 - (n82 + 1)) * 2 + 2)) (by omega) (by omega) ?_
            exact B164 x0 x2 x3 (some a19) x5 x6 x7 x8 S22 _ _ _ hP hS (lv_sub hl [0, 1, 2, 3, 4, 5, 6, 7] rfl) h
          · have h := ite_f c24 h
            refine lv_iload hx hb dX0_fits_125 (lv_at hl 7 rfl) ?_
            refine lv_if_eq (tgt := 164) hx hb dX0_fits_127 (by decide) (fun c25 => ?_) (fun c25 => ?_)
            · have h := ite_t c25 h
              refine W.widen (k := (0 + (8 - (n82 + 1)) * 1 + 1)) (n := (0 + (8 - (n82 + 1)) * 2 + 2)) (by omega) (by omega) ?_
              exact B164 x0 x2 x3 (some a19) x5 x6 x7 x8 S22 _ _ _ hP hS (lv_sub hl [0, 1, 2, 3, 4, 5, 6, 7] rfl) h
            · have h := ite_f c25 h
              refine lv_aload hx hb dX0_fits_130 (lv_at hl 3 rfl) ?_
              refine lv_iload hx hb dX0_fits_132 (lv_at hl 8 rfl) ?_
              obtain ⟨v28, S27, e26, h⟩ := bnd_some h
              refine gci (va_runS (As := [.ref a19, .int x9]) (rest := []) ⟨hx, hb, hml, hown, hts⟩ (mX0_numberOf (l := l) (D := D) (cA := cA) (A := A) a19 x9 S22 e26) (va_cwS 2 hts (lw_S q1020 q1021 q86 q1022) rfl rfl rfl (by decide +kernel) ⟨Nat.le_of_ble_eq_true rfl, Nat.le_of_ble_eq_true rfl⟩) (gPreS xKst hK hA hS hP) rfl rfl hl.1 rfl (lv_room (Nat.le_of_ble_eq_true rfl)) dX0_fits_134 ⟨by first | omega | (dsimp only; omega), by first | omega | (dsimp only; omega)⟩) hS (fun H locs hP hS => ?_)
              refine lv_aload_n hx hb dX0_fits_137 rfl (lv_at hl 0 rfl) ?_
              obtain ⟨a30, e29, h⟩ := bn1_some h
              refine x_get (C := RX0) (T := TX0) (N := 16) (ci := 0) hx hb hts in_X0 hown hK.1 hP rfl 2 (by decide) (hts _ q231) (fun _ h9 => h9) (gR_some e29) dX0_fits_138 ?_
              obtain ⟨g33, h⟩ := chk_some h
              obtain ⟨fg33, g33⟩ := isC_some g33
              obtain ⟨v34, S32, e31, h⟩ := bnd_some h
              refine gci (va_runV (As := []) (rest := [.int v28]) ⟨hx, hb, hml, hown, hts⟩ (mX1_used (l := l) (D := D) (cA := cA) (A := A) a30 S27 e31) (cwV 0 hts (lw_V q893 q894 q895 q87 q896) rfl rfl rfl (by decide +kernel) ⟨Nat.le_of_ble_eq_true rfl, Nat.le_of_ble_eq_true rfl⟩) (gPreV xKst hK hA hS hP (x_recv (q := (RX1, TX1, 16)) hK.1 hP rfl g33)) rfl rfl hl.1 rfl (lv_room (Nat.le_of_ble_eq_true rfl)) dX0_fits_141 ⟨by first | omega | (dsimp only; omega), by first | omega | (dsimp only; omega)⟩) hS (fun H locs hP hS => ?_)
              refine lv_icmp_ne (tgt := 151) hx hb dX0_fits_144 (by decide) (fun c35 => ?_) (fun c35 => ?_)
              · have h := ite_f c35 h
                refine lv_iconst (v := (0 : Int32)) hx hb dX0_fits_151 (by decide) ?_
                refine W.widen (k := (0 + (8 - (n82 + 1)) * 1 + 1)) (n := (0 + (8 - (n82 + 1)) * 2 + 2)) (by omega) (by omega) ?_
                exact B152 x0 x2 x3 (some a19) x5 x6 x7 x9 (0 : Int32) S32 _ _ _ hP hS (lv_sub hl [0, 1, 2, 3, 4, 5, 6, 8] rfl) h
              · have h := ite_t c35 h
                refine lv_iconst (v := (1 : Int32)) hx hb dX0_fits_147 (by decide) ?_
                refine lv_goto (tgt := 152) hx hb dX0_fits_148 (by decide) ?_
                refine W.widen (k := (0 + (8 - (n82 + 1)) * 1 + 1)) (n := (0 + (8 - (n82 + 1)) * 2 + 2)) (by omega) (by omega) ?_
                exact B152 x0 x2 x3 (some a19) x5 x6 x7 x9 (1 : Int32) S32 _ _ _ hP hS (lv_sub hl [0, 1, 2, 3, 4, 5, 6, 8] rfl) h
      intro x0 x2 x3 x4 x5 x6 x7 S H locs ls hP hS hl h
      replace h : bX0_fits_82 (lX0_fits_82 n82) x0 x2 x3 x4 x5 x6 x7 S = some out := h
      unfold bX0_fits_82 at h
      refine lv_iload hx hb dX0_fits_82 (lv_at hl 6 rfl) ?_
      refine lv_bipush (v := (6 : Int32)) hx hb dX0_fits_84 (by decide) ?_
      refine lv_icmp_gt (tgt := 199) hx hb dX0_fits_86 (by decide) (fun c36 => ?_) (fun c36 => ?_)
      · have h := ite_t c36 h
        refine lv_iload_n hx hb dX0_fits_199 rfl (lv_at hl 2 rfl) ?_
        refine lv_if_ne (tgt := 208) hx hb dX0_fits_200 (by decide) (fun c37 => ?_) (fun c37 => ?_)
        · have h := ite_f c37 h
          refine lv_iload hx hb dX0_fits_208 (lv_at hl 5 rfl) ?_
          obtain ⟨v40, S39, e38, h⟩ := bnd_some h
          refine gci (va_runS (As := [.int x6]) (rest := []) ⟨hx, hb, hml, hown, hts⟩ (mJ8_bitCount (l := l) (D := D) (cA := cA) (A := A) x6 S e38) (va_cwS 1 hts (lw_S q923 q924 q109 q925) rfl rfl rfl (by decide +kernel) ⟨Nat.le_of_ble_eq_true rfl, Nat.le_of_ble_eq_true rfl⟩) (gPreS xKst hK hA hS hP) rfl rfl hl.1 rfl (lv_room (Nat.le_of_ble_eq_true rfl)) dX0_fits_210 ⟨by first | omega | (dsimp only; omega), by first | omega | (dsimp only; omega)⟩) hS (fun H locs hP hS => ?_)
          refine W.widen (k := 8) (n := 16) (by omega) (by omega) ?_
          exact B213 x0 v40 S39 _ _ _ hP hS (lv_sub hl [0] rfl) h
        · have h := ite_t c37 h
          refine lv_iload hx hb dX0_fits_203 (lv_at hl 5 rfl) ?_
          refine lv_goto (tgt := 213) hx hb dX0_fits_205 (by decide) ?_
          refine W.widen (k := 8) (n := 16) (by omega) (by omega) ?_
          exact B213 x0 x6 S _ _ _ hP hS (lv_sub hl [0] rfl) h
      · have h := ite_f c36 h
        refine lv_aload_n hx hb dX0_fits_89 rfl (lv_at hl 0 rfl) ?_
        obtain ⟨a42, e41, h⟩ := bn1_some h
        refine x_get (C := RX0) (T := TX0) (N := 16) (ci := 0) hx hb hts in_X0 hown hK.1 hP rfl 2 (by decide) (hts _ q231) (fun _ h9 => h9) (gR_some e41) dX0_fits_90 ?_
        obtain ⟨a44, e43, h⟩ := bn1_some h
        refine x_getN (C := RX1) (T := TX1) (N := 16) (ci := 1) hx hb hts in_X1 hown hK.1 hP rfl 8 (by decide) (hK.2.1 _ q162 rfl) (fun _ h9 => h9) (gR_some e43) dX0_fits_93 ?_
        refine lv_iload_n hx hb dX0_fits_96 rfl (lv_at hl 1 rfl) ?_
        obtain ⟨a46, e45, h⟩ := bn1_some h
        refine x_aldr (t := 4) hx hb hK.1 hP (by decide) e45 dX0_fits_97 ?_
        refine lv_iload hx hb dX0_fits_98 (lv_at hl 6 rfl) ?_
        refine lv_iload_n hx hb dX0_fits_100 rfl (lv_at hl 1 rfl) ?_
        refine lv_iload hx hb dX0_fits_101 (lv_at hl 4 rfl) ?_
        obtain ⟨a49, S48, e47, h⟩ := bnd_some h
        refine gcr (va_runS (As := [.int x7, .int x2, .int x5]) (rest := [.ref a46]) ⟨hx, hb, hml, hown, hts⟩ (mX0_made (l := l) (D := D) (cA := cA) (A := A) x7 x2 x5 S e47) (va_cwS 3 hts (lw_S q295 q296 q86 q297) rfl rfl rfl (by decide +kernel) ⟨Nat.le_of_ble_eq_true rfl, Nat.le_of_ble_eq_true rfl⟩) (gPreS xKst hK hA hS hP) rfl rfl hl.1 rfl (lv_room (Nat.le_of_ble_eq_true rfl)) dX0_fits_103 ⟨by first | omega | (dsimp only; omega), by first | omega | (dsimp only; omega)⟩) hS (fun H locs hP hS => ?_)
        obtain ⟨S51, e50, h⟩ := bn1_some h
        refine x_putN (v := .ref a49) (ty := (.object "java/lang/Object")) (C := RX2) (T := TX2) (N := 1) (ci := 2) hx hb hts in_X2 tyX2 tyX2_ok nmX2 hown hK.1 hP hS rfl 0 (by decide) (hK.2.1 _ q139 rfl) (fun _ h9 => h9) rfl (by decide +kernel) rfl rfl e50 dX0_fits_106 (fun H locs hP hS => ?_)
        refine lv_iconst (v := (1 : Int32)) hx hb dX0_fits_109 (by decide) ?_
        refine lv_istore (lv' := [(8, .int (1 : Int32)), (0, .ref x0), (2, .int x2), (3, .int x3), (4, va_rf x4), (5, .int x5), (6, .int x6), (7, .int x7)]) hx hb dX0_fits_110 hl (by decide) rfl (fun ls hl => ?_)
        refine lv_iconst (v := (0 : Int32)) hx hb dX0_fits_112 (by decide) ?_
        refine lv_istore (lv' := [(9, .int (0 : Int32)), (8, .int (1 : Int32)), (0, .ref x0), (2, .int x2), (3, .int x3), (4, va_rf x4), (5, .int x5), (6, .int x6), (7, .int x7)]) hx hb dX0_fits_113 hl (by decide) rfl (fun ls hl => ?_)
        refine W.widen (k := (0 + (8 - (n82 + 1)) * 1 + 1)) (n := (0 + (8 - (n82 + 1)) * 2 + 2)) (by omega) (by omega) ?_
        exact L115 FU x0 x2 x3 x4 x5 x6 x7 (1 : Int32) (0 : Int32) S51 _ _ _ hP hS (lv_sub hl [2, 3, 4, 5, 6, 7, 8, 1, 0] rfl) h
  unfold fX0_fits at h
  refine lv_iload_n hx hb dX0_fits_0 rfl (lv_at hl 1 rfl) ?_
  obtain ⟨v54, S53, e52, h⟩ := bnd_some h
  refine gci (va_runS (As := [.int x1]) (rest := []) ⟨hx, hb, hml, hown, hts⟩ (mX0_isSheet (l := l) (D := D) (cA := cA) (A := A) x1 S e52) (va_cwS 1 hts (lw_S q1011 q1012 q86 q1013) rfl rfl rfl (by decide +kernel) ⟨Nat.le_of_ble_eq_true rfl, Nat.le_of_ble_eq_true rfl⟩) (gPreS xKst hK hA hS hP) rfl rfl hl.1 rfl (lv_room (Nat.le_of_ble_eq_true rfl)) dX0_fits_1 ⟨by first | omega | (dsimp only; omega), by first | omega | (dsimp only; omega)⟩) hS (fun H locs hP hS => ?_)
  refine lv_if_eq (tgt := 24) hx hb dX0_fits_4 (by decide) (fun c55 => ?_) (fun c55 => ?_)
  · have h := ite_t c55 h
    refine W.widen (k := 0) (n := 0) (by omega) (by omega) ?_
    exact B24 x0 S53 _ _ _ hP hS (lv_sub hl [0] rfl) h
  · have h := ite_f c55 h
    refine lv_aload_n hx hb dX0_fits_7 rfl (lv_at hl 0 rfl) ?_
    refine lv_iload_n hx hb dX0_fits_8 rfl (lv_at hl 2 rfl) ?_
    obtain ⟨g58, h⟩ := chk_some h
    obtain ⟨fg58, g58⟩ := isC_some g58
    obtain ⟨v59, S57, e56, h⟩ := bnd_some h
    refine gci (va_runV (As := [.int x2]) (rest := []) ⟨hx, hb, hml, hown, hts⟩ (mX0_isMark (l := l) (D := D) (cA := cA) (A := A) x0 x2 S53 e56) (cwV 1 hts (lw_V q380 q382 qs2 q86 q383) rfl rfl rfl (by decide +kernel) ⟨Nat.le_of_ble_eq_true rfl, Nat.le_of_ble_eq_true rfl⟩) (gPreV xKst hK hA hS hP (x_recv (q := (RX0, TX0, 16)) hK.1 hP rfl g58)) rfl rfl hl.1 rfl (lv_room (Nat.le_of_ble_eq_true rfl)) dX0_fits_9 ⟨by first | omega | (dsimp only; omega), by first | omega | (dsimp only; omega)⟩) hS (fun H locs hP hS => ?_)
    refine lv_if_eq (tgt := 24) hx hb dX0_fits_12 (by decide) (fun c60 => ?_) (fun c60 => ?_)
    · have h := ite_t c60 h
      refine W.widen (k := 0) (n := 0) (by omega) (by omega) ?_
      exact B24 x0 S57 _ _ _ hP hS (lv_sub hl [0] rfl) h
    · have h := ite_f c60 h
      refine lv_iload_n hx hb dX0_fits_15 rfl (lv_at hl 3 rfl) ?_
      refine lv_iconst (v := (0 : Int32)) hx hb dX0_fits_16 (by decide) ?_
      refine lv_iconst (v := (1 : Int32)) hx hb dX0_fits_17 (by decide) ?_
      obtain ⟨v63, S62, e61, h⟩ := bnd_some h
      refine gci (va_runS (As := [.int x3, .int (0 : Int32), .int (1 : Int32)]) (rest := []) ⟨hx, hb, hml, hown, hts⟩ (mX0_isIn (l := l) (D := D) (cA := cA) (A := A) x3 (0 : Int32) (1 : Int32) S57 e61) (va_cwS 3 hts (lw_S q283 q284 q86 q285) rfl rfl rfl (by decide +kernel) ⟨Nat.le_of_ble_eq_true rfl, Nat.le_of_ble_eq_true rfl⟩) (gPreS xKst hK hA hS hP) rfl rfl hl.1 rfl (lv_room (Nat.le_of_ble_eq_true rfl)) dX0_fits_18 ⟨by first | omega | (dsimp only; omega), by first | omega | (dsimp only; omega)⟩) hS (fun H locs hP hS => ?_)
      refine lv_if_ne (tgt := 30) hx hb dX0_fits_21 (by decide) (fun c64 => ?_) (fun c64 => ?_)
      · have h := ite_f c64 h
        refine lv_aload_n hx hb dX0_fits_30 rfl (lv_at hl 0 rfl) ?_
        obtain ⟨a66, e65, h⟩ := bn1_some h
        refine x_get (C := RX0) (T := TX0) (N := 16) (ci := 0) hx hb hts in_X0 hown hK.1 hP rfl 7 (by decide) (hts _ q236) (fun _ h9 => h9) (gR_some e65) dX0_fits_31 ?_
        refine lv_iload_n hx hb dX0_fits_34 rfl (lv_at hl 1 rfl) ?_
        obtain ⟨a68, e67, h⟩ := bn1_some h
        refine x_aldr (t := 4) hx hb hK.1 hP (by decide) e67 dX0_fits_35 ?_
        obtain ⟨a70, e69, h⟩ := bn1_some h
        refine x_getN (C := RX2) (T := TX2) (N := 1) (ci := 2) hx hb hts in_X2 hown hK.1 hP rfl 0 (by decide) (hK.2.1 _ q139 rfl) (fun _ h9 => h9) (gQ_some e69) dX0_fits_36 ?_
        refine x_astore (lv' := [(4, va_rf a70), (0, .ref x0), (1, .int x1), (2, .int x2), (3, .int x3)]) hx hb dX0_fits_39 hl (by decide) rfl (fun ls hl => ?_)
        refine x_aload hx hb dX0_fits_41 (lv_at hl 0 rfl) ?_
        cases a70 with
        | none =>
          replace h := nlc_n h
          refine lv_ifnonnullN hx hb dX0_fits_43 ?_
          refine lv_aload_n hx hb dX0_fits_46 rfl (lv_at hl 1 rfl) ?_
          refine lv_iconst (v := (2 : Int32)) hx hb dX0_fits_47 (by decide) ?_
          obtain ⟨g74, h⟩ := chk_some h
          obtain ⟨fg74, g74⟩ := isC_some g74
          obtain ⟨v75, S73, e72, h⟩ := bnd_some h
          refine gci (va_runV (As := [.int (2 : Int32)]) (rest := []) ⟨hx, hb, hml, hown, hts⟩ (mX0_finds (l := l) (D := D) (cA := cA) (A := A) x0 (2 : Int32) S62 e72) (cwV 1 hts (lw_V q290 q292 qs1 q86 q293) rfl rfl rfl (by decide +kernel) ⟨Nat.le_of_ble_eq_true rfl, Nat.le_of_ble_eq_true rfl⟩) (gPreV xKst hK hA hS hP (x_recv (q := (RX0, TX0, 16)) hK.1 hP rfl g74)) rfl rfl hl.1 rfl (lv_room (Nat.le_of_ble_eq_true rfl)) dX0_fits_48 ⟨by first | omega | (dsimp only; omega), by first | omega | (dsimp only; omega)⟩) hS (fun H locs hP hS => ?_)
          refine W.widen (k := 8) (n := 16) (by omega) (by omega) ?_
          exact ret _ _ _ _ _ _ dX0_fits_51 rfl hP hS h
        | some a71 =>
          replace h := nlc_s h
          refine lv_ifnonnull (tgt := 52) hx hb dX0_fits_43 (by decide) ?_
          refine lv_aload_n hx hb dX0_fits_52 rfl (lv_at hl 1 rfl) ?_
          obtain ⟨a77, e76, h⟩ := bn1_some h
          refine x_get (C := RX0) (T := TX0) (N := 16) (ci := 0) hx hb hts in_X0 hown hK.1 hP rfl 2 (by decide) (hts _ q231) (fun _ h9 => h9) (gR_some e76) dX0_fits_53 ?_
          refine lv_iload_n hx hb dX0_fits_56 rfl (lv_at hl 3 rfl) ?_
          obtain ⟨g80, h⟩ := chk_some h
          obtain ⟨fg80, g80⟩ := isC_some g80
          obtain ⟨a81, S79, e78, h⟩ := bnd_some h
          refine gcr (va_runV (As := [.int x2]) (rest := []) ⟨hx, hb, hml, hown, hts⟩ (mX1_at (l := l) (D := D) (cA := cA) (A := A) a77 x2 S62 e78) (cwV 1 hts (lw_V q384 q385 q386 q87 q387) rfl rfl rfl (by decide +kernel) ⟨Nat.le_of_ble_eq_true rfl, Nat.le_of_ble_eq_true rfl⟩) (gPreV xKst hK hA hS hP (x_recv (q := (RX1, TX1, 16)) hK.1 hP rfl g80)) rfl rfl hl.1 rfl (lv_room (Nat.le_of_ble_eq_true rfl)) dX0_fits_57 ⟨by first | omega | (dsimp only; omega), by first | omega | (dsimp only; omega)⟩) hS (fun H locs hP hS => ?_)
          obtain ⟨v83, e82, h⟩ := bn1_some h
          refine x_getM hx hb hts hown hK hP 1 (by decide) (hts _ q319) (fun _ h9 => h9) e82 dX0_fits_60 ?_
          refine lv_istore (lv' := [(5, .int v83), (4, .ref a71), (0, .ref x0), (1, .int x1), (2, .int x2), (3, .int x3)]) hx hb dX0_fits_63 hl (by decide) rfl (fun ls hl => ?_)
          refine lv_iconst (v := (0 : Int32)) hx hb dX0_fits_65 (by decide) ?_
          refine lv_istore (lv' := [(6, .int (0 : Int32)), (5, .int v83), (4, .ref a71), (0, .ref x0), (1, .int x1), (2, .int x2), (3, .int x3)]) hx hb dX0_fits_66 hl (by decide) rfl (fun ls hl => ?_)
          refine lv_aload_n hx hb dX0_fits_68 rfl (lv_at hl 3 rfl) ?_
          obtain ⟨a85, e84, h⟩ := bn1_some h
          refine x_get (C := RX0) (T := TX0) (N := 16) (ci := 0) hx hb hts in_X0 hown hK.1 hP rfl 4 (by decide) (hts _ q233) (fun _ h9 => h9) (gR_some e84) dX0_fits_69 ?_
          refine lv_aload_n hx hb dX0_fits_72 rfl (lv_at hl 3 rfl) ?_
          obtain ⟨a87, e86, h⟩ := bn1_some h
          refine x_get (C := RX0) (T := TX0) (N := 16) (ci := 0) hx hb hts in_X0 hown hK.1 hP rfl 2 (by decide) (hts _ q231) (fun _ h9 => h9) (gR_some e86) dX0_fits_73 ?_
          obtain ⟨g90, h⟩ := chk_some h
          obtain ⟨fg90, g90⟩ := isC_some g90
          obtain ⟨S89, e88, h⟩ := bn1_some h
          refine gc_v (va_runV (As := [.ref a87]) (rest := []) ⟨hx, hb, hml, hown, hts⟩ (mX1_follows (l := l) (D := D) (cA := cA) (A := A) a85 a87 S79 e88) (cwV 1 hts (lw_V q984 q985 q986 q87 q987) rfl rfl rfl (by decide +kernel) ⟨Nat.le_of_ble_eq_true rfl, Nat.le_of_ble_eq_true rfl⟩) (gPreV xKst hK hA hS hP (x_recv (q := (RX1, TX1, 16)) hK.1 hP rfl g90)) rfl rfl hl.1 rfl (lv_room (Nat.le_of_ble_eq_true rfl)) dX0_fits_76 ⟨by first | omega | (dsimp only; omega), by first | omega | (dsimp only; omega)⟩) hS (fun H locs hP hS => ?_)
          refine lv_iconst (v := (0 : Int32)) hx hb dX0_fits_79 (by decide) ?_
          refine lv_istore (lv' := [(7, .int (0 : Int32)), (6, .int (0 : Int32)), (5, .int v83), (4, .ref a71), (0, .ref x0), (1, .int x1), (2, .int x2), (3, .int x3)]) hx hb dX0_fits_80 hl (by decide) rfl (fun ls hl => ?_)
          refine W.widen (k := (0 + (8 - 8) * 1 + 0)) (n := (0 + (8 - 8) * 2 + 0)) (by omega) (by omega) ?_
          exact L82 8 (Nat.le_refl _) x0 x2 x3 (some a71) v83 (0 : Int32) (0 : Int32) S89 _ _ _ hP hS (lv_sub hl [4, 6, 7, 3, 2, 1, 0] rfl) h
      · have h := ite_t c64 h
        refine W.widen (k := 0) (n := 0) (by omega) (by omega) ?_
        exact B24 x0 S62 _ _ _ hP hS (lv_sub hl [0] rfl) h
