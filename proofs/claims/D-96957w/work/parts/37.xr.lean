def fX12_init (x0 : Nat) (x1 : Nat) (x2 : Int32) (x3 : Nat) (S : XS) : Option XS :=
nm (xnew S (aeO 13 [.null, .null, .int 0])) fun S1 =>
bn1 (fX13_init (S.2) S1) fun S3 =>
bn1 (pF S3 x0 12 3 (.ref S.2)) fun S5 =>
bn1 (pF S5 x0 12 0 (.ref x1)) fun S7 =>
bn1 (pF S7 x0 12 1 (.int x2)) fun S9 =>
bn1 (pF S9 x0 12 2 (.ref x3)) fun S11 =>
some S11
set_option maxHeartbeats 4000000 in
set_option maxRecDepth 100000 in
theorem mX12_init {l : Launch} {D : va_G} {cA : Nat → ClassId} {A : Nat → Prop} (x0 : Nat) (x1 : Nat) (x2 : Int32) (x3 : Nat) (S : XS) {out : XS} (h : fX12_init x0 x1 x2 x3 S = some out) : Met l yX12_init (ws_ yX12_init cX12_init 4 none) ({ frames := 2, cells := 3, slots := 123, locals := 44 } : Room) (gPc (xK D cA A) (xP D cA A) A [.ref x0, .ref x1, .int x2, .ref x3] S) (gQv (xK D cA A) (xP D cA A) A out) 3 123 A := by
  refine gMet_v (by decide) (Nat.le_of_ble_eq_true rfl) ?_ xKst
  intro p e s m below meth c Q ls args H locs hC hP hS hl hmi ret
  obtain ⟨hx, hb, hml, hown, hts, hA, hK⟩ := hC
  have hown : s.vm.findClass RX12 = some m.cls := hown
  have hl : lv_has ls 4 [(0, .ref x0), (1, .ref x1), (2, .int x2), (3, .ref x3)] := hl
  have hmi := hmi rfl
  unfold fX12_init at h
  refine lv_aload_n hx hb dX12_init_0 rfl (lv_at hl 0 rfl) ?_
  refine W.objInit hx hb hown (hts _ q617) (hts _ q121) (hts _ q122) rfl (by rw [hml]; exact hl.1) rfl dX12_init_1 (Nat.le_of_ble_eq_true rfl) (Nat.le_of_ble_eq_true rfl) ?_
  refine W.eq (g2 := F0 m 4 ls []) rfl ?_
  refine lv_aload_n hx hb dX12_init_4 rfl (lv_at hl 0 rfl) ?_
  refine x_new (C := RX13) (T := TX13) (N := 3) (ci := 13) (fs := [.null, .null, .int 0]) hx hb hts in_X13 tyX13 tyX13_ok hown (hts _ q618) (hts _ q619) (hts _ q100) hK.1 hP hS hA rfl (fun j hj => by rcases (show j = 0 ∨ j = 1 ∨ j = 2 by omega) with rfl | rfl | rfl <;> rfl) (by first | omega | (dsimp only; omega)) (by first | omega | (dsimp only; omega)) dX12_init_5 (fun H hP hS => ?_)
  obtain ⟨S1, eS1⟩ : ∃ y : XS, y = xnew S (aeO 13 [.null, .null, .int 0]) := ⟨_, rfl⟩
  rw [← eS1] at hP
  have h := nm_at eS1 h
  refine lv_dup hx hb dX12_init_8 rfl ?_
  obtain ⟨S3, e2, h⟩ := bn1_some h
  refine gc_v (va_runIN (As := []) (rest := [.ref S.2, .ref x0]) ⟨hx, hb, hml, hown, hts⟩ (mX13_init (l := l) (D := D) (cA := cA) (A := A) (S.2) S1 e2) ⟨va_cnB 0 hts (lw_meth q622) rfl rfl rfl (hK.2.1 _ q620 rfl) (hts _ q100) (by decide +kernel) ⟨Nat.le_of_ble_eq_true rfl, Nat.le_of_ble_eq_true rfl⟩, rfl, hts _ q621⟩ (gPreS xKst hK hA hS hP) rfl rfl hl.1 rfl (lv_room (Nat.le_of_ble_eq_true rfl)) dX12_init_9 ⟨by first | omega | (dsimp only; omega), by first | omega | (dsimp only; omega)⟩) hS (fun H locs hP hS => ?_)
  obtain ⟨S5, e4, h⟩ := bn1_some h
  refine x_putF (v := .ref S.2) (ty := (.object "PictureBlock$Text")) (C := RX12) (T := TX12) (N := 6) (ci := 12) hx hb hts in_X12 tyX12 tyX12_ok nmX12 hown hK.1 hP hS rfl 3 (by decide) (hts _ q641) (fun _ h9 => h9) rfl hmi rfl (by decide +kernel) rfl rfl e4 dX12_init_12 (fun H locs hP hS => ?_)
  refine lv_aload_n hx hb dX12_init_15 rfl (lv_at hl 0 rfl) ?_
  refine lv_aload_n hx hb dX12_init_16 rfl (lv_at hl 1 rfl) ?_
  obtain ⟨S7, e6, h⟩ := bn1_some h
  refine x_putF (v := .ref x1) (ty := (.array .byte)) (C := RX12) (T := TX12) (N := 6) (ci := 12) hx hb hts in_X12 tyX12 tyX12_ok nmX12 hown hK.1 hP hS rfl 0 (by decide) (hts _ q638) (fun _ h9 => h9) rfl hmi rfl (by decide +kernel) rfl rfl e6 dX12_init_17 (fun H locs hP hS => ?_)
  refine lv_aload_n hx hb dX12_init_20 rfl (lv_at hl 0 rfl) ?_
  refine lv_iload_n hx hb dX12_init_21 rfl (lv_at hl 2 rfl) ?_
  obtain ⟨S9, e8, h⟩ := bn1_some h
  refine x_putF (v := .int x2) (ty := .int) (C := RX12) (T := TX12) (N := 6) (ci := 12) hx hb hts in_X12 tyX12 tyX12_ok nmX12 hown hK.1 hP hS rfl 1 (by decide) (hts _ q639) (fun _ h9 => h9) rfl hmi rfl (by decide +kernel) rfl rfl e8 dX12_init_22 (fun H locs hP hS => ?_)
  refine lv_aload_n hx hb dX12_init_25 rfl (lv_at hl 0 rfl) ?_
  refine lv_aload_n hx hb dX12_init_26 rfl (lv_at hl 3 rfl) ?_
  obtain ⟨S11, e10, h⟩ := bn1_some h
  refine x_putF (v := .ref x3) (ty := (.object "java/lang/String")) (C := RX12) (T := TX12) (N := 6) (ci := 12) hx hb hts in_X12 tyX12 tyX12_ok nmX12 hown hK.1 hP hS rfl 2 (by decide) (hts _ q640) (fun _ h9 => h9) rfl hmi rfl (by decide +kernel) rfl rfl e10 dX12_init_27 (fun H locs hP hS => ?_)
  refine W.widen (k := 3) (n := 123) (by omega) (by omega) ?_
  exact ret _ _ _ _ _ dX12_init_30 hP hS h

def bX12_here_24 (x0 : Nat) (t0 : Int32) (S : XS) : Option (Int32 × XS) :=
some (t0, S)
def fX12_here (x0 : Nat) (S : XS) : Option (Int32 × XS) :=
bn1 (gI S x0 12 4) fun v2 =>
bn1 (gI S x0 12 1) fun v4 =>
(if v4 ≤ v2 then
bX12_here_24 x0 (-1 : Int32) S
else
bn1 (gR S x0 12 0) fun a7 =>
bn1 (gI S x0 12 4) fun v9 =>
bn1 (aI S a7 1 v9) fun v11 =>
bX12_here_24 x0 v11 S)
set_option maxHeartbeats 4000000 in
set_option maxRecDepth 100000 in
theorem mX12_here {l : Launch} {D : va_G} {cA : Nat → ClassId} {A : Nat → Prop} (x0 : Nat) (S : XS) {out : (Int32 × XS)} (h : fX12_here x0 S = some out) : Met l yX12_here (ws_ yX12_here cX12_here 1 (some .int)) ({ frames := 0, cells := 0, slots := 0, locals := 0 } : Room) (gPc (xK D cA A) (xP D cA A) A [.ref x0] S) (gQi (xK D cA A) (xP D cA A) A out) 0 0 A := by
  refine gMet_z (by decide) (Nat.le_of_ble_eq_true rfl) ?_ xKst
  intro p e s m below meth c Q ls args H locs hC hP hS hl ret
  obtain ⟨hx, hb, hml, hown, hts, hA, hK⟩ := hC
  have hown : s.vm.findClass RX12 = some m.cls := hown
  have hl : lv_has ls 1 [(0, .ref x0)] := hl
  have B24 : ∀ (x0 : Nat) (t0 : Int32) (S : XS) (H : Heap) (locs : List Loc) (ls : Array Slot), xP D cA A S H → va_S A s.heap H locs → lv_has ls 1 [(0, .ref x0)] → bX12_here_24  x0 t0 S = some out → W p l e ({ frames := 0, cells := 0, slots := 0, locals := 0 } : Room) s m args below meth c H locs 0 0 Q (F0 m 24 ls [.int t0]) := by
    intro x0 t0 S H locs ls hP hS hl h
    unfold bX12_here_24 at h
    exact ret _ _ _ _ _ _ dX12_here_24 rfl hP hS h
  unfold fX12_here at h
  refine lv_aload_n hx hb dX12_here_0 rfl (lv_at hl 0 rfl) ?_
  obtain ⟨v2, e1, h⟩ := bn1_some h
  refine x_get (C := RX12) (T := TX12) (N := 6) (ci := 12) hx hb hts in_X12 hown hK.1 hP rfl 4 (by decide) (hts _ q642) (fun _ h9 => h9) (gI_some e1) dX12_here_1 ?_
  refine lv_aload_n hx hb dX12_here_4 rfl (lv_at hl 0 rfl) ?_
  obtain ⟨v4, e3, h⟩ := bn1_some h
  refine x_get (C := RX12) (T := TX12) (N := 6) (ci := 12) hx hb hts in_X12 hown hK.1 hP rfl 1 (by decide) (hts _ q639) (fun _ h9 => h9) (gI_some e3) dX12_here_5 ?_
  refine lv_icmp_ge (tgt := 23) hx hb dX12_here_8 (by decide) (fun c5 => ?_) (fun c5 => ?_)
  · have h := ite_t c5 h
    refine lv_iconst (v := (-1 : Int32)) hx hb dX12_here_23 (by decide) ?_
    exact B24 x0 (-1 : Int32) S _ _ _ hP hS hl h
  · have h := ite_f c5 h
    refine lv_aload_n hx hb dX12_here_11 rfl (lv_at hl 0 rfl) ?_
    obtain ⟨a7, e6, h⟩ := bn1_some h
    refine x_get (C := RX12) (T := TX12) (N := 6) (ci := 12) hx hb hts in_X12 hown hK.1 hP rfl 0 (by decide) (hts _ q638) (fun _ h9 => h9) (gR_some e6) dX12_here_12 ?_
    refine lv_aload_n hx hb dX12_here_15 rfl (lv_at hl 0 rfl) ?_
    obtain ⟨v9, e8, h⟩ := bn1_some h
    refine x_get (C := RX12) (T := TX12) (N := 6) (ci := 12) hx hb hts in_X12 hown hK.1 hP rfl 4 (by decide) (hts _ q642) (fun _ h9 => h9) (gI_some e8) dX12_here_16 ?_
    obtain ⟨v11, e10, h⟩ := bn1_some h
    refine x_bald hx hb hK.1 hP e10 dX12_here_19 ?_
    refine lv_goto (tgt := 24) hx hb dX12_here_20 (by decide) ?_
    exact B24 x0 v11 S _ _ _ hP hS hl h

def bX12_takes_28 (x0 : Nat) (x2 : Int32) (t0 : Nat) (t1 : Int32) (t2 : Int32) (S : XS) : Option (Int32 × XS) :=
nm (t1 + t2) fun y1 =>
bn1 (pF S t0 12 4 (.int y1)) fun S3 =>
chk (isB x2) (some (x2, S3))
def bX12_takes_13 (x0 : Nat) (t0 : Int32) (S : XS) : Option (Int32 × XS) :=
bn1 (gI S x0 12 4) fun v6 =>
(if t0 = 0 then
bX12_takes_28 x0 t0 x0 v6 (0 : Int32) S
else
bX12_takes_28 x0 t0 x0 v6 (1 : Int32) S)
def fX12_takes (x0 : Nat) (x1 : Int32) (S : XS) : Option (Int32 × XS) :=
chk (isC S x0 12) (bnd (fX12_here x0 S) fun v11 S9 =>
(if v11 = x1 then
bX12_takes_13 x0 (1 : Int32) S9
else
bX12_takes_13 x0 (0 : Int32) S9))
set_option maxHeartbeats 4000000 in
set_option maxRecDepth 100000 in
theorem mX12_takes {l : Launch} {D : va_G} {cA : Nat → ClassId} {A : Nat → Prop} (x0 : Nat) (x1 : Int32) (S : XS) {out : (Int32 × XS)} (h : fX12_takes x0 x1 S = some out) : Met l yX12_takes (ws_ yX12_takes cX12_takes 3 (some .boolean)) ({ frames := 1, cells := 0, slots := 0, locals := 20 } : Room) (gPc (xK D cA A) (xP D cA A) A [.ref x0, .int x1] S) (gQi (xK D cA A) (xP D cA A) A out) 0 0 A := by
  refine gMet_z (by decide) (Nat.le_of_ble_eq_true rfl) ?_ xKst
  intro p e s m below meth c Q ls args H locs hC hP hS hl ret
  obtain ⟨hx, hb, hml, hown, hts, hA, hK⟩ := hC
  have hown : s.vm.findClass RX12 = some m.cls := hown
  have hl : lv_has ls 3 [(0, .ref x0), (1, .int x1)] := hl
  have B28 : ∀ (x0 : Nat) (x2 : Int32) (t0 : Nat) (t1 : Int32) (t2 : Int32) (S : XS) (H : Heap) (locs : List Loc) (ls : Array Slot), xP D cA A S H → va_S A s.heap H locs → lv_has ls 3 [(0, .ref x0), (2, .int x2)] → bX12_takes_28  x0 x2 t0 t1 t2 S = some out → W p l e ({ frames := 1, cells := 0, slots := 0, locals := 20 } : Room) s m args below meth c H locs 0 0 Q (F0 m 28 ls [.int t2, .int t1, .ref t0]) := by
    intro x0 x2 t0 t1 t2 S H locs ls hP hS hl h
    unfold bX12_takes_28 at h
    refine lv_iadd hx hb dX12_takes_28 ?_
    refine lv_topi (fun y1 ey1 => ?_)
    have h := nm_at ey1 h
    obtain ⟨S3, e2, h⟩ := bn1_some h
    refine x_put (v := .int y1) (ty := .int) (C := RX12) (T := TX12) (N := 6) (ci := 12) hx hb hts in_X12 tyX12 tyX12_ok nmX12 hown hK.1 hP hS rfl 4 (by decide) (hts _ q642) (fun _ h9 => h9) rfl (by decide +kernel) rfl rfl e2 dX12_takes_29 (fun H locs hP hS => ?_)
    refine lv_iload_n hx hb dX12_takes_32 rfl (lv_at hl 1 rfl) ?_
    obtain ⟨g4, h⟩ := chk_some h
    exact ret _ _ _ _ _ _ dX12_takes_33 (isB_nar g4) hP hS h
  have B13 : ∀ (x0 : Nat) (t0 : Int32) (S : XS) (H : Heap) (locs : List Loc) (ls : Array Slot), xP D cA A S H → va_S A s.heap H locs → lv_has ls 3 [(0, .ref x0)] → bX12_takes_13  x0 t0 S = some out → W p l e ({ frames := 1, cells := 0, slots := 0, locals := 20 } : Room) s m args below meth c H locs 0 0 Q (F0 m 13 ls [.int t0]) := by
    intro x0 t0 S H locs ls hP hS hl h
    unfold bX12_takes_13 at h
    refine lv_istore_n (lv' := [(2, .int t0), (0, .ref x0)]) hx hb dX12_takes_13 rfl hl (by decide) rfl (fun ls hl => ?_)
    refine lv_aload_n hx hb dX12_takes_14 rfl (lv_at hl 1 rfl) ?_
    refine lv_dup hx hb dX12_takes_15 rfl ?_
    obtain ⟨v6, e5, h⟩ := bn1_some h
    refine x_get (C := RX12) (T := TX12) (N := 6) (ci := 12) hx hb hts in_X12 hown hK.1 hP rfl 4 (by decide) (hts _ q642) (fun _ h9 => h9) (gI_some e5) dX12_takes_16 ?_
    refine lv_iload_n hx hb dX12_takes_19 rfl (lv_at hl 0 rfl) ?_
    refine lv_if_eq (tgt := 27) hx hb dX12_takes_20 (by decide) (fun c7 => ?_) (fun c7 => ?_)
    · have h := ite_t c7 h
      refine lv_iconst (v := (0 : Int32)) hx hb dX12_takes_27 (by decide) ?_
      exact B28 x0 t0 x0 v6 (0 : Int32) S _ _ _ hP hS (lv_sub hl [1, 0] rfl) h
    · have h := ite_f c7 h
      refine lv_iconst (v := (1 : Int32)) hx hb dX12_takes_23 (by decide) ?_
      refine lv_goto (tgt := 28) hx hb dX12_takes_24 (by decide) ?_
      exact B28 x0 t0 x0 v6 (1 : Int32) S _ _ _ hP hS (lv_sub hl [1, 0] rfl) h
  unfold fX12_takes at h
  refine lv_aload_n hx hb dX12_takes_0 rfl (lv_at hl 0 rfl) ?_
  obtain ⟨g10, h⟩ := chk_some h
  obtain ⟨fg10, g10⟩ := isC_some g10
  obtain ⟨v11, S9, e8, h⟩ := bnd_some h
  refine gci (va_runV (As := []) (rest := []) ⟨hx, hb, hml, hown, hts⟩ (mX12_here (l := l) (D := D) (cA := cA) (A := A) x0 S e8) (cwV 0 hts (lw_V q685 q687 qs13 q99 q688) rfl rfl rfl (by decide +kernel) ⟨Nat.le_of_ble_eq_true rfl, Nat.le_of_ble_eq_true rfl⟩) (gPreV xKst hK hA hS hP (x_recv (q := (RX12, TX12, 6)) hK.1 hP rfl g10)) rfl rfl hl.1 rfl (lv_room (Nat.le_of_ble_eq_true rfl)) dX12_takes_1 ⟨by first | omega | (dsimp only; omega), by first | omega | (dsimp only; omega)⟩) hS (fun H locs hP hS => ?_)
  refine lv_iload_n hx hb dX12_takes_4 rfl (lv_at hl 1 rfl) ?_
  refine lv_icmp_ne (tgt := 12) hx hb dX12_takes_5 (by decide) (fun c12 => ?_) (fun c12 => ?_)
  · have h := ite_f c12 h
    refine lv_iconst (v := (0 : Int32)) hx hb dX12_takes_12 (by decide) ?_
    exact B13 x0 (0 : Int32) S9 _ _ _ hP hS (lv_sub hl [0] rfl) h
  · have h := ite_t c12 h
    refine lv_iconst (v := (1 : Int32)) hx hb dX12_takes_8 (by decide) ?_
    refine lv_goto (tgt := 13) hx hb dX12_takes_9 (by decide) ?_
    exact B13 x0 (1 : Int32) S9 _ _ _ hP hS (lv_sub hl [0] rfl) h

def bX12_isOneOf_23 (sk : Nat → Nat) (x0 : Nat) (t0 : Int32) (S : XS) : Option (Int32 × XS) :=
chk (isB t0) (some (t0, S))
def bX12_isOneOf_22 (sk : Nat → Nat) (x0 : Nat) (S : XS) : Option (Int32 × XS) :=
bX12_isOneOf_23 sk x0 (0 : Int32) S
def fX12_isOneOf (sk : Nat → Nat) (x0 : Nat) (x1 : Nat) (S : XS) : Option (Int32 × XS) :=
chk (isC S x0 12) (bnd (fX12_here x0 S) fun v5 S3 =>
(if v5 < 0 then
bX12_isOneOf_22 sk x0 S3
else
chk (isC S3 x0 12) (bnd (fX12_here x0 S3) fun v10 S8 =>
bn1 (sIx sk x1 v10) fun v11 =>
(if v11 < 0 then
bX12_isOneOf_22 sk x0 S8
else
bX12_isOneOf_23 sk x0 (1 : Int32) S8))))
set_option maxHeartbeats 4000000 in
set_option maxRecDepth 100000 in
theorem mX12_isOneOf {l : Launch} {D : va_G} {cA : Nat → ClassId} {A : Nat → Prop} (sk : Nat → Nat) (hsk : ∀ i, sk i = cA (10 + i)) (x0 : Nat) (x1 : Nat) (S : XS) {out : (Int32 × XS)} (h : fX12_isOneOf sk x0 x1 S = some out) : Met l yX12_isOneOf (ws_ yX12_isOneOf cX12_isOneOf 2 (some .boolean)) ({ frames := 4, cells := 0, slots := 0, locals := 141 } : Room) (gPc (xK D cA A) (xP D cA A) A [.ref x0, .ref x1] S) (gQi (xK D cA A) (xP D cA A) A out) 0 0 A := by
  refine gMet_z (by decide) (Nat.le_of_ble_eq_true rfl) ?_ xKst
  intro p e s m below meth c Q ls args H locs hC hP hS hl ret
  obtain ⟨hx, hb, hml, hown, hts, hA, hK⟩ := hC
  have hown : s.vm.findClass RX12 = some m.cls := hown
  have hl : lv_has ls 2 [(0, .ref x0), (1, .ref x1)] := hl
  have B23 : ∀ (x0 : Nat) (t0 : Int32) (S : XS) (H : Heap) (locs : List Loc) (ls : Array Slot), xP D cA A S H → va_S A s.heap H locs → lv_has ls 2 [(0, .ref x0)] → bX12_isOneOf_23 sk x0 t0 S = some out → W p l e ({ frames := 4, cells := 0, slots := 0, locals := 141 } : Room) s m args below meth c H locs 0 0 Q (F0 m 23 ls [.int t0]) := by
    intro x0 t0 S H locs ls hP hS hl h
    unfold bX12_isOneOf_23 at h
    obtain ⟨g1, h⟩ := chk_some h
    exact ret _ _ _ _ _ _ dX12_isOneOf_23 (isB_nar g1) hP hS h
  have B22 : ∀ (x0 : Nat) (S : XS) (H : Heap) (locs : List Loc) (ls : Array Slot), xP D cA A S H → va_S A s.heap H locs → lv_has ls 2 [(0, .ref x0)] → bX12_isOneOf_22 sk x0 S = some out → W p l e ({ frames := 4, cells := 0, slots := 0, locals := 141 } : Room) s m args below meth c H locs 0 0 Q (F0 m 22 ls []) := by
    intro x0 S H locs ls hP hS hl h
    unfold bX12_isOneOf_22 at h
    refine lv_iconst (v := (0 : Int32)) hx hb dX12_isOneOf_22 (by decide) ?_
    exact B23 x0 (0 : Int32) S _ _ _ hP hS hl h
  unfold fX12_isOneOf at h
  refine lv_aload_n hx hb dX12_isOneOf_0 rfl (lv_at hl 0 rfl) ?_
  obtain ⟨g4, h⟩ := chk_some h
  obtain ⟨fg4, g4⟩ := isC_some g4
  obtain ⟨v5, S3, e2, h⟩ := bnd_some h
  refine gci (va_runV (As := []) (rest := []) ⟨hx, hb, hml, hown, hts⟩ (mX12_here (l := l) (D := D) (cA := cA) (A := A) x0 S e2) (cwV 0 hts (lw_V q685 q687 qs13 q99 q688) rfl rfl rfl (by decide +kernel) ⟨Nat.le_of_ble_eq_true rfl, Nat.le_of_ble_eq_true rfl⟩) (gPreV xKst hK hA hS hP (x_recv (q := (RX12, TX12, 6)) hK.1 hP rfl g4)) rfl rfl hl.1 rfl (lv_room (Nat.le_of_ble_eq_true rfl)) dX12_isOneOf_1 ⟨by first | omega | (dsimp only; omega), by first | omega | (dsimp only; omega)⟩) hS (fun H locs hP hS => ?_)
  refine lv_if_lt (tgt := 22) hx hb dX12_isOneOf_4 (by decide) (fun c6 => ?_) (fun c6 => ?_)
  · have h := ite_t c6 h
    exact B22 x0 S3 _ _ _ hP hS (lv_sub hl [0] rfl) h
  · have h := ite_f c6 h
    refine lv_aload_n hx hb dX12_isOneOf_7 rfl (lv_at hl 1 rfl) ?_
    refine lv_aload_n hx hb dX12_isOneOf_8 rfl (lv_at hl 0 rfl) ?_
    obtain ⟨g9, h⟩ := chk_some h
    obtain ⟨fg9, g9⟩ := isC_some g9
    obtain ⟨v10, S8, e7, h⟩ := bnd_some h
    refine gci (va_runV (As := []) (rest := [.ref x1]) ⟨hx, hb, hml, hown, hts⟩ (mX12_here (l := l) (D := D) (cA := cA) (A := A) x0 S3 e7) (cwV 0 hts (lw_V q685 q687 qs13 q99 q688) rfl rfl rfl (by decide +kernel) ⟨Nat.le_of_ble_eq_true rfl, Nat.le_of_ble_eq_true rfl⟩) (gPreV xKst hK hA hS hP (x_recv (q := (RX12, TX12, 6)) hK.1 hP rfl g9)) rfl rfl hl.1 rfl (lv_room (Nat.le_of_ble_eq_true rfl)) dX12_isOneOf_9 ⟨by first | omega | (dsimp only; omega), by first | omega | (dsimp only; omega)⟩) hS (fun H locs hP hS => ?_)
    obtain ⟨v11, e12, h⟩ := bn1_some h
    refine x_indexOf ⟨hx, hb, hml, hown, hts⟩ q775 hK hA hP hS hsk e12 hl.1 (lv_room (Nat.le_of_ble_eq_true rfl)) ⟨Nat.le_of_ble_eq_true rfl, Nat.le_of_ble_eq_true rfl⟩ ⟨by first | exact Nat.zero_le _ | (dsimp only; omega), by first | exact Nat.zero_le _ | (dsimp only; omega)⟩ dX12_isOneOf_12 (fun H locs hP hS => ?_)
    refine lv_if_lt (tgt := 22) hx hb dX12_isOneOf_15 (by decide) (fun c13 => ?_) (fun c13 => ?_)
    · have h := ite_t c13 h
      exact B22 x0 S8 _ _ _ hP hS (lv_sub hl [0] rfl) h
    · have h := ite_f c13 h
      refine lv_iconst (v := (1 : Int32)) hx hb dX12_isOneOf_18 (by decide) ?_
      refine lv_goto (tgt := 23) hx hb dX12_isOneOf_19 (by decide) ?_
      exact B23 x0 (1 : Int32) S8 _ _ _ hP hS (lv_sub hl [0] rfl) h

def fX12_wrong (x0 : Nat) (S : XS) : Option (Nat × XS) :=
nm (xnew S (aeO 14 [.null, .null, .null, .null, .null, .int 0, .int 0])) fun S1 =>
bn1 (gI S1 x0 12 4) fun v3 =>
bn1 (fX14_init (S.2) v3 S1) fun S5 =>
some (S.2, S5)
set_option maxHeartbeats 4000000 in
set_option maxRecDepth 100000 in
theorem mX12_wrong {l : Launch} {D : va_G} {cA : Nat → ClassId} {A : Nat → Prop} (x0 : Nat) (S : XS) {out : (Nat × XS)} (h : fX12_wrong x0 S = some out) : Met l yX12_wrong (ws_ yX12_wrong cX12_wrong 1 (some (.object "PictureBlock$Fault"))) ({ frames := 4, cells := 1, slots := 7, locals := 121 } : Room) (gPc (xK D cA A) (xP D cA A) A [.ref x0] S) (gQr (xK D cA A) (xP D cA A) A out) 1 7 A := by
  refine gMet_r (Or.inl ⟨_, rfl⟩) (by decide) (Nat.le_of_ble_eq_true rfl) ?_ xKst
  intro p e s m below meth c Q ls args H locs hC hP hS hl ret
  obtain ⟨hx, hb, hml, hown, hts, hA, hK⟩ := hC
  have hown : s.vm.findClass RX12 = some m.cls := hown
  have hl : lv_has ls 1 [(0, .ref x0)] := hl
  unfold fX12_wrong at h
  refine x_new (C := RX14) (T := TX14) (N := 7) (ci := 14) (fs := [.null, .null, .null, .null, .null, .int 0, .int 0]) hx hb hts in_X14 tyX14 tyX14_ok hown (hts _ q697) (hts _ q698) (hts _ q103) hK.1 hP hS hA rfl (fun j hj => by rcases (show j = 0 ∨ j = 1 ∨ j = 2 ∨ j = 3 ∨ j = 4 ∨ j = 5 ∨ j = 6 by omega) with rfl | rfl | rfl | rfl | rfl | rfl | rfl <;> rfl) (by first | omega | (dsimp only; omega)) (by first | omega | (dsimp only; omega)) dX12_wrong_0 (fun H hP hS => ?_)
  obtain ⟨S1, eS1⟩ : ∃ y : XS, y = xnew S (aeO 14 [.null, .null, .null, .null, .null, .int 0, .int 0]) := ⟨_, rfl⟩
  rw [← eS1] at hP
  have h := nm_at eS1 h
  refine lv_dup hx hb dX12_wrong_3 rfl ?_
  refine lv_aload_n hx hb dX12_wrong_4 rfl (lv_at hl 0 rfl) ?_
  obtain ⟨v3, e2, h⟩ := bn1_some h
  refine x_get (C := RX12) (T := TX12) (N := 6) (ci := 12) hx hb hts in_X12 hown hK.1 hP rfl 4 (by decide) (hts _ q642) (fun _ h9 => h9) (gI_some e2) dX12_wrong_5 ?_
  obtain ⟨S5, e4, h⟩ := bn1_some h
  refine gc_v (va_runI (As := [.int v3]) (rest := [.ref S.2]) ⟨hx, hb, hml, hown, hts⟩ (mX14_init (l := l) (D := D) (cA := cA) (A := A) (S.2) v3 S1 e4) (cwI 1 hts (lw_meth q739) rfl rfl rfl (hts _ q103) (hts _ q737) (hts _ q738) rfl (by decide +kernel) ⟨Nat.le_of_ble_eq_true rfl, Nat.le_of_ble_eq_true rfl⟩) (gPreS xKst hK hA hS hP) rfl rfl hl.1 rfl (lv_room (Nat.le_of_ble_eq_true rfl)) dX12_wrong_8 ⟨by first | omega | (dsimp only; omega), by first | omega | (dsimp only; omega)⟩) hS (fun H locs hP hS => ?_)
  refine W.widen (k := 1) (n := 7) (by omega) (by omega) ?_
  exact ret _ _ _ _ _ _ dX12_wrong_11 hP hS h

def fX12_opens (x0 : Nat) (S : XS) : Option ((Unit ⊕ Nat) × XS) :=
bn1 (gI S x0 12 5) fun v2 =>
(if v2 = (5 : Int32) then
chk (isC S x0 12) (bnd (fX12_wrong x0 S) fun a17 S15 =>
some (.inr a17, S15))
else
bn1 (gI S x0 12 5) fun v5 =>
nm (v5 + (1 : Int32)) fun y6 =>
bn1 (pF S x0 12 5 (.int y6)) fun S8 =>
bn1 (gI S8 x0 12 4) fun v10 =>
nm (v10 + (1 : Int32)) fun y11 =>
bn1 (pF S8 x0 12 4 (.int y11)) fun S13 =>
some (.inl (), S13))
set_option maxHeartbeats 4000000 in
set_option maxRecDepth 100000 in
theorem mX12_opens {l : Launch} {D : va_G} {cA : Nat → ClassId} {A : Nat → Prop} (x0 : Nat) (S : XS) {out : ((Unit ⊕ Nat) × XS)} (h : fX12_opens x0 S = some out) : MetT l yX12_opens (ws_ yX12_opens cX12_opens 1 none) ({ frames := 5, cells := 1, slots := 7, locals := 141 } : Room) (gPc (xK D cA A) (xP D cA A) A [.ref x0] S) (gQT (xK D cA A) (xP D cA A) A tvV out) 1 7 A := by
  refine gMetT_v (by decide) (Nat.le_of_ble_eq_true rfl) ?_ xKst
  intro p e s m below meth c Q ls args H locs hC hP hS hl ret lea
  obtain ⟨hx, hb, hml, hown, hts, hA, hK⟩ := hC
  have hown : s.vm.findClass RX12 = some m.cls := hown
  have hl : lv_has ls 1 [(0, .ref x0)] := hl
  unfold fX12_opens at h
  refine lv_aload_n hx hb dX12_opens_0 rfl (lv_at hl 0 rfl) ?_
  obtain ⟨v2, e1, h⟩ := bn1_some h
  refine x_get (C := RX12) (T := TX12) (N := 6) (ci := 12) hx hb hts in_X12 hown hK.1 hP rfl 5 (by decide) (hts _ q643) (fun _ h9 => h9) (gI_some e1) dX12_opens_1 ?_
  refine lv_iconst (v := (5 : Int32)) hx hb dX12_opens_4 (by decide) ?_
  refine lv_icmp_ne (tgt := 13) hx hb dX12_opens_5 (by decide) (fun c3 => ?_) (fun c3 => ?_)
  · have h := ite_f c3 h
    refine lv_aload_n hx hb dX12_opens_13 rfl (lv_at hl 0 rfl) ?_
    refine lv_dup hx hb dX12_opens_14 rfl ?_
    obtain ⟨v5, e4, h⟩ := bn1_some h
    refine x_get (C := RX12) (T := TX12) (N := 6) (ci := 12) hx hb hts in_X12 hown hK.1 hP rfl 5 (by decide) (hts _ q643) (fun _ h9 => h9) (gI_some e4) dX12_opens_15 ?_
    refine lv_iconst (v := (1 : Int32)) hx hb dX12_opens_18 (by decide) ?_
    refine lv_iadd hx hb dX12_opens_19 ?_
    refine lv_topi (fun y6 ey6 => ?_)
    have h := nm_at ey6 h
    obtain ⟨S8, e7, h⟩ := bn1_some h
    refine x_put (v := .int y6) (ty := .int) (C := RX12) (T := TX12) (N := 6) (ci := 12) hx hb hts in_X12 tyX12 tyX12_ok nmX12 hown hK.1 hP hS rfl 5 (by decide) (hts _ q643) (fun _ h9 => h9) rfl (by decide +kernel) rfl rfl e7 dX12_opens_20 (fun H locs hP hS => ?_)
    refine lv_aload_n hx hb dX12_opens_23 rfl (lv_at hl 0 rfl) ?_
    refine lv_dup hx hb dX12_opens_24 rfl ?_
    obtain ⟨v10, e9, h⟩ := bn1_some h
    refine x_get (C := RX12) (T := TX12) (N := 6) (ci := 12) hx hb hts in_X12 hown hK.1 hP rfl 4 (by decide) (hts _ q642) (fun _ h9 => h9) (gI_some e9) dX12_opens_25 ?_
    refine lv_iconst (v := (1 : Int32)) hx hb dX12_opens_28 (by decide) ?_
    refine lv_iadd hx hb dX12_opens_29 ?_
    refine lv_topi (fun y11 ey11 => ?_)
    have h := nm_at ey11 h
    obtain ⟨S13, e12, h⟩ := bn1_some h
    refine x_put (v := .int y11) (ty := .int) (C := RX12) (T := TX12) (N := 6) (ci := 12) hx hb hts in_X12 tyX12 tyX12_ok nmX12 hown hK.1 hP hS rfl 4 (by decide) (hts _ q642) (fun _ h9 => h9) rfl (by decide +kernel) rfl rfl e12 dX12_opens_30 (fun H locs hP hS => ?_)
    exact ret _ _ _ _ _ dX12_opens_33 hP hS h
  · have h := ite_t c3 h
    refine lv_aload_n hx hb dX12_opens_8 rfl (lv_at hl 0 rfl) ?_
    obtain ⟨g16, h⟩ := chk_some h
    obtain ⟨fg16, g16⟩ := isC_some g16
    obtain ⟨a17, S15, e14, h⟩ := bnd_some h
    refine gcr (va_runV (As := []) (rest := []) ⟨hx, hb, hml, hown, hts⟩ (mX12_wrong (l := l) (D := D) (cA := cA) (A := A) x0 S e14) (cwV 0 hts (lw_V q693 q695 qs15 q99 q696) rfl rfl rfl (by decide +kernel) ⟨Nat.le_of_ble_eq_true rfl, Nat.le_of_ble_eq_true rfl⟩) (gPreV xKst hK hA hS hP (x_recv (q := (RX12, TX12, 6)) hK.1 hP rfl g16)) rfl rfl hl.1 rfl (lv_room (Nat.le_of_ble_eq_true rfl)) dX12_opens_9 ⟨by first | omega | (dsimp only; omega), by first | omega | (dsimp only; omega)⟩) hS (fun H locs hP hS => ?_)
    refine W.athrow hx hb dX12_opens_12 ?_
    refine WX.widen (k := 1) (n := 7) (by omega) (by omega) ?_
    exact lea _ _ _ _ _ _ _ hP hS h

def bX12_number_52 (x0 : Nat) (x1 : Int32) (x2 : Int32) (S : XS) : Option ((Int32 ⊕ Nat) × XS) :=
(if x2 = 0 then
chk (isC S x0 12) (bnd (fX12_wrong x0 S) fun a5 S3 =>
some (.inr a5, S3))
else
some (.inl x1, S))
def bX12_number_4 (k4 : Nat → Int32 → Int32 → XS → Option ((Int32 ⊕ Nat) × XS)) (x0 : Nat) (x1 : Int32) (x2 : Int32) (S : XS) : Option ((Int32 ⊕ Nat) × XS) :=
(if (4 : Int32) ≤ x2 then
bX12_number_52 x0 x1 x2 S
else
chk (isC S x0 12) (bnd (fX12_here x0 S) fun v10 S8 =>
bnd (fX0_isIn v10 (48 : Int32) (57 : Int32) S8) fun v13 S12 =>
(if v13 = 0 then
bX12_number_52 x0 x1 x2 S12
else
chk (isC S12 x0 12) (bnd (fX12_here x0 S12) fun v18 S16 =>
nm ((((10 : Int32) * x1) + v18) - (48 : Int32)) fun y19 =>
bn1 (gI S16 x0 12 4) fun v21 =>
nm (v21 + (1 : Int32)) fun y22 =>
bn1 (pF S16 x0 12 4 (.int y22)) fun S24 =>
nm (x2 + (1 : Int32)) fun y25 =>
k4 x0 y19 y25 S24))))
def lX12_number_4 : Nat → (Nat → Int32 → Int32 → XS → Option ((Int32 ⊕ Nat) × XS))
  | 0 => fun _ _ _ _ => none
  | n + 1 => bX12_number_4 (lX12_number_4 n)
def fX12_number (x0 : Nat) (S : XS) : Option ((Int32 ⊕ Nat) × XS) :=
lX12_number_4 FU x0 (0 : Int32) (0 : Int32) S
set_option maxHeartbeats 4000000 in
set_option maxRecDepth 100000 in
theorem mX12_number {l : Launch} {D : va_G} {cA : Nat → ClassId} {A : Nat → Prop} (x0 : Nat) (S : XS) {out : ((Int32 ⊕ Nat) × XS)} (h : fX12_number x0 S = some out) : MetT l yX12_number (ws_ yX12_number cX12_number 3 (some .int)) ({ frames := 5, cells := 1, slots := 7, locals := 141 } : Room) (gPc (xK D cA A) (xP D cA A) A [.ref x0] S) (gQT (xK D cA A) (xP D cA A) A tvI out) 1 7 A := by
  refine gMetT_z (by decide) (Nat.le_of_ble_eq_true rfl) ?_ xKst
  intro p e s m below meth c Q ls args H locs hC hP hS hl ret lea
  obtain ⟨hx, hb, hml, hown, hts, hA, hK⟩ := hC
  have hown : s.vm.findClass RX12 = some m.cls := hown
  have hl : lv_has ls 3 [(0, .ref x0)] := hl
  have B52 : ∀ (x0 : Nat) (x1 : Int32) (x2 : Int32) (S : XS) (H : Heap) (locs : List Loc) (ls : Array Slot), xP D cA A S H → va_S A s.heap H locs → lv_has ls 3 [(0, .ref x0), (1, .int x1), (2, .int x2)] → bX12_number_52  x0 x1 x2 S = some out → W p l e ({ frames := 5, cells := 1, slots := 7, locals := 141 } : Room) s m args below meth c H locs 0 0 Q (F0 m 52 ls []) := by
    intro x0 x1 x2 S H locs ls hP hS hl h
    unfold bX12_number_52 at h
    refine lv_iload_n hx hb dX12_number_52 rfl (lv_at hl 2 rfl) ?_
    refine lv_if_ne (tgt := 61) hx hb dX12_number_53 (by decide) (fun c1 => ?_) (fun c1 => ?_)
    · have h := ite_f c1 h
      refine lv_iload_n hx hb dX12_number_61 rfl (lv_at hl 1 rfl) ?_
      exact ret _ _ _ _ _ _ dX12_number_62 rfl hP hS h
    · have h := ite_t c1 h
      refine lv_aload_n hx hb dX12_number_56 rfl (lv_at hl 0 rfl) ?_
      obtain ⟨g4, h⟩ := chk_some h
      obtain ⟨fg4, g4⟩ := isC_some g4
      obtain ⟨a5, S3, e2, h⟩ := bnd_some h
      refine gcr (va_runV (As := []) (rest := []) ⟨hx, hb, hml, hown, hts⟩ (mX12_wrong (l := l) (D := D) (cA := cA) (A := A) x0 S e2) (cwV 0 hts (lw_V q693 q695 qs15 q99 q696) rfl rfl rfl (by decide +kernel) ⟨Nat.le_of_ble_eq_true rfl, Nat.le_of_ble_eq_true rfl⟩) (gPreV xKst hK hA hS hP (x_recv (q := (RX12, TX12, 6)) hK.1 hP rfl g4)) rfl rfl hl.1 rfl (lv_room (Nat.le_of_ble_eq_true rfl)) dX12_number_57 ⟨by first | omega | (dsimp only; omega), by first | omega | (dsimp only; omega)⟩) hS (fun H locs hP hS => ?_)
      refine W.athrow hx hb dX12_number_60 ?_
      refine WX.widen (k := 1) (n := 7) (by omega) (by omega) ?_
      exact lea _ _ _ _ _ _ _ hP hS h
  have L4 : ∀ (n4 : Nat) (x0 : Nat) (x1 : Int32) (x2 : Int32) (S : XS) (H : Heap) (locs : List Loc) (ls : Array Slot), xP D cA A S H → va_S A s.heap H locs → lv_has ls 3 [(0, .ref x0), (1, .int x1), (2, .int x2)] → lX12_number_4 n4 x0 x1 x2 S = some out → W p l e ({ frames := 5, cells := 1, slots := 7, locals := 141 } : Room) s m args below meth c H locs 0 0 Q (F0 m 4 ls []) := by
    intro n4
    induction n4 with
    | zero =>
      intro x0 x1 x2 S H locs ls hP hS hl h
      cases h
    | succ n4 ih4 =>
      intro x0 x1 x2 S H locs ls hP hS hl h
      replace h : bX12_number_4 (lX12_number_4 n4) x0 x1 x2 S = some out := h
      unfold bX12_number_4 at h
      refine lv_iload_n hx hb dX12_number_4 rfl (lv_at hl 2 rfl) ?_
      refine lv_iconst (v := (4 : Int32)) hx hb dX12_number_5 (by decide) ?_
      refine lv_icmp_ge (tgt := 52) hx hb dX12_number_6 (by decide) (fun c6 => ?_) (fun c6 => ?_)
      · have h := ite_t c6 h
        exact B52 x0 x1 x2 S _ _ _ hP hS hl h
      · have h := ite_f c6 h
        refine lv_aload_n hx hb dX12_number_9 rfl (lv_at hl 0 rfl) ?_
        obtain ⟨g9, h⟩ := chk_some h
        obtain ⟨fg9, g9⟩ := isC_some g9
        obtain ⟨v10, S8, e7, h⟩ := bnd_some h
        refine gci (va_runV (As := []) (rest := []) ⟨hx, hb, hml, hown, hts⟩ (mX12_here (l := l) (D := D) (cA := cA) (A := A) x0 S e7) (cwV 0 hts (lw_V q685 q687 qs13 q99 q688) rfl rfl rfl (by decide +kernel) ⟨Nat.le_of_ble_eq_true rfl, Nat.le_of_ble_eq_true rfl⟩) (gPreV xKst hK hA hS hP (x_recv (q := (RX12, TX12, 6)) hK.1 hP rfl g9)) rfl rfl hl.1 rfl (lv_room (Nat.le_of_ble_eq_true rfl)) dX12_number_10 ⟨by first | omega | (dsimp only; omega), by first | omega | (dsimp only; omega)⟩) hS (fun H locs hP hS => ?_)
        refine lv_bipush (v := (48 : Int32)) hx hb dX12_number_13 (by decide) ?_
        refine lv_bipush (v := (57 : Int32)) hx hb dX12_number_15 (by decide) ?_
        obtain ⟨v13, S12, e11, h⟩ := bnd_some h
        refine gci (va_runSN (As := [.int v10, .int (48 : Int32), .int (57 : Int32)]) (rest := []) ⟨hx, hb, hml, hown, hts⟩ (mX0_isIn (l := l) (D := D) (cA := cA) (A := A) v10 (48 : Int32) (57 : Int32) S8 e11) ⟨va_cnB 3 hts (lw_meth q285) rfl rfl rfl (hK.2.1 _ q861 rfl) (hts _ q86) (by decide +kernel) ⟨Nat.le_of_ble_eq_true rfl, Nat.le_of_ble_eq_true rfl⟩, hts _ q284, trivial⟩ (gPreS xKst hK hA hS hP) rfl rfl hl.1 rfl (lv_room (Nat.le_of_ble_eq_true rfl)) dX12_number_17 ⟨by first | omega | (dsimp only; omega), by first | omega | (dsimp only; omega)⟩) hS (fun H locs hP hS => ?_)
        refine lv_if_eq (tgt := 52) hx hb dX12_number_20 (by decide) (fun c14 => ?_) (fun c14 => ?_)
        · have h := ite_t c14 h
          exact B52 x0 x1 x2 S12 _ _ _ hP hS hl h
        · have h := ite_f c14 h
          refine lv_bipush (v := (10 : Int32)) hx hb dX12_number_23 (by decide) ?_
          refine lv_iload_n hx hb dX12_number_25 rfl (lv_at hl 1 rfl) ?_
          refine lv_imul hx hb dX12_number_26 ?_
          refine lv_aload_n hx hb dX12_number_27 rfl (lv_at hl 0 rfl) ?_
          obtain ⟨g17, h⟩ := chk_some h
          obtain ⟨fg17, g17⟩ := isC_some g17
          obtain ⟨v18, S16, e15, h⟩ := bnd_some h
          refine gci (va_runV (As := []) (rest := [.int ((10 : Int32) * x1)]) ⟨hx, hb, hml, hown, hts⟩ (mX12_here (l := l) (D := D) (cA := cA) (A := A) x0 S12 e15) (cwV 0 hts (lw_V q685 q687 qs13 q99 q688) rfl rfl rfl (by decide +kernel) ⟨Nat.le_of_ble_eq_true rfl, Nat.le_of_ble_eq_true rfl⟩) (gPreV xKst hK hA hS hP (x_recv (q := (RX12, TX12, 6)) hK.1 hP rfl g17)) rfl rfl hl.1 rfl (lv_room (Nat.le_of_ble_eq_true rfl)) dX12_number_28 ⟨by first | omega | (dsimp only; omega), by first | omega | (dsimp only; omega)⟩) hS (fun H locs hP hS => ?_)
          refine lv_iadd hx hb dX12_number_31 ?_
          refine lv_bipush (v := (48 : Int32)) hx hb dX12_number_32 (by decide) ?_
          refine lv_isub hx hb dX12_number_34 ?_
          refine lv_topi (fun y19 ey19 => ?_)
          have h := nm_at ey19 h
          refine lv_istore_n (lv' := [(1, .int y19), (0, .ref x0), (2, .int x2)]) hx hb dX12_number_35 rfl hl (by decide) rfl (fun ls hl => ?_)
          refine lv_aload_n hx hb dX12_number_36 rfl (lv_at hl 1 rfl) ?_
          refine lv_dup hx hb dX12_number_37 rfl ?_
          obtain ⟨v21, e20, h⟩ := bn1_some h
          refine x_get (C := RX12) (T := TX12) (N := 6) (ci := 12) hx hb hts in_X12 hown hK.1 hP rfl 4 (by decide) (hts _ q642) (fun _ h9 => h9) (gI_some e20) dX12_number_38 ?_
          refine lv_iconst (v := (1 : Int32)) hx hb dX12_number_41 (by decide) ?_
          refine lv_iadd hx hb dX12_number_42 ?_
          refine lv_topi (fun y22 ey22 => ?_)
          have h := nm_at ey22 h
          obtain ⟨S24, e23, h⟩ := bn1_some h
          refine x_put (v := .int y22) (ty := .int) (C := RX12) (T := TX12) (N := 6) (ci := 12) hx hb hts in_X12 tyX12 tyX12_ok nmX12 hown hK.1 hP hS rfl 4 (by decide) (hts _ q642) (fun _ h9 => h9) rfl (by decide +kernel) rfl rfl e23 dX12_number_43 (fun H locs hP hS => ?_)
          obtain ⟨y25, ey25⟩ : ∃ y : Int32, y = x2 + (1 : Int32) := ⟨_, rfl⟩
          refine lv_iinc (v := y25) (lv' := [(2, .int y25), (1, .int y19), (0, .ref x0)]) hx hb dX12_number_46 hl (k := 2) rfl (by rw [ey25]; rfl) (by decide) rfl (fun ls hl => ?_)
          have h := nm_at ey25 h
          refine lv_goto (tgt := 4) hx hb dX12_number_49 (by decide) ?_
          exact ih4 x0 y19 y25 S24 _ _ _ hP hS (lv_sub hl [2, 1, 0] rfl) h
  unfold fX12_number at h
  refine lv_iconst (v := (0 : Int32)) hx hb dX12_number_0 (by decide) ?_
  refine lv_istore_n (lv' := [(1, .int (0 : Int32)), (0, .ref x0)]) hx hb dX12_number_1 rfl hl (by decide) rfl (fun ls hl => ?_)
  refine lv_iconst (v := (0 : Int32)) hx hb dX12_number_2 (by decide) ?_
  refine lv_istore_n (lv' := [(2, .int (0 : Int32)), (1, .int (0 : Int32)), (0, .ref x0)]) hx hb dX12_number_3 rfl hl (by decide) rfl (fun ls hl => ?_)
  exact L4 FU x0 (0 : Int32) (0 : Int32) S _ _ _ hP hS (lv_sub hl [2, 1, 0] rfl) h

def bX12_product_4 (sk : Nat → Nat) (rc : Nat → XS → Option ((Unit ⊕ Nat) × XS)) (k4 : Nat → XS → Option ((Unit ⊕ Nat) × XS)) (x0 : Nat) (S : XS) : Option ((Unit ⊕ Nat) × XS) :=
chk (isC S x0 12) (bnd (fX12_isOneOf sk x0 (sk 4) S) fun v4 S2 =>
(if v4 = 0 then
some (.inl (), S2)
else
chk (isC S2 x0 12) (bnd (fX12_here x0 S2) fun v9 S7 =>
bn1 (gI S7 x0 12 4) fun v11 =>
nm (v11 + (1 : Int32)) fun y12 =>
bn1 (pF S7 x0 12 4 (.int y12)) fun S14 =>
chk (isC S14 x0 12) (tcl (rc x0 S14) (fun _ S16 =>
bn1 (gR S16 x0 12 3) fun a22 =>
chk (isC S16 a22 13) (bn1 (fX13_add a22 v9 (0 : Int32) S16) fun S24 =>
k4 x0 S24)) (fun x20 S16 =>
some (.inr x20, S16))))))
def lX12_product_4 (sk : Nat → Nat) (rc : Nat → XS → Option ((Unit ⊕ Nat) × XS)) : Nat → (Nat → XS → Option ((Unit ⊕ Nat) × XS))
  | 0 => fun _ _ => none
  | n + 1 => bX12_product_4 sk rc (lX12_product_4 sk rc n)
def fX12_product (sk : Nat → Nat) (rc : Nat → XS → Option ((Unit ⊕ Nat) × XS)) (x0 : Nat) (S : XS) : Option ((Unit ⊕ Nat) × XS) :=
chk (isC S x0 12) (tcl (rc x0 S) (fun _ S27 =>
lX12_product_4 sk rc FU x0 S27) (fun x31 S27 =>
some (.inr x31, S27)))
set_option maxHeartbeats 4000000 in
set_option maxRecDepth 100000 in
theorem mX12_product {l : Launch} {D : va_G} {cA : Nat → ClassId} {A : Nat → Prop} (sk : Nat → Nat) (hsk : ∀ i, sk i = cA (10 + i)) (d : Nat) (rc : Nat → XS → Option ((Unit ⊕ Nat) × XS)) (hrc : ∀ (a0 : Nat) (S : XS) (out : ((Unit ⊕ Nat) × XS)), rc a0 S = some out → MetT l yX12_unit (ws_ yX12_unit cX12_unit 1 none) ({ frames := 6 * d + 6, cells := 1, slots := 7, locals := 123 * d + 163 } : Room) (gPc (xK D cA A) (xP D cA A) A [.ref a0] S) (gQT (xK D cA A) (xP D cA A) A tvV out) 1 7 A) (x0 : Nat) (S : XS) {out : ((Unit ⊕ Nat) × XS)} (h : fX12_product sk rc x0 S = some out) : MetT l yX12_product (ws_ yX12_product cX12_product 2 none) ({ frames := 6 * d + 7, cells := 1, slots := 7, locals := 123 * d + 183 } : Room) (gPc (xK D cA A) (xP D cA A) A [.ref x0] S) (gQT (xK D cA A) (xP D cA A) A tvV out) 1 7 A := by
  refine gMetT_v (by decide) (Nat.le_of_ble_eq_true rfl) ?_ xKst
  intro p e s m below meth c Q ls args H locs hC hP hS hl ret lea
  obtain ⟨hx, hb, hml, hown, hts, hA, hK⟩ := hC
  have hown : s.vm.findClass RX12 = some m.cls := hown
  have hl : lv_has ls 2 [(0, .ref x0)] := hl
  have L4 : ∀ (n4 : Nat) (x0 : Nat) (S : XS) (H : Heap) (locs : List Loc) (ls : Array Slot), xP D cA A S H → va_S A s.heap H locs → lv_has ls 2 [(0, .ref x0)] → lX12_product_4 sk rc n4 x0 S = some out → W p l e ({ frames := 6 * d + 7, cells := 1, slots := 7, locals := 123 * d + 183 } : Room) s m args below meth c H locs 0 0 Q (F0 m 4 ls []) := by
    intro n4
    induction n4 with
    | zero =>
      intro x0 S H locs ls hP hS hl h
      cases h
    | succ n4 ih4 =>
      intro x0 S H locs ls hP hS hl h
      replace h : bX12_product_4 sk rc (lX12_product_4 sk rc n4) x0 S = some out := h
      unfold bX12_product_4 at h
      refine lv_aload_n hx hb dX12_product_4 rfl (lv_at hl 0 rfl) ?_
      refine va_ldcS (q := sk 4) hx hb hown (by rw [hsk]; exact hK.2.2.2.2.2.2.2.1.2.2.2.2.2.1) dX12_product_5 ?_
      obtain ⟨g3, h⟩ := chk_some h
      obtain ⟨fg3, g3⟩ := isC_some g3
      obtain ⟨v4, S2, e1, h⟩ := bnd_some h
      refine gci (va_runV (As := [.ref (sk 4)]) (rest := []) ⟨hx, hb, hml, hown, hts⟩ (mX12_isOneOf (l := l) (D := D) (cA := cA) (A := A) sk hsk x0 (sk 4) S e1) (cwV 1 hts (lw_V q771 q773 qs18 q99 q774) rfl rfl rfl (by decide +kernel) ⟨by dsimp only; omega, by dsimp only; omega⟩) (gPreV xKst hK hA hS hP (x_recv (q := (RX12, TX12, 6)) hK.1 hP rfl g3)) rfl rfl hl.1 rfl (lv_room (Nat.le_of_ble_eq_true rfl)) dX12_product_7 ⟨by first | omega | (dsimp only; omega), by first | omega | (dsimp only; omega)⟩) hS (fun H locs hP hS => ?_)
      refine lv_if_eq (tgt := 44) hx hb dX12_product_10 (by decide) (fun c5 => ?_) (fun c5 => ?_)
      · have h := ite_t c5 h
        exact ret _ _ _ _ _ dX12_product_44 hP hS h
      · have h := ite_f c5 h
        refine lv_aload_n hx hb dX12_product_13 rfl (lv_at hl 0 rfl) ?_
        obtain ⟨g8, h⟩ := chk_some h
        obtain ⟨fg8, g8⟩ := isC_some g8
        obtain ⟨v9, S7, e6, h⟩ := bnd_some h
        refine gci (va_runV (As := []) (rest := []) ⟨hx, hb, hml, hown, hts⟩ (mX12_here (l := l) (D := D) (cA := cA) (A := A) x0 S2 e6) (cwV 0 hts (lw_V q685 q687 qs13 q99 q688) rfl rfl rfl (by decide +kernel) ⟨by dsimp only; omega, by dsimp only; omega⟩) (gPreV xKst hK hA hS hP (x_recv (q := (RX12, TX12, 6)) hK.1 hP rfl g8)) rfl rfl hl.1 rfl (lv_room (Nat.le_of_ble_eq_true rfl)) dX12_product_14 ⟨by first | omega | (dsimp only; omega), by first | omega | (dsimp only; omega)⟩) hS (fun H locs hP hS => ?_)
        refine lv_istore_n (lv' := [(1, .int v9), (0, .ref x0)]) hx hb dX12_product_17 rfl hl (by decide) rfl (fun ls hl => ?_)
        refine lv_aload_n hx hb dX12_product_18 rfl (lv_at hl 1 rfl) ?_
        refine lv_dup hx hb dX12_product_19 rfl ?_
        obtain ⟨v11, e10, h⟩ := bn1_some h
        refine x_get (C := RX12) (T := TX12) (N := 6) (ci := 12) hx hb hts in_X12 hown hK.1 hP rfl 4 (by decide) (hts _ q642) (fun _ h9 => h9) (gI_some e10) dX12_product_20 ?_
        refine lv_iconst (v := (1 : Int32)) hx hb dX12_product_23 (by decide) ?_
        refine lv_iadd hx hb dX12_product_24 ?_
        refine lv_topi (fun y12 ey12 => ?_)
        have h := nm_at ey12 h
        obtain ⟨S14, e13, h⟩ := bn1_some h
        refine x_put (v := .int y12) (ty := .int) (C := RX12) (T := TX12) (N := 6) (ci := 12) hx hb hts in_X12 tyX12 tyX12_ok nmX12 hown hK.1 hP hS rfl 4 (by decide) (hts _ q642) (fun _ h9 => h9) rfl (by decide +kernel) rfl rfl e13 dX12_product_25 (fun H locs hP hS => ?_)
        refine lv_aload_n hx hb dX12_product_28 rfl (lv_at hl 1 rfl) ?_
        obtain ⟨g17, h⟩ := chk_some h
        obtain ⟨fg17, g17⟩ := isC_some g17
        obtain ⟨r18, S16, e15, h⟩ := tcl_some h
        refine gcT (x_runVT (As := []) (rest := []) ⟨hx, hb, hml, hown, hts⟩ (hrc x0 S14 _ e15) (cwV 0 hts (lw_V q681 q683 qs12 q99 q684) rfl rfl rfl (by decide +kernel) ⟨by dsimp only; omega, by dsimp only; omega⟩) (gPreV xKst hK hA hS hP (x_recv (q := (RX12, TX12, 6)) hK.1 hP rfl g17)) rfl rfl hl.1 rfl (lv_room (Nat.le_of_ble_eq_true rfl)) dX12_product_29 ⟨by first | omega | (dsimp only; omega), by first | omega | (dsimp only; omega)⟩) hS (fun v19 H locs er18 hP hS => ?_) (fun x20 H locs er18 hP hS => ?_)
        · subst er18
          replace h := tc_l h
          refine W.eq (g2 := F0 m 32 ls []) rfl ?_
          refine lv_aload_n hx hb dX12_product_32 rfl (lv_at hl 1 rfl) ?_
          obtain ⟨a22, e21, h⟩ := bn1_some h
          refine x_get (C := RX12) (T := TX12) (N := 6) (ci := 12) hx hb hts in_X12 hown hK.1 hP rfl 3 (by decide) (hts _ q641) (fun _ h9 => h9) (gR_some e21) dX12_product_33 ?_
          refine lv_iload_n hx hb dX12_product_36 rfl (lv_at hl 0 rfl) ?_
          refine lv_iconst (v := (0 : Int32)) hx hb dX12_product_37 (by decide) ?_
          obtain ⟨g25, h⟩ := chk_some h
          obtain ⟨fg25, g25⟩ := isC_some g25
          obtain ⟨S24, e23, h⟩ := bn1_some h
          refine gc_v (va_runV (As := [.int v9, .int (0 : Int32)]) (rest := []) ⟨hx, hb, hml, hown, hts⟩ (mX13_add (l := l) (D := D) (cA := cA) (A := A) a22 v9 (0 : Int32) S16 e23) (cwV 2 hts (lw_V q763 q764 q765 q100 q766) rfl rfl rfl (by decide +kernel) ⟨by dsimp only; omega, by dsimp only; omega⟩) (gPreV xKst hK hA hS hP (x_recv (q := (RX13, TX13, 3)) hK.1 hP rfl g25)) rfl rfl hl.1 rfl (lv_room (Nat.le_of_ble_eq_true rfl)) dX12_product_38 ⟨by first | omega | (dsimp only; omega), by first | omega | (dsimp only; omega)⟩) hS (fun H locs hP hS => ?_)
          refine lv_goto (tgt := 4) hx hb dX12_product_41 (by decide) ?_
          exact ih4 x0 S24 _ _ _ hP hS (lv_sub hl [1] rfl) h
        · subst er18
          replace h := tc_r h
          refine WX.widen (k := 1) (n := 7) (by omega) (by omega) ?_
          exact lea _ _ _ _ _ _ _ hP hS h
  unfold fX12_product at h
  refine lv_aload_n hx hb dX12_product_0 rfl (lv_at hl 0 rfl) ?_
  obtain ⟨g28, h⟩ := chk_some h
  obtain ⟨fg28, g28⟩ := isC_some g28
  obtain ⟨r29, S27, e26, h⟩ := tcl_some h
  refine gcT (x_runVT (As := []) (rest := []) ⟨hx, hb, hml, hown, hts⟩ (hrc x0 S _ e26) (cwV 0 hts (lw_V q681 q683 qs12 q99 q684) rfl rfl rfl (by decide +kernel) ⟨by dsimp only; omega, by dsimp only; omega⟩) (gPreV xKst hK hA hS hP (x_recv (q := (RX12, TX12, 6)) hK.1 hP rfl g28)) rfl rfl hl.1 rfl (lv_room (Nat.le_of_ble_eq_true rfl)) dX12_product_1 ⟨by first | omega | (dsimp only; omega), by first | omega | (dsimp only; omega)⟩) hS (fun v30 H locs er29 hP hS => ?_) (fun x31 H locs er29 hP hS => ?_)
  · subst er29
    replace h := tc_l h
    refine W.eq (g2 := F0 m 4 ls []) rfl ?_
    exact L4 FU x0 S27 _ _ _ hP hS hl h
  · subst er29
    replace h := tc_r h
    refine WX.widen (k := 1) (n := 7) (by omega) (by omega) ?_
    exact lea _ _ _ _ _ _ _ hP hS h

def bX12_sum_4 (sk : Nat → Nat) (rc : Nat → XS → Option ((Unit ⊕ Nat) × XS)) (k4 : Nat → XS → Option ((Unit ⊕ Nat) × XS)) (x0 : Nat) (S : XS) : Option ((Unit ⊕ Nat) × XS) :=
chk (isC S x0 12) (bnd (fX12_isOneOf sk x0 (sk 3) S) fun v4 S2 =>
(if v4 = 0 then
some (.inl (), S2)
else
chk (isC S2 x0 12) (bnd (fX12_here x0 S2) fun v9 S7 =>
bn1 (gI S7 x0 12 4) fun v11 =>
nm (v11 + (1 : Int32)) fun y12 =>
bn1 (pF S7 x0 12 4 (.int y12)) fun S14 =>
chk (isC S14 x0 12) (tcl (fX12_product sk rc x0 S14) (fun _ S16 =>
bn1 (gR S16 x0 12 3) fun a22 =>
chk (isC S16 a22 13) (bn1 (fX13_add a22 v9 (0 : Int32) S16) fun S24 =>
k4 x0 S24)) (fun x20 S16 =>
some (.inr x20, S16))))))
def lX12_sum_4 (sk : Nat → Nat) (rc : Nat → XS → Option ((Unit ⊕ Nat) × XS)) : Nat → (Nat → XS → Option ((Unit ⊕ Nat) × XS))
  | 0 => fun _ _ => none
  | n + 1 => bX12_sum_4 sk rc (lX12_sum_4 sk rc n)
def fX12_sum (sk : Nat → Nat) (rc : Nat → XS → Option ((Unit ⊕ Nat) × XS)) (x0 : Nat) (S : XS) : Option ((Unit ⊕ Nat) × XS) :=
chk (isC S x0 12) (tcl (fX12_product sk rc x0 S) (fun _ S27 =>
lX12_sum_4 sk rc FU x0 S27) (fun x31 S27 =>
some (.inr x31, S27)))
set_option maxHeartbeats 4000000 in
set_option maxRecDepth 100000 in
theorem mX12_sum {l : Launch} {D : va_G} {cA : Nat → ClassId} {A : Nat → Prop} (sk : Nat → Nat) (hsk : ∀ i, sk i = cA (10 + i)) (d : Nat) (rc : Nat → XS → Option ((Unit ⊕ Nat) × XS)) (hrc : ∀ (a0 : Nat) (S : XS) (out : ((Unit ⊕ Nat) × XS)), rc a0 S = some out → MetT l yX12_unit (ws_ yX12_unit cX12_unit 1 none) ({ frames := 6 * d + 6, cells := 1, slots := 7, locals := 123 * d + 163 } : Room) (gPc (xK D cA A) (xP D cA A) A [.ref a0] S) (gQT (xK D cA A) (xP D cA A) A tvV out) 1 7 A) (x0 : Nat) (S : XS) {out : ((Unit ⊕ Nat) × XS)} (h : fX12_sum sk rc x0 S = some out) : MetT l yX12_sum (ws_ yX12_sum cX12_sum 2 none) ({ frames := 6 * d + 8, cells := 1, slots := 7, locals := 123 * d + 204 } : Room) (gPc (xK D cA A) (xP D cA A) A [.ref x0] S) (gQT (xK D cA A) (xP D cA A) A tvV out) 1 7 A := by
  refine gMetT_v (by decide) (Nat.le_of_ble_eq_true rfl) ?_ xKst
  intro p e s m below meth c Q ls args H locs hC hP hS hl ret lea
  obtain ⟨hx, hb, hml, hown, hts, hA, hK⟩ := hC
  have hown : s.vm.findClass RX12 = some m.cls := hown
  have hl : lv_has ls 2 [(0, .ref x0)] := hl
  have L4 : ∀ (n4 : Nat) (x0 : Nat) (S : XS) (H : Heap) (locs : List Loc) (ls : Array Slot), xP D cA A S H → va_S A s.heap H locs → lv_has ls 2 [(0, .ref x0)] → lX12_sum_4 sk rc n4 x0 S = some out → W p l e ({ frames := 6 * d + 8, cells := 1, slots := 7, locals := 123 * d + 204 } : Room) s m args below meth c H locs 0 0 Q (F0 m 4 ls []) := by
    intro n4
    induction n4 with
    | zero =>
      intro x0 S H locs ls hP hS hl h
      cases h
    | succ n4 ih4 =>
      intro x0 S H locs ls hP hS hl h
      replace h : bX12_sum_4 sk rc (lX12_sum_4 sk rc n4) x0 S = some out := h
      unfold bX12_sum_4 at h
      refine lv_aload_n hx hb dX12_sum_4 rfl (lv_at hl 0 rfl) ?_
      refine va_ldcS (q := sk 3) hx hb hown (by rw [hsk]; exact hK.2.2.2.2.2.2.2.1.2.2.2.2.1) dX12_sum_5 ?_
      obtain ⟨g3, h⟩ := chk_some h
      obtain ⟨fg3, g3⟩ := isC_some g3
      obtain ⟨v4, S2, e1, h⟩ := bnd_some h
      refine gci (va_runV (As := [.ref (sk 3)]) (rest := []) ⟨hx, hb, hml, hown, hts⟩ (mX12_isOneOf (l := l) (D := D) (cA := cA) (A := A) sk hsk x0 (sk 3) S e1) (cwV 1 hts (lw_V q771 q773 qs18 q99 q774) rfl rfl rfl (by decide +kernel) ⟨by dsimp only; omega, by dsimp only; omega⟩) (gPreV xKst hK hA hS hP (x_recv (q := (RX12, TX12, 6)) hK.1 hP rfl g3)) rfl rfl hl.1 rfl (lv_room (Nat.le_of_ble_eq_true rfl)) dX12_sum_7 ⟨by first | omega | (dsimp only; omega), by first | omega | (dsimp only; omega)⟩) hS (fun H locs hP hS => ?_)
      refine lv_if_eq (tgt := 44) hx hb dX12_sum_10 (by decide) (fun c5 => ?_) (fun c5 => ?_)
      · have h := ite_t c5 h
        exact ret _ _ _ _ _ dX12_sum_44 hP hS h
      · have h := ite_f c5 h
        refine lv_aload_n hx hb dX12_sum_13 rfl (lv_at hl 0 rfl) ?_
        obtain ⟨g8, h⟩ := chk_some h
        obtain ⟨fg8, g8⟩ := isC_some g8
        obtain ⟨v9, S7, e6, h⟩ := bnd_some h
        refine gci (va_runV (As := []) (rest := []) ⟨hx, hb, hml, hown, hts⟩ (mX12_here (l := l) (D := D) (cA := cA) (A := A) x0 S2 e6) (cwV 0 hts (lw_V q685 q687 qs13 q99 q688) rfl rfl rfl (by decide +kernel) ⟨by dsimp only; omega, by dsimp only; omega⟩) (gPreV xKst hK hA hS hP (x_recv (q := (RX12, TX12, 6)) hK.1 hP rfl g8)) rfl rfl hl.1 rfl (lv_room (Nat.le_of_ble_eq_true rfl)) dX12_sum_14 ⟨by first | omega | (dsimp only; omega), by first | omega | (dsimp only; omega)⟩) hS (fun H locs hP hS => ?_)
        refine lv_istore_n (lv' := [(1, .int v9), (0, .ref x0)]) hx hb dX12_sum_17 rfl hl (by decide) rfl (fun ls hl => ?_)
        refine lv_aload_n hx hb dX12_sum_18 rfl (lv_at hl 1 rfl) ?_
        refine lv_dup hx hb dX12_sum_19 rfl ?_
        obtain ⟨v11, e10, h⟩ := bn1_some h
        refine x_get (C := RX12) (T := TX12) (N := 6) (ci := 12) hx hb hts in_X12 hown hK.1 hP rfl 4 (by decide) (hts _ q642) (fun _ h9 => h9) (gI_some e10) dX12_sum_20 ?_
        refine lv_iconst (v := (1 : Int32)) hx hb dX12_sum_23 (by decide) ?_
        refine lv_iadd hx hb dX12_sum_24 ?_
        refine lv_topi (fun y12 ey12 => ?_)
        have h := nm_at ey12 h
        obtain ⟨S14, e13, h⟩ := bn1_some h
        refine x_put (v := .int y12) (ty := .int) (C := RX12) (T := TX12) (N := 6) (ci := 12) hx hb hts in_X12 tyX12 tyX12_ok nmX12 hown hK.1 hP hS rfl 4 (by decide) (hts _ q642) (fun _ h9 => h9) rfl (by decide +kernel) rfl rfl e13 dX12_sum_25 (fun H locs hP hS => ?_)
        refine lv_aload_n hx hb dX12_sum_28 rfl (lv_at hl 1 rfl) ?_
        obtain ⟨g17, h⟩ := chk_some h
        obtain ⟨fg17, g17⟩ := isC_some g17
        obtain ⟨r18, S16, e15, h⟩ := tcl_some h
        refine gcT (x_runVT (As := []) (rest := []) ⟨hx, hb, hml, hown, hts⟩ (mX12_product (l := l) (D := D) (cA := cA) (A := A) sk hsk d rc hrc x0 S14 e15) (cwV 0 hts (lw_V q677 q679 qs11 q99 q680) rfl rfl rfl (by decide +kernel) ⟨by dsimp only; omega, by dsimp only; omega⟩) (gPreV xKst hK hA hS hP (x_recv (q := (RX12, TX12, 6)) hK.1 hP rfl g17)) rfl rfl hl.1 rfl (lv_room (Nat.le_of_ble_eq_true rfl)) dX12_sum_29 ⟨by first | omega | (dsimp only; omega), by first | omega | (dsimp only; omega)⟩) hS (fun v19 H locs er18 hP hS => ?_) (fun x20 H locs er18 hP hS => ?_)
        · subst er18
          replace h := tc_l h
          refine W.eq (g2 := F0 m 32 ls []) rfl ?_
          refine lv_aload_n hx hb dX12_sum_32 rfl (lv_at hl 1 rfl) ?_
          obtain ⟨a22, e21, h⟩ := bn1_some h
          refine x_get (C := RX12) (T := TX12) (N := 6) (ci := 12) hx hb hts in_X12 hown hK.1 hP rfl 3 (by decide) (hts _ q641) (fun _ h9 => h9) (gR_some e21) dX12_sum_33 ?_
          refine lv_iload_n hx hb dX12_sum_36 rfl (lv_at hl 0 rfl) ?_
          refine lv_iconst (v := (0 : Int32)) hx hb dX12_sum_37 (by decide) ?_
          obtain ⟨g25, h⟩ := chk_some h
          obtain ⟨fg25, g25⟩ := isC_some g25
          obtain ⟨S24, e23, h⟩ := bn1_some h
          refine gc_v (va_runV (As := [.int v9, .int (0 : Int32)]) (rest := []) ⟨hx, hb, hml, hown, hts⟩ (mX13_add (l := l) (D := D) (cA := cA) (A := A) a22 v9 (0 : Int32) S16 e23) (cwV 2 hts (lw_V q763 q764 q765 q100 q766) rfl rfl rfl (by decide +kernel) ⟨by dsimp only; omega, by dsimp only; omega⟩) (gPreV xKst hK hA hS hP (x_recv (q := (RX13, TX13, 3)) hK.1 hP rfl g25)) rfl rfl hl.1 rfl (lv_room (Nat.le_of_ble_eq_true rfl)) dX12_sum_38 ⟨by first | omega | (dsimp only; omega), by first | omega | (dsimp only; omega)⟩) hS (fun H locs hP hS => ?_)
          refine lv_goto (tgt := 4) hx hb dX12_sum_41 (by decide) ?_
          exact ih4 x0 S24 _ _ _ hP hS (lv_sub hl [1] rfl) h
        · subst er18
          replace h := tc_r h
          refine WX.widen (k := 1) (n := 7) (by omega) (by omega) ?_
          exact lea _ _ _ _ _ _ _ hP hS h
  unfold fX12_sum at h
  refine lv_aload_n hx hb dX12_sum_0 rfl (lv_at hl 0 rfl) ?_
  obtain ⟨g28, h⟩ := chk_some h
  obtain ⟨fg28, g28⟩ := isC_some g28
  obtain ⟨r29, S27, e26, h⟩ := tcl_some h
  refine gcT (x_runVT (As := []) (rest := []) ⟨hx, hb, hml, hown, hts⟩ (mX12_product (l := l) (D := D) (cA := cA) (A := A) sk hsk d rc hrc x0 S e26) (cwV 0 hts (lw_V q677 q679 qs11 q99 q680) rfl rfl rfl (by decide +kernel) ⟨by dsimp only; omega, by dsimp only; omega⟩) (gPreV xKst hK hA hS hP (x_recv (q := (RX12, TX12, 6)) hK.1 hP rfl g28)) rfl rfl hl.1 rfl (lv_room (Nat.le_of_ble_eq_true rfl)) dX12_sum_1 ⟨by first | omega | (dsimp only; omega), by first | omega | (dsimp only; omega)⟩) hS (fun v30 H locs er29 hP hS => ?_) (fun x31 H locs er29 hP hS => ?_)
  · subst er29
    replace h := tc_l h
    refine W.eq (g2 := F0 m 4 ls []) rfl ?_
    exact L4 FU x0 S27 _ _ _ hP hS hl h
  · subst er29
    replace h := tc_r h
    refine WX.widen (k := 1) (n := 7) (by omega) (by omega) ?_
    exact lea _ _ _ _ _ _ _ hP hS h

def fX12_compared (sk : Nat → Nat) (rc : Nat → XS → Option ((Unit ⊕ Nat) × XS)) (x0 : Nat) (S : XS) : Option ((Unit ⊕ Nat) × XS) :=
chk (isC S x0 12) (tcl (fX12_sum sk rc x0 S) (fun _ S2 =>
chk (isC S2 x0 12) (bnd (fX12_isOneOf sk x0 (sk 2) S2) fun v10 S8 =>
(if v10 = 0 then
some (.inl (), S8)
else
chk (isC S8 x0 12) (bnd (fX12_here x0 S8) fun v15 S13 =>
bn1 (gI S13 x0 12 4) fun v17 =>
nm (v17 + (1 : Int32)) fun y18 =>
bn1 (pF S13 x0 12 4 (.int y18)) fun S20 =>
chk (isC S20 x0 12) (tcl (fX12_sum sk rc x0 S20) (fun _ S22 =>
bn1 (gR S22 x0 12 3) fun a28 =>
chk (isC S22 a28 13) (bn1 (fX13_add a28 v15 (0 : Int32) S22) fun S30 =>
some (.inl (), S30))) (fun x26 S22 =>
some (.inr x26, S22))))))) (fun x6 S2 =>
some (.inr x6, S2)))
set_option maxHeartbeats 4000000 in
set_option maxRecDepth 100000 in
theorem mX12_compared {l : Launch} {D : va_G} {cA : Nat → ClassId} {A : Nat → Prop} (sk : Nat → Nat) (hsk : ∀ i, sk i = cA (10 + i)) (d : Nat) (rc : Nat → XS → Option ((Unit ⊕ Nat) × XS)) (hrc : ∀ (a0 : Nat) (S : XS) (out : ((Unit ⊕ Nat) × XS)), rc a0 S = some out → MetT l yX12_unit (ws_ yX12_unit cX12_unit 1 none) ({ frames := 6 * d + 6, cells := 1, slots := 7, locals := 123 * d + 163 } : Room) (gPc (xK D cA A) (xP D cA A) A [.ref a0] S) (gQT (xK D cA A) (xP D cA A) A tvV out) 1 7 A) (x0 : Nat) (S : XS) {out : ((Unit ⊕ Nat) × XS)} (h : fX12_compared sk rc x0 S = some out) : MetT l yX12_compared (ws_ yX12_compared cX12_compared 2 none) ({ frames := 6 * d + 9, cells := 1, slots := 7, locals := 123 * d + 225 } : Room) (gPc (xK D cA A) (xP D cA A) A [.ref x0] S) (gQT (xK D cA A) (xP D cA A) A tvV out) 1 7 A := by
  refine gMetT_v (by decide) (Nat.le_of_ble_eq_true rfl) ?_ xKst
  intro p e s m below meth c Q ls args H locs hC hP hS hl ret lea
  obtain ⟨hx, hb, hml, hown, hts, hA, hK⟩ := hC
  have hown : s.vm.findClass RX12 = some m.cls := hown
  have hl : lv_has ls 2 [(0, .ref x0)] := hl
  unfold fX12_compared at h
  refine lv_aload_n hx hb dX12_compared_0 rfl (lv_at hl 0 rfl) ?_
  obtain ⟨g3, h⟩ := chk_some h
  obtain ⟨fg3, g3⟩ := isC_some g3
  obtain ⟨r4, S2, e1, h⟩ := tcl_some h
  refine gcT (x_runVT (As := []) (rest := []) ⟨hx, hb, hml, hown, hts⟩ (mX12_sum (l := l) (D := D) (cA := cA) (A := A) sk hsk d rc hrc x0 S e1) (cwV 0 hts (lw_V q673 q675 qs10 q99 q676) rfl rfl rfl (by decide +kernel) ⟨by dsimp only; omega, by dsimp only; omega⟩) (gPreV xKst hK hA hS hP (x_recv (q := (RX12, TX12, 6)) hK.1 hP rfl g3)) rfl rfl hl.1 rfl (lv_room (Nat.le_of_ble_eq_true rfl)) dX12_compared_1 ⟨by first | omega | (dsimp only; omega), by first | omega | (dsimp only; omega)⟩) hS (fun v5 H locs er4 hP hS => ?_) (fun x6 H locs er4 hP hS => ?_)
  · subst er4
    replace h := tc_l h
    refine W.eq (g2 := F0 m 4 ls []) rfl ?_
    refine lv_aload_n hx hb dX12_compared_4 rfl (lv_at hl 0 rfl) ?_
    refine va_ldcS (q := sk 2) hx hb hown (by rw [hsk]; exact hK.2.2.2.2.2.2.2.1.2.2.2.1) dX12_compared_5 ?_
    obtain ⟨g9, h⟩ := chk_some h
    obtain ⟨fg9, g9⟩ := isC_some g9
    obtain ⟨v10, S8, e7, h⟩ := bnd_some h
    refine gci (va_runV (As := [.ref (sk 2)]) (rest := []) ⟨hx, hb, hml, hown, hts⟩ (mX12_isOneOf (l := l) (D := D) (cA := cA) (A := A) sk hsk x0 (sk 2) S2 e7) (cwV 1 hts (lw_V q771 q773 qs18 q99 q774) rfl rfl rfl (by decide +kernel) ⟨by dsimp only; omega, by dsimp only; omega⟩) (gPreV xKst hK hA hS hP (x_recv (q := (RX12, TX12, 6)) hK.1 hP rfl g9)) rfl rfl hl.1 rfl (lv_room (Nat.le_of_ble_eq_true rfl)) dX12_compared_7 ⟨by first | omega | (dsimp only; omega), by first | omega | (dsimp only; omega)⟩) hS (fun H locs hP hS => ?_)
    refine lv_if_ne (tgt := 14) hx hb dX12_compared_10 (by decide) (fun c11 => ?_) (fun c11 => ?_)
    · have h := ite_f c11 h
      refine lv_aload_n hx hb dX12_compared_14 rfl (lv_at hl 0 rfl) ?_
      obtain ⟨g14, h⟩ := chk_some h
      obtain ⟨fg14, g14⟩ := isC_some g14
      obtain ⟨v15, S13, e12, h⟩ := bnd_some h
      refine gci (va_runV (As := []) (rest := []) ⟨hx, hb, hml, hown, hts⟩ (mX12_here (l := l) (D := D) (cA := cA) (A := A) x0 S8 e12) (cwV 0 hts (lw_V q685 q687 qs13 q99 q688) rfl rfl rfl (by decide +kernel) ⟨by dsimp only; omega, by dsimp only; omega⟩) (gPreV xKst hK hA hS hP (x_recv (q := (RX12, TX12, 6)) hK.1 hP rfl g14)) rfl rfl hl.1 rfl (lv_room (Nat.le_of_ble_eq_true rfl)) dX12_compared_15 ⟨by first | omega | (dsimp only; omega), by first | omega | (dsimp only; omega)⟩) hS (fun H locs hP hS => ?_)
      refine lv_istore_n (lv' := [(1, .int v15), (0, .ref x0)]) hx hb dX12_compared_18 rfl hl (by decide) rfl (fun ls hl => ?_)
      refine lv_aload_n hx hb dX12_compared_19 rfl (lv_at hl 1 rfl) ?_
      refine lv_dup hx hb dX12_compared_20 rfl ?_
      obtain ⟨v17, e16, h⟩ := bn1_some h
      refine x_get (C := RX12) (T := TX12) (N := 6) (ci := 12) hx hb hts in_X12 hown hK.1 hP rfl 4 (by decide) (hts _ q642) (fun _ h9 => h9) (gI_some e16) dX12_compared_21 ?_
      refine lv_iconst (v := (1 : Int32)) hx hb dX12_compared_24 (by decide) ?_
      refine lv_iadd hx hb dX12_compared_25 ?_
      refine lv_topi (fun y18 ey18 => ?_)
      have h := nm_at ey18 h
      obtain ⟨S20, e19, h⟩ := bn1_some h
      refine x_put (v := .int y18) (ty := .int) (C := RX12) (T := TX12) (N := 6) (ci := 12) hx hb hts in_X12 tyX12 tyX12_ok nmX12 hown hK.1 hP hS rfl 4 (by decide) (hts _ q642) (fun _ h9 => h9) rfl (by decide +kernel) rfl rfl e19 dX12_compared_26 (fun H locs hP hS => ?_)
      refine lv_aload_n hx hb dX12_compared_29 rfl (lv_at hl 1 rfl) ?_
      obtain ⟨g23, h⟩ := chk_some h
      obtain ⟨fg23, g23⟩ := isC_some g23
      obtain ⟨r24, S22, e21, h⟩ := tcl_some h
      refine gcT (x_runVT (As := []) (rest := []) ⟨hx, hb, hml, hown, hts⟩ (mX12_sum (l := l) (D := D) (cA := cA) (A := A) sk hsk d rc hrc x0 S20 e21) (cwV 0 hts (lw_V q673 q675 qs10 q99 q676) rfl rfl rfl (by decide +kernel) ⟨by dsimp only; omega, by dsimp only; omega⟩) (gPreV xKst hK hA hS hP (x_recv (q := (RX12, TX12, 6)) hK.1 hP rfl g23)) rfl rfl hl.1 rfl (lv_room (Nat.le_of_ble_eq_true rfl)) dX12_compared_30 ⟨by first | omega | (dsimp only; omega), by first | omega | (dsimp only; omega)⟩) hS (fun v25 H locs er24 hP hS => ?_) (fun x26 H locs er24 hP hS => ?_)
      · subst er24
        replace h := tc_l h
        refine W.eq (g2 := F0 m 33 ls []) rfl ?_
        refine lv_aload_n hx hb dX12_compared_33 rfl (lv_at hl 1 rfl) ?_
        obtain ⟨a28, e27, h⟩ := bn1_some h
        refine x_get (C := RX12) (T := TX12) (N := 6) (ci := 12) hx hb hts in_X12 hown hK.1 hP rfl 3 (by decide) (hts _ q641) (fun _ h9 => h9) (gR_some e27) dX12_compared_34 ?_
        refine lv_iload_n hx hb dX12_compared_37 rfl (lv_at hl 0 rfl) ?_
        refine lv_iconst (v := (0 : Int32)) hx hb dX12_compared_38 (by decide) ?_
        obtain ⟨g31, h⟩ := chk_some h
        obtain ⟨fg31, g31⟩ := isC_some g31
        obtain ⟨S30, e29, h⟩ := bn1_some h
        refine gc_v (va_runV (As := [.int v15, .int (0 : Int32)]) (rest := []) ⟨hx, hb, hml, hown, hts⟩ (mX13_add (l := l) (D := D) (cA := cA) (A := A) a28 v15 (0 : Int32) S22 e29) (cwV 2 hts (lw_V q763 q764 q765 q100 q766) rfl rfl rfl (by decide +kernel) ⟨by dsimp only; omega, by dsimp only; omega⟩) (gPreV xKst hK hA hS hP (x_recv (q := (RX13, TX13, 3)) hK.1 hP rfl g31)) rfl rfl hl.1 rfl (lv_room (Nat.le_of_ble_eq_true rfl)) dX12_compared_39 ⟨by first | omega | (dsimp only; omega), by first | omega | (dsimp only; omega)⟩) hS (fun H locs hP hS => ?_)
        exact ret _ _ _ _ _ dX12_compared_42 hP hS h
      · subst er24
        replace h := tc_r h
        refine WX.widen (k := 1) (n := 7) (by omega) (by omega) ?_
        exact lea _ _ _ _ _ _ _ hP hS h
    · have h := ite_t c11 h
      exact ret _ _ _ _ _ dX12_compared_13 hP hS h
  · subst er4
    replace h := tc_r h
    refine WX.widen (k := 1) (n := 7) (by omega) (by omega) ?_
    exact lea _ _ _ _ _ _ _ hP hS h

def bX12_both_4 (sk : Nat → Nat) (rc : Nat → XS → Option ((Unit ⊕ Nat) × XS)) (k4 : Nat → XS → Option ((Unit ⊕ Nat) × XS)) (x0 : Nat) (S : XS) : Option ((Unit ⊕ Nat) × XS) :=
chk (isC S x0 12) (bnd (fX12_takes x0 (38 : Int32) S) fun v4 S2 =>
(if v4 = 0 then
some (.inl (), S2)
else
chk (isC S2 x0 12) (tcl (fX12_compared sk rc x0 S2) (fun _ S7 =>
bn1 (gR S7 x0 12 3) fun a13 =>
chk (isC S7 a13 13) (bn1 (fX13_add a13 (38 : Int32) (0 : Int32) S7) fun S15 =>
k4 x0 S15)) (fun x11 S7 =>
some (.inr x11, S7)))))
def lX12_both_4 (sk : Nat → Nat) (rc : Nat → XS → Option ((Unit ⊕ Nat) × XS)) : Nat → (Nat → XS → Option ((Unit ⊕ Nat) × XS))
  | 0 => fun _ _ => none
  | n + 1 => bX12_both_4 sk rc (lX12_both_4 sk rc n)
def fX12_both (sk : Nat → Nat) (rc : Nat → XS → Option ((Unit ⊕ Nat) × XS)) (x0 : Nat) (S : XS) : Option ((Unit ⊕ Nat) × XS) :=
chk (isC S x0 12) (tcl (fX12_compared sk rc x0 S) (fun _ S18 =>
lX12_both_4 sk rc FU x0 S18) (fun x22 S18 =>
some (.inr x22, S18)))
set_option maxHeartbeats 4000000 in
set_option maxRecDepth 100000 in
theorem mX12_both {l : Launch} {D : va_G} {cA : Nat → ClassId} {A : Nat → Prop} (sk : Nat → Nat) (hsk : ∀ i, sk i = cA (10 + i)) (d : Nat) (rc : Nat → XS → Option ((Unit ⊕ Nat) × XS)) (hrc : ∀ (a0 : Nat) (S : XS) (out : ((Unit ⊕ Nat) × XS)), rc a0 S = some out → MetT l yX12_unit (ws_ yX12_unit cX12_unit 1 none) ({ frames := 6 * d + 6, cells := 1, slots := 7, locals := 123 * d + 163 } : Room) (gPc (xK D cA A) (xP D cA A) A [.ref a0] S) (gQT (xK D cA A) (xP D cA A) A tvV out) 1 7 A) (x0 : Nat) (S : XS) {out : ((Unit ⊕ Nat) × XS)} (h : fX12_both sk rc x0 S = some out) : MetT l yX12_both (ws_ yX12_both cX12_both 1 none) ({ frames := 6 * d + 10, cells := 1, slots := 7, locals := 123 * d + 246 } : Room) (gPc (xK D cA A) (xP D cA A) A [.ref x0] S) (gQT (xK D cA A) (xP D cA A) A tvV out) 1 7 A := by
  refine gMetT_v (by decide) (Nat.le_of_ble_eq_true rfl) ?_ xKst
  intro p e s m below meth c Q ls args H locs hC hP hS hl ret lea
  obtain ⟨hx, hb, hml, hown, hts, hA, hK⟩ := hC
  have hown : s.vm.findClass RX12 = some m.cls := hown
  have hl : lv_has ls 1 [(0, .ref x0)] := hl
  have L4 : ∀ (n4 : Nat) (x0 : Nat) (S : XS) (H : Heap) (locs : List Loc) (ls : Array Slot), xP D cA A S H → va_S A s.heap H locs → lv_has ls 1 [(0, .ref x0)] → lX12_both_4 sk rc n4 x0 S = some out → W p l e ({ frames := 6 * d + 10, cells := 1, slots := 7, locals := 123 * d + 246 } : Room) s m args below meth c H locs 0 0 Q (F0 m 4 ls []) := by
    intro n4
    induction n4 with
    | zero =>
      intro x0 S H locs ls hP hS hl h
      cases h
    | succ n4 ih4 =>
      intro x0 S H locs ls hP hS hl h
      replace h : bX12_both_4 sk rc (lX12_both_4 sk rc n4) x0 S = some out := h
      unfold bX12_both_4 at h
      refine lv_aload_n hx hb dX12_both_4 rfl (lv_at hl 0 rfl) ?_
      refine lv_bipush (v := (38 : Int32)) hx hb dX12_both_5 (by decide) ?_
      obtain ⟨g3, h⟩ := chk_some h
      obtain ⟨fg3, g3⟩ := isC_some g3
      obtain ⟨v4, S2, e1, h⟩ := bnd_some h
      refine gci (va_runV (As := [.int (38 : Int32)]) (rest := []) ⟨hx, hb, hml, hown, hts⟩ (mX12_takes (l := l) (D := D) (cA := cA) (A := A) x0 (38 : Int32) S e1) (cwV 1 hts (lw_V q767 q769 qs17 q99 q770) rfl rfl rfl (by decide +kernel) ⟨by dsimp only; omega, by dsimp only; omega⟩) (gPreV xKst hK hA hS hP (x_recv (q := (RX12, TX12, 6)) hK.1 hP rfl g3)) rfl rfl hl.1 rfl (lv_room (Nat.le_of_ble_eq_true rfl)) dX12_both_7 ⟨by first | omega | (dsimp only; omega), by first | omega | (dsimp only; omega)⟩) hS (fun H locs hP hS => ?_)
      refine lv_if_eq (tgt := 30) hx hb dX12_both_10 (by decide) (fun c5 => ?_) (fun c5 => ?_)
      · have h := ite_t c5 h
        exact ret _ _ _ _ _ dX12_both_30 hP hS h
      · have h := ite_f c5 h
        refine lv_aload_n hx hb dX12_both_13 rfl (lv_at hl 0 rfl) ?_
        obtain ⟨g8, h⟩ := chk_some h
        obtain ⟨fg8, g8⟩ := isC_some g8
        obtain ⟨r9, S7, e6, h⟩ := tcl_some h
        refine gcT (x_runVT (As := []) (rest := []) ⟨hx, hb, hml, hown, hts⟩ (mX12_compared (l := l) (D := D) (cA := cA) (A := A) sk hsk d rc hrc x0 S2 e6) (cwV 0 hts (lw_V q669 q671 qs9 q99 q672) rfl rfl rfl (by decide +kernel) ⟨by dsimp only; omega, by dsimp only; omega⟩) (gPreV xKst hK hA hS hP (x_recv (q := (RX12, TX12, 6)) hK.1 hP rfl g8)) rfl rfl hl.1 rfl (lv_room (Nat.le_of_ble_eq_true rfl)) dX12_both_14 ⟨by first | omega | (dsimp only; omega), by first | omega | (dsimp only; omega)⟩) hS (fun v10 H locs er9 hP hS => ?_) (fun x11 H locs er9 hP hS => ?_)
        · subst er9
          replace h := tc_l h
          refine W.eq (g2 := F0 m 17 ls []) rfl ?_
          refine lv_aload_n hx hb dX12_both_17 rfl (lv_at hl 0 rfl) ?_
          obtain ⟨a13, e12, h⟩ := bn1_some h
          refine x_get (C := RX12) (T := TX12) (N := 6) (ci := 12) hx hb hts in_X12 hown hK.1 hP rfl 3 (by decide) (hts _ q641) (fun _ h9 => h9) (gR_some e12) dX12_both_18 ?_
          refine lv_bipush (v := (38 : Int32)) hx hb dX12_both_21 (by decide) ?_
          refine lv_iconst (v := (0 : Int32)) hx hb dX12_both_23 (by decide) ?_
          obtain ⟨g16, h⟩ := chk_some h
          obtain ⟨fg16, g16⟩ := isC_some g16
          obtain ⟨S15, e14, h⟩ := bn1_some h
          refine gc_v (va_runV (As := [.int (38 : Int32), .int (0 : Int32)]) (rest := []) ⟨hx, hb, hml, hown, hts⟩ (mX13_add (l := l) (D := D) (cA := cA) (A := A) a13 (38 : Int32) (0 : Int32) S7 e14) (cwV 2 hts (lw_V q763 q764 q765 q100 q766) rfl rfl rfl (by decide +kernel) ⟨by dsimp only; omega, by dsimp only; omega⟩) (gPreV xKst hK hA hS hP (x_recv (q := (RX13, TX13, 3)) hK.1 hP rfl g16)) rfl rfl hl.1 rfl (lv_room (Nat.le_of_ble_eq_true rfl)) dX12_both_24 ⟨by first | omega | (dsimp only; omega), by first | omega | (dsimp only; omega)⟩) hS (fun H locs hP hS => ?_)
          refine lv_goto (tgt := 4) hx hb dX12_both_27 (by decide) ?_
          exact ih4 x0 S15 _ _ _ hP hS hl h
        · subst er9
          replace h := tc_r h
          refine WX.widen (k := 1) (n := 7) (by omega) (by omega) ?_
          exact lea _ _ _ _ _ _ _ hP hS h
  unfold fX12_both at h
  refine lv_aload_n hx hb dX12_both_0 rfl (lv_at hl 0 rfl) ?_
  obtain ⟨g19, h⟩ := chk_some h
  obtain ⟨fg19, g19⟩ := isC_some g19
  obtain ⟨r20, S18, e17, h⟩ := tcl_some h
  refine gcT (x_runVT (As := []) (rest := []) ⟨hx, hb, hml, hown, hts⟩ (mX12_compared (l := l) (D := D) (cA := cA) (A := A) sk hsk d rc hrc x0 S e17) (cwV 0 hts (lw_V q669 q671 qs9 q99 q672) rfl rfl rfl (by decide +kernel) ⟨by dsimp only; omega, by dsimp only; omega⟩) (gPreV xKst hK hA hS hP (x_recv (q := (RX12, TX12, 6)) hK.1 hP rfl g19)) rfl rfl hl.1 rfl (lv_room (Nat.le_of_ble_eq_true rfl)) dX12_both_1 ⟨by first | omega | (dsimp only; omega), by first | omega | (dsimp only; omega)⟩) hS (fun v21 H locs er20 hP hS => ?_) (fun x22 H locs er20 hP hS => ?_)
  · subst er20
    replace h := tc_l h
    refine W.eq (g2 := F0 m 4 ls []) rfl ?_
    exact L4 FU x0 S18 _ _ _ hP hS hl h
  · subst er20
    replace h := tc_r h
    refine WX.widen (k := 1) (n := 7) (by omega) (by omega) ?_
    exact lea _ _ _ _ _ _ _ hP hS h

def bX12_either_4 (sk : Nat → Nat) (rc : Nat → XS → Option ((Unit ⊕ Nat) × XS)) (k4 : Nat → XS → Option ((Unit ⊕ Nat) × XS)) (x0 : Nat) (S : XS) : Option ((Unit ⊕ Nat) × XS) :=
chk (isC S x0 12) (bnd (fX12_takes x0 (124 : Int32) S) fun v4 S2 =>
(if v4 = 0 then
some (.inl (), S2)
else
chk (isC S2 x0 12) (tcl (fX12_both sk rc x0 S2) (fun _ S7 =>
bn1 (gR S7 x0 12 3) fun a13 =>
chk (isC S7 a13 13) (bn1 (fX13_add a13 (124 : Int32) (0 : Int32) S7) fun S15 =>
k4 x0 S15)) (fun x11 S7 =>
some (.inr x11, S7)))))
def lX12_either_4 (sk : Nat → Nat) (rc : Nat → XS → Option ((Unit ⊕ Nat) × XS)) : Nat → (Nat → XS → Option ((Unit ⊕ Nat) × XS))
  | 0 => fun _ _ => none
  | n + 1 => bX12_either_4 sk rc (lX12_either_4 sk rc n)
def fX12_either (sk : Nat → Nat) (rc : Nat → XS → Option ((Unit ⊕ Nat) × XS)) (x0 : Nat) (S : XS) : Option ((Unit ⊕ Nat) × XS) :=
chk (isC S x0 12) (tcl (fX12_both sk rc x0 S) (fun _ S18 =>
lX12_either_4 sk rc FU x0 S18) (fun x22 S18 =>
some (.inr x22, S18)))
set_option maxHeartbeats 4000000 in
set_option maxRecDepth 100000 in
theorem mX12_either {l : Launch} {D : va_G} {cA : Nat → ClassId} {A : Nat → Prop} (sk : Nat → Nat) (hsk : ∀ i, sk i = cA (10 + i)) (d : Nat) (rc : Nat → XS → Option ((Unit ⊕ Nat) × XS)) (hrc : ∀ (a0 : Nat) (S : XS) (out : ((Unit ⊕ Nat) × XS)), rc a0 S = some out → MetT l yX12_unit (ws_ yX12_unit cX12_unit 1 none) ({ frames := 6 * d + 6, cells := 1, slots := 7, locals := 123 * d + 163 } : Room) (gPc (xK D cA A) (xP D cA A) A [.ref a0] S) (gQT (xK D cA A) (xP D cA A) A tvV out) 1 7 A) (x0 : Nat) (S : XS) {out : ((Unit ⊕ Nat) × XS)} (h : fX12_either sk rc x0 S = some out) : MetT l yX12_either (ws_ yX12_either cX12_either 1 none) ({ frames := 6 * d + 11, cells := 1, slots := 7, locals := 123 * d + 266 } : Room) (gPc (xK D cA A) (xP D cA A) A [.ref x0] S) (gQT (xK D cA A) (xP D cA A) A tvV out) 1 7 A := by
  refine gMetT_v (by decide) (Nat.le_of_ble_eq_true rfl) ?_ xKst
  intro p e s m below meth c Q ls args H locs hC hP hS hl ret lea
  obtain ⟨hx, hb, hml, hown, hts, hA, hK⟩ := hC
  have hown : s.vm.findClass RX12 = some m.cls := hown
  have hl : lv_has ls 1 [(0, .ref x0)] := hl
  have L4 : ∀ (n4 : Nat) (x0 : Nat) (S : XS) (H : Heap) (locs : List Loc) (ls : Array Slot), xP D cA A S H → va_S A s.heap H locs → lv_has ls 1 [(0, .ref x0)] → lX12_either_4 sk rc n4 x0 S = some out → W p l e ({ frames := 6 * d + 11, cells := 1, slots := 7, locals := 123 * d + 266 } : Room) s m args below meth c H locs 0 0 Q (F0 m 4 ls []) := by
    intro n4
    induction n4 with
    | zero =>
      intro x0 S H locs ls hP hS hl h
      cases h
    | succ n4 ih4 =>
      intro x0 S H locs ls hP hS hl h
      replace h : bX12_either_4 sk rc (lX12_either_4 sk rc n4) x0 S = some out := h
      unfold bX12_either_4 at h
      refine lv_aload_n hx hb dX12_either_4 rfl (lv_at hl 0 rfl) ?_
      refine lv_bipush (v := (124 : Int32)) hx hb dX12_either_5 (by decide) ?_
      obtain ⟨g3, h⟩ := chk_some h
      obtain ⟨fg3, g3⟩ := isC_some g3
      obtain ⟨v4, S2, e1, h⟩ := bnd_some h
      refine gci (va_runV (As := [.int (124 : Int32)]) (rest := []) ⟨hx, hb, hml, hown, hts⟩ (mX12_takes (l := l) (D := D) (cA := cA) (A := A) x0 (124 : Int32) S e1) (cwV 1 hts (lw_V q767 q769 qs17 q99 q770) rfl rfl rfl (by decide +kernel) ⟨by dsimp only; omega, by dsimp only; omega⟩) (gPreV xKst hK hA hS hP (x_recv (q := (RX12, TX12, 6)) hK.1 hP rfl g3)) rfl rfl hl.1 rfl (lv_room (Nat.le_of_ble_eq_true rfl)) dX12_either_7 ⟨by first | omega | (dsimp only; omega), by first | omega | (dsimp only; omega)⟩) hS (fun H locs hP hS => ?_)
      refine lv_if_eq (tgt := 30) hx hb dX12_either_10 (by decide) (fun c5 => ?_) (fun c5 => ?_)
      · have h := ite_t c5 h
        exact ret _ _ _ _ _ dX12_either_30 hP hS h
      · have h := ite_f c5 h
        refine lv_aload_n hx hb dX12_either_13 rfl (lv_at hl 0 rfl) ?_
        obtain ⟨g8, h⟩ := chk_some h
        obtain ⟨fg8, g8⟩ := isC_some g8
        obtain ⟨r9, S7, e6, h⟩ := tcl_some h
        refine gcT (x_runVT (As := []) (rest := []) ⟨hx, hb, hml, hown, hts⟩ (mX12_both (l := l) (D := D) (cA := cA) (A := A) sk hsk d rc hrc x0 S2 e6) (cwV 0 hts (lw_V q665 q667 qs8 q99 q668) rfl rfl rfl (by decide +kernel) ⟨by dsimp only; omega, by dsimp only; omega⟩) (gPreV xKst hK hA hS hP (x_recv (q := (RX12, TX12, 6)) hK.1 hP rfl g8)) rfl rfl hl.1 rfl (lv_room (Nat.le_of_ble_eq_true rfl)) dX12_either_14 ⟨by first | omega | (dsimp only; omega), by first | omega | (dsimp only; omega)⟩) hS (fun v10 H locs er9 hP hS => ?_) (fun x11 H locs er9 hP hS => ?_)
        · subst er9
          replace h := tc_l h
          refine W.eq (g2 := F0 m 17 ls []) rfl ?_
          refine lv_aload_n hx hb dX12_either_17 rfl (lv_at hl 0 rfl) ?_
          obtain ⟨a13, e12, h⟩ := bn1_some h
          refine x_get (C := RX12) (T := TX12) (N := 6) (ci := 12) hx hb hts in_X12 hown hK.1 hP rfl 3 (by decide) (hts _ q641) (fun _ h9 => h9) (gR_some e12) dX12_either_18 ?_
          refine lv_bipush (v := (124 : Int32)) hx hb dX12_either_21 (by decide) ?_
          refine lv_iconst (v := (0 : Int32)) hx hb dX12_either_23 (by decide) ?_
          obtain ⟨g16, h⟩ := chk_some h
          obtain ⟨fg16, g16⟩ := isC_some g16
          obtain ⟨S15, e14, h⟩ := bn1_some h
          refine gc_v (va_runV (As := [.int (124 : Int32), .int (0 : Int32)]) (rest := []) ⟨hx, hb, hml, hown, hts⟩ (mX13_add (l := l) (D := D) (cA := cA) (A := A) a13 (124 : Int32) (0 : Int32) S7 e14) (cwV 2 hts (lw_V q763 q764 q765 q100 q766) rfl rfl rfl (by decide +kernel) ⟨by dsimp only; omega, by dsimp only; omega⟩) (gPreV xKst hK hA hS hP (x_recv (q := (RX13, TX13, 3)) hK.1 hP rfl g16)) rfl rfl hl.1 rfl (lv_room (Nat.le_of_ble_eq_true rfl)) dX12_either_24 ⟨by first | omega | (dsimp only; omega), by first | omega | (dsimp only; omega)⟩) hS (fun H locs hP hS => ?_)
          refine lv_goto (tgt := 4) hx hb dX12_either_27 (by decide) ?_
          exact ih4 x0 S15 _ _ _ hP hS hl h
        · subst er9
          replace h := tc_r h
          refine WX.widen (k := 1) (n := 7) (by omega) (by omega) ?_
          exact lea _ _ _ _ _ _ _ hP hS h
  unfold fX12_either at h
  refine lv_aload_n hx hb dX12_either_0 rfl (lv_at hl 0 rfl) ?_
  obtain ⟨g19, h⟩ := chk_some h
  obtain ⟨fg19, g19⟩ := isC_some g19
  obtain ⟨r20, S18, e17, h⟩ := tcl_some h
  refine gcT (x_runVT (As := []) (rest := []) ⟨hx, hb, hml, hown, hts⟩ (mX12_both (l := l) (D := D) (cA := cA) (A := A) sk hsk d rc hrc x0 S e17) (cwV 0 hts (lw_V q665 q667 qs8 q99 q668) rfl rfl rfl (by decide +kernel) ⟨by dsimp only; omega, by dsimp only; omega⟩) (gPreV xKst hK hA hS hP (x_recv (q := (RX12, TX12, 6)) hK.1 hP rfl g19)) rfl rfl hl.1 rfl (lv_room (Nat.le_of_ble_eq_true rfl)) dX12_either_1 ⟨by first | omega | (dsimp only; omega), by first | omega | (dsimp only; omega)⟩) hS (fun v21 H locs er20 hP hS => ?_) (fun x22 H locs er20 hP hS => ?_)
  · subst er20
    replace h := tc_l h
    refine W.eq (g2 := F0 m 4 ls []) rfl ?_
    exact L4 FU x0 S18 _ _ _ hP hS hl h
  · subst er20
    replace h := tc_r h
    refine WX.widen (k := 1) (n := 7) (by omega) (by omega) ?_
    exact lea _ _ _ _ _ _ _ hP hS h

def bX12_unit_138 (sk : Nat → Nat) (rc : Nat → XS → Option ((Unit ⊕ Nat) × XS)) (x0 : Nat) (S : XS) : Option ((Unit ⊕ Nat) × XS) :=
some (.inl (), S)
def gX12_unit (sk : Nat → Nat) (rc : Nat → XS → Option ((Unit ⊕ Nat) × XS)) (x0 : Nat) (S : XS) : Option ((Unit ⊕ Nat) × XS) :=
chk (isC S x0 12) (bnd (fX12_here x0 S) fun v4 S2 =>
(if v4 = (33 : Int32) then
chk (isC S2 x0 12) (tcl (fX12_opens x0 S2) (fun _ S74 =>
chk (isC S74 x0 12) (tcl (rc x0 S74) (fun _ S80 =>
bn1 (gR S80 x0 12 3) fun a86 =>
chk (isC S80 a86 13) (bn1 (fX13_add a86 (3 : Int32) (0 : Int32) S80) fun S88 =>
bn1 (gI S88 x0 12 5) fun v91 =>
nm (v91 - (1 : Int32)) fun y92 =>
bn1 (pF S88 x0 12 5 (.int y92)) fun S94 =>
bX12_unit_138 sk rc x0 S94)) (fun x84 S80 =>
some (.inr x84, S80)))) (fun x78 S74 =>
some (.inr x78, S74)))
else
chk (isC S2 x0 12) (bnd (fX12_here x0 S2) fun v9 S7 =>
(if v9 = (40 : Int32) then
chk (isC S7 x0 12) (tcl (fX12_opens x0 S7) (fun _ S48 =>
chk (isC S48 x0 12) (tcl (fX12_either sk rc x0 S48) (fun _ S54 =>
chk (isC S54 x0 12) (bnd (fX12_takes x0 (41 : Int32) S54) fun v62 S60 =>
(if v62 = 0 then
chk (isC S60 x0 12) (bnd (fX12_wrong x0 S60) fun a72 S70 =>
some (.inr a72, S70))
else
bn1 (gI S60 x0 12 5) fun v65 =>
nm (v65 - (1 : Int32)) fun y66 =>
bn1 (pF S60 x0 12 5 (.int y66)) fun S68 =>
bX12_unit_138 sk rc x0 S68))) (fun x58 S54 =>
some (.inr x58, S54)))) (fun x52 S48 =>
some (.inr x52, S48)))
else
bn1 (gR S7 x0 12 2) fun a12 =>
chk (isC S7 x0 12) (bnd (fX12_isOneOf sk x0 a12 S7) fun v16 S14 =>
(if v16 = 0 then
bn1 (gR S14 x0 12 3) fun a19 =>
chk (isC S14 x0 12) (tcl (fX12_number x0 S14) (fun v24 S21 =>
chk (isC S21 a19 13) (bn1 (fX13_add a19 (1 : Int32) v24 S21) fun S27 =>
bX12_unit_138 sk rc x0 S27)) (fun x25 S21 =>
some (.inr x25, S21)))
else
bn1 (gR S14 x0 12 3) fun a30 =>
bn1 (gR S14 x0 12 2) fun a32 =>
chk (isC S14 x0 12) (bnd (fX12_here x0 S14) fun v36 S34 =>
bn1 (sIx sk a32 v36) fun v37 =>
chk (isC S34 a30 13) (bn1 (fX13_add a30 (2 : Int32) v37 S34) fun S40 =>
bn1 (gI S40 x0 12 4) fun v43 =>
nm (v43 + (1 : Int32)) fun y44 =>
bn1 (pF S40 x0 12 4 (.int y44)) fun S46 =>
bX12_unit_138 sk rc x0 S46))))))))
def fX12_unit (sk : Nat → Nat) : Nat → (Nat → XS → Option ((Unit ⊕ Nat) × XS))
  | 0 => fun _ _ => none
  | d + 1 => gX12_unit sk (fX12_unit sk d)
set_option maxHeartbeats 4000000 in
set_option maxRecDepth 100000 in
theorem nX12_unit {l : Launch} {D : va_G} {cA : Nat → ClassId} {A : Nat → Prop} (sk : Nat → Nat) (hsk : ∀ i, sk i = cA (10 + i)) (d : Nat) (rc : Nat → XS → Option ((Unit ⊕ Nat) × XS)) (hrc : ∀ (a0 : Nat) (S : XS) (out : ((Unit ⊕ Nat) × XS)), rc a0 S = some out → MetT l yX12_unit (ws_ yX12_unit cX12_unit 1 none) ({ frames := 6 * d + 6, cells := 1, slots := 7, locals := 123 * d + 163 } : Room) (gPc (xK D cA A) (xP D cA A) A [.ref a0] S) (gQT (xK D cA A) (xP D cA A) A tvV out) 1 7 A) (x0 : Nat) (S : XS) {out : ((Unit ⊕ Nat) × XS)} (h : gX12_unit sk rc x0 S = some out) : MetT l yX12_unit (ws_ yX12_unit cX12_unit 1 none) ({ frames := 6 * (d + 1) + 6, cells := 1, slots := 7, locals := 123 * (d + 1) + 163 } : Room) (gPc (xK D cA A) (xP D cA A) A [.ref x0] S) (gQT (xK D cA A) (xP D cA A) A tvV out) 1 7 A := by
  refine gMetT_v (by decide) (Nat.le_of_ble_eq_true rfl) ?_ xKst
  intro p e s m below meth c Q ls args H locs hC hP hS hl ret lea
  obtain ⟨hx, hb, hml, hown, hts, hA, hK⟩ := hC
  have hown : s.vm.findClass RX12 = some m.cls := hown
  have hl : lv_has ls 1 [(0, .ref x0)] := hl
  have B138 : ∀ (x0 : Nat) (S : XS) (H : Heap) (locs : List Loc) (ls : Array Slot), xP D cA A S H → va_S A s.heap H locs → lv_has ls 1 [(0, .ref x0)] → bX12_unit_138 sk rc x0 S = some out → W p l e ({ frames := 6 * (d + 1) + 6, cells := 1, slots := 7, locals := 123 * (d + 1) + 163 } : Room) s m args below meth c H locs 0 0 Q (F0 m 138 ls []) := by
    intro x0 S H locs ls hP hS hl h
    unfold bX12_unit_138 at h
    exact ret _ _ _ _ _ dX12_unit_138 hP hS h
  unfold gX12_unit at h
  refine lv_aload_n hx hb dX12_unit_0 rfl (lv_at hl 0 rfl) ?_
  obtain ⟨g3, h⟩ := chk_some h
  obtain ⟨fg3, g3⟩ := isC_some g3
  obtain ⟨v4, S2, e1, h⟩ := bnd_some h
  refine gci (va_runV (As := []) (rest := []) ⟨hx, hb, hml, hown, hts⟩ (mX12_here (l := l) (D := D) (cA := cA) (A := A) x0 S e1) (cwV 0 hts (lw_V q685 q687 qs13 q99 q688) rfl rfl rfl (by decide +kernel) ⟨by dsimp only; omega, by dsimp only; omega⟩) (gPreV xKst hK hA hS hP (x_recv (q := (RX12, TX12, 6)) hK.1 hP rfl g3)) rfl rfl hl.1 rfl (lv_room (Nat.le_of_ble_eq_true rfl)) dX12_unit_1 ⟨by first | omega | (dsimp only; omega), by first | omega | (dsimp only; omega)⟩) hS (fun H locs hP hS => ?_)
  refine lv_bipush (v := (33 : Int32)) hx hb dX12_unit_4 (by decide) ?_
  refine lv_icmp_ne (tgt := 39) hx hb dX12_unit_6 (by decide) (fun c5 => ?_) (fun c5 => ?_)
  · have h := ite_f c5 h
    refine lv_aload_n hx hb dX12_unit_39 rfl (lv_at hl 0 rfl) ?_
    obtain ⟨g8, h⟩ := chk_some h
    obtain ⟨fg8, g8⟩ := isC_some g8
    obtain ⟨v9, S7, e6, h⟩ := bnd_some h
    refine gci (va_runV (As := []) (rest := []) ⟨hx, hb, hml, hown, hts⟩ (mX12_here (l := l) (D := D) (cA := cA) (A := A) x0 S2 e6) (cwV 0 hts (lw_V q685 q687 qs13 q99 q688) rfl rfl rfl (by decide +kernel) ⟨by dsimp only; omega, by dsimp only; omega⟩) (gPreV xKst hK hA hS hP (x_recv (q := (RX12, TX12, 6)) hK.1 hP rfl g8)) rfl rfl hl.1 rfl (lv_room (Nat.le_of_ble_eq_true rfl)) dX12_unit_40 ⟨by first | omega | (dsimp only; omega), by first | omega | (dsimp only; omega)⟩) hS (fun H locs hP hS => ?_)
    refine lv_bipush (v := (40 : Int32)) hx hb dX12_unit_43 (by decide) ?_
    refine lv_icmp_ne (tgt := 83) hx hb dX12_unit_45 (by decide) (fun c10 => ?_) (fun c10 => ?_)
    · have h := ite_f c10 h
      refine lv_aload_n hx hb dX12_unit_83 rfl (lv_at hl 0 rfl) ?_
      refine lv_aload_n hx hb dX12_unit_84 rfl (lv_at hl 0 rfl) ?_
      obtain ⟨a12, e11, h⟩ := bn1_some h
      refine x_get (C := RX12) (T := TX12) (N := 6) (ci := 12) hx hb hts in_X12 hown hK.1 hP rfl 2 (by decide) (hts _ q640) (fun _ h9 => h9) (gR_some e11) dX12_unit_85 ?_
      obtain ⟨g15, h⟩ := chk_some h
      obtain ⟨fg15, g15⟩ := isC_some g15
      obtain ⟨v16, S14, e13, h⟩ := bnd_some h
      refine gci (va_runV (As := [.ref a12]) (rest := []) ⟨hx, hb, hml, hown, hts⟩ (mX12_isOneOf (l := l) (D := D) (cA := cA) (A := A) sk hsk x0 a12 S7 e13) (cwV 1 hts (lw_V q771 q773 qs18 q99 q774) rfl rfl rfl (by decide +kernel) ⟨by dsimp only; omega, by dsimp only; omega⟩) (gPreV xKst hK hA hS hP (x_recv (q := (RX12, TX12, 6)) hK.1 hP rfl g15)) rfl rfl hl.1 rfl (lv_room (Nat.le_of_ble_eq_true rfl)) dX12_unit_88 ⟨by first | omega | (dsimp only; omega), by first | omega | (dsimp only; omega)⟩) hS (fun H locs hP hS => ?_)
      refine lv_if_eq (tgt := 126) hx hb dX12_unit_91 (by decide) (fun c17 => ?_) (fun c17 => ?_)
      · have h := ite_t c17 h
        refine lv_aload_n hx hb dX12_unit_126 rfl (lv_at hl 0 rfl) ?_
        obtain ⟨a19, e18, h⟩ := bn1_some h
        refine x_get (C := RX12) (T := TX12) (N := 6) (ci := 12) hx hb hts in_X12 hown hK.1 hP rfl 3 (by decide) (hts _ q641) (fun _ h9 => h9) (gR_some e18) dX12_unit_127 ?_
        refine lv_iconst (v := (1 : Int32)) hx hb dX12_unit_130 (by decide) ?_
        refine lv_aload_n hx hb dX12_unit_131 rfl (lv_at hl 0 rfl) ?_
        obtain ⟨g22, h⟩ := chk_some h
        obtain ⟨fg22, g22⟩ := isC_some g22
        obtain ⟨r23, S21, e20, h⟩ := tcl_some h
        refine gcT (x_runVT (As := []) (rest := [.int (1 : Int32), .ref a19]) ⟨hx, hb, hml, hown, hts⟩ (mX12_number (l := l) (D := D) (cA := cA) (A := A) x0 S14 e20) (cwV 0 hts (lw_V q857 q859 qs19 q99 q860) rfl rfl rfl (by decide +kernel) ⟨by dsimp only; omega, by dsimp only; omega⟩) (gPreV xKst hK hA hS hP (x_recv (q := (RX12, TX12, 6)) hK.1 hP rfl g22)) rfl rfl hl.1 rfl (lv_room (Nat.le_of_ble_eq_true rfl)) dX12_unit_132 ⟨by first | omega | (dsimp only; omega), by first | omega | (dsimp only; omega)⟩) hS (fun v24 H locs er23 hP hS => ?_) (fun x25 H locs er23 hP hS => ?_)
        · subst er23
          replace h := tc_l h
          refine W.eq (g2 := F0 m 135 ls [.int v24, .int (1 : Int32), .ref a19]) rfl ?_
          obtain ⟨g28, h⟩ := chk_some h
          obtain ⟨fg28, g28⟩ := isC_some g28
          obtain ⟨S27, e26, h⟩ := bn1_some h
          refine gc_v (va_runV (As := [.int (1 : Int32), .int v24]) (rest := []) ⟨hx, hb, hml, hown, hts⟩ (mX13_add (l := l) (D := D) (cA := cA) (A := A) a19 (1 : Int32) v24 S21 e26) (cwV 2 hts (lw_V q763 q764 q765 q100 q766) rfl rfl rfl (by decide +kernel) ⟨by dsimp only; omega, by dsimp only; omega⟩) (gPreV xKst hK hA hS hP (x_recv (q := (RX13, TX13, 3)) hK.1 hP rfl g28)) rfl rfl hl.1 rfl (lv_room (Nat.le_of_ble_eq_true rfl)) dX12_unit_135 ⟨by first | omega | (dsimp only; omega), by first | omega | (dsimp only; omega)⟩) hS (fun H locs hP hS => ?_)
          exact B138 x0 S27 _ _ _ hP hS hl h
        · subst er23
          replace h := tc_r h
          refine WX.widen (k := 1) (n := 7) (by omega) (by omega) ?_
          exact lea _ _ _ _ _ _ _ hP hS h
      · have h := ite_f c17 h
        refine lv_aload_n hx hb dX12_unit_94 rfl (lv_at hl 0 rfl) ?_
        obtain ⟨a30, e29, h⟩ := bn1_some h
        refine x_get (C := RX12) (T := TX12) (N := 6) (ci := 12) hx hb hts in_X12 hown hK.1 hP rfl 3 (by decide) (hts _ q641) (fun _ h9 => h9) (gR_some e29) dX12_unit_95 ?_
        refine lv_iconst (v := (2 : Int32)) hx hb dX12_unit_98 (by decide) ?_
        refine lv_aload_n hx hb dX12_unit_99 rfl (lv_at hl 0 rfl) ?_
        obtain ⟨a32, e31, h⟩ := bn1_some h
        refine x_get (C := RX12) (T := TX12) (N := 6) (ci := 12) hx hb hts in_X12 hown hK.1 hP rfl 2 (by decide) (hts _ q640) (fun _ h9 => h9) (gR_some e31) dX12_unit_100 ?_
        refine lv_aload_n hx hb dX12_unit_103 rfl (lv_at hl 0 rfl) ?_
        obtain ⟨g35, h⟩ := chk_some h
        obtain ⟨fg35, g35⟩ := isC_some g35
        obtain ⟨v36, S34, e33, h⟩ := bnd_some h
        refine gci (va_runV (As := []) (rest := [.ref a32, .int (2 : Int32), .ref a30]) ⟨hx, hb, hml, hown, hts⟩ (mX12_here (l := l) (D := D) (cA := cA) (A := A) x0 S14 e33) (cwV 0 hts (lw_V q685 q687 qs13 q99 q688) rfl rfl rfl (by decide +kernel) ⟨by dsimp only; omega, by dsimp only; omega⟩) (gPreV xKst hK hA hS hP (x_recv (q := (RX12, TX12, 6)) hK.1 hP rfl g35)) rfl rfl hl.1 rfl (lv_room (Nat.le_of_ble_eq_true rfl)) dX12_unit_104 ⟨by first | omega | (dsimp only; omega), by first | omega | (dsimp only; omega)⟩) hS (fun H locs hP hS => ?_)
        obtain ⟨v37, e38, h⟩ := bn1_some h
        refine x_indexOf ⟨hx, hb, hml, hown, hts⟩ q775 hK hA hP hS hsk e38 hl.1 (lv_room (Nat.le_of_ble_eq_true rfl)) ⟨by dsimp only; omega, by dsimp only; omega⟩ ⟨by first | exact Nat.zero_le _ | (dsimp only; omega), by first | exact Nat.zero_le _ | (dsimp only; omega)⟩ dX12_unit_107 (fun H locs hP hS => ?_)
        obtain ⟨g41, h⟩ := chk_some h
        obtain ⟨fg41, g41⟩ := isC_some g41
        obtain ⟨S40, e39, h⟩ := bn1_some h
        refine gc_v (va_runV (As := [.int (2 : Int32), .int v37]) (rest := []) ⟨hx, hb, hml, hown, hts⟩ (mX13_add (l := l) (D := D) (cA := cA) (A := A) a30 (2 : Int32) v37 S34 e39) (cwV 2 hts (lw_V q763 q764 q765 q100 q766) rfl rfl rfl (by decide +kernel) ⟨by dsimp only; omega, by dsimp only; omega⟩) (gPreV xKst hK hA hS hP (x_recv (q := (RX13, TX13, 3)) hK.1 hP rfl g41)) rfl rfl hl.1 rfl (lv_room (Nat.le_of_ble_eq_true rfl)) dX12_unit_110 ⟨by first | omega | (dsimp only; omega), by first | omega | (dsimp only; omega)⟩) hS (fun H locs hP hS => ?_)
        refine lv_aload_n hx hb dX12_unit_113 rfl (lv_at hl 0 rfl) ?_
        refine lv_dup hx hb dX12_unit_114 rfl ?_
        obtain ⟨v43, e42, h⟩ := bn1_some h
        refine x_get (C := RX12) (T := TX12) (N := 6) (ci := 12) hx hb hts in_X12 hown hK.1 hP rfl 4 (by decide) (hts _ q642) (fun _ h9 => h9) (gI_some e42) dX12_unit_115 ?_
        refine lv_iconst (v := (1 : Int32)) hx hb dX12_unit_118 (by decide) ?_
        refine lv_iadd hx hb dX12_unit_119 ?_
        refine lv_topi (fun y44 ey44 => ?_)
        have h := nm_at ey44 h
        obtain ⟨S46, e45, h⟩ := bn1_some h
        refine x_put (v := .int y44) (ty := .int) (C := RX12) (T := TX12) (N := 6) (ci := 12) hx hb hts in_X12 tyX12 tyX12_ok nmX12 hown hK.1 hP hS rfl 4 (by decide) (hts _ q642) (fun _ h9 => h9) rfl (by decide +kernel) rfl rfl e45 dX12_unit_120 (fun H locs hP hS => ?_)
        refine lv_goto (tgt := 138) hx hb dX12_unit_123 (by decide) ?_
        exact B138 x0 S46 _ _ _ hP hS hl h
    · have h := ite_t c10 h
      refine lv_aload_n hx hb dX12_unit_48 rfl (lv_at hl 0 rfl) ?_
      obtain ⟨g49, h⟩ := chk_some h
      obtain ⟨fg49, g49⟩ := isC_some g49
      obtain ⟨r50, S48, e47, h⟩ := tcl_some h
      refine gcT (x_runVT (As := []) (rest := []) ⟨hx, hb, hml, hown, hts⟩ (mX12_opens (l := l) (D := D) (cA := cA) (A := A) x0 S7 e47) (cwV 0 hts (lw_V q689 q691 qs14 q99 q692) rfl rfl rfl (by decide +kernel) ⟨by dsimp only; omega, by dsimp only; omega⟩) (gPreV xKst hK hA hS hP (x_recv (q := (RX12, TX12, 6)) hK.1 hP rfl g49)) rfl rfl hl.1 rfl (lv_room (Nat.le_of_ble_eq_true rfl)) dX12_unit_49 ⟨by first | omega | (dsimp only; omega), by first | omega | (dsimp only; omega)⟩) hS (fun v51 H locs er50 hP hS => ?_) (fun x52 H locs er50 hP hS => ?_)
      · subst er50
        replace h := tc_l h
        refine W.eq (g2 := F0 m 52 ls []) rfl ?_
        refine lv_aload_n hx hb dX12_unit_52 rfl (lv_at hl 0 rfl) ?_
        obtain ⟨g55, h⟩ := chk_some h
        obtain ⟨fg55, g55⟩ := isC_some g55
        obtain ⟨r56, S54, e53, h⟩ := tcl_some h
        refine gcT (x_runVT (As := []) (rest := []) ⟨hx, hb, hml, hown, hts⟩ (mX12_either (l := l) (D := D) (cA := cA) (A := A) sk hsk d rc hrc x0 S48 e53) (cwV 0 hts (lw_V q661 q663 qs7 q99 q664) rfl rfl rfl (by decide +kernel) ⟨by dsimp only; omega, by dsimp only; omega⟩) (gPreV xKst hK hA hS hP (x_recv (q := (RX12, TX12, 6)) hK.1 hP rfl g55)) rfl rfl hl.1 rfl (lv_room (Nat.le_of_ble_eq_true rfl)) dX12_unit_53 ⟨by first | omega | (dsimp only; omega), by first | omega | (dsimp only; omega)⟩) hS (fun v57 H locs er56 hP hS => ?_) (fun x58 H locs er56 hP hS => ?_)
        · subst er56
          replace h := tc_l h
          refine W.eq (g2 := F0 m 56 ls []) rfl ?_
          refine lv_aload_n hx hb dX12_unit_56 rfl (lv_at hl 0 rfl) ?_
          refine lv_bipush (v := (41 : Int32)) hx hb dX12_unit_57 (by decide) ?_
          obtain ⟨g61, h⟩ := chk_some h
          obtain ⟨fg61, g61⟩ := isC_some g61
          obtain ⟨v62, S60, e59, h⟩ := bnd_some h
          refine gci (va_runV (As := [.int (41 : Int32)]) (rest := []) ⟨hx, hb, hml, hown, hts⟩ (mX12_takes (l := l) (D := D) (cA := cA) (A := A) x0 (41 : Int32) S54 e59) (cwV 1 hts (lw_V q767 q769 qs17 q99 q770) rfl rfl rfl (by decide +kernel) ⟨by dsimp only; omega, by dsimp only; omega⟩) (gPreV xKst hK hA hS hP (x_recv (q := (RX12, TX12, 6)) hK.1 hP rfl g61)) rfl rfl hl.1 rfl (lv_room (Nat.le_of_ble_eq_true rfl)) dX12_unit_59 ⟨by first | omega | (dsimp only; omega), by first | omega | (dsimp only; omega)⟩) hS (fun H locs hP hS => ?_)
          refine lv_if_ne (tgt := 70) hx hb dX12_unit_62 (by decide) (fun c63 => ?_) (fun c63 => ?_)
          · have h := ite_f c63 h
            refine lv_aload_n hx hb dX12_unit_70 rfl (lv_at hl 0 rfl) ?_
            refine lv_dup hx hb dX12_unit_71 rfl ?_
            obtain ⟨v65, e64, h⟩ := bn1_some h
            refine x_get (C := RX12) (T := TX12) (N := 6) (ci := 12) hx hb hts in_X12 hown hK.1 hP rfl 5 (by decide) (hts _ q643) (fun _ h9 => h9) (gI_some e64) dX12_unit_72 ?_
            refine lv_iconst (v := (1 : Int32)) hx hb dX12_unit_75 (by decide) ?_
            refine lv_isub hx hb dX12_unit_76 ?_
            refine lv_topi (fun y66 ey66 => ?_)
            have h := nm_at ey66 h
            obtain ⟨S68, e67, h⟩ := bn1_some h
            refine x_put (v := .int y66) (ty := .int) (C := RX12) (T := TX12) (N := 6) (ci := 12) hx hb hts in_X12 tyX12 tyX12_ok nmX12 hown hK.1 hP hS rfl 5 (by decide) (hts _ q643) (fun _ h9 => h9) rfl (by decide +kernel) rfl rfl e67 dX12_unit_77 (fun H locs hP hS => ?_)
            refine lv_goto (tgt := 138) hx hb dX12_unit_80 (by decide) ?_
            exact B138 x0 S68 _ _ _ hP hS hl h
          · have h := ite_t c63 h
            refine lv_aload_n hx hb dX12_unit_65 rfl (lv_at hl 0 rfl) ?_
            obtain ⟨g71, h⟩ := chk_some h
            obtain ⟨fg71, g71⟩ := isC_some g71
            obtain ⟨a72, S70, e69, h⟩ := bnd_some h
            refine gcr (va_runV (As := []) (rest := []) ⟨hx, hb, hml, hown, hts⟩ (mX12_wrong (l := l) (D := D) (cA := cA) (A := A) x0 S60 e69) (cwV 0 hts (lw_V q693 q695 qs15 q99 q696) rfl rfl rfl (by decide +kernel) ⟨by dsimp only; omega, by dsimp only; omega⟩) (gPreV xKst hK hA hS hP (x_recv (q := (RX12, TX12, 6)) hK.1 hP rfl g71)) rfl rfl hl.1 rfl (lv_room (Nat.le_of_ble_eq_true rfl)) dX12_unit_66 ⟨by first | omega | (dsimp only; omega), by first | omega | (dsimp only; omega)⟩) hS (fun H locs hP hS => ?_)
            refine W.athrow hx hb dX12_unit_69 ?_
            refine WX.widen (k := 1) (n := 7) (by omega) (by omega) ?_
            exact lea _ _ _ _ _ _ _ hP hS h
        · subst er56
          replace h := tc_r h
          refine WX.widen (k := 1) (n := 7) (by omega) (by omega) ?_
          exact lea _ _ _ _ _ _ _ hP hS h
      · subst er50
        replace h := tc_r h
        refine WX.widen (k := 1) (n := 7) (by omega) (by omega) ?_
        exact lea _ _ _ _ _ _ _ hP hS h
  · have h := ite_t c5 h
    refine lv_aload_n hx hb dX12_unit_9 rfl (lv_at hl 0 rfl) ?_
    obtain ⟨g75, h⟩ := chk_some h
    obtain ⟨fg75, g75⟩ := isC_some g75
    obtain ⟨r76, S74, e73, h⟩ := tcl_some h
    refine gcT (x_runVT (As := []) (rest := []) ⟨hx, hb, hml, hown, hts⟩ (mX12_opens (l := l) (D := D) (cA := cA) (A := A) x0 S2 e73) (cwV 0 hts (lw_V q689 q691 qs14 q99 q692) rfl rfl rfl (by decide +kernel) ⟨by dsimp only; omega, by dsimp only; omega⟩) (gPreV xKst hK hA hS hP (x_recv (q := (RX12, TX12, 6)) hK.1 hP rfl g75)) rfl rfl hl.1 rfl (lv_room (Nat.le_of_ble_eq_true rfl)) dX12_unit_10 ⟨by first | omega | (dsimp only; omega), by first | omega | (dsimp only; omega)⟩) hS (fun v77 H locs er76 hP hS => ?_) (fun x78 H locs er76 hP hS => ?_)
    · subst er76
      replace h := tc_l h
      refine W.eq (g2 := F0 m 13 ls []) rfl ?_
      refine lv_aload_n hx hb dX12_unit_13 rfl (lv_at hl 0 rfl) ?_
      obtain ⟨g81, h⟩ := chk_some h
      obtain ⟨fg81, g81⟩ := isC_some g81
      obtain ⟨r82, S80, e79, h⟩ := tcl_some h
      refine gcT (x_runVT (As := []) (rest := []) ⟨hx, hb, hml, hown, hts⟩ (hrc x0 S74 _ e79) (cwV 0 hts (lw_V q681 q683 qs12 q99 q684) rfl rfl rfl (by decide +kernel) ⟨by dsimp only; omega, by dsimp only; omega⟩) (gPreV xKst hK hA hS hP (x_recv (q := (RX12, TX12, 6)) hK.1 hP rfl g81)) rfl rfl hl.1 rfl (lv_room (Nat.le_of_ble_eq_true rfl)) dX12_unit_14 ⟨by first | omega | (dsimp only; omega), by first | omega | (dsimp only; omega)⟩) hS (fun v83 H locs er82 hP hS => ?_) (fun x84 H locs er82 hP hS => ?_)
      · subst er82
        replace h := tc_l h
        refine W.eq (g2 := F0 m 17 ls []) rfl ?_
        refine lv_aload_n hx hb dX12_unit_17 rfl (lv_at hl 0 rfl) ?_
        obtain ⟨a86, e85, h⟩ := bn1_some h
        refine x_get (C := RX12) (T := TX12) (N := 6) (ci := 12) hx hb hts in_X12 hown hK.1 hP rfl 3 (by decide) (hts _ q641) (fun _ h9 => h9) (gR_some e85) dX12_unit_18 ?_
        refine lv_iconst (v := (3 : Int32)) hx hb dX12_unit_21 (by decide) ?_
        refine lv_iconst (v := (0 : Int32)) hx hb dX12_unit_22 (by decide) ?_
        obtain ⟨g89, h⟩ := chk_some h
        obtain ⟨fg89, g89⟩ := isC_some g89
        obtain ⟨S88, e87, h⟩ := bn1_some h
        refine gc_v (va_runV (As := [.int (3 : Int32), .int (0 : Int32)]) (rest := []) ⟨hx, hb, hml, hown, hts⟩ (mX13_add (l := l) (D := D) (cA := cA) (A := A) a86 (3 : Int32) (0 : Int32) S80 e87) (cwV 2 hts (lw_V q763 q764 q765 q100 q766) rfl rfl rfl (by decide +kernel) ⟨by dsimp only; omega, by dsimp only; omega⟩) (gPreV xKst hK hA hS hP (x_recv (q := (RX13, TX13, 3)) hK.1 hP rfl g89)) rfl rfl hl.1 rfl (lv_room (Nat.le_of_ble_eq_true rfl)) dX12_unit_23 ⟨by first | omega | (dsimp only; omega), by first | omega | (dsimp only; omega)⟩) hS (fun H locs hP hS => ?_)
        refine lv_aload_n hx hb dX12_unit_26 rfl (lv_at hl 0 rfl) ?_
        refine lv_dup hx hb dX12_unit_27 rfl ?_
        obtain ⟨v91, e90, h⟩ := bn1_some h
        refine x_get (C := RX12) (T := TX12) (N := 6) (ci := 12) hx hb hts in_X12 hown hK.1 hP rfl 5 (by decide) (hts _ q643) (fun _ h9 => h9) (gI_some e90) dX12_unit_28 ?_
        refine lv_iconst (v := (1 : Int32)) hx hb dX12_unit_31 (by decide) ?_
        refine lv_isub hx hb dX12_unit_32 ?_
        refine lv_topi (fun y92 ey92 => ?_)
        have h := nm_at ey92 h
        obtain ⟨S94, e93, h⟩ := bn1_some h
        refine x_put (v := .int y92) (ty := .int) (C := RX12) (T := TX12) (N := 6) (ci := 12) hx hb hts in_X12 tyX12 tyX12_ok nmX12 hown hK.1 hP hS rfl 5 (by decide) (hts _ q643) (fun _ h9 => h9) rfl (by decide +kernel) rfl rfl e93 dX12_unit_33 (fun H locs hP hS => ?_)
        refine lv_goto (tgt := 138) hx hb dX12_unit_36 (by decide) ?_
        exact B138 x0 S94 _ _ _ hP hS hl h
      · subst er82
        replace h := tc_r h
        refine WX.widen (k := 1) (n := 7) (by omega) (by omega) ?_
        exact lea _ _ _ _ _ _ _ hP hS h
    · subst er76
      replace h := tc_r h
      refine WX.widen (k := 1) (n := 7) (by omega) (by omega) ?_
      exact lea _ _ _ _ _ _ _ hP hS h
theorem oX12_unit {l : Launch} {D : va_G} {cA : Nat → ClassId} {A : Nat → Prop} (sk : Nat → Nat) (hsk : ∀ i, sk i = cA (10 + i)) (d : Nat) : ∀ (a0 : Nat) (S : XS) (out : ((Unit ⊕ Nat) × XS)), fX12_unit sk d a0 S = some out → MetT l yX12_unit (ws_ yX12_unit cX12_unit 1 none) ({ frames := 6 * d + 6, cells := 1, slots := 7, locals := 123 * d + 163 } : Room) (gPc (xK D cA A) (xP D cA A) A [.ref a0] S) (gQT (xK D cA A) (xP D cA A) A tvV out) 1 7 A := by
  induction d with
  | zero => intro a0 S out h; cases h
  | succ d ih => intro a0 S out h; exact nX12_unit sk hsk d _ ih a0 S h
theorem mX12_unit {l : Launch} {D : va_G} {cA : Nat → ClassId} {A : Nat → Prop} (sk : Nat → Nat) (hsk : ∀ i, sk i = cA (10 + i)) (d : Nat) (a0 : Nat) (S : XS) {out : ((Unit ⊕ Nat) × XS)} (h : fX12_unit sk d a0 S = some out) : MetT l yX12_unit (ws_ yX12_unit cX12_unit 1 none) ({ frames := 6 * d + 6, cells := 1, slots := 7, locals := 123 * d + 163 } : Room) (gPc (xK D cA A) (xP D cA A) A [.ref a0] S) (gQT (xK D cA A) (xP D cA A) A tvV out) 1 7 A := oX12_unit sk hsk d a0 S out h

def fX12_read (sk : Nat → Nat) (x0 : Nat) (S : XS) : Option ((Nat ⊕ Nat) × XS) :=
chk (isC S x0 12) (tcl (fX12_either sk (fX12_unit sk DEP) x0 S) (fun _ S2 =>
bn1 (gI S2 x0 12 4) fun v8 =>
bn1 (gI S2 x0 12 1) fun v10 =>
(if v10 ≤ v8 then
bn1 (gR S2 x0 12 3) fun a13 =>
some (.inl a13, S2)
else
chk (isC S2 x0 12) (bnd (fX12_wrong x0 S2) fun a17 S15 =>
some (.inr a17, S15)))) (fun x6 S2 =>
some (.inr x6, S2)))
set_option maxHeartbeats 4000000 in
set_option maxRecDepth 100000 in
theorem mX12_read {l : Launch} {D : va_G} {cA : Nat → ClassId} {A : Nat → Prop} (sk : Nat → Nat) (hsk : ∀ i, sk i = cA (10 + i)) (x0 : Nat) (S : XS) {out : ((Nat ⊕ Nat) × XS)} (h : fX12_read sk x0 S = some out) : MetT l yX12_read (ws_ yX12_read cX12_read 1 (some (.object "PictureBlock$Text"))) ({ frames := 60, cells := 1, slots := 7, locals := 1270 } : Room) (gPc (xK D cA A) (xP D cA A) A [.ref x0] S) (gQT (xK D cA A) (xP D cA A) A tvR out) 1 7 A := by
  refine gMetT_r (Or.inl ⟨_, rfl⟩) (by decide) (Nat.le_of_ble_eq_true rfl) ?_ xKst
  intro p e s m below meth c Q ls args H locs hC hP hS hl ret lea
  obtain ⟨hx, hb, hml, hown, hts, hA, hK⟩ := hC
  have hown : s.vm.findClass RX12 = some m.cls := hown
  have hl : lv_has ls 1 [(0, .ref x0)] := hl
  unfold fX12_read at h
  refine lv_aload_n hx hb dX12_read_0 rfl (lv_at hl 0 rfl) ?_
  obtain ⟨g3, h⟩ := chk_some h
  obtain ⟨fg3, g3⟩ := isC_some g3
  obtain ⟨r4, S2, e1, h⟩ := tcl_some h
  refine gcT (x_runVT (As := []) (rest := []) ⟨hx, hb, hml, hown, hts⟩ (mX12_either (l := l) (D := D) (cA := cA) (A := A) sk hsk DEP (fX12_unit sk DEP) (fun a0 S out h => mX12_unit sk hsk DEP a0 S h) x0 S e1) (cwV 0 hts (lw_V q661 q663 qs7 q99 q664) rfl rfl rfl (by decide +kernel) ⟨Nat.le_of_ble_eq_true rfl, Nat.le_of_ble_eq_true rfl⟩) (gPreV xKst hK hA hS hP (x_recv (q := (RX12, TX12, 6)) hK.1 hP rfl g3)) rfl rfl hl.1 rfl (lv_room (Nat.le_of_ble_eq_true rfl)) dX12_read_1 ⟨by first | omega | (dsimp only; omega), by first | omega | (dsimp only; omega)⟩) hS (fun v5 H locs er4 hP hS => ?_) (fun x6 H locs er4 hP hS => ?_)
  · subst er4
    replace h := tc_l h
    refine W.eq (g2 := F0 m 4 ls []) rfl ?_
    refine lv_aload_n hx hb dX12_read_4 rfl (lv_at hl 0 rfl) ?_
    obtain ⟨v8, e7, h⟩ := bn1_some h
    refine x_get (C := RX12) (T := TX12) (N := 6) (ci := 12) hx hb hts in_X12 hown hK.1 hP rfl 4 (by decide) (hts _ q642) (fun _ h9 => h9) (gI_some e7) dX12_read_5 ?_
    refine lv_aload_n hx hb dX12_read_8 rfl (lv_at hl 0 rfl) ?_
    obtain ⟨v10, e9, h⟩ := bn1_some h
    refine x_get (C := RX12) (T := TX12) (N := 6) (ci := 12) hx hb hts in_X12 hown hK.1 hP rfl 1 (by decide) (hts _ q639) (fun _ h9 => h9) (gI_some e9) dX12_read_9 ?_
    refine lv_icmp_ge (tgt := 20) hx hb dX12_read_12 (by decide) (fun c11 => ?_) (fun c11 => ?_)
    · have h := ite_t c11 h
      refine lv_aload_n hx hb dX12_read_20 rfl (lv_at hl 0 rfl) ?_
      obtain ⟨a13, e12, h⟩ := bn1_some h
      refine x_get (C := RX12) (T := TX12) (N := 6) (ci := 12) hx hb hts in_X12 hown hK.1 hP rfl 3 (by decide) (hts _ q641) (fun _ h9 => h9) (gR_some e12) dX12_read_21 ?_
      exact ret _ _ _ _ _ _ dX12_read_24 hP hS h
    · have h := ite_f c11 h
      refine lv_aload_n hx hb dX12_read_15 rfl (lv_at hl 0 rfl) ?_
      obtain ⟨g16, h⟩ := chk_some h
      obtain ⟨fg16, g16⟩ := isC_some g16
      obtain ⟨a17, S15, e14, h⟩ := bnd_some h
      refine gcr (va_runV (As := []) (rest := []) ⟨hx, hb, hml, hown, hts⟩ (mX12_wrong (l := l) (D := D) (cA := cA) (A := A) x0 S2 e14) (cwV 0 hts (lw_V q693 q695 qs15 q99 q696) rfl rfl rfl (by decide +kernel) ⟨Nat.le_of_ble_eq_true rfl, Nat.le_of_ble_eq_true rfl⟩) (gPreV xKst hK hA hS hP (x_recv (q := (RX12, TX12, 6)) hK.1 hP rfl g16)) rfl rfl hl.1 rfl (lv_room (Nat.le_of_ble_eq_true rfl)) dX12_read_16 ⟨by first | omega | (dsimp only; omega), by first | omega | (dsimp only; omega)⟩) hS (fun H locs hP hS => ?_)
      refine W.athrow hx hb dX12_read_19 ?_
      refine WX.widen (k := 1) (n := 7) (by omega) (by omega) ?_
      exact lea _ _ _ _ _ _ _ hP hS h
  · subst er4
    replace h := tc_r h
    refine WX.widen (k := 1) (n := 7) (by omega) (by omega) ?_
    exact lea _ _ _ _ _ _ _ hP hS h

def bX0_namesOf_11 (sk : Nat → Nat) (t0 : Nat) (S : XS) : Option (Nat × XS) :=
some (t0, S)
def fX0_namesOf (sk : Nat → Nat) (x0 : Int32) (S : XS) : Option (Nat × XS) :=
(if x0 = 0 then
bX0_namesOf_11 sk (sk 0) S
else
bX0_namesOf_11 sk (sk 1) S)
set_option maxHeartbeats 4000000 in
set_option maxRecDepth 100000 in
theorem mX0_namesOf {l : Launch} {D : va_G} {cA : Nat → ClassId} {A : Nat → Prop} (sk : Nat → Nat) (hsk : ∀ i, sk i = cA (10 + i)) (x0 : Int32) (S : XS) {out : (Nat × XS)} (h : fX0_namesOf sk x0 S = some out) : Met l yX0_namesOf (ws_ yX0_namesOf cX0_namesOf 1 (some (.object "java/lang/String"))) ({ frames := 0, cells := 0, slots := 0, locals := 0 } : Room) (gPc (xK D cA A) (xP D cA A) A [.int x0] S) (gQr (xK D cA A) (xP D cA A) A out) 0 0 A := by
  refine gMet_r (Or.inl ⟨_, rfl⟩) (by decide) (Nat.le_of_ble_eq_true rfl) ?_ xKst
  intro p e s m below meth c Q ls args H locs hC hP hS hl ret
  obtain ⟨hx, hb, hml, hown, hts, hA, hK⟩ := hC
  have hown : s.vm.findClass RX0 = some m.cls := hown
  have hl : lv_has ls 1 [(0, .int x0)] := hl
  have B11 : ∀ (t0 : Nat) (S : XS) (H : Heap) (locs : List Loc) (ls : Array Slot), xP D cA A S H → va_S A s.heap H locs → lv_has ls 1 [] → bX0_namesOf_11 sk t0 S = some out → W p l e ({ frames := 0, cells := 0, slots := 0, locals := 0 } : Room) s m args below meth c H locs 0 0 Q (F0 m 11 ls [.ref t0]) := by
    intro t0 S H locs ls hP hS hl h
    unfold bX0_namesOf_11 at h
    exact ret _ _ _ _ _ _ dX0_namesOf_11 hP hS h
  unfold fX0_namesOf at h
  refine lv_iload_n hx hb dX0_namesOf_0 rfl (lv_at hl 0 rfl) ?_
  refine lv_if_ne (tgt := 9) hx hb dX0_namesOf_1 (by decide) (fun c1 => ?_) (fun c1 => ?_)
  · have h := ite_f c1 h
    refine va_ldcS (q := sk 1) hx hb hown (by rw [hsk]; exact hK.2.2.2.2.2.2.2.1.2.2.1) dX0_namesOf_9 ?_
    exact B11 (sk 1) S _ _ _ hP hS (lv_sub hl [] rfl) h
  · have h := ite_t c1 h
    refine va_ldcS (q := sk 0) hx hb hown (by rw [hsk]; exact hK.2.2.2.2.2.2.2.1.2.1) dX0_namesOf_4 ?_
    refine lv_goto (tgt := 11) hx hb dX0_namesOf_6 (by decide) ?_
    exact B11 (sk 0) S _ _ _ hP hS (lv_sub hl [] rfl) h

def fX0_text (sk : Nat → Nat) (x0 : Nat) (x1 : Int32) (S : XS) : Option (Int32 × XS) :=
bnd (fX0_isUse x1 S) fun v3 S2 =>
(if v3 = 0 then
chk (isC S2 x0 0) (bnd (fX0_finds x0 (1 : Int32) S2) fun v47 S45 =>
some (v47, S45))
else
nm (xnew S2 (aeO 12 [.null, .int 0, .null, .null, .int 0, .int 0])) fun S5 =>
bn1 (gR S5 x0 0 2) fun a7 =>
bn1 (gR S5 a7 1 14) fun a9 =>
bn1 (gR S5 x0 0 2) fun a11 =>
bn1 (gI S5 a11 1 6) fun v13 =>
bnd (fX0_namesOf sk x1 S5) fun a16 S15 =>
bn1 (fX12_init (S2.2) a9 v13 a16 S15) fun S18 =>
bn1 (gR S18 x0 0 2) fun a20 =>
bn1 (gR S18 a20 1 13) fun a22 =>
chk (isC S18 (S2.2) 12) (tcl (fX12_read sk (S2.2) S18) (fun v27 S24 =>
chk (isC S24 v27 13) (bn1 (sQ S24 a22 5 x1 (some v27)) fun S30 =>
bn1 (gR S30 x0 0 2) fun a32 =>
bn1 (pF S30 a32 1 6 (.int (0 : Int32))) fun S34 =>
some ((1 : Int32), S34))) (fun x28 S24 =>
chk (isC S24 x28 14) (bn1 (gI S24 x28 14 6) fun v38 =>
nm ((-10 : Int32) - v38) fun y39 =>
bn1 (gR S24 x0 0 2) fun a41 =>
bn1 (pF S24 a41 1 6 (.int (0 : Int32))) fun S43 =>
some (y39, S43)))))
set_option maxHeartbeats 4000000 in
set_option maxRecDepth 100000 in
theorem mX0_text {l : Launch} {D : va_G} {cA : Nat → ClassId} {A : Nat → Prop} (sk : Nat → Nat) (hsk : ∀ i, sk i = cA (10 + i)) (x0 : Nat) (x1 : Int32) (S : XS) {out : (Int32 × XS)} (h : fX0_text sk x0 x1 S = some out) : Met l yX0_text (wsW_ yX0_text cX0_text 6 (some .int) [(39, 54, 64, 268), (39, 54, 85, 0), (64, 74, 85, 0), (85, 87, 85, 0)]) ({ frames := 61, cells := 5, slots := 136, locals := 1290 } : Room) (gPc (xK D cA A) (xP D cA A) A [.ref x0, .int x1] S) (gQi (xK D cA A) (xP D cA A) A out) 5 136 A := by
  refine gMetX_z (by decide) (Nat.le_of_ble_eq_true rfl) ?_ xKst
  intro p e s m below meth c Q ls args H locs hC hP hS hl htab ret
  obtain ⟨hx, hb, hml, hown, hts, hA, hK⟩ := hC
  have hown : s.vm.findClass RX0 = some m.cls := hown
  have hl : lv_has ls 6 [(0, .ref x0), (1, .int x1)] := hl
  unfold fX0_text at h
  refine lv_iload_n hx hb dX0_text_0 rfl (lv_at hl 1 rfl) ?_
  obtain ⟨v3, S2, e1, h⟩ := bnd_some h
  refine gci (va_runS (As := [.int x1]) (rest := []) ⟨hx, hb, hml, hown, hts⟩ (mX0_isUse (l := l) (D := D) (cA := cA) (A := A) x1 S e1) (va_cwS 1 hts (lw_S q604 q605 q86 q606) rfl rfl rfl (by decide +kernel) ⟨Nat.le_of_ble_eq_true rfl, Nat.le_of_ble_eq_true rfl⟩) (gPreS xKst hK hA hS hP) rfl rfl hl.1 rfl (lv_room (Nat.le_of_ble_eq_true rfl)) dX0_text_1 ⟨by first | omega | (dsimp only; omega), by first | omega | (dsimp only; omega)⟩) hS (fun H locs hP hS => ?_)
  refine lv_if_ne (tgt := 13) hx hb dX0_text_4 (by decide) (fun c4 => ?_) (fun c4 => ?_)
  · have h := ite_f c4 h
    refine x_new (C := RX12) (T := TX12) (N := 6) (ci := 12) (fs := [.null, .int 0, .null, .null, .int 0, .int 0]) hx hb hts in_X12 tyX12 tyX12_ok hown (hts _ q607) (hts _ q608) (hts _ q99) hK.1 hP hS hA rfl (fun j hj => by rcases (show j = 0 ∨ j = 1 ∨ j = 2 ∨ j = 3 ∨ j = 4 ∨ j = 5 by omega) with rfl | rfl | rfl | rfl | rfl | rfl <;> rfl) (by first | omega | (dsimp only; omega)) (by first | omega | (dsimp only; omega)) dX0_text_13 (fun H hP hS => ?_)
    obtain ⟨S5, eS5⟩ : ∃ y : XS, y = xnew S2 (aeO 12 [.null, .int 0, .null, .null, .int 0, .int 0]) := ⟨_, rfl⟩
    rw [← eS5] at hP
    have h := nm_at eS5 h
    refine lv_dup hx hb dX0_text_16 rfl ?_
    refine lv_aload_n hx hb dX0_text_17 rfl (lv_at hl 0 rfl) ?_
    obtain ⟨a7, e6, h⟩ := bn1_some h
    refine x_get (C := RX0) (T := TX0) (N := 16) (ci := 0) hx hb hts in_X0 hown hK.1 hP rfl 2 (by decide) (hts _ q231) (fun _ h9 => h9) (gR_some e6) dX0_text_18 ?_
    obtain ⟨a9, e8, h⟩ := bn1_some h
    refine x_getN (C := RX1) (T := TX1) (N := 16) (ci := 1) hx hb hts in_X1 hown hK.1 hP rfl 14 (by decide) (hK.2.1 _ q174 rfl) (fun _ h9 => h9) (gR_some e8) dX0_text_21 ?_
    refine lv_aload_n hx hb dX0_text_24 rfl (lv_at hl 0 rfl) ?_
    obtain ⟨a11, e10, h⟩ := bn1_some h
    refine x_get (C := RX0) (T := TX0) (N := 16) (ci := 0) hx hb hts in_X0 hown hK.1 hP rfl 2 (by decide) (hts _ q231) (fun _ h9 => h9) (gR_some e10) dX0_text_25 ?_
    obtain ⟨v13, e12, h⟩ := bn1_some h
    refine x_getN (C := RX1) (T := TX1) (N := 16) (ci := 1) hx hb hts in_X1 hown hK.1 hP rfl 6 (by decide) (hK.2.1 _ q158 rfl) (fun _ h9 => h9) (gI_some e12) dX0_text_28 ?_
    refine lv_iload_n hx hb dX0_text_31 rfl (lv_at hl 1 rfl) ?_
    obtain ⟨a16, S15, e14, h⟩ := bnd_some h
    refine gcr (va_runS (As := [.int x1]) (rest := [.int v13, .ref a9, .ref S2.2, .ref S2.2]) ⟨hx, hb, hml, hown, hts⟩ (mX0_namesOf (l := l) (D := D) (cA := cA) (A := A) sk hsk x1 S5 e14) (va_cwS 1 hts (lw_S q609 q610 q86 q611) rfl rfl rfl (by decide +kernel) ⟨Nat.le_of_ble_eq_true rfl, Nat.le_of_ble_eq_true rfl⟩) (gPreS xKst hK hA hS hP) rfl rfl hl.1 rfl (lv_room (Nat.le_of_ble_eq_true rfl)) dX0_text_32 ⟨by first | omega | (dsimp only; omega), by first | omega | (dsimp only; omega)⟩) hS (fun H locs hP hS => ?_)
    obtain ⟨S18, e17, h⟩ := bn1_some h
    refine gc_v (va_runI (As := [.ref a9, .int v13, .ref a16]) (rest := [.ref S2.2]) ⟨hx, hb, hml, hown, hts⟩ (mX12_init (l := l) (D := D) (cA := cA) (A := A) (S2.2) a9 v13 a16 S15 e17) (cwI 3 hts (lw_meth q616) rfl rfl rfl (hts _ q99) (hts _ q614) (hts _ q615) rfl (by decide +kernel) ⟨Nat.le_of_ble_eq_true rfl, Nat.le_of_ble_eq_true rfl⟩) (gPreS xKst hK hA hS hP) rfl rfl hl.1 rfl (lv_room (Nat.le_of_ble_eq_true rfl)) dX0_text_35 ⟨by first | omega | (dsimp only; omega), by first | omega | (dsimp only; omega)⟩) hS (fun H locs hP hS => ?_)
    refine lv_astore_n (lv' := [(2, .ref S2.2), (0, .ref x0), (1, .int x1)]) hx hb dX0_text_38 rfl hl (by decide) rfl (fun ls hl => ?_)
    refine lv_aload_n hx hb dX0_text_39 rfl (lv_at hl 1 rfl) ?_
    obtain ⟨a20, e19, h⟩ := bn1_some h
    refine x_get (C := RX0) (T := TX0) (N := 16) (ci := 0) hx hb hts in_X0 hown hK.1 hP rfl 2 (by decide) (hts _ q231) (fun _ h9 => h9) (gR_some e19) dX0_text_40 ?_
    obtain ⟨a22, e21, h⟩ := bn1_some h
    refine x_getN (C := RX1) (T := TX1) (N := 16) (ci := 1) hx hb hts in_X1 hown hK.1 hP rfl 13 (by decide) (hK.2.1 _ q172 rfl) (fun _ h9 => h9) (gR_some e21) dX0_text_43 ?_
    refine lv_iload_n hx hb dX0_text_46 rfl (lv_at hl 2 rfl) ?_
    refine lv_aload_n hx hb dX0_text_47 rfl (lv_at hl 0 rfl) ?_
    obtain ⟨g25, h⟩ := chk_some h
    obtain ⟨fg25, g25⟩ := isC_some g25
    obtain ⟨r26, S24, e23, h⟩ := tcl_some h
    refine gcT (x_runVT (As := []) (rest := [.int x1, .ref a22]) ⟨hx, hb, hml, hown, hts⟩ (mX12_read (l := l) (D := D) (cA := cA) (A := A) sk hsk (S2.2) S18 e23) (cwV 0 hts (lw_V q657 q658 q659 q99 q660) rfl rfl rfl (by decide +kernel) ⟨Nat.le_of_ble_eq_true rfl, Nat.le_of_ble_eq_true rfl⟩) (gPreV xKst hK hA hS hP (x_recv (q := (RX12, TX12, 6)) hK.1 hP rfl g25)) rfl rfl hl.1 rfl (lv_room (Nat.le_of_ble_eq_true rfl)) dX0_text_48 ⟨by first | omega | (dsimp only; omega), by first | omega | (dsimp only; omega)⟩) hS (fun v27 H locs er26 hP hS => ?_) (fun x28 H locs er26 hP hS => ?_)
    · subst er26
      replace h := tc_l h
      refine W.eq (g2 := F0 m 51 ls [.ref v27, .int x1, .ref a22]) rfl ?_
      obtain ⟨g35, h⟩ := chk_some h
      obtain ⟨S30, e29, h⟩ := bn1_some h
      obtain ⟨fg35, g35⟩ := isC_some g35
      refine x_astq (t := 5) (r := (RX13, TX13, 3)) hx hb hK.1 hP hS rfl rfl g35 e29 dX0_text_51 (fun H locs hP hS => ?_)
      refine lv_iconst (v := (1 : Int32)) hx hb dX0_text_52 (by decide) ?_
      refine lv_istore_n (lv' := [(3, .int (1 : Int32)), (2, .ref S2.2), (0, .ref x0), (1, .int x1)]) hx hb dX0_text_53 rfl hl (by decide) rfl (fun ls hl => ?_)
      refine lv_aload_n hx hb dX0_text_54 rfl (lv_at hl 2 rfl) ?_
      obtain ⟨a32, e31, h⟩ := bn1_some h
      refine x_get (C := RX0) (T := TX0) (N := 16) (ci := 0) hx hb hts in_X0 hown hK.1 hP rfl 2 (by decide) (hts _ q231) (fun _ h9 => h9) (gR_some e31) dX0_text_55 ?_
      refine lv_iconst (v := (0 : Int32)) hx hb dX0_text_58 (by decide) ?_
      obtain ⟨S34, e33, h⟩ := bn1_some h
      refine x_putN (v := .int (0 : Int32)) (ty := .int) (C := RX1) (T := TX1) (N := 16) (ci := 1) hx hb hts in_X1 tyX1 tyX1_ok nmX1 hown hK.1 hP hS rfl 6 (by decide) (hK.2.1 _ q158 rfl) (fun _ h9 => h9) rfl (by decide +kernel) rfl rfl e33 dX0_text_59 (fun H locs hP hS => ?_)
      refine lv_iload_n hx hb dX0_text_62 rfl (lv_at hl 0 rfl) ?_
      refine W.widen (k := 5) (n := 136) (by omega) (by omega) ?_
      exact ret _ _ _ _ _ _ dX0_text_63 rfl hP hS h
    · subst er26
      replace h := tc_r h
      obtain ⟨g36, h⟩ := chk_some h
      obtain ⟨fg36, g36⟩ := isC_some g36
      refine x_caught (r := (RX14, TX14, 7)) rfl hown (hts _ q603) htab (by decide) (by decide) (by decide) hK.1 hP g36 ?_
      refine lv_astore_n (lv' := [(3, .ref x28), (2, .ref S2.2), (0, .ref x0), (1, .int x1)]) hx hb dX0_text_64 rfl hl (by decide) rfl (fun ls hl => ?_)
      refine lv_bipush (v := (-10 : Int32)) hx hb dX0_text_65 (by decide) ?_
      refine lv_aload_n hx hb dX0_text_67 rfl (lv_at hl 0 rfl) ?_
      obtain ⟨v38, e37, h⟩ := bn1_some h
      refine x_getN (C := RX14) (T := TX14) (N := 7) (ci := 14) hx hb hts in_X14 hown hK.1 hP rfl 6 (by decide) (hK.2.1 _ q747 rfl) (fun _ h9 => h9) (gI_some e37) dX0_text_68 ?_
      refine lv_isub hx hb dX0_text_71 ?_
      refine lv_topi (fun y39 ey39 => ?_)
      have h := nm_at ey39 h
      refine lv_istore (lv' := [(4, .int y39), (3, .ref x28), (2, .ref S2.2), (0, .ref x0), (1, .int x1)]) hx hb dX0_text_72 hl (by decide) rfl (fun ls hl => ?_)
      refine lv_aload_n hx hb dX0_text_74 rfl (lv_at hl 3 rfl) ?_
      obtain ⟨a41, e40, h⟩ := bn1_some h
      refine x_get (C := RX0) (T := TX0) (N := 16) (ci := 0) hx hb hts in_X0 hown hK.1 hP rfl 2 (by decide) (hts _ q231) (fun _ h9 => h9) (gR_some e40) dX0_text_75 ?_
      refine lv_iconst (v := (0 : Int32)) hx hb dX0_text_78 (by decide) ?_
      obtain ⟨S43, e42, h⟩ := bn1_some h
      refine x_putN (v := .int (0 : Int32)) (ty := .int) (C := RX1) (T := TX1) (N := 16) (ci := 1) hx hb hts in_X1 tyX1 tyX1_ok nmX1 hown hK.1 hP hS rfl 6 (by decide) (hK.2.1 _ q158 rfl) (fun _ h9 => h9) rfl (by decide +kernel) rfl rfl e42 dX0_text_79 (fun H locs hP hS => ?_)
      refine lv_iload hx hb dX0_text_82 (lv_at hl 0 rfl) ?_
      refine W.widen (k := 5) (n := 136) (by omega) (by omega) ?_
      exact ret _ _ _ _ _ _ dX0_text_84 rfl hP hS h
  · have h := ite_t c4 h
    refine lv_aload_n hx hb dX0_text_7 rfl (lv_at hl 0 rfl) ?_
    refine lv_iconst (v := (1 : Int32)) hx hb dX0_text_8 (by decide) ?_
    obtain ⟨g46, h⟩ := chk_some h
    obtain ⟨fg46, g46⟩ := isC_some g46
    obtain ⟨v47, S45, e44, h⟩ := bnd_some h
    refine gci (va_runV (As := [.int (1 : Int32)]) (rest := []) ⟨hx, hb, hml, hown, hts⟩ (mX0_finds (l := l) (D := D) (cA := cA) (A := A) x0 (1 : Int32) S2 e44) (cwV 1 hts (lw_V q290 q292 qs1 q86 q293) rfl rfl rfl (by decide +kernel) ⟨Nat.le_of_ble_eq_true rfl, Nat.le_of_ble_eq_true rfl⟩) (gPreV xKst hK hA hS hP (x_recv (q := (RX0, TX0, 16)) hK.1 hP rfl g46)) rfl rfl hl.1 rfl (lv_room (Nat.le_of_ble_eq_true rfl)) dX0_text_9 ⟨by first | omega | (dsimp only; omega), by first | omega | (dsimp only; omega)⟩) hS (fun H locs hP hS => ?_)
    refine W.widen (k := 5) (n := 136) (by omega) (by omega) ?_
    exact ret _ _ _ _ _ _ dX0_text_12 rfl hP hS h

def fX0_init (x0 : Nat) (S : XS) : Option XS :=
nm (xnew S (aeI 0 60 (fun _ => 0))) fun S1 =>
bn1 (pF S1 x0 0 0 (.ref S.2)) fun S3 =>
nm (xnew S3 (aeI 0 3 (fun _ => 0))) fun S4 =>
bn1 (pF S4 x0 0 1 (.ref S3.2)) fun S6 =>
nm (xnew S6 (aeO 1 [.int 0, .int 0, .int 0, .int 0, .int 0, .int 0, .int 0, .int 0, .null, .null, .null, .null, .null, .null, .null, .null])) fun S7 =>
bn1 (fX1_init (S6.2) S7) fun S9 =>
bn1 (pF S9 x0 0 2 (.ref S6.2)) fun S11 =>
nm (xnew S11 (aeO 1 [.int 0, .int 0, .int 0, .int 0, .int 0, .int 0, .int 0, .int 0, .null, .null, .null, .null, .null, .null, .null, .null])) fun S12 =>
bn1 (fX1_init (S11.2) S12) fun S14 =>
bn1 (pF S14 x0 0 3 (.ref S11.2)) fun S16 =>
nm (xnew S16 (aeO 1 [.int 0, .int 0, .int 0, .int 0, .int 0, .int 0, .int 0, .int 0, .null, .null, .null, .null, .null, .null, .null, .null])) fun S17 =>
bn1 (fX1_init (S16.2) S17) fun S19 =>
bn1 (pF S19 x0 0 4 (.ref S16.2)) fun S21 =>
nm (xnew S21 (aeO 3 [.null, .int 0])) fun S22 =>
bn1 (fX3_init (S21.2) S22) fun S24 =>
bn1 (pF S24 x0 0 5 (.ref S21.2)) fun S26 =>
nm (xnew S26 (aeI 0 7 (fun _ => 0))) fun S27 =>
bn1 (pF S27 x0 0 6 (.ref S26.2)) fun S29 =>
nm (xnew S29 (aeQ 4 4 (fun _ => none))) fun S30 =>
nm (xnew S30 (aeO 2 [.null])) fun S31 =>
bn1 (fX2_init (S30.2) S31) fun S33 =>
chk (isC S33 (S30.2) 2) (bn1 (sQ S33 (S29.2) 4 (0 : Int32) (some (S30.2))) fun S35 =>
nm (xnew S35 (aeO 2 [.null])) fun S36 =>
bn1 (fX2_init (S35.2) S36) fun S38 =>
chk (isC S38 (S35.2) 2) (bn1 (sQ S38 (S29.2) 4 (1 : Int32) (some (S35.2))) fun S40 =>
nm (xnew S40 (aeO 2 [.null])) fun S41 =>
bn1 (fX2_init (S40.2) S41) fun S43 =>
chk (isC S43 (S40.2) 2) (bn1 (sQ S43 (S29.2) 4 (2 : Int32) (some (S40.2))) fun S45 =>
nm (xnew S45 (aeO 2 [.null])) fun S46 =>
bn1 (fX2_init (S45.2) S46) fun S48 =>
chk (isC S48 (S45.2) 2) (bn1 (sQ S48 (S29.2) 4 (3 : Int32) (some (S45.2))) fun S50 =>
bn1 (pF S50 x0 0 7 (.ref S29.2)) fun S52 =>
nm (xmn S52) fun S53 =>
bn1 (pF S53 x0 0 8 (.ref S52.2)) fun S55 =>
nm (xmn S55) fun S56 =>
bn1 (pF S56 x0 0 9 (.ref S55.2)) fun S58 =>
nm (xnew S58 (aeL 4 (fun _ => 0))) fun S59 =>
bn1 (pF S59 x0 0 10 (.ref S58.2)) fun S61 =>
nm (xnew S61 (aeL 4 (fun _ => 0))) fun S62 =>
bn1 (pF S62 x0 0 11 (.ref S61.2)) fun S64 =>
nm (xnew S64 (aeI 0 8 (fun _ => 0))) fun S65 =>
bn1 (pF S65 x0 0 12 (.ref S64.2)) fun S67 =>
nm (xnew S67 (aeI 0 8 (fun _ => 0))) fun S68 =>
bn1 (pF S68 x0 0 13 (.ref S67.2)) fun S70 =>
some S70))))
set_option maxHeartbeats 4000000 in
set_option maxRecDepth 100000 in
theorem mX0_init {l : Launch} {D : va_G} {cA : Nat → ClassId} {A : Nat → Prop} (x0 : Nat) (S : XS) {out : XS} (h : fX0_init x0 S = some out) : Met l yX0_init (ws_ yX0_init cX0_init 1 none) ({ frames := 3, cells := 78, slots := 627, locals := 65 } : Room) (gPc (xK D cA A) (xP D cA A) A [.ref x0] S) (gQv (xK D cA A) (xP D cA A) A out) 78 627 A := by
  refine gMet_v (by decide) (Nat.le_of_ble_eq_true rfl) ?_ xKst
  intro p e s m below meth c Q ls args H locs hC hP hS hl hmi ret
  obtain ⟨hx, hb, hml, hown, hts, hA, hK⟩ := hC
  have hown : s.vm.findClass RX0 = some m.cls := hown
  have hl : lv_has ls 1 [(0, .ref x0)] := hl
  have hmi := hmi rfl
  unfold fX0_init at h
  refine lv_aload_n hx hb dX0_init_0 rfl (lv_at hl 0 rfl) ?_
  refine W.objInit hx hb hown (hts _ q120) (hts _ q121) (hts _ q122) rfl (by rw [hml]; exact hl.1) rfl dX0_init_1 (Nat.le_of_ble_eq_true rfl) (Nat.le_of_ble_eq_true rfl) ?_
  refine W.eq (g2 := F0 m 4 ls []) rfl ?_
  refine lv_aload_n hx hb dX0_init_4 rfl (lv_at hl 0 rfl) ?_
  refine lv_bipush (v := (60 : Int32)) hx hb dX0_init_5 (by decide) ?_
  refine x_new0 (N' := 60) hx hb (hts _ q143) hK.1 hP hS hA (by decide) (by decide) (by decide) (by first | omega | (dsimp only; omega)) (by first | omega | (dsimp only; omega)) dX0_init_7 (fun H hP hS => ?_)
  obtain ⟨S1, eS1⟩ : ∃ y : XS, y = xnew S (aeI 0 60 (fun _ => 0)) := ⟨_, rfl⟩
  rw [← eS1] at hP
  have h := nm_at eS1 h
  obtain ⟨S3, e2, h⟩ := bn1_some h
  refine x_putF (v := .ref S.2) (ty := (.array .int)) (C := RX0) (T := TX0) (N := 16) (ci := 0) hx hb hts in_X0 tyX0 tyX0_ok nmX0 hown hK.1 hP hS rfl 0 (by decide) (hts _ q229) (fun _ h9 => h9) rfl hmi rfl (by decide +kernel) rfl rfl e2 dX0_init_9 (fun H locs hP hS => ?_)
  refine lv_aload_n hx hb dX0_init_12 rfl (lv_at hl 0 rfl) ?_
  refine lv_iconst (v := (3 : Int32)) hx hb dX0_init_13 (by decide) ?_
  refine x_new0 (N' := 3) hx hb (hts _ q143) hK.1 hP hS hA (by decide) (by decide) (by decide) (by first | omega | (dsimp only; omega)) (by first | omega | (dsimp only; omega)) dX0_init_14 (fun H hP hS => ?_)
  obtain ⟨S4, eS4⟩ : ∃ y : XS, y = xnew S3 (aeI 0 3 (fun _ => 0)) := ⟨_, rfl⟩
  rw [← eS4] at hP
  have h := nm_at eS4 h
  obtain ⟨S6, e5, h⟩ := bn1_some h
  refine x_putF (v := .ref S3.2) (ty := (.array .int)) (C := RX0) (T := TX0) (N := 16) (ci := 0) hx hb hts in_X0 tyX0 tyX0_ok nmX0 hown hK.1 hP hS rfl 1 (by decide) (hts _ q230) (fun _ h9 => h9) rfl hmi rfl (by decide +kernel) rfl rfl e5 dX0_init_16 (fun H locs hP hS => ?_)
  refine lv_aload_n hx hb dX0_init_19 rfl (lv_at hl 0 rfl) ?_
  refine x_new (C := RX1) (T := TX1) (N := 16) (ci := 1) (fs := [.int 0, .int 0, .int 0, .int 0, .int 0, .int 0, .int 0, .int 0, .null, .null, .null, .null, .null, .null, .null, .null]) hx hb hts in_X1 tyX1 tyX1_ok hown (hts _ q123) (hts _ q124) (hts _ q87) hK.1 hP hS hA rfl (fun j hj => by rcases (show j = 0 ∨ j = 1 ∨ j = 2 ∨ j = 3 ∨ j = 4 ∨ j = 5 ∨ j = 6 ∨ j = 7 ∨ j = 8 ∨ j = 9 ∨ j = 10 ∨ j = 11 ∨ j = 12 ∨ j = 13 ∨ j = 14 ∨ j = 15 by omega) with rfl | rfl | rfl | rfl | rfl | rfl | rfl | rfl | rfl | rfl | rfl | rfl | rfl | rfl | rfl | rfl <;> rfl) (by first | omega | (dsimp only; omega)) (by first | omega | (dsimp only; omega)) dX0_init_20 (fun H hP hS => ?_)
  obtain ⟨S7, eS7⟩ : ∃ y : XS, y = xnew S6 (aeO 1 [.int 0, .int 0, .int 0, .int 0, .int 0, .int 0, .int 0, .int 0, .null, .null, .null, .null, .null, .null, .null, .null]) := ⟨_, rfl⟩
  rw [← eS7] at hP
  have h := nm_at eS7 h
  refine lv_dup hx hb dX0_init_23 rfl ?_
  obtain ⟨S9, e8, h⟩ := bn1_some h
  refine gc_v (va_runI (As := []) (rest := [.ref S6.2, .ref x0]) ⟨hx, hb, hml, hown, hts⟩ (mX1_init (l := l) (D := D) (cA := cA) (A := A) (S6.2) S7 e8) (cwI 0 hts (lw_meth q127) rfl rfl rfl (hts _ q87) (hts _ q125) (hts _ q126) rfl (by decide +kernel) ⟨Nat.le_of_ble_eq_true rfl, Nat.le_of_ble_eq_true rfl⟩) (gPreS xKst hK hA hS hP) rfl rfl hl.1 rfl (lv_room (Nat.le_of_ble_eq_true rfl)) dX0_init_24 ⟨by first | omega | (dsimp only; omega), by first | omega | (dsimp only; omega)⟩) hS (fun H locs hP hS => ?_)
  obtain ⟨S11, e10, h⟩ := bn1_some h
  refine x_putF (v := .ref S6.2) (ty := (.object "PictureBlock$House")) (C := RX0) (T := TX0) (N := 16) (ci := 0) hx hb hts in_X0 tyX0 tyX0_ok nmX0 hown hK.1 hP hS rfl 2 (by decide) (hts _ q231) (fun _ h9 => h9) rfl hmi rfl (by decide +kernel) rfl rfl e10 dX0_init_27 (fun H locs hP hS => ?_)
  refine lv_aload_n hx hb dX0_init_30 rfl (lv_at hl 0 rfl) ?_
  refine x_new (C := RX1) (T := TX1) (N := 16) (ci := 1) (fs := [.int 0, .int 0, .int 0, .int 0, .int 0, .int 0, .int 0, .int 0, .null, .null, .null, .null, .null, .null, .null, .null]) hx hb hts in_X1 tyX1 tyX1_ok hown (hts _ q123) (hts _ q124) (hts _ q87) hK.1 hP hS hA rfl (fun j hj => by rcases (show j = 0 ∨ j = 1 ∨ j = 2 ∨ j = 3 ∨ j = 4 ∨ j = 5 ∨ j = 6 ∨ j = 7 ∨ j = 8 ∨ j = 9 ∨ j = 10 ∨ j = 11 ∨ j = 12 ∨ j = 13 ∨ j = 14 ∨ j = 15 by omega) with rfl | rfl | rfl | rfl | rfl | rfl | rfl | rfl | rfl | rfl | rfl | rfl | rfl | rfl | rfl | rfl <;> rfl) (by first | omega | (dsimp only; omega)) (by first | omega | (dsimp only; omega)) dX0_init_31 (fun H hP hS => ?_)
  obtain ⟨S12, eS12⟩ : ∃ y : XS, y = xnew S11 (aeO 1 [.int 0, .int 0, .int 0, .int 0, .int 0, .int 0, .int 0, .int 0, .null, .null, .null, .null, .null, .null, .null, .null]) := ⟨_, rfl⟩
  rw [← eS12] at hP
  have h := nm_at eS12 h
  refine lv_dup hx hb dX0_init_34 rfl ?_
  obtain ⟨S14, e13, h⟩ := bn1_some h
  refine gc_v (va_runI (As := []) (rest := [.ref S11.2, .ref x0]) ⟨hx, hb, hml, hown, hts⟩ (mX1_init (l := l) (D := D) (cA := cA) (A := A) (S11.2) S12 e13) (cwI 0 hts (lw_meth q127) rfl rfl rfl (hts _ q87) (hts _ q125) (hts _ q126) rfl (by decide +kernel) ⟨Nat.le_of_ble_eq_true rfl, Nat.le_of_ble_eq_true rfl⟩) (gPreS xKst hK hA hS hP) rfl rfl hl.1 rfl (lv_room (Nat.le_of_ble_eq_true rfl)) dX0_init_35 ⟨by first | omega | (dsimp only; omega), by first | omega | (dsimp only; omega)⟩) hS (fun H locs hP hS => ?_)
  obtain ⟨S16, e15, h⟩ := bn1_some h
  refine x_putF (v := .ref S11.2) (ty := (.object "PictureBlock$House")) (C := RX0) (T := TX0) (N := 16) (ci := 0) hx hb hts in_X0 tyX0 tyX0_ok nmX0 hown hK.1 hP hS rfl 3 (by decide) (hts _ q232) (fun _ h9 => h9) rfl hmi rfl (by decide +kernel) rfl rfl e15 dX0_init_38 (fun H locs hP hS => ?_)
  refine lv_aload_n hx hb dX0_init_41 rfl (lv_at hl 0 rfl) ?_
  refine x_new (C := RX1) (T := TX1) (N := 16) (ci := 1) (fs := [.int 0, .int 0, .int 0, .int 0, .int 0, .int 0, .int 0, .int 0, .null, .null, .null, .null, .null, .null, .null, .null]) hx hb hts in_X1 tyX1 tyX1_ok hown (hts _ q123) (hts _ q124) (hts _ q87) hK.1 hP hS hA rfl (fun j hj => by rcases (show j = 0 ∨ j = 1 ∨ j = 2 ∨ j = 3 ∨ j = 4 ∨ j = 5 ∨ j = 6 ∨ j = 7 ∨ j = 8 ∨ j = 9 ∨ j = 10 ∨ j = 11 ∨ j = 12 ∨ j = 13 ∨ j = 14 ∨ j = 15 by omega) with rfl | rfl | rfl | rfl | rfl | rfl | rfl | rfl | rfl | rfl | rfl | rfl | rfl | rfl | rfl | rfl <;> rfl) (by first | omega | (dsimp only; omega)) (by first | omega | (dsimp only; omega)) dX0_init_42 (fun H hP hS => ?_)
  obtain ⟨S17, eS17⟩ : ∃ y : XS, y = xnew S16 (aeO 1 [.int 0, .int 0, .int 0, .int 0, .int 0, .int 0, .int 0, .int 0, .null, .null, .null, .null, .null, .null, .null, .null]) := ⟨_, rfl⟩
  rw [← eS17] at hP
  have h := nm_at eS17 h
  refine lv_dup hx hb dX0_init_45 rfl ?_
  obtain ⟨S19, e18, h⟩ := bn1_some h
  refine gc_v (va_runI (As := []) (rest := [.ref S16.2, .ref x0]) ⟨hx, hb, hml, hown, hts⟩ (mX1_init (l := l) (D := D) (cA := cA) (A := A) (S16.2) S17 e18) (cwI 0 hts (lw_meth q127) rfl rfl rfl (hts _ q87) (hts _ q125) (hts _ q126) rfl (by decide +kernel) ⟨Nat.le_of_ble_eq_true rfl, Nat.le_of_ble_eq_true rfl⟩) (gPreS xKst hK hA hS hP) rfl rfl hl.1 rfl (lv_room (Nat.le_of_ble_eq_true rfl)) dX0_init_46 ⟨by first | omega | (dsimp only; omega), by first | omega | (dsimp only; omega)⟩) hS (fun H locs hP hS => ?_)
  obtain ⟨S21, e20, h⟩ := bn1_some h
  refine x_putF (v := .ref S16.2) (ty := (.object "PictureBlock$House")) (C := RX0) (T := TX0) (N := 16) (ci := 0) hx hb hts in_X0 tyX0 tyX0_ok nmX0 hown hK.1 hP hS rfl 4 (by decide) (hts _ q233) (fun _ h9 => h9) rfl hmi rfl (by decide +kernel) rfl rfl e20 dX0_init_49 (fun H locs hP hS => ?_)
  refine lv_aload_n hx hb dX0_init_52 rfl (lv_at hl 0 rfl) ?_
  refine x_new (C := RX3) (T := TX3) (N := 2) (ci := 3) (fs := [.null, .int 0]) hx hb hts in_X3 tyX3 tyX3_ok hown (hts _ q210) (hts _ q211) (hts _ q89) hK.1 hP hS hA rfl (fun j hj => by rcases (show j = 0 ∨ j = 1 by omega) with rfl | rfl <;> rfl) (by first | omega | (dsimp only; omega)) (by first | omega | (dsimp only; omega)) dX0_init_53 (fun H hP hS => ?_)
  obtain ⟨S22, eS22⟩ : ∃ y : XS, y = xnew S21 (aeO 3 [.null, .int 0]) := ⟨_, rfl⟩
  rw [← eS22] at hP
  have h := nm_at eS22 h
  refine lv_dup hx hb dX0_init_56 rfl ?_
  obtain ⟨S24, e23, h⟩ := bn1_some h
  refine gc_v (va_runIN (As := []) (rest := [.ref S21.2, .ref x0]) ⟨hx, hb, hml, hown, hts⟩ (mX3_init (l := l) (D := D) (cA := cA) (A := A) (S21.2) S22 e23) ⟨va_cnB 0 hts (lw_meth q214) rfl rfl rfl (hK.2.1 _ q212 rfl) (hts _ q89) (by decide +kernel) ⟨Nat.le_of_ble_eq_true rfl, Nat.le_of_ble_eq_true rfl⟩, rfl, hts _ q213⟩ (gPreS xKst hK hA hS hP) rfl rfl hl.1 rfl (lv_room (Nat.le_of_ble_eq_true rfl)) dX0_init_57 ⟨by first | omega | (dsimp only; omega), by first | omega | (dsimp only; omega)⟩) hS (fun H locs hP hS => ?_)
  obtain ⟨S26, e25, h⟩ := bn1_some h
  refine x_putF (v := .ref S21.2) (ty := (.object "PictureBlock$Trace")) (C := RX0) (T := TX0) (N := 16) (ci := 0) hx hb hts in_X0 tyX0 tyX0_ok nmX0 hown hK.1 hP hS rfl 5 (by decide) (hts _ q234) (fun _ h9 => h9) rfl hmi rfl (by decide +kernel) rfl rfl e25 dX0_init_60 (fun H locs hP hS => ?_)
  refine lv_aload_n hx hb dX0_init_63 rfl (lv_at hl 0 rfl) ?_
  refine lv_bipush (v := (7 : Int32)) hx hb dX0_init_64 (by decide) ?_
  refine x_new0 (N' := 7) hx hb (hts _ q143) hK.1 hP hS hA (by decide) (by decide) (by decide) (by first | omega | (dsimp only; omega)) (by first | omega | (dsimp only; omega)) dX0_init_66 (fun H hP hS => ?_)
  obtain ⟨S27, eS27⟩ : ∃ y : XS, y = xnew S26 (aeI 0 7 (fun _ => 0)) := ⟨_, rfl⟩
  rw [← eS27] at hP
  have h := nm_at eS27 h
  obtain ⟨S29, e28, h⟩ := bn1_some h
  refine x_putF (v := .ref S26.2) (ty := (.array .int)) (C := RX0) (T := TX0) (N := 16) (ci := 0) hx hb hts in_X0 tyX0 tyX0_ok nmX0 hown hK.1 hP hS rfl 6 (by decide) (hts _ q235) (fun _ h9 => h9) rfl hmi rfl (by decide +kernel) rfl rfl e28 dX0_init_68 (fun H locs hP hS => ?_)
  refine lv_aload_n hx hb dX0_init_71 rfl (lv_at hl 0 rfl) ?_
  refine lv_iconst (v := (4 : Int32)) hx hb dX0_init_72 (by decide) ?_
  refine x_newq (N' := 4) hx hb hown (hts _ q225) hK.2.2.2.2.1 hK.1 hP hS hA 4 rfl (by decide) (by decide) (by decide) (by first | omega | (dsimp only; omega)) (by first | omega | (dsimp only; omega)) dX0_init_73 (fun H hP hS => ?_)
  obtain ⟨S30, eS30⟩ : ∃ y : XS, y = xnew S29 (aeQ 4 4 (fun _ => none)) := ⟨_, rfl⟩
  rw [← eS30] at hP
  have h := nm_at eS30 h
  refine lv_dup hx hb dX0_init_76 rfl ?_
  refine lv_iconst (v := (0 : Int32)) hx hb dX0_init_77 (by decide) ?_
  refine x_new (C := RX2) (T := TX2) (N := 1) (ci := 2) (fs := [.null]) hx hb hts in_X2 tyX2 tyX2_ok hown (hts _ q225) (hts _ q133) (hts _ q88) hK.1 hP hS hA rfl (fun j hj => by rcases (show j = 0 by omega) with rfl <;> rfl) (by first | omega | (dsimp only; omega)) (by first | omega | (dsimp only; omega)) dX0_init_78 (fun H hP hS => ?_)
  obtain ⟨S31, eS31⟩ : ∃ y : XS, y = xnew S30 (aeO 2 [.null]) := ⟨_, rfl⟩
  rw [← eS31] at hP
  have h := nm_at eS31 h
  refine lv_dup hx hb dX0_init_81 rfl ?_
  obtain ⟨S33, e32, h⟩ := bn1_some h
  refine gc_v (va_runIN (As := []) (rest := [.ref S30.2, .int (0 : Int32), .ref S29.2, .ref S29.2, .ref x0]) ⟨hx, hb, hml, hown, hts⟩ (mX2_init (l := l) (D := D) (cA := cA) (A := A) (S30.2) S31 e32) ⟨va_cnB 0 hts (lw_meth q136) rfl rfl rfl (hK.2.1 _ q226 rfl) (hts _ q88) (by decide +kernel) ⟨Nat.le_of_ble_eq_true rfl, Nat.le_of_ble_eq_true rfl⟩, rfl, hts _ q135⟩ (gPreS xKst hK hA hS hP) rfl rfl hl.1 rfl (lv_room (Nat.le_of_ble_eq_true rfl)) dX0_init_82 ⟨by first | omega | (dsimp only; omega), by first | omega | (dsimp only; omega)⟩) hS (fun H locs hP hS => ?_)
  obtain ⟨g74, h⟩ := chk_some h
  obtain ⟨S35, e34, h⟩ := bn1_some h
  obtain ⟨fg74, g74⟩ := isC_some g74
  refine x_astq (t := 4) (r := (RX2, TX2, 1)) hx hb hK.1 hP hS rfl rfl g74 e34 dX0_init_85 (fun H locs hP hS => ?_)
  refine lv_dup hx hb dX0_init_86 rfl ?_
  refine lv_iconst (v := (1 : Int32)) hx hb dX0_init_87 (by decide) ?_
  refine x_new (C := RX2) (T := TX2) (N := 1) (ci := 2) (fs := [.null]) hx hb hts in_X2 tyX2 tyX2_ok hown (hts _ q225) (hts _ q133) (hts _ q88) hK.1 hP hS hA rfl (fun j hj => by rcases (show j = 0 by omega) with rfl <;> rfl) (by first | omega | (dsimp only; omega)) (by first | omega | (dsimp only; omega)) dX0_init_88 (fun H hP hS => ?_)
  obtain ⟨S36, eS36⟩ : ∃ y : XS, y = xnew S35 (aeO 2 [.null]) := ⟨_, rfl⟩
  rw [← eS36] at hP
  have h := nm_at eS36 h
  refine lv_dup hx hb dX0_init_91 rfl ?_
  obtain ⟨S38, e37, h⟩ := bn1_some h
  refine gc_v (va_runIN (As := []) (rest := [.ref S35.2, .int (1 : Int32), .ref S29.2, .ref S29.2, .ref x0]) ⟨hx, hb, hml, hown, hts⟩ (mX2_init (l := l) (D := D) (cA := cA) (A := A) (S35.2) S36 e37) ⟨va_cnB 0 hts (lw_meth q136) rfl rfl rfl (hK.2.1 _ q226 rfl) (hts _ q88) (by decide +kernel) ⟨Nat.le_of_ble_eq_true rfl, Nat.le_of_ble_eq_true rfl⟩, rfl, hts _ q135⟩ (gPreS xKst hK hA hS hP) rfl rfl hl.1 rfl (lv_room (Nat.le_of_ble_eq_true rfl)) dX0_init_92 ⟨by first | omega | (dsimp only; omega), by first | omega | (dsimp only; omega)⟩) hS (fun H locs hP hS => ?_)
  obtain ⟨g73, h⟩ := chk_some h
  obtain ⟨S40, e39, h⟩ := bn1_some h
  obtain ⟨fg73, g73⟩ := isC_some g73
  refine x_astq (t := 4) (r := (RX2, TX2, 1)) hx hb hK.1 hP hS rfl rfl g73 e39 dX0_init_95 (fun H locs hP hS => ?_)
  refine lv_dup hx hb dX0_init_96 rfl ?_
  refine lv_iconst (v := (2 : Int32)) hx hb dX0_init_97 (by decide) ?_
  refine x_new (C := RX2) (T := TX2) (N := 1) (ci := 2) (fs := [.null]) hx hb hts in_X2 tyX2 tyX2_ok hown (hts _ q225) (hts _ q133) (hts _ q88) hK.1 hP hS hA rfl (fun j hj => by rcases (show j = 0 by omega) with rfl <;> rfl) (by first | omega | (dsimp only; omega)) (by first | omega | (dsimp only; omega)) dX0_init_98 (fun H hP hS => ?_)
  obtain ⟨S41, eS41⟩ : ∃ y : XS, y = xnew S40 (aeO 2 [.null]) := ⟨_, rfl⟩
  rw [← eS41] at hP
  have h := nm_at eS41 h
  refine lv_dup hx hb dX0_init_101 rfl ?_
  obtain ⟨S43, e42, h⟩ := bn1_some h
  refine gc_v (va_runIN (As := []) (rest := [.ref S40.2, .int (2 : Int32), .ref S29.2, .ref S29.2, .ref x0]) ⟨hx, hb, hml, hown, hts⟩ (mX2_init (l := l) (D := D) (cA := cA) (A := A) (S40.2) S41 e42) ⟨va_cnB 0 hts (lw_meth q136) rfl rfl rfl (hK.2.1 _ q226 rfl) (hts _ q88) (by decide +kernel) ⟨Nat.le_of_ble_eq_true rfl, Nat.le_of_ble_eq_true rfl⟩, rfl, hts _ q135⟩ (gPreS xKst hK hA hS hP) rfl rfl hl.1 rfl (lv_room (Nat.le_of_ble_eq_true rfl)) dX0_init_102 ⟨by first | omega | (dsimp only; omega), by first | omega | (dsimp only; omega)⟩) hS (fun H locs hP hS => ?_)
  obtain ⟨g72, h⟩ := chk_some h
  obtain ⟨S45, e44, h⟩ := bn1_some h
  obtain ⟨fg72, g72⟩ := isC_some g72
  refine x_astq (t := 4) (r := (RX2, TX2, 1)) hx hb hK.1 hP hS rfl rfl g72 e44 dX0_init_105 (fun H locs hP hS => ?_)
  refine lv_dup hx hb dX0_init_106 rfl ?_
  refine lv_iconst (v := (3 : Int32)) hx hb dX0_init_107 (by decide) ?_
  refine x_new (C := RX2) (T := TX2) (N := 1) (ci := 2) (fs := [.null]) hx hb hts in_X2 tyX2 tyX2_ok hown (hts _ q225) (hts _ q133) (hts _ q88) hK.1 hP hS hA rfl (fun j hj => by rcases (show j = 0 by omega) with rfl <;> rfl) (by first | omega | (dsimp only; omega)) (by first | omega | (dsimp only; omega)) dX0_init_108 (fun H hP hS => ?_)
  obtain ⟨S46, eS46⟩ : ∃ y : XS, y = xnew S45 (aeO 2 [.null]) := ⟨_, rfl⟩
  rw [← eS46] at hP
  have h := nm_at eS46 h
  refine lv_dup hx hb dX0_init_111 rfl ?_
  obtain ⟨S48, e47, h⟩ := bn1_some h
  refine gc_v (va_runIN (As := []) (rest := [.ref S45.2, .int (3 : Int32), .ref S29.2, .ref S29.2, .ref x0]) ⟨hx, hb, hml, hown, hts⟩ (mX2_init (l := l) (D := D) (cA := cA) (A := A) (S45.2) S46 e47) ⟨va_cnB 0 hts (lw_meth q136) rfl rfl rfl (hK.2.1 _ q226 rfl) (hts _ q88) (by decide +kernel) ⟨Nat.le_of_ble_eq_true rfl, Nat.le_of_ble_eq_true rfl⟩, rfl, hts _ q135⟩ (gPreS xKst hK hA hS hP) rfl rfl hl.1 rfl (lv_room (Nat.le_of_ble_eq_true rfl)) dX0_init_112 ⟨by first | omega | (dsimp only; omega), by first | omega | (dsimp only; omega)⟩) hS (fun H locs hP hS => ?_)
  obtain ⟨g71, h⟩ := chk_some h
  obtain ⟨S50, e49, h⟩ := bn1_some h
  obtain ⟨fg71, g71⟩ := isC_some g71
  refine x_astq (t := 4) (r := (RX2, TX2, 1)) hx hb hK.1 hP hS rfl rfl g71 e49 dX0_init_115 (fun H locs hP hS => ?_)
  obtain ⟨S52, e51, h⟩ := bn1_some h
  refine x_putF (v := .ref S29.2) (ty := (.array (.object "PictureBlock$Slot"))) (C := RX0) (T := TX0) (N := 16) (ci := 0) hx hb hts in_X0 tyX0 tyX0_ok nmX0 hown hK.1 hP hS rfl 7 (by decide) (hts _ q236) (fun _ h9 => h9) rfl hmi rfl (by decide +kernel) rfl rfl e51 dX0_init_116 (fun H locs hP hS => ?_)
  refine lv_aload_n hx hb dX0_init_119 rfl (lv_at hl 0 rfl) ?_
  refine lv_iconst (v := (4 : Int32)) hx hb dX0_init_120 (by decide) ?_
  refine lv_iconst (v := (4 : Int32)) hx hb dX0_init_121 (by decide) ?_
  refine x_mna hx hb hown (hts _ q227) hK.2.2.2.2.2.2.1 hK.1 hP hS hA (by first | omega | (dsimp only; omega)) (by first | omega | (dsimp only; omega)) dX0_init_122 (fun H locs hP hS => ?_)
  obtain ⟨S53, eS53⟩ : ∃ y : XS, y = xmn S52 := ⟨_, rfl⟩
  rw [← eS53] at hP
  have h := nm_at eS53 h
  obtain ⟨S55, e54, h⟩ := bn1_some h
  refine x_putF (v := .ref S52.2) (ty := (.array (.array .long))) (C := RX0) (T := TX0) (N := 16) (ci := 0) hx hb hts in_X0 tyX0 tyX0_ok nmX0 hown hK.1 hP hS rfl 8 (by decide) (hts _ q237) (fun _ h9 => h9) rfl hmi rfl (by decide +kernel) rfl rfl e54 dX0_init_126 (fun H locs hP hS => ?_)
  refine lv_aload_n hx hb dX0_init_129 rfl (lv_at hl 0 rfl) ?_
  refine lv_iconst (v := (4 : Int32)) hx hb dX0_init_130 (by decide) ?_
  refine lv_iconst (v := (4 : Int32)) hx hb dX0_init_131 (by decide) ?_
  refine x_mna hx hb hown (hts _ q227) hK.2.2.2.2.2.2.1 hK.1 hP hS hA (by first | omega | (dsimp only; omega)) (by first | omega | (dsimp only; omega)) dX0_init_132 (fun H locs hP hS => ?_)
  obtain ⟨S56, eS56⟩ : ∃ y : XS, y = xmn S55 := ⟨_, rfl⟩
  rw [← eS56] at hP
  have h := nm_at eS56 h
  obtain ⟨S58, e57, h⟩ := bn1_some h
  refine x_putF (v := .ref S55.2) (ty := (.array (.array .long))) (C := RX0) (T := TX0) (N := 16) (ci := 0) hx hb hts in_X0 tyX0 tyX0_ok nmX0 hown hK.1 hP hS rfl 9 (by decide) (hts _ q238) (fun _ h9 => h9) rfl hmi rfl (by decide +kernel) rfl rfl e57 dX0_init_136 (fun H locs hP hS => ?_)
  refine lv_aload_n hx hb dX0_init_139 rfl (lv_at hl 0 rfl) ?_
  refine lv_iconst (v := (4 : Int32)) hx hb dX0_init_140 (by decide) ?_
  refine x_new3 (N' := 4) hx hb (hts _ q278) hK.1 hP hS hA (by decide) (by decide) (by decide) (by first | omega | (dsimp only; omega)) (by first | omega | (dsimp only; omega)) dX0_init_141 (fun H hP hS => ?_)
  obtain ⟨S59, eS59⟩ : ∃ y : XS, y = xnew S58 (aeL 4 (fun _ => 0)) := ⟨_, rfl⟩
  rw [← eS59] at hP
  have h := nm_at eS59 h
  obtain ⟨S61, e60, h⟩ := bn1_some h
  refine x_putF (v := .ref S58.2) (ty := (.array .long)) (C := RX0) (T := TX0) (N := 16) (ci := 0) hx hb hts in_X0 tyX0 tyX0_ok nmX0 hown hK.1 hP hS rfl 10 (by decide) (hts _ q239) (fun _ h9 => h9) rfl hmi rfl (by decide +kernel) rfl rfl e60 dX0_init_143 (fun H locs hP hS => ?_)
  refine lv_aload_n hx hb dX0_init_146 rfl (lv_at hl 0 rfl) ?_
  refine lv_iconst (v := (4 : Int32)) hx hb dX0_init_147 (by decide) ?_
  refine x_new3 (N' := 4) hx hb (hts _ q278) hK.1 hP hS hA (by decide) (by decide) (by decide) (by first | omega | (dsimp only; omega)) (by first | omega | (dsimp only; omega)) dX0_init_148 (fun H hP hS => ?_)
  obtain ⟨S62, eS62⟩ : ∃ y : XS, y = xnew S61 (aeL 4 (fun _ => 0)) := ⟨_, rfl⟩
  rw [← eS62] at hP
  have h := nm_at eS62 h
  obtain ⟨S64, e63, h⟩ := bn1_some h
  refine x_putF (v := .ref S61.2) (ty := (.array .long)) (C := RX0) (T := TX0) (N := 16) (ci := 0) hx hb hts in_X0 tyX0 tyX0_ok nmX0 hown hK.1 hP hS rfl 11 (by decide) (hts _ q240) (fun _ h9 => h9) rfl hmi rfl (by decide +kernel) rfl rfl e63 dX0_init_150 (fun H locs hP hS => ?_)
  refine lv_aload_n hx hb dX0_init_153 rfl (lv_at hl 0 rfl) ?_
  refine lv_bipush (v := (8 : Int32)) hx hb dX0_init_154 (by decide) ?_
  refine x_new0 (N' := 8) hx hb (hts _ q143) hK.1 hP hS hA (by decide) (by decide) (by decide) (by first | omega | (dsimp only; omega)) (by first | omega | (dsimp only; omega)) dX0_init_156 (fun H hP hS => ?_)
  obtain ⟨S65, eS65⟩ : ∃ y : XS, y = xnew S64 (aeI 0 8 (fun _ => 0)) := ⟨_, rfl⟩
  rw [← eS65] at hP
  have h := nm_at eS65 h
  obtain ⟨S67, e66, h⟩ := bn1_some h
  refine x_putF (v := .ref S64.2) (ty := (.array .int)) (C := RX0) (T := TX0) (N := 16) (ci := 0) hx hb hts in_X0 tyX0 tyX0_ok nmX0 hown hK.1 hP hS rfl 12 (by decide) (hts _ q241) (fun _ h9 => h9) rfl hmi rfl (by decide +kernel) rfl rfl e66 dX0_init_158 (fun H locs hP hS => ?_)
  refine lv_aload_n hx hb dX0_init_161 rfl (lv_at hl 0 rfl) ?_
  refine lv_bipush (v := (8 : Int32)) hx hb dX0_init_162 (by decide) ?_
  refine x_new0 (N' := 8) hx hb (hts _ q143) hK.1 hP hS hA (by decide) (by decide) (by decide) (by first | omega | (dsimp only; omega)) (by first | omega | (dsimp only; omega)) dX0_init_164 (fun H hP hS => ?_)
  obtain ⟨S68, eS68⟩ : ∃ y : XS, y = xnew S67 (aeI 0 8 (fun _ => 0)) := ⟨_, rfl⟩
  rw [← eS68] at hP
  have h := nm_at eS68 h
  obtain ⟨S70, e69, h⟩ := bn1_some h
  refine x_putF (v := .ref S67.2) (ty := (.array .int)) (C := RX0) (T := TX0) (N := 16) (ci := 0) hx hb hts in_X0 tyX0 tyX0_ok nmX0 hown hK.1 hP hS rfl 13 (by decide) (hts _ q242) (fun _ h9 => h9) rfl hmi rfl (by decide +kernel) rfl rfl e69 dX0_init_166 (fun H locs hP hS => ?_)
  refine W.widen (k := 78) (n := 627) (by omega) (by omega) ?_
  exact ret _ _ _ _ _ dX0_init_169 hP hS h
