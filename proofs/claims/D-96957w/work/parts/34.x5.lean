def bX0_pictures_54 (x0 : Nat) (S : XS) : Option (Int32 × XS) :=
chk (isC S x0 0) (bnd (fX0_finds x0 (3 : Int32) S) fun v4 S2 =>
some (v4, S2))
def bX0_pictures_17 (k17 : Nat → Int32 → Int32 → XS → Option (Int32 × XS)) (x0 : Nat) (x1 : Int32) (x2 : Int32) (S : XS) : Option (Int32 × XS) :=
bn1 (gR S x0 0 2) fun a6 =>
bn1 (gI S a6 1 0) fun v8 =>
(if v8 ≤ x2 then
bn1 (gR S x0 0 2) fun a11 =>
bn1 (gI S a11 1 1) fun v13 =>
bn1 (gR S x0 0 2) fun a15 =>
bn1 (pF S a15 1 1 (.int x1)) fun S17 =>
some (v13, S17)
else
bn1 (gR S x0 0 2) fun a19 =>
bn1 (gR S a19 1 9) fun a21 =>
bn1 (aI S a21 0 x2) fun v23 =>
(if x1 ≤ v23 then
bX0_pictures_54 x0 S
else
bn1 (gR S x0 0 2) fun a26 =>
bn1 (gR S a26 1 10) fun a28 =>
bn1 (aI S a28 0 x2) fun v30 =>
(if v30 < x1 then
nm (x2 + (1 : Int32)) fun y32 =>
k17 x0 x1 y32 S
else
bX0_pictures_54 x0 S)))
def lX0_pictures_17 : Nat → (Nat → Int32 → Int32 → XS → Option (Int32 × XS))
  | 0 => fun _ _ _ _ => none
  | n + 1 => bX0_pictures_17 (lX0_pictures_17 n)
def fX0_pictures (x0 : Nat) (x1 : Int32) (S : XS) : Option (Int32 × XS) :=
bnd (fX0_isIn x1 (1 : Int32) (4 : Int32) S) fun v35 S34 =>
(if v35 = 0 then
chk (isC S34 x0 0) (bnd (fX0_finds x0 (1 : Int32) S34) fun v40 S38 =>
some (v40, S38))
else
lX0_pictures_17 FU x0 x1 (0 : Int32) S34)
set_option maxHeartbeats 4000000 in
set_option maxRecDepth 100000 in
theorem mX0_pictures {l : Launch} {D : va_G} {cA : Nat → ClassId} {A : Nat → Prop} (x0 : Nat) (x1 : Int32) (S : XS) {out : (Int32 × XS)} (h : fX0_pictures x0 x1 S = some out) : Met l yX0_pictures (ws_ yX0_pictures cX0_pictures 3 (some .int)) ({ frames := 1, cells := 0, slots := 0, locals := 22 } : Room) (gPc (xK D cA A) (xP D cA A) A [.ref x0, .int x1] S) (gQi (xK D cA A) (xP D cA A) A out) 0 0 A := by
  refine gMet_z (by decide) (Nat.le_of_ble_eq_true rfl) ?_ xKst
  intro p e s m below meth c Q ls args H locs hC hP hS hl ret
  obtain ⟨hx, hb, hml, hown, hts, hA, hK⟩ := hC
  have hown : s.vm.findClass RX0 = some m.cls := hown
  have hl : lv_has ls 3 [(0, .ref x0), (1, .int x1)] := hl
  have B54 : ∀ (x0 : Nat) (S : XS) (H : Heap) (locs : List Loc) (ls : Array Slot), xP D cA A S H → va_S A s.heap H locs → lv_has ls 3 [(0, .ref x0)] → bX0_pictures_54  x0 S = some out → W p l e ({ frames := 1, cells := 0, slots := 0, locals := 22 } : Room) s m args below meth c H locs 0 0 Q (F0 m 54 ls []) := by
    intro x0 S H locs ls hP hS hl h
    unfold bX0_pictures_54 at h
    refine lv_aload_n hx hb dX0_pictures_54 rfl (lv_at hl 0 rfl) ?_
    refine lv_iconst (v := (3 : Int32)) hx hb dX0_pictures_55 (by decide) ?_
    obtain ⟨g3, h⟩ := chk_some h
    obtain ⟨fg3, g3⟩ := isC_some g3
    obtain ⟨v4, S2, e1, h⟩ := bnd_some h
    refine gci (va_runV (As := [.int (3 : Int32)]) (rest := []) ⟨hx, hb, hml, hown, hts⟩ (mX0_finds (l := l) (D := D) (cA := cA) (A := A) x0 (3 : Int32) S e1) (cwV 1 hts (lw_V q290 q292 qs1 q86 q293) rfl rfl rfl (by decide +kernel) ⟨Nat.le_of_ble_eq_true rfl, Nat.le_of_ble_eq_true rfl⟩) (gPreV xKst hK hA hS hP (x_recv (q := (RX0, TX0, 16)) hK.1 hP rfl g3)) rfl rfl hl.1 rfl (lv_room (Nat.le_of_ble_eq_true rfl)) dX0_pictures_56 ⟨by first | omega | (dsimp only; omega), by first | omega | (dsimp only; omega)⟩) hS (fun H locs hP hS => ?_)
    exact ret _ _ _ _ _ _ dX0_pictures_59 rfl hP hS h
  have L17 : ∀ (n17 : Nat) (x0 : Nat) (x1 : Int32) (x2 : Int32) (S : XS) (H : Heap) (locs : List Loc) (ls : Array Slot), xP D cA A S H → va_S A s.heap H locs → lv_has ls 3 [(0, .ref x0), (1, .int x1), (2, .int x2)] → lX0_pictures_17 n17 x0 x1 x2 S = some out → W p l e ({ frames := 1, cells := 0, slots := 0, locals := 22 } : Room) s m args below meth c H locs 0 0 Q (F0 m 17 ls []) := by
    intro n17
    induction n17 with
    | zero =>
      intro x0 x1 x2 S H locs ls hP hS hl h
      cases h
    | succ n17 ih17 =>
      intro x0 x1 x2 S H locs ls hP hS hl h
      replace h : bX0_pictures_17 (lX0_pictures_17 n17) x0 x1 x2 S = some out := h
      unfold bX0_pictures_17 at h
      refine lv_iload_n hx hb dX0_pictures_17 rfl (lv_at hl 2 rfl) ?_
      refine lv_aload_n hx hb dX0_pictures_18 rfl (lv_at hl 0 rfl) ?_
      obtain ⟨a6, e5, h⟩ := bn1_some h
      refine x_get (C := RX0) (T := TX0) (N := 16) (ci := 0) hx hb hts in_X0 hown hK.1 hP rfl 2 (by decide) (hts _ q231) (fun _ h9 => h9) (gR_some e5) dX0_pictures_19 ?_
      obtain ⟨v8, e7, h⟩ := bn1_some h
      refine x_getN (C := RX1) (T := TX1) (N := 16) (ci := 1) hx hb hts in_X1 hown hK.1 hP rfl 0 (by decide) (hK.2.1 _ q146 rfl) (fun _ h9 => h9) (gI_some e7) dX0_pictures_22 ?_
      refine lv_icmp_ge (tgt := 66) hx hb dX0_pictures_25 (by decide) (fun c9 => ?_) (fun c9 => ?_)
      · have h := ite_t c9 h
        refine lv_aload_n hx hb dX0_pictures_66 rfl (lv_at hl 0 rfl) ?_
        obtain ⟨a11, e10, h⟩ := bn1_some h
        refine x_get (C := RX0) (T := TX0) (N := 16) (ci := 0) hx hb hts in_X0 hown hK.1 hP rfl 2 (by decide) (hts _ q231) (fun _ h9 => h9) (gR_some e10) dX0_pictures_67 ?_
        obtain ⟨v13, e12, h⟩ := bn1_some h
        refine x_getN (C := RX1) (T := TX1) (N := 16) (ci := 1) hx hb hts in_X1 hown hK.1 hP rfl 1 (by decide) (hK.2.1 _ q148 rfl) (fun _ h9 => h9) (gI_some e12) dX0_pictures_70 ?_
        refine lv_istore_n (lv' := [(2, .int v13), (0, .ref x0), (1, .int x1)]) hx hb dX0_pictures_73 rfl hl (by decide) rfl (fun ls hl => ?_)
        refine lv_aload_n hx hb dX0_pictures_74 rfl (lv_at hl 1 rfl) ?_
        obtain ⟨a15, e14, h⟩ := bn1_some h
        refine x_get (C := RX0) (T := TX0) (N := 16) (ci := 0) hx hb hts in_X0 hown hK.1 hP rfl 2 (by decide) (hts _ q231) (fun _ h9 => h9) (gR_some e14) dX0_pictures_75 ?_
        refine lv_iload_n hx hb dX0_pictures_78 rfl (lv_at hl 2 rfl) ?_
        obtain ⟨S17, e16, h⟩ := bn1_some h
        refine x_putN (v := .int x1) (ty := .int) (C := RX1) (T := TX1) (N := 16) (ci := 1) hx hb hts in_X1 tyX1 tyX1_ok nmX1 hown hK.1 hP hS rfl 1 (by decide) (hK.2.1 _ q148 rfl) (fun _ h9 => h9) rfl (by decide +kernel) rfl rfl e16 dX0_pictures_79 (fun H locs hP hS => ?_)
        refine lv_iload_n hx hb dX0_pictures_82 rfl (lv_at hl 0 rfl) ?_
        exact ret _ _ _ _ _ _ dX0_pictures_83 rfl hP hS h
      · have h := ite_f c9 h
        refine lv_aload_n hx hb dX0_pictures_28 rfl (lv_at hl 0 rfl) ?_
        obtain ⟨a19, e18, h⟩ := bn1_some h
        refine x_get (C := RX0) (T := TX0) (N := 16) (ci := 0) hx hb hts in_X0 hown hK.1 hP rfl 2 (by decide) (hts _ q231) (fun _ h9 => h9) (gR_some e18) dX0_pictures_29 ?_
        obtain ⟨a21, e20, h⟩ := bn1_some h
        refine x_getN (C := RX1) (T := TX1) (N := 16) (ci := 1) hx hb hts in_X1 hown hK.1 hP rfl 9 (by decide) (hK.2.1 _ q164 rfl) (fun _ h9 => h9) (gR_some e20) dX0_pictures_32 ?_
        refine lv_iload_n hx hb dX0_pictures_35 rfl (lv_at hl 2 rfl) ?_
        obtain ⟨v23, e22, h⟩ := bn1_some h
        refine x_iald hx hb hK.1 hP e22 dX0_pictures_36 ?_
        refine lv_iload_n hx hb dX0_pictures_37 rfl (lv_at hl 1 rfl) ?_
        refine lv_icmp_ge (tgt := 54) hx hb dX0_pictures_38 (by decide) (fun c24 => ?_) (fun c24 => ?_)
        · have h := ite_t c24 h
          exact B54 x0 S _ _ _ hP hS (lv_sub hl [0] rfl) h
        · have h := ite_f c24 h
          refine lv_aload_n hx hb dX0_pictures_41 rfl (lv_at hl 0 rfl) ?_
          obtain ⟨a26, e25, h⟩ := bn1_some h
          refine x_get (C := RX0) (T := TX0) (N := 16) (ci := 0) hx hb hts in_X0 hown hK.1 hP rfl 2 (by decide) (hts _ q231) (fun _ h9 => h9) (gR_some e25) dX0_pictures_42 ?_
          obtain ⟨a28, e27, h⟩ := bn1_some h
          refine x_getN (C := RX1) (T := TX1) (N := 16) (ci := 1) hx hb hts in_X1 hown hK.1 hP rfl 10 (by decide) (hK.2.1 _ q166 rfl) (fun _ h9 => h9) (gR_some e27) dX0_pictures_45 ?_
          refine lv_iload_n hx hb dX0_pictures_48 rfl (lv_at hl 2 rfl) ?_
          obtain ⟨v30, e29, h⟩ := bn1_some h
          refine x_iald hx hb hK.1 hP e29 dX0_pictures_49 ?_
          refine lv_iload_n hx hb dX0_pictures_50 rfl (lv_at hl 1 rfl) ?_
          refine lv_icmp_lt (tgt := 60) hx hb dX0_pictures_51 (by decide) (fun c31 => ?_) (fun c31 => ?_)
          · have h := ite_t c31 h
            obtain ⟨y32, ey32⟩ : ∃ y : Int32, y = x2 + (1 : Int32) := ⟨_, rfl⟩
            refine lv_iinc (v := y32) (lv' := [(2, .int y32), (0, .ref x0), (1, .int x1)]) hx hb dX0_pictures_60 hl (k := 2) rfl (by rw [ey32]; rfl) (by decide) rfl (fun ls hl => ?_)
            have h := nm_at ey32 h
            refine lv_goto (tgt := 17) hx hb dX0_pictures_63 (by decide) ?_
            exact ih17 x0 x1 y32 S _ _ _ hP hS (lv_sub hl [1, 2, 0] rfl) h
          · have h := ite_f c31 h
            exact B54 x0 S _ _ _ hP hS (lv_sub hl [0] rfl) h
  unfold fX0_pictures at h
  refine lv_iload_n hx hb dX0_pictures_0 rfl (lv_at hl 1 rfl) ?_
  refine lv_iconst (v := (1 : Int32)) hx hb dX0_pictures_1 (by decide) ?_
  refine lv_iconst (v := (4 : Int32)) hx hb dX0_pictures_2 (by decide) ?_
  obtain ⟨v35, S34, e33, h⟩ := bnd_some h
  refine gci (va_runS (As := [.int x1, .int (1 : Int32), .int (4 : Int32)]) (rest := []) ⟨hx, hb, hml, hown, hts⟩ (mX0_isIn (l := l) (D := D) (cA := cA) (A := A) x1 (1 : Int32) (4 : Int32) S e33) (va_cwS 3 hts (lw_S q283 q284 q86 q285) rfl rfl rfl (by decide +kernel) ⟨Nat.le_of_ble_eq_true rfl, Nat.le_of_ble_eq_true rfl⟩) (gPreS xKst hK hA hS hP) rfl rfl hl.1 rfl (lv_room (Nat.le_of_ble_eq_true rfl)) dX0_pictures_3 ⟨by first | omega | (dsimp only; omega), by first | omega | (dsimp only; omega)⟩) hS (fun H locs hP hS => ?_)
  refine lv_if_ne (tgt := 15) hx hb dX0_pictures_6 (by decide) (fun c36 => ?_) (fun c36 => ?_)
  · have h := ite_f c36 h
    refine lv_iconst (v := (0 : Int32)) hx hb dX0_pictures_15 (by decide) ?_
    refine lv_istore_n (lv' := [(2, .int (0 : Int32)), (0, .ref x0), (1, .int x1)]) hx hb dX0_pictures_16 rfl hl (by decide) rfl (fun ls hl => ?_)
    exact L17 FU x0 x1 (0 : Int32) S34 _ _ _ hP hS (lv_sub hl [1, 2, 0] rfl) h
  · have h := ite_t c36 h
    refine lv_aload_n hx hb dX0_pictures_9 rfl (lv_at hl 0 rfl) ?_
    refine lv_iconst (v := (1 : Int32)) hx hb dX0_pictures_10 (by decide) ?_
    obtain ⟨g39, h⟩ := chk_some h
    obtain ⟨fg39, g39⟩ := isC_some g39
    obtain ⟨v40, S38, e37, h⟩ := bnd_some h
    refine gci (va_runV (As := [.int (1 : Int32)]) (rest := []) ⟨hx, hb, hml, hown, hts⟩ (mX0_finds (l := l) (D := D) (cA := cA) (A := A) x0 (1 : Int32) S34 e37) (cwV 1 hts (lw_V q290 q292 qs1 q86 q293) rfl rfl rfl (by decide +kernel) ⟨Nat.le_of_ble_eq_true rfl, Nat.le_of_ble_eq_true rfl⟩) (gPreV xKst hK hA hS hP (x_recv (q := (RX0, TX0, 16)) hK.1 hP rfl g39)) rfl rfl hl.1 rfl (lv_room (Nat.le_of_ble_eq_true rfl)) dX0_pictures_11 ⟨by first | omega | (dsimp only; omega), by first | omega | (dsimp only; omega)⟩) hS (fun H locs hP hS => ?_)
    exact ret _ _ _ _ _ _ dX0_pictures_14 rfl hP hS h

def bX0_place_17 (x0 : Nat) (S : XS) : Option (Int64 × XS) :=
chk (isC S x0 0) (bnd (fX0_finds x0 (1 : Int32) S) fun v4 S2 =>
some (((v4).toInt64), S2))
def bX0_place_54 (x0 : Nat) (t0 : Int64) (S : XS) : Option (Int64 × XS) :=
some (t0, S)
def fX0_place (x0 : Nat) (x1 : Int32) (x2 : Int32) (S : XS) : Option (Int64 × XS) :=
chk (isC S x0 0) (bnd (fX0_isPicture x0 x1 S) fun v8 S6 =>
(if v8 = 0 then
bX0_place_17 x0 S6
else
bnd (fX0_isIn x2 (0 : Int32) (1 : Int32) S6) fun v12 S11 =>
(if v12 = 0 then
bX0_place_17 x0 S11
else
chk (isC S11 x0 0) (bnd (fX0_isSolved x0 S11) fun v17 S15 =>
(if v17 = 0 then
chk (isC S15 x0 0) (bnd (fX0_finds x0 (3 : Int32) S15) fun v22 S20 =>
bX0_place_54 x0 ((v22).toInt64) S20)
else
bn1 (gR S15 x0 0 11) fun a24 =>
bn1 (aL S15 a24 x1) fun v26 =>
bn1 (gL S15 x0 0 14) fun v28 =>
bnd (fX0_part v26 v28 x2 S15) fun v31 S30 =>
bX0_place_54 x0 v31 S30)))))
set_option maxHeartbeats 4000000 in
set_option maxRecDepth 100000 in
theorem mX0_place {l : Launch} {D : va_G} {cA : Nat → ClassId} {A : Nat → Prop} (x0 : Nat) (x1 : Int32) (x2 : Int32) (S : XS) {out : (Int64 × XS)} (h : fX0_place x0 x1 x2 S = some out) : Met l yX0_place (ws_ yX0_place cX0_place 3 (some .long)) ({ frames := 5, cells := 0, slots := 0, locals := 153 } : Room) (gPc (xK D cA A) (xP D cA A) A [.ref x0, .int x1, .int x2] S) (gQl (xK D cA A) (xP D cA A) A out) 0 0 A := by
  refine gMet_l (by decide) (Nat.le_of_ble_eq_true rfl) ?_ xKst
  intro p e s m below meth c Q ls args H locs hC hP hS hl ret
  obtain ⟨hx, hb, hml, hown, hts, hA, hK⟩ := hC
  have hown : s.vm.findClass RX0 = some m.cls := hown
  have hl : lv_has ls 3 [(0, .ref x0), (1, .int x1), (2, .int x2)] := hl
  have B17 : ∀ (x0 : Nat) (S : XS) (H : Heap) (locs : List Loc) (ls : Array Slot), xP D cA A S H → va_S A s.heap H locs → lv_has ls 3 [(0, .ref x0)] → bX0_place_17  x0 S = some out → W p l e ({ frames := 5, cells := 0, slots := 0, locals := 153 } : Room) s m args below meth c H locs 0 0 Q (F0 m 17 ls []) := by
    intro x0 S H locs ls hP hS hl h
    unfold bX0_place_17 at h
    refine lv_aload_n hx hb dX0_place_17 rfl (lv_at hl 0 rfl) ?_
    refine lv_iconst (v := (1 : Int32)) hx hb dX0_place_18 (by decide) ?_
    obtain ⟨g3, h⟩ := chk_some h
    obtain ⟨fg3, g3⟩ := isC_some g3
    obtain ⟨v4, S2, e1, h⟩ := bnd_some h
    refine gci (va_runV (As := [.int (1 : Int32)]) (rest := []) ⟨hx, hb, hml, hown, hts⟩ (mX0_finds (l := l) (D := D) (cA := cA) (A := A) x0 (1 : Int32) S e1) (cwV 1 hts (lw_V q290 q292 qs1 q86 q293) rfl rfl rfl (by decide +kernel) ⟨Nat.le_of_ble_eq_true rfl, Nat.le_of_ble_eq_true rfl⟩) (gPreV xKst hK hA hS hP (x_recv (q := (RX0, TX0, 16)) hK.1 hP rfl g3)) rfl rfl hl.1 rfl (lv_room (Nat.le_of_ble_eq_true rfl)) dX0_place_19 ⟨by first | omega | (dsimp only; omega), by first | omega | (dsimp only; omega)⟩) hS (fun H locs hP hS => ?_)
    refine lv_i2l hx hb dX0_place_22 rfl ?_
    exact ret _ _ _ _ _ _ dX0_place_23 hP hS h
  have B54 : ∀ (x0 : Nat) (t0 : Int64) (S : XS) (H : Heap) (locs : List Loc) (ls : Array Slot), xP D cA A S H → va_S A s.heap H locs → lv_has ls 3 [(0, .ref x0)] → bX0_place_54  x0 t0 S = some out → W p l e ({ frames := 5, cells := 0, slots := 0, locals := 153 } : Room) s m args below meth c H locs 0 0 Q (F0 m 54 ls [.long t0]) := by
    intro x0 t0 S H locs ls hP hS hl h
    unfold bX0_place_54 at h
    exact ret _ _ _ _ _ _ dX0_place_54 hP hS h
  unfold fX0_place at h
  refine lv_aload_n hx hb dX0_place_0 rfl (lv_at hl 0 rfl) ?_
  refine lv_iload_n hx hb dX0_place_1 rfl (lv_at hl 1 rfl) ?_
  obtain ⟨g7, h⟩ := chk_some h
  obtain ⟨fg7, g7⟩ := isC_some g7
  obtain ⟨v8, S6, e5, h⟩ := bnd_some h
  refine gci (va_runV (As := [.int x1]) (rest := []) ⟨hx, hb, hml, hown, hts⟩ (mX0_isPicture (l := l) (D := D) (cA := cA) (A := A) x0 x1 S e5) (cwV 1 hts (lw_V q286 q288 qs0 q86 q289) rfl rfl rfl (by decide +kernel) ⟨Nat.le_of_ble_eq_true rfl, Nat.le_of_ble_eq_true rfl⟩) (gPreV xKst hK hA hS hP (x_recv (q := (RX0, TX0, 16)) hK.1 hP rfl g7)) rfl rfl hl.1 rfl (lv_room (Nat.le_of_ble_eq_true rfl)) dX0_place_2 ⟨by first | omega | (dsimp only; omega), by first | omega | (dsimp only; omega)⟩) hS (fun H locs hP hS => ?_)
  refine lv_if_eq (tgt := 17) hx hb dX0_place_5 (by decide) (fun c9 => ?_) (fun c9 => ?_)
  · have h := ite_t c9 h
    exact B17 x0 S6 _ _ _ hP hS (lv_sub hl [0] rfl) h
  · have h := ite_f c9 h
    refine lv_iload_n hx hb dX0_place_8 rfl (lv_at hl 2 rfl) ?_
    refine lv_iconst (v := (0 : Int32)) hx hb dX0_place_9 (by decide) ?_
    refine lv_iconst (v := (1 : Int32)) hx hb dX0_place_10 (by decide) ?_
    obtain ⟨v12, S11, e10, h⟩ := bnd_some h
    refine gci (va_runS (As := [.int x2, .int (0 : Int32), .int (1 : Int32)]) (rest := []) ⟨hx, hb, hml, hown, hts⟩ (mX0_isIn (l := l) (D := D) (cA := cA) (A := A) x2 (0 : Int32) (1 : Int32) S6 e10) (va_cwS 3 hts (lw_S q283 q284 q86 q285) rfl rfl rfl (by decide +kernel) ⟨Nat.le_of_ble_eq_true rfl, Nat.le_of_ble_eq_true rfl⟩) (gPreS xKst hK hA hS hP) rfl rfl hl.1 rfl (lv_room (Nat.le_of_ble_eq_true rfl)) dX0_place_11 ⟨by first | omega | (dsimp only; omega), by first | omega | (dsimp only; omega)⟩) hS (fun H locs hP hS => ?_)
    refine lv_if_ne (tgt := 24) hx hb dX0_place_14 (by decide) (fun c13 => ?_) (fun c13 => ?_)
    · have h := ite_f c13 h
      refine lv_aload_n hx hb dX0_place_24 rfl (lv_at hl 0 rfl) ?_
      obtain ⟨g16, h⟩ := chk_some h
      obtain ⟨fg16, g16⟩ := isC_some g16
      obtain ⟨v17, S15, e14, h⟩ := bnd_some h
      refine gci (va_runV (As := []) (rest := []) ⟨hx, hb, hml, hown, hts⟩ (mX0_isSolved (l := l) (D := D) (cA := cA) (A := A) x0 S11 e14) (cwV 0 hts (lw_V q885 q887 qs22 q86 q888) rfl rfl rfl (by decide +kernel) ⟨Nat.le_of_ble_eq_true rfl, Nat.le_of_ble_eq_true rfl⟩) (gPreV xKst hK hA hS hP (x_recv (q := (RX0, TX0, 16)) hK.1 hP rfl g16)) rfl rfl hl.1 rfl (lv_room (Nat.le_of_ble_eq_true rfl)) dX0_place_25 ⟨by first | omega | (dsimp only; omega), by first | omega | (dsimp only; omega)⟩) hS (fun H locs hP hS => ?_)
      refine lv_if_eq (tgt := 48) hx hb dX0_place_28 (by decide) (fun c18 => ?_) (fun c18 => ?_)
      · have h := ite_t c18 h
        refine lv_aload_n hx hb dX0_place_48 rfl (lv_at hl 0 rfl) ?_
        refine lv_iconst (v := (3 : Int32)) hx hb dX0_place_49 (by decide) ?_
        obtain ⟨g21, h⟩ := chk_some h
        obtain ⟨fg21, g21⟩ := isC_some g21
        obtain ⟨v22, S20, e19, h⟩ := bnd_some h
        refine gci (va_runV (As := [.int (3 : Int32)]) (rest := []) ⟨hx, hb, hml, hown, hts⟩ (mX0_finds (l := l) (D := D) (cA := cA) (A := A) x0 (3 : Int32) S15 e19) (cwV 1 hts (lw_V q290 q292 qs1 q86 q293) rfl rfl rfl (by decide +kernel) ⟨Nat.le_of_ble_eq_true rfl, Nat.le_of_ble_eq_true rfl⟩) (gPreV xKst hK hA hS hP (x_recv (q := (RX0, TX0, 16)) hK.1 hP rfl g21)) rfl rfl hl.1 rfl (lv_room (Nat.le_of_ble_eq_true rfl)) dX0_place_50 ⟨by first | omega | (dsimp only; omega), by first | omega | (dsimp only; omega)⟩) hS (fun H locs hP hS => ?_)
        refine lv_i2l hx hb dX0_place_53 rfl ?_
        exact B54 x0 ((v22).toInt64) S20 _ _ _ hP hS (lv_sub hl [0] rfl) h
      · have h := ite_f c18 h
        refine lv_aload_n hx hb dX0_place_31 rfl (lv_at hl 0 rfl) ?_
        obtain ⟨a24, e23, h⟩ := bn1_some h
        refine x_get (C := RX0) (T := TX0) (N := 16) (ci := 0) hx hb hts in_X0 hown hK.1 hP rfl 11 (by decide) (hts _ q240) (fun _ h9 => h9) (gR_some e23) dX0_place_32 ?_
        refine lv_iload_n hx hb dX0_place_35 rfl (lv_at hl 1 rfl) ?_
        obtain ⟨v26, e25, h⟩ := bn1_some h
        refine x_lald hx hb hK.1 hP e25 dX0_place_36 ?_
        refine lv_aload_n hx hb dX0_place_37 rfl (lv_at hl 0 rfl) ?_
        obtain ⟨v28, e27, h⟩ := bn1_some h
        refine x_get (C := RX0) (T := TX0) (N := 16) (ci := 0) hx hb hts in_X0 hown hK.1 hP rfl 14 (by decide) (hts _ q243) (fun _ h9 => h9) (gL_some e27) dX0_place_38 ?_
        refine lv_iload_n hx hb dX0_place_41 rfl (lv_at hl 2 rfl) ?_
        obtain ⟨v31, S30, e29, h⟩ := bnd_some h
        refine gcl (va_runS (As := [.long v26, .long v28, .int x2]) (rest := []) ⟨hx, hb, hml, hown, hts⟩ (mX0_part (l := l) (D := D) (cA := cA) (A := A) v26 v28 x2 S15 e29) (va_cwS 3 hts (lw_S q950 q951 q86 q952) rfl rfl rfl (by decide +kernel) ⟨Nat.le_of_ble_eq_true rfl, Nat.le_of_ble_eq_true rfl⟩) (gPreS xKst hK hA hS hP) rfl rfl hl.1 rfl (lv_room (Nat.le_of_ble_eq_true rfl)) dX0_place_42 ⟨by first | omega | (dsimp only; omega), by first | omega | (dsimp only; omega)⟩) hS (fun H locs hP hS => ?_)
        refine lv_goto (tgt := 54) hx hb dX0_place_45 (by decide) ?_
        exact B54 x0 v31 S30 _ _ _ hP hS (lv_sub hl [0] rfl) h
    · have h := ite_t c13 h
      exact B17 x0 S11 _ _ _ hP hS (lv_sub hl [0] rfl) h

def bX0_put_104 (x0 : Nat) (S : XS) : Option (Int32 × XS) :=
some ((1 : Int32), S)
def fX0_put (x0 : Nat) (x1 : Int32) (x2 : Int32) (x3 : Int32) (S : XS) : Option (Int32 × XS) :=
bnd (fX0_isSheet x1 S) fun v3 S2 =>
(if v3 = 0 then
chk (isC S2 x0 0) (bnd (fX0_finds x0 (1 : Int32) S2) fun v45 S43 =>
some (v45, S43))
else
bn1 (gR S2 x0 0 7) fun a6 =>
bn1 (aR S2 a6 4 x1) fun a8 =>
bn1 (gQ S2 a8 2 0) fun a10 =>
nlc a10 (
chk (isC S2 x0 0) (bnd (fX0_finds x0 (2 : Int32) S2) fun v15 S13 =>
some (v15, S13))) fun a11 =>
bnd (fX0_sizeOf a11 S2) fun v18 S17 =>
bnd (fX0_isIn x2 (0 : Int32) (v18 - (1 : Int32)) S17) fun v21 S20 =>
(if v21 = 0 then
chk (isC S20 x0 0) (bnd (fX0_finds x0 (1 : Int32) S20) fun v41 S39 =>
some (v41, S39))
else
bn1 (insA S20 a11 1) fun v23 =>
(if v23 = 0 then
bn1 (insA S20 a11 2) fun v26 =>
(if v26 = 0 then
chk (isA S20 a11 0) (bn1 (sI S20 a11 0 x2 x3) fun S31 =>
bX0_put_104 x0 S31)
else
chk (isA S20 a11 2) (bn1 (sI S20 a11 2 x2 ((x3).toInt16.toInt32)) fun S34 =>
bX0_put_104 x0 S34))
else
chk (isA S20 a11 1) (bn1 (sI S20 a11 1 x2 ((x3).toInt8.toInt32)) fun S37 =>
bX0_put_104 x0 S37))))
set_option maxHeartbeats 4000000 in
set_option maxRecDepth 100000 in
theorem mX0_put {l : Launch} {D : va_G} {cA : Nat → ClassId} {A : Nat → Prop} (x0 : Nat) (x1 : Int32) (x2 : Int32) (x3 : Int32) (S : XS) {out : (Int32 × XS)} (h : fX0_put x0 x1 x2 x3 S = some out) : Met l yX0_put (ws_ yX0_put cX0_put 5 (some .int)) ({ frames := 2, cells := 0, slots := 0, locals := 42 } : Room) (gPc (xK D cA A) (xP D cA A) A [.ref x0, .int x1, .int x2, .int x3] S) (gQi (xK D cA A) (xP D cA A) A out) 0 0 A := by
  refine gMet_z (by decide) (Nat.le_of_ble_eq_true rfl) ?_ xKst
  intro p e s m below meth c Q ls args H locs hC hP hS hl ret
  obtain ⟨hx, hb, hml, hown, hts, hA, hK⟩ := hC
  have hown : s.vm.findClass RX0 = some m.cls := hown
  have hl : lv_has ls 5 [(0, .ref x0), (1, .int x1), (2, .int x2), (3, .int x3)] := hl
  have B104 : ∀ (x0 : Nat) (S : XS) (H : Heap) (locs : List Loc) (ls : Array Slot), xP D cA A S H → va_S A s.heap H locs → lv_has ls 5 [(0, .ref x0)] → bX0_put_104  x0 S = some out → W p l e ({ frames := 2, cells := 0, slots := 0, locals := 42 } : Room) s m args below meth c H locs 0 0 Q (F0 m 104 ls []) := by
    intro x0 S H locs ls hP hS hl h
    unfold bX0_put_104 at h
    refine lv_iconst (v := (1 : Int32)) hx hb dX0_put_104 (by decide) ?_
    exact ret _ _ _ _ _ _ dX0_put_105 rfl hP hS h
  unfold fX0_put at h
  refine lv_iload_n hx hb dX0_put_0 rfl (lv_at hl 1 rfl) ?_
  obtain ⟨v3, S2, e1, h⟩ := bnd_some h
  refine gci (va_runS (As := [.int x1]) (rest := []) ⟨hx, hb, hml, hown, hts⟩ (mX0_isSheet (l := l) (D := D) (cA := cA) (A := A) x1 S e1) (va_cwS 1 hts (lw_S q1011 q1012 q86 q1013) rfl rfl rfl (by decide +kernel) ⟨Nat.le_of_ble_eq_true rfl, Nat.le_of_ble_eq_true rfl⟩) (gPreS xKst hK hA hS hP) rfl rfl hl.1 rfl (lv_room (Nat.le_of_ble_eq_true rfl)) dX0_put_1 ⟨by first | omega | (dsimp only; omega), by first | omega | (dsimp only; omega)⟩) hS (fun H locs hP hS => ?_)
  refine lv_if_ne (tgt := 13) hx hb dX0_put_4 (by decide) (fun c4 => ?_) (fun c4 => ?_)
  · have h := ite_f c4 h
    refine lv_aload_n hx hb dX0_put_13 rfl (lv_at hl 0 rfl) ?_
    obtain ⟨a6, e5, h⟩ := bn1_some h
    refine x_get (C := RX0) (T := TX0) (N := 16) (ci := 0) hx hb hts in_X0 hown hK.1 hP rfl 7 (by decide) (hts _ q236) (fun _ h9 => h9) (gR_some e5) dX0_put_14 ?_
    refine lv_iload_n hx hb dX0_put_17 rfl (lv_at hl 1 rfl) ?_
    obtain ⟨a8, e7, h⟩ := bn1_some h
    refine x_aldr (t := 4) hx hb hK.1 hP (by decide) e7 dX0_put_18 ?_
    obtain ⟨a10, e9, h⟩ := bn1_some h
    refine x_getN (C := RX2) (T := TX2) (N := 1) (ci := 2) hx hb hts in_X2 hown hK.1 hP rfl 0 (by decide) (hK.2.1 _ q139 rfl) (fun _ h9 => h9) (gQ_some e9) dX0_put_19 ?_
    refine x_astore (lv' := [(4, va_rf a10), (0, .ref x0), (1, .int x1), (2, .int x2), (3, .int x3)]) hx hb dX0_put_22 hl (by decide) rfl (fun ls hl => ?_)
    refine x_aload hx hb dX0_put_24 (lv_at hl 0 rfl) ?_
    cases a10 with
    | none =>
      replace h := nlc_n h
      refine lv_ifnonnullN hx hb dX0_put_26 ?_
      refine lv_aload_n hx hb dX0_put_29 rfl (lv_at hl 1 rfl) ?_
      refine lv_iconst (v := (2 : Int32)) hx hb dX0_put_30 (by decide) ?_
      obtain ⟨g14, h⟩ := chk_some h
      obtain ⟨fg14, g14⟩ := isC_some g14
      obtain ⟨v15, S13, e12, h⟩ := bnd_some h
      refine gci (va_runV (As := [.int (2 : Int32)]) (rest := []) ⟨hx, hb, hml, hown, hts⟩ (mX0_finds (l := l) (D := D) (cA := cA) (A := A) x0 (2 : Int32) S2 e12) (cwV 1 hts (lw_V q290 q292 qs1 q86 q293) rfl rfl rfl (by decide +kernel) ⟨Nat.le_of_ble_eq_true rfl, Nat.le_of_ble_eq_true rfl⟩) (gPreV xKst hK hA hS hP (x_recv (q := (RX0, TX0, 16)) hK.1 hP rfl g14)) rfl rfl hl.1 rfl (lv_room (Nat.le_of_ble_eq_true rfl)) dX0_put_31 ⟨by first | omega | (dsimp only; omega), by first | omega | (dsimp only; omega)⟩) hS (fun H locs hP hS => ?_)
      exact ret _ _ _ _ _ _ dX0_put_34 rfl hP hS h
    | some a11 =>
      replace h := nlc_s h
      refine lv_ifnonnull (tgt := 35) hx hb dX0_put_26 (by decide) ?_
      refine lv_iload_n hx hb dX0_put_35 rfl (lv_at hl 3 rfl) ?_
      refine lv_iconst (v := (0 : Int32)) hx hb dX0_put_36 (by decide) ?_
      refine lv_aload hx hb dX0_put_37 (lv_at hl 0 rfl) ?_
      obtain ⟨v18, S17, e16, h⟩ := bnd_some h
      refine gci (va_runS (As := [.ref a11]) (rest := [.int (0 : Int32), .int x2]) ⟨hx, hb, hml, hown, hts⟩ (mX0_sizeOf (l := l) (D := D) (cA := cA) (A := A) a11 S2 e16) (va_cwS 1 hts (lw_S q1014 q1015 q86 q1016) rfl rfl rfl (by decide +kernel) ⟨Nat.le_of_ble_eq_true rfl, Nat.le_of_ble_eq_true rfl⟩) (gPreS xKst hK hA hS hP) rfl rfl hl.1 rfl (lv_room (Nat.le_of_ble_eq_true rfl)) dX0_put_39 ⟨by first | omega | (dsimp only; omega), by first | omega | (dsimp only; omega)⟩) hS (fun H locs hP hS => ?_)
      refine lv_iconst (v := (1 : Int32)) hx hb dX0_put_42 (by decide) ?_
      refine lv_isub hx hb dX0_put_43 ?_
      obtain ⟨v21, S20, e19, h⟩ := bnd_some h
      refine gci (va_runS (As := [.int x2, .int (0 : Int32), .int (v18 - (1 : Int32))]) (rest := []) ⟨hx, hb, hml, hown, hts⟩ (mX0_isIn (l := l) (D := D) (cA := cA) (A := A) x2 (0 : Int32) (v18 - (1 : Int32)) S17 e19) (va_cwS 3 hts (lw_S q283 q284 q86 q285) rfl rfl rfl (by decide +kernel) ⟨Nat.le_of_ble_eq_true rfl, Nat.le_of_ble_eq_true rfl⟩) (gPreS xKst hK hA hS hP) rfl rfl hl.1 rfl (lv_room (Nat.le_of_ble_eq_true rfl)) dX0_put_44 ⟨by first | omega | (dsimp only; omega), by first | omega | (dsimp only; omega)⟩) hS (fun H locs hP hS => ?_)
      refine lv_if_ne (tgt := 56) hx hb dX0_put_47 (by decide) (fun c22 => ?_) (fun c22 => ?_)
      · have h := ite_f c22 h
        refine lv_aload hx hb dX0_put_56 (lv_at hl 0 rfl) ?_
        obtain ⟨v23, e24, h⟩ := bn1_some h
        refine x_insA1 hx hb hown (hts _ q1017) hK hP e24 dX0_put_58 ?_
        refine lv_if_eq (tgt := 76) hx hb dX0_put_61 (by decide) (fun c25 => ?_) (fun c25 => ?_)
        · have h := ite_t c25 h
          refine lv_aload hx hb dX0_put_76 (lv_at hl 0 rfl) ?_
          obtain ⟨v26, e27, h⟩ := bn1_some h
          refine x_insA2 hx hb hown (hts _ q1018) hK hP e27 dX0_put_78 ?_
          refine lv_if_eq (tgt := 96) hx hb dX0_put_81 (by decide) (fun c28 => ?_) (fun c28 => ?_)
          · have h := ite_t c28 h
            refine lv_aload hx hb dX0_put_96 (lv_at hl 0 rfl) ?_
            obtain ⟨g29, h⟩ := chk_some h
            refine x_castA0 hx hb hown (hts _ q1019) hK hP g29 dX0_put_98 ?_
            refine lv_iload_n hx hb dX0_put_101 rfl (lv_at hl 3 rfl) ?_
            refine lv_iload_n hx hb dX0_put_102 rfl (lv_at hl 4 rfl) ?_
            obtain ⟨S31, e30, h⟩ := bn1_some h
            refine x_iast hx hb hK.1 hP hS e30 dX0_put_103 (fun H locs hP hS => ?_)
            exact B104 x0 S31 _ _ _ hP hS (lv_sub hl [1] rfl) h
          · have h := ite_f c28 h
            refine lv_aload hx hb dX0_put_84 (lv_at hl 0 rfl) ?_
            obtain ⟨g32, h⟩ := chk_some h
            refine x_castA2 hx hb hown (hts _ q1018) hK hP g32 dX0_put_86 ?_
            refine lv_iload_n hx hb dX0_put_89 rfl (lv_at hl 3 rfl) ?_
            refine lv_iload_n hx hb dX0_put_90 rfl (lv_at hl 4 rfl) ?_
            refine lv_i2s hx hb dX0_put_91 rfl ?_
            obtain ⟨S34, e33, h⟩ := bn1_some h
            refine x_sast hx hb hK.1 hP hS e33 dX0_put_92 (fun H locs hP hS => ?_)
            refine lv_goto (tgt := 104) hx hb dX0_put_93 (by decide) ?_
            exact B104 x0 S34 _ _ _ hP hS (lv_sub hl [1] rfl) h
        · have h := ite_f c25 h
          refine lv_aload hx hb dX0_put_64 (lv_at hl 0 rfl) ?_
          obtain ⟨g35, h⟩ := chk_some h
          refine x_castA1 hx hb hown (hts _ q1017) hK hP g35 dX0_put_66 ?_
          refine lv_iload_n hx hb dX0_put_69 rfl (lv_at hl 3 rfl) ?_
          refine lv_iload_n hx hb dX0_put_70 rfl (lv_at hl 4 rfl) ?_
          refine lv_i2b hx hb dX0_put_71 rfl ?_
          obtain ⟨S37, e36, h⟩ := bn1_some h
          refine x_bast hx hb hK.1 hP hS e36 dX0_put_72 (fun H locs hP hS => ?_)
          refine lv_goto (tgt := 104) hx hb dX0_put_73 (by decide) ?_
          exact B104 x0 S37 _ _ _ hP hS (lv_sub hl [1] rfl) h
      · have h := ite_t c22 h
        refine lv_aload_n hx hb dX0_put_50 rfl (lv_at hl 1 rfl) ?_
        refine lv_iconst (v := (1 : Int32)) hx hb dX0_put_51 (by decide) ?_
        obtain ⟨g40, h⟩ := chk_some h
        obtain ⟨fg40, g40⟩ := isC_some g40
        obtain ⟨v41, S39, e38, h⟩ := bnd_some h
        refine gci (va_runV (As := [.int (1 : Int32)]) (rest := []) ⟨hx, hb, hml, hown, hts⟩ (mX0_finds (l := l) (D := D) (cA := cA) (A := A) x0 (1 : Int32) S20 e38) (cwV 1 hts (lw_V q290 q292 qs1 q86 q293) rfl rfl rfl (by decide +kernel) ⟨Nat.le_of_ble_eq_true rfl, Nat.le_of_ble_eq_true rfl⟩) (gPreV xKst hK hA hS hP (x_recv (q := (RX0, TX0, 16)) hK.1 hP rfl g40)) rfl rfl hl.1 rfl (lv_room (Nat.le_of_ble_eq_true rfl)) dX0_put_52 ⟨by first | omega | (dsimp only; omega), by first | omega | (dsimp only; omega)⟩) hS (fun H locs hP hS => ?_)
        exact ret _ _ _ _ _ _ dX0_put_55 rfl hP hS h
  · have h := ite_t c4 h
    refine lv_aload_n hx hb dX0_put_7 rfl (lv_at hl 0 rfl) ?_
    refine lv_iconst (v := (1 : Int32)) hx hb dX0_put_8 (by decide) ?_
    obtain ⟨g44, h⟩ := chk_some h
    obtain ⟨fg44, g44⟩ := isC_some g44
    obtain ⟨v45, S43, e42, h⟩ := bnd_some h
    refine gci (va_runV (As := [.int (1 : Int32)]) (rest := []) ⟨hx, hb, hml, hown, hts⟩ (mX0_finds (l := l) (D := D) (cA := cA) (A := A) x0 (1 : Int32) S2 e42) (cwV 1 hts (lw_V q290 q292 qs1 q86 q293) rfl rfl rfl (by decide +kernel) ⟨Nat.le_of_ble_eq_true rfl, Nat.le_of_ble_eq_true rfl⟩) (gPreV xKst hK hA hS hP (x_recv (q := (RX0, TX0, 16)) hK.1 hP rfl g44)) rfl rfl hl.1 rfl (lv_room (Nat.le_of_ble_eq_true rfl)) dX0_put_9 ⟨by first | omega | (dsimp only; omega), by first | omega | (dsimp only; omega)⟩) hS (fun H locs hP hS => ?_)
    exact ret _ _ _ _ _ _ dX0_put_12 rfl hP hS h

def fX0_restore (x0 : Nat) (S : XS) : Option (Int32 × XS) :=
bn1 (gI S x0 0 15) fun v2 =>
(if v2 = 0 then
chk (isC S x0 0) (bnd (fX0_finds x0 (2 : Int32) S) fun v18 S16 =>
some (v18, S16))
else
bn1 (gR S x0 0 2) fun a5 =>
bn1 (gR S x0 0 3) fun a7 =>
chk (isC S a5 1) (bn1 (fX1_follows a5 a7 S) fun S9 =>
bn1 (gR S9 x0 0 2) fun a12 =>
bn1 (gI S9 a12 1 2) fun v14 =>
some (v14, S9)))
set_option maxHeartbeats 4000000 in
set_option maxRecDepth 100000 in
theorem mX0_restore {l : Launch} {D : va_G} {cA : Nat → ClassId} {A : Nat → Prop} (x0 : Nat) (S : XS) {out : (Int32 × XS)} (h : fX0_restore x0 S = some out) : Met l yX0_restore (ws_ yX0_restore cX0_restore 1 (some .int)) ({ frames := 2, cells := 0, slots := 0, locals := 82 } : Room) (gPc (xK D cA A) (xP D cA A) A [.ref x0] S) (gQi (xK D cA A) (xP D cA A) A out) 0 0 A := by
  refine gMet_z (by decide) (Nat.le_of_ble_eq_true rfl) ?_ xKst
  intro p e s m below meth c Q ls args H locs hC hP hS hl ret
  obtain ⟨hx, hb, hml, hown, hts, hA, hK⟩ := hC
  have hown : s.vm.findClass RX0 = some m.cls := hown
  have hl : lv_has ls 1 [(0, .ref x0)] := hl
  unfold fX0_restore at h
  refine lv_aload_n hx hb dX0_restore_0 rfl (lv_at hl 0 rfl) ?_
  obtain ⟨v2, e1, h⟩ := bn1_some h
  refine x_get (C := RX0) (T := TX0) (N := 16) (ci := 0) hx hb hts in_X0 hown hK.1 hP rfl 15 (by decide) (hts _ q244) (fun _ h9 => h9) (gI_some e1) dX0_restore_1 ?_
  refine lv_if_ne (tgt := 13) hx hb dX0_restore_4 (by decide) (fun c3 => ?_) (fun c3 => ?_)
  · have h := ite_f c3 h
    refine lv_aload_n hx hb dX0_restore_13 rfl (lv_at hl 0 rfl) ?_
    obtain ⟨a5, e4, h⟩ := bn1_some h
    refine x_get (C := RX0) (T := TX0) (N := 16) (ci := 0) hx hb hts in_X0 hown hK.1 hP rfl 2 (by decide) (hts _ q231) (fun _ h9 => h9) (gR_some e4) dX0_restore_14 ?_
    refine lv_aload_n hx hb dX0_restore_17 rfl (lv_at hl 0 rfl) ?_
    obtain ⟨a7, e6, h⟩ := bn1_some h
    refine x_get (C := RX0) (T := TX0) (N := 16) (ci := 0) hx hb hts in_X0 hown hK.1 hP rfl 3 (by decide) (hts _ q232) (fun _ h9 => h9) (gR_some e6) dX0_restore_18 ?_
    obtain ⟨g10, h⟩ := chk_some h
    obtain ⟨fg10, g10⟩ := isC_some g10
    obtain ⟨S9, e8, h⟩ := bn1_some h
    refine gc_v (va_runV (As := [.ref a7]) (rest := []) ⟨hx, hb, hml, hown, hts⟩ (mX1_follows (l := l) (D := D) (cA := cA) (A := A) a5 a7 S e8) (cwV 1 hts (lw_V q984 q985 q986 q87 q987) rfl rfl rfl (by decide +kernel) ⟨Nat.le_of_ble_eq_true rfl, Nat.le_of_ble_eq_true rfl⟩) (gPreV xKst hK hA hS hP (x_recv (q := (RX1, TX1, 16)) hK.1 hP rfl g10)) rfl rfl hl.1 rfl (lv_room (Nat.le_of_ble_eq_true rfl)) dX0_restore_21 ⟨by first | omega | (dsimp only; omega), by first | omega | (dsimp only; omega)⟩) hS (fun H locs hP hS => ?_)
    refine lv_aload_n hx hb dX0_restore_24 rfl (lv_at hl 0 rfl) ?_
    obtain ⟨a12, e11, h⟩ := bn1_some h
    refine x_get (C := RX0) (T := TX0) (N := 16) (ci := 0) hx hb hts in_X0 hown hK.1 hP rfl 2 (by decide) (hts _ q231) (fun _ h9 => h9) (gR_some e11) dX0_restore_25 ?_
    obtain ⟨v14, e13, h⟩ := bn1_some h
    refine x_getN (C := RX1) (T := TX1) (N := 16) (ci := 1) hx hb hts in_X1 hown hK.1 hP rfl 2 (by decide) (hK.2.1 _ q150 rfl) (fun _ h9 => h9) (gI_some e13) dX0_restore_28 ?_
    exact ret _ _ _ _ _ _ dX0_restore_31 rfl hP hS h
  · have h := ite_t c3 h
    refine lv_aload_n hx hb dX0_restore_7 rfl (lv_at hl 0 rfl) ?_
    refine lv_iconst (v := (2 : Int32)) hx hb dX0_restore_8 (by decide) ?_
    obtain ⟨g17, h⟩ := chk_some h
    obtain ⟨fg17, g17⟩ := isC_some g17
    obtain ⟨v18, S16, e15, h⟩ := bnd_some h
    refine gci (va_runV (As := [.int (2 : Int32)]) (rest := []) ⟨hx, hb, hml, hown, hts⟩ (mX0_finds (l := l) (D := D) (cA := cA) (A := A) x0 (2 : Int32) S e15) (cwV 1 hts (lw_V q290 q292 qs1 q86 q293) rfl rfl rfl (by decide +kernel) ⟨Nat.le_of_ble_eq_true rfl, Nat.le_of_ble_eq_true rfl⟩) (gPreV xKst hK hA hS hP (x_recv (q := (RX0, TX0, 16)) hK.1 hP rfl g17)) rfl rfl hl.1 rfl (lv_room (Nat.le_of_ble_eq_true rfl)) dX0_restore_9 ⟨by first | omega | (dsimp only; omega), by first | omega | (dsimp only; omega)⟩) hS (fun H locs hP hS => ?_)
    exact ret _ _ _ _ _ _ dX0_restore_12 rfl hP hS h

def fX0_round (x0 : Nat) (x1 : Int32) (S : XS) : Option (Int32 × XS) :=
bnd (fX0_isIn x1 (0 : Int32) (9999 : Int32) S) fun v3 S2 =>
(if v3 = 0 then
chk (isC S2 x0 0) (bnd (fX0_finds x0 (1 : Int32) S2) fun v16 S14 =>
some (v16, S14))
else
bn1 (gR S2 x0 0 2) fun a6 =>
bn1 (gI S2 a6 1 2) fun v8 =>
bn1 (gR S2 x0 0 2) fun a10 =>
bn1 (pF S2 a10 1 2 (.int x1)) fun S12 =>
some (v8, S12))
set_option maxHeartbeats 4000000 in
set_option maxRecDepth 100000 in
theorem mX0_round {l : Launch} {D : va_G} {cA : Nat → ClassId} {A : Nat → Prop} (x0 : Nat) (x1 : Int32) (S : XS) {out : (Int32 × XS)} (h : fX0_round x0 x1 S = some out) : Met l yX0_round (ws_ yX0_round cX0_round 3 (some .int)) ({ frames := 1, cells := 0, slots := 0, locals := 22 } : Room) (gPc (xK D cA A) (xP D cA A) A [.ref x0, .int x1] S) (gQi (xK D cA A) (xP D cA A) A out) 0 0 A := by
  refine gMet_z (by decide) (Nat.le_of_ble_eq_true rfl) ?_ xKst
  intro p e s m below meth c Q ls args H locs hC hP hS hl ret
  obtain ⟨hx, hb, hml, hown, hts, hA, hK⟩ := hC
  have hown : s.vm.findClass RX0 = some m.cls := hown
  have hl : lv_has ls 3 [(0, .ref x0), (1, .int x1)] := hl
  unfold fX0_round at h
  refine lv_iload_n hx hb dX0_round_0 rfl (lv_at hl 1 rfl) ?_
  refine lv_iconst (v := (0 : Int32)) hx hb dX0_round_1 (by decide) ?_
  refine lv_sipush (v := (9999 : Int32)) hx hb dX0_round_2 (by decide) ?_
  obtain ⟨v3, S2, e1, h⟩ := bnd_some h
  refine gci (va_runS (As := [.int x1, .int (0 : Int32), .int (9999 : Int32)]) (rest := []) ⟨hx, hb, hml, hown, hts⟩ (mX0_isIn (l := l) (D := D) (cA := cA) (A := A) x1 (0 : Int32) (9999 : Int32) S e1) (va_cwS 3 hts (lw_S q283 q284 q86 q285) rfl rfl rfl (by decide +kernel) ⟨Nat.le_of_ble_eq_true rfl, Nat.le_of_ble_eq_true rfl⟩) (gPreS xKst hK hA hS hP) rfl rfl hl.1 rfl (lv_room (Nat.le_of_ble_eq_true rfl)) dX0_round_5 ⟨by first | omega | (dsimp only; omega), by first | omega | (dsimp only; omega)⟩) hS (fun H locs hP hS => ?_)
  refine lv_if_ne (tgt := 17) hx hb dX0_round_8 (by decide) (fun c4 => ?_) (fun c4 => ?_)
  · have h := ite_f c4 h
    refine lv_aload_n hx hb dX0_round_17 rfl (lv_at hl 0 rfl) ?_
    obtain ⟨a6, e5, h⟩ := bn1_some h
    refine x_get (C := RX0) (T := TX0) (N := 16) (ci := 0) hx hb hts in_X0 hown hK.1 hP rfl 2 (by decide) (hts _ q231) (fun _ h9 => h9) (gR_some e5) dX0_round_18 ?_
    obtain ⟨v8, e7, h⟩ := bn1_some h
    refine x_getN (C := RX1) (T := TX1) (N := 16) (ci := 1) hx hb hts in_X1 hown hK.1 hP rfl 2 (by decide) (hK.2.1 _ q150 rfl) (fun _ h9 => h9) (gI_some e7) dX0_round_21 ?_
    refine lv_istore_n (lv' := [(2, .int v8), (0, .ref x0), (1, .int x1)]) hx hb dX0_round_24 rfl hl (by decide) rfl (fun ls hl => ?_)
    refine lv_aload_n hx hb dX0_round_25 rfl (lv_at hl 1 rfl) ?_
    obtain ⟨a10, e9, h⟩ := bn1_some h
    refine x_get (C := RX0) (T := TX0) (N := 16) (ci := 0) hx hb hts in_X0 hown hK.1 hP rfl 2 (by decide) (hts _ q231) (fun _ h9 => h9) (gR_some e9) dX0_round_26 ?_
    refine lv_iload_n hx hb dX0_round_29 rfl (lv_at hl 2 rfl) ?_
    obtain ⟨S12, e11, h⟩ := bn1_some h
    refine x_putN (v := .int x1) (ty := .int) (C := RX1) (T := TX1) (N := 16) (ci := 1) hx hb hts in_X1 tyX1 tyX1_ok nmX1 hown hK.1 hP hS rfl 2 (by decide) (hK.2.1 _ q150 rfl) (fun _ h9 => h9) rfl (by decide +kernel) rfl rfl e11 dX0_round_30 (fun H locs hP hS => ?_)
    refine lv_iload_n hx hb dX0_round_33 rfl (lv_at hl 0 rfl) ?_
    exact ret _ _ _ _ _ _ dX0_round_34 rfl hP hS h
  · have h := ite_t c4 h
    refine lv_aload_n hx hb dX0_round_11 rfl (lv_at hl 0 rfl) ?_
    refine lv_iconst (v := (1 : Int32)) hx hb dX0_round_12 (by decide) ?_
    obtain ⟨g15, h⟩ := chk_some h
    obtain ⟨fg15, g15⟩ := isC_some g15
    obtain ⟨v16, S14, e13, h⟩ := bnd_some h
    refine gci (va_runV (As := [.int (1 : Int32)]) (rest := []) ⟨hx, hb, hml, hown, hts⟩ (mX0_finds (l := l) (D := D) (cA := cA) (A := A) x0 (1 : Int32) S2 e13) (cwV 1 hts (lw_V q290 q292 qs1 q86 q293) rfl rfl rfl (by decide +kernel) ⟨Nat.le_of_ble_eq_true rfl, Nat.le_of_ble_eq_true rfl⟩) (gPreV xKst hK hA hS hP (x_recv (q := (RX0, TX0, 16)) hK.1 hP rfl g15)) rfl rfl hl.1 rfl (lv_room (Nat.le_of_ble_eq_true rfl)) dX0_round_13 ⟨by first | omega | (dsimp only; omega), by first | omega | (dsimp only; omega)⟩) hS (fun H locs hP hS => ?_)
    exact ret _ _ _ _ _ _ dX0_round_16 rfl hP hS h

def bX0_rounds_32 (k32 : Nat → Int32 → Int32 → XS → Option (Int32 × XS)) (x0 : Nat) (x1 : Int32) (x2 : Int32) (S : XS) : Option (Int32 × XS) :=
(if x1 ≤ x2 then
bn1 (gR S x0 0 2) fun a3 =>
chk (isC S a3 1) (bnd (fX1_used a3 S) fun v7 S5 =>
bnd (fJ8_bitCount v7 S5) fun v10 S9 =>
some (v10, S9))
else
chk (isC S x0 0) (bn1 (fX0_aRound x0 S) fun S12 =>
nm (x2 + (1 : Int32)) fun y14 =>
k32 x0 x1 y14 S12))
def lX0_rounds_32 : Nat → (Nat → Int32 → Int32 → XS → Option (Int32 × XS))
  | 0 => fun _ _ _ _ => none
  | n + 1 => bX0_rounds_32 (lX0_rounds_32 n)
def fX0_rounds (x0 : Nat) (x1 : Int32) (S : XS) : Option (Int32 × XS) :=
bnd (fX0_isIn x1 (1 : Int32) (60 : Int32) S) fun v17 S16 =>
(if v17 = 0 then
chk (isC S16 x0 0) (bnd (fX0_finds x0 (1 : Int32) S16) fun v31 S29 =>
some (v31, S29))
else
chk (isC S16 x0 0) (bnd (fX0_isLate x0 x1 S16) fun v22 S20 =>
(if v22 = 0 then
lX0_rounds_32 FU x0 x1 (0 : Int32) S20
else
chk (isC S20 x0 0) (bnd (fX0_finds x0 (3 : Int32) S20) fun v27 S25 =>
some (v27, S25)))))
set_option maxHeartbeats 4000000 in
set_option maxRecDepth 100000 in
theorem mX0_rounds {l : Launch} {D : va_G} {cA : Nat → ClassId} {A : Nat → Prop} (x0 : Nat) (x1 : Int32) (S : XS) {out : (Int32 × XS)} (h : fX0_rounds x0 x1 S = some out) : Met l yX0_rounds (ws_ yX0_rounds cX0_rounds 3 (some .int)) ({ frames := 6, cells := 0, slots := 0, locals := 174 } : Room) (gPc (xK D cA A) (xP D cA A) A [.ref x0, .int x1] S) (gQi (xK D cA A) (xP D cA A) A out) 0 0 A := by
  refine gMet_z (by decide) (Nat.le_of_ble_eq_true rfl) ?_ xKst
  intro p e s m below meth c Q ls args H locs hC hP hS hl ret
  obtain ⟨hx, hb, hml, hown, hts, hA, hK⟩ := hC
  have hown : s.vm.findClass RX0 = some m.cls := hown
  have hl : lv_has ls 3 [(0, .ref x0), (1, .int x1)] := hl
  have L32 : ∀ (n32 : Nat) (x0 : Nat) (x1 : Int32) (x2 : Int32) (S : XS) (H : Heap) (locs : List Loc) (ls : Array Slot), xP D cA A S H → va_S A s.heap H locs → lv_has ls 3 [(0, .ref x0), (1, .int x1), (2, .int x2)] → lX0_rounds_32 n32 x0 x1 x2 S = some out → W p l e ({ frames := 6, cells := 0, slots := 0, locals := 174 } : Room) s m args below meth c H locs 0 0 Q (F0 m 32 ls []) := by
    intro n32
    induction n32 with
    | zero =>
      intro x0 x1 x2 S H locs ls hP hS hl h
      cases h
    | succ n32 ih32 =>
      intro x0 x1 x2 S H locs ls hP hS hl h
      replace h : bX0_rounds_32 (lX0_rounds_32 n32) x0 x1 x2 S = some out := h
      unfold bX0_rounds_32 at h
      refine lv_iload_n hx hb dX0_rounds_32 rfl (lv_at hl 2 rfl) ?_
      refine lv_iload_n hx hb dX0_rounds_33 rfl (lv_at hl 1 rfl) ?_
      refine lv_icmp_ge (tgt := 47) hx hb dX0_rounds_34 (by decide) (fun c1 => ?_) (fun c1 => ?_)
      · have h := ite_t c1 h
        refine lv_aload_n hx hb dX0_rounds_47 rfl (lv_at hl 0 rfl) ?_
        obtain ⟨a3, e2, h⟩ := bn1_some h
        refine x_get (C := RX0) (T := TX0) (N := 16) (ci := 0) hx hb hts in_X0 hown hK.1 hP rfl 2 (by decide) (hts _ q231) (fun _ h9 => h9) (gR_some e2) dX0_rounds_48 ?_
        obtain ⟨g6, h⟩ := chk_some h
        obtain ⟨fg6, g6⟩ := isC_some g6
        obtain ⟨v7, S5, e4, h⟩ := bnd_some h
        refine gci (va_runV (As := []) (rest := []) ⟨hx, hb, hml, hown, hts⟩ (mX1_used (l := l) (D := D) (cA := cA) (A := A) a3 S e4) (cwV 0 hts (lw_V q893 q894 q895 q87 q896) rfl rfl rfl (by decide +kernel) ⟨Nat.le_of_ble_eq_true rfl, Nat.le_of_ble_eq_true rfl⟩) (gPreV xKst hK hA hS hP (x_recv (q := (RX1, TX1, 16)) hK.1 hP rfl g6)) rfl rfl hl.1 rfl (lv_room (Nat.le_of_ble_eq_true rfl)) dX0_rounds_51 ⟨by first | omega | (dsimp only; omega), by first | omega | (dsimp only; omega)⟩) hS (fun H locs hP hS => ?_)
        obtain ⟨v10, S9, e8, h⟩ := bnd_some h
        refine gci (va_runS (As := [.int v7]) (rest := []) ⟨hx, hb, hml, hown, hts⟩ (mJ8_bitCount (l := l) (D := D) (cA := cA) (A := A) v7 S5 e8) (va_cwS 1 hts (lw_S q923 q924 q109 q925) rfl rfl rfl (by decide +kernel) ⟨Nat.le_of_ble_eq_true rfl, Nat.le_of_ble_eq_true rfl⟩) (gPreS xKst hK hA hS hP) rfl rfl hl.1 rfl (lv_room (Nat.le_of_ble_eq_true rfl)) dX0_rounds_54 ⟨by first | omega | (dsimp only; omega), by first | omega | (dsimp only; omega)⟩) hS (fun H locs hP hS => ?_)
        exact ret _ _ _ _ _ _ dX0_rounds_57 rfl hP hS h
      · have h := ite_f c1 h
        refine lv_aload_n hx hb dX0_rounds_37 rfl (lv_at hl 0 rfl) ?_
        obtain ⟨g13, h⟩ := chk_some h
        obtain ⟨fg13, g13⟩ := isC_some g13
        obtain ⟨S12, e11, h⟩ := bn1_some h
        refine gc_v (va_runV (As := []) (rest := []) ⟨hx, hb, hml, hown, hts⟩ (mX0_aRound (l := l) (D := D) (cA := cA) (A := A) x0 S e11) (cwV 0 hts (lw_V q881 q883 qs21 q86 q884) rfl rfl rfl (by decide +kernel) ⟨Nat.le_of_ble_eq_true rfl, Nat.le_of_ble_eq_true rfl⟩) (gPreV xKst hK hA hS hP (x_recv (q := (RX0, TX0, 16)) hK.1 hP rfl g13)) rfl rfl hl.1 rfl (lv_room (Nat.le_of_ble_eq_true rfl)) dX0_rounds_38 ⟨by first | omega | (dsimp only; omega), by first | omega | (dsimp only; omega)⟩) hS (fun H locs hP hS => ?_)
        obtain ⟨y14, ey14⟩ : ∃ y : Int32, y = x2 + (1 : Int32) := ⟨_, rfl⟩
        refine lv_iinc (v := y14) (lv' := [(2, .int y14), (0, .ref x0), (1, .int x1)]) hx hb dX0_rounds_41 hl (k := 2) rfl (by rw [ey14]; rfl) (by decide) rfl (fun ls hl => ?_)
        have h := nm_at ey14 h
        refine lv_goto (tgt := 32) hx hb dX0_rounds_44 (by decide) ?_
        exact ih32 x0 x1 y14 S12 _ _ _ hP hS (lv_sub hl [1, 2, 0] rfl) h
  unfold fX0_rounds at h
  refine lv_iload_n hx hb dX0_rounds_0 rfl (lv_at hl 1 rfl) ?_
  refine lv_iconst (v := (1 : Int32)) hx hb dX0_rounds_1 (by decide) ?_
  refine lv_bipush (v := (60 : Int32)) hx hb dX0_rounds_2 (by decide) ?_
  obtain ⟨v17, S16, e15, h⟩ := bnd_some h
  refine gci (va_runS (As := [.int x1, .int (1 : Int32), .int (60 : Int32)]) (rest := []) ⟨hx, hb, hml, hown, hts⟩ (mX0_isIn (l := l) (D := D) (cA := cA) (A := A) x1 (1 : Int32) (60 : Int32) S e15) (va_cwS 3 hts (lw_S q283 q284 q86 q285) rfl rfl rfl (by decide +kernel) ⟨Nat.le_of_ble_eq_true rfl, Nat.le_of_ble_eq_true rfl⟩) (gPreS xKst hK hA hS hP) rfl rfl hl.1 rfl (lv_room (Nat.le_of_ble_eq_true rfl)) dX0_rounds_4 ⟨by first | omega | (dsimp only; omega), by first | omega | (dsimp only; omega)⟩) hS (fun H locs hP hS => ?_)
  refine lv_if_ne (tgt := 16) hx hb dX0_rounds_7 (by decide) (fun c18 => ?_) (fun c18 => ?_)
  · have h := ite_f c18 h
    refine lv_aload_n hx hb dX0_rounds_16 rfl (lv_at hl 0 rfl) ?_
    refine lv_iload_n hx hb dX0_rounds_17 rfl (lv_at hl 1 rfl) ?_
    obtain ⟨g21, h⟩ := chk_some h
    obtain ⟨fg21, g21⟩ := isC_some g21
    obtain ⟨v22, S20, e19, h⟩ := bnd_some h
    refine gci (va_runV (As := [.int x1]) (rest := []) ⟨hx, hb, hml, hown, hts⟩ (mX0_isLate (l := l) (D := D) (cA := cA) (A := A) x0 x1 S16 e19) (cwV 1 hts (lw_V q877 q879 qs20 q86 q880) rfl rfl rfl (by decide +kernel) ⟨Nat.le_of_ble_eq_true rfl, Nat.le_of_ble_eq_true rfl⟩) (gPreV xKst hK hA hS hP (x_recv (q := (RX0, TX0, 16)) hK.1 hP rfl g21)) rfl rfl hl.1 rfl (lv_room (Nat.le_of_ble_eq_true rfl)) dX0_rounds_18 ⟨by first | omega | (dsimp only; omega), by first | omega | (dsimp only; omega)⟩) hS (fun H locs hP hS => ?_)
    refine lv_if_eq (tgt := 30) hx hb dX0_rounds_21 (by decide) (fun c23 => ?_) (fun c23 => ?_)
    · have h := ite_t c23 h
      refine lv_iconst (v := (0 : Int32)) hx hb dX0_rounds_30 (by decide) ?_
      refine lv_istore_n (lv' := [(2, .int (0 : Int32)), (0, .ref x0), (1, .int x1)]) hx hb dX0_rounds_31 rfl hl (by decide) rfl (fun ls hl => ?_)
      exact L32 FU x0 x1 (0 : Int32) S20 _ _ _ hP hS (lv_sub hl [1, 2, 0] rfl) h
    · have h := ite_f c23 h
      refine lv_aload_n hx hb dX0_rounds_24 rfl (lv_at hl 0 rfl) ?_
      refine lv_iconst (v := (3 : Int32)) hx hb dX0_rounds_25 (by decide) ?_
      obtain ⟨g26, h⟩ := chk_some h
      obtain ⟨fg26, g26⟩ := isC_some g26
      obtain ⟨v27, S25, e24, h⟩ := bnd_some h
      refine gci (va_runV (As := [.int (3 : Int32)]) (rest := []) ⟨hx, hb, hml, hown, hts⟩ (mX0_finds (l := l) (D := D) (cA := cA) (A := A) x0 (3 : Int32) S20 e24) (cwV 1 hts (lw_V q290 q292 qs1 q86 q293) rfl rfl rfl (by decide +kernel) ⟨Nat.le_of_ble_eq_true rfl, Nat.le_of_ble_eq_true rfl⟩) (gPreV xKst hK hA hS hP (x_recv (q := (RX0, TX0, 16)) hK.1 hP rfl g26)) rfl rfl hl.1 rfl (lv_room (Nat.le_of_ble_eq_true rfl)) dX0_rounds_26 ⟨by first | omega | (dsimp only; omega), by first | omega | (dsimp only; omega)⟩) hS (fun H locs hP hS => ?_)
      exact ret _ _ _ _ _ _ dX0_rounds_29 rfl hP hS h
  · have h := ite_t c18 h
    refine lv_aload_n hx hb dX0_rounds_10 rfl (lv_at hl 0 rfl) ?_
    refine lv_iconst (v := (1 : Int32)) hx hb dX0_rounds_11 (by decide) ?_
    obtain ⟨g30, h⟩ := chk_some h
    obtain ⟨fg30, g30⟩ := isC_some g30
    obtain ⟨v31, S29, e28, h⟩ := bnd_some h
    refine gci (va_runV (As := [.int (1 : Int32)]) (rest := []) ⟨hx, hb, hml, hown, hts⟩ (mX0_finds (l := l) (D := D) (cA := cA) (A := A) x0 (1 : Int32) S16 e28) (cwV 1 hts (lw_V q290 q292 qs1 q86 q293) rfl rfl rfl (by decide +kernel) ⟨Nat.le_of_ble_eq_true rfl, Nat.le_of_ble_eq_true rfl⟩) (gPreV xKst hK hA hS hP (x_recv (q := (RX0, TX0, 16)) hK.1 hP rfl g30)) rfl rfl hl.1 rfl (lv_room (Nat.le_of_ble_eq_true rfl)) dX0_rounds_12 ⟨by first | omega | (dsimp only; omega), by first | omega | (dsimp only; omega)⟩) hS (fun H locs hP hS => ?_)
    exact ret _ _ _ _ _ _ dX0_rounds_15 rfl hP hS h

def fX0_seed (x0 : Nat) (x1 : Int32) (S : XS) : Option (Int32 × XS) :=
bn1 (gR S x0 0 2) fun a2 =>
bn1 (gI S a2 1 5) fun v4 =>
bn1 (gR S x0 0 2) fun a6 =>
bn1 (pF S a6 1 5 (.int x1)) fun S8 =>
some (v4, S8)
set_option maxHeartbeats 4000000 in
set_option maxRecDepth 100000 in
theorem mX0_seed {l : Launch} {D : va_G} {cA : Nat → ClassId} {A : Nat → Prop} (x0 : Nat) (x1 : Int32) (S : XS) {out : (Int32 × XS)} (h : fX0_seed x0 x1 S = some out) : Met l yX0_seed (ws_ yX0_seed cX0_seed 3 (some .int)) ({ frames := 0, cells := 0, slots := 0, locals := 0 } : Room) (gPc (xK D cA A) (xP D cA A) A [.ref x0, .int x1] S) (gQi (xK D cA A) (xP D cA A) A out) 0 0 A := by
  refine gMet_z (by decide) (Nat.le_of_ble_eq_true rfl) ?_ xKst
  intro p e s m below meth c Q ls args H locs hC hP hS hl ret
  obtain ⟨hx, hb, hml, hown, hts, hA, hK⟩ := hC
  have hown : s.vm.findClass RX0 = some m.cls := hown
  have hl : lv_has ls 3 [(0, .ref x0), (1, .int x1)] := hl
  unfold fX0_seed at h
  refine lv_aload_n hx hb dX0_seed_0 rfl (lv_at hl 0 rfl) ?_
  obtain ⟨a2, e1, h⟩ := bn1_some h
  refine x_get (C := RX0) (T := TX0) (N := 16) (ci := 0) hx hb hts in_X0 hown hK.1 hP rfl 2 (by decide) (hts _ q231) (fun _ h9 => h9) (gR_some e1) dX0_seed_1 ?_
  obtain ⟨v4, e3, h⟩ := bn1_some h
  refine x_getN (C := RX1) (T := TX1) (N := 16) (ci := 1) hx hb hts in_X1 hown hK.1 hP rfl 5 (by decide) (hK.2.1 _ q156 rfl) (fun _ h9 => h9) (gI_some e3) dX0_seed_4 ?_
  refine lv_istore_n (lv' := [(2, .int v4), (0, .ref x0), (1, .int x1)]) hx hb dX0_seed_7 rfl hl (by decide) rfl (fun ls hl => ?_)
  refine lv_aload_n hx hb dX0_seed_8 rfl (lv_at hl 1 rfl) ?_
  obtain ⟨a6, e5, h⟩ := bn1_some h
  refine x_get (C := RX0) (T := TX0) (N := 16) (ci := 0) hx hb hts in_X0 hown hK.1 hP rfl 2 (by decide) (hts _ q231) (fun _ h9 => h9) (gR_some e5) dX0_seed_9 ?_
  refine lv_iload_n hx hb dX0_seed_12 rfl (lv_at hl 2 rfl) ?_
  obtain ⟨S8, e7, h⟩ := bn1_some h
  refine x_putN (v := .int x1) (ty := .int) (C := RX1) (T := TX1) (N := 16) (ci := 1) hx hb hts in_X1 tyX1 tyX1_ok nmX1 hown hK.1 hP hS rfl 5 (by decide) (hK.2.1 _ q156 rfl) (fun _ h9 => h9) rfl (by decide +kernel) rfl rfl e7 dX0_seed_13 (fun H locs hP hS => ?_)
  refine lv_iload_n hx hb dX0_seed_16 rfl (lv_at hl 0 rfl) ?_
  exact ret _ _ _ _ _ _ dX0_seed_17 rfl hP hS h

def bX0_soonest_27 (k27 : Nat → Int32 → Int32 → XS → Option (Int32 × XS)) (x0 : Nat) (x1 : Int32) (x2 : Int32) (S : XS) : Option (Int32 × XS) :=
(if (60 : Int32) < x2 then
chk (isC S x0 0) (bnd (fX0_finds x0 (2 : Int32) S) fun v5 S3 =>
bn1 (gR S3 x0 0 2) fun a7 =>
bn1 (gR S3 x0 0 4) fun a9 =>
chk (isC S3 a7 1) (bn1 (fX1_follows a7 a9 S3) fun S11 =>
some (v5, S11)))
else
bn1 (gR S x0 0 2) fun a14 =>
bn1 (gR S a14 1 12) fun a16 =>
bn1 (aI S a16 0 x1) fun v18 =>
(if v18 = 0 then
bn1 (gR S x0 0 2) fun a25 =>
bn1 (gR S x0 0 4) fun a27 =>
chk (isC S a25 1) (bn1 (fX1_follows a25 a27 S) fun S29 =>
some (x2, S29))
else
chk (isC S x0 0) (bn1 (fX0_aRound x0 S) fun S21 =>
nm (x2 + (1 : Int32)) fun y23 =>
k27 x0 x1 y23 S21)))
def lX0_soonest_27 : Nat → (Nat → Int32 → Int32 → XS → Option (Int32 × XS))
  | 0 => fun _ _ _ _ => none
  | n + 1 => bX0_soonest_27 (lX0_soonest_27 n)
def fX0_soonest (x0 : Nat) (x1 : Int32) (S : XS) : Option (Int32 × XS) :=
chk (isC S x0 0) (bnd (fX0_isMark x0 x1 S) fun v34 S32 =>
(if v34 = 0 then
chk (isC S32 x0 0) (bnd (fX0_finds x0 (1 : Int32) S32) fun v46 S44 =>
some (v46, S44))
else
bn1 (gR S32 x0 0 4) fun a37 =>
bn1 (gR S32 x0 0 2) fun a39 =>
chk (isC S32 a37 1) (bn1 (fX1_follows a37 a39 S32) fun S41 =>
lX0_soonest_27 FU x0 x1 (0 : Int32) S41)))
set_option maxHeartbeats 4000000 in
set_option maxRecDepth 100000 in
theorem mX0_soonest {l : Launch} {D : va_G} {cA : Nat → ClassId} {A : Nat → Prop} (x0 : Nat) (x1 : Int32) (S : XS) {out : (Int32 × XS)} (h : fX0_soonest x0 x1 S = some out) : Met l yX0_soonest (wsW_ yX0_soonest cX0_soonest 5 (some .int) [(25, 47, 89, 0), (60, 76, 89, 0), (89, 91, 89, 0)]) ({ frames := 6, cells := 0, slots := 0, locals := 174 } : Room) (gPc (xK D cA A) (xP D cA A) A [.ref x0, .int x1] S) (gQi (xK D cA A) (xP D cA A) A out) 0 0 A := by
  refine gMetW_z (by decide) (Nat.le_of_ble_eq_true rfl) ?_ xKst
  intro p e s m below meth c Q ls args H locs hC hP hS hl ret
  obtain ⟨hx, hb, hml, hown, hts, hA, hK⟩ := hC
  have hown : s.vm.findClass RX0 = some m.cls := hown
  have hl : lv_has ls 5 [(0, .ref x0), (1, .int x1)] := hl
  have L27 : ∀ (n27 : Nat) (x0 : Nat) (x1 : Int32) (x2 : Int32) (S : XS) (H : Heap) (locs : List Loc) (ls : Array Slot), xP D cA A S H → va_S A s.heap H locs → lv_has ls 5 [(0, .ref x0), (1, .int x1), (2, .int x2)] → lX0_soonest_27 n27 x0 x1 x2 S = some out → W p l e ({ frames := 6, cells := 0, slots := 0, locals := 174 } : Room) s m args below meth c H locs 0 0 Q (F0 m 27 ls []) := by
    intro n27
    induction n27 with
    | zero =>
      intro x0 x1 x2 S H locs ls hP hS hl h
      cases h
    | succ n27 ih27 =>
      intro x0 x1 x2 S H locs ls hP hS hl h
      replace h : bX0_soonest_27 (lX0_soonest_27 n27) x0 x1 x2 S = some out := h
      unfold bX0_soonest_27 at h
      refine lv_iload_n hx hb dX0_soonest_27 rfl (lv_at hl 2 rfl) ?_
      refine lv_bipush (v := (60 : Int32)) hx hb dX0_soonest_28 (by decide) ?_
      refine lv_icmp_gt (tgt := 70) hx hb dX0_soonest_30 (by decide) (fun c1 => ?_) (fun c1 => ?_)
      · have h := ite_t c1 h
        refine lv_aload_n hx hb dX0_soonest_70 rfl (lv_at hl 0 rfl) ?_
        refine lv_iconst (v := (2 : Int32)) hx hb dX0_soonest_71 (by decide) ?_
        obtain ⟨g4, h⟩ := chk_some h
        obtain ⟨fg4, g4⟩ := isC_some g4
        obtain ⟨v5, S3, e2, h⟩ := bnd_some h
        refine gci (va_runV (As := [.int (2 : Int32)]) (rest := []) ⟨hx, hb, hml, hown, hts⟩ (mX0_finds (l := l) (D := D) (cA := cA) (A := A) x0 (2 : Int32) S e2) (cwV 1 hts (lw_V q290 q292 qs1 q86 q293) rfl rfl rfl (by decide +kernel) ⟨Nat.le_of_ble_eq_true rfl, Nat.le_of_ble_eq_true rfl⟩) (gPreV xKst hK hA hS hP (x_recv (q := (RX0, TX0, 16)) hK.1 hP rfl g4)) rfl rfl hl.1 rfl (lv_room (Nat.le_of_ble_eq_true rfl)) dX0_soonest_72 ⟨by first | omega | (dsimp only; omega), by first | omega | (dsimp only; omega)⟩) hS (fun H locs hP hS => ?_)
        refine lv_istore_n (lv' := [(2, .int v5), (0, .ref x0), (1, .int x1)]) hx hb dX0_soonest_75 rfl hl (by decide) rfl (fun ls hl => ?_)
        refine lv_aload_n hx hb dX0_soonest_76 rfl (lv_at hl 1 rfl) ?_
        obtain ⟨a7, e6, h⟩ := bn1_some h
        refine x_get (C := RX0) (T := TX0) (N := 16) (ci := 0) hx hb hts in_X0 hown hK.1 hP rfl 2 (by decide) (hts _ q231) (fun _ h9 => h9) (gR_some e6) dX0_soonest_77 ?_
        refine lv_aload_n hx hb dX0_soonest_80 rfl (lv_at hl 1 rfl) ?_
        obtain ⟨a9, e8, h⟩ := bn1_some h
        refine x_get (C := RX0) (T := TX0) (N := 16) (ci := 0) hx hb hts in_X0 hown hK.1 hP rfl 4 (by decide) (hts _ q233) (fun _ h9 => h9) (gR_some e8) dX0_soonest_81 ?_
        obtain ⟨g12, h⟩ := chk_some h
        obtain ⟨fg12, g12⟩ := isC_some g12
        obtain ⟨S11, e10, h⟩ := bn1_some h
        refine gc_v (va_runV (As := [.ref a9]) (rest := []) ⟨hx, hb, hml, hown, hts⟩ (mX1_follows (l := l) (D := D) (cA := cA) (A := A) a7 a9 S3 e10) (cwV 1 hts (lw_V q984 q985 q986 q87 q987) rfl rfl rfl (by decide +kernel) ⟨Nat.le_of_ble_eq_true rfl, Nat.le_of_ble_eq_true rfl⟩) (gPreV xKst hK hA hS hP (x_recv (q := (RX1, TX1, 16)) hK.1 hP rfl g12)) rfl rfl hl.1 rfl (lv_room (Nat.le_of_ble_eq_true rfl)) dX0_soonest_84 ⟨by first | omega | (dsimp only; omega), by first | omega | (dsimp only; omega)⟩) hS (fun H locs hP hS => ?_)
        refine lv_iload_n hx hb dX0_soonest_87 rfl (lv_at hl 0 rfl) ?_
        exact ret _ _ _ _ _ _ dX0_soonest_88 rfl hP hS h
      · have h := ite_f c1 h
        refine lv_aload_n hx hb dX0_soonest_33 rfl (lv_at hl 0 rfl) ?_
        obtain ⟨a14, e13, h⟩ := bn1_some h
        refine x_get (C := RX0) (T := TX0) (N := 16) (ci := 0) hx hb hts in_X0 hown hK.1 hP rfl 2 (by decide) (hts _ q231) (fun _ h9 => h9) (gR_some e13) dX0_soonest_34 ?_
        obtain ⟨a16, e15, h⟩ := bn1_some h
        refine x_getN (C := RX1) (T := TX1) (N := 16) (ci := 1) hx hb hts in_X1 hown hK.1 hP rfl 12 (by decide) (hK.2.1 _ q170 rfl) (fun _ h9 => h9) (gR_some e15) dX0_soonest_37 ?_
        refine lv_iload_n hx hb dX0_soonest_40 rfl (lv_at hl 1 rfl) ?_
        obtain ⟨v18, e17, h⟩ := bn1_some h
        refine x_iald hx hb hK.1 hP e17 dX0_soonest_41 ?_
        refine lv_if_ne (tgt := 60) hx hb dX0_soonest_42 (by decide) (fun c19 => ?_) (fun c19 => ?_)
        · have h := ite_f c19 h
          refine lv_aload_n hx hb dX0_soonest_60 rfl (lv_at hl 0 rfl) ?_
          obtain ⟨g22, h⟩ := chk_some h
          obtain ⟨fg22, g22⟩ := isC_some g22
          obtain ⟨S21, e20, h⟩ := bn1_some h
          refine gc_v (va_runV (As := []) (rest := []) ⟨hx, hb, hml, hown, hts⟩ (mX0_aRound (l := l) (D := D) (cA := cA) (A := A) x0 S e20) (cwV 0 hts (lw_V q881 q883 qs21 q86 q884) rfl rfl rfl (by decide +kernel) ⟨Nat.le_of_ble_eq_true rfl, Nat.le_of_ble_eq_true rfl⟩) (gPreV xKst hK hA hS hP (x_recv (q := (RX0, TX0, 16)) hK.1 hP rfl g22)) rfl rfl hl.1 rfl (lv_room (Nat.le_of_ble_eq_true rfl)) dX0_soonest_61 ⟨by first | omega | (dsimp only; omega), by first | omega | (dsimp only; omega)⟩) hS (fun H locs hP hS => ?_)
          obtain ⟨y23, ey23⟩ : ∃ y : Int32, y = x2 + (1 : Int32) := ⟨_, rfl⟩
          refine lv_iinc (v := y23) (lv' := [(2, .int y23), (0, .ref x0), (1, .int x1)]) hx hb dX0_soonest_64 hl (k := 2) rfl (by rw [ey23]; rfl) (by decide) rfl (fun ls hl => ?_)
          have h := nm_at ey23 h
          refine lv_goto (tgt := 27) hx hb dX0_soonest_67 (by decide) ?_
          exact ih27 x0 x1 y23 S21 _ _ _ hP hS (lv_sub hl [1, 2, 0] rfl) h
        · have h := ite_t c19 h
          refine lv_iload_n hx hb dX0_soonest_45 rfl (lv_at hl 2 rfl) ?_
          refine lv_istore_n (lv' := [(3, .int x2), (0, .ref x0), (1, .int x1), (2, .int x2)]) hx hb dX0_soonest_46 rfl hl (by decide) rfl (fun ls hl => ?_)
          refine lv_aload_n hx hb dX0_soonest_47 rfl (lv_at hl 1 rfl) ?_
          obtain ⟨a25, e24, h⟩ := bn1_some h
          refine x_get (C := RX0) (T := TX0) (N := 16) (ci := 0) hx hb hts in_X0 hown hK.1 hP rfl 2 (by decide) (hts _ q231) (fun _ h9 => h9) (gR_some e24) dX0_soonest_48 ?_
          refine lv_aload_n hx hb dX0_soonest_51 rfl (lv_at hl 1 rfl) ?_
          obtain ⟨a27, e26, h⟩ := bn1_some h
          refine x_get (C := RX0) (T := TX0) (N := 16) (ci := 0) hx hb hts in_X0 hown hK.1 hP rfl 4 (by decide) (hts _ q233) (fun _ h9 => h9) (gR_some e26) dX0_soonest_52 ?_
          obtain ⟨g30, h⟩ := chk_some h
          obtain ⟨fg30, g30⟩ := isC_some g30
          obtain ⟨S29, e28, h⟩ := bn1_some h
          refine gc_v (va_runV (As := [.ref a27]) (rest := []) ⟨hx, hb, hml, hown, hts⟩ (mX1_follows (l := l) (D := D) (cA := cA) (A := A) a25 a27 S e28) (cwV 1 hts (lw_V q984 q985 q986 q87 q987) rfl rfl rfl (by decide +kernel) ⟨Nat.le_of_ble_eq_true rfl, Nat.le_of_ble_eq_true rfl⟩) (gPreV xKst hK hA hS hP (x_recv (q := (RX1, TX1, 16)) hK.1 hP rfl g30)) rfl rfl hl.1 rfl (lv_room (Nat.le_of_ble_eq_true rfl)) dX0_soonest_55 ⟨by first | omega | (dsimp only; omega), by first | omega | (dsimp only; omega)⟩) hS (fun H locs hP hS => ?_)
          refine lv_iload_n hx hb dX0_soonest_58 rfl (lv_at hl 0 rfl) ?_
          exact ret _ _ _ _ _ _ dX0_soonest_59 rfl hP hS h
  unfold fX0_soonest at h
  refine lv_aload_n hx hb dX0_soonest_0 rfl (lv_at hl 0 rfl) ?_
  refine lv_iload_n hx hb dX0_soonest_1 rfl (lv_at hl 1 rfl) ?_
  obtain ⟨g33, h⟩ := chk_some h
  obtain ⟨fg33, g33⟩ := isC_some g33
  obtain ⟨v34, S32, e31, h⟩ := bnd_some h
  refine gci (va_runV (As := [.int x1]) (rest := []) ⟨hx, hb, hml, hown, hts⟩ (mX0_isMark (l := l) (D := D) (cA := cA) (A := A) x0 x1 S e31) (cwV 1 hts (lw_V q380 q382 qs2 q86 q383) rfl rfl rfl (by decide +kernel) ⟨Nat.le_of_ble_eq_true rfl, Nat.le_of_ble_eq_true rfl⟩) (gPreV xKst hK hA hS hP (x_recv (q := (RX0, TX0, 16)) hK.1 hP rfl g33)) rfl rfl hl.1 rfl (lv_room (Nat.le_of_ble_eq_true rfl)) dX0_soonest_2 ⟨by first | omega | (dsimp only; omega), by first | omega | (dsimp only; omega)⟩) hS (fun H locs hP hS => ?_)
  refine lv_if_ne (tgt := 14) hx hb dX0_soonest_5 (by decide) (fun c35 => ?_) (fun c35 => ?_)
  · have h := ite_f c35 h
    refine lv_aload_n hx hb dX0_soonest_14 rfl (lv_at hl 0 rfl) ?_
    obtain ⟨a37, e36, h⟩ := bn1_some h
    refine x_get (C := RX0) (T := TX0) (N := 16) (ci := 0) hx hb hts in_X0 hown hK.1 hP rfl 4 (by decide) (hts _ q233) (fun _ h9 => h9) (gR_some e36) dX0_soonest_15 ?_
    refine lv_aload_n hx hb dX0_soonest_18 rfl (lv_at hl 0 rfl) ?_
    obtain ⟨a39, e38, h⟩ := bn1_some h
    refine x_get (C := RX0) (T := TX0) (N := 16) (ci := 0) hx hb hts in_X0 hown hK.1 hP rfl 2 (by decide) (hts _ q231) (fun _ h9 => h9) (gR_some e38) dX0_soonest_19 ?_
    obtain ⟨g42, h⟩ := chk_some h
    obtain ⟨fg42, g42⟩ := isC_some g42
    obtain ⟨S41, e40, h⟩ := bn1_some h
    refine gc_v (va_runV (As := [.ref a39]) (rest := []) ⟨hx, hb, hml, hown, hts⟩ (mX1_follows (l := l) (D := D) (cA := cA) (A := A) a37 a39 S32 e40) (cwV 1 hts (lw_V q984 q985 q986 q87 q987) rfl rfl rfl (by decide +kernel) ⟨Nat.le_of_ble_eq_true rfl, Nat.le_of_ble_eq_true rfl⟩) (gPreV xKst hK hA hS hP (x_recv (q := (RX1, TX1, 16)) hK.1 hP rfl g42)) rfl rfl hl.1 rfl (lv_room (Nat.le_of_ble_eq_true rfl)) dX0_soonest_22 ⟨by first | omega | (dsimp only; omega), by first | omega | (dsimp only; omega)⟩) hS (fun H locs hP hS => ?_)
    refine lv_iconst (v := (0 : Int32)) hx hb dX0_soonest_25 (by decide) ?_
    refine lv_istore_n (lv' := [(2, .int (0 : Int32)), (0, .ref x0), (1, .int x1)]) hx hb dX0_soonest_26 rfl hl (by decide) rfl (fun ls hl => ?_)
    exact L27 FU x0 x1 (0 : Int32) S41 _ _ _ hP hS (lv_sub hl [1, 2, 0] rfl) h
  · have h := ite_t c35 h
    refine lv_aload_n hx hb dX0_soonest_8 rfl (lv_at hl 0 rfl) ?_
    refine lv_iconst (v := (1 : Int32)) hx hb dX0_soonest_9 (by decide) ?_
    obtain ⟨g45, h⟩ := chk_some h
    obtain ⟨fg45, g45⟩ := isC_some g45
    obtain ⟨v46, S44, e43, h⟩ := bnd_some h
    refine gci (va_runV (As := [.int (1 : Int32)]) (rest := []) ⟨hx, hb, hml, hown, hts⟩ (mX0_finds (l := l) (D := D) (cA := cA) (A := A) x0 (1 : Int32) S32 e43) (cwV 1 hts (lw_V q290 q292 qs1 q86 q293) rfl rfl rfl (by decide +kernel) ⟨Nat.le_of_ble_eq_true rfl, Nat.le_of_ble_eq_true rfl⟩) (gPreV xKst hK hA hS hP (x_recv (q := (RX0, TX0, 16)) hK.1 hP rfl g45)) rfl rfl hl.1 rfl (lv_room (Nat.le_of_ble_eq_true rfl)) dX0_soonest_10 ⟨by first | omega | (dsimp only; omega), by first | omega | (dsimp only; omega)⟩) hS (fun H locs hP hS => ?_)
    exact ret _ _ _ _ _ _ dX0_soonest_13 rfl hP hS h

def bX0_spine_152 (k19 : Nat → Int32 → Int32 → Int32 → XS → Option (Int32 × XS)) (x0 : Nat) (x1 : Int32) (x2 : Int32) (x3 : Int32) (S : XS) : Option (Int32 × XS) :=
nm (x3 + (1 : Int32)) fun y1 =>
k19 x0 x1 x2 y1 S
def bX0_spine_144 (k19 : Nat → Int32 → Int32 → Int32 → XS → Option (Int32 × XS)) (x0 : Nat) (x2 : Int32) (x3 : Int32) (x4 : Int32) (t0 : Int32) (S : XS) : Option (Int32 × XS) :=
nm (if x2 < x4 then x4 else x2) fun y2 =>
bX0_spine_152 k19 x0 t0 y2 x3 S
def bX0_spine_124 (k19 : Nat → Int32 → Int32 → Int32 → XS → Option (Int32 × XS)) (k90 : Nat → Int32 → Int32 → Int32 → Int32 → Int32 → XS → Option (Int32 × XS)) (x0 : Nat) (x1 : Int32) (x2 : Int32) (x3 : Int32) (x5 : Int32) (t0 : Int32) (t1 : Int32) (S : XS) : Option (Int32 × XS) :=
nm (t0 + t1) fun y3 =>
nm (x5 + (1 : Int32)) fun y4 =>
k90 x0 x1 x2 x3 y3 y4 S
def bX0_spine_90 (k19 : Nat → Int32 → Int32 → Int32 → XS → Option (Int32 × XS)) (k90 : Nat → Int32 → Int32 → Int32 → Int32 → Int32 → XS → Option (Int32 × XS)) (x0 : Nat) (x1 : Int32) (x2 : Int32) (x3 : Int32) (x4 : Int32) (x5 : Int32) (S : XS) : Option (Int32 × XS) :=
bn1 (gR S x0 0 2) fun a6 =>
bn1 (gI S a6 1 0) fun v8 =>
(if v8 ≤ x5 then
(if x4 ≤ x2 then
bX0_spine_144 k19 x0 x2 x3 x4 x1 S
else
bX0_spine_144 k19 x0 x2 x3 x4 x3 S)
else
(if ((x3 >>> (x5 &&& 31)) &&& (1 : Int32)) = (1 : Int32) then
chk (isC S x0 0) (bnd (fX0_weightOf x0 x5 S) fun v15 S13 =>
bX0_spine_124 k19 k90 x0 x1 x2 x3 x5 x4 v15 S13)
else
bX0_spine_124 k19 k90 x0 x1 x2 x3 x5 x4 (0 : Int32) S))
def lX0_spine_90 (k19 : Nat → Int32 → Int32 → Int32 → XS → Option (Int32 × XS)) : Nat → (Nat → Int32 → Int32 → Int32 → Int32 → Int32 → XS → Option (Int32 × XS))
  | 0 => fun _ _ _ _ _ _ _ => none
  | n + 1 => bX0_spine_90 k19 (lX0_spine_90 k19 n)
def bX0_spine_19 (k19 : Nat → Int32 → Int32 → Int32 → XS → Option (Int32 × XS)) (x0 : Nat) (x1 : Int32) (x2 : Int32) (x3 : Int32) (S : XS) : Option (Int32 × XS) :=
bn1 (gR S x0 0 2) fun a17 =>
bn1 (gI S a17 1 0) fun v19 =>
(if ((1 : Int32) <<< (v19 &&& 31)) ≤ x3 then
some (x1, S)
else
bn1 (gR S x0 0 2) fun a22 =>
chk (isC S a22 1) (bnd (fX1_used a22 S) fun v26 S24 =>
(if (x3 &&& (v26 ^^^ (-1 : Int32))) = 0 then
bnd (fJ8_bitCount x3 S24) fun v30 S29 =>
bn1 (gR S29 x0 0 2) fun a32 =>
bn1 (gI S29 a32 1 1) fun v34 =>
(if v30 = v34 then
bn1 (gR S29 x0 0 2) fun a37 =>
chk (isC S29 a37 1) (bnd (fX1_tied a37 x3 S29) fun v41 S39 =>
bn1 (gR S39 x0 0 2) fun a43 =>
bn1 (gI S39 a43 1 1) fun v45 =>
bnd (fX0_all v45 S39) fun v48 S47 =>
(if v41 = v48 then
lX0_spine_90 k19 FU x0 x1 x2 x3 (0 : Int32) (0 : Int32) S47
else
bX0_spine_152 k19 x0 x1 x2 x3 S47))
else
bX0_spine_152 k19 x0 x1 x2 x3 S29)
else
bX0_spine_152 k19 x0 x1 x2 x3 S24)))
def lX0_spine_19 : Nat → (Nat → Int32 → Int32 → Int32 → XS → Option (Int32 × XS))
  | 0 => fun _ _ _ _ _ => none
  | n + 1 => bX0_spine_19 (lX0_spine_19 n)
def fX0_spine (x0 : Nat) (S : XS) : Option (Int32 × XS) :=
chk (isC S x0 0) (bnd (fX0_isHeld x0 S) fun v53 S51 =>
(if v53 = 0 then
chk (isC S51 x0 0) (bnd (fX0_finds x0 (3 : Int32) S51) fun v58 S56 =>
some (v58, S56))
else
lX0_spine_19 FU x0 (-1 : Int32) (0 : Int32) (0 : Int32) S51))
set_option maxHeartbeats 4000000 in
set_option maxRecDepth 100000 in
theorem mX0_spine {l : Launch} {D : va_G} {cA : Nat → ClassId} {A : Nat → Prop} (x0 : Nat) (S : XS) {out : (Int32 × XS)} (h : fX0_spine x0 S = some out) : Met l yX0_spine (ws_ yX0_spine cX0_spine 6 (some .int)) ({ frames := 4, cells := 0, slots := 0, locals := 129 } : Room) (gPc (xK D cA A) (xP D cA A) A [.ref x0] S) (gQi (xK D cA A) (xP D cA A) A out) 0 0 A := by
  refine gMet_z (by decide) (Nat.le_of_ble_eq_true rfl) ?_ xKst
  intro p e s m below meth c Q ls args H locs hC hP hS hl ret
  obtain ⟨hx, hb, hml, hown, hts, hA, hK⟩ := hC
  have hown : s.vm.findClass RX0 = some m.cls := hown
  have hl : lv_has ls 6 [(0, .ref x0)] := hl
  have L19 : ∀ (n19 : Nat) (x0 : Nat) (x1 : Int32) (x2 : Int32) (x3 : Int32) (S : XS) (H : Heap) (locs : List Loc) (ls : Array Slot), xP D cA A S H → va_S A s.heap H locs → lv_has ls 6 [(0, .ref x0), (1, .int x1), (2, .int x2), (3, .int x3)] → lX0_spine_19 n19 x0 x1 x2 x3 S = some out → W p l e ({ frames := 4, cells := 0, slots := 0, locals := 129 } : Room) s m args below meth c H locs 0 0 Q (F0 m 19 ls []) := by
    intro n19
    induction n19 with
    | zero =>
      intro x0 x1 x2 x3 S H locs ls hP hS hl h
      cases h
    | succ n19 ih19 =>
      have B152 : ∀ (x0 : Nat) (x1 : Int32) (x2 : Int32) (x3 : Int32) (S : XS) (H : Heap) (locs : List Loc) (ls : Array Slot), xP D cA A S H → va_S A s.heap H locs → lv_has ls 6 [(0, .ref x0), (1, .int x1), (2, .int x2), (3, .int x3)] → bX0_spine_152 (lX0_spine_19 n19) x0 x1 x2 x3 S = some out → W p l e ({ frames := 4, cells := 0, slots := 0, locals := 129 } : Room) s m args below meth c H locs 0 0 Q (F0 m 152 ls []) := by
        intro x0 x1 x2 x3 S H locs ls hP hS hl h
        unfold bX0_spine_152 at h
        obtain ⟨y1, ey1⟩ : ∃ y : Int32, y = x3 + (1 : Int32) := ⟨_, rfl⟩
        refine lv_iinc (v := y1) (lv' := [(3, .int y1), (0, .ref x0), (1, .int x1), (2, .int x2)]) hx hb dX0_spine_152 hl (k := 3) rfl (by rw [ey1]; rfl) (by decide) rfl (fun ls hl => ?_)
        have h := nm_at ey1 h
        refine lv_goto (tgt := 19) hx hb dX0_spine_155 (by decide) ?_
        exact ih19 x0 x1 x2 y1 S _ _ _ hP hS (lv_sub hl [1, 2, 3, 0] rfl) h
      have B144 : ∀ (x0 : Nat) (x2 : Int32) (x3 : Int32) (x4 : Int32) (t0 : Int32) (S : XS) (H : Heap) (locs : List Loc) (ls : Array Slot), xP D cA A S H → va_S A s.heap H locs → lv_has ls 6 [(0, .ref x0), (2, .int x2), (3, .int x3), (4, .int x4)] → bX0_spine_144 (lX0_spine_19 n19) x0 x2 x3 x4 t0 S = some out → W p l e ({ frames := 4, cells := 0, slots := 0, locals := 129 } : Room) s m args below meth c H locs 0 0 Q (F0 m 144 ls [.int t0]) := by
        intro x0 x2 x3 x4 t0 S H locs ls hP hS hl h
        unfold bX0_spine_144 at h
        refine lv_istore_n (lv' := [(1, .int t0), (0, .ref x0), (2, .int x2), (3, .int x3), (4, .int x4)]) hx hb dX0_spine_144 rfl hl (by decide) rfl (fun ls hl => ?_)
        refine lv_iload_n hx hb dX0_spine_145 rfl (lv_at hl 2 rfl) ?_
        refine lv_iload hx hb dX0_spine_146 (lv_at hl 4 rfl) ?_
        refine va_mmax hx hb (hml.trans hl.1.symm) hown (hts _ q511) (hts _ q512) (hts _ q98) (hts _ q513) (Nat.le_of_ble_eq_true rfl) (Nat.le_of_ble_eq_true rfl) (by first | exact Nat.zero_le _ | (dsimp only; omega)) (by first | exact Nat.zero_le _ | (dsimp only; omega)) dX0_spine_148 ?_
        refine lv_topi (fun y2 ey2 => ?_)
        have h := nm_at ey2 h
        refine lv_istore_n (lv' := [(2, .int y2), (1, .int t0), (0, .ref x0), (3, .int x3), (4, .int x4)]) hx hb dX0_spine_151 rfl hl (by decide) rfl (fun ls hl => ?_)
        exact B152 x0 t0 y2 x3 S _ _ _ hP hS (lv_sub hl [2, 1, 0, 3] rfl) h
      have L90 : ∀ (n90 : Nat) (x0 : Nat) (x1 : Int32) (x2 : Int32) (x3 : Int32) (x4 : Int32) (x5 : Int32) (S : XS) (H : Heap) (locs : List Loc) (ls : Array Slot), xP D cA A S H → va_S A s.heap H locs → lv_has ls 6 [(0, .ref x0), (1, .int x1), (2, .int x2), (3, .int x3), (4, .int x4), (5, .int x5)] → lX0_spine_90 (lX0_spine_19 n19) n90 x0 x1 x2 x3 x4 x5 S = some out → W p l e ({ frames := 4, cells := 0, slots := 0, locals := 129 } : Room) s m args below meth c H locs 0 0 Q (F0 m 90 ls []) := by
        intro n90
        induction n90 with
        | zero =>
          intro x0 x1 x2 x3 x4 x5 S H locs ls hP hS hl h
          cases h
        | succ n90 ih90 =>
          have B124 : ∀ (x0 : Nat) (x1 : Int32) (x2 : Int32) (x3 : Int32) (x5 : Int32) (t0 : Int32) (t1 : Int32) (S : XS) (H : Heap) (locs : List Loc) (ls : Array Slot), xP D cA A S H → va_S A s.heap H locs → lv_has ls 6 [(0, .ref x0), (1, .int x1), (2, .int x2), (3, .int x3), (5, .int x5)] → bX0_spine_124 (lX0_spine_19 n19) (lX0_spine_90 (lX0_spine_19 n19) n90) x0 x1 x2 x3 x5 t0 t1 S = some out → W p l e ({ frames := 4, cells := 0, slots := 0, locals := 129 } : Room) s m args below meth c H locs 0 0 Q (F0 m 124 ls [.int t1, .int t0]) := by
            intro x0 x1 x2 x3 x5 t0 t1 S H locs ls hP hS hl h
            unfold bX0_spine_124 at h
            refine lv_iadd hx hb dX0_spine_124 ?_
            refine lv_topi (fun y3 ey3 => ?_)
            have h := nm_at ey3 h
            refine lv_istore (lv' := [(4, .int y3), (0, .ref x0), (1, .int x1), (2, .int x2), (3, .int x3), (5, .int x5)]) hx hb dX0_spine_125 hl (by decide) rfl (fun ls hl => ?_)
            obtain ⟨y4, ey4⟩ : ∃ y : Int32, y = x5 + (1 : Int32) := ⟨_, rfl⟩
            refine lv_iinc (v := y4) (lv' := [(5, .int y4), (4, .int y3), (0, .ref x0), (1, .int x1), (2, .int x2), (3, .int x3)]) hx hb dX0_spine_127 hl (k := 5) rfl (by rw [ey4]; rfl) (by decide) rfl (fun ls hl => ?_)
            have h := nm_at ey4 h
            refine lv_goto (tgt := 90) hx hb dX0_spine_130 (by decide) ?_
            exact ih90 x0 x1 x2 x3 y3 y4 S _ _ _ hP hS (lv_sub hl [2, 3, 4, 5, 1, 0] rfl) h
          intro x0 x1 x2 x3 x4 x5 S H locs ls hP hS hl h
          replace h : bX0_spine_90 (lX0_spine_19 n19) (lX0_spine_90 (lX0_spine_19 n19) n90) x0 x1 x2 x3 x4 x5 S = some out := h
          unfold bX0_spine_90 at h
          refine lv_iload hx hb dX0_spine_90 (lv_at hl 5 rfl) ?_
          refine lv_aload_n hx hb dX0_spine_92 rfl (lv_at hl 0 rfl) ?_
          obtain ⟨a6, e5, h⟩ := bn1_some h
          refine x_get (C := RX0) (T := TX0) (N := 16) (ci := 0) hx hb hts in_X0 hown hK.1 hP rfl 2 (by decide) (hts _ q231) (fun _ h9 => h9) (gR_some e5) dX0_spine_93 ?_
          obtain ⟨v8, e7, h⟩ := bn1_some h
          refine x_getN (C := RX1) (T := TX1) (N := 16) (ci := 1) hx hb hts in_X1 hown hK.1 hP rfl 0 (by decide) (hK.2.1 _ q146 rfl) (fun _ h9 => h9) (gI_some e7) dX0_spine_96 ?_
          refine lv_icmp_ge (tgt := 133) hx hb dX0_spine_99 (by decide) (fun c9 => ?_) (fun c9 => ?_)
          · have h := ite_t c9 h
            refine lv_iload hx hb dX0_spine_133 (lv_at hl 4 rfl) ?_
            refine lv_iload_n hx hb dX0_spine_135 rfl (lv_at hl 2 rfl) ?_
            refine lv_icmp_le (tgt := 143) hx hb dX0_spine_136 (by decide) (fun c10 => ?_) (fun c10 => ?_)
            · have h := ite_t c10 h
              refine lv_iload_n hx hb dX0_spine_143 rfl (lv_at hl 1 rfl) ?_
              exact B144 x0 x2 x3 x4 x1 S _ _ _ hP hS (lv_sub hl [0, 2, 3, 4] rfl) h
            · have h := ite_f c10 h
              refine lv_iload_n hx hb dX0_spine_139 rfl (lv_at hl 3 rfl) ?_
              refine lv_goto (tgt := 144) hx hb dX0_spine_140 (by decide) ?_
              exact B144 x0 x2 x3 x4 x3 S _ _ _ hP hS (lv_sub hl [0, 2, 3, 4] rfl) h
          · have h := ite_f c9 h
            refine lv_iload hx hb dX0_spine_102 (lv_at hl 4 rfl) ?_
            refine lv_iload_n hx hb dX0_spine_104 rfl (lv_at hl 3 rfl) ?_
            refine lv_iload hx hb dX0_spine_105 (lv_at hl 5 rfl) ?_
            refine lv_ishr hx hb dX0_spine_107 ?_
            refine lv_iconst (v := (1 : Int32)) hx hb dX0_spine_108 (by decide) ?_
            refine lv_iand hx hb dX0_spine_109 ?_
            refine lv_iconst (v := (1 : Int32)) hx hb dX0_spine_110 (by decide) ?_
            refine lv_icmp_ne (tgt := 123) hx hb dX0_spine_111 (by decide) (fun c11 => ?_) (fun c11 => ?_)
            · have h := ite_f c11 h
              refine lv_iconst (v := (0 : Int32)) hx hb dX0_spine_123 (by decide) ?_
              exact B124 x0 x1 x2 x3 x5 x4 (0 : Int32) S _ _ _ hP hS (lv_sub hl [0, 1, 2, 3, 5] rfl) h
            · have h := ite_t c11 h
              refine lv_aload_n hx hb dX0_spine_114 rfl (lv_at hl 0 rfl) ?_
              refine lv_iload hx hb dX0_spine_115 (lv_at hl 5 rfl) ?_
              obtain ⟨g14, h⟩ := chk_some h
              obtain ⟨fg14, g14⟩ := isC_some g14
              obtain ⟨v15, S13, e12, h⟩ := bnd_some h
              refine gci (va_runV (As := [.int x5]) (rest := [.int x4]) ⟨hx, hb, hml, hown, hts⟩ (mX0_weightOf (l := l) (D := D) (cA := cA) (A := A) x0 x5 S e12) (cwV 1 hts (lw_V q418 q420 qs3 q86 q421) rfl rfl rfl (by decide +kernel) ⟨Nat.le_of_ble_eq_true rfl, Nat.le_of_ble_eq_true rfl⟩) (gPreV xKst hK hA hS hP (x_recv (q := (RX0, TX0, 16)) hK.1 hP rfl g14)) rfl rfl hl.1 rfl (lv_room (Nat.le_of_ble_eq_true rfl)) dX0_spine_117 ⟨by first | omega | (dsimp only; omega), by first | omega | (dsimp only; omega)⟩) hS (fun H locs hP hS => ?_)
              refine lv_goto (tgt := 124) hx hb dX0_spine_120 (by decide) ?_
              exact B124 x0 x1 x2 x3 x5 x4 v15 S13 _ _ _ hP hS (lv_sub hl [0, 1, 2, 3, 5] rfl) h
      intro x0 x1 x2 x3 S H locs ls hP hS hl h
      replace h : bX0_spine_19 (lX0_spine_19 n19) x0 x1 x2 x3 S = some out := h
      unfold bX0_spine_19 at h
      refine lv_iload_n hx hb dX0_spine_19 rfl (lv_at hl 3 rfl) ?_
      refine lv_iconst (v := (1 : Int32)) hx hb dX0_spine_20 (by decide) ?_
      refine lv_aload_n hx hb dX0_spine_21 rfl (lv_at hl 0 rfl) ?_
      obtain ⟨a17, e16, h⟩ := bn1_some h
      refine x_get (C := RX0) (T := TX0) (N := 16) (ci := 0) hx hb hts in_X0 hown hK.1 hP rfl 2 (by decide) (hts _ q231) (fun _ h9 => h9) (gR_some e16) dX0_spine_22 ?_
      obtain ⟨v19, e18, h⟩ := bn1_some h
      refine x_getN (C := RX1) (T := TX1) (N := 16) (ci := 1) hx hb hts in_X1 hown hK.1 hP rfl 0 (by decide) (hK.2.1 _ q146 rfl) (fun _ h9 => h9) (gI_some e18) dX0_spine_25 ?_
      refine lv_ishl hx hb dX0_spine_28 ?_
      refine lv_icmp_ge (tgt := 158) hx hb dX0_spine_29 (by decide) (fun c20 => ?_) (fun c20 => ?_)
      · have h := ite_t c20 h
        refine lv_iload_n hx hb dX0_spine_158 rfl (lv_at hl 1 rfl) ?_
        exact ret _ _ _ _ _ _ dX0_spine_159 rfl hP hS h
      · have h := ite_f c20 h
        refine lv_iload_n hx hb dX0_spine_32 rfl (lv_at hl 3 rfl) ?_
        refine lv_aload_n hx hb dX0_spine_33 rfl (lv_at hl 0 rfl) ?_
        obtain ⟨a22, e21, h⟩ := bn1_some h
        refine x_get (C := RX0) (T := TX0) (N := 16) (ci := 0) hx hb hts in_X0 hown hK.1 hP rfl 2 (by decide) (hts _ q231) (fun _ h9 => h9) (gR_some e21) dX0_spine_34 ?_
        obtain ⟨g25, h⟩ := chk_some h
        obtain ⟨fg25, g25⟩ := isC_some g25
        obtain ⟨v26, S24, e23, h⟩ := bnd_some h
        refine gci (va_runV (As := []) (rest := [.int x3]) ⟨hx, hb, hml, hown, hts⟩ (mX1_used (l := l) (D := D) (cA := cA) (A := A) a22 S e23) (cwV 0 hts (lw_V q893 q894 q895 q87 q896) rfl rfl rfl (by decide +kernel) ⟨Nat.le_of_ble_eq_true rfl, Nat.le_of_ble_eq_true rfl⟩) (gPreV xKst hK hA hS hP (x_recv (q := (RX1, TX1, 16)) hK.1 hP rfl g25)) rfl rfl hl.1 rfl (lv_room (Nat.le_of_ble_eq_true rfl)) dX0_spine_37 ⟨by first | omega | (dsimp only; omega), by first | omega | (dsimp only; omega)⟩) hS (fun H locs hP hS => ?_)
        refine lv_iconst (v := (-1 : Int32)) hx hb dX0_spine_40 (by decide) ?_
        refine lv_ixor hx hb dX0_spine_41 ?_
        refine lv_iand hx hb dX0_spine_42 ?_
        refine lv_if_ne (tgt := 152) hx hb dX0_spine_43 (by decide) (fun c27 => ?_) (fun c27 => ?_)
        · have h := ite_f c27 h
          exact B152 x0 x1 x2 x3 S24 _ _ _ hP hS hl h
        · have h := ite_t c27 h
          refine lv_iload_n hx hb dX0_spine_46 rfl (lv_at hl 3 rfl) ?_
          obtain ⟨v30, S29, e28, h⟩ := bnd_some h
          refine gci (va_runS (As := [.int x3]) (rest := []) ⟨hx, hb, hml, hown, hts⟩ (mJ8_bitCount (l := l) (D := D) (cA := cA) (A := A) x3 S24 e28) (va_cwS 1 hts (lw_S q923 q924 q109 q925) rfl rfl rfl (by decide +kernel) ⟨Nat.le_of_ble_eq_true rfl, Nat.le_of_ble_eq_true rfl⟩) (gPreS xKst hK hA hS hP) rfl rfl hl.1 rfl (lv_room (Nat.le_of_ble_eq_true rfl)) dX0_spine_47 ⟨by first | omega | (dsimp only; omega), by first | omega | (dsimp only; omega)⟩) hS (fun H locs hP hS => ?_)
          refine lv_aload_n hx hb dX0_spine_50 rfl (lv_at hl 0 rfl) ?_
          obtain ⟨a32, e31, h⟩ := bn1_some h
          refine x_get (C := RX0) (T := TX0) (N := 16) (ci := 0) hx hb hts in_X0 hown hK.1 hP rfl 2 (by decide) (hts _ q231) (fun _ h9 => h9) (gR_some e31) dX0_spine_51 ?_
          obtain ⟨v34, e33, h⟩ := bn1_some h
          refine x_getN (C := RX1) (T := TX1) (N := 16) (ci := 1) hx hb hts in_X1 hown hK.1 hP rfl 1 (by decide) (hK.2.1 _ q148 rfl) (fun _ h9 => h9) (gI_some e33) dX0_spine_54 ?_
          refine lv_icmp_ne (tgt := 152) hx hb dX0_spine_57 (by decide) (fun c35 => ?_) (fun c35 => ?_)
          · have h := ite_f c35 h
            exact B152 x0 x1 x2 x3 S29 _ _ _ hP hS hl h
          · have h := ite_t c35 h
            refine lv_aload_n hx hb dX0_spine_60 rfl (lv_at hl 0 rfl) ?_
            obtain ⟨a37, e36, h⟩ := bn1_some h
            refine x_get (C := RX0) (T := TX0) (N := 16) (ci := 0) hx hb hts in_X0 hown hK.1 hP rfl 2 (by decide) (hts _ q231) (fun _ h9 => h9) (gR_some e36) dX0_spine_61 ?_
            refine lv_iload_n hx hb dX0_spine_64 rfl (lv_at hl 3 rfl) ?_
            obtain ⟨g40, h⟩ := chk_some h
            obtain ⟨fg40, g40⟩ := isC_some g40
            obtain ⟨v41, S39, e38, h⟩ := bnd_some h
            refine gci (va_runV (As := [.int x3]) (rest := []) ⟨hx, hb, hml, hown, hts⟩ (mX1_tied (l := l) (D := D) (cA := cA) (A := A) a37 x3 S29 e38) (cwV 1 hts (lw_V q897 q898 q899 q87 q900) rfl rfl rfl (by decide +kernel) ⟨Nat.le_of_ble_eq_true rfl, Nat.le_of_ble_eq_true rfl⟩) (gPreV xKst hK hA hS hP (x_recv (q := (RX1, TX1, 16)) hK.1 hP rfl g40)) rfl rfl hl.1 rfl (lv_room (Nat.le_of_ble_eq_true rfl)) dX0_spine_65 ⟨by first | omega | (dsimp only; omega), by first | omega | (dsimp only; omega)⟩) hS (fun H locs hP hS => ?_)
            refine lv_aload_n hx hb dX0_spine_68 rfl (lv_at hl 0 rfl) ?_
            obtain ⟨a43, e42, h⟩ := bn1_some h
            refine x_get (C := RX0) (T := TX0) (N := 16) (ci := 0) hx hb hts in_X0 hown hK.1 hP rfl 2 (by decide) (hts _ q231) (fun _ h9 => h9) (gR_some e42) dX0_spine_69 ?_
            obtain ⟨v45, e44, h⟩ := bn1_some h
            refine x_getN (C := RX1) (T := TX1) (N := 16) (ci := 1) hx hb hts in_X1 hown hK.1 hP rfl 1 (by decide) (hK.2.1 _ q148 rfl) (fun _ h9 => h9) (gI_some e44) dX0_spine_72 ?_
            obtain ⟨v48, S47, e46, h⟩ := bnd_some h
            refine gci (va_runS (As := [.int v45]) (rest := [.int v41]) ⟨hx, hb, hml, hown, hts⟩ (mX0_all (l := l) (D := D) (cA := cA) (A := A) v45 S39 e46) (va_cwS 1 hts (lw_S q901 q902 q86 q903) rfl rfl rfl (by decide +kernel) ⟨Nat.le_of_ble_eq_true rfl, Nat.le_of_ble_eq_true rfl⟩) (gPreS xKst hK hA hS hP) rfl rfl hl.1 rfl (lv_room (Nat.le_of_ble_eq_true rfl)) dX0_spine_75 ⟨by first | omega | (dsimp only; omega), by first | omega | (dsimp only; omega)⟩) hS (fun H locs hP hS => ?_)
            refine lv_icmp_eq (tgt := 84) hx hb dX0_spine_78 (by decide) (fun c49 => ?_) (fun c49 => ?_)
            · have h := ite_t c49 h
              refine lv_iconst (v := (0 : Int32)) hx hb dX0_spine_84 (by decide) ?_
              refine lv_istore (lv' := [(4, .int (0 : Int32)), (0, .ref x0), (1, .int x1), (2, .int x2), (3, .int x3)]) hx hb dX0_spine_85 hl (by decide) rfl (fun ls hl => ?_)
              refine lv_iconst (v := (0 : Int32)) hx hb dX0_spine_87 (by decide) ?_
              refine lv_istore (lv' := [(5, .int (0 : Int32)), (4, .int (0 : Int32)), (0, .ref x0), (1, .int x1), (2, .int x2), (3, .int x3)]) hx hb dX0_spine_88 hl (by decide) rfl (fun ls hl => ?_)
              exact L90 FU x0 x1 x2 x3 (0 : Int32) (0 : Int32) S47 _ _ _ hP hS (lv_sub hl [2, 3, 4, 5, 1, 0] rfl) h
            · have h := ite_f c49 h
              refine lv_goto (tgt := 152) hx hb dX0_spine_81 (by decide) ?_
              exact B152 x0 x1 x2 x3 S47 _ _ _ hP hS hl h
  unfold fX0_spine at h
  refine lv_aload_n hx hb dX0_spine_0 rfl (lv_at hl 0 rfl) ?_
  obtain ⟨g52, h⟩ := chk_some h
  obtain ⟨fg52, g52⟩ := isC_some g52
  obtain ⟨v53, S51, e50, h⟩ := bnd_some h
  refine gci (va_runV (As := []) (rest := []) ⟨hx, hb, hml, hown, hts⟩ (mX0_isHeld (l := l) (D := D) (cA := cA) (A := A) x0 S e50) (cwV 0 hts (lw_V q889 q891 qs23 q86 q892) rfl rfl rfl (by decide +kernel) ⟨Nat.le_of_ble_eq_true rfl, Nat.le_of_ble_eq_true rfl⟩) (gPreV xKst hK hA hS hP (x_recv (q := (RX0, TX0, 16)) hK.1 hP rfl g52)) rfl rfl hl.1 rfl (lv_room (Nat.le_of_ble_eq_true rfl)) dX0_spine_1 ⟨by first | omega | (dsimp only; omega), by first | omega | (dsimp only; omega)⟩) hS (fun H locs hP hS => ?_)
  refine lv_if_ne (tgt := 13) hx hb dX0_spine_4 (by decide) (fun c54 => ?_) (fun c54 => ?_)
  · have h := ite_f c54 h
    refine lv_iconst (v := (-1 : Int32)) hx hb dX0_spine_13 (by decide) ?_
    refine lv_istore_n (lv' := [(1, .int (-1 : Int32)), (0, .ref x0)]) hx hb dX0_spine_14 rfl hl (by decide) rfl (fun ls hl => ?_)
    refine lv_iconst (v := (0 : Int32)) hx hb dX0_spine_15 (by decide) ?_
    refine lv_istore_n (lv' := [(2, .int (0 : Int32)), (1, .int (-1 : Int32)), (0, .ref x0)]) hx hb dX0_spine_16 rfl hl (by decide) rfl (fun ls hl => ?_)
    refine lv_iconst (v := (0 : Int32)) hx hb dX0_spine_17 (by decide) ?_
    refine lv_istore_n (lv' := [(3, .int (0 : Int32)), (2, .int (0 : Int32)), (1, .int (-1 : Int32)), (0, .ref x0)]) hx hb dX0_spine_18 rfl hl (by decide) rfl (fun ls hl => ?_)
    exact L19 FU x0 (-1 : Int32) (0 : Int32) (0 : Int32) S51 _ _ _ hP hS (lv_sub hl [3, 2, 1, 0] rfl) h
  · have h := ite_t c54 h
    refine lv_aload_n hx hb dX0_spine_7 rfl (lv_at hl 0 rfl) ?_
    refine lv_iconst (v := (3 : Int32)) hx hb dX0_spine_8 (by decide) ?_
    obtain ⟨g57, h⟩ := chk_some h
    obtain ⟨fg57, g57⟩ := isC_some g57
    obtain ⟨v58, S56, e55, h⟩ := bnd_some h
    refine gci (va_runV (As := [.int (3 : Int32)]) (rest := []) ⟨hx, hb, hml, hown, hts⟩ (mX0_finds (l := l) (D := D) (cA := cA) (A := A) x0 (3 : Int32) S51 e55) (cwV 1 hts (lw_V q290 q292 qs1 q86 q293) rfl rfl rfl (by decide +kernel) ⟨Nat.le_of_ble_eq_true rfl, Nat.le_of_ble_eq_true rfl⟩) (gPreV xKst hK hA hS hP (x_recv (q := (RX0, TX0, 16)) hK.1 hP rfl g57)) rfl rfl hl.1 rfl (lv_room (Nat.le_of_ble_eq_true rfl)) dX0_spine_9 ⟨by first | omega | (dsimp only; omega), by first | omega | (dsimp only; omega)⟩) hS (fun H locs hP hS => ?_)
    exact ret _ _ _ _ _ _ dX0_spine_12 rfl hP hS h

def bX0_sumOf_69 (k69 : Nat → Int64 → Int32 → XS → Option (Int64 × XS)) (x0 : Nat) (x1 : Int64) (x3 : Int32) (S : XS) : Option (Int64 × XS) :=
bn1 (gR S x0 0 2) fun a2 =>
bn1 (gI S a2 1 1) fun v4 =>
(if v4 ≤ x3 then
some (x1, S)
else
bn1 (gR S x0 0 11) fun a7 =>
bn1 (aL S a7 x3) fun v9 =>
bn1 (gR S x0 0 10) fun a11 =>
bn1 (aL S a11 x3) fun v13 =>
nm (x1 - (v9 * v13)) fun y14 =>
nm (x3 + (1 : Int32)) fun y15 =>
k69 x0 y14 y15 S)
def lX0_sumOf_69 : Nat → (Nat → Int64 → Int32 → XS → Option (Int64 × XS))
  | 0 => fun _ _ _ _ => none
  | n + 1 => bX0_sumOf_69 (lX0_sumOf_69 n)
def bX0_sumOf_59 (k4 : Nat → Int64 → Int32 → XS → Option (Int64 × XS)) (x0 : Nat) (x3 : Int32) (t0 : Int64) (t1 : Int64) (S : XS) : Option (Int64 × XS) :=
nm (t0 + t1) fun y16 =>
nm (x3 + (1 : Int32)) fun y17 =>
k4 x0 y16 y17 S
def bX0_sumOf_4 (k4 : Nat → Int64 → Int32 → XS → Option (Int64 × XS)) (x0 : Nat) (x1 : Int64) (x3 : Int32) (S : XS) : Option (Int64 × XS) :=
bn1 (gR S x0 0 2) fun a19 =>
bn1 (gI S a19 1 0) fun v21 =>
(if v21 ≤ x3 then
lX0_sumOf_69 FU x0 x1 (0 : Int32) S
else
bn1 (gR S x0 0 2) fun a24 =>
bn1 (gR S a24 1 12) fun a26 =>
bn1 (aI S a26 0 x3) fun v28 =>
(if v28 = (1 : Int32) then
bn1 (gR S x0 0 12) fun a31 =>
bn1 (aI S a31 0 x3) fun v33 =>
bn1 (gR S x0 0 13) fun a35 =>
bn1 (aI S a35 0 x3) fun v37 =>
bn1 (gR S x0 0 13) fun a39 =>
bn1 (aI S a39 0 x3) fun v41 =>
bn1 (gL S x0 0 14) fun v43 =>
bX0_sumOf_59 k4 x0 x3 x1 (((((v33 * v37) * v41)).toInt64) * v43) S
else
bX0_sumOf_59 k4 x0 x3 x1 (0 : Int64) S))
def lX0_sumOf_4 : Nat → (Nat → Int64 → Int32 → XS → Option (Int64 × XS))
  | 0 => fun _ _ _ _ => none
  | n + 1 => bX0_sumOf_4 (lX0_sumOf_4 n)
def fX0_sumOf (x0 : Nat) (S : XS) : Option (Int64 × XS) :=
lX0_sumOf_4 FU x0 (0 : Int64) (0 : Int32) S
set_option maxHeartbeats 4000000 in
set_option maxRecDepth 100000 in
theorem mX0_sumOf {l : Launch} {D : va_G} {cA : Nat → ClassId} {A : Nat → Prop} (x0 : Nat) (S : XS) {out : (Int64 × XS)} (h : fX0_sumOf x0 S = some out) : Met l yX0_sumOf (ws_ yX0_sumOf cX0_sumOf 4 (some .long)) ({ frames := 0, cells := 0, slots := 0, locals := 0 } : Room) (gPc (xK D cA A) (xP D cA A) A [.ref x0] S) (gQl (xK D cA A) (xP D cA A) A out) 0 0 A := by
  refine gMet_l (by decide) (Nat.le_of_ble_eq_true rfl) ?_ xKst
  intro p e s m below meth c Q ls args H locs hC hP hS hl ret
  obtain ⟨hx, hb, hml, hown, hts, hA, hK⟩ := hC
  have hown : s.vm.findClass RX0 = some m.cls := hown
  have hl : lv_has ls 4 [(0, .ref x0)] := hl
  have L69 : ∀ (n69 : Nat) (x0 : Nat) (x1 : Int64) (x3 : Int32) (S : XS) (H : Heap) (locs : List Loc) (ls : Array Slot), xP D cA A S H → va_S A s.heap H locs → lv_has ls 4 [(0, .ref x0), (1, .long x1), (3, .int x3)] → lX0_sumOf_69 n69 x0 x1 x3 S = some out → W p l e ({ frames := 0, cells := 0, slots := 0, locals := 0 } : Room) s m args below meth c H locs 0 0 Q (F0 m 69 ls []) := by
    intro n69
    induction n69 with
    | zero =>
      intro x0 x1 x3 S H locs ls hP hS hl h
      cases h
    | succ n69 ih69 =>
      intro x0 x1 x3 S H locs ls hP hS hl h
      replace h : bX0_sumOf_69 (lX0_sumOf_69 n69) x0 x1 x3 S = some out := h
      unfold bX0_sumOf_69 at h
      refine lv_iload_n hx hb dX0_sumOf_69 rfl (lv_at hl 2 rfl) ?_
      refine lv_aload_n hx hb dX0_sumOf_70 rfl (lv_at hl 0 rfl) ?_
      obtain ⟨a2, e1, h⟩ := bn1_some h
      refine x_get (C := RX0) (T := TX0) (N := 16) (ci := 0) hx hb hts in_X0 hown hK.1 hP rfl 2 (by decide) (hts _ q231) (fun _ h9 => h9) (gR_some e1) dX0_sumOf_71 ?_
      obtain ⟨v4, e3, h⟩ := bn1_some h
      refine x_getN (C := RX1) (T := TX1) (N := 16) (ci := 1) hx hb hts in_X1 hown hK.1 hP rfl 1 (by decide) (hK.2.1 _ q148 rfl) (fun _ h9 => h9) (gI_some e3) dX0_sumOf_74 ?_
      refine lv_icmp_ge (tgt := 102) hx hb dX0_sumOf_77 (by decide) (fun c5 => ?_) (fun c5 => ?_)
      · have h := ite_t c5 h
        refine lv_lload_n hx hb dX0_sumOf_102 rfl (lv_at hl 1 rfl) ?_
        exact ret _ _ _ _ _ _ dX0_sumOf_103 hP hS h
      · have h := ite_f c5 h
        refine lv_lload_n hx hb dX0_sumOf_80 rfl (lv_at hl 1 rfl) ?_
        refine lv_aload_n hx hb dX0_sumOf_81 rfl (lv_at hl 0 rfl) ?_
        obtain ⟨a7, e6, h⟩ := bn1_some h
        refine x_get (C := RX0) (T := TX0) (N := 16) (ci := 0) hx hb hts in_X0 hown hK.1 hP rfl 11 (by decide) (hts _ q240) (fun _ h9 => h9) (gR_some e6) dX0_sumOf_82 ?_
        refine lv_iload_n hx hb dX0_sumOf_85 rfl (lv_at hl 2 rfl) ?_
        obtain ⟨v9, e8, h⟩ := bn1_some h
        refine x_lald hx hb hK.1 hP e8 dX0_sumOf_86 ?_
        refine lv_aload_n hx hb dX0_sumOf_87 rfl (lv_at hl 0 rfl) ?_
        obtain ⟨a11, e10, h⟩ := bn1_some h
        refine x_get (C := RX0) (T := TX0) (N := 16) (ci := 0) hx hb hts in_X0 hown hK.1 hP rfl 10 (by decide) (hts _ q239) (fun _ h9 => h9) (gR_some e10) dX0_sumOf_88 ?_
        refine lv_iload_n hx hb dX0_sumOf_91 rfl (lv_at hl 2 rfl) ?_
        obtain ⟨v13, e12, h⟩ := bn1_some h
        refine x_lald hx hb hK.1 hP e12 dX0_sumOf_92 ?_
        refine lv_lmul hx hb dX0_sumOf_93 ?_
        refine lv_lsub hx hb dX0_sumOf_94 ?_
        refine lv_topl (fun y14 ey14 => ?_)
        have h := nm_at ey14 h
        refine lv_lstore_n (lv' := [(1, .long y14), (0, .ref x0), (3, .int x3)]) hx hb dX0_sumOf_95 rfl hl (by decide) rfl (fun ls hl => ?_)
        obtain ⟨y15, ey15⟩ : ∃ y : Int32, y = x3 + (1 : Int32) := ⟨_, rfl⟩
        refine lv_iinc (v := y15) (lv' := [(3, .int y15), (1, .long y14), (0, .ref x0)]) hx hb dX0_sumOf_96 hl (k := 2) rfl (by rw [ey15]; rfl) (by decide) rfl (fun ls hl => ?_)
        have h := nm_at ey15 h
        refine lv_goto (tgt := 69) hx hb dX0_sumOf_99 (by decide) ?_
        exact ih69 x0 y14 y15 S _ _ _ hP hS (lv_sub hl [2, 1, 0] rfl) h
  have L4 : ∀ (n4 : Nat) (x0 : Nat) (x1 : Int64) (x3 : Int32) (S : XS) (H : Heap) (locs : List Loc) (ls : Array Slot), xP D cA A S H → va_S A s.heap H locs → lv_has ls 4 [(0, .ref x0), (1, .long x1), (3, .int x3)] → lX0_sumOf_4 n4 x0 x1 x3 S = some out → W p l e ({ frames := 0, cells := 0, slots := 0, locals := 0 } : Room) s m args below meth c H locs 0 0 Q (F0 m 4 ls []) := by
    intro n4
    induction n4 with
    | zero =>
      intro x0 x1 x3 S H locs ls hP hS hl h
      cases h
    | succ n4 ih4 =>
      have B59 : ∀ (x0 : Nat) (x3 : Int32) (t0 : Int64) (t1 : Int64) (S : XS) (H : Heap) (locs : List Loc) (ls : Array Slot), xP D cA A S H → va_S A s.heap H locs → lv_has ls 4 [(0, .ref x0), (3, .int x3)] → bX0_sumOf_59 (lX0_sumOf_4 n4) x0 x3 t0 t1 S = some out → W p l e ({ frames := 0, cells := 0, slots := 0, locals := 0 } : Room) s m args below meth c H locs 0 0 Q (F0 m 59 ls [.long t1, .long t0]) := by
        intro x0 x3 t0 t1 S H locs ls hP hS hl h
        unfold bX0_sumOf_59 at h
        refine lv_ladd hx hb dX0_sumOf_59 ?_
        refine lv_topl (fun y16 ey16 => ?_)
        have h := nm_at ey16 h
        refine lv_lstore_n (lv' := [(1, .long y16), (0, .ref x0), (3, .int x3)]) hx hb dX0_sumOf_60 rfl hl (by decide) rfl (fun ls hl => ?_)
        obtain ⟨y17, ey17⟩ : ∃ y : Int32, y = x3 + (1 : Int32) := ⟨_, rfl⟩
        refine lv_iinc (v := y17) (lv' := [(3, .int y17), (1, .long y16), (0, .ref x0)]) hx hb dX0_sumOf_61 hl (k := 2) rfl (by rw [ey17]; rfl) (by decide) rfl (fun ls hl => ?_)
        have h := nm_at ey17 h
        refine lv_goto (tgt := 4) hx hb dX0_sumOf_64 (by decide) ?_
        exact ih4 x0 y16 y17 S _ _ _ hP hS (lv_sub hl [2, 1, 0] rfl) h
      intro x0 x1 x3 S H locs ls hP hS hl h
      replace h : bX0_sumOf_4 (lX0_sumOf_4 n4) x0 x1 x3 S = some out := h
      unfold bX0_sumOf_4 at h
      refine lv_iload_n hx hb dX0_sumOf_4 rfl (lv_at hl 2 rfl) ?_
      refine lv_aload_n hx hb dX0_sumOf_5 rfl (lv_at hl 0 rfl) ?_
      obtain ⟨a19, e18, h⟩ := bn1_some h
      refine x_get (C := RX0) (T := TX0) (N := 16) (ci := 0) hx hb hts in_X0 hown hK.1 hP rfl 2 (by decide) (hts _ q231) (fun _ h9 => h9) (gR_some e18) dX0_sumOf_6 ?_
      obtain ⟨v21, e20, h⟩ := bn1_some h
      refine x_getN (C := RX1) (T := TX1) (N := 16) (ci := 1) hx hb hts in_X1 hown hK.1 hP rfl 0 (by decide) (hK.2.1 _ q146 rfl) (fun _ h9 => h9) (gI_some e20) dX0_sumOf_9 ?_
      refine lv_icmp_ge (tgt := 67) hx hb dX0_sumOf_12 (by decide) (fun c22 => ?_) (fun c22 => ?_)
      · have h := ite_t c22 h
        refine lv_iconst (v := (0 : Int32)) hx hb dX0_sumOf_67 (by decide) ?_
        refine lv_istore_n (lv' := [(3, .int (0 : Int32)), (0, .ref x0), (1, .long x1)]) hx hb dX0_sumOf_68 rfl hl (by decide) rfl (fun ls hl => ?_)
        exact L69 FU x0 x1 (0 : Int32) S _ _ _ hP hS (lv_sub hl [1, 2, 0] rfl) h
      · have h := ite_f c22 h
        refine lv_lload_n hx hb dX0_sumOf_15 rfl (lv_at hl 1 rfl) ?_
        refine lv_aload_n hx hb dX0_sumOf_16 rfl (lv_at hl 0 rfl) ?_
        obtain ⟨a24, e23, h⟩ := bn1_some h
        refine x_get (C := RX0) (T := TX0) (N := 16) (ci := 0) hx hb hts in_X0 hown hK.1 hP rfl 2 (by decide) (hts _ q231) (fun _ h9 => h9) (gR_some e23) dX0_sumOf_17 ?_
        obtain ⟨a26, e25, h⟩ := bn1_some h
        refine x_getN (C := RX1) (T := TX1) (N := 16) (ci := 1) hx hb hts in_X1 hown hK.1 hP rfl 12 (by decide) (hK.2.1 _ q170 rfl) (fun _ h9 => h9) (gR_some e25) dX0_sumOf_20 ?_
        refine lv_iload_n hx hb dX0_sumOf_23 rfl (lv_at hl 2 rfl) ?_
        obtain ⟨v28, e27, h⟩ := bn1_some h
        refine x_iald hx hb hK.1 hP e27 dX0_sumOf_24 ?_
        refine lv_iconst (v := (1 : Int32)) hx hb dX0_sumOf_25 (by decide) ?_
        refine lv_icmp_ne (tgt := 58) hx hb dX0_sumOf_26 (by decide) (fun c29 => ?_) (fun c29 => ?_)
        · have h := ite_f c29 h
          refine lv_lconst (v := (0 : Int64)) hx hb dX0_sumOf_58 (by decide) ?_
          exact B59 x0 x3 x1 (0 : Int64) S _ _ _ hP hS (lv_sub hl [0, 2] rfl) h
        · have h := ite_t c29 h
          refine lv_aload_n hx hb dX0_sumOf_29 rfl (lv_at hl 0 rfl) ?_
          obtain ⟨a31, e30, h⟩ := bn1_some h
          refine x_get (C := RX0) (T := TX0) (N := 16) (ci := 0) hx hb hts in_X0 hown hK.1 hP rfl 12 (by decide) (hts _ q241) (fun _ h9 => h9) (gR_some e30) dX0_sumOf_30 ?_
          refine lv_iload_n hx hb dX0_sumOf_33 rfl (lv_at hl 2 rfl) ?_
          obtain ⟨v33, e32, h⟩ := bn1_some h
          refine x_iald hx hb hK.1 hP e32 dX0_sumOf_34 ?_
          refine lv_aload_n hx hb dX0_sumOf_35 rfl (lv_at hl 0 rfl) ?_
          obtain ⟨a35, e34, h⟩ := bn1_some h
          refine x_get (C := RX0) (T := TX0) (N := 16) (ci := 0) hx hb hts in_X0 hown hK.1 hP rfl 13 (by decide) (hts _ q242) (fun _ h9 => h9) (gR_some e34) dX0_sumOf_36 ?_
          refine lv_iload_n hx hb dX0_sumOf_39 rfl (lv_at hl 2 rfl) ?_
          obtain ⟨v37, e36, h⟩ := bn1_some h
          refine x_iald hx hb hK.1 hP e36 dX0_sumOf_40 ?_
          refine lv_imul hx hb dX0_sumOf_41 ?_
          refine lv_aload_n hx hb dX0_sumOf_42 rfl (lv_at hl 0 rfl) ?_
          obtain ⟨a39, e38, h⟩ := bn1_some h
          refine x_get (C := RX0) (T := TX0) (N := 16) (ci := 0) hx hb hts in_X0 hown hK.1 hP rfl 13 (by decide) (hts _ q242) (fun _ h9 => h9) (gR_some e38) dX0_sumOf_43 ?_
          refine lv_iload_n hx hb dX0_sumOf_46 rfl (lv_at hl 2 rfl) ?_
          obtain ⟨v41, e40, h⟩ := bn1_some h
          refine x_iald hx hb hK.1 hP e40 dX0_sumOf_47 ?_
          refine lv_imul hx hb dX0_sumOf_48 ?_
          refine lv_i2l hx hb dX0_sumOf_49 rfl ?_
          refine lv_aload_n hx hb dX0_sumOf_50 rfl (lv_at hl 0 rfl) ?_
          obtain ⟨v43, e42, h⟩ := bn1_some h
          refine x_get (C := RX0) (T := TX0) (N := 16) (ci := 0) hx hb hts in_X0 hown hK.1 hP rfl 14 (by decide) (hts _ q243) (fun _ h9 => h9) (gL_some e42) dX0_sumOf_51 ?_
          refine lv_lmul hx hb dX0_sumOf_54 ?_
          refine lv_goto (tgt := 59) hx hb dX0_sumOf_55 (by decide) ?_
          exact B59 x0 x3 x1 (((((v33 * v37) * v41)).toInt64) * v43) S _ _ _ hP hS (lv_sub hl [0, 2] rfl) h
  unfold fX0_sumOf at h
  refine lv_lconst (v := (0 : Int64)) hx hb dX0_sumOf_0 (by decide) ?_
  refine lv_lstore_n (lv' := [(1, .long (0 : Int64)), (0, .ref x0)]) hx hb dX0_sumOf_1 rfl hl (by decide) rfl (fun ls hl => ?_)
  refine lv_iconst (v := (0 : Int32)) hx hb dX0_sumOf_2 (by decide) ?_
  refine lv_istore_n (lv' := [(3, .int (0 : Int32)), (1, .long (0 : Int64)), (0, .ref x0)]) hx hb dX0_sumOf_3 rfl hl (by decide) rfl (fun ls hl => ?_)
  exact L4 FU x0 (0 : Int64) (0 : Int32) S _ _ _ hP hS (lv_sub hl [2, 1, 0] rfl) h

def bX0_sum_44 (x0 : Nat) (t0 : Int64) (S : XS) : Option (Int64 × XS) :=
some (t0, S)
def fX0_sum (x0 : Nat) (x1 : Int32) (S : XS) : Option (Int64 × XS) :=
bnd (fX0_isIn x1 (0 : Int32) (1 : Int32) S) fun v3 S2 =>
(if v3 = 0 then
chk (isC S2 x0 0) (bnd (fX0_finds x0 (1 : Int32) S2) fun v26 S24 =>
some (((v26).toInt64), S24))
else
chk (isC S2 x0 0) (bnd (fX0_isSolved x0 S2) fun v8 S6 =>
(if v8 = 0 then
chk (isC S6 x0 0) (bnd (fX0_finds x0 (3 : Int32) S6) fun v13 S11 =>
bX0_sum_44 x0 ((v13).toInt64) S11)
else
chk (isC S6 x0 0) (bnd (fX0_sumOf x0 S6) fun v17 S15 =>
bn1 (gL S15 x0 0 14) fun v19 =>
bnd (fX0_part v17 v19 x1 S15) fun v22 S21 =>
bX0_sum_44 x0 v22 S21))))
set_option maxHeartbeats 4000000 in
set_option maxRecDepth 100000 in
theorem mX0_sum {l : Launch} {D : va_G} {cA : Nat → ClassId} {A : Nat → Prop} (x0 : Nat) (x1 : Int32) (S : XS) {out : (Int64 × XS)} (h : fX0_sum x0 x1 S = some out) : Met l yX0_sum (ws_ yX0_sum cX0_sum 2 (some .long)) ({ frames := 5, cells := 0, slots := 0, locals := 153 } : Room) (gPc (xK D cA A) (xP D cA A) A [.ref x0, .int x1] S) (gQl (xK D cA A) (xP D cA A) A out) 0 0 A := by
  refine gMet_l (by decide) (Nat.le_of_ble_eq_true rfl) ?_ xKst
  intro p e s m below meth c Q ls args H locs hC hP hS hl ret
  obtain ⟨hx, hb, hml, hown, hts, hA, hK⟩ := hC
  have hown : s.vm.findClass RX0 = some m.cls := hown
  have hl : lv_has ls 2 [(0, .ref x0), (1, .int x1)] := hl
  have B44 : ∀ (x0 : Nat) (t0 : Int64) (S : XS) (H : Heap) (locs : List Loc) (ls : Array Slot), xP D cA A S H → va_S A s.heap H locs → lv_has ls 2 [(0, .ref x0)] → bX0_sum_44  x0 t0 S = some out → W p l e ({ frames := 5, cells := 0, slots := 0, locals := 153 } : Room) s m args below meth c H locs 0 0 Q (F0 m 44 ls [.long t0]) := by
    intro x0 t0 S H locs ls hP hS hl h
    unfold bX0_sum_44 at h
    exact ret _ _ _ _ _ _ dX0_sum_44 hP hS h
  unfold fX0_sum at h
  refine lv_iload_n hx hb dX0_sum_0 rfl (lv_at hl 1 rfl) ?_
  refine lv_iconst (v := (0 : Int32)) hx hb dX0_sum_1 (by decide) ?_
  refine lv_iconst (v := (1 : Int32)) hx hb dX0_sum_2 (by decide) ?_
  obtain ⟨v3, S2, e1, h⟩ := bnd_some h
  refine gci (va_runS (As := [.int x1, .int (0 : Int32), .int (1 : Int32)]) (rest := []) ⟨hx, hb, hml, hown, hts⟩ (mX0_isIn (l := l) (D := D) (cA := cA) (A := A) x1 (0 : Int32) (1 : Int32) S e1) (va_cwS 3 hts (lw_S q283 q284 q86 q285) rfl rfl rfl (by decide +kernel) ⟨Nat.le_of_ble_eq_true rfl, Nat.le_of_ble_eq_true rfl⟩) (gPreS xKst hK hA hS hP) rfl rfl hl.1 rfl (lv_room (Nat.le_of_ble_eq_true rfl)) dX0_sum_3 ⟨by first | omega | (dsimp only; omega), by first | omega | (dsimp only; omega)⟩) hS (fun H locs hP hS => ?_)
  refine lv_if_ne (tgt := 16) hx hb dX0_sum_6 (by decide) (fun c4 => ?_) (fun c4 => ?_)
  · have h := ite_f c4 h
    refine lv_aload_n hx hb dX0_sum_16 rfl (lv_at hl 0 rfl) ?_
    obtain ⟨g7, h⟩ := chk_some h
    obtain ⟨fg7, g7⟩ := isC_some g7
    obtain ⟨v8, S6, e5, h⟩ := bnd_some h
    refine gci (va_runV (As := []) (rest := []) ⟨hx, hb, hml, hown, hts⟩ (mX0_isSolved (l := l) (D := D) (cA := cA) (A := A) x0 S2 e5) (cwV 0 hts (lw_V q885 q887 qs22 q86 q888) rfl rfl rfl (by decide +kernel) ⟨Nat.le_of_ble_eq_true rfl, Nat.le_of_ble_eq_true rfl⟩) (gPreV xKst hK hA hS hP (x_recv (q := (RX0, TX0, 16)) hK.1 hP rfl g7)) rfl rfl hl.1 rfl (lv_room (Nat.le_of_ble_eq_true rfl)) dX0_sum_17 ⟨by first | omega | (dsimp only; omega), by first | omega | (dsimp only; omega)⟩) hS (fun H locs hP hS => ?_)
    refine lv_if_eq (tgt := 38) hx hb dX0_sum_20 (by decide) (fun c9 => ?_) (fun c9 => ?_)
    · have h := ite_t c9 h
      refine lv_aload_n hx hb dX0_sum_38 rfl (lv_at hl 0 rfl) ?_
      refine lv_iconst (v := (3 : Int32)) hx hb dX0_sum_39 (by decide) ?_
      obtain ⟨g12, h⟩ := chk_some h
      obtain ⟨fg12, g12⟩ := isC_some g12
      obtain ⟨v13, S11, e10, h⟩ := bnd_some h
      refine gci (va_runV (As := [.int (3 : Int32)]) (rest := []) ⟨hx, hb, hml, hown, hts⟩ (mX0_finds (l := l) (D := D) (cA := cA) (A := A) x0 (3 : Int32) S6 e10) (cwV 1 hts (lw_V q290 q292 qs1 q86 q293) rfl rfl rfl (by decide +kernel) ⟨Nat.le_of_ble_eq_true rfl, Nat.le_of_ble_eq_true rfl⟩) (gPreV xKst hK hA hS hP (x_recv (q := (RX0, TX0, 16)) hK.1 hP rfl g12)) rfl rfl hl.1 rfl (lv_room (Nat.le_of_ble_eq_true rfl)) dX0_sum_40 ⟨by first | omega | (dsimp only; omega), by first | omega | (dsimp only; omega)⟩) hS (fun H locs hP hS => ?_)
      refine lv_i2l hx hb dX0_sum_43 rfl ?_
      exact B44 x0 ((v13).toInt64) S11 _ _ _ hP hS (lv_sub hl [0] rfl) h
    · have h := ite_f c9 h
      refine lv_aload_n hx hb dX0_sum_23 rfl (lv_at hl 0 rfl) ?_
      obtain ⟨g16, h⟩ := chk_some h
      obtain ⟨fg16, g16⟩ := isC_some g16
      obtain ⟨v17, S15, e14, h⟩ := bnd_some h
      refine gcl (va_runV (As := []) (rest := []) ⟨hx, hb, hml, hown, hts⟩ (mX0_sumOf (l := l) (D := D) (cA := cA) (A := A) x0 S6 e14) (cwV 0 hts (lw_V q964 q966 qs28 q86 q967) rfl rfl rfl (by decide +kernel) ⟨Nat.le_of_ble_eq_true rfl, Nat.le_of_ble_eq_true rfl⟩) (gPreV xKst hK hA hS hP (x_recv (q := (RX0, TX0, 16)) hK.1 hP rfl g16)) rfl rfl hl.1 rfl (lv_room (Nat.le_of_ble_eq_true rfl)) dX0_sum_24 ⟨by first | omega | (dsimp only; omega), by first | omega | (dsimp only; omega)⟩) hS (fun H locs hP hS => ?_)
      refine lv_aload_n hx hb dX0_sum_27 rfl (lv_at hl 0 rfl) ?_
      obtain ⟨v19, e18, h⟩ := bn1_some h
      refine x_get (C := RX0) (T := TX0) (N := 16) (ci := 0) hx hb hts in_X0 hown hK.1 hP rfl 14 (by decide) (hts _ q243) (fun _ h9 => h9) (gL_some e18) dX0_sum_28 ?_
      refine lv_iload_n hx hb dX0_sum_31 rfl (lv_at hl 1 rfl) ?_
      obtain ⟨v22, S21, e20, h⟩ := bnd_some h
      refine gcl (va_runS (As := [.long v17, .long v19, .int x1]) (rest := []) ⟨hx, hb, hml, hown, hts⟩ (mX0_part (l := l) (D := D) (cA := cA) (A := A) v17 v19 x1 S15 e20) (va_cwS 3 hts (lw_S q950 q951 q86 q952) rfl rfl rfl (by decide +kernel) ⟨Nat.le_of_ble_eq_true rfl, Nat.le_of_ble_eq_true rfl⟩) (gPreS xKst hK hA hS hP) rfl rfl hl.1 rfl (lv_room (Nat.le_of_ble_eq_true rfl)) dX0_sum_32 ⟨by first | omega | (dsimp only; omega), by first | omega | (dsimp only; omega)⟩) hS (fun H locs hP hS => ?_)
      refine lv_goto (tgt := 44) hx hb dX0_sum_35 (by decide) ?_
      exact B44 x0 v22 S21 _ _ _ hP hS (lv_sub hl [0] rfl) h
  · have h := ite_t c4 h
    refine lv_aload_n hx hb dX0_sum_9 rfl (lv_at hl 0 rfl) ?_
    refine lv_iconst (v := (1 : Int32)) hx hb dX0_sum_10 (by decide) ?_
    obtain ⟨g25, h⟩ := chk_some h
    obtain ⟨fg25, g25⟩ := isC_some g25
    obtain ⟨v26, S24, e23, h⟩ := bnd_some h
    refine gci (va_runV (As := [.int (1 : Int32)]) (rest := []) ⟨hx, hb, hml, hown, hts⟩ (mX0_finds (l := l) (D := D) (cA := cA) (A := A) x0 (1 : Int32) S2 e23) (cwV 1 hts (lw_V q290 q292 qs1 q86 q293) rfl rfl rfl (by decide +kernel) ⟨Nat.le_of_ble_eq_true rfl, Nat.le_of_ble_eq_true rfl⟩) (gPreV xKst hK hA hS hP (x_recv (q := (RX0, TX0, 16)) hK.1 hP rfl g25)) rfl rfl hl.1 rfl (lv_room (Nat.le_of_ble_eq_true rfl)) dX0_sum_11 ⟨by first | omega | (dsimp only; omega), by first | omega | (dsimp only; omega)⟩) hS (fun H locs hP hS => ?_)
    refine lv_i2l hx hb dX0_sum_14 rfl ?_
    exact ret _ _ _ _ _ _ dX0_sum_15 hP hS h

def fX0_tell (x0 : Nat) (x1 : Int32) (S : XS) : Option (Int32 × XS) :=
bn1 (gR S x0 0 2) fun a2 =>
bn1 (gI S a2 1 7) fun v4 =>
(if v4 = (24 : Int32) then
chk (isC S x0 0) (bnd (fX0_finds x0 (4 : Int32) S) fun v30 S28 =>
some (v30, S28))
else
bn1 (gR S x0 0 2) fun a7 =>
bn1 (gR S a7 1 15) fun a9 =>
bn1 (gR S x0 0 2) fun a11 =>
bn1 (gI S a11 1 7) fun v13 =>
bn1 (sI S a9 0 v13 x1) fun S15 =>
bn1 (gR S15 x0 0 2) fun a17 =>
bn1 (gI S15 a17 1 7) fun v19 =>
nm (v19 + (1 : Int32)) fun y20 =>
bn1 (pF S15 a17 1 7 (.int y20)) fun S22 =>
bn1 (gR S22 x0 0 2) fun a24 =>
bn1 (gI S22 a24 1 7) fun v26 =>
some (v26, S22))
set_option maxHeartbeats 4000000 in
set_option maxRecDepth 100000 in
theorem mX0_tell {l : Launch} {D : va_G} {cA : Nat → ClassId} {A : Nat → Prop} (x0 : Nat) (x1 : Int32) (S : XS) {out : (Int32 × XS)} (h : fX0_tell x0 x1 S = some out) : Met l yX0_tell (ws_ yX0_tell cX0_tell 2 (some .int)) ({ frames := 1, cells := 0, slots := 0, locals := 21 } : Room) (gPc (xK D cA A) (xP D cA A) A [.ref x0, .int x1] S) (gQi (xK D cA A) (xP D cA A) A out) 0 0 A := by
  refine gMet_z (by decide) (Nat.le_of_ble_eq_true rfl) ?_ xKst
  intro p e s m below meth c Q ls args H locs hC hP hS hl ret
  obtain ⟨hx, hb, hml, hown, hts, hA, hK⟩ := hC
  have hown : s.vm.findClass RX0 = some m.cls := hown
  have hl : lv_has ls 2 [(0, .ref x0), (1, .int x1)] := hl
  unfold fX0_tell at h
  refine lv_aload_n hx hb dX0_tell_0 rfl (lv_at hl 0 rfl) ?_
  obtain ⟨a2, e1, h⟩ := bn1_some h
  refine x_get (C := RX0) (T := TX0) (N := 16) (ci := 0) hx hb hts in_X0 hown hK.1 hP rfl 2 (by decide) (hts _ q231) (fun _ h9 => h9) (gR_some e1) dX0_tell_1 ?_
  obtain ⟨v4, e3, h⟩ := bn1_some h
  refine x_getN (C := RX1) (T := TX1) (N := 16) (ci := 1) hx hb hts in_X1 hown hK.1 hP rfl 7 (by decide) (hK.2.1 _ q160 rfl) (fun _ h9 => h9) (gI_some e3) dX0_tell_4 ?_
  refine lv_bipush (v := (24 : Int32)) hx hb dX0_tell_7 (by decide) ?_
  refine lv_icmp_ne (tgt := 18) hx hb dX0_tell_9 (by decide) (fun c5 => ?_) (fun c5 => ?_)
  · have h := ite_f c5 h
    refine lv_aload_n hx hb dX0_tell_18 rfl (lv_at hl 0 rfl) ?_
    obtain ⟨a7, e6, h⟩ := bn1_some h
    refine x_get (C := RX0) (T := TX0) (N := 16) (ci := 0) hx hb hts in_X0 hown hK.1 hP rfl 2 (by decide) (hts _ q231) (fun _ h9 => h9) (gR_some e6) dX0_tell_19 ?_
    obtain ⟨a9, e8, h⟩ := bn1_some h
    refine x_getN (C := RX1) (T := TX1) (N := 16) (ci := 1) hx hb hts in_X1 hown hK.1 hP rfl 15 (by decide) (hK.2.1 _ q176 rfl) (fun _ h9 => h9) (gR_some e8) dX0_tell_22 ?_
    refine lv_aload_n hx hb dX0_tell_25 rfl (lv_at hl 0 rfl) ?_
    obtain ⟨a11, e10, h⟩ := bn1_some h
    refine x_get (C := RX0) (T := TX0) (N := 16) (ci := 0) hx hb hts in_X0 hown hK.1 hP rfl 2 (by decide) (hts _ q231) (fun _ h9 => h9) (gR_some e10) dX0_tell_26 ?_
    obtain ⟨v13, e12, h⟩ := bn1_some h
    refine x_getN (C := RX1) (T := TX1) (N := 16) (ci := 1) hx hb hts in_X1 hown hK.1 hP rfl 7 (by decide) (hK.2.1 _ q160 rfl) (fun _ h9 => h9) (gI_some e12) dX0_tell_29 ?_
    refine lv_iload_n hx hb dX0_tell_32 rfl (lv_at hl 1 rfl) ?_
    obtain ⟨S15, e14, h⟩ := bn1_some h
    refine x_iast hx hb hK.1 hP hS e14 dX0_tell_33 (fun H locs hP hS => ?_)
    refine lv_aload_n hx hb dX0_tell_34 rfl (lv_at hl 0 rfl) ?_
    obtain ⟨a17, e16, h⟩ := bn1_some h
    refine x_get (C := RX0) (T := TX0) (N := 16) (ci := 0) hx hb hts in_X0 hown hK.1 hP rfl 2 (by decide) (hts _ q231) (fun _ h9 => h9) (gR_some e16) dX0_tell_35 ?_
    refine lv_dup hx hb dX0_tell_38 rfl ?_
    obtain ⟨v19, e18, h⟩ := bn1_some h
    refine x_getN (C := RX1) (T := TX1) (N := 16) (ci := 1) hx hb hts in_X1 hown hK.1 hP rfl 7 (by decide) (hK.2.1 _ q160 rfl) (fun _ h9 => h9) (gI_some e18) dX0_tell_39 ?_
    refine lv_iconst (v := (1 : Int32)) hx hb dX0_tell_42 (by decide) ?_
    refine lv_iadd hx hb dX0_tell_43 ?_
    refine lv_topi (fun y20 ey20 => ?_)
    have h := nm_at ey20 h
    obtain ⟨S22, e21, h⟩ := bn1_some h
    refine x_putN (v := .int y20) (ty := .int) (C := RX1) (T := TX1) (N := 16) (ci := 1) hx hb hts in_X1 tyX1 tyX1_ok nmX1 hown hK.1 hP hS rfl 7 (by decide) (hK.2.1 _ q160 rfl) (fun _ h9 => h9) rfl (by decide +kernel) rfl rfl e21 dX0_tell_44 (fun H locs hP hS => ?_)
    refine lv_aload_n hx hb dX0_tell_47 rfl (lv_at hl 0 rfl) ?_
    obtain ⟨a24, e23, h⟩ := bn1_some h
    refine x_get (C := RX0) (T := TX0) (N := 16) (ci := 0) hx hb hts in_X0 hown hK.1 hP rfl 2 (by decide) (hts _ q231) (fun _ h9 => h9) (gR_some e23) dX0_tell_48 ?_
    obtain ⟨v26, e25, h⟩ := bn1_some h
    refine x_getN (C := RX1) (T := TX1) (N := 16) (ci := 1) hx hb hts in_X1 hown hK.1 hP rfl 7 (by decide) (hK.2.1 _ q160 rfl) (fun _ h9 => h9) (gI_some e25) dX0_tell_51 ?_
    exact ret _ _ _ _ _ _ dX0_tell_54 rfl hP hS h
  · have h := ite_t c5 h
    refine lv_aload_n hx hb dX0_tell_12 rfl (lv_at hl 0 rfl) ?_
    refine lv_iconst (v := (4 : Int32)) hx hb dX0_tell_13 (by decide) ?_
    obtain ⟨g29, h⟩ := chk_some h
    obtain ⟨fg29, g29⟩ := isC_some g29
    obtain ⟨v30, S28, e27, h⟩ := bnd_some h
    refine gci (va_runV (As := [.int (4 : Int32)]) (rest := []) ⟨hx, hb, hml, hown, hts⟩ (mX0_finds (l := l) (D := D) (cA := cA) (A := A) x0 (4 : Int32) S e27) (cwV 1 hts (lw_V q290 q292 qs1 q86 q293) rfl rfl rfl (by decide +kernel) ⟨Nat.le_of_ble_eq_true rfl, Nat.le_of_ble_eq_true rfl⟩) (gPreV xKst hK hA hS hP (x_recv (q := (RX0, TX0, 16)) hK.1 hP rfl g29)) rfl rfl hl.1 rfl (lv_room (Nat.le_of_ble_eq_true rfl)) dX0_tell_14 ⟨by first | omega | (dsimp only; omega), by first | omega | (dsimp only; omega)⟩) hS (fun H locs hP hS => ?_)
    exact ret _ _ _ _ _ _ dX0_tell_17 rfl hP hS h

def bX0_tells_86 (x0 : Nat) (x3 : Int32) (S : XS) : Option (Int32 × XS) :=
some (x3, S)
def bX0_tells_35 (k35 : Nat → Option Nat → Int32 → XS → Option (Int32 × XS)) (x0 : Nat) (x2 : Option Nat) (x3 : Int32) (S : XS) : Option (Int32 × XS) :=
bn1 x2 fun a1 =>
bnd (fX0_sizeOf a1 S) fun v5 S4 =>
(if v5 ≤ x3 then
bX0_tells_86 x0 x3 S4
else
chk (isC S4 x0 0) (bnd (fX0_isMark x0 x3 S4) fun v10 S8 =>
(if v10 = 0 then
bX0_tells_86 x0 x3 S8
else
bnd (fX0_numberOf a1 x3 S8) fun v14 S13 =>
bnd (fX0_isIn v14 (-20 : Int32) (20 : Int32) S13) fun v17 S16 =>
(if v17 = 0 then
bX0_tells_86 x0 x3 S16
else
bn1 (gR S16 x0 0 2) fun a20 =>
bn1 (gR S16 a20 1 11) fun a22 =>
bnd (fX0_numberOf a1 x3 S16) fun v25 S24 =>
bn1 (sI S24 a22 0 x3 v25) fun S27 =>
nm (x3 + (1 : Int32)) fun y28 =>
k35 x0 (some a1) y28 S27))))
def lX0_tells_35 : Nat → (Nat → Option Nat → Int32 → XS → Option (Int32 × XS))
  | 0 => fun _ _ _ _ => none
  | n + 1 => bX0_tells_35 (lX0_tells_35 n)
def fX0_tells (x0 : Nat) (x1 : Int32) (S : XS) : Option (Int32 × XS) :=
bnd (fX0_isSheet x1 S) fun v31 S30 =>
(if v31 = 0 then
chk (isC S30 x0 0) (bnd (fX0_finds x0 (1 : Int32) S30) fun v47 S45 =>
some (v47, S45))
else
bn1 (gR S30 x0 0 7) fun a34 =>
bn1 (aR S30 a34 4 x1) fun a36 =>
bn1 (gQ S30 a36 2 0) fun a38 =>
nlc a38 (
chk (isC S30 x0 0) (bnd (fX0_finds x0 (2 : Int32) S30) fun v43 S41 =>
some (v43, S41))) fun a39 =>
lX0_tells_35 FU x0 (some a39) (0 : Int32) S30)
set_option maxHeartbeats 4000000 in
set_option maxRecDepth 100000 in
theorem mX0_tells {l : Launch} {D : va_G} {cA : Nat → ClassId} {A : Nat → Prop} (x0 : Nat) (x1 : Int32) (S : XS) {out : (Int32 × XS)} (h : fX0_tells x0 x1 S = some out) : Met l yX0_tells (ws_ yX0_tells cX0_tells 4 (some .int)) ({ frames := 2, cells := 0, slots := 0, locals := 43 } : Room) (gPc (xK D cA A) (xP D cA A) A [.ref x0, .int x1] S) (gQi (xK D cA A) (xP D cA A) A out) 0 0 A := by
  refine gMet_z (by decide) (Nat.le_of_ble_eq_true rfl) ?_ xKst
  intro p e s m below meth c Q ls args H locs hC hP hS hl ret
  obtain ⟨hx, hb, hml, hown, hts, hA, hK⟩ := hC
  have hown : s.vm.findClass RX0 = some m.cls := hown
  have hl : lv_has ls 4 [(0, .ref x0), (1, .int x1)] := hl
  have B86 : ∀ (x0 : Nat) (x3 : Int32) (S : XS) (H : Heap) (locs : List Loc) (ls : Array Slot), xP D cA A S H → va_S A s.heap H locs → lv_has ls 4 [(0, .ref x0), (3, .int x3)] → bX0_tells_86  x0 x3 S = some out → W p l e ({ frames := 2, cells := 0, slots := 0, locals := 43 } : Room) s m args below meth c H locs 0 0 Q (F0 m 86 ls []) := by
    intro x0 x3 S H locs ls hP hS hl h
    unfold bX0_tells_86 at h
    refine lv_iload_n hx hb dX0_tells_86 rfl (lv_at hl 1 rfl) ?_
    exact ret _ _ _ _ _ _ dX0_tells_87 rfl hP hS h
  have L35 : ∀ (n35 : Nat) (x0 : Nat) (x2 : Option Nat) (x3 : Int32) (S : XS) (H : Heap) (locs : List Loc) (ls : Array Slot), xP D cA A S H → va_S A s.heap H locs → lv_has ls 4 [(0, .ref x0), (2, va_rf x2), (3, .int x3)] → lX0_tells_35 n35 x0 x2 x3 S = some out → W p l e ({ frames := 2, cells := 0, slots := 0, locals := 43 } : Room) s m args below meth c H locs 0 0 Q (F0 m 35 ls []) := by
    intro n35
    induction n35 with
    | zero =>
      intro x0 x2 x3 S H locs ls hP hS hl h
      cases h
    | succ n35 ih35 =>
      intro x0 x2 x3 S H locs ls hP hS hl h
      replace h : bX0_tells_35 (lX0_tells_35 n35) x0 x2 x3 S = some out := h
      unfold bX0_tells_35 at h
      refine lv_iload_n hx hb dX0_tells_35 rfl (lv_at hl 2 rfl) ?_
      refine x_aload_n hx hb dX0_tells_36 rfl (lv_at hl 1 rfl) ?_
      obtain ⟨a1, e2, h⟩ := bn1_some h
      subst e2
      obtain ⟨v5, S4, e3, h⟩ := bnd_some h
      refine gci (va_runS (As := [.ref a1]) (rest := [.int x3]) ⟨hx, hb, hml, hown, hts⟩ (mX0_sizeOf (l := l) (D := D) (cA := cA) (A := A) a1 S e3) (va_cwS 1 hts (lw_S q1014 q1015 q86 q1016) rfl rfl rfl (by decide +kernel) ⟨Nat.le_of_ble_eq_true rfl, Nat.le_of_ble_eq_true rfl⟩) (gPreS xKst hK hA hS hP) rfl rfl hl.1 rfl (lv_room (Nat.le_of_ble_eq_true rfl)) dX0_tells_37 ⟨by first | omega | (dsimp only; omega), by first | omega | (dsimp only; omega)⟩) hS (fun H locs hP hS => ?_)
      refine lv_icmp_ge (tgt := 86) hx hb dX0_tells_40 (by decide) (fun c6 => ?_) (fun c6 => ?_)
      · have h := ite_t c6 h
        exact B86 x0 x3 S4 _ _ _ hP hS (lv_sub hl [0, 2] rfl) h
      · have h := ite_f c6 h
        refine lv_aload_n hx hb dX0_tells_43 rfl (lv_at hl 0 rfl) ?_
        refine lv_iload_n hx hb dX0_tells_44 rfl (lv_at hl 2 rfl) ?_
        obtain ⟨g9, h⟩ := chk_some h
        obtain ⟨fg9, g9⟩ := isC_some g9
        obtain ⟨v10, S8, e7, h⟩ := bnd_some h
        refine gci (va_runV (As := [.int x3]) (rest := []) ⟨hx, hb, hml, hown, hts⟩ (mX0_isMark (l := l) (D := D) (cA := cA) (A := A) x0 x3 S4 e7) (cwV 1 hts (lw_V q380 q382 qs2 q86 q383) rfl rfl rfl (by decide +kernel) ⟨Nat.le_of_ble_eq_true rfl, Nat.le_of_ble_eq_true rfl⟩) (gPreV xKst hK hA hS hP (x_recv (q := (RX0, TX0, 16)) hK.1 hP rfl g9)) rfl rfl hl.1 rfl (lv_room (Nat.le_of_ble_eq_true rfl)) dX0_tells_45 ⟨by first | omega | (dsimp only; omega), by first | omega | (dsimp only; omega)⟩) hS (fun H locs hP hS => ?_)
        refine lv_if_eq (tgt := 86) hx hb dX0_tells_48 (by decide) (fun c11 => ?_) (fun c11 => ?_)
        · have h := ite_t c11 h
          exact B86 x0 x3 S8 _ _ _ hP hS (lv_sub hl [0, 2] rfl) h
        · have h := ite_f c11 h
          refine lv_aload_n hx hb dX0_tells_51 rfl (lv_at hl 1 rfl) ?_
          refine lv_iload_n hx hb dX0_tells_52 rfl (lv_at hl 2 rfl) ?_
          obtain ⟨v14, S13, e12, h⟩ := bnd_some h
          refine gci (va_runS (As := [.ref a1, .int x3]) (rest := []) ⟨hx, hb, hml, hown, hts⟩ (mX0_numberOf (l := l) (D := D) (cA := cA) (A := A) a1 x3 S8 e12) (va_cwS 2 hts (lw_S q1020 q1021 q86 q1022) rfl rfl rfl (by decide +kernel) ⟨Nat.le_of_ble_eq_true rfl, Nat.le_of_ble_eq_true rfl⟩) (gPreS xKst hK hA hS hP) rfl rfl hl.1 rfl (lv_room (Nat.le_of_ble_eq_true rfl)) dX0_tells_53 ⟨by first | omega | (dsimp only; omega), by first | omega | (dsimp only; omega)⟩) hS (fun H locs hP hS => ?_)
          refine lv_bipush (v := (-20 : Int32)) hx hb dX0_tells_56 (by decide) ?_
          refine lv_bipush (v := (20 : Int32)) hx hb dX0_tells_58 (by decide) ?_
          obtain ⟨v17, S16, e15, h⟩ := bnd_some h
          refine gci (va_runS (As := [.int v14, .int (-20 : Int32), .int (20 : Int32)]) (rest := []) ⟨hx, hb, hml, hown, hts⟩ (mX0_isIn (l := l) (D := D) (cA := cA) (A := A) v14 (-20 : Int32) (20 : Int32) S13 e15) (va_cwS 3 hts (lw_S q283 q284 q86 q285) rfl rfl rfl (by decide +kernel) ⟨Nat.le_of_ble_eq_true rfl, Nat.le_of_ble_eq_true rfl⟩) (gPreS xKst hK hA hS hP) rfl rfl hl.1 rfl (lv_room (Nat.le_of_ble_eq_true rfl)) dX0_tells_60 ⟨by first | omega | (dsimp only; omega), by first | omega | (dsimp only; omega)⟩) hS (fun H locs hP hS => ?_)
          refine lv_if_eq (tgt := 86) hx hb dX0_tells_63 (by decide) (fun c18 => ?_) (fun c18 => ?_)
          · have h := ite_t c18 h
            exact B86 x0 x3 S16 _ _ _ hP hS (lv_sub hl [0, 2] rfl) h
          · have h := ite_f c18 h
            refine lv_aload_n hx hb dX0_tells_66 rfl (lv_at hl 0 rfl) ?_
            obtain ⟨a20, e19, h⟩ := bn1_some h
            refine x_get (C := RX0) (T := TX0) (N := 16) (ci := 0) hx hb hts in_X0 hown hK.1 hP rfl 2 (by decide) (hts _ q231) (fun _ h9 => h9) (gR_some e19) dX0_tells_67 ?_
            obtain ⟨a22, e21, h⟩ := bn1_some h
            refine x_getN (C := RX1) (T := TX1) (N := 16) (ci := 1) hx hb hts in_X1 hown hK.1 hP rfl 11 (by decide) (hK.2.1 _ q168 rfl) (fun _ h9 => h9) (gR_some e21) dX0_tells_70 ?_
            refine lv_iload_n hx hb dX0_tells_73 rfl (lv_at hl 2 rfl) ?_
            refine lv_aload_n hx hb dX0_tells_74 rfl (lv_at hl 1 rfl) ?_
            refine lv_iload_n hx hb dX0_tells_75 rfl (lv_at hl 2 rfl) ?_
            obtain ⟨v25, S24, e23, h⟩ := bnd_some h
            refine gci (va_runS (As := [.ref a1, .int x3]) (rest := [.int x3, .ref a22]) ⟨hx, hb, hml, hown, hts⟩ (mX0_numberOf (l := l) (D := D) (cA := cA) (A := A) a1 x3 S16 e23) (va_cwS 2 hts (lw_S q1020 q1021 q86 q1022) rfl rfl rfl (by decide +kernel) ⟨Nat.le_of_ble_eq_true rfl, Nat.le_of_ble_eq_true rfl⟩) (gPreS xKst hK hA hS hP) rfl rfl hl.1 rfl (lv_room (Nat.le_of_ble_eq_true rfl)) dX0_tells_76 ⟨by first | omega | (dsimp only; omega), by first | omega | (dsimp only; omega)⟩) hS (fun H locs hP hS => ?_)
            obtain ⟨S27, e26, h⟩ := bn1_some h
            refine x_iast hx hb hK.1 hP hS e26 dX0_tells_79 (fun H locs hP hS => ?_)
            obtain ⟨y28, ey28⟩ : ∃ y : Int32, y = x3 + (1 : Int32) := ⟨_, rfl⟩
            refine lv_iinc (v := y28) (lv' := [(3, .int y28), (0, .ref x0), (2, .ref a1)]) hx hb dX0_tells_80 hl (k := 2) rfl (by rw [ey28]; rfl) (by decide) rfl (fun ls hl => ?_)
            have h := nm_at ey28 h
            refine lv_goto (tgt := 35) hx hb dX0_tells_83 (by decide) ?_
            exact ih35 x0 (some a1) y28 S27 _ _ _ hP hS (lv_sub hl [1, 2, 0] rfl) h
  unfold fX0_tells at h
  refine lv_iload_n hx hb dX0_tells_0 rfl (lv_at hl 1 rfl) ?_
  obtain ⟨v31, S30, e29, h⟩ := bnd_some h
  refine gci (va_runS (As := [.int x1]) (rest := []) ⟨hx, hb, hml, hown, hts⟩ (mX0_isSheet (l := l) (D := D) (cA := cA) (A := A) x1 S e29) (va_cwS 1 hts (lw_S q1011 q1012 q86 q1013) rfl rfl rfl (by decide +kernel) ⟨Nat.le_of_ble_eq_true rfl, Nat.le_of_ble_eq_true rfl⟩) (gPreS xKst hK hA hS hP) rfl rfl hl.1 rfl (lv_room (Nat.le_of_ble_eq_true rfl)) dX0_tells_1 ⟨by first | omega | (dsimp only; omega), by first | omega | (dsimp only; omega)⟩) hS (fun H locs hP hS => ?_)
  refine lv_if_ne (tgt := 13) hx hb dX0_tells_4 (by decide) (fun c32 => ?_) (fun c32 => ?_)
  · have h := ite_f c32 h
    refine lv_aload_n hx hb dX0_tells_13 rfl (lv_at hl 0 rfl) ?_
    obtain ⟨a34, e33, h⟩ := bn1_some h
    refine x_get (C := RX0) (T := TX0) (N := 16) (ci := 0) hx hb hts in_X0 hown hK.1 hP rfl 7 (by decide) (hts _ q236) (fun _ h9 => h9) (gR_some e33) dX0_tells_14 ?_
    refine lv_iload_n hx hb dX0_tells_17 rfl (lv_at hl 1 rfl) ?_
    obtain ⟨a36, e35, h⟩ := bn1_some h
    refine x_aldr (t := 4) hx hb hK.1 hP (by decide) e35 dX0_tells_18 ?_
    obtain ⟨a38, e37, h⟩ := bn1_some h
    refine x_getN (C := RX2) (T := TX2) (N := 1) (ci := 2) hx hb hts in_X2 hown hK.1 hP rfl 0 (by decide) (hK.2.1 _ q139 rfl) (fun _ h9 => h9) (gQ_some e37) dX0_tells_19 ?_
    refine x_astore_n (lv' := [(2, va_rf a38), (0, .ref x0), (1, .int x1)]) hx hb dX0_tells_22 rfl hl (by decide) rfl (fun ls hl => ?_)
    refine x_aload_n hx hb dX0_tells_23 rfl (lv_at hl 0 rfl) ?_
    cases a38 with
    | none =>
      replace h := nlc_n h
      refine lv_ifnonnullN hx hb dX0_tells_24 ?_
      refine lv_aload_n hx hb dX0_tells_27 rfl (lv_at hl 1 rfl) ?_
      refine lv_iconst (v := (2 : Int32)) hx hb dX0_tells_28 (by decide) ?_
      obtain ⟨g42, h⟩ := chk_some h
      obtain ⟨fg42, g42⟩ := isC_some g42
      obtain ⟨v43, S41, e40, h⟩ := bnd_some h
      refine gci (va_runV (As := [.int (2 : Int32)]) (rest := []) ⟨hx, hb, hml, hown, hts⟩ (mX0_finds (l := l) (D := D) (cA := cA) (A := A) x0 (2 : Int32) S30 e40) (cwV 1 hts (lw_V q290 q292 qs1 q86 q293) rfl rfl rfl (by decide +kernel) ⟨Nat.le_of_ble_eq_true rfl, Nat.le_of_ble_eq_true rfl⟩) (gPreV xKst hK hA hS hP (x_recv (q := (RX0, TX0, 16)) hK.1 hP rfl g42)) rfl rfl hl.1 rfl (lv_room (Nat.le_of_ble_eq_true rfl)) dX0_tells_29 ⟨by first | omega | (dsimp only; omega), by first | omega | (dsimp only; omega)⟩) hS (fun H locs hP hS => ?_)
      exact ret _ _ _ _ _ _ dX0_tells_32 rfl hP hS h
    | some a39 =>
      replace h := nlc_s h
      refine lv_ifnonnull (tgt := 33) hx hb dX0_tells_24 (by decide) ?_
      refine lv_iconst (v := (0 : Int32)) hx hb dX0_tells_33 (by decide) ?_
      refine lv_istore_n (lv' := [(3, .int (0 : Int32)), (2, .ref a39), (0, .ref x0), (1, .int x1)]) hx hb dX0_tells_34 rfl hl (by decide) rfl (fun ls hl => ?_)
      exact L35 FU x0 (some a39) (0 : Int32) S30 _ _ _ hP hS (lv_sub hl [2, 1, 0] rfl) h
  · have h := ite_t c32 h
    refine lv_aload_n hx hb dX0_tells_7 rfl (lv_at hl 0 rfl) ?_
    refine lv_iconst (v := (1 : Int32)) hx hb dX0_tells_8 (by decide) ?_
    obtain ⟨g46, h⟩ := chk_some h
    obtain ⟨fg46, g46⟩ := isC_some g46
    obtain ⟨v47, S45, e44, h⟩ := bnd_some h
    refine gci (va_runV (As := [.int (1 : Int32)]) (rest := []) ⟨hx, hb, hml, hown, hts⟩ (mX0_finds (l := l) (D := D) (cA := cA) (A := A) x0 (1 : Int32) S30 e44) (cwV 1 hts (lw_V q290 q292 qs1 q86 q293) rfl rfl rfl (by decide +kernel) ⟨Nat.le_of_ble_eq_true rfl, Nat.le_of_ble_eq_true rfl⟩) (gPreV xKst hK hA hS hP (x_recv (q := (RX0, TX0, 16)) hK.1 hP rfl g46)) rfl rfl hl.1 rfl (lv_room (Nat.le_of_ble_eq_true rfl)) dX0_tells_9 ⟨by first | omega | (dsimp only; omega), by first | omega | (dsimp only; omega)⟩) hS (fun H locs hP hS => ?_)
    exact ret _ _ _ _ _ _ dX0_tells_12 rfl hP hS h

def bX0_then_19 (x0 : Nat) (S : XS) : Option (Int32 × XS) :=
chk (isC S x0 0) (bnd (fX0_finds x0 (1 : Int32) S) fun v4 S2 =>
some (v4, S2))
def bX0_then_92 (x0 : Nat) (t0 : Int32) (S : XS) : Option (Int32 × XS) :=
bn1 (gR S x0 0 2) fun a6 =>
bn1 (gR S x0 0 4) fun a8 =>
chk (isC S a6 1) (bn1 (fX1_follows a6 a8 S) fun S10 =>
some (t0, S10))
def bX0_then_38 (k38 : Nat → Int32 → Int32 → Int32 → XS → Option (Int32 × XS)) (x0 : Nat) (x1 : Int32) (x2 : Int32) (x3 : Int32) (S : XS) : Option (Int32 × XS) :=
(if x1 ≤ x3 then
(if x2 = 0 then
bn1 (gR S x0 0 2) fun a26 =>
chk (isC S a26 1) (bnd (fX1_used a26 S) fun v30 S28 =>
bnd (fJ8_bitCount v30 S28) fun v33 S32 =>
bX0_then_92 x0 v33 S32)
else
(if x2 = (1 : Int32) then
bn1 (gR S x0 0 2) fun a20 =>
chk (isC S a20 1) (bnd (fX1_used a20 S) fun v24 S22 =>
bX0_then_92 x0 v24 S22)
else
bn1 (gR S x0 0 2) fun a16 =>
bn1 (gI S a16 1 4) fun v18 =>
bX0_then_92 x0 v18 S))
else
chk (isC S x0 0) (bn1 (fX0_aRound x0 S) fun S35 =>
nm (x3 + (1 : Int32)) fun y37 =>
k38 x0 x1 x2 y37 S35))
def lX0_then_38 : Nat → (Nat → Int32 → Int32 → Int32 → XS → Option (Int32 × XS))
  | 0 => fun _ _ _ _ _ => none
  | n + 1 => bX0_then_38 (lX0_then_38 n)
def fX0_then (x0 : Nat) (x1 : Int32) (x2 : Int32) (S : XS) : Option (Int32 × XS) :=
bnd (fX0_isIn x1 (0 : Int32) (60 : Int32) S) fun v40 S39 =>
(if v40 = 0 then
bX0_then_19 x0 S39
else
bnd (fX0_isIn x2 (0 : Int32) (2 : Int32) S39) fun v44 S43 =>
(if v44 = 0 then
bX0_then_19 x0 S43
else
bn1 (gR S43 x0 0 4) fun a47 =>
bn1 (gR S43 x0 0 2) fun a49 =>
chk (isC S43 a47 1) (bn1 (fX1_follows a47 a49 S43) fun S51 =>
lX0_then_38 FU x0 x1 x2 (0 : Int32) S51)))
set_option maxHeartbeats 4000000 in
set_option maxRecDepth 100000 in
theorem mX0_then {l : Launch} {D : va_G} {cA : Nat → ClassId} {A : Nat → Prop} (x0 : Nat) (x1 : Int32) (x2 : Int32) (S : XS) {out : (Int32 × XS)} (h : fX0_then x0 x1 x2 S = some out) : Met l yX0_then (wsW_ yX0_then cX0_then 5 (some .int) [(36, 93, 106, 0), (106, 108, 106, 0)]) ({ frames := 6, cells := 0, slots := 0, locals := 174 } : Room) (gPc (xK D cA A) (xP D cA A) A [.ref x0, .int x1, .int x2] S) (gQi (xK D cA A) (xP D cA A) A out) 0 0 A := by
  refine gMetW_z (by decide) (Nat.le_of_ble_eq_true rfl) ?_ xKst
  intro p e s m below meth c Q ls args H locs hC hP hS hl ret
  obtain ⟨hx, hb, hml, hown, hts, hA, hK⟩ := hC
  have hown : s.vm.findClass RX0 = some m.cls := hown
  have hl : lv_has ls 5 [(0, .ref x0), (1, .int x1), (2, .int x2)] := hl
  have B19 : ∀ (x0 : Nat) (S : XS) (H : Heap) (locs : List Loc) (ls : Array Slot), xP D cA A S H → va_S A s.heap H locs → lv_has ls 5 [(0, .ref x0)] → bX0_then_19  x0 S = some out → W p l e ({ frames := 6, cells := 0, slots := 0, locals := 174 } : Room) s m args below meth c H locs 0 0 Q (F0 m 19 ls []) := by
    intro x0 S H locs ls hP hS hl h
    unfold bX0_then_19 at h
    refine lv_aload_n hx hb dX0_then_19 rfl (lv_at hl 0 rfl) ?_
    refine lv_iconst (v := (1 : Int32)) hx hb dX0_then_20 (by decide) ?_
    obtain ⟨g3, h⟩ := chk_some h
    obtain ⟨fg3, g3⟩ := isC_some g3
    obtain ⟨v4, S2, e1, h⟩ := bnd_some h
    refine gci (va_runV (As := [.int (1 : Int32)]) (rest := []) ⟨hx, hb, hml, hown, hts⟩ (mX0_finds (l := l) (D := D) (cA := cA) (A := A) x0 (1 : Int32) S e1) (cwV 1 hts (lw_V q290 q292 qs1 q86 q293) rfl rfl rfl (by decide +kernel) ⟨Nat.le_of_ble_eq_true rfl, Nat.le_of_ble_eq_true rfl⟩) (gPreV xKst hK hA hS hP (x_recv (q := (RX0, TX0, 16)) hK.1 hP rfl g3)) rfl rfl hl.1 rfl (lv_room (Nat.le_of_ble_eq_true rfl)) dX0_then_21 ⟨by first | omega | (dsimp only; omega), by first | omega | (dsimp only; omega)⟩) hS (fun H locs hP hS => ?_)
    exact ret _ _ _ _ _ _ dX0_then_24 rfl hP hS h
  have B92 : ∀ (x0 : Nat) (t0 : Int32) (S : XS) (H : Heap) (locs : List Loc) (ls : Array Slot), xP D cA A S H → va_S A s.heap H locs → lv_has ls 5 [(0, .ref x0)] → bX0_then_92  x0 t0 S = some out → W p l e ({ frames := 6, cells := 0, slots := 0, locals := 174 } : Room) s m args below meth c H locs 0 0 Q (F0 m 92 ls [.int t0]) := by
    intro x0 t0 S H locs ls hP hS hl h
    unfold bX0_then_92 at h
    refine lv_istore_n (lv' := [(3, .int t0), (0, .ref x0)]) hx hb dX0_then_92 rfl hl (by decide) rfl (fun ls hl => ?_)
    refine lv_aload_n hx hb dX0_then_93 rfl (lv_at hl 1 rfl) ?_
    obtain ⟨a6, e5, h⟩ := bn1_some h
    refine x_get (C := RX0) (T := TX0) (N := 16) (ci := 0) hx hb hts in_X0 hown hK.1 hP rfl 2 (by decide) (hts _ q231) (fun _ h9 => h9) (gR_some e5) dX0_then_94 ?_
    refine lv_aload_n hx hb dX0_then_97 rfl (lv_at hl 1 rfl) ?_
    obtain ⟨a8, e7, h⟩ := bn1_some h
    refine x_get (C := RX0) (T := TX0) (N := 16) (ci := 0) hx hb hts in_X0 hown hK.1 hP rfl 4 (by decide) (hts _ q233) (fun _ h9 => h9) (gR_some e7) dX0_then_98 ?_
    obtain ⟨g11, h⟩ := chk_some h
    obtain ⟨fg11, g11⟩ := isC_some g11
    obtain ⟨S10, e9, h⟩ := bn1_some h
    refine gc_v (va_runV (As := [.ref a8]) (rest := []) ⟨hx, hb, hml, hown, hts⟩ (mX1_follows (l := l) (D := D) (cA := cA) (A := A) a6 a8 S e9) (cwV 1 hts (lw_V q984 q985 q986 q87 q987) rfl rfl rfl (by decide +kernel) ⟨Nat.le_of_ble_eq_true rfl, Nat.le_of_ble_eq_true rfl⟩) (gPreV xKst hK hA hS hP (x_recv (q := (RX1, TX1, 16)) hK.1 hP rfl g11)) rfl rfl hl.1 rfl (lv_room (Nat.le_of_ble_eq_true rfl)) dX0_then_101 ⟨by first | omega | (dsimp only; omega), by first | omega | (dsimp only; omega)⟩) hS (fun H locs hP hS => ?_)
    refine lv_iload_n hx hb dX0_then_104 rfl (lv_at hl 0 rfl) ?_
    exact ret _ _ _ _ _ _ dX0_then_105 rfl hP hS h
  have L38 : ∀ (n38 : Nat) (x0 : Nat) (x1 : Int32) (x2 : Int32) (x3 : Int32) (S : XS) (H : Heap) (locs : List Loc) (ls : Array Slot), xP D cA A S H → va_S A s.heap H locs → lv_has ls 5 [(0, .ref x0), (1, .int x1), (2, .int x2), (3, .int x3)] → lX0_then_38 n38 x0 x1 x2 x3 S = some out → W p l e ({ frames := 6, cells := 0, slots := 0, locals := 174 } : Room) s m args below meth c H locs 0 0 Q (F0 m 38 ls []) := by
    intro n38
    induction n38 with
    | zero =>
      intro x0 x1 x2 x3 S H locs ls hP hS hl h
      cases h
    | succ n38 ih38 =>
      intro x0 x1 x2 x3 S H locs ls hP hS hl h
      replace h : bX0_then_38 (lX0_then_38 n38) x0 x1 x2 x3 S = some out := h
      unfold bX0_then_38 at h
      refine lv_iload_n hx hb dX0_then_38 rfl (lv_at hl 3 rfl) ?_
      refine lv_iload_n hx hb dX0_then_39 rfl (lv_at hl 1 rfl) ?_
      refine lv_icmp_ge (tgt := 53) hx hb dX0_then_40 (by decide) (fun c12 => ?_) (fun c12 => ?_)
      · have h := ite_t c12 h
        refine lv_iload_n hx hb dX0_then_53 rfl (lv_at hl 2 rfl) ?_
        refine lv_if_ne (tgt := 70) hx hb dX0_then_54 (by decide) (fun c13 => ?_) (fun c13 => ?_)
        · have h := ite_f c13 h
          refine lv_iload_n hx hb dX0_then_70 rfl (lv_at hl 2 rfl) ?_
          refine lv_iconst (v := (1 : Int32)) hx hb dX0_then_71 (by decide) ?_
          refine lv_icmp_ne (tgt := 85) hx hb dX0_then_72 (by decide) (fun c14 => ?_) (fun c14 => ?_)
          · have h := ite_f c14 h
            refine lv_aload_n hx hb dX0_then_85 rfl (lv_at hl 0 rfl) ?_
            obtain ⟨a16, e15, h⟩ := bn1_some h
            refine x_get (C := RX0) (T := TX0) (N := 16) (ci := 0) hx hb hts in_X0 hown hK.1 hP rfl 2 (by decide) (hts _ q231) (fun _ h9 => h9) (gR_some e15) dX0_then_86 ?_
            obtain ⟨v18, e17, h⟩ := bn1_some h
            refine x_getN (C := RX1) (T := TX1) (N := 16) (ci := 1) hx hb hts in_X1 hown hK.1 hP rfl 4 (by decide) (hK.2.1 _ q154 rfl) (fun _ h9 => h9) (gI_some e17) dX0_then_89 ?_
            exact B92 x0 v18 S _ _ _ hP hS (lv_sub hl [0] rfl) h
          · have h := ite_t c14 h
            refine lv_aload_n hx hb dX0_then_75 rfl (lv_at hl 0 rfl) ?_
            obtain ⟨a20, e19, h⟩ := bn1_some h
            refine x_get (C := RX0) (T := TX0) (N := 16) (ci := 0) hx hb hts in_X0 hown hK.1 hP rfl 2 (by decide) (hts _ q231) (fun _ h9 => h9) (gR_some e19) dX0_then_76 ?_
            obtain ⟨g23, h⟩ := chk_some h
            obtain ⟨fg23, g23⟩ := isC_some g23
            obtain ⟨v24, S22, e21, h⟩ := bnd_some h
            refine gci (va_runV (As := []) (rest := []) ⟨hx, hb, hml, hown, hts⟩ (mX1_used (l := l) (D := D) (cA := cA) (A := A) a20 S e21) (cwV 0 hts (lw_V q893 q894 q895 q87 q896) rfl rfl rfl (by decide +kernel) ⟨Nat.le_of_ble_eq_true rfl, Nat.le_of_ble_eq_true rfl⟩) (gPreV xKst hK hA hS hP (x_recv (q := (RX1, TX1, 16)) hK.1 hP rfl g23)) rfl rfl hl.1 rfl (lv_room (Nat.le_of_ble_eq_true rfl)) dX0_then_79 ⟨by first | omega | (dsimp only; omega), by first | omega | (dsimp only; omega)⟩) hS (fun H locs hP hS => ?_)
            refine lv_goto (tgt := 92) hx hb dX0_then_82 (by decide) ?_
            exact B92 x0 v24 S22 _ _ _ hP hS (lv_sub hl [0] rfl) h
        · have h := ite_t c13 h
          refine lv_aload_n hx hb dX0_then_57 rfl (lv_at hl 0 rfl) ?_
          obtain ⟨a26, e25, h⟩ := bn1_some h
          refine x_get (C := RX0) (T := TX0) (N := 16) (ci := 0) hx hb hts in_X0 hown hK.1 hP rfl 2 (by decide) (hts _ q231) (fun _ h9 => h9) (gR_some e25) dX0_then_58 ?_
          obtain ⟨g29, h⟩ := chk_some h
          obtain ⟨fg29, g29⟩ := isC_some g29
          obtain ⟨v30, S28, e27, h⟩ := bnd_some h
          refine gci (va_runV (As := []) (rest := []) ⟨hx, hb, hml, hown, hts⟩ (mX1_used (l := l) (D := D) (cA := cA) (A := A) a26 S e27) (cwV 0 hts (lw_V q893 q894 q895 q87 q896) rfl rfl rfl (by decide +kernel) ⟨Nat.le_of_ble_eq_true rfl, Nat.le_of_ble_eq_true rfl⟩) (gPreV xKst hK hA hS hP (x_recv (q := (RX1, TX1, 16)) hK.1 hP rfl g29)) rfl rfl hl.1 rfl (lv_room (Nat.le_of_ble_eq_true rfl)) dX0_then_61 ⟨by first | omega | (dsimp only; omega), by first | omega | (dsimp only; omega)⟩) hS (fun H locs hP hS => ?_)
          obtain ⟨v33, S32, e31, h⟩ := bnd_some h
          refine gci (va_runS (As := [.int v30]) (rest := []) ⟨hx, hb, hml, hown, hts⟩ (mJ8_bitCount (l := l) (D := D) (cA := cA) (A := A) v30 S28 e31) (va_cwS 1 hts (lw_S q923 q924 q109 q925) rfl rfl rfl (by decide +kernel) ⟨Nat.le_of_ble_eq_true rfl, Nat.le_of_ble_eq_true rfl⟩) (gPreS xKst hK hA hS hP) rfl rfl hl.1 rfl (lv_room (Nat.le_of_ble_eq_true rfl)) dX0_then_64 ⟨by first | omega | (dsimp only; omega), by first | omega | (dsimp only; omega)⟩) hS (fun H locs hP hS => ?_)
          refine lv_goto (tgt := 92) hx hb dX0_then_67 (by decide) ?_
          exact B92 x0 v33 S32 _ _ _ hP hS (lv_sub hl [0] rfl) h
      · have h := ite_f c12 h
        refine lv_aload_n hx hb dX0_then_43 rfl (lv_at hl 0 rfl) ?_
        obtain ⟨g36, h⟩ := chk_some h
        obtain ⟨fg36, g36⟩ := isC_some g36
        obtain ⟨S35, e34, h⟩ := bn1_some h
        refine gc_v (va_runV (As := []) (rest := []) ⟨hx, hb, hml, hown, hts⟩ (mX0_aRound (l := l) (D := D) (cA := cA) (A := A) x0 S e34) (cwV 0 hts (lw_V q881 q883 qs21 q86 q884) rfl rfl rfl (by decide +kernel) ⟨Nat.le_of_ble_eq_true rfl, Nat.le_of_ble_eq_true rfl⟩) (gPreV xKst hK hA hS hP (x_recv (q := (RX0, TX0, 16)) hK.1 hP rfl g36)) rfl rfl hl.1 rfl (lv_room (Nat.le_of_ble_eq_true rfl)) dX0_then_44 ⟨by first | omega | (dsimp only; omega), by first | omega | (dsimp only; omega)⟩) hS (fun H locs hP hS => ?_)
        obtain ⟨y37, ey37⟩ : ∃ y : Int32, y = x3 + (1 : Int32) := ⟨_, rfl⟩
        refine lv_iinc (v := y37) (lv' := [(3, .int y37), (0, .ref x0), (1, .int x1), (2, .int x2)]) hx hb dX0_then_47 hl (k := 3) rfl (by rw [ey37]; rfl) (by decide) rfl (fun ls hl => ?_)
        have h := nm_at ey37 h
        refine lv_goto (tgt := 38) hx hb dX0_then_50 (by decide) ?_
        exact ih38 x0 x1 x2 y37 S35 _ _ _ hP hS (lv_sub hl [1, 2, 3, 0] rfl) h
  unfold fX0_then at h
  refine lv_iload_n hx hb dX0_then_0 rfl (lv_at hl 1 rfl) ?_
  refine lv_iconst (v := (0 : Int32)) hx hb dX0_then_1 (by decide) ?_
  refine lv_bipush (v := (60 : Int32)) hx hb dX0_then_2 (by decide) ?_
  obtain ⟨v40, S39, e38, h⟩ := bnd_some h
  refine gci (va_runS (As := [.int x1, .int (0 : Int32), .int (60 : Int32)]) (rest := []) ⟨hx, hb, hml, hown, hts⟩ (mX0_isIn (l := l) (D := D) (cA := cA) (A := A) x1 (0 : Int32) (60 : Int32) S e38) (va_cwS 3 hts (lw_S q283 q284 q86 q285) rfl rfl rfl (by decide +kernel) ⟨Nat.le_of_ble_eq_true rfl, Nat.le_of_ble_eq_true rfl⟩) (gPreS xKst hK hA hS hP) rfl rfl hl.1 rfl (lv_room (Nat.le_of_ble_eq_true rfl)) dX0_then_4 ⟨by first | omega | (dsimp only; omega), by first | omega | (dsimp only; omega)⟩) hS (fun H locs hP hS => ?_)
  refine lv_if_eq (tgt := 19) hx hb dX0_then_7 (by decide) (fun c41 => ?_) (fun c41 => ?_)
  · have h := ite_t c41 h
    exact B19 x0 S39 _ _ _ hP hS (lv_sub hl [0] rfl) h
  · have h := ite_f c41 h
    refine lv_iload_n hx hb dX0_then_10 rfl (lv_at hl 2 rfl) ?_
    refine lv_iconst (v := (0 : Int32)) hx hb dX0_then_11 (by decide) ?_
    refine lv_iconst (v := (2 : Int32)) hx hb dX0_then_12 (by decide) ?_
    obtain ⟨v44, S43, e42, h⟩ := bnd_some h
    refine gci (va_runS (As := [.int x2, .int (0 : Int32), .int (2 : Int32)]) (rest := []) ⟨hx, hb, hml, hown, hts⟩ (mX0_isIn (l := l) (D := D) (cA := cA) (A := A) x2 (0 : Int32) (2 : Int32) S39 e42) (va_cwS 3 hts (lw_S q283 q284 q86 q285) rfl rfl rfl (by decide +kernel) ⟨Nat.le_of_ble_eq_true rfl, Nat.le_of_ble_eq_true rfl⟩) (gPreS xKst hK hA hS hP) rfl rfl hl.1 rfl (lv_room (Nat.le_of_ble_eq_true rfl)) dX0_then_13 ⟨by first | omega | (dsimp only; omega), by first | omega | (dsimp only; omega)⟩) hS (fun H locs hP hS => ?_)
    refine lv_if_ne (tgt := 25) hx hb dX0_then_16 (by decide) (fun c45 => ?_) (fun c45 => ?_)
    · have h := ite_f c45 h
      refine lv_aload_n hx hb dX0_then_25 rfl (lv_at hl 0 rfl) ?_
      obtain ⟨a47, e46, h⟩ := bn1_some h
      refine x_get (C := RX0) (T := TX0) (N := 16) (ci := 0) hx hb hts in_X0 hown hK.1 hP rfl 4 (by decide) (hts _ q233) (fun _ h9 => h9) (gR_some e46) dX0_then_26 ?_
      refine lv_aload_n hx hb dX0_then_29 rfl (lv_at hl 0 rfl) ?_
      obtain ⟨a49, e48, h⟩ := bn1_some h
      refine x_get (C := RX0) (T := TX0) (N := 16) (ci := 0) hx hb hts in_X0 hown hK.1 hP rfl 2 (by decide) (hts _ q231) (fun _ h9 => h9) (gR_some e48) dX0_then_30 ?_
      obtain ⟨g52, h⟩ := chk_some h
      obtain ⟨fg52, g52⟩ := isC_some g52
      obtain ⟨S51, e50, h⟩ := bn1_some h
      refine gc_v (va_runV (As := [.ref a49]) (rest := []) ⟨hx, hb, hml, hown, hts⟩ (mX1_follows (l := l) (D := D) (cA := cA) (A := A) a47 a49 S43 e50) (cwV 1 hts (lw_V q984 q985 q986 q87 q987) rfl rfl rfl (by decide +kernel) ⟨Nat.le_of_ble_eq_true rfl, Nat.le_of_ble_eq_true rfl⟩) (gPreV xKst hK hA hS hP (x_recv (q := (RX1, TX1, 16)) hK.1 hP rfl g52)) rfl rfl hl.1 rfl (lv_room (Nat.le_of_ble_eq_true rfl)) dX0_then_33 ⟨by first | omega | (dsimp only; omega), by first | omega | (dsimp only; omega)⟩) hS (fun H locs hP hS => ?_)
      refine lv_iconst (v := (0 : Int32)) hx hb dX0_then_36 (by decide) ?_
      refine lv_istore_n (lv' := [(3, .int (0 : Int32)), (0, .ref x0), (1, .int x1), (2, .int x2)]) hx hb dX0_then_37 rfl hl (by decide) rfl (fun ls hl => ?_)
      exact L38 FU x0 x1 x2 (0 : Int32) S51 _ _ _ hP hS (lv_sub hl [1, 2, 3, 0] rfl) h
    · have h := ite_t c45 h
      exact B19 x0 S43 _ _ _ hP hS (lv_sub hl [0] rfl) h

def bX0_told_24 (x0 : Nat) (t0 : Int32) (S : XS) : Option (Int32 × XS) :=
some (t0, S)
def fX0_told (x0 : Nat) (x1 : Int32) (S : XS) : Option (Int32 × XS) :=
bnd (fX0_isIn x1 (1 : Int32) (6 : Int32) S) fun v3 S2 =>
(if v3 = 0 then
chk (isC S2 x0 0) (bnd (fX0_finds x0 (1 : Int32) S2) fun v8 S6 =>
bX0_told_24 x0 v8 S6)
else
bn1 (gR S2 x0 0 6) fun a10 =>
bn1 (aI S2 a10 0 x1) fun v12 =>
bX0_told_24 x0 v12 S2)
set_option maxHeartbeats 4000000 in
set_option maxRecDepth 100000 in
theorem mX0_told {l : Launch} {D : va_G} {cA : Nat → ClassId} {A : Nat → Prop} (x0 : Nat) (x1 : Int32) (S : XS) {out : (Int32 × XS)} (h : fX0_told x0 x1 S = some out) : Met l yX0_told (ws_ yX0_told cX0_told 2 (some .int)) ({ frames := 1, cells := 0, slots := 0, locals := 22 } : Room) (gPc (xK D cA A) (xP D cA A) A [.ref x0, .int x1] S) (gQi (xK D cA A) (xP D cA A) A out) 0 0 A := by
  refine gMet_z (by decide) (Nat.le_of_ble_eq_true rfl) ?_ xKst
  intro p e s m below meth c Q ls args H locs hC hP hS hl ret
  obtain ⟨hx, hb, hml, hown, hts, hA, hK⟩ := hC
  have hown : s.vm.findClass RX0 = some m.cls := hown
  have hl : lv_has ls 2 [(0, .ref x0), (1, .int x1)] := hl
  have B24 : ∀ (x0 : Nat) (t0 : Int32) (S : XS) (H : Heap) (locs : List Loc) (ls : Array Slot), xP D cA A S H → va_S A s.heap H locs → lv_has ls 2 [(0, .ref x0)] → bX0_told_24  x0 t0 S = some out → W p l e ({ frames := 1, cells := 0, slots := 0, locals := 22 } : Room) s m args below meth c H locs 0 0 Q (F0 m 24 ls [.int t0]) := by
    intro x0 t0 S H locs ls hP hS hl h
    unfold bX0_told_24 at h
    exact ret _ _ _ _ _ _ dX0_told_24 rfl hP hS h
  unfold fX0_told at h
  refine lv_iload_n hx hb dX0_told_0 rfl (lv_at hl 1 rfl) ?_
  refine lv_iconst (v := (1 : Int32)) hx hb dX0_told_1 (by decide) ?_
  refine lv_bipush (v := (6 : Int32)) hx hb dX0_told_2 (by decide) ?_
  obtain ⟨v3, S2, e1, h⟩ := bnd_some h
  refine gci (va_runS (As := [.int x1, .int (1 : Int32), .int (6 : Int32)]) (rest := []) ⟨hx, hb, hml, hown, hts⟩ (mX0_isIn (l := l) (D := D) (cA := cA) (A := A) x1 (1 : Int32) (6 : Int32) S e1) (va_cwS 3 hts (lw_S q283 q284 q86 q285) rfl rfl rfl (by decide +kernel) ⟨Nat.le_of_ble_eq_true rfl, Nat.le_of_ble_eq_true rfl⟩) (gPreS xKst hK hA hS hP) rfl rfl hl.1 rfl (lv_room (Nat.le_of_ble_eq_true rfl)) dX0_told_4 ⟨by first | omega | (dsimp only; omega), by first | omega | (dsimp only; omega)⟩) hS (fun H locs hP hS => ?_)
  refine lv_if_eq (tgt := 19) hx hb dX0_told_7 (by decide) (fun c4 => ?_) (fun c4 => ?_)
  · have h := ite_t c4 h
    refine lv_aload_n hx hb dX0_told_19 rfl (lv_at hl 0 rfl) ?_
    refine lv_iconst (v := (1 : Int32)) hx hb dX0_told_20 (by decide) ?_
    obtain ⟨g7, h⟩ := chk_some h
    obtain ⟨fg7, g7⟩ := isC_some g7
    obtain ⟨v8, S6, e5, h⟩ := bnd_some h
    refine gci (va_runV (As := [.int (1 : Int32)]) (rest := []) ⟨hx, hb, hml, hown, hts⟩ (mX0_finds (l := l) (D := D) (cA := cA) (A := A) x0 (1 : Int32) S2 e5) (cwV 1 hts (lw_V q290 q292 qs1 q86 q293) rfl rfl rfl (by decide +kernel) ⟨Nat.le_of_ble_eq_true rfl, Nat.le_of_ble_eq_true rfl⟩) (gPreV xKst hK hA hS hP (x_recv (q := (RX0, TX0, 16)) hK.1 hP rfl g7)) rfl rfl hl.1 rfl (lv_room (Nat.le_of_ble_eq_true rfl)) dX0_told_21 ⟨by first | omega | (dsimp only; omega), by first | omega | (dsimp only; omega)⟩) hS (fun H locs hP hS => ?_)
    exact B24 x0 v8 S6 _ _ _ hP hS (lv_sub hl [0] rfl) h
  · have h := ite_f c4 h
    refine lv_aload_n hx hb dX0_told_10 rfl (lv_at hl 0 rfl) ?_
    obtain ⟨a10, e9, h⟩ := bn1_some h
    refine x_get (C := RX0) (T := TX0) (N := 16) (ci := 0) hx hb hts in_X0 hown hK.1 hP rfl 6 (by decide) (hts _ q235) (fun _ h9 => h9) (gR_some e9) dX0_told_11 ?_
    refine lv_iload_n hx hb dX0_told_14 rfl (lv_at hl 1 rfl) ?_
    obtain ⟨v12, e11, h⟩ := bn1_some h
    refine x_iald hx hb hK.1 hP e11 dX0_told_15 ?_
    refine lv_goto (tgt := 24) hx hb dX0_told_16 (by decide) ?_
    exact B24 x0 v12 S2 _ _ _ hP hS (lv_sub hl [0] rfl) h

def bX0_toldFor_127 (k49 : Nat → Int32 → Int32 → Int64 → Int64 → Int32 → Int32 → XS → Option (Int32 × XS)) (x0 : Nat) (x1 : Int32) (x2 : Int32) (x3 : Int64) (x5 : Int64) (x7 : Int32) (x8 : Int32) (S : XS) : Option (Int32 × XS) :=
nm (x8 + (1 : Int32)) fun y1 =>
k49 x0 x1 x2 x3 x5 x7 y1 S
def bX0_toldFor_103 (k49 : Nat → Int32 → Int32 → Int64 → Int64 → Int32 → Int32 → XS → Option (Int32 × XS)) (x0 : Nat) (x1 : Int32) (x2 : Int32) (x3 : Int64) (x5 : Int64) (x7 : Int32) (x8 : Int32) (t0 : Int32) (S : XS) : Option (Int32 × XS) :=
(if t0 = 0 then
bX0_toldFor_127 k49 x0 x1 x2 x3 x5 x7 x8 S
else
chk (isC S x0 0) (bnd (fX0_sumOf x0 S) fun v6 S4 =>
bn1 (gL S4 x0 0 14) fun v8 =>
bX0_toldFor_127 k49 x0 x1 x8 v6 v8 x7 x8 S4))
def bX0_toldFor_102 (k49 : Nat → Int32 → Int32 → Int64 → Int64 → Int32 → Int32 → XS → Option (Int32 × XS)) (x0 : Nat) (x1 : Int32) (x2 : Int32) (x3 : Int64) (x5 : Int64) (x7 : Int32) (x8 : Int32) (S : XS) : Option (Int32 × XS) :=
bX0_toldFor_103 k49 x0 x1 x2 x3 x5 x7 x8 (0 : Int32) S
def bX0_toldFor_98 (k49 : Nat → Int32 → Int32 → Int64 → Int64 → Int32 → Int32 → XS → Option (Int32 × XS)) (x0 : Nat) (x1 : Int32) (x2 : Int32) (x3 : Int64) (x5 : Int64) (x7 : Int32) (x8 : Int32) (S : XS) : Option (Int32 × XS) :=
bX0_toldFor_103 k49 x0 x1 x2 x3 x5 x7 x8 (1 : Int32) S
def bX0_toldFor_49 (k49 : Nat → Int32 → Int32 → Int64 → Int64 → Int32 → Int32 → XS → Option (Int32 × XS)) (x0 : Nat) (x1 : Int32) (x2 : Int32) (x3 : Int64) (x5 : Int64) (x7 : Int32) (x8 : Int32) (S : XS) : Option (Int32 × XS) :=
(if (20 : Int32) < x8 then
bn1 (gR S x0 0 2) fun a11 =>
bn1 (gR S a11 1 11) fun a13 =>
bn1 (sI S a13 0 x1 x7) fun S15 =>
some (x2, S15)
else
bn1 (gR S x0 0 2) fun a17 =>
bn1 (gR S a17 1 11) fun a19 =>
bn1 (sI S a19 0 x1 x8) fun S21 =>
chk (isC S21 x0 0) (bnd (fX0_isSolved x0 S21) fun v25 S23 =>
(if v25 = 0 then
bX0_toldFor_102 k49 x0 x1 x2 x3 x5 x7 x8 S23
else
(if x8 = (-20 : Int32) then
bX0_toldFor_98 k49 x0 x1 x2 x3 x5 x7 x8 S23
else
chk (isC S23 x0 0) (bnd (fX0_sumOf x0 S23) fun v31 S29 =>
bn1 (gL S29 x0 0 14) fun v33 =>
(if 0 ≤ (lg_cmp (v31 * x5) (x3 * v33)) then
bX0_toldFor_102 k49 x0 x1 x2 x3 x5 x7 x8 S29
else
bX0_toldFor_98 k49 x0 x1 x2 x3 x5 x7 x8 S29))))))
def lX0_toldFor_49 : Nat → (Nat → Int32 → Int32 → Int64 → Int64 → Int32 → Int32 → XS → Option (Int32 × XS))
  | 0 => fun _ _ _ _ _ _ _ _ => none
  | n + 1 => bX0_toldFor_49 (lX0_toldFor_49 n)
def fX0_toldFor (x0 : Nat) (x1 : Int32) (S : XS) : Option (Int32 × XS) :=
chk (isC S x0 0) (bnd (fX0_isMark x0 x1 S) fun v38 S36 =>
(if v38 = 0 then
chk (isC S36 x0 0) (bnd (fX0_finds x0 (1 : Int32) S36) fun v58 S56 =>
some (v58, S56))
else
chk (isC S36 x0 0) (bnd (fX0_isHeld x0 S36) fun v43 S41 =>
(if v43 = 0 then
chk (isC S41 x0 0) (bnd (fX0_finds x0 (3 : Int32) S41) fun v54 S52 =>
some (v54, S52))
else
bn1 (gR S41 x0 0 2) fun a46 =>
bn1 (gR S41 a46 1 11) fun a48 =>
bn1 (aI S41 a48 0 x1) fun v50 =>
lX0_toldFor_49 FU x0 x1 (-1 : Int32) (0 : Int64) (1 : Int64) v50 (-20 : Int32) S41))))
set_option maxHeartbeats 4000000 in
set_option maxRecDepth 100000 in
theorem mX0_toldFor {l : Launch} {D : va_G} {cA : Nat → ClassId} {A : Nat → Prop} (x0 : Nat) (x1 : Int32) (S : XS) {out : (Int32 × XS)} (h : fX0_toldFor x0 x1 S = some out) : Met l yX0_toldFor (ws_ yX0_toldFor cX0_toldFor 10 (some .int)) ({ frames := 5, cells := 0, slots := 0, locals := 153 } : Room) (gPc (xK D cA A) (xP D cA A) A [.ref x0, .int x1] S) (gQi (xK D cA A) (xP D cA A) A out) 0 0 A := by
  refine gMet_z (by decide) (Nat.le_of_ble_eq_true rfl) ?_ xKst
  intro p e s m below meth c Q ls args H locs hC hP hS hl ret
  obtain ⟨hx, hb, hml, hown, hts, hA, hK⟩ := hC
  have hown : s.vm.findClass RX0 = some m.cls := hown
  have hl : lv_has ls 10 [(0, .ref x0), (1, .int x1)] := hl
  have L49 : ∀ (n49 : Nat) (x0 : Nat) (x1 : Int32) (x2 : Int32) (x3 : Int64) (x5 : Int64) (x7 : Int32) (x8 : Int32) (S : XS) (H : Heap) (locs : List Loc) (ls : Array Slot), xP D cA A S H → va_S A s.heap H locs → lv_has ls 10 [(0, .ref x0), (1, .int x1), (2, .int x2), (3, .long x3), (5, .long x5), (7, .int x7), (8, .int x8)] → lX0_toldFor_49 n49 x0 x1 x2 x3 x5 x7 x8 S = some out → W p l e ({ frames := 5, cells := 0, slots := 0, locals := 153 } : Room) s m args below meth c H locs 0 0 Q (F0 m 49 ls []) := by
    intro n49
    induction n49 with
    | zero =>
      intro x0 x1 x2 x3 x5 x7 x8 S H locs ls hP hS hl h
      cases h
    | succ n49 ih49 =>
      have B127 : ∀ (x0 : Nat) (x1 : Int32) (x2 : Int32) (x3 : Int64) (x5 : Int64) (x7 : Int32) (x8 : Int32) (S : XS) (H : Heap) (locs : List Loc) (ls : Array Slot), xP D cA A S H → va_S A s.heap H locs → lv_has ls 10 [(0, .ref x0), (1, .int x1), (2, .int x2), (3, .long x3), (5, .long x5), (7, .int x7), (8, .int x8)] → bX0_toldFor_127 (lX0_toldFor_49 n49) x0 x1 x2 x3 x5 x7 x8 S = some out → W p l e ({ frames := 5, cells := 0, slots := 0, locals := 153 } : Room) s m args below meth c H locs 0 0 Q (F0 m 127 ls []) := by
        intro x0 x1 x2 x3 x5 x7 x8 S H locs ls hP hS hl h
        unfold bX0_toldFor_127 at h
        obtain ⟨y1, ey1⟩ : ∃ y : Int32, y = x8 + (1 : Int32) := ⟨_, rfl⟩
        refine lv_iinc (v := y1) (lv' := [(8, .int y1), (0, .ref x0), (1, .int x1), (2, .int x2), (3, .long x3), (5, .long x5), (7, .int x7)]) hx hb dX0_toldFor_127 hl (k := 6) rfl (by rw [ey1]; rfl) (by decide) rfl (fun ls hl => ?_)
        have h := nm_at ey1 h
        refine lv_goto (tgt := 49) hx hb dX0_toldFor_130 (by decide) ?_
        exact ih49 x0 x1 x2 x3 x5 x7 y1 S _ _ _ hP hS (lv_sub hl [1, 2, 3, 4, 5, 6, 0] rfl) h
      have B103 : ∀ (x0 : Nat) (x1 : Int32) (x2 : Int32) (x3 : Int64) (x5 : Int64) (x7 : Int32) (x8 : Int32) (t0 : Int32) (S : XS) (H : Heap) (locs : List Loc) (ls : Array Slot), xP D cA A S H → va_S A s.heap H locs → lv_has ls 10 [(0, .ref x0), (1, .int x1), (2, .int x2), (3, .long x3), (5, .long x5), (7, .int x7), (8, .int x8)] → bX0_toldFor_103 (lX0_toldFor_49 n49) x0 x1 x2 x3 x5 x7 x8 t0 S = some out → W p l e ({ frames := 5, cells := 0, slots := 0, locals := 153 } : Room) s m args below meth c H locs 0 0 Q (F0 m 103 ls [.int t0]) := by
        intro x0 x1 x2 x3 x5 x7 x8 t0 S H locs ls hP hS hl h
        unfold bX0_toldFor_103 at h
        refine lv_istore (lv' := [(9, .int t0), (0, .ref x0), (1, .int x1), (2, .int x2), (3, .long x3), (5, .long x5), (7, .int x7), (8, .int x8)]) hx hb dX0_toldFor_103 hl (by decide) rfl (fun ls hl => ?_)
        refine lv_iload hx hb dX0_toldFor_105 (lv_at hl 0 rfl) ?_
        refine lv_if_ne (tgt := 113) hx hb dX0_toldFor_107 (by decide) (fun c2 => ?_) (fun c2 => ?_)
        · have h := ite_f c2 h
          refine lv_iload hx hb dX0_toldFor_113 (lv_at hl 7 rfl) ?_
          refine lv_istore_n (lv' := [(2, .int x8), (9, .int t0), (0, .ref x0), (1, .int x1), (3, .long x3), (5, .long x5), (7, .int x7), (8, .int x8)]) hx hb dX0_toldFor_115 rfl hl (by decide) rfl (fun ls hl => ?_)
          refine lv_aload_n hx hb dX0_toldFor_116 rfl (lv_at hl 2 rfl) ?_
          obtain ⟨g5, h⟩ := chk_some h
          obtain ⟨fg5, g5⟩ := isC_some g5
          obtain ⟨v6, S4, e3, h⟩ := bnd_some h
          refine gcl (va_runV (As := []) (rest := []) ⟨hx, hb, hml, hown, hts⟩ (mX0_sumOf (l := l) (D := D) (cA := cA) (A := A) x0 S e3) (cwV 0 hts (lw_V q964 q966 qs28 q86 q967) rfl rfl rfl (by decide +kernel) ⟨Nat.le_of_ble_eq_true rfl, Nat.le_of_ble_eq_true rfl⟩) (gPreV xKst hK hA hS hP (x_recv (q := (RX0, TX0, 16)) hK.1 hP rfl g5)) rfl rfl hl.1 rfl (lv_room (Nat.le_of_ble_eq_true rfl)) dX0_toldFor_117 ⟨by first | omega | (dsimp only; omega), by first | omega | (dsimp only; omega)⟩) hS (fun H locs hP hS => ?_)
          refine lv_lstore_n (lv' := [(3, .long v6), (2, .int x8), (9, .int t0), (0, .ref x0), (1, .int x1), (5, .long x5), (7, .int x7), (8, .int x8)]) hx hb dX0_toldFor_120 rfl hl (by decide) rfl (fun ls hl => ?_)
          refine lv_aload_n hx hb dX0_toldFor_121 rfl (lv_at hl 3 rfl) ?_
          obtain ⟨v8, e7, h⟩ := bn1_some h
          refine x_get (C := RX0) (T := TX0) (N := 16) (ci := 0) hx hb hts in_X0 hown hK.1 hP rfl 14 (by decide) (hts _ q243) (fun _ h9 => h9) (gL_some e7) dX0_toldFor_122 ?_
          refine lv_lstore (lv' := [(5, .long v8), (3, .long v6), (2, .int x8), (9, .int t0), (0, .ref x0), (1, .int x1), (7, .int x7), (8, .int x8)]) hx hb dX0_toldFor_125 hl (by decide) rfl (fun ls hl => ?_)
          exact B127 x0 x1 x8 v6 v8 x7 x8 S4 _ _ _ hP hS (lv_sub hl [4, 5, 2, 1, 0, 6, 7] rfl) h
        · have h := ite_t c2 h
          refine lv_goto (tgt := 127) hx hb dX0_toldFor_110 (by decide) ?_
          exact B127 x0 x1 x2 x3 x5 x7 x8 S _ _ _ hP hS (lv_sub hl [1, 2, 3, 4, 5, 6, 7] rfl) h
      have B102 : ∀ (x0 : Nat) (x1 : Int32) (x2 : Int32) (x3 : Int64) (x5 : Int64) (x7 : Int32) (x8 : Int32) (S : XS) (H : Heap) (locs : List Loc) (ls : Array Slot), xP D cA A S H → va_S A s.heap H locs → lv_has ls 10 [(0, .ref x0), (1, .int x1), (2, .int x2), (3, .long x3), (5, .long x5), (7, .int x7), (8, .int x8)] → bX0_toldFor_102 (lX0_toldFor_49 n49) x0 x1 x2 x3 x5 x7 x8 S = some out → W p l e ({ frames := 5, cells := 0, slots := 0, locals := 153 } : Room) s m args below meth c H locs 0 0 Q (F0 m 102 ls []) := by
        intro x0 x1 x2 x3 x5 x7 x8 S H locs ls hP hS hl h
        unfold bX0_toldFor_102 at h
        refine lv_iconst (v := (0 : Int32)) hx hb dX0_toldFor_102 (by decide) ?_
        exact B103 x0 x1 x2 x3 x5 x7 x8 (0 : Int32) S _ _ _ hP hS hl h
      have B98 : ∀ (x0 : Nat) (x1 : Int32) (x2 : Int32) (x3 : Int64) (x5 : Int64) (x7 : Int32) (x8 : Int32) (S : XS) (H : Heap) (locs : List Loc) (ls : Array Slot), xP D cA A S H → va_S A s.heap H locs → lv_has ls 10 [(0, .ref x0), (1, .int x1), (2, .int x2), (3, .long x3), (5, .long x5), (7, .int x7), (8, .int x8)] → bX0_toldFor_98 (lX0_toldFor_49 n49) x0 x1 x2 x3 x5 x7 x8 S = some out → W p l e ({ frames := 5, cells := 0, slots := 0, locals := 153 } : Room) s m args below meth c H locs 0 0 Q (F0 m 98 ls []) := by
        intro x0 x1 x2 x3 x5 x7 x8 S H locs ls hP hS hl h
        unfold bX0_toldFor_98 at h
        refine lv_iconst (v := (1 : Int32)) hx hb dX0_toldFor_98 (by decide) ?_
        refine lv_goto (tgt := 103) hx hb dX0_toldFor_99 (by decide) ?_
        exact B103 x0 x1 x2 x3 x5 x7 x8 (1 : Int32) S _ _ _ hP hS hl h
      intro x0 x1 x2 x3 x5 x7 x8 S H locs ls hP hS hl h
      replace h : bX0_toldFor_49 (lX0_toldFor_49 n49) x0 x1 x2 x3 x5 x7 x8 S = some out := h
      unfold bX0_toldFor_49 at h
      refine lv_iload hx hb dX0_toldFor_49 (lv_at hl 6 rfl) ?_
      refine lv_bipush (v := (20 : Int32)) hx hb dX0_toldFor_51 (by decide) ?_
      refine lv_icmp_gt (tgt := 133) hx hb dX0_toldFor_53 (by decide) (fun c9 => ?_) (fun c9 => ?_)
      · have h := ite_t c9 h
        refine lv_aload_n hx hb dX0_toldFor_133 rfl (lv_at hl 0 rfl) ?_
        obtain ⟨a11, e10, h⟩ := bn1_some h
        refine x_get (C := RX0) (T := TX0) (N := 16) (ci := 0) hx hb hts in_X0 hown hK.1 hP rfl 2 (by decide) (hts _ q231) (fun _ h9 => h9) (gR_some e10) dX0_toldFor_134 ?_
        obtain ⟨a13, e12, h⟩ := bn1_some h
        refine x_getN (C := RX1) (T := TX1) (N := 16) (ci := 1) hx hb hts in_X1 hown hK.1 hP rfl 11 (by decide) (hK.2.1 _ q168 rfl) (fun _ h9 => h9) (gR_some e12) dX0_toldFor_137 ?_
        refine lv_iload_n hx hb dX0_toldFor_140 rfl (lv_at hl 1 rfl) ?_
        refine lv_iload hx hb dX0_toldFor_141 (lv_at hl 5 rfl) ?_
        obtain ⟨S15, e14, h⟩ := bn1_some h
        refine x_iast hx hb hK.1 hP hS e14 dX0_toldFor_143 (fun H locs hP hS => ?_)
        refine lv_iload_n hx hb dX0_toldFor_144 rfl (lv_at hl 2 rfl) ?_
        exact ret _ _ _ _ _ _ dX0_toldFor_145 rfl hP hS h
      · have h := ite_f c9 h
        refine lv_aload_n hx hb dX0_toldFor_56 rfl (lv_at hl 0 rfl) ?_
        obtain ⟨a17, e16, h⟩ := bn1_some h
        refine x_get (C := RX0) (T := TX0) (N := 16) (ci := 0) hx hb hts in_X0 hown hK.1 hP rfl 2 (by decide) (hts _ q231) (fun _ h9 => h9) (gR_some e16) dX0_toldFor_57 ?_
        obtain ⟨a19, e18, h⟩ := bn1_some h
        refine x_getN (C := RX1) (T := TX1) (N := 16) (ci := 1) hx hb hts in_X1 hown hK.1 hP rfl 11 (by decide) (hK.2.1 _ q168 rfl) (fun _ h9 => h9) (gR_some e18) dX0_toldFor_60 ?_
        refine lv_iload_n hx hb dX0_toldFor_63 rfl (lv_at hl 1 rfl) ?_
        refine lv_iload hx hb dX0_toldFor_64 (lv_at hl 6 rfl) ?_
        obtain ⟨S21, e20, h⟩ := bn1_some h
        refine x_iast hx hb hK.1 hP hS e20 dX0_toldFor_66 (fun H locs hP hS => ?_)
        refine lv_aload_n hx hb dX0_toldFor_67 rfl (lv_at hl 0 rfl) ?_
        obtain ⟨g24, h⟩ := chk_some h
        obtain ⟨fg24, g24⟩ := isC_some g24
        obtain ⟨v25, S23, e22, h⟩ := bnd_some h
        refine gci (va_runV (As := []) (rest := []) ⟨hx, hb, hml, hown, hts⟩ (mX0_isSolved (l := l) (D := D) (cA := cA) (A := A) x0 S21 e22) (cwV 0 hts (lw_V q885 q887 qs22 q86 q888) rfl rfl rfl (by decide +kernel) ⟨Nat.le_of_ble_eq_true rfl, Nat.le_of_ble_eq_true rfl⟩) (gPreV xKst hK hA hS hP (x_recv (q := (RX0, TX0, 16)) hK.1 hP rfl g24)) rfl rfl hl.1 rfl (lv_room (Nat.le_of_ble_eq_true rfl)) dX0_toldFor_68 ⟨by first | omega | (dsimp only; omega), by first | omega | (dsimp only; omega)⟩) hS (fun H locs hP hS => ?_)
        refine lv_if_eq (tgt := 102) hx hb dX0_toldFor_71 (by decide) (fun c26 => ?_) (fun c26 => ?_)
        · have h := ite_t c26 h
          exact B102 x0 x1 x2 x3 x5 x7 x8 S23 _ _ _ hP hS hl h
        · have h := ite_f c26 h
          refine lv_iload hx hb dX0_toldFor_74 (lv_at hl 6 rfl) ?_
          refine lv_bipush (v := (-20 : Int32)) hx hb dX0_toldFor_76 (by decide) ?_
          refine lv_icmp_eq (tgt := 98) hx hb dX0_toldFor_78 (by decide) (fun c27 => ?_) (fun c27 => ?_)
          · have h := ite_t c27 h
            exact B98 x0 x1 x2 x3 x5 x7 x8 S23 _ _ _ hP hS hl h
          · have h := ite_f c27 h
            refine lv_aload_n hx hb dX0_toldFor_81 rfl (lv_at hl 0 rfl) ?_
            obtain ⟨g30, h⟩ := chk_some h
            obtain ⟨fg30, g30⟩ := isC_some g30
            obtain ⟨v31, S29, e28, h⟩ := bnd_some h
            refine gcl (va_runV (As := []) (rest := []) ⟨hx, hb, hml, hown, hts⟩ (mX0_sumOf (l := l) (D := D) (cA := cA) (A := A) x0 S23 e28) (cwV 0 hts (lw_V q964 q966 qs28 q86 q967) rfl rfl rfl (by decide +kernel) ⟨Nat.le_of_ble_eq_true rfl, Nat.le_of_ble_eq_true rfl⟩) (gPreV xKst hK hA hS hP (x_recv (q := (RX0, TX0, 16)) hK.1 hP rfl g30)) rfl rfl hl.1 rfl (lv_room (Nat.le_of_ble_eq_true rfl)) dX0_toldFor_82 ⟨by first | omega | (dsimp only; omega), by first | omega | (dsimp only; omega)⟩) hS (fun H locs hP hS => ?_)
            refine lv_lload hx hb dX0_toldFor_85 (lv_at hl 4 rfl) ?_
            refine lv_lmul hx hb dX0_toldFor_87 ?_
            refine lv_lload_n hx hb dX0_toldFor_88 rfl (lv_at hl 3 rfl) ?_
            refine lv_aload_n hx hb dX0_toldFor_89 rfl (lv_at hl 0 rfl) ?_
            obtain ⟨v33, e32, h⟩ := bn1_some h
            refine x_get (C := RX0) (T := TX0) (N := 16) (ci := 0) hx hb hts in_X0 hown hK.1 hP rfl 14 (by decide) (hts _ q243) (fun _ h9 => h9) (gL_some e32) dX0_toldFor_90 ?_
            refine lv_lmul hx hb dX0_toldFor_93 ?_
            refine W.lcmp hx hb dX0_toldFor_94 ?_
            refine lv_if_ge (tgt := 102) hx hb dX0_toldFor_95 (by decide) (fun c34 => ?_) (fun c34 => ?_)
            · have h := ite_t c34 h
              exact B102 x0 x1 x2 x3 x5 x7 x8 S29 _ _ _ hP hS hl h
            · have h := ite_f c34 h
              exact B98 x0 x1 x2 x3 x5 x7 x8 S29 _ _ _ hP hS hl h
  unfold fX0_toldFor at h
  refine lv_aload_n hx hb dX0_toldFor_0 rfl (lv_at hl 0 rfl) ?_
  refine lv_iload_n hx hb dX0_toldFor_1 rfl (lv_at hl 1 rfl) ?_
  obtain ⟨g37, h⟩ := chk_some h
  obtain ⟨fg37, g37⟩ := isC_some g37
  obtain ⟨v38, S36, e35, h⟩ := bnd_some h
  refine gci (va_runV (As := [.int x1]) (rest := []) ⟨hx, hb, hml, hown, hts⟩ (mX0_isMark (l := l) (D := D) (cA := cA) (A := A) x0 x1 S e35) (cwV 1 hts (lw_V q380 q382 qs2 q86 q383) rfl rfl rfl (by decide +kernel) ⟨Nat.le_of_ble_eq_true rfl, Nat.le_of_ble_eq_true rfl⟩) (gPreV xKst hK hA hS hP (x_recv (q := (RX0, TX0, 16)) hK.1 hP rfl g37)) rfl rfl hl.1 rfl (lv_room (Nat.le_of_ble_eq_true rfl)) dX0_toldFor_2 ⟨by first | omega | (dsimp only; omega), by first | omega | (dsimp only; omega)⟩) hS (fun H locs hP hS => ?_)
  refine lv_if_ne (tgt := 14) hx hb dX0_toldFor_5 (by decide) (fun c39 => ?_) (fun c39 => ?_)
  · have h := ite_f c39 h
    refine lv_aload_n hx hb dX0_toldFor_14 rfl (lv_at hl 0 rfl) ?_
    obtain ⟨g42, h⟩ := chk_some h
    obtain ⟨fg42, g42⟩ := isC_some g42
    obtain ⟨v43, S41, e40, h⟩ := bnd_some h
    refine gci (va_runV (As := []) (rest := []) ⟨hx, hb, hml, hown, hts⟩ (mX0_isHeld (l := l) (D := D) (cA := cA) (A := A) x0 S36 e40) (cwV 0 hts (lw_V q889 q891 qs23 q86 q892) rfl rfl rfl (by decide +kernel) ⟨Nat.le_of_ble_eq_true rfl, Nat.le_of_ble_eq_true rfl⟩) (gPreV xKst hK hA hS hP (x_recv (q := (RX0, TX0, 16)) hK.1 hP rfl g42)) rfl rfl hl.1 rfl (lv_room (Nat.le_of_ble_eq_true rfl)) dX0_toldFor_15 ⟨by first | omega | (dsimp only; omega), by first | omega | (dsimp only; omega)⟩) hS (fun H locs hP hS => ?_)
    refine lv_if_ne (tgt := 27) hx hb dX0_toldFor_18 (by decide) (fun c44 => ?_) (fun c44 => ?_)
    · have h := ite_f c44 h
      refine lv_iconst (v := (-1 : Int32)) hx hb dX0_toldFor_27 (by decide) ?_
      refine lv_istore_n (lv' := [(2, .int (-1 : Int32)), (0, .ref x0), (1, .int x1)]) hx hb dX0_toldFor_28 rfl hl (by decide) rfl (fun ls hl => ?_)
      refine lv_lconst (v := (0 : Int64)) hx hb dX0_toldFor_29 (by decide) ?_
      refine lv_lstore_n (lv' := [(3, .long (0 : Int64)), (2, .int (-1 : Int32)), (0, .ref x0), (1, .int x1)]) hx hb dX0_toldFor_30 rfl hl (by decide) rfl (fun ls hl => ?_)
      refine lv_lconst (v := (1 : Int64)) hx hb dX0_toldFor_31 (by decide) ?_
      refine lv_lstore (lv' := [(5, .long (1 : Int64)), (3, .long (0 : Int64)), (2, .int (-1 : Int32)), (0, .ref x0), (1, .int x1)]) hx hb dX0_toldFor_32 hl (by decide) rfl (fun ls hl => ?_)
      refine lv_aload_n hx hb dX0_toldFor_34 rfl (lv_at hl 3 rfl) ?_
      obtain ⟨a46, e45, h⟩ := bn1_some h
      refine x_get (C := RX0) (T := TX0) (N := 16) (ci := 0) hx hb hts in_X0 hown hK.1 hP rfl 2 (by decide) (hts _ q231) (fun _ h9 => h9) (gR_some e45) dX0_toldFor_35 ?_
      obtain ⟨a48, e47, h⟩ := bn1_some h
      refine x_getN (C := RX1) (T := TX1) (N := 16) (ci := 1) hx hb hts in_X1 hown hK.1 hP rfl 11 (by decide) (hK.2.1 _ q168 rfl) (fun _ h9 => h9) (gR_some e47) dX0_toldFor_38 ?_
      refine lv_iload_n hx hb dX0_toldFor_41 rfl (lv_at hl 4 rfl) ?_
      obtain ⟨v50, e49, h⟩ := bn1_some h
      refine x_iald hx hb hK.1 hP e49 dX0_toldFor_42 ?_
      refine lv_istore (lv' := [(7, .int v50), (5, .long (1 : Int64)), (3, .long (0 : Int64)), (2, .int (-1 : Int32)), (0, .ref x0), (1, .int x1)]) hx hb dX0_toldFor_43 hl (by decide) rfl (fun ls hl => ?_)
      refine lv_bipush (v := (-20 : Int32)) hx hb dX0_toldFor_45 (by decide) ?_
      refine lv_istore (lv' := [(8, .int (-20 : Int32)), (7, .int v50), (5, .long (1 : Int64)), (3, .long (0 : Int64)), (2, .int (-1 : Int32)), (0, .ref x0), (1, .int x1)]) hx hb dX0_toldFor_47 hl (by decide) rfl (fun ls hl => ?_)
      exact L49 FU x0 x1 (-1 : Int32) (0 : Int64) (1 : Int64) v50 (-20 : Int32) S41 _ _ _ hP hS (lv_sub hl [5, 6, 4, 3, 2, 1, 0] rfl) h
    · have h := ite_t c44 h
      refine lv_aload_n hx hb dX0_toldFor_21 rfl (lv_at hl 0 rfl) ?_
      refine lv_iconst (v := (3 : Int32)) hx hb dX0_toldFor_22 (by decide) ?_
      obtain ⟨g53, h⟩ := chk_some h
      obtain ⟨fg53, g53⟩ := isC_some g53
      obtain ⟨v54, S52, e51, h⟩ := bnd_some h
      refine gci (va_runV (As := [.int (3 : Int32)]) (rest := []) ⟨hx, hb, hml, hown, hts⟩ (mX0_finds (l := l) (D := D) (cA := cA) (A := A) x0 (3 : Int32) S41 e51) (cwV 1 hts (lw_V q290 q292 qs1 q86 q293) rfl rfl rfl (by decide +kernel) ⟨Nat.le_of_ble_eq_true rfl, Nat.le_of_ble_eq_true rfl⟩) (gPreV xKst hK hA hS hP (x_recv (q := (RX0, TX0, 16)) hK.1 hP rfl g53)) rfl rfl hl.1 rfl (lv_room (Nat.le_of_ble_eq_true rfl)) dX0_toldFor_23 ⟨by first | omega | (dsimp only; omega), by first | omega | (dsimp only; omega)⟩) hS (fun H locs hP hS => ?_)
      exact ret _ _ _ _ _ _ dX0_toldFor_26 rfl hP hS h
  · have h := ite_t c39 h
    refine lv_aload_n hx hb dX0_toldFor_8 rfl (lv_at hl 0 rfl) ?_
    refine lv_iconst (v := (1 : Int32)) hx hb dX0_toldFor_9 (by decide) ?_
    obtain ⟨g57, h⟩ := chk_some h
    obtain ⟨fg57, g57⟩ := isC_some g57
    obtain ⟨v58, S56, e55, h⟩ := bnd_some h
    refine gci (va_runV (As := [.int (1 : Int32)]) (rest := []) ⟨hx, hb, hml, hown, hts⟩ (mX0_finds (l := l) (D := D) (cA := cA) (A := A) x0 (1 : Int32) S36 e55) (cwV 1 hts (lw_V q290 q292 qs1 q86 q293) rfl rfl rfl (by decide +kernel) ⟨Nat.le_of_ble_eq_true rfl, Nat.le_of_ble_eq_true rfl⟩) (gPreV xKst hK hA hS hP (x_recv (q := (RX0, TX0, 16)) hK.1 hP rfl g57)) rfl rfl hl.1 rfl (lv_room (Nat.le_of_ble_eq_true rfl)) dX0_toldFor_10 ⟨by first | omega | (dsimp only; omega), by first | omega | (dsimp only; omega)⟩) hS (fun H locs hP hS => ?_)
    exact ret _ _ _ _ _ _ dX0_toldFor_13 rfl hP hS h
