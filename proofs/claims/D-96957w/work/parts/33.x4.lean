def fX0_image (x0 : Nat) (S : XS) : Option (Int32 × XS) :=
bn1 (gR S x0 0 3) fun a2 =>
bn1 (gR S x0 0 2) fun a4 =>
chk (isC S a2 1) (bn1 (fX1_follows a2 a4 S) fun S6 =>
bn1 (gI S6 x0 0 15) fun v9 =>
nm (v9 + (1 : Int32)) fun y10 =>
bn1 (pF S6 x0 0 15 (.int y10)) fun S12 =>
bn1 (gI S12 x0 0 15) fun v14 =>
some (v14, S12))
set_option maxHeartbeats 4000000 in
set_option maxRecDepth 100000 in
theorem mX0_image {l : Launch} {D : va_G} {cA : Nat → ClassId} {A : Nat → Prop} (x0 : Nat) (S : XS) {out : (Int32 × XS)} (h : fX0_image x0 S = some out) : Met l yX0_image (ws_ yX0_image cX0_image 1 (some .int)) ({ frames := 2, cells := 0, slots := 0, locals := 82 } : Room) (gPc (xK D cA A) (xP D cA A) A [.ref x0] S) (gQi (xK D cA A) (xP D cA A) A out) 0 0 A := by
  refine gMet_z (by decide) (Nat.le_of_ble_eq_true rfl) ?_ xKst
  intro p e s m below meth c Q ls args H locs hC hP hS hl ret
  obtain ⟨hx, hb, hml, hown, hts, hA, hK⟩ := hC
  have hown : s.vm.findClass RX0 = some m.cls := hown
  have hl : lv_has ls 1 [(0, .ref x0)] := hl
  unfold fX0_image at h
  refine lv_aload_n hx hb dX0_image_0 rfl (lv_at hl 0 rfl) ?_
  obtain ⟨a2, e1, h⟩ := bn1_some h
  refine x_get (C := RX0) (T := TX0) (N := 16) (ci := 0) hx hb hts in_X0 hown hK.1 hP rfl 3 (by decide) (hts _ q232) (fun _ h9 => h9) (gR_some e1) dX0_image_1 ?_
  refine lv_aload_n hx hb dX0_image_4 rfl (lv_at hl 0 rfl) ?_
  obtain ⟨a4, e3, h⟩ := bn1_some h
  refine x_get (C := RX0) (T := TX0) (N := 16) (ci := 0) hx hb hts in_X0 hown hK.1 hP rfl 2 (by decide) (hts _ q231) (fun _ h9 => h9) (gR_some e3) dX0_image_5 ?_
  obtain ⟨g7, h⟩ := chk_some h
  obtain ⟨fg7, g7⟩ := isC_some g7
  obtain ⟨S6, e5, h⟩ := bn1_some h
  refine gc_v (va_runV (As := [.ref a4]) (rest := []) ⟨hx, hb, hml, hown, hts⟩ (mX1_follows (l := l) (D := D) (cA := cA) (A := A) a2 a4 S e5) (cwV 1 hts (lw_V q984 q985 q986 q87 q987) rfl rfl rfl (by decide +kernel) ⟨Nat.le_of_ble_eq_true rfl, Nat.le_of_ble_eq_true rfl⟩) (gPreV xKst hK hA hS hP (x_recv (q := (RX1, TX1, 16)) hK.1 hP rfl g7)) rfl rfl hl.1 rfl (lv_room (Nat.le_of_ble_eq_true rfl)) dX0_image_8 ⟨by first | omega | (dsimp only; omega), by first | omega | (dsimp only; omega)⟩) hS (fun H locs hP hS => ?_)
  refine lv_aload_n hx hb dX0_image_11 rfl (lv_at hl 0 rfl) ?_
  refine lv_dup hx hb dX0_image_12 rfl ?_
  obtain ⟨v9, e8, h⟩ := bn1_some h
  refine x_get (C := RX0) (T := TX0) (N := 16) (ci := 0) hx hb hts in_X0 hown hK.1 hP rfl 15 (by decide) (hts _ q244) (fun _ h9 => h9) (gI_some e8) dX0_image_13 ?_
  refine lv_iconst (v := (1 : Int32)) hx hb dX0_image_16 (by decide) ?_
  refine lv_iadd hx hb dX0_image_17 ?_
  refine lv_topi (fun y10 ey10 => ?_)
  have h := nm_at ey10 h
  obtain ⟨S12, e11, h⟩ := bn1_some h
  refine x_put (v := .int y10) (ty := .int) (C := RX0) (T := TX0) (N := 16) (ci := 0) hx hb hts in_X0 tyX0 tyX0_ok nmX0 hown hK.1 hP hS rfl 15 (by decide) (hts _ q244) (fun _ h9 => h9) rfl (by decide +kernel) rfl rfl e11 dX0_image_18 (fun H locs hP hS => ?_)
  refine lv_aload_n hx hb dX0_image_21 rfl (lv_at hl 0 rfl) ?_
  obtain ⟨v14, e13, h⟩ := bn1_some h
  refine x_get (C := RX0) (T := TX0) (N := 16) (ci := 0) hx hb hts in_X0 hown hK.1 hP rfl 15 (by decide) (hts _ q244) (fun _ h9 => h9) (gI_some e13) dX0_image_22 ?_
  exact ret _ _ _ _ _ _ dX0_image_25 rfl hP hS h

def bX0_isLate_20 (x0 : Nat) (t0 : Int32) (S : XS) : Option (Int32 × XS) :=
chk (isB t0) (some (t0, S))
def fX0_isLate (x0 : Nat) (x1 : Int32) (S : XS) : Option (Int32 × XS) :=
bn1 (gR S x0 0 2) fun a3 =>
bn1 (gI S a3 1 2) fun v5 =>
(if (v5 + x1) ≤ (9999 : Int32) then
bX0_isLate_20 x0 (0 : Int32) S
else
bX0_isLate_20 x0 (1 : Int32) S)
set_option maxHeartbeats 4000000 in
set_option maxRecDepth 100000 in
theorem mX0_isLate {l : Launch} {D : va_G} {cA : Nat → ClassId} {A : Nat → Prop} (x0 : Nat) (x1 : Int32) (S : XS) {out : (Int32 × XS)} (h : fX0_isLate x0 x1 S = some out) : Met l yX0_isLate (ws_ yX0_isLate cX0_isLate 2 (some .boolean)) ({ frames := 0, cells := 0, slots := 0, locals := 0 } : Room) (gPc (xK D cA A) (xP D cA A) A [.ref x0, .int x1] S) (gQi (xK D cA A) (xP D cA A) A out) 0 0 A := by
  refine gMet_z (by decide) (Nat.le_of_ble_eq_true rfl) ?_ xKst
  intro p e s m below meth c Q ls args H locs hC hP hS hl ret
  obtain ⟨hx, hb, hml, hown, hts, hA, hK⟩ := hC
  have hown : s.vm.findClass RX0 = some m.cls := hown
  have hl : lv_has ls 2 [(0, .ref x0), (1, .int x1)] := hl
  have B20 : ∀ (x0 : Nat) (t0 : Int32) (S : XS) (H : Heap) (locs : List Loc) (ls : Array Slot), xP D cA A S H → va_S A s.heap H locs → lv_has ls 2 [(0, .ref x0)] → bX0_isLate_20  x0 t0 S = some out → W p l e ({ frames := 0, cells := 0, slots := 0, locals := 0 } : Room) s m args below meth c H locs 0 0 Q (F0 m 20 ls [.int t0]) := by
    intro x0 t0 S H locs ls hP hS hl h
    unfold bX0_isLate_20 at h
    obtain ⟨g1, h⟩ := chk_some h
    exact ret _ _ _ _ _ _ dX0_isLate_20 (isB_nar g1) hP hS h
  unfold fX0_isLate at h
  refine lv_aload_n hx hb dX0_isLate_0 rfl (lv_at hl 0 rfl) ?_
  obtain ⟨a3, e2, h⟩ := bn1_some h
  refine x_get (C := RX0) (T := TX0) (N := 16) (ci := 0) hx hb hts in_X0 hown hK.1 hP rfl 2 (by decide) (hts _ q231) (fun _ h9 => h9) (gR_some e2) dX0_isLate_1 ?_
  obtain ⟨v5, e4, h⟩ := bn1_some h
  refine x_getN (C := RX1) (T := TX1) (N := 16) (ci := 1) hx hb hts in_X1 hown hK.1 hP rfl 2 (by decide) (hK.2.1 _ q150 rfl) (fun _ h9 => h9) (gI_some e4) dX0_isLate_4 ?_
  refine lv_iload_n hx hb dX0_isLate_7 rfl (lv_at hl 1 rfl) ?_
  refine lv_iadd hx hb dX0_isLate_8 ?_
  refine lv_sipush (v := (9999 : Int32)) hx hb dX0_isLate_9 (by decide) ?_
  refine lv_icmp_le (tgt := 19) hx hb dX0_isLate_12 (by decide) (fun c6 => ?_) (fun c6 => ?_)
  · have h := ite_t c6 h
    refine lv_iconst (v := (0 : Int32)) hx hb dX0_isLate_19 (by decide) ?_
    exact B20 x0 (0 : Int32) S _ _ _ hP hS (lv_sub hl [0] rfl) h
  · have h := ite_f c6 h
    refine lv_iconst (v := (1 : Int32)) hx hb dX0_isLate_15 (by decide) ?_
    refine lv_goto (tgt := 20) hx hb dX0_isLate_16 (by decide) ?_
    exact B20 x0 (1 : Int32) S _ _ _ hP hS (lv_sub hl [0] rfl) h

def fX0_isPicture (x0 : Nat) (x1 : Int32) (S : XS) : Option (Int32 × XS) :=
bn1 (gR S x0 0 2) fun a2 =>
bn1 (gI S a2 1 1) fun v4 =>
bnd (fX0_isIn x1 (0 : Int32) (v4 - (1 : Int32)) S) fun v7 S6 =>
chk (isB v7) (some (v7, S6))
set_option maxHeartbeats 4000000 in
set_option maxRecDepth 100000 in
theorem mX0_isPicture {l : Launch} {D : va_G} {cA : Nat → ClassId} {A : Nat → Prop} (x0 : Nat) (x1 : Int32) (S : XS) {out : (Int32 × XS)} (h : fX0_isPicture x0 x1 S = some out) : Met l yX0_isPicture (ws_ yX0_isPicture cX0_isPicture 2 (some .boolean)) ({ frames := 1, cells := 0, slots := 0, locals := 22 } : Room) (gPc (xK D cA A) (xP D cA A) A [.ref x0, .int x1] S) (gQi (xK D cA A) (xP D cA A) A out) 0 0 A := by
  refine gMet_z (by decide) (Nat.le_of_ble_eq_true rfl) ?_ xKst
  intro p e s m below meth c Q ls args H locs hC hP hS hl ret
  obtain ⟨hx, hb, hml, hown, hts, hA, hK⟩ := hC
  have hown : s.vm.findClass RX0 = some m.cls := hown
  have hl : lv_has ls 2 [(0, .ref x0), (1, .int x1)] := hl
  unfold fX0_isPicture at h
  refine lv_iload_n hx hb dX0_isPicture_0 rfl (lv_at hl 1 rfl) ?_
  refine lv_iconst (v := (0 : Int32)) hx hb dX0_isPicture_1 (by decide) ?_
  refine lv_aload_n hx hb dX0_isPicture_2 rfl (lv_at hl 0 rfl) ?_
  obtain ⟨a2, e1, h⟩ := bn1_some h
  refine x_get (C := RX0) (T := TX0) (N := 16) (ci := 0) hx hb hts in_X0 hown hK.1 hP rfl 2 (by decide) (hts _ q231) (fun _ h9 => h9) (gR_some e1) dX0_isPicture_3 ?_
  obtain ⟨v4, e3, h⟩ := bn1_some h
  refine x_getN (C := RX1) (T := TX1) (N := 16) (ci := 1) hx hb hts in_X1 hown hK.1 hP rfl 1 (by decide) (hK.2.1 _ q148 rfl) (fun _ h9 => h9) (gI_some e3) dX0_isPicture_6 ?_
  refine lv_iconst (v := (1 : Int32)) hx hb dX0_isPicture_9 (by decide) ?_
  refine lv_isub hx hb dX0_isPicture_10 ?_
  obtain ⟨v7, S6, e5, h⟩ := bnd_some h
  refine gci (va_runS (As := [.int x1, .int (0 : Int32), .int (v4 - (1 : Int32))]) (rest := []) ⟨hx, hb, hml, hown, hts⟩ (mX0_isIn (l := l) (D := D) (cA := cA) (A := A) x1 (0 : Int32) (v4 - (1 : Int32)) S e5) (va_cwS 3 hts (lw_S q283 q284 q86 q285) rfl rfl rfl (by decide +kernel) ⟨Nat.le_of_ble_eq_true rfl, Nat.le_of_ble_eq_true rfl⟩) (gPreS xKst hK hA hS hP) rfl rfl hl.1 rfl (lv_room (Nat.le_of_ble_eq_true rfl)) dX0_isPicture_11 ⟨by first | omega | (dsimp only; omega), by first | omega | (dsimp only; omega)⟩) hS (fun H locs hP hS => ?_)
  obtain ⟨g8, h⟩ := chk_some h
  exact ret _ _ _ _ _ _ dX0_isPicture_14 (isB_nar g8) hP hS h

def fX0_isUse (x0 : Int32) (S : XS) : Option (Int32 × XS) :=
bnd (fX0_isIn x0 (0 : Int32) (1 : Int32) S) fun v3 S2 =>
chk (isB v3) (some (v3, S2))
set_option maxHeartbeats 4000000 in
set_option maxRecDepth 100000 in
theorem mX0_isUse {l : Launch} {D : va_G} {cA : Nat → ClassId} {A : Nat → Prop} (x0 : Int32) (S : XS) {out : (Int32 × XS)} (h : fX0_isUse x0 S = some out) : Met l yX0_isUse (ws_ yX0_isUse cX0_isUse 1 (some .boolean)) ({ frames := 1, cells := 0, slots := 0, locals := 22 } : Room) (gPc (xK D cA A) (xP D cA A) A [.int x0] S) (gQi (xK D cA A) (xP D cA A) A out) 0 0 A := by
  refine gMet_z (by decide) (Nat.le_of_ble_eq_true rfl) ?_ xKst
  intro p e s m below meth c Q ls args H locs hC hP hS hl ret
  obtain ⟨hx, hb, hml, hown, hts, hA, hK⟩ := hC
  have hown : s.vm.findClass RX0 = some m.cls := hown
  have hl : lv_has ls 1 [(0, .int x0)] := hl
  unfold fX0_isUse at h
  refine lv_iload_n hx hb dX0_isUse_0 rfl (lv_at hl 0 rfl) ?_
  refine lv_iconst (v := (0 : Int32)) hx hb dX0_isUse_1 (by decide) ?_
  refine lv_iconst (v := (1 : Int32)) hx hb dX0_isUse_2 (by decide) ?_
  obtain ⟨v3, S2, e1, h⟩ := bnd_some h
  refine gci (va_runS (As := [.int x0, .int (0 : Int32), .int (1 : Int32)]) (rest := []) ⟨hx, hb, hml, hown, hts⟩ (mX0_isIn (l := l) (D := D) (cA := cA) (A := A) x0 (0 : Int32) (1 : Int32) S e1) (va_cwS 3 hts (lw_S q283 q284 q86 q285) rfl rfl rfl (by decide +kernel) ⟨Nat.le_of_ble_eq_true rfl, Nat.le_of_ble_eq_true rfl⟩) (gPreS xKst hK hA hS hP) rfl rfl hl.1 rfl (lv_room (Nat.le_of_ble_eq_true rfl)) dX0_isUse_3 ⟨by first | omega | (dsimp only; omega), by first | omega | (dsimp only; omega)⟩) hS (fun H locs hP hS => ?_)
  obtain ⟨g4, h⟩ := chk_some h
  exact ret _ _ _ _ _ _ dX0_isUse_6 (isB_nar g4) hP hS h

def bX0_judge_74 (x0 : Nat) (x3 : Int32) (S : XS) : Option (Int32 × XS) :=
some (x3, S)
def bX0_judge_35 (k35 : Nat → Option Nat → Int32 → XS → Option (Int32 × XS)) (x0 : Nat) (x2 : Option Nat) (x3 : Int32) (S : XS) : Option (Int32 × XS) :=
bn1 x2 fun a1 =>
bnd (fX0_sizeOf a1 S) fun v5 S4 =>
(if v5 ≤ x3 then
bX0_judge_74 x0 x3 S4
else
chk (isC S4 x0 0) (bnd (fX0_isMark x0 x3 S4) fun v10 S8 =>
(if v10 = 0 then
bX0_judge_74 x0 x3 S8
else
bnd (fX0_numberOf a1 x3 S8) fun v14 S13 =>
bn1 (gR S13 x0 0 2) fun a16 =>
bn1 (gR S13 a16 1 11) fun a18 =>
bn1 (aI S13 a18 0 x3) fun v20 =>
(if v14 = v20 then
nm (x3 + (1 : Int32)) fun y22 =>
k35 x0 (some a1) y22 S13
else
bX0_judge_74 x0 x3 S13))))
def lX0_judge_35 : Nat → (Nat → Option Nat → Int32 → XS → Option (Int32 × XS))
  | 0 => fun _ _ _ _ => none
  | n + 1 => bX0_judge_35 (lX0_judge_35 n)
def fX0_judge (x0 : Nat) (x1 : Int32) (S : XS) : Option (Int32 × XS) :=
bnd (fX0_isSheet x1 S) fun v25 S24 =>
(if v25 = 0 then
chk (isC S24 x0 0) (bnd (fX0_finds x0 (1 : Int32) S24) fun v41 S39 =>
some (v41, S39))
else
bn1 (gR S24 x0 0 7) fun a28 =>
bn1 (aR S24 a28 4 x1) fun a30 =>
bn1 (gQ S24 a30 2 0) fun a32 =>
nlc a32 (
chk (isC S24 x0 0) (bnd (fX0_finds x0 (2 : Int32) S24) fun v37 S35 =>
some (v37, S35))) fun a33 =>
lX0_judge_35 FU x0 (some a33) (0 : Int32) S24)
set_option maxHeartbeats 4000000 in
set_option maxRecDepth 100000 in
theorem mX0_judge {l : Launch} {D : va_G} {cA : Nat → ClassId} {A : Nat → Prop} (x0 : Nat) (x1 : Int32) (S : XS) {out : (Int32 × XS)} (h : fX0_judge x0 x1 S = some out) : Met l yX0_judge (ws_ yX0_judge cX0_judge 4 (some .int)) ({ frames := 2, cells := 0, slots := 0, locals := 43 } : Room) (gPc (xK D cA A) (xP D cA A) A [.ref x0, .int x1] S) (gQi (xK D cA A) (xP D cA A) A out) 0 0 A := by
  refine gMet_z (by decide) (Nat.le_of_ble_eq_true rfl) ?_ xKst
  intro p e s m below meth c Q ls args H locs hC hP hS hl ret
  obtain ⟨hx, hb, hml, hown, hts, hA, hK⟩ := hC
  have hown : s.vm.findClass RX0 = some m.cls := hown
  have hl : lv_has ls 4 [(0, .ref x0), (1, .int x1)] := hl
  have B74 : ∀ (x0 : Nat) (x3 : Int32) (S : XS) (H : Heap) (locs : List Loc) (ls : Array Slot), xP D cA A S H → va_S A s.heap H locs → lv_has ls 4 [(0, .ref x0), (3, .int x3)] → bX0_judge_74  x0 x3 S = some out → W p l e ({ frames := 2, cells := 0, slots := 0, locals := 43 } : Room) s m args below meth c H locs 0 0 Q (F0 m 74 ls []) := by
    intro x0 x3 S H locs ls hP hS hl h
    unfold bX0_judge_74 at h
    refine lv_iload_n hx hb dX0_judge_74 rfl (lv_at hl 1 rfl) ?_
    exact ret _ _ _ _ _ _ dX0_judge_75 rfl hP hS h
  have L35 : ∀ (n35 : Nat) (x0 : Nat) (x2 : Option Nat) (x3 : Int32) (S : XS) (H : Heap) (locs : List Loc) (ls : Array Slot), xP D cA A S H → va_S A s.heap H locs → lv_has ls 4 [(0, .ref x0), (2, va_rf x2), (3, .int x3)] → lX0_judge_35 n35 x0 x2 x3 S = some out → W p l e ({ frames := 2, cells := 0, slots := 0, locals := 43 } : Room) s m args below meth c H locs 0 0 Q (F0 m 35 ls []) := by
    intro n35
    induction n35 with
    | zero =>
      intro x0 x2 x3 S H locs ls hP hS hl h
      cases h
    | succ n35 ih35 =>
      intro x0 x2 x3 S H locs ls hP hS hl h
      replace h : bX0_judge_35 (lX0_judge_35 n35) x0 x2 x3 S = some out := h
      unfold bX0_judge_35 at h
      refine lv_iload_n hx hb dX0_judge_35 rfl (lv_at hl 2 rfl) ?_
      refine x_aload_n hx hb dX0_judge_36 rfl (lv_at hl 1 rfl) ?_
      obtain ⟨a1, e2, h⟩ := bn1_some h
      subst e2
      obtain ⟨v5, S4, e3, h⟩ := bnd_some h
      refine gci (va_runS (As := [.ref a1]) (rest := [.int x3]) ⟨hx, hb, hml, hown, hts⟩ (mX0_sizeOf (l := l) (D := D) (cA := cA) (A := A) a1 S e3) (va_cwS 1 hts (lw_S q1014 q1015 q86 q1016) rfl rfl rfl (by decide +kernel) ⟨Nat.le_of_ble_eq_true rfl, Nat.le_of_ble_eq_true rfl⟩) (gPreS xKst hK hA hS hP) rfl rfl hl.1 rfl (lv_room (Nat.le_of_ble_eq_true rfl)) dX0_judge_37 ⟨by first | omega | (dsimp only; omega), by first | omega | (dsimp only; omega)⟩) hS (fun H locs hP hS => ?_)
      refine lv_icmp_ge (tgt := 74) hx hb dX0_judge_40 (by decide) (fun c6 => ?_) (fun c6 => ?_)
      · have h := ite_t c6 h
        exact B74 x0 x3 S4 _ _ _ hP hS (lv_sub hl [0, 2] rfl) h
      · have h := ite_f c6 h
        refine lv_aload_n hx hb dX0_judge_43 rfl (lv_at hl 0 rfl) ?_
        refine lv_iload_n hx hb dX0_judge_44 rfl (lv_at hl 2 rfl) ?_
        obtain ⟨g9, h⟩ := chk_some h
        obtain ⟨fg9, g9⟩ := isC_some g9
        obtain ⟨v10, S8, e7, h⟩ := bnd_some h
        refine gci (va_runV (As := [.int x3]) (rest := []) ⟨hx, hb, hml, hown, hts⟩ (mX0_isMark (l := l) (D := D) (cA := cA) (A := A) x0 x3 S4 e7) (cwV 1 hts (lw_V q380 q382 qs2 q86 q383) rfl rfl rfl (by decide +kernel) ⟨Nat.le_of_ble_eq_true rfl, Nat.le_of_ble_eq_true rfl⟩) (gPreV xKst hK hA hS hP (x_recv (q := (RX0, TX0, 16)) hK.1 hP rfl g9)) rfl rfl hl.1 rfl (lv_room (Nat.le_of_ble_eq_true rfl)) dX0_judge_45 ⟨by first | omega | (dsimp only; omega), by first | omega | (dsimp only; omega)⟩) hS (fun H locs hP hS => ?_)
        refine lv_if_eq (tgt := 74) hx hb dX0_judge_48 (by decide) (fun c11 => ?_) (fun c11 => ?_)
        · have h := ite_t c11 h
          exact B74 x0 x3 S8 _ _ _ hP hS (lv_sub hl [0, 2] rfl) h
        · have h := ite_f c11 h
          refine lv_aload_n hx hb dX0_judge_51 rfl (lv_at hl 1 rfl) ?_
          refine lv_iload_n hx hb dX0_judge_52 rfl (lv_at hl 2 rfl) ?_
          obtain ⟨v14, S13, e12, h⟩ := bnd_some h
          refine gci (va_runS (As := [.ref a1, .int x3]) (rest := []) ⟨hx, hb, hml, hown, hts⟩ (mX0_numberOf (l := l) (D := D) (cA := cA) (A := A) a1 x3 S8 e12) (va_cwS 2 hts (lw_S q1020 q1021 q86 q1022) rfl rfl rfl (by decide +kernel) ⟨Nat.le_of_ble_eq_true rfl, Nat.le_of_ble_eq_true rfl⟩) (gPreS xKst hK hA hS hP) rfl rfl hl.1 rfl (lv_room (Nat.le_of_ble_eq_true rfl)) dX0_judge_53 ⟨by first | omega | (dsimp only; omega), by first | omega | (dsimp only; omega)⟩) hS (fun H locs hP hS => ?_)
          refine lv_aload_n hx hb dX0_judge_56 rfl (lv_at hl 0 rfl) ?_
          obtain ⟨a16, e15, h⟩ := bn1_some h
          refine x_get (C := RX0) (T := TX0) (N := 16) (ci := 0) hx hb hts in_X0 hown hK.1 hP rfl 2 (by decide) (hts _ q231) (fun _ h9 => h9) (gR_some e15) dX0_judge_57 ?_
          obtain ⟨a18, e17, h⟩ := bn1_some h
          refine x_getN (C := RX1) (T := TX1) (N := 16) (ci := 1) hx hb hts in_X1 hown hK.1 hP rfl 11 (by decide) (hK.2.1 _ q168 rfl) (fun _ h9 => h9) (gR_some e17) dX0_judge_60 ?_
          refine lv_iload_n hx hb dX0_judge_63 rfl (lv_at hl 2 rfl) ?_
          obtain ⟨v20, e19, h⟩ := bn1_some h
          refine x_iald hx hb hK.1 hP e19 dX0_judge_64 ?_
          refine lv_icmp_ne (tgt := 74) hx hb dX0_judge_65 (by decide) (fun c21 => ?_) (fun c21 => ?_)
          · have h := ite_f c21 h
            exact B74 x0 x3 S13 _ _ _ hP hS (lv_sub hl [0, 2] rfl) h
          · have h := ite_t c21 h
            obtain ⟨y22, ey22⟩ : ∃ y : Int32, y = x3 + (1 : Int32) := ⟨_, rfl⟩
            refine lv_iinc (v := y22) (lv' := [(3, .int y22), (0, .ref x0), (2, .ref a1)]) hx hb dX0_judge_68 hl (k := 2) rfl (by rw [ey22]; rfl) (by decide) rfl (fun ls hl => ?_)
            have h := nm_at ey22 h
            refine lv_goto (tgt := 35) hx hb dX0_judge_71 (by decide) ?_
            exact ih35 x0 (some a1) y22 S13 _ _ _ hP hS (lv_sub hl [1, 2, 0] rfl) h
  unfold fX0_judge at h
  refine lv_iload_n hx hb dX0_judge_0 rfl (lv_at hl 1 rfl) ?_
  obtain ⟨v25, S24, e23, h⟩ := bnd_some h
  refine gci (va_runS (As := [.int x1]) (rest := []) ⟨hx, hb, hml, hown, hts⟩ (mX0_isSheet (l := l) (D := D) (cA := cA) (A := A) x1 S e23) (va_cwS 1 hts (lw_S q1011 q1012 q86 q1013) rfl rfl rfl (by decide +kernel) ⟨Nat.le_of_ble_eq_true rfl, Nat.le_of_ble_eq_true rfl⟩) (gPreS xKst hK hA hS hP) rfl rfl hl.1 rfl (lv_room (Nat.le_of_ble_eq_true rfl)) dX0_judge_1 ⟨by first | omega | (dsimp only; omega), by first | omega | (dsimp only; omega)⟩) hS (fun H locs hP hS => ?_)
  refine lv_if_ne (tgt := 13) hx hb dX0_judge_4 (by decide) (fun c26 => ?_) (fun c26 => ?_)
  · have h := ite_f c26 h
    refine lv_aload_n hx hb dX0_judge_13 rfl (lv_at hl 0 rfl) ?_
    obtain ⟨a28, e27, h⟩ := bn1_some h
    refine x_get (C := RX0) (T := TX0) (N := 16) (ci := 0) hx hb hts in_X0 hown hK.1 hP rfl 7 (by decide) (hts _ q236) (fun _ h9 => h9) (gR_some e27) dX0_judge_14 ?_
    refine lv_iload_n hx hb dX0_judge_17 rfl (lv_at hl 1 rfl) ?_
    obtain ⟨a30, e29, h⟩ := bn1_some h
    refine x_aldr (t := 4) hx hb hK.1 hP (by decide) e29 dX0_judge_18 ?_
    obtain ⟨a32, e31, h⟩ := bn1_some h
    refine x_getN (C := RX2) (T := TX2) (N := 1) (ci := 2) hx hb hts in_X2 hown hK.1 hP rfl 0 (by decide) (hK.2.1 _ q139 rfl) (fun _ h9 => h9) (gQ_some e31) dX0_judge_19 ?_
    refine x_astore_n (lv' := [(2, va_rf a32), (0, .ref x0), (1, .int x1)]) hx hb dX0_judge_22 rfl hl (by decide) rfl (fun ls hl => ?_)
    refine x_aload_n hx hb dX0_judge_23 rfl (lv_at hl 0 rfl) ?_
    cases a32 with
    | none =>
      replace h := nlc_n h
      refine lv_ifnonnullN hx hb dX0_judge_24 ?_
      refine lv_aload_n hx hb dX0_judge_27 rfl (lv_at hl 1 rfl) ?_
      refine lv_iconst (v := (2 : Int32)) hx hb dX0_judge_28 (by decide) ?_
      obtain ⟨g36, h⟩ := chk_some h
      obtain ⟨fg36, g36⟩ := isC_some g36
      obtain ⟨v37, S35, e34, h⟩ := bnd_some h
      refine gci (va_runV (As := [.int (2 : Int32)]) (rest := []) ⟨hx, hb, hml, hown, hts⟩ (mX0_finds (l := l) (D := D) (cA := cA) (A := A) x0 (2 : Int32) S24 e34) (cwV 1 hts (lw_V q290 q292 qs1 q86 q293) rfl rfl rfl (by decide +kernel) ⟨Nat.le_of_ble_eq_true rfl, Nat.le_of_ble_eq_true rfl⟩) (gPreV xKst hK hA hS hP (x_recv (q := (RX0, TX0, 16)) hK.1 hP rfl g36)) rfl rfl hl.1 rfl (lv_room (Nat.le_of_ble_eq_true rfl)) dX0_judge_29 ⟨by first | omega | (dsimp only; omega), by first | omega | (dsimp only; omega)⟩) hS (fun H locs hP hS => ?_)
      exact ret _ _ _ _ _ _ dX0_judge_32 rfl hP hS h
    | some a33 =>
      replace h := nlc_s h
      refine lv_ifnonnull (tgt := 33) hx hb dX0_judge_24 (by decide) ?_
      refine lv_iconst (v := (0 : Int32)) hx hb dX0_judge_33 (by decide) ?_
      refine lv_istore_n (lv' := [(3, .int (0 : Int32)), (2, .ref a33), (0, .ref x0), (1, .int x1)]) hx hb dX0_judge_34 rfl hl (by decide) rfl (fun ls hl => ?_)
      exact L35 FU x0 (some a33) (0 : Int32) S24 _ _ _ hP hS (lv_sub hl [2, 1, 0] rfl) h
  · have h := ite_t c26 h
    refine lv_aload_n hx hb dX0_judge_7 rfl (lv_at hl 0 rfl) ?_
    refine lv_iconst (v := (1 : Int32)) hx hb dX0_judge_8 (by decide) ?_
    obtain ⟨g40, h⟩ := chk_some h
    obtain ⟨fg40, g40⟩ := isC_some g40
    obtain ⟨v41, S39, e38, h⟩ := bnd_some h
    refine gci (va_runV (As := [.int (1 : Int32)]) (rest := []) ⟨hx, hb, hml, hown, hts⟩ (mX0_finds (l := l) (D := D) (cA := cA) (A := A) x0 (1 : Int32) S24 e38) (cwV 1 hts (lw_V q290 q292 qs1 q86 q293) rfl rfl rfl (by decide +kernel) ⟨Nat.le_of_ble_eq_true rfl, Nat.le_of_ble_eq_true rfl⟩) (gPreV xKst hK hA hS hP (x_recv (q := (RX0, TX0, 16)) hK.1 hP rfl g40)) rfl rfl hl.1 rfl (lv_room (Nat.le_of_ble_eq_true rfl)) dX0_judge_9 ⟨by first | omega | (dsimp only; omega), by first | omega | (dsimp only; omega)⟩) hS (fun H locs hP hS => ?_)
    exact ret _ _ _ _ _ _ dX0_judge_12 rfl hP hS h

def bX0_law_24 (x0 : Nat) (t0 : Int32) (S : XS) : Option (Int32 × XS) :=
some (t0, S)
def fX0_law (x0 : Nat) (x1 : Int32) (x2 : Int32) (x3 : Int32) (x4 : Int32) (S : XS) : Option (Int32 × XS) :=
bnd (fX0_isUse x1 S) fun v3 S2 =>
(if v3 = 0 then
chk (isC S2 x0 0) (bnd (fX0_finds x0 (1 : Int32) S2) fun v8 S6 =>
bX0_law_24 x0 v8 S6)
else
chk (isC S2 x0 0) (bnd (fX0_given x0 x1 x2 x3 x4 S2) fun v12 S10 =>
bX0_law_24 x0 v12 S10))
set_option maxHeartbeats 4000000 in
set_option maxRecDepth 100000 in
theorem mX0_law {l : Launch} {D : va_G} {cA : Nat → ClassId} {A : Nat → Prop} (x0 : Nat) (x1 : Int32) (x2 : Int32) (x3 : Int32) (x4 : Int32) (S : XS) {out : (Int32 × XS)} (h : fX0_law x0 x1 x2 x3 x4 S = some out) : Met l yX0_law (ws_ yX0_law cX0_law 5 (some .int)) ({ frames := 3, cells := 0, slots := 0, locals := 107 } : Room) (gPc (xK D cA A) (xP D cA A) A [.ref x0, .int x1, .int x2, .int x3, .int x4] S) (gQi (xK D cA A) (xP D cA A) A out) 0 0 A := by
  refine gMet_z (by decide) (Nat.le_of_ble_eq_true rfl) ?_ xKst
  intro p e s m below meth c Q ls args H locs hC hP hS hl ret
  obtain ⟨hx, hb, hml, hown, hts, hA, hK⟩ := hC
  have hown : s.vm.findClass RX0 = some m.cls := hown
  have hl : lv_has ls 5 [(0, .ref x0), (1, .int x1), (2, .int x2), (3, .int x3), (4, .int x4)] := hl
  have B24 : ∀ (x0 : Nat) (t0 : Int32) (S : XS) (H : Heap) (locs : List Loc) (ls : Array Slot), xP D cA A S H → va_S A s.heap H locs → lv_has ls 5 [(0, .ref x0)] → bX0_law_24  x0 t0 S = some out → W p l e ({ frames := 3, cells := 0, slots := 0, locals := 107 } : Room) s m args below meth c H locs 0 0 Q (F0 m 24 ls [.int t0]) := by
    intro x0 t0 S H locs ls hP hS hl h
    unfold bX0_law_24 at h
    exact ret _ _ _ _ _ _ dX0_law_24 rfl hP hS h
  unfold fX0_law at h
  refine lv_iload_n hx hb dX0_law_0 rfl (lv_at hl 1 rfl) ?_
  obtain ⟨v3, S2, e1, h⟩ := bnd_some h
  refine gci (va_runS (As := [.int x1]) (rest := []) ⟨hx, hb, hml, hown, hts⟩ (mX0_isUse (l := l) (D := D) (cA := cA) (A := A) x1 S e1) (va_cwS 1 hts (lw_S q604 q605 q86 q606) rfl rfl rfl (by decide +kernel) ⟨Nat.le_of_ble_eq_true rfl, Nat.le_of_ble_eq_true rfl⟩) (gPreS xKst hK hA hS hP) rfl rfl hl.1 rfl (lv_room (Nat.le_of_ble_eq_true rfl)) dX0_law_1 ⟨by first | omega | (dsimp only; omega), by first | omega | (dsimp only; omega)⟩) hS (fun H locs hP hS => ?_)
  refine lv_if_eq (tgt := 19) hx hb dX0_law_4 (by decide) (fun c4 => ?_) (fun c4 => ?_)
  · have h := ite_t c4 h
    refine lv_aload_n hx hb dX0_law_19 rfl (lv_at hl 0 rfl) ?_
    refine lv_iconst (v := (1 : Int32)) hx hb dX0_law_20 (by decide) ?_
    obtain ⟨g7, h⟩ := chk_some h
    obtain ⟨fg7, g7⟩ := isC_some g7
    obtain ⟨v8, S6, e5, h⟩ := bnd_some h
    refine gci (va_runV (As := [.int (1 : Int32)]) (rest := []) ⟨hx, hb, hml, hown, hts⟩ (mX0_finds (l := l) (D := D) (cA := cA) (A := A) x0 (1 : Int32) S2 e5) (cwV 1 hts (lw_V q290 q292 qs1 q86 q293) rfl rfl rfl (by decide +kernel) ⟨Nat.le_of_ble_eq_true rfl, Nat.le_of_ble_eq_true rfl⟩) (gPreV xKst hK hA hS hP (x_recv (q := (RX0, TX0, 16)) hK.1 hP rfl g7)) rfl rfl hl.1 rfl (lv_room (Nat.le_of_ble_eq_true rfl)) dX0_law_21 ⟨by first | omega | (dsimp only; omega), by first | omega | (dsimp only; omega)⟩) hS (fun H locs hP hS => ?_)
    exact B24 x0 v8 S6 _ _ _ hP hS (lv_sub hl [0] rfl) h
  · have h := ite_f c4 h
    refine lv_aload_n hx hb dX0_law_7 rfl (lv_at hl 0 rfl) ?_
    refine lv_iload_n hx hb dX0_law_8 rfl (lv_at hl 1 rfl) ?_
    refine lv_iload_n hx hb dX0_law_9 rfl (lv_at hl 2 rfl) ?_
    refine lv_iload_n hx hb dX0_law_10 rfl (lv_at hl 3 rfl) ?_
    refine lv_iload hx hb dX0_law_11 (lv_at hl 4 rfl) ?_
    obtain ⟨g11, h⟩ := chk_some h
    obtain ⟨fg11, g11⟩ := isC_some g11
    obtain ⟨v12, S10, e9, h⟩ := bnd_some h
    refine gci (va_runV (As := [.int x1, .int x2, .int x3, .int x4]) (rest := []) ⟨hx, hb, hml, hown, hts⟩ (mX0_given (l := l) (D := D) (cA := cA) (A := A) x0 x1 x2 x3 x4 S2 e9) (cwV 4 hts (lw_V q494 q496 qs4 q86 q497) rfl rfl rfl (by decide +kernel) ⟨Nat.le_of_ble_eq_true rfl, Nat.le_of_ble_eq_true rfl⟩) (gPreV xKst hK hA hS hP (x_recv (q := (RX0, TX0, 16)) hK.1 hP rfl g11)) rfl rfl hl.1 rfl (lv_room (Nat.le_of_ble_eq_true rfl)) dX0_law_13 ⟨by first | omega | (dsimp only; omega), by first | omega | (dsimp only; omega)⟩) hS (fun H locs hP hS => ?_)
    refine lv_goto (tgt := 24) hx hb dX0_law_16 (by decide) ?_
    exact B24 x0 v12 S10 _ _ _ hP hS (lv_sub hl [0] rfl) h

def fX0_limit (x0 : Nat) (x1 : Int32) (S : XS) : Option (Int32 × XS) :=
bnd (fX0_isIn x1 (0 : Int32) (99 : Int32) S) fun v3 S2 =>
(if v3 = 0 then
chk (isC S2 x0 0) (bnd (fX0_finds x0 (1 : Int32) S2) fun v16 S14 =>
some (v16, S14))
else
bn1 (gR S2 x0 0 2) fun a6 =>
bn1 (gI S2 a6 1 3) fun v8 =>
bn1 (gR S2 x0 0 2) fun a10 =>
bn1 (pF S2 a10 1 3 (.int x1)) fun S12 =>
some (v8, S12))
set_option maxHeartbeats 4000000 in
set_option maxRecDepth 100000 in
theorem mX0_limit {l : Launch} {D : va_G} {cA : Nat → ClassId} {A : Nat → Prop} (x0 : Nat) (x1 : Int32) (S : XS) {out : (Int32 × XS)} (h : fX0_limit x0 x1 S = some out) : Met l yX0_limit (ws_ yX0_limit cX0_limit 3 (some .int)) ({ frames := 1, cells := 0, slots := 0, locals := 22 } : Room) (gPc (xK D cA A) (xP D cA A) A [.ref x0, .int x1] S) (gQi (xK D cA A) (xP D cA A) A out) 0 0 A := by
  refine gMet_z (by decide) (Nat.le_of_ble_eq_true rfl) ?_ xKst
  intro p e s m below meth c Q ls args H locs hC hP hS hl ret
  obtain ⟨hx, hb, hml, hown, hts, hA, hK⟩ := hC
  have hown : s.vm.findClass RX0 = some m.cls := hown
  have hl : lv_has ls 3 [(0, .ref x0), (1, .int x1)] := hl
  unfold fX0_limit at h
  refine lv_iload_n hx hb dX0_limit_0 rfl (lv_at hl 1 rfl) ?_
  refine lv_iconst (v := (0 : Int32)) hx hb dX0_limit_1 (by decide) ?_
  refine lv_bipush (v := (99 : Int32)) hx hb dX0_limit_2 (by decide) ?_
  obtain ⟨v3, S2, e1, h⟩ := bnd_some h
  refine gci (va_runS (As := [.int x1, .int (0 : Int32), .int (99 : Int32)]) (rest := []) ⟨hx, hb, hml, hown, hts⟩ (mX0_isIn (l := l) (D := D) (cA := cA) (A := A) x1 (0 : Int32) (99 : Int32) S e1) (va_cwS 3 hts (lw_S q283 q284 q86 q285) rfl rfl rfl (by decide +kernel) ⟨Nat.le_of_ble_eq_true rfl, Nat.le_of_ble_eq_true rfl⟩) (gPreS xKst hK hA hS hP) rfl rfl hl.1 rfl (lv_room (Nat.le_of_ble_eq_true rfl)) dX0_limit_4 ⟨by first | omega | (dsimp only; omega), by first | omega | (dsimp only; omega)⟩) hS (fun H locs hP hS => ?_)
  refine lv_if_ne (tgt := 16) hx hb dX0_limit_7 (by decide) (fun c4 => ?_) (fun c4 => ?_)
  · have h := ite_f c4 h
    refine lv_aload_n hx hb dX0_limit_16 rfl (lv_at hl 0 rfl) ?_
    obtain ⟨a6, e5, h⟩ := bn1_some h
    refine x_get (C := RX0) (T := TX0) (N := 16) (ci := 0) hx hb hts in_X0 hown hK.1 hP rfl 2 (by decide) (hts _ q231) (fun _ h9 => h9) (gR_some e5) dX0_limit_17 ?_
    obtain ⟨v8, e7, h⟩ := bn1_some h
    refine x_getN (C := RX1) (T := TX1) (N := 16) (ci := 1) hx hb hts in_X1 hown hK.1 hP rfl 3 (by decide) (hK.2.1 _ q152 rfl) (fun _ h9 => h9) (gI_some e7) dX0_limit_20 ?_
    refine lv_istore_n (lv' := [(2, .int v8), (0, .ref x0), (1, .int x1)]) hx hb dX0_limit_23 rfl hl (by decide) rfl (fun ls hl => ?_)
    refine lv_aload_n hx hb dX0_limit_24 rfl (lv_at hl 1 rfl) ?_
    obtain ⟨a10, e9, h⟩ := bn1_some h
    refine x_get (C := RX0) (T := TX0) (N := 16) (ci := 0) hx hb hts in_X0 hown hK.1 hP rfl 2 (by decide) (hts _ q231) (fun _ h9 => h9) (gR_some e9) dX0_limit_25 ?_
    refine lv_iload_n hx hb dX0_limit_28 rfl (lv_at hl 2 rfl) ?_
    obtain ⟨S12, e11, h⟩ := bn1_some h
    refine x_putN (v := .int x1) (ty := .int) (C := RX1) (T := TX1) (N := 16) (ci := 1) hx hb hts in_X1 tyX1 tyX1_ok nmX1 hown hK.1 hP hS rfl 3 (by decide) (hK.2.1 _ q152 rfl) (fun _ h9 => h9) rfl (by decide +kernel) rfl rfl e11 dX0_limit_29 (fun H locs hP hS => ?_)
    refine lv_iload_n hx hb dX0_limit_32 rfl (lv_at hl 0 rfl) ?_
    exact ret _ _ _ _ _ _ dX0_limit_33 rfl hP hS h
  · have h := ite_t c4 h
    refine lv_aload_n hx hb dX0_limit_10 rfl (lv_at hl 0 rfl) ?_
    refine lv_iconst (v := (1 : Int32)) hx hb dX0_limit_11 (by decide) ?_
    obtain ⟨g15, h⟩ := chk_some h
    obtain ⟨fg15, g15⟩ := isC_some g15
    obtain ⟨v16, S14, e13, h⟩ := bnd_some h
    refine gci (va_runV (As := [.int (1 : Int32)]) (rest := []) ⟨hx, hb, hml, hown, hts⟩ (mX0_finds (l := l) (D := D) (cA := cA) (A := A) x0 (1 : Int32) S2 e13) (cwV 1 hts (lw_V q290 q292 qs1 q86 q293) rfl rfl rfl (by decide +kernel) ⟨Nat.le_of_ble_eq_true rfl, Nat.le_of_ble_eq_true rfl⟩) (gPreV xKst hK hA hS hP (x_recv (q := (RX0, TX0, 16)) hK.1 hP rfl g15)) rfl rfl hl.1 rfl (lv_room (Nat.le_of_ble_eq_true rfl)) dX0_limit_12 ⟨by first | omega | (dsimp only; omega), by first | omega | (dsimp only; omega)⟩) hS (fun H locs hP hS => ?_)
    exact ret _ _ _ _ _ _ dX0_limit_15 rfl hP hS h

def bX0_limitFor_45 (k29 : Nat → Int32 → Int32 → XS → Option (Int32 × XS)) (k45 : Nat → Int32 → Int32 → Int32 → XS → Option (Int32 × XS)) (x0 : Nat) (x1 : Int32) (x2 : Int32) (x3 : Int32) (S : XS) : Option (Int32 × XS) :=
(if x1 ≤ x3 then
bn1 (gR S x0 0 2) fun a3 =>
chk (isC S a3 1) (bnd (fX1_used a3 S) fun v7 S5 =>
bn1 (gR S5 x0 0 4) fun a9 =>
chk (isC S5 a9 1) (bnd (fX1_used a9 S5) fun v13 S11 =>
(if v7 = v13 then
bn1 (gR S11 x0 0 2) fun a24 =>
bn1 (gR S11 x0 0 4) fun a26 =>
chk (isC S11 a24 1) (bn1 (fX1_follows a24 a26 S11) fun S28 =>
some (x2, S28))
else
bn1 (gR S11 x0 0 2) fun a16 =>
bn1 (gR S11 x0 0 4) fun a18 =>
chk (isC S11 a16 1) (bn1 (fX1_follows a16 a18 S11) fun S20 =>
nm (x2 + (1 : Int32)) fun y22 =>
k29 x0 x1 y22 S20))))
else
chk (isC S x0 0) (bn1 (fX0_aRound x0 S) fun S31 =>
nm (x3 + (1 : Int32)) fun y33 =>
k45 x0 x1 x2 y33 S31))
def lX0_limitFor_45 (k29 : Nat → Int32 → Int32 → XS → Option (Int32 × XS)) : Nat → (Nat → Int32 → Int32 → Int32 → XS → Option (Int32 × XS))
  | 0 => fun _ _ _ _ _ => none
  | n + 1 => bX0_limitFor_45 k29 (lX0_limitFor_45 k29 n)
def bX0_limitFor_29 (k29 : Nat → Int32 → Int32 → XS → Option (Int32 × XS)) (x0 : Nat) (x1 : Int32) (x2 : Int32) (S : XS) : Option (Int32 × XS) :=
(if (99 : Int32) < x2 then
chk (isC S x0 0) (bnd (fX0_finds x0 (2 : Int32) S) fun v38 S36 =>
bn1 (gR S36 x0 0 2) fun a40 =>
bn1 (gR S36 x0 0 4) fun a42 =>
chk (isC S36 a40 1) (bn1 (fX1_follows a40 a42 S36) fun S44 =>
some (v38, S44)))
else
bn1 (gR S x0 0 2) fun a47 =>
bn1 (pF S a47 1 3 (.int x2)) fun S49 =>
lX0_limitFor_45 k29 FU x0 x1 x2 (0 : Int32) S49)
def lX0_limitFor_29 : Nat → (Nat → Int32 → Int32 → XS → Option (Int32 × XS))
  | 0 => fun _ _ _ _ => none
  | n + 1 => bX0_limitFor_29 (lX0_limitFor_29 n)
def fX0_limitFor (x0 : Nat) (x1 : Int32) (S : XS) : Option (Int32 × XS) :=
bnd (fX0_isIn x1 (0 : Int32) (40 : Int32) S) fun v52 S51 =>
(if v52 = 0 then
chk (isC S51 x0 0) (bnd (fX0_finds x0 (1 : Int32) S51) fun v64 S62 =>
some (v64, S62))
else
bn1 (gR S51 x0 0 4) fun a55 =>
bn1 (gR S51 x0 0 2) fun a57 =>
chk (isC S51 a55 1) (bn1 (fX1_follows a55 a57 S51) fun S59 =>
lX0_limitFor_29 FU x0 x1 (0 : Int32) S59))
set_option maxHeartbeats 4000000 in
set_option maxRecDepth 100000 in
theorem mX0_limitFor {l : Launch} {D : va_G} {cA : Nat → ClassId} {A : Nat → Prop} (x0 : Nat) (x1 : Int32) (S : XS) {out : (Int32 × XS)} (h : fX0_limitFor x0 x1 S = some out) : Met l yX0_limitFor (wsW_ yX0_limitFor cX0_limitFor 5 (some .int) [(27, 79, 128, 0), (92, 115, 128, 0), (128, 130, 128, 0)]) ({ frames := 6, cells := 0, slots := 0, locals := 174 } : Room) (gPc (xK D cA A) (xP D cA A) A [.ref x0, .int x1] S) (gQi (xK D cA A) (xP D cA A) A out) 0 0 A := by
  refine gMetW_z (by decide) (Nat.le_of_ble_eq_true rfl) ?_ xKst
  intro p e s m below meth c Q ls args H locs hC hP hS hl ret
  obtain ⟨hx, hb, hml, hown, hts, hA, hK⟩ := hC
  have hown : s.vm.findClass RX0 = some m.cls := hown
  have hl : lv_has ls 5 [(0, .ref x0), (1, .int x1)] := hl
  have L29 : ∀ (n29 : Nat) (x0 : Nat) (x1 : Int32) (x2 : Int32) (S : XS) (H : Heap) (locs : List Loc) (ls : Array Slot), xP D cA A S H → va_S A s.heap H locs → lv_has ls 5 [(0, .ref x0), (1, .int x1), (2, .int x2)] → lX0_limitFor_29 n29 x0 x1 x2 S = some out → W p l e ({ frames := 6, cells := 0, slots := 0, locals := 174 } : Room) s m args below meth c H locs 0 0 Q (F0 m 29 ls []) := by
    intro n29
    induction n29 with
    | zero =>
      intro x0 x1 x2 S H locs ls hP hS hl h
      cases h
    | succ n29 ih29 =>
      have L45 : ∀ (n45 : Nat) (x0 : Nat) (x1 : Int32) (x2 : Int32) (x3 : Int32) (S : XS) (H : Heap) (locs : List Loc) (ls : Array Slot), xP D cA A S H → va_S A s.heap H locs → lv_has ls 5 [(0, .ref x0), (1, .int x1), (2, .int x2), (3, .int x3)] → lX0_limitFor_45 (lX0_limitFor_29 n29) n45 x0 x1 x2 x3 S = some out → W p l e ({ frames := 6, cells := 0, slots := 0, locals := 174 } : Room) s m args below meth c H locs 0 0 Q (F0 m 45 ls []) := by
        intro n45
        induction n45 with
        | zero =>
          intro x0 x1 x2 x3 S H locs ls hP hS hl h
          cases h
        | succ n45 ih45 =>
          intro x0 x1 x2 x3 S H locs ls hP hS hl h
          replace h : bX0_limitFor_45 (lX0_limitFor_29 n29) (lX0_limitFor_45 (lX0_limitFor_29 n29) n45) x0 x1 x2 x3 S = some out := h
          unfold bX0_limitFor_45 at h
          refine lv_iload_n hx hb dX0_limitFor_45 rfl (lv_at hl 3 rfl) ?_
          refine lv_iload_n hx hb dX0_limitFor_46 rfl (lv_at hl 1 rfl) ?_
          refine lv_icmp_ge (tgt := 60) hx hb dX0_limitFor_47 (by decide) (fun c1 => ?_) (fun c1 => ?_)
          · have h := ite_t c1 h
            refine lv_aload_n hx hb dX0_limitFor_60 rfl (lv_at hl 0 rfl) ?_
            obtain ⟨a3, e2, h⟩ := bn1_some h
            refine x_get (C := RX0) (T := TX0) (N := 16) (ci := 0) hx hb hts in_X0 hown hK.1 hP rfl 2 (by decide) (hts _ q231) (fun _ h9 => h9) (gR_some e2) dX0_limitFor_61 ?_
            obtain ⟨g6, h⟩ := chk_some h
            obtain ⟨fg6, g6⟩ := isC_some g6
            obtain ⟨v7, S5, e4, h⟩ := bnd_some h
            refine gci (va_runV (As := []) (rest := []) ⟨hx, hb, hml, hown, hts⟩ (mX1_used (l := l) (D := D) (cA := cA) (A := A) a3 S e4) (cwV 0 hts (lw_V q893 q894 q895 q87 q896) rfl rfl rfl (by decide +kernel) ⟨Nat.le_of_ble_eq_true rfl, Nat.le_of_ble_eq_true rfl⟩) (gPreV xKst hK hA hS hP (x_recv (q := (RX1, TX1, 16)) hK.1 hP rfl g6)) rfl rfl hl.1 rfl (lv_room (Nat.le_of_ble_eq_true rfl)) dX0_limitFor_64 ⟨by first | omega | (dsimp only; omega), by first | omega | (dsimp only; omega)⟩) hS (fun H locs hP hS => ?_)
            refine lv_aload_n hx hb dX0_limitFor_67 rfl (lv_at hl 0 rfl) ?_
            obtain ⟨a9, e8, h⟩ := bn1_some h
            refine x_get (C := RX0) (T := TX0) (N := 16) (ci := 0) hx hb hts in_X0 hown hK.1 hP rfl 4 (by decide) (hts _ q233) (fun _ h9 => h9) (gR_some e8) dX0_limitFor_68 ?_
            obtain ⟨g12, h⟩ := chk_some h
            obtain ⟨fg12, g12⟩ := isC_some g12
            obtain ⟨v13, S11, e10, h⟩ := bnd_some h
            refine gci (va_runV (As := []) (rest := [.int v7]) ⟨hx, hb, hml, hown, hts⟩ (mX1_used (l := l) (D := D) (cA := cA) (A := A) a9 S5 e10) (cwV 0 hts (lw_V q893 q894 q895 q87 q896) rfl rfl rfl (by decide +kernel) ⟨Nat.le_of_ble_eq_true rfl, Nat.le_of_ble_eq_true rfl⟩) (gPreV xKst hK hA hS hP (x_recv (q := (RX1, TX1, 16)) hK.1 hP rfl g12)) rfl rfl hl.1 rfl (lv_room (Nat.le_of_ble_eq_true rfl)) dX0_limitFor_71 ⟨by first | omega | (dsimp only; omega), by first | omega | (dsimp only; omega)⟩) hS (fun H locs hP hS => ?_)
            refine lv_icmp_ne (tgt := 92) hx hb dX0_limitFor_74 (by decide) (fun c14 => ?_) (fun c14 => ?_)
            · have h := ite_f c14 h
              refine lv_aload_n hx hb dX0_limitFor_92 rfl (lv_at hl 0 rfl) ?_
              obtain ⟨a16, e15, h⟩ := bn1_some h
              refine x_get (C := RX0) (T := TX0) (N := 16) (ci := 0) hx hb hts in_X0 hown hK.1 hP rfl 2 (by decide) (hts _ q231) (fun _ h9 => h9) (gR_some e15) dX0_limitFor_93 ?_
              refine lv_aload_n hx hb dX0_limitFor_96 rfl (lv_at hl 0 rfl) ?_
              obtain ⟨a18, e17, h⟩ := bn1_some h
              refine x_get (C := RX0) (T := TX0) (N := 16) (ci := 0) hx hb hts in_X0 hown hK.1 hP rfl 4 (by decide) (hts _ q233) (fun _ h9 => h9) (gR_some e17) dX0_limitFor_97 ?_
              obtain ⟨g21, h⟩ := chk_some h
              obtain ⟨fg21, g21⟩ := isC_some g21
              obtain ⟨S20, e19, h⟩ := bn1_some h
              refine gc_v (va_runV (As := [.ref a18]) (rest := []) ⟨hx, hb, hml, hown, hts⟩ (mX1_follows (l := l) (D := D) (cA := cA) (A := A) a16 a18 S11 e19) (cwV 1 hts (lw_V q984 q985 q986 q87 q987) rfl rfl rfl (by decide +kernel) ⟨Nat.le_of_ble_eq_true rfl, Nat.le_of_ble_eq_true rfl⟩) (gPreV xKst hK hA hS hP (x_recv (q := (RX1, TX1, 16)) hK.1 hP rfl g21)) rfl rfl hl.1 rfl (lv_room (Nat.le_of_ble_eq_true rfl)) dX0_limitFor_100 ⟨by first | omega | (dsimp only; omega), by first | omega | (dsimp only; omega)⟩) hS (fun H locs hP hS => ?_)
              obtain ⟨y22, ey22⟩ : ∃ y : Int32, y = x2 + (1 : Int32) := ⟨_, rfl⟩
              refine lv_iinc (v := y22) (lv' := [(2, .int y22), (0, .ref x0), (1, .int x1), (3, .int x3)]) hx hb dX0_limitFor_103 hl (k := 2) rfl (by rw [ey22]; rfl) (by decide) rfl (fun ls hl => ?_)
              have h := nm_at ey22 h
              refine lv_goto (tgt := 29) hx hb dX0_limitFor_106 (by decide) ?_
              exact ih29 x0 x1 y22 S20 _ _ _ hP hS (lv_sub hl [1, 2, 0] rfl) h
            · have h := ite_t c14 h
              refine lv_iload_n hx hb dX0_limitFor_77 rfl (lv_at hl 2 rfl) ?_
              refine lv_istore_n (lv' := [(3, .int x2), (0, .ref x0), (1, .int x1), (2, .int x2)]) hx hb dX0_limitFor_78 rfl hl (by decide) rfl (fun ls hl => ?_)
              refine lv_aload_n hx hb dX0_limitFor_79 rfl (lv_at hl 1 rfl) ?_
              obtain ⟨a24, e23, h⟩ := bn1_some h
              refine x_get (C := RX0) (T := TX0) (N := 16) (ci := 0) hx hb hts in_X0 hown hK.1 hP rfl 2 (by decide) (hts _ q231) (fun _ h9 => h9) (gR_some e23) dX0_limitFor_80 ?_
              refine lv_aload_n hx hb dX0_limitFor_83 rfl (lv_at hl 1 rfl) ?_
              obtain ⟨a26, e25, h⟩ := bn1_some h
              refine x_get (C := RX0) (T := TX0) (N := 16) (ci := 0) hx hb hts in_X0 hown hK.1 hP rfl 4 (by decide) (hts _ q233) (fun _ h9 => h9) (gR_some e25) dX0_limitFor_84 ?_
              obtain ⟨g29, h⟩ := chk_some h
              obtain ⟨fg29, g29⟩ := isC_some g29
              obtain ⟨S28, e27, h⟩ := bn1_some h
              refine gc_v (va_runV (As := [.ref a26]) (rest := []) ⟨hx, hb, hml, hown, hts⟩ (mX1_follows (l := l) (D := D) (cA := cA) (A := A) a24 a26 S11 e27) (cwV 1 hts (lw_V q984 q985 q986 q87 q987) rfl rfl rfl (by decide +kernel) ⟨Nat.le_of_ble_eq_true rfl, Nat.le_of_ble_eq_true rfl⟩) (gPreV xKst hK hA hS hP (x_recv (q := (RX1, TX1, 16)) hK.1 hP rfl g29)) rfl rfl hl.1 rfl (lv_room (Nat.le_of_ble_eq_true rfl)) dX0_limitFor_87 ⟨by first | omega | (dsimp only; omega), by first | omega | (dsimp only; omega)⟩) hS (fun H locs hP hS => ?_)
              refine lv_iload_n hx hb dX0_limitFor_90 rfl (lv_at hl 0 rfl) ?_
              exact ret _ _ _ _ _ _ dX0_limitFor_91 rfl hP hS h
          · have h := ite_f c1 h
            refine lv_aload_n hx hb dX0_limitFor_50 rfl (lv_at hl 0 rfl) ?_
            obtain ⟨g32, h⟩ := chk_some h
            obtain ⟨fg32, g32⟩ := isC_some g32
            obtain ⟨S31, e30, h⟩ := bn1_some h
            refine gc_v (va_runV (As := []) (rest := []) ⟨hx, hb, hml, hown, hts⟩ (mX0_aRound (l := l) (D := D) (cA := cA) (A := A) x0 S e30) (cwV 0 hts (lw_V q881 q883 qs21 q86 q884) rfl rfl rfl (by decide +kernel) ⟨Nat.le_of_ble_eq_true rfl, Nat.le_of_ble_eq_true rfl⟩) (gPreV xKst hK hA hS hP (x_recv (q := (RX0, TX0, 16)) hK.1 hP rfl g32)) rfl rfl hl.1 rfl (lv_room (Nat.le_of_ble_eq_true rfl)) dX0_limitFor_51 ⟨by first | omega | (dsimp only; omega), by first | omega | (dsimp only; omega)⟩) hS (fun H locs hP hS => ?_)
            obtain ⟨y33, ey33⟩ : ∃ y : Int32, y = x3 + (1 : Int32) := ⟨_, rfl⟩
            refine lv_iinc (v := y33) (lv' := [(3, .int y33), (0, .ref x0), (1, .int x1), (2, .int x2)]) hx hb dX0_limitFor_54 hl (k := 3) rfl (by rw [ey33]; rfl) (by decide) rfl (fun ls hl => ?_)
            have h := nm_at ey33 h
            refine lv_goto (tgt := 45) hx hb dX0_limitFor_57 (by decide) ?_
            exact ih45 x0 x1 x2 y33 S31 _ _ _ hP hS (lv_sub hl [1, 2, 3, 0] rfl) h
      intro x0 x1 x2 S H locs ls hP hS hl h
      replace h : bX0_limitFor_29 (lX0_limitFor_29 n29) x0 x1 x2 S = some out := h
      unfold bX0_limitFor_29 at h
      refine lv_iload_n hx hb dX0_limitFor_29 rfl (lv_at hl 2 rfl) ?_
      refine lv_bipush (v := (99 : Int32)) hx hb dX0_limitFor_30 (by decide) ?_
      refine lv_icmp_gt (tgt := 109) hx hb dX0_limitFor_32 (by decide) (fun c34 => ?_) (fun c34 => ?_)
      · have h := ite_t c34 h
        refine lv_aload_n hx hb dX0_limitFor_109 rfl (lv_at hl 0 rfl) ?_
        refine lv_iconst (v := (2 : Int32)) hx hb dX0_limitFor_110 (by decide) ?_
        obtain ⟨g37, h⟩ := chk_some h
        obtain ⟨fg37, g37⟩ := isC_some g37
        obtain ⟨v38, S36, e35, h⟩ := bnd_some h
        refine gci (va_runV (As := [.int (2 : Int32)]) (rest := []) ⟨hx, hb, hml, hown, hts⟩ (mX0_finds (l := l) (D := D) (cA := cA) (A := A) x0 (2 : Int32) S e35) (cwV 1 hts (lw_V q290 q292 qs1 q86 q293) rfl rfl rfl (by decide +kernel) ⟨Nat.le_of_ble_eq_true rfl, Nat.le_of_ble_eq_true rfl⟩) (gPreV xKst hK hA hS hP (x_recv (q := (RX0, TX0, 16)) hK.1 hP rfl g37)) rfl rfl hl.1 rfl (lv_room (Nat.le_of_ble_eq_true rfl)) dX0_limitFor_111 ⟨by first | omega | (dsimp only; omega), by first | omega | (dsimp only; omega)⟩) hS (fun H locs hP hS => ?_)
        refine lv_istore_n (lv' := [(2, .int v38), (0, .ref x0), (1, .int x1)]) hx hb dX0_limitFor_114 rfl hl (by decide) rfl (fun ls hl => ?_)
        refine lv_aload_n hx hb dX0_limitFor_115 rfl (lv_at hl 1 rfl) ?_
        obtain ⟨a40, e39, h⟩ := bn1_some h
        refine x_get (C := RX0) (T := TX0) (N := 16) (ci := 0) hx hb hts in_X0 hown hK.1 hP rfl 2 (by decide) (hts _ q231) (fun _ h9 => h9) (gR_some e39) dX0_limitFor_116 ?_
        refine lv_aload_n hx hb dX0_limitFor_119 rfl (lv_at hl 1 rfl) ?_
        obtain ⟨a42, e41, h⟩ := bn1_some h
        refine x_get (C := RX0) (T := TX0) (N := 16) (ci := 0) hx hb hts in_X0 hown hK.1 hP rfl 4 (by decide) (hts _ q233) (fun _ h9 => h9) (gR_some e41) dX0_limitFor_120 ?_
        obtain ⟨g45, h⟩ := chk_some h
        obtain ⟨fg45, g45⟩ := isC_some g45
        obtain ⟨S44, e43, h⟩ := bn1_some h
        refine gc_v (va_runV (As := [.ref a42]) (rest := []) ⟨hx, hb, hml, hown, hts⟩ (mX1_follows (l := l) (D := D) (cA := cA) (A := A) a40 a42 S36 e43) (cwV 1 hts (lw_V q984 q985 q986 q87 q987) rfl rfl rfl (by decide +kernel) ⟨Nat.le_of_ble_eq_true rfl, Nat.le_of_ble_eq_true rfl⟩) (gPreV xKst hK hA hS hP (x_recv (q := (RX1, TX1, 16)) hK.1 hP rfl g45)) rfl rfl hl.1 rfl (lv_room (Nat.le_of_ble_eq_true rfl)) dX0_limitFor_123 ⟨by first | omega | (dsimp only; omega), by first | omega | (dsimp only; omega)⟩) hS (fun H locs hP hS => ?_)
        refine lv_iload_n hx hb dX0_limitFor_126 rfl (lv_at hl 0 rfl) ?_
        exact ret _ _ _ _ _ _ dX0_limitFor_127 rfl hP hS h
      · have h := ite_f c34 h
        refine lv_aload_n hx hb dX0_limitFor_35 rfl (lv_at hl 0 rfl) ?_
        obtain ⟨a47, e46, h⟩ := bn1_some h
        refine x_get (C := RX0) (T := TX0) (N := 16) (ci := 0) hx hb hts in_X0 hown hK.1 hP rfl 2 (by decide) (hts _ q231) (fun _ h9 => h9) (gR_some e46) dX0_limitFor_36 ?_
        refine lv_iload_n hx hb dX0_limitFor_39 rfl (lv_at hl 2 rfl) ?_
        obtain ⟨S49, e48, h⟩ := bn1_some h
        refine x_putN (v := .int x2) (ty := .int) (C := RX1) (T := TX1) (N := 16) (ci := 1) hx hb hts in_X1 tyX1 tyX1_ok nmX1 hown hK.1 hP hS rfl 3 (by decide) (hK.2.1 _ q152 rfl) (fun _ h9 => h9) rfl (by decide +kernel) rfl rfl e48 dX0_limitFor_40 (fun H locs hP hS => ?_)
        refine lv_iconst (v := (0 : Int32)) hx hb dX0_limitFor_43 (by decide) ?_
        refine lv_istore_n (lv' := [(3, .int (0 : Int32)), (0, .ref x0), (1, .int x1), (2, .int x2)]) hx hb dX0_limitFor_44 rfl hl (by decide) rfl (fun ls hl => ?_)
        exact L45 FU x0 x1 x2 (0 : Int32) S49 _ _ _ hP hS (lv_sub hl [1, 2, 3, 0] rfl) h
  unfold fX0_limitFor at h
  refine lv_iload_n hx hb dX0_limitFor_0 rfl (lv_at hl 1 rfl) ?_
  refine lv_iconst (v := (0 : Int32)) hx hb dX0_limitFor_1 (by decide) ?_
  refine lv_bipush (v := (40 : Int32)) hx hb dX0_limitFor_2 (by decide) ?_
  obtain ⟨v52, S51, e50, h⟩ := bnd_some h
  refine gci (va_runS (As := [.int x1, .int (0 : Int32), .int (40 : Int32)]) (rest := []) ⟨hx, hb, hml, hown, hts⟩ (mX0_isIn (l := l) (D := D) (cA := cA) (A := A) x1 (0 : Int32) (40 : Int32) S e50) (va_cwS 3 hts (lw_S q283 q284 q86 q285) rfl rfl rfl (by decide +kernel) ⟨Nat.le_of_ble_eq_true rfl, Nat.le_of_ble_eq_true rfl⟩) (gPreS xKst hK hA hS hP) rfl rfl hl.1 rfl (lv_room (Nat.le_of_ble_eq_true rfl)) dX0_limitFor_4 ⟨by first | omega | (dsimp only; omega), by first | omega | (dsimp only; omega)⟩) hS (fun H locs hP hS => ?_)
  refine lv_if_ne (tgt := 16) hx hb dX0_limitFor_7 (by decide) (fun c53 => ?_) (fun c53 => ?_)
  · have h := ite_f c53 h
    refine lv_aload_n hx hb dX0_limitFor_16 rfl (lv_at hl 0 rfl) ?_
    obtain ⟨a55, e54, h⟩ := bn1_some h
    refine x_get (C := RX0) (T := TX0) (N := 16) (ci := 0) hx hb hts in_X0 hown hK.1 hP rfl 4 (by decide) (hts _ q233) (fun _ h9 => h9) (gR_some e54) dX0_limitFor_17 ?_
    refine lv_aload_n hx hb dX0_limitFor_20 rfl (lv_at hl 0 rfl) ?_
    obtain ⟨a57, e56, h⟩ := bn1_some h
    refine x_get (C := RX0) (T := TX0) (N := 16) (ci := 0) hx hb hts in_X0 hown hK.1 hP rfl 2 (by decide) (hts _ q231) (fun _ h9 => h9) (gR_some e56) dX0_limitFor_21 ?_
    obtain ⟨g60, h⟩ := chk_some h
    obtain ⟨fg60, g60⟩ := isC_some g60
    obtain ⟨S59, e58, h⟩ := bn1_some h
    refine gc_v (va_runV (As := [.ref a57]) (rest := []) ⟨hx, hb, hml, hown, hts⟩ (mX1_follows (l := l) (D := D) (cA := cA) (A := A) a55 a57 S51 e58) (cwV 1 hts (lw_V q984 q985 q986 q87 q987) rfl rfl rfl (by decide +kernel) ⟨Nat.le_of_ble_eq_true rfl, Nat.le_of_ble_eq_true rfl⟩) (gPreV xKst hK hA hS hP (x_recv (q := (RX1, TX1, 16)) hK.1 hP rfl g60)) rfl rfl hl.1 rfl (lv_room (Nat.le_of_ble_eq_true rfl)) dX0_limitFor_24 ⟨by first | omega | (dsimp only; omega), by first | omega | (dsimp only; omega)⟩) hS (fun H locs hP hS => ?_)
    refine lv_iconst (v := (0 : Int32)) hx hb dX0_limitFor_27 (by decide) ?_
    refine lv_istore_n (lv' := [(2, .int (0 : Int32)), (0, .ref x0), (1, .int x1)]) hx hb dX0_limitFor_28 rfl hl (by decide) rfl (fun ls hl => ?_)
    exact L29 FU x0 x1 (0 : Int32) S59 _ _ _ hP hS (lv_sub hl [1, 2, 0] rfl) h
  · have h := ite_t c53 h
    refine lv_aload_n hx hb dX0_limitFor_10 rfl (lv_at hl 0 rfl) ?_
    refine lv_iconst (v := (1 : Int32)) hx hb dX0_limitFor_11 (by decide) ?_
    obtain ⟨g63, h⟩ := chk_some h
    obtain ⟨fg63, g63⟩ := isC_some g63
    obtain ⟨v64, S62, e61, h⟩ := bnd_some h
    refine gci (va_runV (As := [.int (1 : Int32)]) (rest := []) ⟨hx, hb, hml, hown, hts⟩ (mX0_finds (l := l) (D := D) (cA := cA) (A := A) x0 (1 : Int32) S51 e61) (cwV 1 hts (lw_V q290 q292 qs1 q86 q293) rfl rfl rfl (by decide +kernel) ⟨Nat.le_of_ble_eq_true rfl, Nat.le_of_ble_eq_true rfl⟩) (gPreV xKst hK hA hS hP (x_recv (q := (RX0, TX0, 16)) hK.1 hP rfl g63)) rfl rfl hl.1 rfl (lv_room (Nat.le_of_ble_eq_true rfl)) dX0_limitFor_12 ⟨by first | omega | (dsimp only; omega), by first | omega | (dsimp only; omega)⟩) hS (fun H locs hP hS => ?_)
    exact ret _ _ _ _ _ _ dX0_limitFor_15 rfl hP hS h

def bX0_loose_95 (k32 : Nat → Int32 → Int32 → XS → Option (Int32 × XS)) (x0 : Nat) (x1 : Int32) (x2 : Int32) (S : XS) : Option (Int32 × XS) :=
chk (isC S x0 0) (bn1 (fX0_aRound x0 S) fun S2 =>
nm (x2 + (1 : Int32)) fun y4 =>
k32 x0 x1 y4 S2)
def bX0_loose_32 (k32 : Nat → Int32 → Int32 → XS → Option (Int32 × XS)) (x0 : Nat) (x1 : Int32) (x2 : Int32) (S : XS) : Option (Int32 × XS) :=
(if x1 ≤ x2 then
bn1 (gR S x0 0 2) fun a7 =>
chk (isC S a7 1) (bnd (fX1_used a7 S) fun v11 S9 =>
bnd (fJ8_bitCount v11 S9) fun v14 S13 =>
some (v14, S13))
else
bn1 (gR S x0 0 2) fun a16 =>
bn1 (gI S a16 1 0) fun v18 =>
(if v18 ≤ 0 then
bX0_loose_95 k32 x0 x1 x2 S
else
bn1 (gR S x0 0 2) fun a21 =>
chk (isC S a21 1) (bnd (fX1_drawn a21 S) fun v25 S23 =>
bn1 (gR S23 x0 0 2) fun a27 =>
bn1 (gI S23 a27 1 0) fun v29 =>
chk (ne0 v29) (nm (v25 - v25 / v29 * v29) fun y31 =>
bn1 (gR S23 x0 0 2) fun a33 =>
bn1 (gR S23 a33 1 11) fun a35 =>
bn1 (gR S23 x0 0 2) fun a37 =>
chk (isC S23 a37 1) (bnd (fX1_drawn a37 S23) fun v41 S39 =>
bn1 (sI S39 a35 0 y31 ((v41 - v41 / (41 : Int32) * (41 : Int32)) - (20 : Int32))) fun S43 =>
bn1 (gR S43 x0 0 2) fun a45 =>
bn1 (gR S43 a45 1 12) fun a47 =>
bn1 (sI S43 a47 0 y31 (1 : Int32)) fun S49 =>
bX0_loose_95 k32 x0 x1 x2 S49)))))
def lX0_loose_32 : Nat → (Nat → Int32 → Int32 → XS → Option (Int32 × XS))
  | 0 => fun _ _ _ _ => none
  | n + 1 => bX0_loose_32 (lX0_loose_32 n)
def fX0_loose (x0 : Nat) (x1 : Int32) (S : XS) : Option (Int32 × XS) :=
bnd (fX0_isIn x1 (1 : Int32) (30 : Int32) S) fun v52 S51 =>
(if v52 = 0 then
chk (isC S51 x0 0) (bnd (fX0_finds x0 (1 : Int32) S51) fun v66 S64 =>
some (v66, S64))
else
chk (isC S51 x0 0) (bnd (fX0_isLate x0 x1 S51) fun v57 S55 =>
(if v57 = 0 then
lX0_loose_32 FU x0 x1 (0 : Int32) S55
else
chk (isC S55 x0 0) (bnd (fX0_finds x0 (3 : Int32) S55) fun v62 S60 =>
some (v62, S60)))))
set_option maxHeartbeats 4000000 in
set_option maxRecDepth 100000 in
theorem mX0_loose {l : Launch} {D : va_G} {cA : Nat → ClassId} {A : Nat → Prop} (x0 : Nat) (x1 : Int32) (S : XS) {out : (Int32 × XS)} (h : fX0_loose x0 x1 S = some out) : Met l yX0_loose (ws_ yX0_loose cX0_loose 4 (some .int)) ({ frames := 6, cells := 0, slots := 0, locals := 174 } : Room) (gPc (xK D cA A) (xP D cA A) A [.ref x0, .int x1] S) (gQi (xK D cA A) (xP D cA A) A out) 0 0 A := by
  refine gMet_z (by decide) (Nat.le_of_ble_eq_true rfl) ?_ xKst
  intro p e s m below meth c Q ls args H locs hC hP hS hl ret
  obtain ⟨hx, hb, hml, hown, hts, hA, hK⟩ := hC
  have hown : s.vm.findClass RX0 = some m.cls := hown
  have hl : lv_has ls 4 [(0, .ref x0), (1, .int x1)] := hl
  have L32 : ∀ (n32 : Nat) (x0 : Nat) (x1 : Int32) (x2 : Int32) (S : XS) (H : Heap) (locs : List Loc) (ls : Array Slot), xP D cA A S H → va_S A s.heap H locs → lv_has ls 4 [(0, .ref x0), (1, .int x1), (2, .int x2)] → lX0_loose_32 n32 x0 x1 x2 S = some out → W p l e ({ frames := 6, cells := 0, slots := 0, locals := 174 } : Room) s m args below meth c H locs 0 0 Q (F0 m 32 ls []) := by
    intro n32
    induction n32 with
    | zero =>
      intro x0 x1 x2 S H locs ls hP hS hl h
      cases h
    | succ n32 ih32 =>
      have B95 : ∀ (x0 : Nat) (x1 : Int32) (x2 : Int32) (S : XS) (H : Heap) (locs : List Loc) (ls : Array Slot), xP D cA A S H → va_S A s.heap H locs → lv_has ls 4 [(0, .ref x0), (1, .int x1), (2, .int x2)] → bX0_loose_95 (lX0_loose_32 n32) x0 x1 x2 S = some out → W p l e ({ frames := 6, cells := 0, slots := 0, locals := 174 } : Room) s m args below meth c H locs 0 0 Q (F0 m 95 ls []) := by
        intro x0 x1 x2 S H locs ls hP hS hl h
        unfold bX0_loose_95 at h
        refine lv_aload_n hx hb dX0_loose_95 rfl (lv_at hl 0 rfl) ?_
        obtain ⟨g3, h⟩ := chk_some h
        obtain ⟨fg3, g3⟩ := isC_some g3
        obtain ⟨S2, e1, h⟩ := bn1_some h
        refine gc_v (va_runV (As := []) (rest := []) ⟨hx, hb, hml, hown, hts⟩ (mX0_aRound (l := l) (D := D) (cA := cA) (A := A) x0 S e1) (cwV 0 hts (lw_V q881 q883 qs21 q86 q884) rfl rfl rfl (by decide +kernel) ⟨Nat.le_of_ble_eq_true rfl, Nat.le_of_ble_eq_true rfl⟩) (gPreV xKst hK hA hS hP (x_recv (q := (RX0, TX0, 16)) hK.1 hP rfl g3)) rfl rfl hl.1 rfl (lv_room (Nat.le_of_ble_eq_true rfl)) dX0_loose_96 ⟨by first | omega | (dsimp only; omega), by first | omega | (dsimp only; omega)⟩) hS (fun H locs hP hS => ?_)
        obtain ⟨y4, ey4⟩ : ∃ y : Int32, y = x2 + (1 : Int32) := ⟨_, rfl⟩
        refine lv_iinc (v := y4) (lv' := [(2, .int y4), (0, .ref x0), (1, .int x1)]) hx hb dX0_loose_99 hl (k := 2) rfl (by rw [ey4]; rfl) (by decide) rfl (fun ls hl => ?_)
        have h := nm_at ey4 h
        refine lv_goto (tgt := 32) hx hb dX0_loose_102 (by decide) ?_
        exact ih32 x0 x1 y4 S2 _ _ _ hP hS (lv_sub hl [1, 2, 0] rfl) h
      intro x0 x1 x2 S H locs ls hP hS hl h
      replace h : bX0_loose_32 (lX0_loose_32 n32) x0 x1 x2 S = some out := h
      unfold bX0_loose_32 at h
      refine lv_iload_n hx hb dX0_loose_32 rfl (lv_at hl 2 rfl) ?_
      refine lv_iload_n hx hb dX0_loose_33 rfl (lv_at hl 1 rfl) ?_
      refine lv_icmp_ge (tgt := 105) hx hb dX0_loose_34 (by decide) (fun c5 => ?_) (fun c5 => ?_)
      · have h := ite_t c5 h
        refine lv_aload_n hx hb dX0_loose_105 rfl (lv_at hl 0 rfl) ?_
        obtain ⟨a7, e6, h⟩ := bn1_some h
        refine x_get (C := RX0) (T := TX0) (N := 16) (ci := 0) hx hb hts in_X0 hown hK.1 hP rfl 2 (by decide) (hts _ q231) (fun _ h9 => h9) (gR_some e6) dX0_loose_106 ?_
        obtain ⟨g10, h⟩ := chk_some h
        obtain ⟨fg10, g10⟩ := isC_some g10
        obtain ⟨v11, S9, e8, h⟩ := bnd_some h
        refine gci (va_runV (As := []) (rest := []) ⟨hx, hb, hml, hown, hts⟩ (mX1_used (l := l) (D := D) (cA := cA) (A := A) a7 S e8) (cwV 0 hts (lw_V q893 q894 q895 q87 q896) rfl rfl rfl (by decide +kernel) ⟨Nat.le_of_ble_eq_true rfl, Nat.le_of_ble_eq_true rfl⟩) (gPreV xKst hK hA hS hP (x_recv (q := (RX1, TX1, 16)) hK.1 hP rfl g10)) rfl rfl hl.1 rfl (lv_room (Nat.le_of_ble_eq_true rfl)) dX0_loose_109 ⟨by first | omega | (dsimp only; omega), by first | omega | (dsimp only; omega)⟩) hS (fun H locs hP hS => ?_)
        obtain ⟨v14, S13, e12, h⟩ := bnd_some h
        refine gci (va_runS (As := [.int v11]) (rest := []) ⟨hx, hb, hml, hown, hts⟩ (mJ8_bitCount (l := l) (D := D) (cA := cA) (A := A) v11 S9 e12) (va_cwS 1 hts (lw_S q923 q924 q109 q925) rfl rfl rfl (by decide +kernel) ⟨Nat.le_of_ble_eq_true rfl, Nat.le_of_ble_eq_true rfl⟩) (gPreS xKst hK hA hS hP) rfl rfl hl.1 rfl (lv_room (Nat.le_of_ble_eq_true rfl)) dX0_loose_112 ⟨by first | omega | (dsimp only; omega), by first | omega | (dsimp only; omega)⟩) hS (fun H locs hP hS => ?_)
        exact ret _ _ _ _ _ _ dX0_loose_115 rfl hP hS h
      · have h := ite_f c5 h
        refine lv_aload_n hx hb dX0_loose_37 rfl (lv_at hl 0 rfl) ?_
        obtain ⟨a16, e15, h⟩ := bn1_some h
        refine x_get (C := RX0) (T := TX0) (N := 16) (ci := 0) hx hb hts in_X0 hown hK.1 hP rfl 2 (by decide) (hts _ q231) (fun _ h9 => h9) (gR_some e15) dX0_loose_38 ?_
        obtain ⟨v18, e17, h⟩ := bn1_some h
        refine x_getN (C := RX1) (T := TX1) (N := 16) (ci := 1) hx hb hts in_X1 hown hK.1 hP rfl 0 (by decide) (hK.2.1 _ q146 rfl) (fun _ h9 => h9) (gI_some e17) dX0_loose_41 ?_
        refine lv_if_le (tgt := 95) hx hb dX0_loose_44 (by decide) (fun c19 => ?_) (fun c19 => ?_)
        · have h := ite_t c19 h
          exact B95 x0 x1 x2 S _ _ _ hP hS hl h
        · have h := ite_f c19 h
          refine lv_aload_n hx hb dX0_loose_47 rfl (lv_at hl 0 rfl) ?_
          obtain ⟨a21, e20, h⟩ := bn1_some h
          refine x_get (C := RX0) (T := TX0) (N := 16) (ci := 0) hx hb hts in_X0 hown hK.1 hP rfl 2 (by decide) (hts _ q231) (fun _ h9 => h9) (gR_some e20) dX0_loose_48 ?_
          obtain ⟨g24, h⟩ := chk_some h
          obtain ⟨fg24, g24⟩ := isC_some g24
          obtain ⟨v25, S23, e22, h⟩ := bnd_some h
          refine gci (va_runV (As := []) (rest := []) ⟨hx, hb, hml, hown, hts⟩ (mX1_drawn (l := l) (D := D) (cA := cA) (A := A) a21 S e22) (cwV 0 hts (lw_V q933 q934 q935 q87 q936) rfl rfl rfl (by decide +kernel) ⟨Nat.le_of_ble_eq_true rfl, Nat.le_of_ble_eq_true rfl⟩) (gPreV xKst hK hA hS hP (x_recv (q := (RX1, TX1, 16)) hK.1 hP rfl g24)) rfl rfl hl.1 rfl (lv_room (Nat.le_of_ble_eq_true rfl)) dX0_loose_51 ⟨by first | omega | (dsimp only; omega), by first | omega | (dsimp only; omega)⟩) hS (fun H locs hP hS => ?_)
          refine lv_aload_n hx hb dX0_loose_54 rfl (lv_at hl 0 rfl) ?_
          obtain ⟨a27, e26, h⟩ := bn1_some h
          refine x_get (C := RX0) (T := TX0) (N := 16) (ci := 0) hx hb hts in_X0 hown hK.1 hP rfl 2 (by decide) (hts _ q231) (fun _ h9 => h9) (gR_some e26) dX0_loose_55 ?_
          obtain ⟨v29, e28, h⟩ := bn1_some h
          refine x_getN (C := RX1) (T := TX1) (N := 16) (ci := 1) hx hb hts in_X1 hown hK.1 hP rfl 0 (by decide) (hK.2.1 _ q146 rfl) (fun _ h9 => h9) (gI_some e28) dX0_loose_58 ?_
          obtain ⟨g30, h⟩ := chk_some h
          refine lv_irem hx hb dX0_loose_61 (ne0_n g30) ?_
          refine lv_topi (fun y31 ey31 => ?_)
          have h := nm_at ey31 h
          refine lv_istore_n (lv' := [(3, .int y31), (0, .ref x0), (1, .int x1), (2, .int x2)]) hx hb dX0_loose_62 rfl hl (by decide) rfl (fun ls hl => ?_)
          refine lv_aload_n hx hb dX0_loose_63 rfl (lv_at hl 1 rfl) ?_
          obtain ⟨a33, e32, h⟩ := bn1_some h
          refine x_get (C := RX0) (T := TX0) (N := 16) (ci := 0) hx hb hts in_X0 hown hK.1 hP rfl 2 (by decide) (hts _ q231) (fun _ h9 => h9) (gR_some e32) dX0_loose_64 ?_
          obtain ⟨a35, e34, h⟩ := bn1_some h
          refine x_getN (C := RX1) (T := TX1) (N := 16) (ci := 1) hx hb hts in_X1 hown hK.1 hP rfl 11 (by decide) (hK.2.1 _ q168 rfl) (fun _ h9 => h9) (gR_some e34) dX0_loose_67 ?_
          refine lv_iload_n hx hb dX0_loose_70 rfl (lv_at hl 0 rfl) ?_
          refine lv_aload_n hx hb dX0_loose_71 rfl (lv_at hl 1 rfl) ?_
          obtain ⟨a37, e36, h⟩ := bn1_some h
          refine x_get (C := RX0) (T := TX0) (N := 16) (ci := 0) hx hb hts in_X0 hown hK.1 hP rfl 2 (by decide) (hts _ q231) (fun _ h9 => h9) (gR_some e36) dX0_loose_72 ?_
          obtain ⟨g40, h⟩ := chk_some h
          obtain ⟨fg40, g40⟩ := isC_some g40
          obtain ⟨v41, S39, e38, h⟩ := bnd_some h
          refine gci (va_runV (As := []) (rest := [.int y31, .ref a35]) ⟨hx, hb, hml, hown, hts⟩ (mX1_drawn (l := l) (D := D) (cA := cA) (A := A) a37 S23 e38) (cwV 0 hts (lw_V q933 q934 q935 q87 q936) rfl rfl rfl (by decide +kernel) ⟨Nat.le_of_ble_eq_true rfl, Nat.le_of_ble_eq_true rfl⟩) (gPreV xKst hK hA hS hP (x_recv (q := (RX1, TX1, 16)) hK.1 hP rfl g40)) rfl rfl hl.1 rfl (lv_room (Nat.le_of_ble_eq_true rfl)) dX0_loose_75 ⟨by first | omega | (dsimp only; omega), by first | omega | (dsimp only; omega)⟩) hS (fun H locs hP hS => ?_)
          refine lv_bipush (v := (41 : Int32)) hx hb dX0_loose_78 (by decide) ?_
          refine lv_irem hx hb dX0_loose_80 (by decide) ?_
          refine lv_bipush (v := (20 : Int32)) hx hb dX0_loose_81 (by decide) ?_
          refine lv_isub hx hb dX0_loose_83 ?_
          obtain ⟨S43, e42, h⟩ := bn1_some h
          refine x_iast hx hb hK.1 hP hS e42 dX0_loose_84 (fun H locs hP hS => ?_)
          refine lv_aload_n hx hb dX0_loose_85 rfl (lv_at hl 1 rfl) ?_
          obtain ⟨a45, e44, h⟩ := bn1_some h
          refine x_get (C := RX0) (T := TX0) (N := 16) (ci := 0) hx hb hts in_X0 hown hK.1 hP rfl 2 (by decide) (hts _ q231) (fun _ h9 => h9) (gR_some e44) dX0_loose_86 ?_
          obtain ⟨a47, e46, h⟩ := bn1_some h
          refine x_getN (C := RX1) (T := TX1) (N := 16) (ci := 1) hx hb hts in_X1 hown hK.1 hP rfl 12 (by decide) (hK.2.1 _ q170 rfl) (fun _ h9 => h9) (gR_some e46) dX0_loose_89 ?_
          refine lv_iload_n hx hb dX0_loose_92 rfl (lv_at hl 0 rfl) ?_
          refine lv_iconst (v := (1 : Int32)) hx hb dX0_loose_93 (by decide) ?_
          obtain ⟨S49, e48, h⟩ := bn1_some h
          refine x_iast hx hb hK.1 hP hS e48 dX0_loose_94 (fun H locs hP hS => ?_)
          exact B95 x0 x1 x2 S49 _ _ _ hP hS (lv_sub hl [1, 2, 3] rfl) h
  unfold fX0_loose at h
  refine lv_iload_n hx hb dX0_loose_0 rfl (lv_at hl 1 rfl) ?_
  refine lv_iconst (v := (1 : Int32)) hx hb dX0_loose_1 (by decide) ?_
  refine lv_bipush (v := (30 : Int32)) hx hb dX0_loose_2 (by decide) ?_
  obtain ⟨v52, S51, e50, h⟩ := bnd_some h
  refine gci (va_runS (As := [.int x1, .int (1 : Int32), .int (30 : Int32)]) (rest := []) ⟨hx, hb, hml, hown, hts⟩ (mX0_isIn (l := l) (D := D) (cA := cA) (A := A) x1 (1 : Int32) (30 : Int32) S e50) (va_cwS 3 hts (lw_S q283 q284 q86 q285) rfl rfl rfl (by decide +kernel) ⟨Nat.le_of_ble_eq_true rfl, Nat.le_of_ble_eq_true rfl⟩) (gPreS xKst hK hA hS hP) rfl rfl hl.1 rfl (lv_room (Nat.le_of_ble_eq_true rfl)) dX0_loose_4 ⟨by first | omega | (dsimp only; omega), by first | omega | (dsimp only; omega)⟩) hS (fun H locs hP hS => ?_)
  refine lv_if_ne (tgt := 16) hx hb dX0_loose_7 (by decide) (fun c53 => ?_) (fun c53 => ?_)
  · have h := ite_f c53 h
    refine lv_aload_n hx hb dX0_loose_16 rfl (lv_at hl 0 rfl) ?_
    refine lv_iload_n hx hb dX0_loose_17 rfl (lv_at hl 1 rfl) ?_
    obtain ⟨g56, h⟩ := chk_some h
    obtain ⟨fg56, g56⟩ := isC_some g56
    obtain ⟨v57, S55, e54, h⟩ := bnd_some h
    refine gci (va_runV (As := [.int x1]) (rest := []) ⟨hx, hb, hml, hown, hts⟩ (mX0_isLate (l := l) (D := D) (cA := cA) (A := A) x0 x1 S51 e54) (cwV 1 hts (lw_V q877 q879 qs20 q86 q880) rfl rfl rfl (by decide +kernel) ⟨Nat.le_of_ble_eq_true rfl, Nat.le_of_ble_eq_true rfl⟩) (gPreV xKst hK hA hS hP (x_recv (q := (RX0, TX0, 16)) hK.1 hP rfl g56)) rfl rfl hl.1 rfl (lv_room (Nat.le_of_ble_eq_true rfl)) dX0_loose_18 ⟨by first | omega | (dsimp only; omega), by first | omega | (dsimp only; omega)⟩) hS (fun H locs hP hS => ?_)
    refine lv_if_eq (tgt := 30) hx hb dX0_loose_21 (by decide) (fun c58 => ?_) (fun c58 => ?_)
    · have h := ite_t c58 h
      refine lv_iconst (v := (0 : Int32)) hx hb dX0_loose_30 (by decide) ?_
      refine lv_istore_n (lv' := [(2, .int (0 : Int32)), (0, .ref x0), (1, .int x1)]) hx hb dX0_loose_31 rfl hl (by decide) rfl (fun ls hl => ?_)
      exact L32 FU x0 x1 (0 : Int32) S55 _ _ _ hP hS (lv_sub hl [1, 2, 0] rfl) h
    · have h := ite_f c58 h
      refine lv_aload_n hx hb dX0_loose_24 rfl (lv_at hl 0 rfl) ?_
      refine lv_iconst (v := (3 : Int32)) hx hb dX0_loose_25 (by decide) ?_
      obtain ⟨g61, h⟩ := chk_some h
      obtain ⟨fg61, g61⟩ := isC_some g61
      obtain ⟨v62, S60, e59, h⟩ := bnd_some h
      refine gci (va_runV (As := [.int (3 : Int32)]) (rest := []) ⟨hx, hb, hml, hown, hts⟩ (mX0_finds (l := l) (D := D) (cA := cA) (A := A) x0 (3 : Int32) S55 e59) (cwV 1 hts (lw_V q290 q292 qs1 q86 q293) rfl rfl rfl (by decide +kernel) ⟨Nat.le_of_ble_eq_true rfl, Nat.le_of_ble_eq_true rfl⟩) (gPreV xKst hK hA hS hP (x_recv (q := (RX0, TX0, 16)) hK.1 hP rfl g61)) rfl rfl hl.1 rfl (lv_room (Nat.le_of_ble_eq_true rfl)) dX0_loose_26 ⟨by first | omega | (dsimp only; omega), by first | omega | (dsimp only; omega)⟩) hS (fun H locs hP hS => ?_)
      exact ret _ _ _ _ _ _ dX0_loose_29 rfl hP hS h
  · have h := ite_t c53 h
    refine lv_aload_n hx hb dX0_loose_10 rfl (lv_at hl 0 rfl) ?_
    refine lv_iconst (v := (1 : Int32)) hx hb dX0_loose_11 (by decide) ?_
    obtain ⟨g65, h⟩ := chk_some h
    obtain ⟨fg65, g65⟩ := isC_some g65
    obtain ⟨v66, S64, e63, h⟩ := bnd_some h
    refine gci (va_runV (As := [.int (1 : Int32)]) (rest := []) ⟨hx, hb, hml, hown, hts⟩ (mX0_finds (l := l) (D := D) (cA := cA) (A := A) x0 (1 : Int32) S51 e63) (cwV 1 hts (lw_V q290 q292 qs1 q86 q293) rfl rfl rfl (by decide +kernel) ⟨Nat.le_of_ble_eq_true rfl, Nat.le_of_ble_eq_true rfl⟩) (gPreV xKst hK hA hS hP (x_recv (q := (RX0, TX0, 16)) hK.1 hP rfl g65)) rfl rfl hl.1 rfl (lv_room (Nat.le_of_ble_eq_true rfl)) dX0_loose_12 ⟨by first | omega | (dsimp only; omega), by first | omega | (dsimp only; omega)⟩) hS (fun H locs hP hS => ?_)
    exact ret _ _ _ _ _ _ dX0_loose_15 rfl hP hS h

def bX0_mark_55 (x0 : Nat) (S : XS) : Option (Int32 × XS) :=
chk (isC S x0 0) (bnd (fX0_finds x0 (1 : Int32) S) fun v4 S2 =>
some (v4, S2))
def fX0_mark (x0 : Nat) (x1 : Int32) (x2 : Int32) (x3 : Int32) (x4 : Int32) (S : XS) : Option (Int32 × XS) :=
(if x1 < 0 then
bX0_mark_55 x0 S
else
(if (6 : Int32) < (x1 / (10 : Int32)) then
bX0_mark_55 x0 S
else
bn1 (gR S x0 0 2) fun a8 =>
bn1 (gI S a8 1 1) fun v10 =>
bnd (fX0_isIn x2 (-1 : Int32) (v10 - (1 : Int32)) S) fun v13 S12 =>
(if v13 = 0 then
bX0_mark_55 x0 S12
else
chk (isC S12 x0 0) (bnd (fX0_isPicture x0 x3 S12) fun v18 S16 =>
(if v18 = 0 then
bX0_mark_55 x0 S16
else
(if x2 = x3 then
bX0_mark_55 x0 S16
else
bnd (fX0_isIn x4 (-20 : Int32) (20 : Int32) S16) fun v23 S22 =>
(if v23 = 0 then
bX0_mark_55 x0 S22
else
bn1 (gR S22 x0 0 2) fun a26 =>
bn1 (gI S22 a26 1 0) fun v28 =>
(if v28 = (8 : Int32) then
chk (isC S22 x0 0) (bnd (fX0_finds x0 (4 : Int32) S22) fun v79 S77 =>
some (v79, S77))
else
bn1 (gR S22 x0 0 2) fun a31 =>
bn1 (gI S22 a31 1 0) fun v33 =>
bn1 (gR S22 x0 0 2) fun a35 =>
bn1 (gR S22 a35 1 8) fun a37 =>
bn1 (aR S22 a37 4 v33) fun a39 =>
bnd (fX0_made (x1 / (10 : Int32)) v33 (x1 - x1 / (10 : Int32) * (10 : Int32)) S22) fun a42 S41 =>
bn1 (pF S41 a39 2 0 (.ref a42)) fun S44 =>
bn1 (gR S44 x0 0 2) fun a46 =>
bn1 (gR S44 a46 1 9) fun a48 =>
bn1 (sI S44 a48 0 v33 x2) fun S50 =>
bn1 (gR S50 x0 0 2) fun a52 =>
bn1 (gR S50 a52 1 10) fun a54 =>
bn1 (sI S50 a54 0 v33 x3) fun S56 =>
bn1 (gR S56 x0 0 2) fun a58 =>
bn1 (gR S56 a58 1 11) fun a60 =>
bn1 (sI S56 a60 0 v33 x4) fun S62 =>
bn1 (gR S62 x0 0 2) fun a64 =>
bn1 (gR S62 a64 1 12) fun a66 =>
bn1 (sI S62 a66 0 v33 (1 : Int32)) fun S68 =>
bn1 (gR S68 x0 0 2) fun a70 =>
bn1 (gI S68 a70 1 0) fun v72 =>
nm (v72 + (1 : Int32)) fun y73 =>
bn1 (pF S68 a70 1 0 (.int y73)) fun S75 =>
some (v33, S75)))))))))
set_option maxHeartbeats 4000000 in
set_option maxRecDepth 100000 in
theorem mX0_mark {l : Launch} {D : va_G} {cA : Nat → ClassId} {A : Nat → Prop} (x0 : Nat) (x1 : Int32) (x2 : Int32) (x3 : Int32) (x4 : Int32) (S : XS) {out : (Int32 × XS)} (h : fX0_mark x0 x1 x2 x3 x4 S = some out) : Met l yX0_mark (ws_ yX0_mark cX0_mark 6 (some .int)) ({ frames := 5, cells := 1, slots := 2, locals := 112 } : Room) (gPc (xK D cA A) (xP D cA A) A [.ref x0, .int x1, .int x2, .int x3, .int x4] S) (gQi (xK D cA A) (xP D cA A) A out) 1 2 A := by
  refine gMet_z (by decide) (Nat.le_of_ble_eq_true rfl) ?_ xKst
  intro p e s m below meth c Q ls args H locs hC hP hS hl ret
  obtain ⟨hx, hb, hml, hown, hts, hA, hK⟩ := hC
  have hown : s.vm.findClass RX0 = some m.cls := hown
  have hl : lv_has ls 6 [(0, .ref x0), (1, .int x1), (2, .int x2), (3, .int x3), (4, .int x4)] := hl
  have B55 : ∀ (x0 : Nat) (S : XS) (H : Heap) (locs : List Loc) (ls : Array Slot), xP D cA A S H → va_S A s.heap H locs → lv_has ls 6 [(0, .ref x0)] → bX0_mark_55  x0 S = some out → W p l e ({ frames := 5, cells := 1, slots := 2, locals := 112 } : Room) s m args below meth c H locs 0 0 Q (F0 m 55 ls []) := by
    intro x0 S H locs ls hP hS hl h
    unfold bX0_mark_55 at h
    refine lv_aload_n hx hb dX0_mark_55 rfl (lv_at hl 0 rfl) ?_
    refine lv_iconst (v := (1 : Int32)) hx hb dX0_mark_56 (by decide) ?_
    obtain ⟨g3, h⟩ := chk_some h
    obtain ⟨fg3, g3⟩ := isC_some g3
    obtain ⟨v4, S2, e1, h⟩ := bnd_some h
    refine gci (va_runV (As := [.int (1 : Int32)]) (rest := []) ⟨hx, hb, hml, hown, hts⟩ (mX0_finds (l := l) (D := D) (cA := cA) (A := A) x0 (1 : Int32) S e1) (cwV 1 hts (lw_V q290 q292 qs1 q86 q293) rfl rfl rfl (by decide +kernel) ⟨Nat.le_of_ble_eq_true rfl, Nat.le_of_ble_eq_true rfl⟩) (gPreV xKst hK hA hS hP (x_recv (q := (RX0, TX0, 16)) hK.1 hP rfl g3)) rfl rfl hl.1 rfl (lv_room (Nat.le_of_ble_eq_true rfl)) dX0_mark_57 ⟨by first | omega | (dsimp only; omega), by first | omega | (dsimp only; omega)⟩) hS (fun H locs hP hS => ?_)
    refine W.widen (k := 1) (n := 2) (by omega) (by omega) ?_
    exact ret _ _ _ _ _ _ dX0_mark_60 rfl hP hS h
  unfold fX0_mark at h
  refine lv_iload_n hx hb dX0_mark_0 rfl (lv_at hl 1 rfl) ?_
  refine lv_if_lt (tgt := 55) hx hb dX0_mark_1 (by decide) (fun c5 => ?_) (fun c5 => ?_)
  · have h := ite_t c5 h
    refine W.widen (k := 0) (n := 0) (by omega) (by omega) ?_
    exact B55 x0 S _ _ _ hP hS (lv_sub hl [0] rfl) h
  · have h := ite_f c5 h
    refine lv_iload_n hx hb dX0_mark_4 rfl (lv_at hl 1 rfl) ?_
    refine lv_bipush (v := (10 : Int32)) hx hb dX0_mark_5 (by decide) ?_
    refine lv_idiv hx hb dX0_mark_7 (by decide) ?_
    refine lv_bipush (v := (6 : Int32)) hx hb dX0_mark_8 (by decide) ?_
    refine lv_icmp_gt (tgt := 55) hx hb dX0_mark_10 (by decide) (fun c6 => ?_) (fun c6 => ?_)
    · have h := ite_t c6 h
      refine W.widen (k := 0) (n := 0) (by omega) (by omega) ?_
      exact B55 x0 S _ _ _ hP hS (lv_sub hl [0] rfl) h
    · have h := ite_f c6 h
      refine lv_iload_n hx hb dX0_mark_13 rfl (lv_at hl 2 rfl) ?_
      refine lv_iconst (v := (-1 : Int32)) hx hb dX0_mark_14 (by decide) ?_
      refine lv_aload_n hx hb dX0_mark_15 rfl (lv_at hl 0 rfl) ?_
      obtain ⟨a8, e7, h⟩ := bn1_some h
      refine x_get (C := RX0) (T := TX0) (N := 16) (ci := 0) hx hb hts in_X0 hown hK.1 hP rfl 2 (by decide) (hts _ q231) (fun _ h9 => h9) (gR_some e7) dX0_mark_16 ?_
      obtain ⟨v10, e9, h⟩ := bn1_some h
      refine x_getN (C := RX1) (T := TX1) (N := 16) (ci := 1) hx hb hts in_X1 hown hK.1 hP rfl 1 (by decide) (hK.2.1 _ q148 rfl) (fun _ h9 => h9) (gI_some e9) dX0_mark_19 ?_
      refine lv_iconst (v := (1 : Int32)) hx hb dX0_mark_22 (by decide) ?_
      refine lv_isub hx hb dX0_mark_23 ?_
      obtain ⟨v13, S12, e11, h⟩ := bnd_some h
      refine gci (va_runS (As := [.int x2, .int (-1 : Int32), .int (v10 - (1 : Int32))]) (rest := []) ⟨hx, hb, hml, hown, hts⟩ (mX0_isIn (l := l) (D := D) (cA := cA) (A := A) x2 (-1 : Int32) (v10 - (1 : Int32)) S e11) (va_cwS 3 hts (lw_S q283 q284 q86 q285) rfl rfl rfl (by decide +kernel) ⟨Nat.le_of_ble_eq_true rfl, Nat.le_of_ble_eq_true rfl⟩) (gPreS xKst hK hA hS hP) rfl rfl hl.1 rfl (lv_room (Nat.le_of_ble_eq_true rfl)) dX0_mark_24 ⟨by first | omega | (dsimp only; omega), by first | omega | (dsimp only; omega)⟩) hS (fun H locs hP hS => ?_)
      refine lv_if_eq (tgt := 55) hx hb dX0_mark_27 (by decide) (fun c14 => ?_) (fun c14 => ?_)
      · have h := ite_t c14 h
        refine W.widen (k := 0) (n := 0) (by omega) (by omega) ?_
        exact B55 x0 S12 _ _ _ hP hS (lv_sub hl [0] rfl) h
      · have h := ite_f c14 h
        refine lv_aload_n hx hb dX0_mark_30 rfl (lv_at hl 0 rfl) ?_
        refine lv_iload_n hx hb dX0_mark_31 rfl (lv_at hl 3 rfl) ?_
        obtain ⟨g17, h⟩ := chk_some h
        obtain ⟨fg17, g17⟩ := isC_some g17
        obtain ⟨v18, S16, e15, h⟩ := bnd_some h
        refine gci (va_runV (As := [.int x3]) (rest := []) ⟨hx, hb, hml, hown, hts⟩ (mX0_isPicture (l := l) (D := D) (cA := cA) (A := A) x0 x3 S12 e15) (cwV 1 hts (lw_V q286 q288 qs0 q86 q289) rfl rfl rfl (by decide +kernel) ⟨Nat.le_of_ble_eq_true rfl, Nat.le_of_ble_eq_true rfl⟩) (gPreV xKst hK hA hS hP (x_recv (q := (RX0, TX0, 16)) hK.1 hP rfl g17)) rfl rfl hl.1 rfl (lv_room (Nat.le_of_ble_eq_true rfl)) dX0_mark_32 ⟨by first | omega | (dsimp only; omega), by first | omega | (dsimp only; omega)⟩) hS (fun H locs hP hS => ?_)
        refine lv_if_eq (tgt := 55) hx hb dX0_mark_35 (by decide) (fun c19 => ?_) (fun c19 => ?_)
        · have h := ite_t c19 h
          refine W.widen (k := 0) (n := 0) (by omega) (by omega) ?_
          exact B55 x0 S16 _ _ _ hP hS (lv_sub hl [0] rfl) h
        · have h := ite_f c19 h
          refine lv_iload_n hx hb dX0_mark_38 rfl (lv_at hl 2 rfl) ?_
          refine lv_iload_n hx hb dX0_mark_39 rfl (lv_at hl 3 rfl) ?_
          refine lv_icmp_eq (tgt := 55) hx hb dX0_mark_40 (by decide) (fun c20 => ?_) (fun c20 => ?_)
          · have h := ite_t c20 h
            refine W.widen (k := 0) (n := 0) (by omega) (by omega) ?_
            exact B55 x0 S16 _ _ _ hP hS (lv_sub hl [0] rfl) h
          · have h := ite_f c20 h
            refine lv_iload hx hb dX0_mark_43 (lv_at hl 4 rfl) ?_
            refine lv_bipush (v := (-20 : Int32)) hx hb dX0_mark_45 (by decide) ?_
            refine lv_bipush (v := (20 : Int32)) hx hb dX0_mark_47 (by decide) ?_
            obtain ⟨v23, S22, e21, h⟩ := bnd_some h
            refine gci (va_runS (As := [.int x4, .int (-20 : Int32), .int (20 : Int32)]) (rest := []) ⟨hx, hb, hml, hown, hts⟩ (mX0_isIn (l := l) (D := D) (cA := cA) (A := A) x4 (-20 : Int32) (20 : Int32) S16 e21) (va_cwS 3 hts (lw_S q283 q284 q86 q285) rfl rfl rfl (by decide +kernel) ⟨Nat.le_of_ble_eq_true rfl, Nat.le_of_ble_eq_true rfl⟩) (gPreS xKst hK hA hS hP) rfl rfl hl.1 rfl (lv_room (Nat.le_of_ble_eq_true rfl)) dX0_mark_49 ⟨by first | omega | (dsimp only; omega), by first | omega | (dsimp only; omega)⟩) hS (fun H locs hP hS => ?_)
            refine lv_if_ne (tgt := 61) hx hb dX0_mark_52 (by decide) (fun c24 => ?_) (fun c24 => ?_)
            · have h := ite_f c24 h
              refine lv_aload_n hx hb dX0_mark_61 rfl (lv_at hl 0 rfl) ?_
              obtain ⟨a26, e25, h⟩ := bn1_some h
              refine x_get (C := RX0) (T := TX0) (N := 16) (ci := 0) hx hb hts in_X0 hown hK.1 hP rfl 2 (by decide) (hts _ q231) (fun _ h9 => h9) (gR_some e25) dX0_mark_62 ?_
              obtain ⟨v28, e27, h⟩ := bn1_some h
              refine x_getN (C := RX1) (T := TX1) (N := 16) (ci := 1) hx hb hts in_X1 hown hK.1 hP rfl 0 (by decide) (hK.2.1 _ q146 rfl) (fun _ h9 => h9) (gI_some e27) dX0_mark_65 ?_
              refine lv_bipush (v := (8 : Int32)) hx hb dX0_mark_68 (by decide) ?_
              refine lv_icmp_ne (tgt := 79) hx hb dX0_mark_70 (by decide) (fun c29 => ?_) (fun c29 => ?_)
              · have h := ite_f c29 h
                refine lv_aload_n hx hb dX0_mark_79 rfl (lv_at hl 0 rfl) ?_
                obtain ⟨a31, e30, h⟩ := bn1_some h
                refine x_get (C := RX0) (T := TX0) (N := 16) (ci := 0) hx hb hts in_X0 hown hK.1 hP rfl 2 (by decide) (hts _ q231) (fun _ h9 => h9) (gR_some e30) dX0_mark_80 ?_
                obtain ⟨v33, e32, h⟩ := bn1_some h
                refine x_getN (C := RX1) (T := TX1) (N := 16) (ci := 1) hx hb hts in_X1 hown hK.1 hP rfl 0 (by decide) (hK.2.1 _ q146 rfl) (fun _ h9 => h9) (gI_some e32) dX0_mark_83 ?_
                refine lv_istore (lv' := [(5, .int v33), (0, .ref x0), (1, .int x1), (2, .int x2), (3, .int x3), (4, .int x4)]) hx hb dX0_mark_86 hl (by decide) rfl (fun ls hl => ?_)
                refine lv_aload_n hx hb dX0_mark_88 rfl (lv_at hl 1 rfl) ?_
                obtain ⟨a35, e34, h⟩ := bn1_some h
                refine x_get (C := RX0) (T := TX0) (N := 16) (ci := 0) hx hb hts in_X0 hown hK.1 hP rfl 2 (by decide) (hts _ q231) (fun _ h9 => h9) (gR_some e34) dX0_mark_89 ?_
                obtain ⟨a37, e36, h⟩ := bn1_some h
                refine x_getN (C := RX1) (T := TX1) (N := 16) (ci := 1) hx hb hts in_X1 hown hK.1 hP rfl 8 (by decide) (hK.2.1 _ q162 rfl) (fun _ h9 => h9) (gR_some e36) dX0_mark_92 ?_
                refine lv_iload hx hb dX0_mark_95 (lv_at hl 0 rfl) ?_
                obtain ⟨a39, e38, h⟩ := bn1_some h
                refine x_aldr (t := 4) hx hb hK.1 hP (by decide) e38 dX0_mark_97 ?_
                refine lv_iload_n hx hb dX0_mark_98 rfl (lv_at hl 2 rfl) ?_
                refine lv_bipush (v := (10 : Int32)) hx hb dX0_mark_99 (by decide) ?_
                refine lv_idiv hx hb dX0_mark_101 (by decide) ?_
                refine lv_iload hx hb dX0_mark_102 (lv_at hl 0 rfl) ?_
                refine lv_iload_n hx hb dX0_mark_104 rfl (lv_at hl 2 rfl) ?_
                refine lv_bipush (v := (10 : Int32)) hx hb dX0_mark_105 (by decide) ?_
                refine lv_irem hx hb dX0_mark_107 (by decide) ?_
                obtain ⟨a42, S41, e40, h⟩ := bnd_some h
                refine gcr (va_runS (As := [.int (x1 / (10 : Int32)), .int v33, .int (x1 - x1 / (10 : Int32) * (10 : Int32))]) (rest := [.ref a39]) ⟨hx, hb, hml, hown, hts⟩ (mX0_made (l := l) (D := D) (cA := cA) (A := A) (x1 / (10 : Int32)) v33 (x1 - x1 / (10 : Int32) * (10 : Int32)) S22 e40) (va_cwS 3 hts (lw_S q295 q296 q86 q297) rfl rfl rfl (by decide +kernel) ⟨Nat.le_of_ble_eq_true rfl, Nat.le_of_ble_eq_true rfl⟩) (gPreS xKst hK hA hS hP) rfl rfl hl.1 rfl (lv_room (Nat.le_of_ble_eq_true rfl)) dX0_mark_108 ⟨by first | omega | (dsimp only; omega), by first | omega | (dsimp only; omega)⟩) hS (fun H locs hP hS => ?_)
                obtain ⟨S44, e43, h⟩ := bn1_some h
                refine x_putN (v := .ref a42) (ty := (.object "java/lang/Object")) (C := RX2) (T := TX2) (N := 1) (ci := 2) hx hb hts in_X2 tyX2 tyX2_ok nmX2 hown hK.1 hP hS rfl 0 (by decide) (hK.2.1 _ q139 rfl) (fun _ h9 => h9) rfl (by decide +kernel) rfl rfl e43 dX0_mark_111 (fun H locs hP hS => ?_)
                refine lv_aload_n hx hb dX0_mark_114 rfl (lv_at hl 1 rfl) ?_
                obtain ⟨a46, e45, h⟩ := bn1_some h
                refine x_get (C := RX0) (T := TX0) (N := 16) (ci := 0) hx hb hts in_X0 hown hK.1 hP rfl 2 (by decide) (hts _ q231) (fun _ h9 => h9) (gR_some e45) dX0_mark_115 ?_
                obtain ⟨a48, e47, h⟩ := bn1_some h
                refine x_getN (C := RX1) (T := TX1) (N := 16) (ci := 1) hx hb hts in_X1 hown hK.1 hP rfl 9 (by decide) (hK.2.1 _ q164 rfl) (fun _ h9 => h9) (gR_some e47) dX0_mark_118 ?_
                refine lv_iload hx hb dX0_mark_121 (lv_at hl 0 rfl) ?_
                refine lv_iload_n hx hb dX0_mark_123 rfl (lv_at hl 3 rfl) ?_
                obtain ⟨S50, e49, h⟩ := bn1_some h
                refine x_iast hx hb hK.1 hP hS e49 dX0_mark_124 (fun H locs hP hS => ?_)
                refine lv_aload_n hx hb dX0_mark_125 rfl (lv_at hl 1 rfl) ?_
                obtain ⟨a52, e51, h⟩ := bn1_some h
                refine x_get (C := RX0) (T := TX0) (N := 16) (ci := 0) hx hb hts in_X0 hown hK.1 hP rfl 2 (by decide) (hts _ q231) (fun _ h9 => h9) (gR_some e51) dX0_mark_126 ?_
                obtain ⟨a54, e53, h⟩ := bn1_some h
                refine x_getN (C := RX1) (T := TX1) (N := 16) (ci := 1) hx hb hts in_X1 hown hK.1 hP rfl 10 (by decide) (hK.2.1 _ q166 rfl) (fun _ h9 => h9) (gR_some e53) dX0_mark_129 ?_
                refine lv_iload hx hb dX0_mark_132 (lv_at hl 0 rfl) ?_
                refine lv_iload_n hx hb dX0_mark_134 rfl (lv_at hl 4 rfl) ?_
                obtain ⟨S56, e55, h⟩ := bn1_some h
                refine x_iast hx hb hK.1 hP hS e55 dX0_mark_135 (fun H locs hP hS => ?_)
                refine lv_aload_n hx hb dX0_mark_136 rfl (lv_at hl 1 rfl) ?_
                obtain ⟨a58, e57, h⟩ := bn1_some h
                refine x_get (C := RX0) (T := TX0) (N := 16) (ci := 0) hx hb hts in_X0 hown hK.1 hP rfl 2 (by decide) (hts _ q231) (fun _ h9 => h9) (gR_some e57) dX0_mark_137 ?_
                obtain ⟨a60, e59, h⟩ := bn1_some h
                refine x_getN (C := RX1) (T := TX1) (N := 16) (ci := 1) hx hb hts in_X1 hown hK.1 hP rfl 11 (by decide) (hK.2.1 _ q168 rfl) (fun _ h9 => h9) (gR_some e59) dX0_mark_140 ?_
                refine lv_iload hx hb dX0_mark_143 (lv_at hl 0 rfl) ?_
                refine lv_iload hx hb dX0_mark_145 (lv_at hl 5 rfl) ?_
                obtain ⟨S62, e61, h⟩ := bn1_some h
                refine x_iast hx hb hK.1 hP hS e61 dX0_mark_147 (fun H locs hP hS => ?_)
                refine lv_aload_n hx hb dX0_mark_148 rfl (lv_at hl 1 rfl) ?_
                obtain ⟨a64, e63, h⟩ := bn1_some h
                refine x_get (C := RX0) (T := TX0) (N := 16) (ci := 0) hx hb hts in_X0 hown hK.1 hP rfl 2 (by decide) (hts _ q231) (fun _ h9 => h9) (gR_some e63) dX0_mark_149 ?_
                obtain ⟨a66, e65, h⟩ := bn1_some h
                refine x_getN (C := RX1) (T := TX1) (N := 16) (ci := 1) hx hb hts in_X1 hown hK.1 hP rfl 12 (by decide) (hK.2.1 _ q170 rfl) (fun _ h9 => h9) (gR_some e65) dX0_mark_152 ?_
                refine lv_iload hx hb dX0_mark_155 (lv_at hl 0 rfl) ?_
                refine lv_iconst (v := (1 : Int32)) hx hb dX0_mark_157 (by decide) ?_
                obtain ⟨S68, e67, h⟩ := bn1_some h
                refine x_iast hx hb hK.1 hP hS e67 dX0_mark_158 (fun H locs hP hS => ?_)
                refine lv_aload_n hx hb dX0_mark_159 rfl (lv_at hl 1 rfl) ?_
                obtain ⟨a70, e69, h⟩ := bn1_some h
                refine x_get (C := RX0) (T := TX0) (N := 16) (ci := 0) hx hb hts in_X0 hown hK.1 hP rfl 2 (by decide) (hts _ q231) (fun _ h9 => h9) (gR_some e69) dX0_mark_160 ?_
                refine lv_dup hx hb dX0_mark_163 rfl ?_
                obtain ⟨v72, e71, h⟩ := bn1_some h
                refine x_getN (C := RX1) (T := TX1) (N := 16) (ci := 1) hx hb hts in_X1 hown hK.1 hP rfl 0 (by decide) (hK.2.1 _ q146 rfl) (fun _ h9 => h9) (gI_some e71) dX0_mark_164 ?_
                refine lv_iconst (v := (1 : Int32)) hx hb dX0_mark_167 (by decide) ?_
                refine lv_iadd hx hb dX0_mark_168 ?_
                refine lv_topi (fun y73 ey73 => ?_)
                have h := nm_at ey73 h
                obtain ⟨S75, e74, h⟩ := bn1_some h
                refine x_putN (v := .int y73) (ty := .int) (C := RX1) (T := TX1) (N := 16) (ci := 1) hx hb hts in_X1 tyX1 tyX1_ok nmX1 hown hK.1 hP hS rfl 0 (by decide) (hK.2.1 _ q146 rfl) (fun _ h9 => h9) rfl (by decide +kernel) rfl rfl e74 dX0_mark_169 (fun H locs hP hS => ?_)
                refine lv_iload hx hb dX0_mark_172 (lv_at hl 0 rfl) ?_
                refine W.widen (k := 1) (n := 2) (by omega) (by omega) ?_
                exact ret _ _ _ _ _ _ dX0_mark_174 rfl hP hS h
              · have h := ite_t c29 h
                refine lv_aload_n hx hb dX0_mark_73 rfl (lv_at hl 0 rfl) ?_
                refine lv_iconst (v := (4 : Int32)) hx hb dX0_mark_74 (by decide) ?_
                obtain ⟨g78, h⟩ := chk_some h
                obtain ⟨fg78, g78⟩ := isC_some g78
                obtain ⟨v79, S77, e76, h⟩ := bnd_some h
                refine gci (va_runV (As := [.int (4 : Int32)]) (rest := []) ⟨hx, hb, hml, hown, hts⟩ (mX0_finds (l := l) (D := D) (cA := cA) (A := A) x0 (4 : Int32) S22 e76) (cwV 1 hts (lw_V q290 q292 qs1 q86 q293) rfl rfl rfl (by decide +kernel) ⟨Nat.le_of_ble_eq_true rfl, Nat.le_of_ble_eq_true rfl⟩) (gPreV xKst hK hA hS hP (x_recv (q := (RX0, TX0, 16)) hK.1 hP rfl g78)) rfl rfl hl.1 rfl (lv_room (Nat.le_of_ble_eq_true rfl)) dX0_mark_75 ⟨by first | omega | (dsimp only; omega), by first | omega | (dsimp only; omega)⟩) hS (fun H locs hP hS => ?_)
                refine W.widen (k := 1) (n := 2) (by omega) (by omega) ?_
                exact ret _ _ _ _ _ _ dX0_mark_78 rfl hP hS h
            · have h := ite_t c24 h
              refine W.widen (k := 0) (n := 0) (by omega) (by omega) ?_
              exact B55 x0 S22 _ _ _ hP hS (lv_sub hl [0] rfl) h

def bX0_markIs_18 (x0 : Nat) (S : XS) : Option (Int32 × XS) :=
chk (isC S x0 0) (bnd (fX0_finds x0 (1 : Int32) S) fun v4 S2 =>
some (v4, S2))
def fX0_markIs (x0 : Nat) (x1 : Int32) (x2 : Int32) (S : XS) : Option (Int32 × XS) :=
chk (isC S x0 0) (bnd (fX0_isMark x0 x1 S) fun v8 S6 =>
(if v8 = 0 then
bX0_markIs_18 x0 S6
else
bnd (fX0_isIn x2 (0 : Int32) (7 : Int32) S6) fun v12 S11 =>
(if v12 = 0 then
bX0_markIs_18 x0 S11
else
(if x2 = (0 : Int32) then
bn1 (gR S11 x0 0 2) fun a16 =>
chk (isC S11 a16 1) (bnd (fX1_at a16 x1 S11) fun a20 S18 =>
bnd (v_X5_kind a20  S18) fun v21 S22 =>
some (v21, S22))
else
(if x2 = (1 : Int32) then
bn1 (gR S11 x0 0 2) fun a27 =>
chk (isC S11 a27 1) (bnd (fX1_at a27 x1 S11) fun a31 S29 =>
bn1 (gIM S29 a31 1) fun v33 =>
some (v33, S29))
else
(if x2 = (2 : Int32) then
bn1 (gR S11 x0 0 2) fun a36 =>
bn1 (gR S11 a36 1 9) fun a38 =>
bn1 (aI S11 a38 0 x1) fun v40 =>
some (v40, S11)
else
(if x2 = (3 : Int32) then
bn1 (gR S11 x0 0 2) fun a43 =>
bn1 (gR S11 a43 1 10) fun a45 =>
bn1 (aI S11 a45 0 x1) fun v47 =>
some (v47, S11)
else
(if x2 = (4 : Int32) then
bn1 (gR S11 x0 0 2) fun a50 =>
bn1 (gR S11 a50 1 11) fun a52 =>
bn1 (aI S11 a52 0 x1) fun v54 =>
some (v54, S11)
else
(if x2 = (5 : Int32) then
bn1 (gR S11 x0 0 2) fun a57 =>
bn1 (gR S11 a57 1 12) fun a59 =>
bn1 (aI S11 a59 0 x1) fun v61 =>
some (v61, S11)
else
(if x2 = (6 : Int32) then
chk (isC S11 x0 0) (bnd (fX0_weightOf x0 x1 S11) fun v66 S64 =>
some (v66, S64))
else
chk (isC S11 x0 0) (bnd (fX0_saidBy x0 x1 S11) fun v70 S68 =>
some (v70, S68))))))))))))
set_option maxHeartbeats 4000000 in
set_option maxRecDepth 100000 in
theorem mX0_markIs {l : Launch} {D : va_G} {cA : Nat → ClassId} {A : Nat → Prop} (x0 : Nat) (x1 : Int32) (x2 : Int32) (S : XS) {out : (Int32 × XS)} (h : fX0_markIs x0 x1 x2 S = some out) : Met l yX0_markIs (ws_ yX0_markIs cX0_markIs 3 (some .int)) ({ frames := 4, cells := 0, slots := 0, locals := 129 } : Room) (gPc (xK D cA A) (xP D cA A) A [.ref x0, .int x1, .int x2] S) (gQi (xK D cA A) (xP D cA A) A out) 0 0 A := by
  refine gMet_z (by decide) (Nat.le_of_ble_eq_true rfl) ?_ xKst
  intro p e s m below meth c Q ls args H locs hC hP hS hl ret
  obtain ⟨hx, hb, hml, hown, hts, hA, hK⟩ := hC
  have hown : s.vm.findClass RX0 = some m.cls := hown
  have hl : lv_has ls 3 [(0, .ref x0), (1, .int x1), (2, .int x2)] := hl
  have B18 : ∀ (x0 : Nat) (S : XS) (H : Heap) (locs : List Loc) (ls : Array Slot), xP D cA A S H → va_S A s.heap H locs → lv_has ls 3 [(0, .ref x0)] → bX0_markIs_18  x0 S = some out → W p l e ({ frames := 4, cells := 0, slots := 0, locals := 129 } : Room) s m args below meth c H locs 0 0 Q (F0 m 18 ls []) := by
    intro x0 S H locs ls hP hS hl h
    unfold bX0_markIs_18 at h
    refine lv_aload_n hx hb dX0_markIs_18 rfl (lv_at hl 0 rfl) ?_
    refine lv_iconst (v := (1 : Int32)) hx hb dX0_markIs_19 (by decide) ?_
    obtain ⟨g3, h⟩ := chk_some h
    obtain ⟨fg3, g3⟩ := isC_some g3
    obtain ⟨v4, S2, e1, h⟩ := bnd_some h
    refine gci (va_runV (As := [.int (1 : Int32)]) (rest := []) ⟨hx, hb, hml, hown, hts⟩ (mX0_finds (l := l) (D := D) (cA := cA) (A := A) x0 (1 : Int32) S e1) (cwV 1 hts (lw_V q290 q292 qs1 q86 q293) rfl rfl rfl (by decide +kernel) ⟨Nat.le_of_ble_eq_true rfl, Nat.le_of_ble_eq_true rfl⟩) (gPreV xKst hK hA hS hP (x_recv (q := (RX0, TX0, 16)) hK.1 hP rfl g3)) rfl rfl hl.1 rfl (lv_room (Nat.le_of_ble_eq_true rfl)) dX0_markIs_20 ⟨by first | omega | (dsimp only; omega), by first | omega | (dsimp only; omega)⟩) hS (fun H locs hP hS => ?_)
    exact ret _ _ _ _ _ _ dX0_markIs_23 rfl hP hS h
  unfold fX0_markIs at h
  refine lv_aload_n hx hb dX0_markIs_0 rfl (lv_at hl 0 rfl) ?_
  refine lv_iload_n hx hb dX0_markIs_1 rfl (lv_at hl 1 rfl) ?_
  obtain ⟨g7, h⟩ := chk_some h
  obtain ⟨fg7, g7⟩ := isC_some g7
  obtain ⟨v8, S6, e5, h⟩ := bnd_some h
  refine gci (va_runV (As := [.int x1]) (rest := []) ⟨hx, hb, hml, hown, hts⟩ (mX0_isMark (l := l) (D := D) (cA := cA) (A := A) x0 x1 S e5) (cwV 1 hts (lw_V q380 q382 qs2 q86 q383) rfl rfl rfl (by decide +kernel) ⟨Nat.le_of_ble_eq_true rfl, Nat.le_of_ble_eq_true rfl⟩) (gPreV xKst hK hA hS hP (x_recv (q := (RX0, TX0, 16)) hK.1 hP rfl g7)) rfl rfl hl.1 rfl (lv_room (Nat.le_of_ble_eq_true rfl)) dX0_markIs_2 ⟨by first | omega | (dsimp only; omega), by first | omega | (dsimp only; omega)⟩) hS (fun H locs hP hS => ?_)
  refine lv_if_eq (tgt := 18) hx hb dX0_markIs_5 (by decide) (fun c9 => ?_) (fun c9 => ?_)
  · have h := ite_t c9 h
    exact B18 x0 S6 _ _ _ hP hS (lv_sub hl [0] rfl) h
  · have h := ite_f c9 h
    refine lv_iload_n hx hb dX0_markIs_8 rfl (lv_at hl 2 rfl) ?_
    refine lv_iconst (v := (0 : Int32)) hx hb dX0_markIs_9 (by decide) ?_
    refine lv_bipush (v := (7 : Int32)) hx hb dX0_markIs_10 (by decide) ?_
    obtain ⟨v12, S11, e10, h⟩ := bnd_some h
    refine gci (va_runS (As := [.int x2, .int (0 : Int32), .int (7 : Int32)]) (rest := []) ⟨hx, hb, hml, hown, hts⟩ (mX0_isIn (l := l) (D := D) (cA := cA) (A := A) x2 (0 : Int32) (7 : Int32) S6 e10) (va_cwS 3 hts (lw_S q283 q284 q86 q285) rfl rfl rfl (by decide +kernel) ⟨Nat.le_of_ble_eq_true rfl, Nat.le_of_ble_eq_true rfl⟩) (gPreS xKst hK hA hS hP) rfl rfl hl.1 rfl (lv_room (Nat.le_of_ble_eq_true rfl)) dX0_markIs_12 ⟨by first | omega | (dsimp only; omega), by first | omega | (dsimp only; omega)⟩) hS (fun H locs hP hS => ?_)
    refine lv_if_ne (tgt := 24) hx hb dX0_markIs_15 (by decide) (fun c13 => ?_) (fun c13 => ?_)
    · have h := ite_f c13 h
      refine lv_iload_n hx hb dX0_markIs_24 rfl (lv_at hl 2 rfl) ?_
      by_cases c14 : x2 = (0 : Int32)
      · have h := ite_t c14 h
        refine lv_tableIn (off := 43) (tgt := 68) hx hb dX0_markIs_25 (by rw [c14]; decide) (by rw [c14]; decide) (by rw [c14]; rfl) (by decide) ?_
        refine lv_aload_n hx hb dX0_markIs_68 rfl (lv_at hl 0 rfl) ?_
        obtain ⟨a16, e15, h⟩ := bn1_some h
        refine x_get (C := RX0) (T := TX0) (N := 16) (ci := 0) hx hb hts in_X0 hown hK.1 hP rfl 2 (by decide) (hts _ q231) (fun _ h9 => h9) (gR_some e15) dX0_markIs_69 ?_
        refine lv_iload_n hx hb dX0_markIs_72 rfl (lv_at hl 1 rfl) ?_
        obtain ⟨g19, h⟩ := chk_some h
        obtain ⟨fg19, g19⟩ := isC_some g19
        obtain ⟨a20, S18, e17, h⟩ := bnd_some h
        refine gcr (va_runV (As := [.int x1]) (rest := []) ⟨hx, hb, hml, hown, hts⟩ (mX1_at (l := l) (D := D) (cA := cA) (A := A) a16 x1 S11 e17) (cwV 1 hts (lw_V q384 q385 q386 q87 q387) rfl rfl rfl (by decide +kernel) ⟨Nat.le_of_ble_eq_true rfl, Nat.le_of_ble_eq_true rfl⟩) (gPreV xKst hK hA hS hP (x_recv (q := (RX1, TX1, 16)) hK.1 hP rfl g19)) rfl rfl hl.1 rfl (lv_room (Nat.le_of_ble_eq_true rfl)) dX0_markIs_73 ⟨by first | omega | (dsimp only; omega), by first | omega | (dsimp only; omega)⟩) hS (fun H locs hP hS => ?_)
        obtain ⟨v21, S22, e23, h⟩ := bnd_some h
        have hr24 : va_Run p l e ({ frames := 4, cells := 0, slots := 0, locals := 129 } : Room) s m args below meth c H locs 0 0 0 0 (F0 m 76 ls [.ref a20]) [] (gQi (xK D cA A) (xP D cA A) A (v21, S22) ([.ref a20]).toArray) A := by
          rcases v_X5_kind_c e23 with ⟨gc, ec⟩ | ⟨gc, ec⟩ | ⟨gc, ec⟩ | ⟨gc, ec⟩ | ⟨gc, ec⟩ | ⟨gc, ec⟩ | ⟨gc, ec⟩
          · obtain ⟨fc, gc⟩ := isC_some gc
            exact va_runU (rest := []) ⟨hx, hb, hml, hown, hts⟩ (mX5_kind (l := l) (D := D) (cA := cA) (A := A) a20  S18 ec) (va_cwO (C := RX5) (owner := RX5) 0 hts (lw_app (xw6 q389 q392 q390 q391 q390 q91) (lw_meth q417)) rfl rfl rfl q417 (by decide +kernel) ⟨Nat.le_of_ble_eq_true rfl, Nat.le_of_ble_eq_true rfl⟩) (gPreV (As := []) xKst hK hA hS hP (x_recv (q := (RX5, TX5, 2)) hK.1 hP rfl gc)) rfl rfl hl.1 rfl (lv_room (Nat.le_of_ble_eq_true rfl)) dX0_markIs_76 ⟨by first | exact Nat.zero_le _ | (dsimp only; omega), by first | exact Nat.zero_le _ | (dsimp only; omega)⟩
          · obtain ⟨fc, gc⟩ := isC_some gc
            exact va_runU (rest := []) ⟨hx, hb, hml, hown, hts⟩ (mX6_kind (l := l) (D := D) (cA := cA) (A := A) a20  S18 ec) (va_cwO (C := RX6) (owner := RX5) 0 hts (lw_app (xw6 q389 q392 q390 q407 q397 q92) (lw_meth q398)) rfl rfl rfl q417 (by decide +kernel) ⟨Nat.le_of_ble_eq_true rfl, Nat.le_of_ble_eq_true rfl⟩) (gPreV (As := []) xKst hK hA hS hP (x_recv (q := (RX6, TX6, 2)) hK.1 hP rfl gc)) rfl rfl hl.1 rfl (lv_room (Nat.le_of_ble_eq_true rfl)) dX0_markIs_76 ⟨by first | exact Nat.zero_le _ | (dsimp only; omega), by first | exact Nat.zero_le _ | (dsimp only; omega)⟩
          · obtain ⟨fc, gc⟩ := isC_some gc
            exact va_runU (rest := []) ⟨hx, hb, hml, hown, hts⟩ (mX7_kind (l := l) (D := D) (cA := cA) (A := A) a20  S18 ec) (va_cwO (C := RX7) (owner := RX5) 0 hts (lw_app (xw6 q389 q392 q390 q416 q404 q93) (lw_meth q405)) rfl rfl rfl q417 (by decide +kernel) ⟨Nat.le_of_ble_eq_true rfl, Nat.le_of_ble_eq_true rfl⟩) (gPreV (As := []) xKst hK hA hS hP (x_recv (q := (RX7, TX7, 2)) hK.1 hP rfl gc)) rfl rfl hl.1 rfl (lv_room (Nat.le_of_ble_eq_true rfl)) dX0_markIs_76 ⟨by first | exact Nat.zero_le _ | (dsimp only; omega), by first | exact Nat.zero_le _ | (dsimp only; omega)⟩
          · obtain ⟨fc, gc⟩ := isC_some gc
            exact va_runU (rest := []) ⟨hx, hb, hml, hown, hts⟩ (mX8_kind (l := l) (D := D) (cA := cA) (A := A) a20  S18 ec) (va_cwO (C := RX8) (owner := RX5) 0 hts (lw_app (xw6 q389 q392 q390 q408 q409 q94) (lw_meth q410)) rfl rfl rfl q417 (by decide +kernel) ⟨Nat.le_of_ble_eq_true rfl, Nat.le_of_ble_eq_true rfl⟩) (gPreV (As := []) xKst hK hA hS hP (x_recv (q := (RX8, TX8, 2)) hK.1 hP rfl gc)) rfl rfl hl.1 rfl (lv_room (Nat.le_of_ble_eq_true rfl)) dX0_markIs_76 ⟨by first | exact Nat.zero_le _ | (dsimp only; omega), by first | exact Nat.zero_le _ | (dsimp only; omega)⟩
          · obtain ⟨fc, gc⟩ := isC_some gc
            exact va_runU (rest := []) ⟨hx, hb, hml, hown, hts⟩ (mX9_kind (l := l) (D := D) (cA := cA) (A := A) a20  S18 ec) (va_cwO (C := RX9) (owner := RX5) 0 hts (lw_app (xw6 q389 q392 q390 q393 q394 q95) (lw_meth q395)) rfl rfl rfl q417 (by decide +kernel) ⟨Nat.le_of_ble_eq_true rfl, Nat.le_of_ble_eq_true rfl⟩) (gPreV (As := []) xKst hK hA hS hP (x_recv (q := (RX9, TX9, 2)) hK.1 hP rfl gc)) rfl rfl hl.1 rfl (lv_room (Nat.le_of_ble_eq_true rfl)) dX0_markIs_76 ⟨by first | exact Nat.zero_le _ | (dsimp only; omega), by first | exact Nat.zero_le _ | (dsimp only; omega)⟩
          · obtain ⟨fc, gc⟩ := isC_some gc
            exact va_runU (rest := []) ⟨hx, hb, hml, hown, hts⟩ (mX10_kind (l := l) (D := D) (cA := cA) (A := A) a20  S18 ec) (va_cwO (C := RX10) (owner := RX5) 0 hts (lw_app (xw6 q389 q392 q390 q400 q401 q96) (lw_meth q402)) rfl rfl rfl q417 (by decide +kernel) ⟨Nat.le_of_ble_eq_true rfl, Nat.le_of_ble_eq_true rfl⟩) (gPreV (As := []) xKst hK hA hS hP (x_recv (q := (RX10, TX10, 2)) hK.1 hP rfl gc)) rfl rfl hl.1 rfl (lv_room (Nat.le_of_ble_eq_true rfl)) dX0_markIs_76 ⟨by first | exact Nat.zero_le _ | (dsimp only; omega), by first | exact Nat.zero_le _ | (dsimp only; omega)⟩
          · obtain ⟨fc, gc⟩ := isC_some gc
            exact va_runU (rest := []) ⟨hx, hb, hml, hown, hts⟩ (mX11_kind (l := l) (D := D) (cA := cA) (A := A) a20  S18 ec) (va_cwO (C := RX11) (owner := RX5) 0 hts (lw_app (xw6 q389 q392 q390 q412 q413 q97) (lw_meth q414)) rfl rfl rfl q417 (by decide +kernel) ⟨Nat.le_of_ble_eq_true rfl, Nat.le_of_ble_eq_true rfl⟩) (gPreV (As := []) xKst hK hA hS hP (x_recv (q := (RX11, TX11, 2)) hK.1 hP rfl gc)) rfl rfl hl.1 rfl (lv_room (Nat.le_of_ble_eq_true rfl)) dX0_markIs_76 ⟨by first | exact Nat.zero_le _ | (dsimp only; omega), by first | exact Nat.zero_le _ | (dsimp only; omega)⟩
        refine gci0 hr24 hS (fun H locs hP hS => ?_)
        exact ret _ _ _ _ _ _ dX0_markIs_79 rfl hP hS h
      · have h := ite_f c14 h
        by_cases c25 : x2 = (1 : Int32)
        · have h := ite_t c25 h
          refine lv_tableIn (off := 55) (tgt := 80) hx hb dX0_markIs_25 (by rw [c25]; decide) (by rw [c25]; decide) (by rw [c25]; rfl) (by decide) ?_
          refine lv_aload_n hx hb dX0_markIs_80 rfl (lv_at hl 0 rfl) ?_
          obtain ⟨a27, e26, h⟩ := bn1_some h
          refine x_get (C := RX0) (T := TX0) (N := 16) (ci := 0) hx hb hts in_X0 hown hK.1 hP rfl 2 (by decide) (hts _ q231) (fun _ h9 => h9) (gR_some e26) dX0_markIs_81 ?_
          refine lv_iload_n hx hb dX0_markIs_84 rfl (lv_at hl 1 rfl) ?_
          obtain ⟨g30, h⟩ := chk_some h
          obtain ⟨fg30, g30⟩ := isC_some g30
          obtain ⟨a31, S29, e28, h⟩ := bnd_some h
          refine gcr (va_runV (As := [.int x1]) (rest := []) ⟨hx, hb, hml, hown, hts⟩ (mX1_at (l := l) (D := D) (cA := cA) (A := A) a27 x1 S11 e28) (cwV 1 hts (lw_V q384 q385 q386 q87 q387) rfl rfl rfl (by decide +kernel) ⟨Nat.le_of_ble_eq_true rfl, Nat.le_of_ble_eq_true rfl⟩) (gPreV xKst hK hA hS hP (x_recv (q := (RX1, TX1, 16)) hK.1 hP rfl g30)) rfl rfl hl.1 rfl (lv_room (Nat.le_of_ble_eq_true rfl)) dX0_markIs_85 ⟨by first | omega | (dsimp only; omega), by first | omega | (dsimp only; omega)⟩) hS (fun H locs hP hS => ?_)
          obtain ⟨v33, e32, h⟩ := bn1_some h
          refine x_getM hx hb hts hown hK hP 1 (by decide) (hts _ q319) (fun _ h9 => h9) e32 dX0_markIs_88 ?_
          exact ret _ _ _ _ _ _ dX0_markIs_91 rfl hP hS h
        · have h := ite_f c25 h
          by_cases c34 : x2 = (2 : Int32)
          · have h := ite_t c34 h
            refine lv_tableIn (off := 67) (tgt := 92) hx hb dX0_markIs_25 (by rw [c34]; decide) (by rw [c34]; decide) (by rw [c34]; rfl) (by decide) ?_
            refine lv_aload_n hx hb dX0_markIs_92 rfl (lv_at hl 0 rfl) ?_
            obtain ⟨a36, e35, h⟩ := bn1_some h
            refine x_get (C := RX0) (T := TX0) (N := 16) (ci := 0) hx hb hts in_X0 hown hK.1 hP rfl 2 (by decide) (hts _ q231) (fun _ h9 => h9) (gR_some e35) dX0_markIs_93 ?_
            obtain ⟨a38, e37, h⟩ := bn1_some h
            refine x_getN (C := RX1) (T := TX1) (N := 16) (ci := 1) hx hb hts in_X1 hown hK.1 hP rfl 9 (by decide) (hK.2.1 _ q164 rfl) (fun _ h9 => h9) (gR_some e37) dX0_markIs_96 ?_
            refine lv_iload_n hx hb dX0_markIs_99 rfl (lv_at hl 1 rfl) ?_
            obtain ⟨v40, e39, h⟩ := bn1_some h
            refine x_iald hx hb hK.1 hP e39 dX0_markIs_100 ?_
            exact ret _ _ _ _ _ _ dX0_markIs_101 rfl hP hS h
          · have h := ite_f c34 h
            by_cases c41 : x2 = (3 : Int32)
            · have h := ite_t c41 h
              refine lv_tableIn (off := 77) (tgt := 102) hx hb dX0_markIs_25 (by rw [c41]; decide) (by rw [c41]; decide) (by rw [c41]; rfl) (by decide) ?_
              refine lv_aload_n hx hb dX0_markIs_102 rfl (lv_at hl 0 rfl) ?_
              obtain ⟨a43, e42, h⟩ := bn1_some h
              refine x_get (C := RX0) (T := TX0) (N := 16) (ci := 0) hx hb hts in_X0 hown hK.1 hP rfl 2 (by decide) (hts _ q231) (fun _ h9 => h9) (gR_some e42) dX0_markIs_103 ?_
              obtain ⟨a45, e44, h⟩ := bn1_some h
              refine x_getN (C := RX1) (T := TX1) (N := 16) (ci := 1) hx hb hts in_X1 hown hK.1 hP rfl 10 (by decide) (hK.2.1 _ q166 rfl) (fun _ h9 => h9) (gR_some e44) dX0_markIs_106 ?_
              refine lv_iload_n hx hb dX0_markIs_109 rfl (lv_at hl 1 rfl) ?_
              obtain ⟨v47, e46, h⟩ := bn1_some h
              refine x_iald hx hb hK.1 hP e46 dX0_markIs_110 ?_
              exact ret _ _ _ _ _ _ dX0_markIs_111 rfl hP hS h
            · have h := ite_f c41 h
              by_cases c48 : x2 = (4 : Int32)
              · have h := ite_t c48 h
                refine lv_tableIn (off := 87) (tgt := 112) hx hb dX0_markIs_25 (by rw [c48]; decide) (by rw [c48]; decide) (by rw [c48]; rfl) (by decide) ?_
                refine lv_aload_n hx hb dX0_markIs_112 rfl (lv_at hl 0 rfl) ?_
                obtain ⟨a50, e49, h⟩ := bn1_some h
                refine x_get (C := RX0) (T := TX0) (N := 16) (ci := 0) hx hb hts in_X0 hown hK.1 hP rfl 2 (by decide) (hts _ q231) (fun _ h9 => h9) (gR_some e49) dX0_markIs_113 ?_
                obtain ⟨a52, e51, h⟩ := bn1_some h
                refine x_getN (C := RX1) (T := TX1) (N := 16) (ci := 1) hx hb hts in_X1 hown hK.1 hP rfl 11 (by decide) (hK.2.1 _ q168 rfl) (fun _ h9 => h9) (gR_some e51) dX0_markIs_116 ?_
                refine lv_iload_n hx hb dX0_markIs_119 rfl (lv_at hl 1 rfl) ?_
                obtain ⟨v54, e53, h⟩ := bn1_some h
                refine x_iald hx hb hK.1 hP e53 dX0_markIs_120 ?_
                exact ret _ _ _ _ _ _ dX0_markIs_121 rfl hP hS h
              · have h := ite_f c48 h
                by_cases c55 : x2 = (5 : Int32)
                · have h := ite_t c55 h
                  refine lv_tableIn (off := 97) (tgt := 122) hx hb dX0_markIs_25 (by rw [c55]; decide) (by rw [c55]; decide) (by rw [c55]; rfl) (by decide) ?_
                  refine lv_aload_n hx hb dX0_markIs_122 rfl (lv_at hl 0 rfl) ?_
                  obtain ⟨a57, e56, h⟩ := bn1_some h
                  refine x_get (C := RX0) (T := TX0) (N := 16) (ci := 0) hx hb hts in_X0 hown hK.1 hP rfl 2 (by decide) (hts _ q231) (fun _ h9 => h9) (gR_some e56) dX0_markIs_123 ?_
                  obtain ⟨a59, e58, h⟩ := bn1_some h
                  refine x_getN (C := RX1) (T := TX1) (N := 16) (ci := 1) hx hb hts in_X1 hown hK.1 hP rfl 12 (by decide) (hK.2.1 _ q170 rfl) (fun _ h9 => h9) (gR_some e58) dX0_markIs_126 ?_
                  refine lv_iload_n hx hb dX0_markIs_129 rfl (lv_at hl 1 rfl) ?_
                  obtain ⟨v61, e60, h⟩ := bn1_some h
                  refine x_iald hx hb hK.1 hP e60 dX0_markIs_130 ?_
                  exact ret _ _ _ _ _ _ dX0_markIs_131 rfl hP hS h
                · have h := ite_f c55 h
                  by_cases c62 : x2 = (6 : Int32)
                  · have h := ite_t c62 h
                    refine lv_tableIn (off := 107) (tgt := 132) hx hb dX0_markIs_25 (by rw [c62]; decide) (by rw [c62]; decide) (by rw [c62]; rfl) (by decide) ?_
                    refine lv_aload_n hx hb dX0_markIs_132 rfl (lv_at hl 0 rfl) ?_
                    refine lv_iload_n hx hb dX0_markIs_133 rfl (lv_at hl 1 rfl) ?_
                    obtain ⟨g65, h⟩ := chk_some h
                    obtain ⟨fg65, g65⟩ := isC_some g65
                    obtain ⟨v66, S64, e63, h⟩ := bnd_some h
                    refine gci (va_runV (As := [.int x1]) (rest := []) ⟨hx, hb, hml, hown, hts⟩ (mX0_weightOf (l := l) (D := D) (cA := cA) (A := A) x0 x1 S11 e63) (cwV 1 hts (lw_V q418 q420 qs3 q86 q421) rfl rfl rfl (by decide +kernel) ⟨Nat.le_of_ble_eq_true rfl, Nat.le_of_ble_eq_true rfl⟩) (gPreV xKst hK hA hS hP (x_recv (q := (RX0, TX0, 16)) hK.1 hP rfl g65)) rfl rfl hl.1 rfl (lv_room (Nat.le_of_ble_eq_true rfl)) dX0_markIs_134 ⟨by first | omega | (dsimp only; omega), by first | omega | (dsimp only; omega)⟩) hS (fun H locs hP hS => ?_)
                    exact ret _ _ _ _ _ _ dX0_markIs_137 rfl hP hS h
                  · have h := ite_f c62 h
                    have nc14 := lv_neT (a := 0) c14 (by decide)
                    have nc25 := lv_neT (a := 1) c25 (by decide)
                    have nc34 := lv_neT (a := 2) c34 (by decide)
                    have nc41 := lv_neT (a := 3) c41 (by decide)
                    have nc48 := lv_neT (a := 4) c48 (by decide)
                    have nc55 := lv_neT (a := 5) c55 (by decide)
                    have nc62 := lv_neT (a := 6) c62 (by decide)
                    refine lv_tableOut (tgt := 138) hx hb dX0_markIs_25 (by omega) (by decide) ?_
                    refine lv_aload_n hx hb dX0_markIs_138 rfl (lv_at hl 0 rfl) ?_
                    refine lv_iload_n hx hb dX0_markIs_139 rfl (lv_at hl 1 rfl) ?_
                    obtain ⟨g69, h⟩ := chk_some h
                    obtain ⟨fg69, g69⟩ := isC_some g69
                    obtain ⟨v70, S68, e67, h⟩ := bnd_some h
                    refine gci (va_runV (As := [.int x1]) (rest := []) ⟨hx, hb, hml, hown, hts⟩ (mX0_saidBy (l := l) (D := D) (cA := cA) (A := A) x0 x1 S11 e67) (cwV 1 hts (lw_V q514 q516 qs6 q86 q517) rfl rfl rfl (by decide +kernel) ⟨Nat.le_of_ble_eq_true rfl, Nat.le_of_ble_eq_true rfl⟩) (gPreV xKst hK hA hS hP (x_recv (q := (RX0, TX0, 16)) hK.1 hP rfl g69)) rfl rfl hl.1 rfl (lv_room (Nat.le_of_ble_eq_true rfl)) dX0_markIs_140 ⟨by first | omega | (dsimp only; omega), by first | omega | (dsimp only; omega)⟩) hS (fun H locs hP hS => ?_)
                    exact ret _ _ _ _ _ _ dX0_markIs_143 rfl hP hS h
    · have h := ite_t c13 h
      exact B18 x0 S11 _ _ _ hP hS (lv_sub hl [0] rfl) h

def bX0_measure_19 (x0 : Nat) (S : XS) : Option (Int32 × XS) :=
chk (isC S x0 0) (bnd (fX0_finds x0 (1 : Int32) S) fun v4 S2 =>
some (v4, S2))
def fX0_measure (x0 : Nat) (x1 : Int32) (x2 : Int32) (S : XS) : Option (Int32 × XS) :=
chk (isC S x0 0) (bnd (fX0_isMark x0 x1 S) fun v8 S6 =>
(if v8 = 0 then
bX0_measure_19 x0 S6
else
bnd (fX0_isIn x2 (-20 : Int32) (20 : Int32) S6) fun v12 S11 =>
(if v12 = 0 then
bX0_measure_19 x0 S11
else
bn1 (gR S11 x0 0 2) fun a15 =>
bn1 (gR S11 a15 1 11) fun a17 =>
bn1 (aI S11 a17 0 x1) fun v19 =>
bn1 (gR S11 x0 0 2) fun a21 =>
bn1 (gR S11 a21 1 11) fun a23 =>
bn1 (sI S11 a23 0 x1 x2) fun S25 =>
some (v19, S25))))
set_option maxHeartbeats 4000000 in
set_option maxRecDepth 100000 in
theorem mX0_measure {l : Launch} {D : va_G} {cA : Nat → ClassId} {A : Nat → Prop} (x0 : Nat) (x1 : Int32) (x2 : Int32) (S : XS) {out : (Int32 × XS)} (h : fX0_measure x0 x1 x2 S = some out) : Met l yX0_measure (ws_ yX0_measure cX0_measure 4 (some .int)) ({ frames := 2, cells := 0, slots := 0, locals := 43 } : Room) (gPc (xK D cA A) (xP D cA A) A [.ref x0, .int x1, .int x2] S) (gQi (xK D cA A) (xP D cA A) A out) 0 0 A := by
  refine gMet_z (by decide) (Nat.le_of_ble_eq_true rfl) ?_ xKst
  intro p e s m below meth c Q ls args H locs hC hP hS hl ret
  obtain ⟨hx, hb, hml, hown, hts, hA, hK⟩ := hC
  have hown : s.vm.findClass RX0 = some m.cls := hown
  have hl : lv_has ls 4 [(0, .ref x0), (1, .int x1), (2, .int x2)] := hl
  have B19 : ∀ (x0 : Nat) (S : XS) (H : Heap) (locs : List Loc) (ls : Array Slot), xP D cA A S H → va_S A s.heap H locs → lv_has ls 4 [(0, .ref x0)] → bX0_measure_19  x0 S = some out → W p l e ({ frames := 2, cells := 0, slots := 0, locals := 43 } : Room) s m args below meth c H locs 0 0 Q (F0 m 19 ls []) := by
    intro x0 S H locs ls hP hS hl h
    unfold bX0_measure_19 at h
    refine lv_aload_n hx hb dX0_measure_19 rfl (lv_at hl 0 rfl) ?_
    refine lv_iconst (v := (1 : Int32)) hx hb dX0_measure_20 (by decide) ?_
    obtain ⟨g3, h⟩ := chk_some h
    obtain ⟨fg3, g3⟩ := isC_some g3
    obtain ⟨v4, S2, e1, h⟩ := bnd_some h
    refine gci (va_runV (As := [.int (1 : Int32)]) (rest := []) ⟨hx, hb, hml, hown, hts⟩ (mX0_finds (l := l) (D := D) (cA := cA) (A := A) x0 (1 : Int32) S e1) (cwV 1 hts (lw_V q290 q292 qs1 q86 q293) rfl rfl rfl (by decide +kernel) ⟨Nat.le_of_ble_eq_true rfl, Nat.le_of_ble_eq_true rfl⟩) (gPreV xKst hK hA hS hP (x_recv (q := (RX0, TX0, 16)) hK.1 hP rfl g3)) rfl rfl hl.1 rfl (lv_room (Nat.le_of_ble_eq_true rfl)) dX0_measure_21 ⟨by first | omega | (dsimp only; omega), by first | omega | (dsimp only; omega)⟩) hS (fun H locs hP hS => ?_)
    exact ret _ _ _ _ _ _ dX0_measure_24 rfl hP hS h
  unfold fX0_measure at h
  refine lv_aload_n hx hb dX0_measure_0 rfl (lv_at hl 0 rfl) ?_
  refine lv_iload_n hx hb dX0_measure_1 rfl (lv_at hl 1 rfl) ?_
  obtain ⟨g7, h⟩ := chk_some h
  obtain ⟨fg7, g7⟩ := isC_some g7
  obtain ⟨v8, S6, e5, h⟩ := bnd_some h
  refine gci (va_runV (As := [.int x1]) (rest := []) ⟨hx, hb, hml, hown, hts⟩ (mX0_isMark (l := l) (D := D) (cA := cA) (A := A) x0 x1 S e5) (cwV 1 hts (lw_V q380 q382 qs2 q86 q383) rfl rfl rfl (by decide +kernel) ⟨Nat.le_of_ble_eq_true rfl, Nat.le_of_ble_eq_true rfl⟩) (gPreV xKst hK hA hS hP (x_recv (q := (RX0, TX0, 16)) hK.1 hP rfl g7)) rfl rfl hl.1 rfl (lv_room (Nat.le_of_ble_eq_true rfl)) dX0_measure_2 ⟨by first | omega | (dsimp only; omega), by first | omega | (dsimp only; omega)⟩) hS (fun H locs hP hS => ?_)
  refine lv_if_eq (tgt := 19) hx hb dX0_measure_5 (by decide) (fun c9 => ?_) (fun c9 => ?_)
  · have h := ite_t c9 h
    exact B19 x0 S6 _ _ _ hP hS (lv_sub hl [0] rfl) h
  · have h := ite_f c9 h
    refine lv_iload_n hx hb dX0_measure_8 rfl (lv_at hl 2 rfl) ?_
    refine lv_bipush (v := (-20 : Int32)) hx hb dX0_measure_9 (by decide) ?_
    refine lv_bipush (v := (20 : Int32)) hx hb dX0_measure_11 (by decide) ?_
    obtain ⟨v12, S11, e10, h⟩ := bnd_some h
    refine gci (va_runS (As := [.int x2, .int (-20 : Int32), .int (20 : Int32)]) (rest := []) ⟨hx, hb, hml, hown, hts⟩ (mX0_isIn (l := l) (D := D) (cA := cA) (A := A) x2 (-20 : Int32) (20 : Int32) S6 e10) (va_cwS 3 hts (lw_S q283 q284 q86 q285) rfl rfl rfl (by decide +kernel) ⟨Nat.le_of_ble_eq_true rfl, Nat.le_of_ble_eq_true rfl⟩) (gPreS xKst hK hA hS hP) rfl rfl hl.1 rfl (lv_room (Nat.le_of_ble_eq_true rfl)) dX0_measure_13 ⟨by first | omega | (dsimp only; omega), by first | omega | (dsimp only; omega)⟩) hS (fun H locs hP hS => ?_)
    refine lv_if_ne (tgt := 25) hx hb dX0_measure_16 (by decide) (fun c13 => ?_) (fun c13 => ?_)
    · have h := ite_f c13 h
      refine lv_aload_n hx hb dX0_measure_25 rfl (lv_at hl 0 rfl) ?_
      obtain ⟨a15, e14, h⟩ := bn1_some h
      refine x_get (C := RX0) (T := TX0) (N := 16) (ci := 0) hx hb hts in_X0 hown hK.1 hP rfl 2 (by decide) (hts _ q231) (fun _ h9 => h9) (gR_some e14) dX0_measure_26 ?_
      obtain ⟨a17, e16, h⟩ := bn1_some h
      refine x_getN (C := RX1) (T := TX1) (N := 16) (ci := 1) hx hb hts in_X1 hown hK.1 hP rfl 11 (by decide) (hK.2.1 _ q168 rfl) (fun _ h9 => h9) (gR_some e16) dX0_measure_29 ?_
      refine lv_iload_n hx hb dX0_measure_32 rfl (lv_at hl 1 rfl) ?_
      obtain ⟨v19, e18, h⟩ := bn1_some h
      refine x_iald hx hb hK.1 hP e18 dX0_measure_33 ?_
      refine lv_istore_n (lv' := [(3, .int v19), (0, .ref x0), (1, .int x1), (2, .int x2)]) hx hb dX0_measure_34 rfl hl (by decide) rfl (fun ls hl => ?_)
      refine lv_aload_n hx hb dX0_measure_35 rfl (lv_at hl 1 rfl) ?_
      obtain ⟨a21, e20, h⟩ := bn1_some h
      refine x_get (C := RX0) (T := TX0) (N := 16) (ci := 0) hx hb hts in_X0 hown hK.1 hP rfl 2 (by decide) (hts _ q231) (fun _ h9 => h9) (gR_some e20) dX0_measure_36 ?_
      obtain ⟨a23, e22, h⟩ := bn1_some h
      refine x_getN (C := RX1) (T := TX1) (N := 16) (ci := 1) hx hb hts in_X1 hown hK.1 hP rfl 11 (by decide) (hK.2.1 _ q168 rfl) (fun _ h9 => h9) (gR_some e22) dX0_measure_39 ?_
      refine lv_iload_n hx hb dX0_measure_42 rfl (lv_at hl 2 rfl) ?_
      refine lv_iload_n hx hb dX0_measure_43 rfl (lv_at hl 3 rfl) ?_
      obtain ⟨S25, e24, h⟩ := bn1_some h
      refine x_iast hx hb hK.1 hP hS e24 dX0_measure_44 (fun H locs hP hS => ?_)
      refine lv_iload_n hx hb dX0_measure_45 rfl (lv_at hl 0 rfl) ?_
      exact ret _ _ _ _ _ _ dX0_measure_46 rfl hP hS h
    · have h := ite_t c13 h
      exact B19 x0 S11 _ _ _ hP hS (lv_sub hl [0] rfl) h

def bX0_part_10 (x0 : Int64) (x2 : Int64) (t0 : Int64) (S : XS) : Option (Int64 × XS) :=
bnd (fX0_common x0 x2 S) fun v3 S2 =>
chk (ne0L v3) (some ((t0 / v3), S2))
def fX0_part (x0 : Int64) (x2 : Int64) (x4 : Int32) (S : XS) : Option (Int64 × XS) :=
(if x4 = 0 then
bX0_part_10 x0 x2 x0 S
else
bX0_part_10 x0 x2 x2 S)
set_option maxHeartbeats 4000000 in
set_option maxRecDepth 100000 in
theorem mX0_part {l : Launch} {D : va_G} {cA : Nat → ClassId} {A : Nat → Prop} (x0 : Int64) (x2 : Int64) (x4 : Int32) (S : XS) {out : (Int64 × XS)} (h : fX0_part x0 x2 x4 S = some out) : Met l yX0_part (ws_ yX0_part cX0_part 5 (some .long)) ({ frames := 2, cells := 0, slots := 0, locals := 89 } : Room) (gPc (xK D cA A) (xP D cA A) A [.long x0, .long x2, .int x4] S) (gQl (xK D cA A) (xP D cA A) A out) 0 0 A := by
  refine gMet_l (by decide) (Nat.le_of_ble_eq_true rfl) ?_ xKst
  intro p e s m below meth c Q ls args H locs hC hP hS hl ret
  obtain ⟨hx, hb, hml, hown, hts, hA, hK⟩ := hC
  have hown : s.vm.findClass RX0 = some m.cls := hown
  have hl : lv_has ls 5 [(0, .long x0), (2, .long x2), (4, .int x4)] := hl
  have B10 : ∀ (x0 : Int64) (x2 : Int64) (t0 : Int64) (S : XS) (H : Heap) (locs : List Loc) (ls : Array Slot), xP D cA A S H → va_S A s.heap H locs → lv_has ls 5 [(0, .long x0), (2, .long x2)] → bX0_part_10  x0 x2 t0 S = some out → W p l e ({ frames := 2, cells := 0, slots := 0, locals := 89 } : Room) s m args below meth c H locs 0 0 Q (F0 m 10 ls [.long t0]) := by
    intro x0 x2 t0 S H locs ls hP hS hl h
    unfold bX0_part_10 at h
    refine lv_lload_n hx hb dX0_part_10 rfl (lv_at hl 0 rfl) ?_
    refine lv_lload_n hx hb dX0_part_11 rfl (lv_at hl 1 rfl) ?_
    obtain ⟨v3, S2, e1, h⟩ := bnd_some h
    refine gcl (va_runS (As := [.long x0, .long x2]) (rest := [.long t0]) ⟨hx, hb, hml, hown, hts⟩ (mX0_common (l := l) (D := D) (cA := cA) (A := A) x0 x2 S e1) (va_cwS 2 hts (lw_S q953 q954 q86 q955) rfl rfl rfl (by decide +kernel) ⟨Nat.le_of_ble_eq_true rfl, Nat.le_of_ble_eq_true rfl⟩) (gPreS xKst hK hA hS hP) rfl rfl hl.1 rfl (lv_room (Nat.le_of_ble_eq_true rfl)) dX0_part_12 ⟨by first | omega | (dsimp only; omega), by first | omega | (dsimp only; omega)⟩) hS (fun H locs hP hS => ?_)
    obtain ⟨g4, h⟩ := chk_some h
    refine lv_ldiv hx hb dX0_part_15 (ne0L_n g4) ?_
    exact ret _ _ _ _ _ _ dX0_part_16 hP hS h
  unfold fX0_part at h
  refine lv_iload hx hb dX0_part_0 (lv_at hl 2 rfl) ?_
  refine lv_if_ne (tgt := 9) hx hb dX0_part_2 (by decide) (fun c5 => ?_) (fun c5 => ?_)
  · have h := ite_f c5 h
    refine lv_lload_n hx hb dX0_part_9 rfl (lv_at hl 1 rfl) ?_
    exact B10 x0 x2 x2 S _ _ _ hP hS (lv_sub hl [0, 1] rfl) h
  · have h := ite_t c5 h
    refine lv_lload_n hx hb dX0_part_5 rfl (lv_at hl 0 rfl) ?_
    refine lv_goto (tgt := 10) hx hb dX0_part_6 (by decide) ?_
    exact B10 x0 x2 x0 S _ _ _ hP hS (lv_sub hl [0, 1] rfl) h

def bX0_miss_17 (x0 : Nat) (S : XS) : Option (Int64 × XS) :=
chk (isC S x0 0) (bnd (fX0_finds x0 (1 : Int32) S) fun v4 S2 =>
some (((v4).toInt64), S2))
def bX0_miss_53 (x0 : Nat) (t0 : Int64) (S : XS) : Option (Int64 × XS) :=
some (t0, S)
def fX0_miss (x0 : Nat) (x1 : Int32) (x2 : Int32) (S : XS) : Option (Int64 × XS) :=
chk (isC S x0 0) (bnd (fX0_isMark x0 x1 S) fun v8 S6 =>
(if v8 = 0 then
bX0_miss_17 x0 S6
else
bnd (fX0_isIn x2 (0 : Int32) (1 : Int32) S6) fun v12 S11 =>
(if v12 = 0 then
bX0_miss_17 x0 S11
else
chk (isC S11 x0 0) (bnd (fX0_isSolved x0 S11) fun v17 S15 =>
(if v17 = 0 then
chk (isC S15 x0 0) (bnd (fX0_finds x0 (3 : Int32) S15) fun v22 S20 =>
bX0_miss_53 x0 ((v22).toInt64) S20)
else
chk (isC S15 x0 0) (bnd (fX0_missOf x0 x1 S15) fun v26 S24 =>
bn1 (gL S24 x0 0 14) fun v28 =>
bnd (fX0_part v26 v28 x2 S24) fun v31 S30 =>
bX0_miss_53 x0 v31 S30))))))
set_option maxHeartbeats 4000000 in
set_option maxRecDepth 100000 in
theorem mX0_miss {l : Launch} {D : va_G} {cA : Nat → ClassId} {A : Nat → Prop} (x0 : Nat) (x1 : Int32) (x2 : Int32) (S : XS) {out : (Int64 × XS)} (h : fX0_miss x0 x1 x2 S = some out) : Met l yX0_miss (ws_ yX0_miss cX0_miss 3 (some .long)) ({ frames := 5, cells := 0, slots := 0, locals := 153 } : Room) (gPc (xK D cA A) (xP D cA A) A [.ref x0, .int x1, .int x2] S) (gQl (xK D cA A) (xP D cA A) A out) 0 0 A := by
  refine gMet_l (by decide) (Nat.le_of_ble_eq_true rfl) ?_ xKst
  intro p e s m below meth c Q ls args H locs hC hP hS hl ret
  obtain ⟨hx, hb, hml, hown, hts, hA, hK⟩ := hC
  have hown : s.vm.findClass RX0 = some m.cls := hown
  have hl : lv_has ls 3 [(0, .ref x0), (1, .int x1), (2, .int x2)] := hl
  have B17 : ∀ (x0 : Nat) (S : XS) (H : Heap) (locs : List Loc) (ls : Array Slot), xP D cA A S H → va_S A s.heap H locs → lv_has ls 3 [(0, .ref x0)] → bX0_miss_17  x0 S = some out → W p l e ({ frames := 5, cells := 0, slots := 0, locals := 153 } : Room) s m args below meth c H locs 0 0 Q (F0 m 17 ls []) := by
    intro x0 S H locs ls hP hS hl h
    unfold bX0_miss_17 at h
    refine lv_aload_n hx hb dX0_miss_17 rfl (lv_at hl 0 rfl) ?_
    refine lv_iconst (v := (1 : Int32)) hx hb dX0_miss_18 (by decide) ?_
    obtain ⟨g3, h⟩ := chk_some h
    obtain ⟨fg3, g3⟩ := isC_some g3
    obtain ⟨v4, S2, e1, h⟩ := bnd_some h
    refine gci (va_runV (As := [.int (1 : Int32)]) (rest := []) ⟨hx, hb, hml, hown, hts⟩ (mX0_finds (l := l) (D := D) (cA := cA) (A := A) x0 (1 : Int32) S e1) (cwV 1 hts (lw_V q290 q292 qs1 q86 q293) rfl rfl rfl (by decide +kernel) ⟨Nat.le_of_ble_eq_true rfl, Nat.le_of_ble_eq_true rfl⟩) (gPreV xKst hK hA hS hP (x_recv (q := (RX0, TX0, 16)) hK.1 hP rfl g3)) rfl rfl hl.1 rfl (lv_room (Nat.le_of_ble_eq_true rfl)) dX0_miss_19 ⟨by first | omega | (dsimp only; omega), by first | omega | (dsimp only; omega)⟩) hS (fun H locs hP hS => ?_)
    refine lv_i2l hx hb dX0_miss_22 rfl ?_
    exact ret _ _ _ _ _ _ dX0_miss_23 hP hS h
  have B53 : ∀ (x0 : Nat) (t0 : Int64) (S : XS) (H : Heap) (locs : List Loc) (ls : Array Slot), xP D cA A S H → va_S A s.heap H locs → lv_has ls 3 [(0, .ref x0)] → bX0_miss_53  x0 t0 S = some out → W p l e ({ frames := 5, cells := 0, slots := 0, locals := 153 } : Room) s m args below meth c H locs 0 0 Q (F0 m 53 ls [.long t0]) := by
    intro x0 t0 S H locs ls hP hS hl h
    unfold bX0_miss_53 at h
    exact ret _ _ _ _ _ _ dX0_miss_53 hP hS h
  unfold fX0_miss at h
  refine lv_aload_n hx hb dX0_miss_0 rfl (lv_at hl 0 rfl) ?_
  refine lv_iload_n hx hb dX0_miss_1 rfl (lv_at hl 1 rfl) ?_
  obtain ⟨g7, h⟩ := chk_some h
  obtain ⟨fg7, g7⟩ := isC_some g7
  obtain ⟨v8, S6, e5, h⟩ := bnd_some h
  refine gci (va_runV (As := [.int x1]) (rest := []) ⟨hx, hb, hml, hown, hts⟩ (mX0_isMark (l := l) (D := D) (cA := cA) (A := A) x0 x1 S e5) (cwV 1 hts (lw_V q380 q382 qs2 q86 q383) rfl rfl rfl (by decide +kernel) ⟨Nat.le_of_ble_eq_true rfl, Nat.le_of_ble_eq_true rfl⟩) (gPreV xKst hK hA hS hP (x_recv (q := (RX0, TX0, 16)) hK.1 hP rfl g7)) rfl rfl hl.1 rfl (lv_room (Nat.le_of_ble_eq_true rfl)) dX0_miss_2 ⟨by first | omega | (dsimp only; omega), by first | omega | (dsimp only; omega)⟩) hS (fun H locs hP hS => ?_)
  refine lv_if_eq (tgt := 17) hx hb dX0_miss_5 (by decide) (fun c9 => ?_) (fun c9 => ?_)
  · have h := ite_t c9 h
    exact B17 x0 S6 _ _ _ hP hS (lv_sub hl [0] rfl) h
  · have h := ite_f c9 h
    refine lv_iload_n hx hb dX0_miss_8 rfl (lv_at hl 2 rfl) ?_
    refine lv_iconst (v := (0 : Int32)) hx hb dX0_miss_9 (by decide) ?_
    refine lv_iconst (v := (1 : Int32)) hx hb dX0_miss_10 (by decide) ?_
    obtain ⟨v12, S11, e10, h⟩ := bnd_some h
    refine gci (va_runS (As := [.int x2, .int (0 : Int32), .int (1 : Int32)]) (rest := []) ⟨hx, hb, hml, hown, hts⟩ (mX0_isIn (l := l) (D := D) (cA := cA) (A := A) x2 (0 : Int32) (1 : Int32) S6 e10) (va_cwS 3 hts (lw_S q283 q284 q86 q285) rfl rfl rfl (by decide +kernel) ⟨Nat.le_of_ble_eq_true rfl, Nat.le_of_ble_eq_true rfl⟩) (gPreS xKst hK hA hS hP) rfl rfl hl.1 rfl (lv_room (Nat.le_of_ble_eq_true rfl)) dX0_miss_11 ⟨by first | omega | (dsimp only; omega), by first | omega | (dsimp only; omega)⟩) hS (fun H locs hP hS => ?_)
    refine lv_if_ne (tgt := 24) hx hb dX0_miss_14 (by decide) (fun c13 => ?_) (fun c13 => ?_)
    · have h := ite_f c13 h
      refine lv_aload_n hx hb dX0_miss_24 rfl (lv_at hl 0 rfl) ?_
      obtain ⟨g16, h⟩ := chk_some h
      obtain ⟨fg16, g16⟩ := isC_some g16
      obtain ⟨v17, S15, e14, h⟩ := bnd_some h
      refine gci (va_runV (As := []) (rest := []) ⟨hx, hb, hml, hown, hts⟩ (mX0_isSolved (l := l) (D := D) (cA := cA) (A := A) x0 S11 e14) (cwV 0 hts (lw_V q885 q887 qs22 q86 q888) rfl rfl rfl (by decide +kernel) ⟨Nat.le_of_ble_eq_true rfl, Nat.le_of_ble_eq_true rfl⟩) (gPreV xKst hK hA hS hP (x_recv (q := (RX0, TX0, 16)) hK.1 hP rfl g16)) rfl rfl hl.1 rfl (lv_room (Nat.le_of_ble_eq_true rfl)) dX0_miss_25 ⟨by first | omega | (dsimp only; omega), by first | omega | (dsimp only; omega)⟩) hS (fun H locs hP hS => ?_)
      refine lv_if_eq (tgt := 47) hx hb dX0_miss_28 (by decide) (fun c18 => ?_) (fun c18 => ?_)
      · have h := ite_t c18 h
        refine lv_aload_n hx hb dX0_miss_47 rfl (lv_at hl 0 rfl) ?_
        refine lv_iconst (v := (3 : Int32)) hx hb dX0_miss_48 (by decide) ?_
        obtain ⟨g21, h⟩ := chk_some h
        obtain ⟨fg21, g21⟩ := isC_some g21
        obtain ⟨v22, S20, e19, h⟩ := bnd_some h
        refine gci (va_runV (As := [.int (3 : Int32)]) (rest := []) ⟨hx, hb, hml, hown, hts⟩ (mX0_finds (l := l) (D := D) (cA := cA) (A := A) x0 (3 : Int32) S15 e19) (cwV 1 hts (lw_V q290 q292 qs1 q86 q293) rfl rfl rfl (by decide +kernel) ⟨Nat.le_of_ble_eq_true rfl, Nat.le_of_ble_eq_true rfl⟩) (gPreV xKst hK hA hS hP (x_recv (q := (RX0, TX0, 16)) hK.1 hP rfl g21)) rfl rfl hl.1 rfl (lv_room (Nat.le_of_ble_eq_true rfl)) dX0_miss_49 ⟨by first | omega | (dsimp only; omega), by first | omega | (dsimp only; omega)⟩) hS (fun H locs hP hS => ?_)
        refine lv_i2l hx hb dX0_miss_52 rfl ?_
        exact B53 x0 ((v22).toInt64) S20 _ _ _ hP hS (lv_sub hl [0] rfl) h
      · have h := ite_f c18 h
        refine lv_aload_n hx hb dX0_miss_31 rfl (lv_at hl 0 rfl) ?_
        refine lv_iload_n hx hb dX0_miss_32 rfl (lv_at hl 1 rfl) ?_
        obtain ⟨g25, h⟩ := chk_some h
        obtain ⟨fg25, g25⟩ := isC_some g25
        obtain ⟨v26, S24, e23, h⟩ := bnd_some h
        refine gcl (va_runV (As := [.int x1]) (rest := []) ⟨hx, hb, hml, hown, hts⟩ (mX0_missOf (l := l) (D := D) (cA := cA) (A := A) x0 x1 S15 e23) (cwV 1 hts (lw_V q916 q918 qs27 q86 q919) rfl rfl rfl (by decide +kernel) ⟨Nat.le_of_ble_eq_true rfl, Nat.le_of_ble_eq_true rfl⟩) (gPreV xKst hK hA hS hP (x_recv (q := (RX0, TX0, 16)) hK.1 hP rfl g25)) rfl rfl hl.1 rfl (lv_room (Nat.le_of_ble_eq_true rfl)) dX0_miss_33 ⟨by first | omega | (dsimp only; omega), by first | omega | (dsimp only; omega)⟩) hS (fun H locs hP hS => ?_)
        refine lv_aload_n hx hb dX0_miss_36 rfl (lv_at hl 0 rfl) ?_
        obtain ⟨v28, e27, h⟩ := bn1_some h
        refine x_get (C := RX0) (T := TX0) (N := 16) (ci := 0) hx hb hts in_X0 hown hK.1 hP rfl 14 (by decide) (hts _ q243) (fun _ h9 => h9) (gL_some e27) dX0_miss_37 ?_
        refine lv_iload_n hx hb dX0_miss_40 rfl (lv_at hl 2 rfl) ?_
        obtain ⟨v31, S30, e29, h⟩ := bnd_some h
        refine gcl (va_runS (As := [.long v26, .long v28, .int x2]) (rest := []) ⟨hx, hb, hml, hown, hts⟩ (mX0_part (l := l) (D := D) (cA := cA) (A := A) v26 v28 x2 S24 e29) (va_cwS 3 hts (lw_S q950 q951 q86 q952) rfl rfl rfl (by decide +kernel) ⟨Nat.le_of_ble_eq_true rfl, Nat.le_of_ble_eq_true rfl⟩) (gPreS xKst hK hA hS hP) rfl rfl hl.1 rfl (lv_room (Nat.le_of_ble_eq_true rfl)) dX0_miss_41 ⟨by first | omega | (dsimp only; omega), by first | omega | (dsimp only; omega)⟩) hS (fun H locs hP hS => ?_)
        refine lv_goto (tgt := 53) hx hb dX0_miss_44 (by decide) ?_
        exact B53 x0 v31 S30 _ _ _ hP hS (lv_sub hl [0] rfl) h
    · have h := ite_t c13 h
      exact B17 x0 S11 _ _ _ hP hS (lv_sub hl [0] rfl) h

def bX0_needed_80 (k17 : Nat → Int32 → Int32 → XS → Option (Int32 × XS)) (x0 : Nat) (x1 : Int32) (x2 : Int32) (S : XS) : Option (Int32 × XS) :=
nm (x2 + (1 : Int32)) fun y1 =>
k17 x0 x1 y1 S
def bX0_needed_17 (k17 : Nat → Int32 → Int32 → XS → Option (Int32 × XS)) (x0 : Nat) (x1 : Int32) (x2 : Int32) (S : XS) : Option (Int32 × XS) :=
bn1 (gR S x0 0 2) fun a3 =>
bn1 (gI S a3 1 0) fun v5 =>
(if v5 ≤ x2 then
some (x1, S)
else
bn1 (gR S x0 0 2) fun a8 =>
bn1 (gR S a8 1 12) fun a10 =>
bn1 (aI S a10 0 x2) fun v12 =>
(if v12 = (1 : Int32) then
bn1 (gR S x0 0 2) fun a15 =>
bn1 (gR S x0 0 2) fun a17 =>
chk (isC S a17 1) (bnd (fX1_used a17 S) fun v21 S19 =>
chk (isC S19 a15 1) (bnd (fX1_tied a15 (v21 &&& (((1 : Int32) <<< (x2 &&& 31)) ^^^ (-1 : Int32))) S19) fun v25 S23 =>
bn1 (gR S23 x0 0 2) fun a27 =>
bn1 (gI S23 a27 1 1) fun v29 =>
bnd (fX0_all v29 S23) fun v32 S31 =>
(if v25 = v32 then
bX0_needed_80 k17 x0 x1 x2 S31
else
nm (x1 ||| ((1 : Int32) <<< (x2 &&& 31))) fun y34 =>
bX0_needed_80 k17 x0 y34 x2 S31)))
else
bX0_needed_80 k17 x0 x1 x2 S))
def lX0_needed_17 : Nat → (Nat → Int32 → Int32 → XS → Option (Int32 × XS))
  | 0 => fun _ _ _ _ => none
  | n + 1 => bX0_needed_17 (lX0_needed_17 n)
def fX0_needed (x0 : Nat) (S : XS) : Option (Int32 × XS) :=
chk (isC S x0 0) (bnd (fX0_isHeld x0 S) fun v38 S36 =>
(if v38 = 0 then
chk (isC S36 x0 0) (bnd (fX0_finds x0 (3 : Int32) S36) fun v43 S41 =>
some (v43, S41))
else
lX0_needed_17 FU x0 (0 : Int32) (0 : Int32) S36))
set_option maxHeartbeats 4000000 in
set_option maxRecDepth 100000 in
theorem mX0_needed {l : Launch} {D : va_G} {cA : Nat → ClassId} {A : Nat → Prop} (x0 : Nat) (S : XS) {out : (Int32 × XS)} (h : fX0_needed x0 S = some out) : Met l yX0_needed (ws_ yX0_needed cX0_needed 3 (some .int)) ({ frames := 2, cells := 0, slots := 0, locals := 45 } : Room) (gPc (xK D cA A) (xP D cA A) A [.ref x0] S) (gQi (xK D cA A) (xP D cA A) A out) 0 0 A := by
  refine gMet_z (by decide) (Nat.le_of_ble_eq_true rfl) ?_ xKst
  intro p e s m below meth c Q ls args H locs hC hP hS hl ret
  obtain ⟨hx, hb, hml, hown, hts, hA, hK⟩ := hC
  have hown : s.vm.findClass RX0 = some m.cls := hown
  have hl : lv_has ls 3 [(0, .ref x0)] := hl
  have L17 : ∀ (n17 : Nat) (x0 : Nat) (x1 : Int32) (x2 : Int32) (S : XS) (H : Heap) (locs : List Loc) (ls : Array Slot), xP D cA A S H → va_S A s.heap H locs → lv_has ls 3 [(0, .ref x0), (1, .int x1), (2, .int x2)] → lX0_needed_17 n17 x0 x1 x2 S = some out → W p l e ({ frames := 2, cells := 0, slots := 0, locals := 45 } : Room) s m args below meth c H locs 0 0 Q (F0 m 17 ls []) := by
    intro n17
    induction n17 with
    | zero =>
      intro x0 x1 x2 S H locs ls hP hS hl h
      cases h
    | succ n17 ih17 =>
      have B80 : ∀ (x0 : Nat) (x1 : Int32) (x2 : Int32) (S : XS) (H : Heap) (locs : List Loc) (ls : Array Slot), xP D cA A S H → va_S A s.heap H locs → lv_has ls 3 [(0, .ref x0), (1, .int x1), (2, .int x2)] → bX0_needed_80 (lX0_needed_17 n17) x0 x1 x2 S = some out → W p l e ({ frames := 2, cells := 0, slots := 0, locals := 45 } : Room) s m args below meth c H locs 0 0 Q (F0 m 80 ls []) := by
        intro x0 x1 x2 S H locs ls hP hS hl h
        unfold bX0_needed_80 at h
        obtain ⟨y1, ey1⟩ : ∃ y : Int32, y = x2 + (1 : Int32) := ⟨_, rfl⟩
        refine lv_iinc (v := y1) (lv' := [(2, .int y1), (0, .ref x0), (1, .int x1)]) hx hb dX0_needed_80 hl (k := 2) rfl (by rw [ey1]; rfl) (by decide) rfl (fun ls hl => ?_)
        have h := nm_at ey1 h
        refine lv_goto (tgt := 17) hx hb dX0_needed_83 (by decide) ?_
        exact ih17 x0 x1 y1 S _ _ _ hP hS (lv_sub hl [1, 2, 0] rfl) h
      intro x0 x1 x2 S H locs ls hP hS hl h
      replace h : bX0_needed_17 (lX0_needed_17 n17) x0 x1 x2 S = some out := h
      unfold bX0_needed_17 at h
      refine lv_iload_n hx hb dX0_needed_17 rfl (lv_at hl 2 rfl) ?_
      refine lv_aload_n hx hb dX0_needed_18 rfl (lv_at hl 0 rfl) ?_
      obtain ⟨a3, e2, h⟩ := bn1_some h
      refine x_get (C := RX0) (T := TX0) (N := 16) (ci := 0) hx hb hts in_X0 hown hK.1 hP rfl 2 (by decide) (hts _ q231) (fun _ h9 => h9) (gR_some e2) dX0_needed_19 ?_
      obtain ⟨v5, e4, h⟩ := bn1_some h
      refine x_getN (C := RX1) (T := TX1) (N := 16) (ci := 1) hx hb hts in_X1 hown hK.1 hP rfl 0 (by decide) (hK.2.1 _ q146 rfl) (fun _ h9 => h9) (gI_some e4) dX0_needed_22 ?_
      refine lv_icmp_ge (tgt := 86) hx hb dX0_needed_25 (by decide) (fun c6 => ?_) (fun c6 => ?_)
      · have h := ite_t c6 h
        refine lv_iload_n hx hb dX0_needed_86 rfl (lv_at hl 1 rfl) ?_
        exact ret _ _ _ _ _ _ dX0_needed_87 rfl hP hS h
      · have h := ite_f c6 h
        refine lv_aload_n hx hb dX0_needed_28 rfl (lv_at hl 0 rfl) ?_
        obtain ⟨a8, e7, h⟩ := bn1_some h
        refine x_get (C := RX0) (T := TX0) (N := 16) (ci := 0) hx hb hts in_X0 hown hK.1 hP rfl 2 (by decide) (hts _ q231) (fun _ h9 => h9) (gR_some e7) dX0_needed_29 ?_
        obtain ⟨a10, e9, h⟩ := bn1_some h
        refine x_getN (C := RX1) (T := TX1) (N := 16) (ci := 1) hx hb hts in_X1 hown hK.1 hP rfl 12 (by decide) (hK.2.1 _ q170 rfl) (fun _ h9 => h9) (gR_some e9) dX0_needed_32 ?_
        refine lv_iload_n hx hb dX0_needed_35 rfl (lv_at hl 2 rfl) ?_
        obtain ⟨v12, e11, h⟩ := bn1_some h
        refine x_iald hx hb hK.1 hP e11 dX0_needed_36 ?_
        refine lv_iconst (v := (1 : Int32)) hx hb dX0_needed_37 (by decide) ?_
        refine lv_icmp_ne (tgt := 80) hx hb dX0_needed_38 (by decide) (fun c13 => ?_) (fun c13 => ?_)
        · have h := ite_f c13 h
          exact B80 x0 x1 x2 S _ _ _ hP hS hl h
        · have h := ite_t c13 h
          refine lv_aload_n hx hb dX0_needed_41 rfl (lv_at hl 0 rfl) ?_
          obtain ⟨a15, e14, h⟩ := bn1_some h
          refine x_get (C := RX0) (T := TX0) (N := 16) (ci := 0) hx hb hts in_X0 hown hK.1 hP rfl 2 (by decide) (hts _ q231) (fun _ h9 => h9) (gR_some e14) dX0_needed_42 ?_
          refine lv_aload_n hx hb dX0_needed_45 rfl (lv_at hl 0 rfl) ?_
          obtain ⟨a17, e16, h⟩ := bn1_some h
          refine x_get (C := RX0) (T := TX0) (N := 16) (ci := 0) hx hb hts in_X0 hown hK.1 hP rfl 2 (by decide) (hts _ q231) (fun _ h9 => h9) (gR_some e16) dX0_needed_46 ?_
          obtain ⟨g20, h⟩ := chk_some h
          obtain ⟨fg20, g20⟩ := isC_some g20
          obtain ⟨v21, S19, e18, h⟩ := bnd_some h
          refine gci (va_runV (As := []) (rest := [.ref a15]) ⟨hx, hb, hml, hown, hts⟩ (mX1_used (l := l) (D := D) (cA := cA) (A := A) a17 S e18) (cwV 0 hts (lw_V q893 q894 q895 q87 q896) rfl rfl rfl (by decide +kernel) ⟨Nat.le_of_ble_eq_true rfl, Nat.le_of_ble_eq_true rfl⟩) (gPreV xKst hK hA hS hP (x_recv (q := (RX1, TX1, 16)) hK.1 hP rfl g20)) rfl rfl hl.1 rfl (lv_room (Nat.le_of_ble_eq_true rfl)) dX0_needed_49 ⟨by first | omega | (dsimp only; omega), by first | omega | (dsimp only; omega)⟩) hS (fun H locs hP hS => ?_)
          refine lv_iconst (v := (1 : Int32)) hx hb dX0_needed_52 (by decide) ?_
          refine lv_iload_n hx hb dX0_needed_53 rfl (lv_at hl 2 rfl) ?_
          refine lv_ishl hx hb dX0_needed_54 ?_
          refine lv_iconst (v := (-1 : Int32)) hx hb dX0_needed_55 (by decide) ?_
          refine lv_ixor hx hb dX0_needed_56 ?_
          refine lv_iand hx hb dX0_needed_57 ?_
          obtain ⟨g24, h⟩ := chk_some h
          obtain ⟨fg24, g24⟩ := isC_some g24
          obtain ⟨v25, S23, e22, h⟩ := bnd_some h
          refine gci (va_runV (As := [.int (v21 &&& (((1 : Int32) <<< (x2 &&& 31)) ^^^ (-1 : Int32)))]) (rest := []) ⟨hx, hb, hml, hown, hts⟩ (mX1_tied (l := l) (D := D) (cA := cA) (A := A) a15 (v21 &&& (((1 : Int32) <<< (x2 &&& 31)) ^^^ (-1 : Int32))) S19 e22) (cwV 1 hts (lw_V q897 q898 q899 q87 q900) rfl rfl rfl (by decide +kernel) ⟨Nat.le_of_ble_eq_true rfl, Nat.le_of_ble_eq_true rfl⟩) (gPreV xKst hK hA hS hP (x_recv (q := (RX1, TX1, 16)) hK.1 hP rfl g24)) rfl rfl hl.1 rfl (lv_room (Nat.le_of_ble_eq_true rfl)) dX0_needed_58 ⟨by first | omega | (dsimp only; omega), by first | omega | (dsimp only; omega)⟩) hS (fun H locs hP hS => ?_)
          refine lv_aload_n hx hb dX0_needed_61 rfl (lv_at hl 0 rfl) ?_
          obtain ⟨a27, e26, h⟩ := bn1_some h
          refine x_get (C := RX0) (T := TX0) (N := 16) (ci := 0) hx hb hts in_X0 hown hK.1 hP rfl 2 (by decide) (hts _ q231) (fun _ h9 => h9) (gR_some e26) dX0_needed_62 ?_
          obtain ⟨v29, e28, h⟩ := bn1_some h
          refine x_getN (C := RX1) (T := TX1) (N := 16) (ci := 1) hx hb hts in_X1 hown hK.1 hP rfl 1 (by decide) (hK.2.1 _ q148 rfl) (fun _ h9 => h9) (gI_some e28) dX0_needed_65 ?_
          obtain ⟨v32, S31, e30, h⟩ := bnd_some h
          refine gci (va_runS (As := [.int v29]) (rest := [.int v25]) ⟨hx, hb, hml, hown, hts⟩ (mX0_all (l := l) (D := D) (cA := cA) (A := A) v29 S23 e30) (va_cwS 1 hts (lw_S q901 q902 q86 q903) rfl rfl rfl (by decide +kernel) ⟨Nat.le_of_ble_eq_true rfl, Nat.le_of_ble_eq_true rfl⟩) (gPreS xKst hK hA hS hP) rfl rfl hl.1 rfl (lv_room (Nat.le_of_ble_eq_true rfl)) dX0_needed_68 ⟨by first | omega | (dsimp only; omega), by first | omega | (dsimp only; omega)⟩) hS (fun H locs hP hS => ?_)
          refine lv_icmp_eq (tgt := 80) hx hb dX0_needed_71 (by decide) (fun c33 => ?_) (fun c33 => ?_)
          · have h := ite_t c33 h
            exact B80 x0 x1 x2 S31 _ _ _ hP hS hl h
          · have h := ite_f c33 h
            refine lv_iload_n hx hb dX0_needed_74 rfl (lv_at hl 1 rfl) ?_
            refine lv_iconst (v := (1 : Int32)) hx hb dX0_needed_75 (by decide) ?_
            refine lv_iload_n hx hb dX0_needed_76 rfl (lv_at hl 2 rfl) ?_
            refine lv_ishl hx hb dX0_needed_77 ?_
            refine lv_ior hx hb dX0_needed_78 ?_
            refine lv_topi (fun y34 ey34 => ?_)
            have h := nm_at ey34 h
            refine lv_istore_n (lv' := [(1, .int y34), (0, .ref x0), (2, .int x2)]) hx hb dX0_needed_79 rfl hl (by decide) rfl (fun ls hl => ?_)
            exact B80 x0 y34 x2 S31 _ _ _ hP hS (lv_sub hl [1, 0, 2] rfl) h
  unfold fX0_needed at h
  refine lv_aload_n hx hb dX0_needed_0 rfl (lv_at hl 0 rfl) ?_
  obtain ⟨g37, h⟩ := chk_some h
  obtain ⟨fg37, g37⟩ := isC_some g37
  obtain ⟨v38, S36, e35, h⟩ := bnd_some h
  refine gci (va_runV (As := []) (rest := []) ⟨hx, hb, hml, hown, hts⟩ (mX0_isHeld (l := l) (D := D) (cA := cA) (A := A) x0 S e35) (cwV 0 hts (lw_V q889 q891 qs23 q86 q892) rfl rfl rfl (by decide +kernel) ⟨Nat.le_of_ble_eq_true rfl, Nat.le_of_ble_eq_true rfl⟩) (gPreV xKst hK hA hS hP (x_recv (q := (RX0, TX0, 16)) hK.1 hP rfl g37)) rfl rfl hl.1 rfl (lv_room (Nat.le_of_ble_eq_true rfl)) dX0_needed_1 ⟨by first | omega | (dsimp only; omega), by first | omega | (dsimp only; omega)⟩) hS (fun H locs hP hS => ?_)
  refine lv_if_ne (tgt := 13) hx hb dX0_needed_4 (by decide) (fun c39 => ?_) (fun c39 => ?_)
  · have h := ite_f c39 h
    refine lv_iconst (v := (0 : Int32)) hx hb dX0_needed_13 (by decide) ?_
    refine lv_istore_n (lv' := [(1, .int (0 : Int32)), (0, .ref x0)]) hx hb dX0_needed_14 rfl hl (by decide) rfl (fun ls hl => ?_)
    refine lv_iconst (v := (0 : Int32)) hx hb dX0_needed_15 (by decide) ?_
    refine lv_istore_n (lv' := [(2, .int (0 : Int32)), (1, .int (0 : Int32)), (0, .ref x0)]) hx hb dX0_needed_16 rfl hl (by decide) rfl (fun ls hl => ?_)
    exact L17 FU x0 (0 : Int32) (0 : Int32) S36 _ _ _ hP hS (lv_sub hl [2, 1, 0] rfl) h
  · have h := ite_t c39 h
    refine lv_aload_n hx hb dX0_needed_7 rfl (lv_at hl 0 rfl) ?_
    refine lv_iconst (v := (3 : Int32)) hx hb dX0_needed_8 (by decide) ?_
    obtain ⟨g42, h⟩ := chk_some h
    obtain ⟨fg42, g42⟩ := isC_some g42
    obtain ⟨v43, S41, e40, h⟩ := bnd_some h
    refine gci (va_runV (As := [.int (3 : Int32)]) (rest := []) ⟨hx, hb, hml, hown, hts⟩ (mX0_finds (l := l) (D := D) (cA := cA) (A := A) x0 (3 : Int32) S36 e40) (cwV 1 hts (lw_V q290 q292 qs1 q86 q293) rfl rfl rfl (by decide +kernel) ⟨Nat.le_of_ble_eq_true rfl, Nat.le_of_ble_eq_true rfl⟩) (gPreV xKst hK hA hS hP (x_recv (q := (RX0, TX0, 16)) hK.1 hP rfl g42)) rfl rfl hl.1 rfl (lv_room (Nat.le_of_ble_eq_true rfl)) dX0_needed_9 ⟨by first | omega | (dsimp only; omega), by first | omega | (dsimp only; omega)⟩) hS (fun H locs hP hS => ?_)
    exact ret _ _ _ _ _ _ dX0_needed_12 rfl hP hS h

def bX0_odds_27 (x0 : Nat) (S : XS) : Option (Int32 × XS) :=
chk (isC S x0 0) (bnd (fX0_finds x0 (1 : Int32) S) fun v4 S2 =>
some (v4, S2))
def bX0_odds_76 (k55 : Nat → Int32 → Int32 → Int32 → Int32 → Int32 → Int32 → XS → Option (Int32 × XS)) (k76 : Nat → Int32 → Int32 → Int32 → Int32 → Int32 → Int32 → Int32 → XS → Option (Int32 × XS)) (x0 : Nat) (x1 : Int32) (x2 : Int32) (x3 : Int32) (x4 : Int32) (x5 : Int32) (x6 : Int32) (x7 : Int32) (S : XS) : Option (Int32 × XS) :=
(if x2 ≤ x7 then
bn1 (gR S x0 0 2) fun a7 =>
bn1 (gR S a7 1 12) fun a9 =>
bn1 (aI S a9 0 x1) fun v11 =>
nm (x4 + v11) fun y12 =>
bn1 (gR S x0 0 2) fun a14 =>
bn1 (gR S x0 0 4) fun a16 =>
chk (isC S a14 1) (bn1 (fX1_follows a14 a16 S) fun S18 =>
nm (x6 + (1 : Int32)) fun y20 =>
k55 x0 x1 x2 x3 y12 x5 y20 S18)
else
chk (isC S x0 0) (bn1 (fX0_aRound x0 S) fun S22 =>
nm (x7 + (1 : Int32)) fun y24 =>
k76 x0 x1 x2 x3 x4 x5 x6 y24 S22))
def lX0_odds_76 (k55 : Nat → Int32 → Int32 → Int32 → Int32 → Int32 → Int32 → XS → Option (Int32 × XS)) : Nat → (Nat → Int32 → Int32 → Int32 → Int32 → Int32 → Int32 → Int32 → XS → Option (Int32 × XS))
  | 0 => fun _ _ _ _ _ _ _ _ _ => none
  | n + 1 => bX0_odds_76 k55 (lX0_odds_76 k55 n)
def bX0_odds_55 (k55 : Nat → Int32 → Int32 → Int32 → Int32 → Int32 → Int32 → XS → Option (Int32 × XS)) (x0 : Nat) (x1 : Int32) (x2 : Int32) (x3 : Int32) (x4 : Int32) (x5 : Int32) (x6 : Int32) (S : XS) : Option (Int32 × XS) :=
(if (20 : Int32) < x6 then
bnd (fX0_part ((x4).toInt64) ((x5).toInt64) x3 S) fun v28 S27 =>
some (((v28).toInt32), S27)
else
bn1 (gR S x0 0 2) fun a30 =>
bn1 (gR S a30 1 11) fun a32 =>
bn1 (sI S a32 0 x1 x6) fun S34 =>
lX0_odds_76 k55 FU x0 x1 x2 x3 x4 x5 x6 (0 : Int32) S34)
def lX0_odds_55 : Nat → (Nat → Int32 → Int32 → Int32 → Int32 → Int32 → Int32 → XS → Option (Int32 × XS))
  | 0 => fun _ _ _ _ _ _ _ _ => none
  | n + 1 => bX0_odds_55 (lX0_odds_55 n)
def fX0_odds (x0 : Nat) (x1 : Int32) (x2 : Int32) (x3 : Int32) (S : XS) : Option (Int32 × XS) :=
chk (isC S x0 0) (bnd (fX0_isMark x0 x1 S) fun v38 S36 =>
(if v38 = 0 then
bX0_odds_27 x0 S36
else
bnd (fX0_isIn x2 (0 : Int32) (40 : Int32) S36) fun v42 S41 =>
(if v42 = 0 then
bX0_odds_27 x0 S41
else
bnd (fX0_isIn x3 (0 : Int32) (1 : Int32) S41) fun v46 S45 =>
(if v46 = 0 then
bX0_odds_27 x0 S45
else
bn1 (gR S45 x0 0 4) fun a49 =>
bn1 (gR S45 x0 0 2) fun a51 =>
chk (isC S45 a49 1) (bn1 (fX1_follows a49 a51 S45) fun S53 =>
lX0_odds_55 FU x0 x1 x2 x3 (0 : Int32) (41 : Int32) (-20 : Int32) S53)))))
set_option maxHeartbeats 4000000 in
set_option maxRecDepth 100000 in
theorem mX0_odds {l : Launch} {D : va_G} {cA : Nat → ClassId} {A : Nat → Prop} (x0 : Nat) (x1 : Int32) (x2 : Int32) (x3 : Int32) (S : XS) {out : (Int32 × XS)} (h : fX0_odds x0 x1 x2 x3 S = some out) : Met l yX0_odds (ws_ yX0_odds cX0_odds 8 (some .int)) ({ frames := 6, cells := 0, slots := 0, locals := 174 } : Room) (gPc (xK D cA A) (xP D cA A) A [.ref x0, .int x1, .int x2, .int x3] S) (gQi (xK D cA A) (xP D cA A) A out) 0 0 A := by
  refine gMet_z (by decide) (Nat.le_of_ble_eq_true rfl) ?_ xKst
  intro p e s m below meth c Q ls args H locs hC hP hS hl ret
  obtain ⟨hx, hb, hml, hown, hts, hA, hK⟩ := hC
  have hown : s.vm.findClass RX0 = some m.cls := hown
  have hl : lv_has ls 8 [(0, .ref x0), (1, .int x1), (2, .int x2), (3, .int x3)] := hl
  have B27 : ∀ (x0 : Nat) (S : XS) (H : Heap) (locs : List Loc) (ls : Array Slot), xP D cA A S H → va_S A s.heap H locs → lv_has ls 8 [(0, .ref x0)] → bX0_odds_27  x0 S = some out → W p l e ({ frames := 6, cells := 0, slots := 0, locals := 174 } : Room) s m args below meth c H locs 0 0 Q (F0 m 27 ls []) := by
    intro x0 S H locs ls hP hS hl h
    unfold bX0_odds_27 at h
    refine lv_aload_n hx hb dX0_odds_27 rfl (lv_at hl 0 rfl) ?_
    refine lv_iconst (v := (1 : Int32)) hx hb dX0_odds_28 (by decide) ?_
    obtain ⟨g3, h⟩ := chk_some h
    obtain ⟨fg3, g3⟩ := isC_some g3
    obtain ⟨v4, S2, e1, h⟩ := bnd_some h
    refine gci (va_runV (As := [.int (1 : Int32)]) (rest := []) ⟨hx, hb, hml, hown, hts⟩ (mX0_finds (l := l) (D := D) (cA := cA) (A := A) x0 (1 : Int32) S e1) (cwV 1 hts (lw_V q290 q292 qs1 q86 q293) rfl rfl rfl (by decide +kernel) ⟨Nat.le_of_ble_eq_true rfl, Nat.le_of_ble_eq_true rfl⟩) (gPreV xKst hK hA hS hP (x_recv (q := (RX0, TX0, 16)) hK.1 hP rfl g3)) rfl rfl hl.1 rfl (lv_room (Nat.le_of_ble_eq_true rfl)) dX0_odds_29 ⟨by first | omega | (dsimp only; omega), by first | omega | (dsimp only; omega)⟩) hS (fun H locs hP hS => ?_)
    exact ret _ _ _ _ _ _ dX0_odds_32 rfl hP hS h
  have L55 : ∀ (n55 : Nat) (x0 : Nat) (x1 : Int32) (x2 : Int32) (x3 : Int32) (x4 : Int32) (x5 : Int32) (x6 : Int32) (S : XS) (H : Heap) (locs : List Loc) (ls : Array Slot), xP D cA A S H → va_S A s.heap H locs → lv_has ls 8 [(0, .ref x0), (1, .int x1), (2, .int x2), (3, .int x3), (4, .int x4), (5, .int x5), (6, .int x6)] → lX0_odds_55 n55 x0 x1 x2 x3 x4 x5 x6 S = some out → W p l e ({ frames := 6, cells := 0, slots := 0, locals := 174 } : Room) s m args below meth c H locs 0 0 Q (F0 m 55 ls []) := by
    intro n55
    induction n55 with
    | zero =>
      intro x0 x1 x2 x3 x4 x5 x6 S H locs ls hP hS hl h
      cases h
    | succ n55 ih55 =>
      have L76 : ∀ (n76 : Nat) (x0 : Nat) (x1 : Int32) (x2 : Int32) (x3 : Int32) (x4 : Int32) (x5 : Int32) (x6 : Int32) (x7 : Int32) (S : XS) (H : Heap) (locs : List Loc) (ls : Array Slot), xP D cA A S H → va_S A s.heap H locs → lv_has ls 8 [(0, .ref x0), (1, .int x1), (2, .int x2), (3, .int x3), (4, .int x4), (5, .int x5), (6, .int x6), (7, .int x7)] → lX0_odds_76 (lX0_odds_55 n55) n76 x0 x1 x2 x3 x4 x5 x6 x7 S = some out → W p l e ({ frames := 6, cells := 0, slots := 0, locals := 174 } : Room) s m args below meth c H locs 0 0 Q (F0 m 76 ls []) := by
        intro n76
        induction n76 with
        | zero =>
          intro x0 x1 x2 x3 x4 x5 x6 x7 S H locs ls hP hS hl h
          cases h
        | succ n76 ih76 =>
          intro x0 x1 x2 x3 x4 x5 x6 x7 S H locs ls hP hS hl h
          replace h : bX0_odds_76 (lX0_odds_55 n55) (lX0_odds_76 (lX0_odds_55 n55) n76) x0 x1 x2 x3 x4 x5 x6 x7 S = some out := h
          unfold bX0_odds_76 at h
          refine lv_iload hx hb dX0_odds_76 (lv_at hl 7 rfl) ?_
          refine lv_iload_n hx hb dX0_odds_78 rfl (lv_at hl 2 rfl) ?_
          refine lv_icmp_ge (tgt := 92) hx hb dX0_odds_79 (by decide) (fun c5 => ?_) (fun c5 => ?_)
          · have h := ite_t c5 h
            refine lv_iload hx hb dX0_odds_92 (lv_at hl 4 rfl) ?_
            refine lv_aload_n hx hb dX0_odds_94 rfl (lv_at hl 0 rfl) ?_
            obtain ⟨a7, e6, h⟩ := bn1_some h
            refine x_get (C := RX0) (T := TX0) (N := 16) (ci := 0) hx hb hts in_X0 hown hK.1 hP rfl 2 (by decide) (hts _ q231) (fun _ h9 => h9) (gR_some e6) dX0_odds_95 ?_
            obtain ⟨a9, e8, h⟩ := bn1_some h
            refine x_getN (C := RX1) (T := TX1) (N := 16) (ci := 1) hx hb hts in_X1 hown hK.1 hP rfl 12 (by decide) (hK.2.1 _ q170 rfl) (fun _ h9 => h9) (gR_some e8) dX0_odds_98 ?_
            refine lv_iload_n hx hb dX0_odds_101 rfl (lv_at hl 1 rfl) ?_
            obtain ⟨v11, e10, h⟩ := bn1_some h
            refine x_iald hx hb hK.1 hP e10 dX0_odds_102 ?_
            refine lv_iadd hx hb dX0_odds_103 ?_
            refine lv_topi (fun y12 ey12 => ?_)
            have h := nm_at ey12 h
            refine lv_istore (lv' := [(4, .int y12), (0, .ref x0), (1, .int x1), (2, .int x2), (3, .int x3), (5, .int x5), (6, .int x6), (7, .int x7)]) hx hb dX0_odds_104 hl (by decide) rfl (fun ls hl => ?_)
            refine lv_aload_n hx hb dX0_odds_106 rfl (lv_at hl 1 rfl) ?_
            obtain ⟨a14, e13, h⟩ := bn1_some h
            refine x_get (C := RX0) (T := TX0) (N := 16) (ci := 0) hx hb hts in_X0 hown hK.1 hP rfl 2 (by decide) (hts _ q231) (fun _ h9 => h9) (gR_some e13) dX0_odds_107 ?_
            refine lv_aload_n hx hb dX0_odds_110 rfl (lv_at hl 1 rfl) ?_
            obtain ⟨a16, e15, h⟩ := bn1_some h
            refine x_get (C := RX0) (T := TX0) (N := 16) (ci := 0) hx hb hts in_X0 hown hK.1 hP rfl 4 (by decide) (hts _ q233) (fun _ h9 => h9) (gR_some e15) dX0_odds_111 ?_
            obtain ⟨g19, h⟩ := chk_some h
            obtain ⟨fg19, g19⟩ := isC_some g19
            obtain ⟨S18, e17, h⟩ := bn1_some h
            refine gc_v (va_runV (As := [.ref a16]) (rest := []) ⟨hx, hb, hml, hown, hts⟩ (mX1_follows (l := l) (D := D) (cA := cA) (A := A) a14 a16 S e17) (cwV 1 hts (lw_V q984 q985 q986 q87 q987) rfl rfl rfl (by decide +kernel) ⟨Nat.le_of_ble_eq_true rfl, Nat.le_of_ble_eq_true rfl⟩) (gPreV xKst hK hA hS hP (x_recv (q := (RX1, TX1, 16)) hK.1 hP rfl g19)) rfl rfl hl.1 rfl (lv_room (Nat.le_of_ble_eq_true rfl)) dX0_odds_114 ⟨by first | omega | (dsimp only; omega), by first | omega | (dsimp only; omega)⟩) hS (fun H locs hP hS => ?_)
            obtain ⟨y20, ey20⟩ : ∃ y : Int32, y = x6 + (1 : Int32) := ⟨_, rfl⟩
            refine lv_iinc (v := y20) (lv' := [(6, .int y20), (4, .int y12), (0, .ref x0), (1, .int x1), (2, .int x2), (3, .int x3), (5, .int x5), (7, .int x7)]) hx hb dX0_odds_117 hl (k := 6) rfl (by rw [ey20]; rfl) (by decide) rfl (fun ls hl => ?_)
            have h := nm_at ey20 h
            refine lv_goto (tgt := 55) hx hb dX0_odds_120 (by decide) ?_
            exact ih55 x0 x1 x2 x3 y12 x5 y20 S18 _ _ _ hP hS (lv_sub hl [2, 3, 4, 5, 1, 6, 0] rfl) h
          · have h := ite_f c5 h
            refine lv_aload_n hx hb dX0_odds_82 rfl (lv_at hl 0 rfl) ?_
            obtain ⟨g23, h⟩ := chk_some h
            obtain ⟨fg23, g23⟩ := isC_some g23
            obtain ⟨S22, e21, h⟩ := bn1_some h
            refine gc_v (va_runV (As := []) (rest := []) ⟨hx, hb, hml, hown, hts⟩ (mX0_aRound (l := l) (D := D) (cA := cA) (A := A) x0 S e21) (cwV 0 hts (lw_V q881 q883 qs21 q86 q884) rfl rfl rfl (by decide +kernel) ⟨Nat.le_of_ble_eq_true rfl, Nat.le_of_ble_eq_true rfl⟩) (gPreV xKst hK hA hS hP (x_recv (q := (RX0, TX0, 16)) hK.1 hP rfl g23)) rfl rfl hl.1 rfl (lv_room (Nat.le_of_ble_eq_true rfl)) dX0_odds_83 ⟨by first | omega | (dsimp only; omega), by first | omega | (dsimp only; omega)⟩) hS (fun H locs hP hS => ?_)
            obtain ⟨y24, ey24⟩ : ∃ y : Int32, y = x7 + (1 : Int32) := ⟨_, rfl⟩
            refine lv_iinc (v := y24) (lv' := [(7, .int y24), (0, .ref x0), (1, .int x1), (2, .int x2), (3, .int x3), (4, .int x4), (5, .int x5), (6, .int x6)]) hx hb dX0_odds_86 hl (k := 7) rfl (by rw [ey24]; rfl) (by decide) rfl (fun ls hl => ?_)
            have h := nm_at ey24 h
            refine lv_goto (tgt := 76) hx hb dX0_odds_89 (by decide) ?_
            exact ih76 x0 x1 x2 x3 x4 x5 x6 y24 S22 _ _ _ hP hS (lv_sub hl [1, 2, 3, 4, 5, 6, 7, 0] rfl) h
      intro x0 x1 x2 x3 x4 x5 x6 S H locs ls hP hS hl h
      replace h : bX0_odds_55 (lX0_odds_55 n55) x0 x1 x2 x3 x4 x5 x6 S = some out := h
      unfold bX0_odds_55 at h
      refine lv_iload hx hb dX0_odds_55 (lv_at hl 6 rfl) ?_
      refine lv_bipush (v := (20 : Int32)) hx hb dX0_odds_57 (by decide) ?_
      refine lv_icmp_gt (tgt := 123) hx hb dX0_odds_59 (by decide) (fun c25 => ?_) (fun c25 => ?_)
      · have h := ite_t c25 h
        refine lv_iload hx hb dX0_odds_123 (lv_at hl 4 rfl) ?_
        refine lv_i2l hx hb dX0_odds_125 rfl ?_
        refine lv_iload hx hb dX0_odds_126 (lv_at hl 5 rfl) ?_
        refine lv_i2l hx hb dX0_odds_128 rfl ?_
        refine lv_iload_n hx hb dX0_odds_129 rfl (lv_at hl 3 rfl) ?_
        obtain ⟨v28, S27, e26, h⟩ := bnd_some h
        refine gcl (va_runS (As := [.long ((x4).toInt64), .long ((x5).toInt64), .int x3]) (rest := []) ⟨hx, hb, hml, hown, hts⟩ (mX0_part (l := l) (D := D) (cA := cA) (A := A) ((x4).toInt64) ((x5).toInt64) x3 S e26) (va_cwS 3 hts (lw_S q950 q951 q86 q952) rfl rfl rfl (by decide +kernel) ⟨Nat.le_of_ble_eq_true rfl, Nat.le_of_ble_eq_true rfl⟩) (gPreS xKst hK hA hS hP) rfl rfl hl.1 rfl (lv_room (Nat.le_of_ble_eq_true rfl)) dX0_odds_130 ⟨by first | omega | (dsimp only; omega), by first | omega | (dsimp only; omega)⟩) hS (fun H locs hP hS => ?_)
        refine lv_l2i hx hb dX0_odds_133 rfl ?_
        exact ret _ _ _ _ _ _ dX0_odds_134 rfl hP hS h
      · have h := ite_f c25 h
        refine lv_aload_n hx hb dX0_odds_62 rfl (lv_at hl 0 rfl) ?_
        obtain ⟨a30, e29, h⟩ := bn1_some h
        refine x_get (C := RX0) (T := TX0) (N := 16) (ci := 0) hx hb hts in_X0 hown hK.1 hP rfl 2 (by decide) (hts _ q231) (fun _ h9 => h9) (gR_some e29) dX0_odds_63 ?_
        obtain ⟨a32, e31, h⟩ := bn1_some h
        refine x_getN (C := RX1) (T := TX1) (N := 16) (ci := 1) hx hb hts in_X1 hown hK.1 hP rfl 11 (by decide) (hK.2.1 _ q168 rfl) (fun _ h9 => h9) (gR_some e31) dX0_odds_66 ?_
        refine lv_iload_n hx hb dX0_odds_69 rfl (lv_at hl 1 rfl) ?_
        refine lv_iload hx hb dX0_odds_70 (lv_at hl 6 rfl) ?_
        obtain ⟨S34, e33, h⟩ := bn1_some h
        refine x_iast hx hb hK.1 hP hS e33 dX0_odds_72 (fun H locs hP hS => ?_)
        refine lv_iconst (v := (0 : Int32)) hx hb dX0_odds_73 (by decide) ?_
        refine lv_istore (lv' := [(7, .int (0 : Int32)), (0, .ref x0), (1, .int x1), (2, .int x2), (3, .int x3), (4, .int x4), (5, .int x5), (6, .int x6)]) hx hb dX0_odds_74 hl (by decide) rfl (fun ls hl => ?_)
        exact L76 FU x0 x1 x2 x3 x4 x5 x6 (0 : Int32) S34 _ _ _ hP hS (lv_sub hl [1, 2, 3, 4, 5, 6, 7, 0] rfl) h
  unfold fX0_odds at h
  refine lv_aload_n hx hb dX0_odds_0 rfl (lv_at hl 0 rfl) ?_
  refine lv_iload_n hx hb dX0_odds_1 rfl (lv_at hl 1 rfl) ?_
  obtain ⟨g37, h⟩ := chk_some h
  obtain ⟨fg37, g37⟩ := isC_some g37
  obtain ⟨v38, S36, e35, h⟩ := bnd_some h
  refine gci (va_runV (As := [.int x1]) (rest := []) ⟨hx, hb, hml, hown, hts⟩ (mX0_isMark (l := l) (D := D) (cA := cA) (A := A) x0 x1 S e35) (cwV 1 hts (lw_V q380 q382 qs2 q86 q383) rfl rfl rfl (by decide +kernel) ⟨Nat.le_of_ble_eq_true rfl, Nat.le_of_ble_eq_true rfl⟩) (gPreV xKst hK hA hS hP (x_recv (q := (RX0, TX0, 16)) hK.1 hP rfl g37)) rfl rfl hl.1 rfl (lv_room (Nat.le_of_ble_eq_true rfl)) dX0_odds_2 ⟨by first | omega | (dsimp only; omega), by first | omega | (dsimp only; omega)⟩) hS (fun H locs hP hS => ?_)
  refine lv_if_eq (tgt := 27) hx hb dX0_odds_5 (by decide) (fun c39 => ?_) (fun c39 => ?_)
  · have h := ite_t c39 h
    exact B27 x0 S36 _ _ _ hP hS (lv_sub hl [0] rfl) h
  · have h := ite_f c39 h
    refine lv_iload_n hx hb dX0_odds_8 rfl (lv_at hl 2 rfl) ?_
    refine lv_iconst (v := (0 : Int32)) hx hb dX0_odds_9 (by decide) ?_
    refine lv_bipush (v := (40 : Int32)) hx hb dX0_odds_10 (by decide) ?_
    obtain ⟨v42, S41, e40, h⟩ := bnd_some h
    refine gci (va_runS (As := [.int x2, .int (0 : Int32), .int (40 : Int32)]) (rest := []) ⟨hx, hb, hml, hown, hts⟩ (mX0_isIn (l := l) (D := D) (cA := cA) (A := A) x2 (0 : Int32) (40 : Int32) S36 e40) (va_cwS 3 hts (lw_S q283 q284 q86 q285) rfl rfl rfl (by decide +kernel) ⟨Nat.le_of_ble_eq_true rfl, Nat.le_of_ble_eq_true rfl⟩) (gPreS xKst hK hA hS hP) rfl rfl hl.1 rfl (lv_room (Nat.le_of_ble_eq_true rfl)) dX0_odds_12 ⟨by first | omega | (dsimp only; omega), by first | omega | (dsimp only; omega)⟩) hS (fun H locs hP hS => ?_)
    refine lv_if_eq (tgt := 27) hx hb dX0_odds_15 (by decide) (fun c43 => ?_) (fun c43 => ?_)
    · have h := ite_t c43 h
      exact B27 x0 S41 _ _ _ hP hS (lv_sub hl [0] rfl) h
    · have h := ite_f c43 h
      refine lv_iload_n hx hb dX0_odds_18 rfl (lv_at hl 3 rfl) ?_
      refine lv_iconst (v := (0 : Int32)) hx hb dX0_odds_19 (by decide) ?_
      refine lv_iconst (v := (1 : Int32)) hx hb dX0_odds_20 (by decide) ?_
      obtain ⟨v46, S45, e44, h⟩ := bnd_some h
      refine gci (va_runS (As := [.int x3, .int (0 : Int32), .int (1 : Int32)]) (rest := []) ⟨hx, hb, hml, hown, hts⟩ (mX0_isIn (l := l) (D := D) (cA := cA) (A := A) x3 (0 : Int32) (1 : Int32) S41 e44) (va_cwS 3 hts (lw_S q283 q284 q86 q285) rfl rfl rfl (by decide +kernel) ⟨Nat.le_of_ble_eq_true rfl, Nat.le_of_ble_eq_true rfl⟩) (gPreS xKst hK hA hS hP) rfl rfl hl.1 rfl (lv_room (Nat.le_of_ble_eq_true rfl)) dX0_odds_21 ⟨by first | omega | (dsimp only; omega), by first | omega | (dsimp only; omega)⟩) hS (fun H locs hP hS => ?_)
      refine lv_if_ne (tgt := 33) hx hb dX0_odds_24 (by decide) (fun c47 => ?_) (fun c47 => ?_)
      · have h := ite_f c47 h
        refine lv_iconst (v := (0 : Int32)) hx hb dX0_odds_33 (by decide) ?_
        refine lv_istore (lv' := [(4, .int (0 : Int32)), (0, .ref x0), (1, .int x1), (2, .int x2), (3, .int x3)]) hx hb dX0_odds_34 hl (by decide) rfl (fun ls hl => ?_)
        refine lv_bipush (v := (41 : Int32)) hx hb dX0_odds_36 (by decide) ?_
        refine lv_istore (lv' := [(5, .int (41 : Int32)), (4, .int (0 : Int32)), (0, .ref x0), (1, .int x1), (2, .int x2), (3, .int x3)]) hx hb dX0_odds_38 hl (by decide) rfl (fun ls hl => ?_)
        refine lv_aload_n hx hb dX0_odds_40 rfl (lv_at hl 2 rfl) ?_
        obtain ⟨a49, e48, h⟩ := bn1_some h
        refine x_get (C := RX0) (T := TX0) (N := 16) (ci := 0) hx hb hts in_X0 hown hK.1 hP rfl 4 (by decide) (hts _ q233) (fun _ h9 => h9) (gR_some e48) dX0_odds_41 ?_
        refine lv_aload_n hx hb dX0_odds_44 rfl (lv_at hl 2 rfl) ?_
        obtain ⟨a51, e50, h⟩ := bn1_some h
        refine x_get (C := RX0) (T := TX0) (N := 16) (ci := 0) hx hb hts in_X0 hown hK.1 hP rfl 2 (by decide) (hts _ q231) (fun _ h9 => h9) (gR_some e50) dX0_odds_45 ?_
        obtain ⟨g54, h⟩ := chk_some h
        obtain ⟨fg54, g54⟩ := isC_some g54
        obtain ⟨S53, e52, h⟩ := bn1_some h
        refine gc_v (va_runV (As := [.ref a51]) (rest := []) ⟨hx, hb, hml, hown, hts⟩ (mX1_follows (l := l) (D := D) (cA := cA) (A := A) a49 a51 S45 e52) (cwV 1 hts (lw_V q984 q985 q986 q87 q987) rfl rfl rfl (by decide +kernel) ⟨Nat.le_of_ble_eq_true rfl, Nat.le_of_ble_eq_true rfl⟩) (gPreV xKst hK hA hS hP (x_recv (q := (RX1, TX1, 16)) hK.1 hP rfl g54)) rfl rfl hl.1 rfl (lv_room (Nat.le_of_ble_eq_true rfl)) dX0_odds_48 ⟨by first | omega | (dsimp only; omega), by first | omega | (dsimp only; omega)⟩) hS (fun H locs hP hS => ?_)
        refine lv_bipush (v := (-20 : Int32)) hx hb dX0_odds_51 (by decide) ?_
        refine lv_istore (lv' := [(6, .int (-20 : Int32)), (5, .int (41 : Int32)), (4, .int (0 : Int32)), (0, .ref x0), (1, .int x1), (2, .int x2), (3, .int x3)]) hx hb dX0_odds_53 hl (by decide) rfl (fun ls hl => ?_)
        exact L55 FU x0 x1 x2 x3 (0 : Int32) (41 : Int32) (-20 : Int32) S53 _ _ _ hP hS (lv_sub hl [3, 4, 5, 6, 2, 1, 0] rfl) h
      · have h := ite_t c47 h
        exact B27 x0 S45 _ _ _ hP hS (lv_sub hl [0] rfl) h

def bX0_on_17 (x0 : Nat) (S : XS) : Option (Int32 × XS) :=
chk (isC S x0 0) (bnd (fX0_finds x0 (1 : Int32) S) fun v4 S2 =>
some (v4, S2))
def fX0_on (x0 : Nat) (x1 : Int32) (x2 : Int32) (S : XS) : Option (Int32 × XS) :=
chk (isC S x0 0) (bnd (fX0_isMark x0 x1 S) fun v8 S6 =>
(if v8 = 0 then
bX0_on_17 x0 S6
else
bnd (fX0_isIn x2 (0 : Int32) (1 : Int32) S6) fun v12 S11 =>
(if v12 = 0 then
bX0_on_17 x0 S11
else
bn1 (gR S11 x0 0 2) fun a15 =>
bn1 (gR S11 a15 1 12) fun a17 =>
bn1 (aI S11 a17 0 x1) fun v19 =>
bn1 (gR S11 x0 0 2) fun a21 =>
bn1 (gR S11 a21 1 12) fun a23 =>
bn1 (sI S11 a23 0 x1 x2) fun S25 =>
some (v19, S25))))
set_option maxHeartbeats 4000000 in
set_option maxRecDepth 100000 in
theorem mX0_on {l : Launch} {D : va_G} {cA : Nat → ClassId} {A : Nat → Prop} (x0 : Nat) (x1 : Int32) (x2 : Int32) (S : XS) {out : (Int32 × XS)} (h : fX0_on x0 x1 x2 S = some out) : Met l yX0_on (ws_ yX0_on cX0_on 4 (some .int)) ({ frames := 2, cells := 0, slots := 0, locals := 43 } : Room) (gPc (xK D cA A) (xP D cA A) A [.ref x0, .int x1, .int x2] S) (gQi (xK D cA A) (xP D cA A) A out) 0 0 A := by
  refine gMet_z (by decide) (Nat.le_of_ble_eq_true rfl) ?_ xKst
  intro p e s m below meth c Q ls args H locs hC hP hS hl ret
  obtain ⟨hx, hb, hml, hown, hts, hA, hK⟩ := hC
  have hown : s.vm.findClass RX0 = some m.cls := hown
  have hl : lv_has ls 4 [(0, .ref x0), (1, .int x1), (2, .int x2)] := hl
  have B17 : ∀ (x0 : Nat) (S : XS) (H : Heap) (locs : List Loc) (ls : Array Slot), xP D cA A S H → va_S A s.heap H locs → lv_has ls 4 [(0, .ref x0)] → bX0_on_17  x0 S = some out → W p l e ({ frames := 2, cells := 0, slots := 0, locals := 43 } : Room) s m args below meth c H locs 0 0 Q (F0 m 17 ls []) := by
    intro x0 S H locs ls hP hS hl h
    unfold bX0_on_17 at h
    refine lv_aload_n hx hb dX0_on_17 rfl (lv_at hl 0 rfl) ?_
    refine lv_iconst (v := (1 : Int32)) hx hb dX0_on_18 (by decide) ?_
    obtain ⟨g3, h⟩ := chk_some h
    obtain ⟨fg3, g3⟩ := isC_some g3
    obtain ⟨v4, S2, e1, h⟩ := bnd_some h
    refine gci (va_runV (As := [.int (1 : Int32)]) (rest := []) ⟨hx, hb, hml, hown, hts⟩ (mX0_finds (l := l) (D := D) (cA := cA) (A := A) x0 (1 : Int32) S e1) (cwV 1 hts (lw_V q290 q292 qs1 q86 q293) rfl rfl rfl (by decide +kernel) ⟨Nat.le_of_ble_eq_true rfl, Nat.le_of_ble_eq_true rfl⟩) (gPreV xKst hK hA hS hP (x_recv (q := (RX0, TX0, 16)) hK.1 hP rfl g3)) rfl rfl hl.1 rfl (lv_room (Nat.le_of_ble_eq_true rfl)) dX0_on_19 ⟨by first | omega | (dsimp only; omega), by first | omega | (dsimp only; omega)⟩) hS (fun H locs hP hS => ?_)
    exact ret _ _ _ _ _ _ dX0_on_22 rfl hP hS h
  unfold fX0_on at h
  refine lv_aload_n hx hb dX0_on_0 rfl (lv_at hl 0 rfl) ?_
  refine lv_iload_n hx hb dX0_on_1 rfl (lv_at hl 1 rfl) ?_
  obtain ⟨g7, h⟩ := chk_some h
  obtain ⟨fg7, g7⟩ := isC_some g7
  obtain ⟨v8, S6, e5, h⟩ := bnd_some h
  refine gci (va_runV (As := [.int x1]) (rest := []) ⟨hx, hb, hml, hown, hts⟩ (mX0_isMark (l := l) (D := D) (cA := cA) (A := A) x0 x1 S e5) (cwV 1 hts (lw_V q380 q382 qs2 q86 q383) rfl rfl rfl (by decide +kernel) ⟨Nat.le_of_ble_eq_true rfl, Nat.le_of_ble_eq_true rfl⟩) (gPreV xKst hK hA hS hP (x_recv (q := (RX0, TX0, 16)) hK.1 hP rfl g7)) rfl rfl hl.1 rfl (lv_room (Nat.le_of_ble_eq_true rfl)) dX0_on_2 ⟨by first | omega | (dsimp only; omega), by first | omega | (dsimp only; omega)⟩) hS (fun H locs hP hS => ?_)
  refine lv_if_eq (tgt := 17) hx hb dX0_on_5 (by decide) (fun c9 => ?_) (fun c9 => ?_)
  · have h := ite_t c9 h
    exact B17 x0 S6 _ _ _ hP hS (lv_sub hl [0] rfl) h
  · have h := ite_f c9 h
    refine lv_iload_n hx hb dX0_on_8 rfl (lv_at hl 2 rfl) ?_
    refine lv_iconst (v := (0 : Int32)) hx hb dX0_on_9 (by decide) ?_
    refine lv_iconst (v := (1 : Int32)) hx hb dX0_on_10 (by decide) ?_
    obtain ⟨v12, S11, e10, h⟩ := bnd_some h
    refine gci (va_runS (As := [.int x2, .int (0 : Int32), .int (1 : Int32)]) (rest := []) ⟨hx, hb, hml, hown, hts⟩ (mX0_isIn (l := l) (D := D) (cA := cA) (A := A) x2 (0 : Int32) (1 : Int32) S6 e10) (va_cwS 3 hts (lw_S q283 q284 q86 q285) rfl rfl rfl (by decide +kernel) ⟨Nat.le_of_ble_eq_true rfl, Nat.le_of_ble_eq_true rfl⟩) (gPreS xKst hK hA hS hP) rfl rfl hl.1 rfl (lv_room (Nat.le_of_ble_eq_true rfl)) dX0_on_11 ⟨by first | omega | (dsimp only; omega), by first | omega | (dsimp only; omega)⟩) hS (fun H locs hP hS => ?_)
    refine lv_if_ne (tgt := 23) hx hb dX0_on_14 (by decide) (fun c13 => ?_) (fun c13 => ?_)
    · have h := ite_f c13 h
      refine lv_aload_n hx hb dX0_on_23 rfl (lv_at hl 0 rfl) ?_
      obtain ⟨a15, e14, h⟩ := bn1_some h
      refine x_get (C := RX0) (T := TX0) (N := 16) (ci := 0) hx hb hts in_X0 hown hK.1 hP rfl 2 (by decide) (hts _ q231) (fun _ h9 => h9) (gR_some e14) dX0_on_24 ?_
      obtain ⟨a17, e16, h⟩ := bn1_some h
      refine x_getN (C := RX1) (T := TX1) (N := 16) (ci := 1) hx hb hts in_X1 hown hK.1 hP rfl 12 (by decide) (hK.2.1 _ q170 rfl) (fun _ h9 => h9) (gR_some e16) dX0_on_27 ?_
      refine lv_iload_n hx hb dX0_on_30 rfl (lv_at hl 1 rfl) ?_
      obtain ⟨v19, e18, h⟩ := bn1_some h
      refine x_iald hx hb hK.1 hP e18 dX0_on_31 ?_
      refine lv_istore_n (lv' := [(3, .int v19), (0, .ref x0), (1, .int x1), (2, .int x2)]) hx hb dX0_on_32 rfl hl (by decide) rfl (fun ls hl => ?_)
      refine lv_aload_n hx hb dX0_on_33 rfl (lv_at hl 1 rfl) ?_
      obtain ⟨a21, e20, h⟩ := bn1_some h
      refine x_get (C := RX0) (T := TX0) (N := 16) (ci := 0) hx hb hts in_X0 hown hK.1 hP rfl 2 (by decide) (hts _ q231) (fun _ h9 => h9) (gR_some e20) dX0_on_34 ?_
      obtain ⟨a23, e22, h⟩ := bn1_some h
      refine x_getN (C := RX1) (T := TX1) (N := 16) (ci := 1) hx hb hts in_X1 hown hK.1 hP rfl 12 (by decide) (hK.2.1 _ q170 rfl) (fun _ h9 => h9) (gR_some e22) dX0_on_37 ?_
      refine lv_iload_n hx hb dX0_on_40 rfl (lv_at hl 2 rfl) ?_
      refine lv_iload_n hx hb dX0_on_41 rfl (lv_at hl 3 rfl) ?_
      obtain ⟨S25, e24, h⟩ := bn1_some h
      refine x_iast hx hb hK.1 hP hS e24 dX0_on_42 (fun H locs hP hS => ?_)
      refine lv_iload_n hx hb dX0_on_43 rfl (lv_at hl 0 rfl) ?_
      exact ret _ _ _ _ _ _ dX0_on_44 rfl hP hS h
    · have h := ite_t c13 h
      exact B17 x0 S11 _ _ _ hP hS (lv_sub hl [0] rfl) h
