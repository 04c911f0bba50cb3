def fX4_plainWeighs (x1 : Int32) (x2 : Int32) (S : MS) : Option (Int32 × MS) :=
bn1 (fX4_begins (10 : Int32) S) fun S2 =>
some ((x2 + x1), S2)
set_option maxHeartbeats 4000000 in
set_option maxRecDepth 100000 in
theorem mX4_plainWeighs {l : Launch} {D : va_G} {cA : Nat → ClassId} {o : Nat → Nat} {A : Nat → Prop} (x1 : Int32) (x2 : Int32) (S : MS) {out : (Int32 × MS)} (h : fX4_plainWeighs x1 x2 S = some out) : Met l yX4_plainWeighs (ws_ yX4_plainWeighs cX4_plainWeighs 3 (some .int)) ({ frames := 1, cells := 0, slots := 0, locals := 21 } : Room) (gPc (mK D cA) (mP D cA o A) A [.ref (o 24), .int x1, .int x2] S) (gQi (mK D cA) (mP D cA o A) A out) 0 0 A := by
  refine gMet_z (by decide) (Nat.le_of_ble_eq_true rfl) ?_ mKst
  intro p e s m below meth c Q ls args H locs hC hP hS hl ret
  obtain ⟨hx, hb, hml, hown, hts, hA, hK⟩ := hC
  have hown : s.vm.findClass RX4 = some m.cls := hown
  have hl : lv_has ls 3 [(0, .ref (o 24)), (1, .int x1), (2, .int x2)] := hl
  unfold fX4_plainWeighs at h
  refine lv_aload_n hx hb dX4_plainWeighs_0 rfl (lv_at hl 0 rfl) ?_
  refine lv_bipush (v := (10 : Int32)) hx hb dX4_plainWeighs_1 (by decide) ?_
  obtain ⟨S2, e1, h⟩ := bn1_some h
  refine gc0_v (va_runV (As := [.int (10 : Int32)]) (rest := []) ⟨hx, hb, hml, hown, hts⟩ (mX4_begins (l := l) (D := D) (cA := cA) (o := o) (A := A) (10 : Int32) S e1) (cwV 1 hts (lw_V q1655 q1657 qs74 q90 q1658) rfl rfl rfl (by decide +kernel) ⟨Nat.le_of_ble_eq_true rfl, Nat.le_of_ble_eq_true rfl⟩) (gPreV mKst hK hA hS hP (mRecv hK hP)) rfl rfl hl.1 rfl (lv_room (Nat.le_of_ble_eq_true rfl)) dX4_plainWeighs_3 ⟨Nat.zero_le _, Nat.zero_le _⟩) hS (fun H locs hP hS => ?_)
  refine lv_iload_n hx hb dX4_plainWeighs_6 rfl (lv_at hl 2 rfl) ?_
  refine lv_iload_n hx hb dX4_plainWeighs_7 rfl (lv_at hl 1 rfl) ?_
  refine lv_iadd hx hb dX4_plainWeighs_8 ?_
  exact ret _ _ _ _ _ _ dX4_plainWeighs_9 rfl hP hS h

def fX4_flatWeighs (x1 : Int32) (x2 : Int32) (S : MS) : Option (Int32 × MS) :=
bn1 (fX4_begins (20 : Int32) S) fun S2 =>
bnd (fX4_plainWeighs x1 x2 S2) fun v5 S4 =>
some ((v5 - (4 : Int32)), S4)
set_option maxHeartbeats 4000000 in
set_option maxRecDepth 100000 in
theorem mX4_flatWeighs {l : Launch} {D : va_G} {cA : Nat → ClassId} {o : Nat → Nat} {A : Nat → Prop} (x1 : Int32) (x2 : Int32) (S : MS) {out : (Int32 × MS)} (h : fX4_flatWeighs x1 x2 S = some out) : Met l yX4_flatWeighs (ws_ yX4_flatWeighs cX4_flatWeighs 3 (some .int)) ({ frames := 2, cells := 0, slots := 0, locals := 43 } : Room) (gPc (mK D cA) (mP D cA o A) A [.ref (o 24), .int x1, .int x2] S) (gQi (mK D cA) (mP D cA o A) A out) 0 0 A := by
  refine gMet_z (by decide) (Nat.le_of_ble_eq_true rfl) ?_ mKst
  intro p e s m below meth c Q ls args H locs hC hP hS hl ret
  obtain ⟨hx, hb, hml, hown, hts, hA, hK⟩ := hC
  have hown : s.vm.findClass RX4 = some m.cls := hown
  have hl : lv_has ls 3 [(0, .ref (o 24)), (1, .int x1), (2, .int x2)] := hl
  unfold fX4_flatWeighs at h
  refine lv_aload_n hx hb dX4_flatWeighs_0 rfl (lv_at hl 0 rfl) ?_
  refine lv_bipush (v := (20 : Int32)) hx hb dX4_flatWeighs_1 (by decide) ?_
  obtain ⟨S2, e1, h⟩ := bn1_some h
  refine gc0_v (va_runV (As := [.int (20 : Int32)]) (rest := []) ⟨hx, hb, hml, hown, hts⟩ (mX4_begins (l := l) (D := D) (cA := cA) (o := o) (A := A) (20 : Int32) S e1) (cwV 1 hts (lw_V q1655 q1657 qs74 q90 q1658) rfl rfl rfl (by decide +kernel) ⟨Nat.le_of_ble_eq_true rfl, Nat.le_of_ble_eq_true rfl⟩) (gPreV mKst hK hA hS hP (mRecv hK hP)) rfl rfl hl.1 rfl (lv_room (Nat.le_of_ble_eq_true rfl)) dX4_flatWeighs_3 ⟨Nat.zero_le _, Nat.zero_le _⟩) hS (fun H locs hP hS => ?_)
  refine lv_aload_n hx hb dX4_flatWeighs_6 rfl (lv_at hl 0 rfl) ?_
  refine lv_iload_n hx hb dX4_flatWeighs_7 rfl (lv_at hl 1 rfl) ?_
  refine lv_iload_n hx hb dX4_flatWeighs_8 rfl (lv_at hl 2 rfl) ?_
  obtain ⟨v5, S4, e3, h⟩ := bnd_some h
  refine gc0_i (va_runV (As := [.int x1, .int x2]) (rest := []) ⟨hx, hb, hml, hown, hts⟩ (mX4_plainWeighs (l := l) (D := D) (cA := cA) (o := o) (A := A) x1 x2 S2 e3) (cwV 2 hts (lw_V q1659 q1661 qs75 q90 q1662) rfl rfl rfl (by decide +kernel) ⟨Nat.le_of_ble_eq_true rfl, Nat.le_of_ble_eq_true rfl⟩) (gPreV mKst hK hA hS hP (mRecv hK hP)) rfl rfl hl.1 rfl (lv_room (Nat.le_of_ble_eq_true rfl)) dX4_flatWeighs_9 ⟨Nat.zero_le _, Nat.zero_le _⟩) hS (fun H locs hP hS => ?_)
  refine lv_iconst (v := (4 : Int32)) hx hb dX4_flatWeighs_12 (by decide) ?_
  refine lv_isub hx hb dX4_flatWeighs_13 ?_
  exact ret _ _ _ _ _ _ dX4_flatWeighs_14 rfl hP hS h

def bX4_goesFor_2 (k2 : Int32 → Int32 → MS → Option MS) (x1 : Int32) (x2 : Int32) (S : MS) : Option MS :=
(if x1 ≤ x2 then
some S
else
bn1 (fX4_goes  S) fun S3 =>
nm (x2 + (1 : Int32)) fun y4 =>
k2 x1 y4 S3)
def lX4_goesFor_2 : Nat → (Int32 → Int32 → MS → Option MS)
  | 0 => fun _ _ _ => none
  | n + 1 => bX4_goesFor_2 (lX4_goesFor_2 n)
def fX4_goesFor (x1 : Int32) (S : MS) : Option MS :=
lX4_goesFor_2 FU x1 (0 : Int32) S
set_option maxHeartbeats 4000000 in
set_option maxRecDepth 100000 in
theorem mX4_goesFor {l : Launch} {D : va_G} {cA : Nat → ClassId} {o : Nat → Nat} {A : Nat → Prop} (x1 : Int32) (S : MS) {out : MS} (h : fX4_goesFor x1 S = some out) : Met l yX4_goesFor (ws_ yX4_goesFor cX4_goesFor 3 none) ({ frames := 11, cells := 0, slots := 0, locals := 321 } : Room) (gPc (mK D cA) (mP D cA o A) A [.ref (o 24), .int x1] S) (gQv (mK D cA) (mP D cA o A) A out) 0 0 A := by
  refine gMet_v (by decide) (Nat.le_of_ble_eq_true rfl) ?_ mKst
  intro p e s m below meth c Q ls args H locs hC hP hS hl _ ret
  obtain ⟨hx, hb, hml, hown, hts, hA, hK⟩ := hC
  have hown : s.vm.findClass RX4 = some m.cls := hown
  have hl : lv_has ls 3 [(0, .ref (o 24)), (1, .int x1)] := hl
  have L2 : ∀ (n2 : Nat) (x1 : Int32) (x2 : Int32) (S : MS) (H : Heap) (locs : List Loc) (ls : Array Slot), mP D cA o A S H → va_S A s.heap H locs → lv_has ls 3 [(0, .ref (o 24)), (1, .int x1), (2, .int x2)] → lX4_goesFor_2 n2 x1 x2 S = some out → W p l e ({ frames := 11, cells := 0, slots := 0, locals := 321 } : Room) s m args below meth c H locs 0 0 Q (F0 m 2 ls []) := by
    intro n2
    induction n2 with
    | zero =>
      intro x1 x2 S H locs ls hP hS hl h
      cases h
    | succ n2 ih2 =>
      intro x1 x2 S H locs ls hP hS hl h
      replace h : bX4_goesFor_2 (lX4_goesFor_2 n2) x1 x2 S = some out := h
      unfold bX4_goesFor_2 at h
      refine lv_iload_n hx hb dX4_goesFor_2 rfl (lv_at hl 2 rfl) ?_
      refine lv_iload_n hx hb dX4_goesFor_3 rfl (lv_at hl 1 rfl) ?_
      refine lv_icmp_ge (tgt := 17) hx hb dX4_goesFor_4 (by decide) (fun c1 => ?_) (fun c1 => ?_)
      · have h := ite_t c1 h
        exact ret _ _ _ _ _ dX4_goesFor_17 hP hS h
      · have h := ite_f c1 h
        refine lv_aload_n hx hb dX4_goesFor_7 rfl (lv_at hl 0 rfl) ?_
        obtain ⟨S3, e2, h⟩ := bn1_some h
        refine gc0_v (va_runV (As := []) (rest := []) ⟨hx, hb, hml, hown, hts⟩ (mX4_goes (l := l) (D := D) (cA := cA) (o := o) (A := A)  S e2) (cwV 0 hts (lw_V q1492 q1494 qs54 q90 q1495) rfl rfl rfl (by decide +kernel) ⟨Nat.le_of_ble_eq_true rfl, Nat.le_of_ble_eq_true rfl⟩) (gPreV mKst hK hA hS hP (mRecv hK hP)) rfl rfl hl.1 rfl (lv_room (Nat.le_of_ble_eq_true rfl)) dX4_goesFor_8 ⟨Nat.zero_le _, Nat.zero_le _⟩) hS (fun H locs hP hS => ?_)
        obtain ⟨y4, ey4⟩ : ∃ y : Int32, y = x2 + (1 : Int32) := ⟨_, rfl⟩
        refine lv_iinc (v := y4) (lv' := [(2, .int y4), (0, .ref (o 24)), (1, .int x1)]) hx hb dX4_goesFor_11 hl (k := 2) rfl (by rw [ey4]; rfl) (by decide) rfl (fun ls hl => ?_)
        have h := nm_at ey4 h
        refine lv_goto (tgt := 2) hx hb dX4_goesFor_14 (by decide) ?_
        exact ih2 x1 y4 S3 _ _ _ hP hS (lv_sub hl [1, 2, 0] rfl) h
  unfold fX4_goesFor at h
  refine lv_iconst (v := (0 : Int32)) hx hb dX4_goesFor_0 (by decide) ?_
  refine lv_istore_n (lv' := [(2, .int (0 : Int32)), (0, .ref (o 24)), (1, .int x1)]) hx hb dX4_goesFor_1 rfl hl (by decide) rfl (fun ls hl => ?_)
  exact L2 FU x1 (0 : Int32) S _ _ _ hP hS (lv_sub hl [1, 2, 0] rfl) h

def fX4_image (S : MS) : Option (Int32 × MS) :=
bn1 (fX4_copyAll_0_1  S) fun S2 =>
nm ((mIF S2 3) + (1 : Int32)) fun y3 =>
some ((mIF (sIF S2 3 y3) 3), (sIF S2 3 y3))
set_option maxHeartbeats 4000000 in
set_option maxRecDepth 100000 in
theorem mX4_image {l : Launch} {D : va_G} {cA : Nat → ClassId} {o : Nat → Nat} {A : Nat → Prop} (S : MS) {out : (Int32 × MS)} (h : fX4_image  S = some out) : Met l yX4_image (ws_ yX4_image cX4_image 1 (some .int)) ({ frames := 1, cells := 0, slots := 0, locals := 22 } : Room) (gPc (mK D cA) (mP D cA o A) A [.ref (o 24)] S) (gQi (mK D cA) (mP D cA o A) A out) 0 0 A := by
  refine gMet_z (by decide) (Nat.le_of_ble_eq_true rfl) ?_ mKst
  intro p e s m below meth c Q ls args H locs hC hP hS hl ret
  obtain ⟨hx, hb, hml, hown, hts, hA, hK⟩ := hC
  have hown : s.vm.findClass RX4 = some m.cls := hown
  have hl : lv_has ls 1 [(0, .ref (o 24))] := hl
  unfold fX4_image at h
  refine lv_aload_n hx hb dX4_image_0 rfl (lv_at hl 0 rfl) ?_
  refine va_get (D := D) (ci := 4) (v := .ref (o 0)) (C := RX4) (T := TX4) (N := 24) hx hb hts in_X4 hown hK hP.1 0 rfl rfl 0 (by decide) (hts _ q1249) (fun _ h9 => h9) rfl dX4_image_1 ?_
  refine lv_aload_n hx hb dX4_image_4 rfl (lv_at hl 0 rfl) ?_
  refine va_get (D := D) (ci := 4) (v := .ref (o 1)) (C := RX4) (T := TX4) (N := 24) hx hb hts in_X4 hown hK hP.1 0 rfl rfl 1 (by decide) (hts _ q1250) (fun _ h9 => h9) rfl dX4_image_5 ?_
  obtain ⟨S2, e1, h⟩ := bn1_some h
  refine gc0_v (va_runS (As := [.ref (o 0), .ref (o 1)]) (rest := []) ⟨hx, hb, hml, hown, hts⟩ (mX4_copyAll_0_1 (l := l) (D := D) (cA := cA) (o := o) (A := A)  S e1) (va_cwS 2 hts (lw_S q1602 q1603 q90 q1604) rfl rfl rfl (by decide +kernel) ⟨Nat.le_of_ble_eq_true rfl, Nat.le_of_ble_eq_true rfl⟩) (gPreS mKst hK hA hS hP) rfl rfl hl.1 rfl (lv_room (Nat.le_of_ble_eq_true rfl)) dX4_image_8 ⟨Nat.zero_le _, Nat.zero_le _⟩) hS (fun H locs hP hS => ?_)
  refine lv_aload_n hx hb dX4_image_11 rfl (lv_at hl 0 rfl) ?_
  refine lv_dup hx hb dX4_image_12 rfl ?_
  refine va_get (D := D) (ci := 4) (v := .int (mIF S2 3)) (C := RX4) (T := TX4) (N := 24) hx hb hts in_X4 hown hK hP.1 0 rfl rfl 3 (by decide) (hts _ q1252) (fun _ h9 => h9) rfl dX4_image_13 ?_
  refine lv_iconst (v := (1 : Int32)) hx hb dX4_image_16 (by decide) ?_
  refine lv_iadd hx hb dX4_image_17 ?_
  refine lv_topi (fun y3 ey3 => ?_)
  have h := nm_at ey3 h
  refine va_put (D := D) (ci := 4) (v := .int y3) (ty := .int) (C := RX4) (T := TX4) (N := 24) hx hb hts in_X4 tyX4 tyX4_ok nmX4 hown hK hP.1 hP.2 hS 0 rfl rfl 3 (by decide) (hts _ q1252) (fun _ h9 => h9) rfl (by decide +kernel) rfl rfl (Nat.le_of_ble_eq_true rfl) dX4_image_18 (fun H locs hP1 hD1 hS => ?_)
  have hP : mP D cA o A (sIF S2 3 y3) H := ⟨hP1, hD1⟩
  refine lv_aload_n hx hb dX4_image_21 rfl (lv_at hl 0 rfl) ?_
  refine va_get (D := D) (ci := 4) (v := .int (mIF (sIF S2 3 y3) 3)) (C := RX4) (T := TX4) (N := 24) hx hb hts in_X4 hown hK hP.1 0 rfl rfl 3 (by decide) (hts _ q1252) (fun _ h9 => h9) rfl dX4_image_22 ?_
  exact ret _ _ _ _ _ _ dX4_image_25 rfl hP hS h

def bX4_inTerms_58 (t0 : Int64) (S : MS) : Option (Int64 × MS) :=
some (t0, S)
def bX4_inTerms_17 (k17 : Int64 → Int64 → Int32 → Int64 → Int64 → MS → Option (Int64 × MS)) (x0 : Int64) (x2 : Int64) (x4 : Int32) (x5 : Int64) (x7 : Int64) (S : MS) : Option (Int64 × MS) :=
(if (lg_cmp x7 (0 : Int64)) = 0 then
(if x4 = 0 then
chk (ne0L x5) (bX4_inTerms_58 (x0 / x5) S)
else
chk (ne0L x5) (bX4_inTerms_58 (x2 / x5) S))
else
chk (ne0L x7) (nm (x5 - x5 / x7 * x7) fun y6 =>
k17 x0 x2 x4 x7 y6 S))
def lX4_inTerms_17 : Nat → (Int64 → Int64 → Int32 → Int64 → Int64 → MS → Option (Int64 × MS))
  | 0 => fun _ _ _ _ _ _ => none
  | n + 1 => bX4_inTerms_17 (lX4_inTerms_17 n)
def bX4_inTerms_12 (x0 : Int64) (x2 : Int64) (x4 : Int32) (t0 : Int64) (S : MS) : Option (Int64 × MS) :=
lX4_inTerms_17 FU x0 x2 x4 t0 x2 S
def fX4_inTerms (x0 : Int64) (x2 : Int64) (x4 : Int32) (S : MS) : Option (Int64 × MS) :=
(if 0 ≤ (lg_cmp x0 (0 : Int64)) then
bX4_inTerms_12 x0 x2 x4 x0 S
else
bX4_inTerms_12 x0 x2 x4 (-x0) S)
set_option maxHeartbeats 4000000 in
set_option maxRecDepth 100000 in
theorem mX4_inTerms {l : Launch} {D : va_G} {cA : Nat → ClassId} {o : Nat → Nat} {A : Nat → Prop} (x0 : Int64) (x2 : Int64) (x4 : Int32) (S : MS) {out : (Int64 × MS)} (h : fX4_inTerms x0 x2 x4 S = some out) : Met l yX4_inTerms (ws_ yX4_inTerms cX4_inTerms 11 (some .long)) ({ frames := 0, cells := 0, slots := 0, locals := 0 } : Room) (gPc (mK D cA) (mP D cA o A) A [.long x0, .long x2, .int x4] S) (gQl (mK D cA) (mP D cA o A) A out) 0 0 A := by
  refine gMet_l (by decide) (Nat.le_of_ble_eq_true rfl) ?_ mKst
  intro p e s m below meth c Q ls args H locs hC hP hS hl ret
  obtain ⟨hx, hb, hml, hown, hts, hA, hK⟩ := hC
  have hown : s.vm.findClass RX4 = some m.cls := hown
  have hl : lv_has ls 11 [(0, .long x0), (2, .long x2), (4, .int x4)] := hl
  have B58 : ∀ (t0 : Int64) (S : MS) (H : Heap) (locs : List Loc) (ls : Array Slot), mP D cA o A S H → va_S A s.heap H locs → lv_has ls 11 [] → bX4_inTerms_58  t0 S = some out → W p l e ({ frames := 0, cells := 0, slots := 0, locals := 0 } : Room) s m args below meth c H locs 0 0 Q (F0 m 58 ls [.long t0]) := by
    intro t0 S H locs ls hP hS hl h
    unfold bX4_inTerms_58 at h
    exact ret _ _ _ _ _ _ dX4_inTerms_58 hP hS h
  have L17 : ∀ (n17 : Nat) (x0 : Int64) (x2 : Int64) (x4 : Int32) (x5 : Int64) (x7 : Int64) (S : MS) (H : Heap) (locs : List Loc) (ls : Array Slot), mP D cA o A S H → va_S A s.heap H locs → lv_has ls 11 [(0, .long x0), (2, .long x2), (4, .int x4), (5, .long x5), (7, .long x7)] → lX4_inTerms_17 n17 x0 x2 x4 x5 x7 S = some out → W p l e ({ frames := 0, cells := 0, slots := 0, locals := 0 } : Room) s m args below meth c H locs 0 0 Q (F0 m 17 ls []) := by
    intro n17
    induction n17 with
    | zero =>
      intro x0 x2 x4 x5 x7 S H locs ls hP hS hl h
      cases h
    | succ n17 ih17 =>
      intro x0 x2 x4 x5 x7 S H locs ls hP hS hl h
      replace h : bX4_inTerms_17 (lX4_inTerms_17 n17) x0 x2 x4 x5 x7 S = some out := h
      unfold bX4_inTerms_17 at h
      refine lv_lload hx hb dX4_inTerms_17 (lv_at hl 4 rfl) ?_
      refine lv_lconst (v := (0 : Int64)) hx hb dX4_inTerms_19 (by decide) ?_
      refine W.lcmp hx hb dX4_inTerms_20 ?_
      refine lv_if_eq (tgt := 42) hx hb dX4_inTerms_21 (by decide) (fun c1 => ?_) (fun c1 => ?_)
      · have h := ite_t c1 h
        refine lv_iload hx hb dX4_inTerms_42 (lv_at hl 2 rfl) ?_
        refine lv_if_ne (tgt := 54) hx hb dX4_inTerms_44 (by decide) (fun c2 => ?_) (fun c2 => ?_)
        · have h := ite_f c2 h
          refine lv_lload_n hx hb dX4_inTerms_54 rfl (lv_at hl 1 rfl) ?_
          refine lv_lload hx hb dX4_inTerms_55 (lv_at hl 3 rfl) ?_
          obtain ⟨g3, h⟩ := chk_some h
          refine lv_ldiv hx hb dX4_inTerms_57 (ne0L_n g3) ?_
          exact B58 (x2 / x5) S _ _ _ hP hS (lv_sub hl [] rfl) h
        · have h := ite_t c2 h
          refine lv_lload_n hx hb dX4_inTerms_47 rfl (lv_at hl 0 rfl) ?_
          refine lv_lload hx hb dX4_inTerms_48 (lv_at hl 3 rfl) ?_
          obtain ⟨g4, h⟩ := chk_some h
          refine lv_ldiv hx hb dX4_inTerms_50 (ne0L_n g4) ?_
          refine lv_goto (tgt := 58) hx hb dX4_inTerms_51 (by decide) ?_
          exact B58 (x0 / x5) S _ _ _ hP hS (lv_sub hl [] rfl) h
      · have h := ite_f c1 h
        refine lv_lload hx hb dX4_inTerms_24 (lv_at hl 3 rfl) ?_
        refine lv_lload hx hb dX4_inTerms_26 (lv_at hl 4 rfl) ?_
        obtain ⟨g5, h⟩ := chk_some h
        refine lv_lrem hx hb dX4_inTerms_28 (ne0L_n g5) ?_
        refine lv_topl (fun y6 ey6 => ?_)
        have h := nm_at ey6 h
        refine lv_lstore (lv' := [(9, .long y6), (0, .long x0), (2, .long x2), (4, .int x4), (5, .long x5), (7, .long x7)]) hx hb dX4_inTerms_29 hl (by decide) rfl (fun ls hl => ?_)
        refine lv_lload hx hb dX4_inTerms_31 (lv_at hl 5 rfl) ?_
        refine lv_lstore (lv' := [(5, .long x7), (9, .long y6), (0, .long x0), (2, .long x2), (4, .int x4), (7, .long x7)]) hx hb dX4_inTerms_33 hl (by decide) rfl (fun ls hl => ?_)
        refine lv_lload hx hb dX4_inTerms_35 (lv_at hl 1 rfl) ?_
        refine lv_lstore (lv' := [(7, .long y6), (5, .long x7), (9, .long y6), (0, .long x0), (2, .long x2), (4, .int x4)]) hx hb dX4_inTerms_37 hl (by decide) rfl (fun ls hl => ?_)
        refine lv_goto (tgt := 17) hx hb dX4_inTerms_39 (by decide) ?_
        exact ih17 x0 x2 x4 x7 y6 S _ _ _ hP hS (lv_sub hl [3, 4, 5, 1, 0] rfl) h
  have B12 : ∀ (x0 : Int64) (x2 : Int64) (x4 : Int32) (t0 : Int64) (S : MS) (H : Heap) (locs : List Loc) (ls : Array Slot), mP D cA o A S H → va_S A s.heap H locs → lv_has ls 11 [(0, .long x0), (2, .long x2), (4, .int x4)] → bX4_inTerms_12  x0 x2 x4 t0 S = some out → W p l e ({ frames := 0, cells := 0, slots := 0, locals := 0 } : Room) s m args below meth c H locs 0 0 Q (F0 m 12 ls [.long t0]) := by
    intro x0 x2 x4 t0 S H locs ls hP hS hl h
    unfold bX4_inTerms_12 at h
    refine lv_lstore (lv' := [(5, .long t0), (0, .long x0), (2, .long x2), (4, .int x4)]) hx hb dX4_inTerms_12 hl (by decide) rfl (fun ls hl => ?_)
    refine lv_lload_n hx hb dX4_inTerms_14 rfl (lv_at hl 2 rfl) ?_
    refine lv_lstore (lv' := [(7, .long x2), (5, .long t0), (0, .long x0), (2, .long x2), (4, .int x4)]) hx hb dX4_inTerms_15 hl (by decide) rfl (fun ls hl => ?_)
    exact L17 FU x0 x2 x4 t0 x2 S _ _ _ hP hS (lv_sub hl [2, 3, 4, 1, 0] rfl) h
  unfold fX4_inTerms at h
  refine lv_lload_n hx hb dX4_inTerms_0 rfl (lv_at hl 0 rfl) ?_
  refine lv_lconst (v := (0 : Int64)) hx hb dX4_inTerms_1 (by decide) ?_
  refine W.lcmp hx hb dX4_inTerms_2 ?_
  refine lv_if_ge (tgt := 11) hx hb dX4_inTerms_3 (by decide) (fun c7 => ?_) (fun c7 => ?_)
  · have h := ite_t c7 h
    refine lv_lload_n hx hb dX4_inTerms_11 rfl (lv_at hl 0 rfl) ?_
    exact B12 x0 x2 x4 x0 S _ _ _ hP hS hl h
  · have h := ite_f c7 h
    refine lv_lload_n hx hb dX4_inTerms_6 rfl (lv_at hl 0 rfl) ?_
    refine lv_lneg hx hb dX4_inTerms_7 ?_
    refine lv_goto (tgt := 12) hx hb dX4_inTerms_8 (by decide) ?_
    exact B12 x0 x2 x4 (-x0) S _ _ _ hP hS hl h

def fX4_isPart (x0 : Int32) (S : MS) : Option (Int32 × MS) :=
bnd (fX4_in x0 (0 : Int32) (1 : Int32) S) fun v3 S2 =>
chk (isB v3) (some (v3, S2))
set_option maxHeartbeats 4000000 in
set_option maxRecDepth 100000 in
theorem mX4_isPart {l : Launch} {D : va_G} {cA : Nat → ClassId} {o : Nat → Nat} {A : Nat → Prop} (x0 : Int32) (S : MS) {out : (Int32 × MS)} (h : fX4_isPart x0 S = some out) : Met l yX4_isPart (ws_ yX4_isPart cX4_isPart 1 (some .boolean)) ({ frames := 1, cells := 0, slots := 0, locals := 22 } : Room) (gPc (mK D cA) (mP D cA o A) A [.int x0] S) (gQi (mK D cA) (mP D cA o A) A out) 0 0 A := by
  refine gMet_z (by decide) (Nat.le_of_ble_eq_true rfl) ?_ mKst
  intro p e s m below meth c Q ls args H locs hC hP hS hl ret
  obtain ⟨hx, hb, hml, hown, hts, hA, hK⟩ := hC
  have hown : s.vm.findClass RX4 = some m.cls := hown
  have hl : lv_has ls 1 [(0, .int x0)] := hl
  unfold fX4_isPart at h
  refine lv_iload_n hx hb dX4_isPart_0 rfl (lv_at hl 0 rfl) ?_
  refine lv_iconst (v := (0 : Int32)) hx hb dX4_isPart_1 (by decide) ?_
  refine lv_iconst (v := (1 : Int32)) hx hb dX4_isPart_2 (by decide) ?_
  obtain ⟨v3, S2, e1, h⟩ := bnd_some h
  refine gc0_i (va_runS (As := [.int x0, .int (0 : Int32), .int (1 : Int32)]) (rest := []) ⟨hx, hb, hml, hown, hts⟩ (mX4_in (l := l) (D := D) (cA := cA) (o := o) (A := A) x0 (0 : Int32) (1 : Int32) S e1) (va_cwS 3 hts (lw_S q1329 q1330 q90 q1331) rfl rfl rfl (by decide +kernel) ⟨Nat.le_of_ble_eq_true rfl, Nat.le_of_ble_eq_true rfl⟩) (gPreS mKst hK hA hS hP) rfl rfl hl.1 rfl (lv_room (Nat.le_of_ble_eq_true rfl)) dX4_isPart_3 ⟨Nat.zero_le _, Nat.zero_le _⟩) hS (fun H locs hP hS => ?_)
  obtain ⟨g4, h⟩ := chk_some h
  exact ret _ _ _ _ _ _ dX4_isPart_6 (isB_nar g4) hP hS h

def fX4_isPicture (x1 : Int32) (S : MS) : Option (Int32 × MS) :=
bnd (fX4_in x1 (0 : Int32) ((mIA S 0 ((3 : Int32)).toNatClampNeg) - (1 : Int32)) S) fun v3 S2 =>
chk (isB v3) (some (v3, S2))
set_option maxHeartbeats 4000000 in
set_option maxRecDepth 100000 in
theorem mX4_isPicture {l : Launch} {D : va_G} {cA : Nat → ClassId} {o : Nat → Nat} {A : Nat → Prop} (x1 : Int32) (S : MS) {out : (Int32 × MS)} (h : fX4_isPicture x1 S = some out) : Met l yX4_isPicture (ws_ yX4_isPicture cX4_isPicture 2 (some .boolean)) ({ frames := 1, cells := 0, slots := 0, locals := 22 } : Room) (gPc (mK D cA) (mP D cA o A) A [.ref (o 24), .int x1] S) (gQi (mK D cA) (mP D cA o A) A out) 0 0 A := by
  refine gMet_z (by decide) (Nat.le_of_ble_eq_true rfl) ?_ mKst
  intro p e s m below meth c Q ls args H locs hC hP hS hl ret
  obtain ⟨hx, hb, hml, hown, hts, hA, hK⟩ := hC
  have hown : s.vm.findClass RX4 = some m.cls := hown
  have hl : lv_has ls 2 [(0, .ref (o 24)), (1, .int x1)] := hl
  unfold fX4_isPicture at h
  refine lv_iload_n hx hb dX4_isPicture_0 rfl (lv_at hl 1 rfl) ?_
  refine lv_iconst (v := (0 : Int32)) hx hb dX4_isPicture_1 (by decide) ?_
  refine lv_aload_n hx hb dX4_isPicture_2 rfl (lv_at hl 0 rfl) ?_
  refine va_get (D := D) (ci := 4) (v := .ref (o 0)) (C := RX4) (T := TX4) (N := 24) hx hb hts in_X4 hown hK hP.1 0 rfl rfl 0 (by decide) (hts _ q1249) (fun _ h9 => h9) rfl dX4_isPicture_3 ?_
  refine lv_iconst (v := (3 : Int32)) hx hb dX4_isPicture_6 (by decide) ?_
  refine va_iald hx hb hK hP.1 1 0 rfl rfl (inB_in (by decide)) dX4_isPicture_7 ?_
  refine lv_iconst (v := (1 : Int32)) hx hb dX4_isPicture_8 (by decide) ?_
  refine lv_isub hx hb dX4_isPicture_9 ?_
  obtain ⟨v3, S2, e1, h⟩ := bnd_some h
  refine gc0_i (va_runS (As := [.int x1, .int (0 : Int32), .int ((mIA S 0 ((3 : Int32)).toNatClampNeg) - (1 : Int32))]) (rest := []) ⟨hx, hb, hml, hown, hts⟩ (mX4_in (l := l) (D := D) (cA := cA) (o := o) (A := A) x1 (0 : Int32) ((mIA S 0 ((3 : Int32)).toNatClampNeg) - (1 : Int32)) S e1) (va_cwS 3 hts (lw_S q1329 q1330 q90 q1331) rfl rfl rfl (by decide +kernel) ⟨Nat.le_of_ble_eq_true rfl, Nat.le_of_ble_eq_true rfl⟩) (gPreS mKst hK hA hS hP) rfl rfl hl.1 rfl (lv_room (Nat.le_of_ble_eq_true rfl)) dX4_isPicture_10 ⟨Nat.zero_le _, Nat.zero_le _⟩) hS (fun H locs hP hS => ?_)
  obtain ⟨g4, h⟩ := chk_some h
  exact ret _ _ _ _ _ _ dX4_isPicture_13 (isB_nar g4) hP hS h

def bX4_notThere_27 (t0 : Int32) (S : MS) : Option (Int32 × MS) :=
some (t0, S)
def fX4_notThere (x1 : Int32) (S : MS) : Option (Int32 × MS) :=
bnd (fX4_isSheet x1 S) fun v3 S2 =>
(if v3 = 0 then
bX4_notThere_27 (-1000000001 : Int32) S2
else
chk (inB x1 4) ((if (mIA S2 5 (x1).toNatClampNeg) = 0 then
bX4_notThere_27 (-1000000002 : Int32) S2
else
bX4_notThere_27 (0 : Int32) S2)))
set_option maxHeartbeats 4000000 in
set_option maxRecDepth 100000 in
theorem mX4_notThere {l : Launch} {D : va_G} {cA : Nat → ClassId} {o : Nat → Nat} {A : Nat → Prop} (x1 : Int32) (S : MS) {out : (Int32 × MS)} (h : fX4_notThere x1 S = some out) : Met l yX4_notThere (ws_ yX4_notThere cX4_notThere 2 (some .int)) ({ frames := 2, cells := 0, slots := 0, locals := 42 } : Room) (gPc (mK D cA) (mP D cA o A) A [.ref (o 24), .int x1] S) (gQi (mK D cA) (mP D cA o A) A out) 0 0 A := by
  refine gMet_z (by decide) (Nat.le_of_ble_eq_true rfl) ?_ mKst
  intro p e s m below meth c Q ls args H locs hC hP hS hl ret
  obtain ⟨hx, hb, hml, hown, hts, hA, hK⟩ := hC
  have hown : s.vm.findClass RX4 = some m.cls := hown
  have hl : lv_has ls 2 [(0, .ref (o 24)), (1, .int x1)] := hl
  have B27 : ∀ (t0 : Int32) (S : MS) (H : Heap) (locs : List Loc) (ls : Array Slot), mP D cA o A S H → va_S A s.heap H locs → lv_has ls 2 [(0, .ref (o 24))] → bX4_notThere_27  t0 S = some out → W p l e ({ frames := 2, cells := 0, slots := 0, locals := 42 } : Room) s m args below meth c H locs 0 0 Q (F0 m 27 ls [.int t0]) := by
    intro t0 S H locs ls hP hS hl h
    unfold bX4_notThere_27 at h
    exact ret _ _ _ _ _ _ dX4_notThere_27 rfl hP hS h
  unfold fX4_notThere at h
  refine lv_iload_n hx hb dX4_notThere_0 rfl (lv_at hl 1 rfl) ?_
  obtain ⟨v3, S2, e1, h⟩ := bnd_some h
  refine gc0_i (va_runS (As := [.int x1]) (rest := []) ⟨hx, hb, hml, hown, hts⟩ (mX4_isSheet (l := l) (D := D) (cA := cA) (o := o) (A := A) x1 S e1) (va_cwS 1 hts (lw_S q1636 q1637 q90 q1638) rfl rfl rfl (by decide +kernel) ⟨Nat.le_of_ble_eq_true rfl, Nat.le_of_ble_eq_true rfl⟩) (gPreS mKst hK hA hS hP) rfl rfl hl.1 rfl (lv_room (Nat.le_of_ble_eq_true rfl)) dX4_notThere_1 ⟨Nat.zero_le _, Nat.zero_le _⟩) hS (fun H locs hP hS => ?_)
  refine lv_if_ne (tgt := 12) hx hb dX4_notThere_4 (by decide) (fun c4 => ?_) (fun c4 => ?_)
  · have h := ite_f c4 h
    refine lv_aload_n hx hb dX4_notThere_12 rfl (lv_at hl 0 rfl) ?_
    refine va_get (D := D) (ci := 4) (v := .ref (o 5)) (C := RX4) (T := TX4) (N := 24) hx hb hts in_X4 hown hK hP.1 0 rfl rfl 5 (by decide) (hts _ q1254) (fun _ h9 => h9) rfl dX4_notThere_13 ?_
    refine lv_iload_n hx hb dX4_notThere_16 rfl (lv_at hl 1 rfl) ?_
    obtain ⟨g5, h⟩ := chk_some h
    refine va_iald hx hb hK hP.1 5 0 rfl rfl (inB_in g5) dX4_notThere_17 ?_
    refine lv_if_ne (tgt := 26) hx hb dX4_notThere_18 (by decide) (fun c6 => ?_) (fun c6 => ?_)
    · have h := ite_f c6 h
      refine lv_iconst (v := (0 : Int32)) hx hb dX4_notThere_26 (by decide) ?_
      exact B27 (0 : Int32) S2 _ _ _ hP hS (lv_sub hl [0] rfl) h
    · have h := ite_t c6 h
      refine lv_ldc (v := (-1000000002 : Int32)) hx hb hown (hts _ q1613) dX4_notThere_21 ?_
      refine lv_goto (tgt := 27) hx hb dX4_notThere_23 (by decide) ?_
      exact B27 (-1000000002 : Int32) S2 _ _ _ hP hS (lv_sub hl [0] rfl) h
  · have h := ite_t c4 h
    refine lv_ldc (v := (-1000000001 : Int32)) hx hb hown (hts _ q1336) dX4_notThere_7 ?_
    refine lv_goto (tgt := 27) hx hb dX4_notThere_9 (by decide) ?_
    exact B27 (-1000000001 : Int32) S2 _ _ _ hP hS (lv_sub hl [0] rfl) h

def bX4_judge_64 (x3 : Int32) (S : MS) : Option (Int32 × MS) :=
some (x3, S)
def bX4_judge_18 (k18 : Int32 → Int32 → MS → Option (Int32 × MS)) (x1 : Int32) (x3 : Int32) (S : MS) : Option (Int32 × MS) :=
chk (inB x1 4) ((if (mIA S 6 (x1).toNatClampNeg) ≤ x3 then
bX4_judge_64 x3 S
else
(if (mIA S 0 ((2 : Int32)).toNatClampNeg) ≤ x3 then
bX4_judge_64 x3 S
else
chk (inB (((24 : Int32) * x1) + x3) 96) (bnd (fX4_of x3 (4 : Int32) S) fun v7 S6 =>
(if (mIA S 7 ((((24 : Int32) * x1) + x3)).toNatClampNeg) = v7 then
nm (x3 + (1 : Int32)) fun y9 =>
k18 x1 y9 S6
else
bX4_judge_64 x3 S6)))))
def lX4_judge_18 : Nat → (Int32 → Int32 → MS → Option (Int32 × MS))
  | 0 => fun _ _ _ => none
  | n + 1 => bX4_judge_18 (lX4_judge_18 n)
def fX4_judge (x1 : Int32) (S : MS) : Option (Int32 × MS) :=
bnd (fX4_notThere x1 S) fun v12 S11 =>
(if v12 = 0 then
lX4_judge_18 FU x1 (0 : Int32) S11
else
bnd (fX4_error v12 S11) fun v16 S15 =>
some (v16, S15))
set_option maxHeartbeats 4000000 in
set_option maxRecDepth 100000 in
theorem mX4_judge {l : Launch} {D : va_G} {cA : Nat → ClassId} {o : Nat → Nat} {A : Nat → Prop} (x1 : Int32) (S : MS) {out : (Int32 × MS)} (h : fX4_judge x1 S = some out) : Met l yX4_judge (ws_ yX4_judge cX4_judge 4 (some .int)) ({ frames := 3, cells := 0, slots := 0, locals := 63 } : Room) (gPc (mK D cA) (mP D cA o A) A [.ref (o 24), .int x1] S) (gQi (mK D cA) (mP D cA o A) A out) 0 0 A := by
  refine gMet_z (by decide) (Nat.le_of_ble_eq_true rfl) ?_ mKst
  intro p e s m below meth c Q ls args H locs hC hP hS hl ret
  obtain ⟨hx, hb, hml, hown, hts, hA, hK⟩ := hC
  have hown : s.vm.findClass RX4 = some m.cls := hown
  have hl : lv_has ls 4 [(0, .ref (o 24)), (1, .int x1)] := hl
  have B64 : ∀ (x3 : Int32) (S : MS) (H : Heap) (locs : List Loc) (ls : Array Slot), mP D cA o A S H → va_S A s.heap H locs → lv_has ls 4 [(0, .ref (o 24)), (3, .int x3)] → bX4_judge_64  x3 S = some out → W p l e ({ frames := 3, cells := 0, slots := 0, locals := 63 } : Room) s m args below meth c H locs 0 0 Q (F0 m 64 ls []) := by
    intro x3 S H locs ls hP hS hl h
    unfold bX4_judge_64 at h
    refine lv_iload_n hx hb dX4_judge_64 rfl (lv_at hl 1 rfl) ?_
    exact ret _ _ _ _ _ _ dX4_judge_65 rfl hP hS h
  have L18 : ∀ (n18 : Nat) (x1 : Int32) (x3 : Int32) (S : MS) (H : Heap) (locs : List Loc) (ls : Array Slot), mP D cA o A S H → va_S A s.heap H locs → lv_has ls 4 [(0, .ref (o 24)), (1, .int x1), (3, .int x3)] → lX4_judge_18 n18 x1 x3 S = some out → W p l e ({ frames := 3, cells := 0, slots := 0, locals := 63 } : Room) s m args below meth c H locs 0 0 Q (F0 m 18 ls []) := by
    intro n18
    induction n18 with
    | zero =>
      intro x1 x3 S H locs ls hP hS hl h
      cases h
    | succ n18 ih18 =>
      intro x1 x3 S H locs ls hP hS hl h
      replace h : bX4_judge_18 (lX4_judge_18 n18) x1 x3 S = some out := h
      unfold bX4_judge_18 at h
      refine lv_iload_n hx hb dX4_judge_18 rfl (lv_at hl 2 rfl) ?_
      refine lv_aload_n hx hb dX4_judge_19 rfl (lv_at hl 0 rfl) ?_
      refine va_get (D := D) (ci := 4) (v := .ref (o 6)) (C := RX4) (T := TX4) (N := 24) hx hb hts in_X4 hown hK hP.1 0 rfl rfl 6 (by decide) (hts _ q1255) (fun _ h9 => h9) rfl dX4_judge_20 ?_
      refine lv_iload_n hx hb dX4_judge_23 rfl (lv_at hl 1 rfl) ?_
      obtain ⟨g1, h⟩ := chk_some h
      refine va_iald hx hb hK hP.1 6 0 rfl rfl (inB_in g1) dX4_judge_24 ?_
      refine lv_icmp_ge (tgt := 64) hx hb dX4_judge_25 (by decide) (fun c2 => ?_) (fun c2 => ?_)
      · have h := ite_t c2 h
        exact B64 x3 S _ _ _ hP hS (lv_sub hl [0, 2] rfl) h
      · have h := ite_f c2 h
        refine lv_iload_n hx hb dX4_judge_28 rfl (lv_at hl 2 rfl) ?_
        refine lv_aload_n hx hb dX4_judge_29 rfl (lv_at hl 0 rfl) ?_
        refine va_get (D := D) (ci := 4) (v := .ref (o 0)) (C := RX4) (T := TX4) (N := 24) hx hb hts in_X4 hown hK hP.1 0 rfl rfl 0 (by decide) (hts _ q1249) (fun _ h9 => h9) rfl dX4_judge_30 ?_
        refine lv_iconst (v := (2 : Int32)) hx hb dX4_judge_33 (by decide) ?_
        refine va_iald hx hb hK hP.1 1 0 rfl rfl (inB_in (by decide)) dX4_judge_34 ?_
        refine lv_icmp_ge (tgt := 64) hx hb dX4_judge_35 (by decide) (fun c3 => ?_) (fun c3 => ?_)
        · have h := ite_t c3 h
          exact B64 x3 S _ _ _ hP hS (lv_sub hl [0, 2] rfl) h
        · have h := ite_f c3 h
          refine lv_aload_n hx hb dX4_judge_38 rfl (lv_at hl 0 rfl) ?_
          refine va_get (D := D) (ci := 4) (v := .ref (o 7)) (C := RX4) (T := TX4) (N := 24) hx hb hts in_X4 hown hK hP.1 0 rfl rfl 7 (by decide) (hts _ q1256) (fun _ h9 => h9) rfl dX4_judge_39 ?_
          refine lv_bipush (v := (24 : Int32)) hx hb dX4_judge_42 (by decide) ?_
          refine lv_iload_n hx hb dX4_judge_44 rfl (lv_at hl 1 rfl) ?_
          refine lv_imul hx hb dX4_judge_45 ?_
          refine lv_iload_n hx hb dX4_judge_46 rfl (lv_at hl 2 rfl) ?_
          refine lv_iadd hx hb dX4_judge_47 ?_
          obtain ⟨g4, h⟩ := chk_some h
          refine va_iald hx hb hK hP.1 7 0 rfl rfl (inB_in g4) dX4_judge_48 ?_
          refine lv_aload_n hx hb dX4_judge_49 rfl (lv_at hl 0 rfl) ?_
          refine lv_iload_n hx hb dX4_judge_50 rfl (lv_at hl 2 rfl) ?_
          refine lv_iconst (v := (4 : Int32)) hx hb dX4_judge_51 (by decide) ?_
          obtain ⟨v7, S6, e5, h⟩ := bnd_some h
          refine gc0_i (va_runV (As := [.int x3, .int (4 : Int32)]) (rest := [.int (mIA S 7 ((((24 : Int32) * x1) + x3)).toNatClampNeg)]) ⟨hx, hb, hml, hown, hts⟩ (mX4_of (l := l) (D := D) (cA := cA) (o := o) (A := A) x3 (4 : Int32) S e5) (cwV 2 hts (lw_V q1355 q1357 qs33 q90 q1358) rfl rfl rfl (by decide +kernel) ⟨Nat.le_of_ble_eq_true rfl, Nat.le_of_ble_eq_true rfl⟩) (gPreV mKst hK hA hS hP (mRecv hK hP)) rfl rfl hl.1 rfl (lv_room (Nat.le_of_ble_eq_true rfl)) dX4_judge_52 ⟨Nat.zero_le _, Nat.zero_le _⟩) hS (fun H locs hP hS => ?_)
          refine lv_icmp_ne (tgt := 64) hx hb dX4_judge_55 (by decide) (fun c8 => ?_) (fun c8 => ?_)
          · have h := ite_f c8 h
            exact B64 x3 S6 _ _ _ hP hS (lv_sub hl [0, 2] rfl) h
          · have h := ite_t c8 h
            obtain ⟨y9, ey9⟩ : ∃ y : Int32, y = x3 + (1 : Int32) := ⟨_, rfl⟩
            refine lv_iinc (v := y9) (lv' := [(3, .int y9), (0, .ref (o 24)), (1, .int x1)]) hx hb dX4_judge_58 hl (k := 2) rfl (by rw [ey9]; rfl) (by decide) rfl (fun ls hl => ?_)
            have h := nm_at ey9 h
            refine lv_goto (tgt := 18) hx hb dX4_judge_61 (by decide) ?_
            exact ih18 x1 y9 S6 _ _ _ hP hS (lv_sub hl [1, 2, 0] rfl) h
  unfold fX4_judge at h
  refine lv_aload_n hx hb dX4_judge_0 rfl (lv_at hl 0 rfl) ?_
  refine lv_iload_n hx hb dX4_judge_1 rfl (lv_at hl 1 rfl) ?_
  obtain ⟨v12, S11, e10, h⟩ := bnd_some h
  refine gc0_i (va_runV (As := [.int x1]) (rest := []) ⟨hx, hb, hml, hown, hts⟩ (mX4_notThere (l := l) (D := D) (cA := cA) (o := o) (A := A) x1 S e10) (cwV 1 hts (lw_V q1704 q1706 qs83 q90 q1707) rfl rfl rfl (by decide +kernel) ⟨Nat.le_of_ble_eq_true rfl, Nat.le_of_ble_eq_true rfl⟩) (gPreV mKst hK hA hS hP (mRecv hK hP)) rfl rfl hl.1 rfl (lv_room (Nat.le_of_ble_eq_true rfl)) dX4_judge_2 ⟨Nat.zero_le _, Nat.zero_le _⟩) hS (fun H locs hP hS => ?_)
  refine lv_istore_n (lv' := [(2, .int v12), (0, .ref (o 24)), (1, .int x1)]) hx hb dX4_judge_5 rfl hl (by decide) rfl (fun ls hl => ?_)
  refine lv_iload_n hx hb dX4_judge_6 rfl (lv_at hl 0 rfl) ?_
  refine lv_if_eq (tgt := 16) hx hb dX4_judge_7 (by decide) (fun c13 => ?_) (fun c13 => ?_)
  · have h := ite_t c13 h
    refine lv_iconst (v := (0 : Int32)) hx hb dX4_judge_16 (by decide) ?_
    refine lv_istore_n (lv' := [(3, .int (0 : Int32)), (2, .int v12), (0, .ref (o 24)), (1, .int x1)]) hx hb dX4_judge_17 rfl hl (by decide) rfl (fun ls hl => ?_)
    exact L18 FU x1 (0 : Int32) S11 _ _ _ hP hS (lv_sub hl [2, 3, 0] rfl) h
  · have h := ite_f c13 h
    refine lv_aload_n hx hb dX4_judge_10 rfl (lv_at hl 1 rfl) ?_
    refine lv_iload_n hx hb dX4_judge_11 rfl (lv_at hl 0 rfl) ?_
    obtain ⟨v16, S15, e14, h⟩ := bnd_some h
    refine gc0_i (va_runV (As := [.int v12]) (rest := []) ⟨hx, hb, hml, hown, hts⟩ (mX4_error (l := l) (D := D) (cA := cA) (o := o) (A := A) v12 S11 e14) (cwV 1 hts (lw_V q1337 q1339 qs30 q90 q1340) rfl rfl rfl (by decide +kernel) ⟨Nat.le_of_ble_eq_true rfl, Nat.le_of_ble_eq_true rfl⟩) (gPreV mKst hK hA hS hP (mRecv hK hP)) rfl rfl hl.1 rfl (lv_room (Nat.le_of_ble_eq_true rfl)) dX4_judge_12 ⟨Nat.zero_le _, Nat.zero_le _⟩) hS (fun H locs hP hS => ?_)
    exact ret _ _ _ _ _ _ dX4_judge_15 rfl hP hS h

def bX4_law_27 (t0 : Int32) (S : MS) : Option (Int32 × MS) :=
some (t0, S)
def fX4_law (x1 : Int32) (x2 : Int32) (x3 : Int32) (x4 : Int32) (S : MS) : Option (Int32 × MS) :=
bnd (fX4_in x1 (0 : Int32) (1 : Int32) S) fun v3 S2 =>
(if v3 = 0 then
bnd (fX4_error (-1000000001 : Int32) S2) fun v7 S6 =>
bX4_law_27 v7 S6
else
bnd (fX4_gives x1 x2 x3 x4 S2) fun v10 S9 =>
bX4_law_27 v10 S9)
set_option maxHeartbeats 4000000 in
set_option maxRecDepth 100000 in
theorem mX4_law {l : Launch} {D : va_G} {cA : Nat → ClassId} {o : Nat → Nat} {A : Nat → Prop} (x1 : Int32) (x2 : Int32) (x3 : Int32) (x4 : Int32) (S : MS) {out : (Int32 × MS)} (h : fX4_law x1 x2 x3 x4 S = some out) : Met l yX4_law (ws_ yX4_law cX4_law 5 (some .int)) ({ frames := 3, cells := 0, slots := 0, locals := 72 } : Room) (gPc (mK D cA) (mP D cA o A) A [.ref (o 24), .int x1, .int x2, .int x3, .int x4] S) (gQi (mK D cA) (mP D cA o A) A out) 0 0 A := by
  refine gMet_z (by decide) (Nat.le_of_ble_eq_true rfl) ?_ mKst
  intro p e s m below meth c Q ls args H locs hC hP hS hl ret
  obtain ⟨hx, hb, hml, hown, hts, hA, hK⟩ := hC
  have hown : s.vm.findClass RX4 = some m.cls := hown
  have hl : lv_has ls 5 [(0, .ref (o 24)), (1, .int x1), (2, .int x2), (3, .int x3), (4, .int x4)] := hl
  have B27 : ∀ (t0 : Int32) (S : MS) (H : Heap) (locs : List Loc) (ls : Array Slot), mP D cA o A S H → va_S A s.heap H locs → lv_has ls 5 [(0, .ref (o 24))] → bX4_law_27  t0 S = some out → W p l e ({ frames := 3, cells := 0, slots := 0, locals := 72 } : Room) s m args below meth c H locs 0 0 Q (F0 m 27 ls [.int t0]) := by
    intro t0 S H locs ls hP hS hl h
    unfold bX4_law_27 at h
    exact ret _ _ _ _ _ _ dX4_law_27 rfl hP hS h
  unfold fX4_law at h
  refine lv_iload_n hx hb dX4_law_0 rfl (lv_at hl 1 rfl) ?_
  refine lv_iconst (v := (0 : Int32)) hx hb dX4_law_1 (by decide) ?_
  refine lv_iconst (v := (1 : Int32)) hx hb dX4_law_2 (by decide) ?_
  obtain ⟨v3, S2, e1, h⟩ := bnd_some h
  refine gc0_i (va_runS (As := [.int x1, .int (0 : Int32), .int (1 : Int32)]) (rest := []) ⟨hx, hb, hml, hown, hts⟩ (mX4_in (l := l) (D := D) (cA := cA) (o := o) (A := A) x1 (0 : Int32) (1 : Int32) S e1) (va_cwS 3 hts (lw_S q1329 q1330 q90 q1331) rfl rfl rfl (by decide +kernel) ⟨Nat.le_of_ble_eq_true rfl, Nat.le_of_ble_eq_true rfl⟩) (gPreS mKst hK hA hS hP) rfl rfl hl.1 rfl (lv_room (Nat.le_of_ble_eq_true rfl)) dX4_law_3 ⟨Nat.zero_le _, Nat.zero_le _⟩) hS (fun H locs hP hS => ?_)
  refine lv_if_eq (tgt := 21) hx hb dX4_law_6 (by decide) (fun c4 => ?_) (fun c4 => ?_)
  · have h := ite_t c4 h
    refine lv_aload_n hx hb dX4_law_21 rfl (lv_at hl 0 rfl) ?_
    refine lv_ldc (v := (-1000000001 : Int32)) hx hb hown (hts _ q1336) dX4_law_22 ?_
    obtain ⟨v7, S6, e5, h⟩ := bnd_some h
    refine gc0_i (va_runV (As := [.int (-1000000001 : Int32)]) (rest := []) ⟨hx, hb, hml, hown, hts⟩ (mX4_error (l := l) (D := D) (cA := cA) (o := o) (A := A) (-1000000001 : Int32) S2 e5) (cwV 1 hts (lw_V q1337 q1339 qs30 q90 q1340) rfl rfl rfl (by decide +kernel) ⟨Nat.le_of_ble_eq_true rfl, Nat.le_of_ble_eq_true rfl⟩) (gPreV mKst hK hA hS hP (mRecv hK hP)) rfl rfl hl.1 rfl (lv_room (Nat.le_of_ble_eq_true rfl)) dX4_law_24 ⟨Nat.zero_le _, Nat.zero_le _⟩) hS (fun H locs hP hS => ?_)
    exact B27 v7 S6 _ _ _ hP hS (lv_sub hl [0] rfl) h
  · have h := ite_f c4 h
    refine lv_aload_n hx hb dX4_law_9 rfl (lv_at hl 0 rfl) ?_
    refine lv_iload_n hx hb dX4_law_10 rfl (lv_at hl 1 rfl) ?_
    refine lv_iload_n hx hb dX4_law_11 rfl (lv_at hl 2 rfl) ?_
    refine lv_iload_n hx hb dX4_law_12 rfl (lv_at hl 3 rfl) ?_
    refine lv_iload hx hb dX4_law_13 (lv_at hl 4 rfl) ?_
    obtain ⟨v10, S9, e8, h⟩ := bnd_some h
    refine gc0_i (va_runV (As := [.int x1, .int x2, .int x3, .int x4]) (rest := []) ⟨hx, hb, hml, hown, hts⟩ (mX4_gives (l := l) (D := D) (cA := cA) (o := o) (A := A) x1 x2 x3 x4 S2 e8) (cwV 4 hts (lw_V q1371 q1373 qs37 q90 q1374) rfl rfl rfl (by decide +kernel) ⟨Nat.le_of_ble_eq_true rfl, Nat.le_of_ble_eq_true rfl⟩) (gPreV mKst hK hA hS hP (mRecv hK hP)) rfl rfl hl.1 rfl (lv_room (Nat.le_of_ble_eq_true rfl)) dX4_law_15 ⟨Nat.zero_le _, Nat.zero_le _⟩) hS (fun H locs hP hS => ?_)
    refine lv_goto (tgt := 27) hx hb dX4_law_18 (by decide) ?_
    exact B27 v10 S9 _ _ _ hP hS (lv_sub hl [0] rfl) h

def bX4_limit_25 (t0 : Int32) (S : MS) : Option (Int32 × MS) :=
some (t0, S)
def fX4_limit (x1 : Int32) (S : MS) : Option (Int32 × MS) :=
bnd (fX4_in x1 (0 : Int32) (99 : Int32) S) fun v3 S2 =>
(if v3 = 0 then
bnd (fX4_error (-1000000001 : Int32) S2) fun v7 S6 =>
bX4_limit_25 v7 S6
else
bnd (fX4_becomes (4 : Int32) x1 S2) fun v10 S9 =>
bX4_limit_25 v10 S9)
set_option maxHeartbeats 4000000 in
set_option maxRecDepth 100000 in
theorem mX4_limit {l : Launch} {D : va_G} {cA : Nat → ClassId} {o : Nat → Nat} {A : Nat → Prop} (x1 : Int32) (S : MS) {out : (Int32 × MS)} (h : fX4_limit x1 S = some out) : Met l yX4_limit (ws_ yX4_limit cX4_limit 2 (some .int)) ({ frames := 1, cells := 0, slots := 0, locals := 23 } : Room) (gPc (mK D cA) (mP D cA o A) A [.ref (o 24), .int x1] S) (gQi (mK D cA) (mP D cA o A) A out) 0 0 A := by
  refine gMet_z (by decide) (Nat.le_of_ble_eq_true rfl) ?_ mKst
  intro p e s m below meth c Q ls args H locs hC hP hS hl ret
  obtain ⟨hx, hb, hml, hown, hts, hA, hK⟩ := hC
  have hown : s.vm.findClass RX4 = some m.cls := hown
  have hl : lv_has ls 2 [(0, .ref (o 24)), (1, .int x1)] := hl
  have B25 : ∀ (t0 : Int32) (S : MS) (H : Heap) (locs : List Loc) (ls : Array Slot), mP D cA o A S H → va_S A s.heap H locs → lv_has ls 2 [(0, .ref (o 24))] → bX4_limit_25  t0 S = some out → W p l e ({ frames := 1, cells := 0, slots := 0, locals := 23 } : Room) s m args below meth c H locs 0 0 Q (F0 m 25 ls [.int t0]) := by
    intro t0 S H locs ls hP hS hl h
    unfold bX4_limit_25 at h
    exact ret _ _ _ _ _ _ dX4_limit_25 rfl hP hS h
  unfold fX4_limit at h
  refine lv_iload_n hx hb dX4_limit_0 rfl (lv_at hl 1 rfl) ?_
  refine lv_iconst (v := (0 : Int32)) hx hb dX4_limit_1 (by decide) ?_
  refine lv_bipush (v := (99 : Int32)) hx hb dX4_limit_2 (by decide) ?_
  obtain ⟨v3, S2, e1, h⟩ := bnd_some h
  refine gc0_i (va_runS (As := [.int x1, .int (0 : Int32), .int (99 : Int32)]) (rest := []) ⟨hx, hb, hml, hown, hts⟩ (mX4_in (l := l) (D := D) (cA := cA) (o := o) (A := A) x1 (0 : Int32) (99 : Int32) S e1) (va_cwS 3 hts (lw_S q1329 q1330 q90 q1331) rfl rfl rfl (by decide +kernel) ⟨Nat.le_of_ble_eq_true rfl, Nat.le_of_ble_eq_true rfl⟩) (gPreS mKst hK hA hS hP) rfl rfl hl.1 rfl (lv_room (Nat.le_of_ble_eq_true rfl)) dX4_limit_4 ⟨Nat.zero_le _, Nat.zero_le _⟩) hS (fun H locs hP hS => ?_)
  refine lv_if_eq (tgt := 19) hx hb dX4_limit_7 (by decide) (fun c4 => ?_) (fun c4 => ?_)
  · have h := ite_t c4 h
    refine lv_aload_n hx hb dX4_limit_19 rfl (lv_at hl 0 rfl) ?_
    refine lv_ldc (v := (-1000000001 : Int32)) hx hb hown (hts _ q1336) dX4_limit_20 ?_
    obtain ⟨v7, S6, e5, h⟩ := bnd_some h
    refine gc0_i (va_runV (As := [.int (-1000000001 : Int32)]) (rest := []) ⟨hx, hb, hml, hown, hts⟩ (mX4_error (l := l) (D := D) (cA := cA) (o := o) (A := A) (-1000000001 : Int32) S2 e5) (cwV 1 hts (lw_V q1337 q1339 qs30 q90 q1340) rfl rfl rfl (by decide +kernel) ⟨Nat.le_of_ble_eq_true rfl, Nat.le_of_ble_eq_true rfl⟩) (gPreV mKst hK hA hS hP (mRecv hK hP)) rfl rfl hl.1 rfl (lv_room (Nat.le_of_ble_eq_true rfl)) dX4_limit_22 ⟨Nat.zero_le _, Nat.zero_le _⟩) hS (fun H locs hP hS => ?_)
    exact B25 v7 S6 _ _ _ hP hS (lv_sub hl [0] rfl) h
  · have h := ite_f c4 h
    refine lv_aload_n hx hb dX4_limit_10 rfl (lv_at hl 0 rfl) ?_
    refine lv_iconst (v := (4 : Int32)) hx hb dX4_limit_11 (by decide) ?_
    refine lv_iload_n hx hb dX4_limit_12 rfl (lv_at hl 1 rfl) ?_
    obtain ⟨v10, S9, e8, h⟩ := bnd_some h
    refine gc0_i (va_runV (As := [.int (4 : Int32), .int x1]) (rest := []) ⟨hx, hb, hml, hown, hts⟩ (mX4_becomes (l := l) (D := D) (cA := cA) (o := o) (A := A) (4 : Int32) x1 S2 e8) (cwV 2 hts (lw_V q1397 q1399 qs41 q90 q1400) rfl rfl rfl (by decide +kernel) ⟨Nat.le_of_ble_eq_true rfl, Nat.le_of_ble_eq_true rfl⟩) (gPreV mKst hK hA hS hP (mRecv hK hP)) rfl rfl hl.1 rfl (lv_room (Nat.le_of_ble_eq_true rfl)) dX4_limit_13 ⟨Nat.zero_le _, Nat.zero_le _⟩) hS (fun H locs hP hS => ?_)
    refine lv_goto (tgt := 25) hx hb dX4_limit_16 (by decide) ?_
    exact B25 v10 S9 _ _ _ hP hS (lv_sub hl [0] rfl) h

def bX4_limitFor_23 (k23 : Int32 → Int32 → MS → Option (Int32 × MS)) (x1 : Int32) (x2 : Int32) (S : MS) : Option (Int32 × MS) :=
(if (99 : Int32) < x2 then
bnd (fX4_error (-1000000002 : Int32) S) fun v4 S3 =>
some (v4, S3)
else
nm (sIA S 0 (upd (mIA S 0) ((4 : Int32)).toNatClampNeg x2)) fun S5 =>
bnd (fX4_doStay x1 S5) fun v8 S7 =>
(if v8 = 0 then
nm (x2 + (1 : Int32)) fun y10 =>
k23 x1 y10 S7
else
some (x2, S7)))
def lX4_limitFor_23 : Nat → (Int32 → Int32 → MS → Option (Int32 × MS))
  | 0 => fun _ _ _ => none
  | n + 1 => bX4_limitFor_23 (lX4_limitFor_23 n)
def fX4_limitFor (x1 : Int32) (S : MS) : Option (Int32 × MS) :=
bnd (fX4_in x1 (0 : Int32) (40 : Int32) S) fun v13 S12 =>
(if v13 = 0 then
bnd (fX4_error (-1000000001 : Int32) S12) fun v19 S18 =>
some (v19, S18)
else
bn1 (fX4_thinks  S12) fun S16 =>
lX4_limitFor_23 FU x1 (0 : Int32) S16)
set_option maxHeartbeats 4000000 in
set_option maxRecDepth 100000 in
theorem mX4_limitFor {l : Launch} {D : va_G} {cA : Nat → ClassId} {o : Nat → Nat} {A : Nat → Prop} (x1 : Int32) (S : MS) {out : (Int32 × MS)} (h : fX4_limitFor x1 S = some out) : Met l yX4_limitFor (ws_ yX4_limitFor cX4_limitFor 3 (some .int)) ({ frames := 12, cells := 0, slots := 0, locals := 345 } : Room) (gPc (mK D cA) (mP D cA o A) A [.ref (o 24), .int x1] S) (gQi (mK D cA) (mP D cA o A) A out) 0 0 A := by
  refine gMet_z (by decide) (Nat.le_of_ble_eq_true rfl) ?_ mKst
  intro p e s m below meth c Q ls args H locs hC hP hS hl ret
  obtain ⟨hx, hb, hml, hown, hts, hA, hK⟩ := hC
  have hown : s.vm.findClass RX4 = some m.cls := hown
  have hl : lv_has ls 3 [(0, .ref (o 24)), (1, .int x1)] := hl
  have L23 : ∀ (n23 : Nat) (x1 : Int32) (x2 : Int32) (S : MS) (H : Heap) (locs : List Loc) (ls : Array Slot), mP D cA o A S H → va_S A s.heap H locs → lv_has ls 3 [(0, .ref (o 24)), (1, .int x1), (2, .int x2)] → lX4_limitFor_23 n23 x1 x2 S = some out → W p l e ({ frames := 12, cells := 0, slots := 0, locals := 345 } : Room) s m args below meth c H locs 0 0 Q (F0 m 23 ls []) := by
    intro n23
    induction n23 with
    | zero =>
      intro x1 x2 S H locs ls hP hS hl h
      cases h
    | succ n23 ih23 =>
      intro x1 x2 S H locs ls hP hS hl h
      replace h : bX4_limitFor_23 (lX4_limitFor_23 n23) x1 x2 S = some out := h
      unfold bX4_limitFor_23 at h
      refine lv_iload_n hx hb dX4_limitFor_23 rfl (lv_at hl 2 rfl) ?_
      refine lv_bipush (v := (99 : Int32)) hx hb dX4_limitFor_24 (by decide) ?_
      refine lv_icmp_gt (tgt := 52) hx hb dX4_limitFor_26 (by decide) (fun c1 => ?_) (fun c1 => ?_)
      · have h := ite_t c1 h
        refine lv_aload_n hx hb dX4_limitFor_52 rfl (lv_at hl 0 rfl) ?_
        refine lv_ldc (v := (-1000000002 : Int32)) hx hb hown (hts _ q1613) dX4_limitFor_53 ?_
        obtain ⟨v4, S3, e2, h⟩ := bnd_some h
        refine gc0_i (va_runV (As := [.int (-1000000002 : Int32)]) (rest := []) ⟨hx, hb, hml, hown, hts⟩ (mX4_error (l := l) (D := D) (cA := cA) (o := o) (A := A) (-1000000002 : Int32) S e2) (cwV 1 hts (lw_V q1337 q1339 qs30 q90 q1340) rfl rfl rfl (by decide +kernel) ⟨Nat.le_of_ble_eq_true rfl, Nat.le_of_ble_eq_true rfl⟩) (gPreV mKst hK hA hS hP (mRecv hK hP)) rfl rfl hl.1 rfl (lv_room (Nat.le_of_ble_eq_true rfl)) dX4_limitFor_55 ⟨Nat.zero_le _, Nat.zero_le _⟩) hS (fun H locs hP hS => ?_)
        exact ret _ _ _ _ _ _ dX4_limitFor_58 rfl hP hS h
      · have h := ite_f c1 h
        refine lv_aload_n hx hb dX4_limitFor_29 rfl (lv_at hl 0 rfl) ?_
        refine va_get (D := D) (ci := 4) (v := .ref (o 0)) (C := RX4) (T := TX4) (N := 24) hx hb hts in_X4 hown hK hP.1 0 rfl rfl 0 (by decide) (hts _ q1249) (fun _ h9 => h9) rfl dX4_limitFor_30 ?_
        refine lv_iconst (v := (4 : Int32)) hx hb dX4_limitFor_33 (by decide) ?_
        refine lv_iload_n hx hb dX4_limitFor_34 rfl (lv_at hl 2 rfl) ?_
        refine va_iast hx hb hK hP.1 hP.2 hS 1 0 rfl rfl (inB_in (by decide)) dX4_limitFor_35 (fun H locs hP1 hD1 hS => ?_)
        obtain ⟨S5, eS5⟩ : ∃ y : MS, y = (sIA S 0 (upd (mIA S 0) ((4 : Int32)).toNatClampNeg x2)) := ⟨_, rfl⟩
        have hP : mP D cA o A S5 H := by rw [eS5]; exact ⟨hP1, hD1⟩
        have h := nm_at eS5 h
        refine lv_aload_n hx hb dX4_limitFor_36 rfl (lv_at hl 0 rfl) ?_
        refine lv_iload_n hx hb dX4_limitFor_37 rfl (lv_at hl 1 rfl) ?_
        obtain ⟨v8, S7, e6, h⟩ := bnd_some h
        refine gc0_i (va_runV (As := [.int x1]) (rest := []) ⟨hx, hb, hml, hown, hts⟩ (mX4_doStay (l := l) (D := D) (cA := cA) (o := o) (A := A) x1 S5 e6) (cwV 1 hts (lw_V q1618 q1620 qs70 q90 q1621) rfl rfl rfl (by decide +kernel) ⟨Nat.le_of_ble_eq_true rfl, Nat.le_of_ble_eq_true rfl⟩) (gPreV mKst hK hA hS hP (mRecv hK hP)) rfl rfl hl.1 rfl (lv_room (Nat.le_of_ble_eq_true rfl)) dX4_limitFor_38 ⟨Nat.zero_le _, Nat.zero_le _⟩) hS (fun H locs hP hS => ?_)
        refine lv_if_eq (tgt := 46) hx hb dX4_limitFor_41 (by decide) (fun c9 => ?_) (fun c9 => ?_)
        · have h := ite_t c9 h
          obtain ⟨y10, ey10⟩ : ∃ y : Int32, y = x2 + (1 : Int32) := ⟨_, rfl⟩
          refine lv_iinc (v := y10) (lv' := [(2, .int y10), (0, .ref (o 24)), (1, .int x1)]) hx hb dX4_limitFor_46 hl (k := 2) rfl (by rw [ey10]; rfl) (by decide) rfl (fun ls hl => ?_)
          have h := nm_at ey10 h
          refine lv_goto (tgt := 23) hx hb dX4_limitFor_49 (by decide) ?_
          exact ih23 x1 y10 S7 _ _ _ hP hS (lv_sub hl [1, 2, 0] rfl) h
        · have h := ite_f c9 h
          refine lv_iload_n hx hb dX4_limitFor_44 rfl (lv_at hl 2 rfl) ?_
          exact ret _ _ _ _ _ _ dX4_limitFor_45 rfl hP hS h
  unfold fX4_limitFor at h
  refine lv_iload_n hx hb dX4_limitFor_0 rfl (lv_at hl 1 rfl) ?_
  refine lv_iconst (v := (0 : Int32)) hx hb dX4_limitFor_1 (by decide) ?_
  refine lv_bipush (v := (40 : Int32)) hx hb dX4_limitFor_2 (by decide) ?_
  obtain ⟨v13, S12, e11, h⟩ := bnd_some h
  refine gc0_i (va_runS (As := [.int x1, .int (0 : Int32), .int (40 : Int32)]) (rest := []) ⟨hx, hb, hml, hown, hts⟩ (mX4_in (l := l) (D := D) (cA := cA) (o := o) (A := A) x1 (0 : Int32) (40 : Int32) S e11) (va_cwS 3 hts (lw_S q1329 q1330 q90 q1331) rfl rfl rfl (by decide +kernel) ⟨Nat.le_of_ble_eq_true rfl, Nat.le_of_ble_eq_true rfl⟩) (gPreS mKst hK hA hS hP) rfl rfl hl.1 rfl (lv_room (Nat.le_of_ble_eq_true rfl)) dX4_limitFor_4 ⟨Nat.zero_le _, Nat.zero_le _⟩) hS (fun H locs hP hS => ?_)
  refine lv_if_ne (tgt := 17) hx hb dX4_limitFor_7 (by decide) (fun c14 => ?_) (fun c14 => ?_)
  · have h := ite_f c14 h
    refine lv_aload_n hx hb dX4_limitFor_17 rfl (lv_at hl 0 rfl) ?_
    obtain ⟨S16, e15, h⟩ := bn1_some h
    refine gc0_v (va_runV (As := []) (rest := []) ⟨hx, hb, hml, hown, hts⟩ (mX4_thinks (l := l) (D := D) (cA := cA) (o := o) (A := A)  S12 e15) (cwV 0 hts (lw_V q1598 q1600 qs68 q90 q1601) rfl rfl rfl (by decide +kernel) ⟨Nat.le_of_ble_eq_true rfl, Nat.le_of_ble_eq_true rfl⟩) (gPreV mKst hK hA hS hP (mRecv hK hP)) rfl rfl hl.1 rfl (lv_room (Nat.le_of_ble_eq_true rfl)) dX4_limitFor_18 ⟨Nat.zero_le _, Nat.zero_le _⟩) hS (fun H locs hP hS => ?_)
    refine lv_iconst (v := (0 : Int32)) hx hb dX4_limitFor_21 (by decide) ?_
    refine lv_istore_n (lv' := [(2, .int (0 : Int32)), (0, .ref (o 24)), (1, .int x1)]) hx hb dX4_limitFor_22 rfl hl (by decide) rfl (fun ls hl => ?_)
    exact L23 FU x1 (0 : Int32) S16 _ _ _ hP hS (lv_sub hl [1, 2, 0] rfl) h
  · have h := ite_t c14 h
    refine lv_aload_n hx hb dX4_limitFor_10 rfl (lv_at hl 0 rfl) ?_
    refine lv_ldc (v := (-1000000001 : Int32)) hx hb hown (hts _ q1336) dX4_limitFor_11 ?_
    obtain ⟨v19, S18, e17, h⟩ := bnd_some h
    refine gc0_i (va_runV (As := [.int (-1000000001 : Int32)]) (rest := []) ⟨hx, hb, hml, hown, hts⟩ (mX4_error (l := l) (D := D) (cA := cA) (o := o) (A := A) (-1000000001 : Int32) S12 e17) (cwV 1 hts (lw_V q1337 q1339 qs30 q90 q1340) rfl rfl rfl (by decide +kernel) ⟨Nat.le_of_ble_eq_true rfl, Nat.le_of_ble_eq_true rfl⟩) (gPreV mKst hK hA hS hP (mRecv hK hP)) rfl rfl hl.1 rfl (lv_room (Nat.le_of_ble_eq_true rfl)) dX4_limitFor_13 ⟨Nat.zero_le _, Nat.zero_le _⟩) hS (fun H locs hP hS => ?_)
    exact ret _ _ _ _ _ _ dX4_limitFor_16 rfl hP hS h

def bX4_loose_40 (k40 : Int32 → Int32 → MS → Option (Int32 × MS)) (x1 : Int32) (x2 : Int32) (S : MS) : Option (Int32 × MS) :=
(if x1 ≤ x2 then
bnd (fX4_onOnes  S) fun v4 S3 =>
bnd (fX4_bits v4 S3) fun v7 S6 =>
some (v7, S6)
else
bn1 (fX4_drawn  S) fun S9 =>
nm (x2 + (1 : Int32)) fun y10 =>
k40 x1 y10 S9)
def lX4_loose_40 : Nat → (Int32 → Int32 → MS → Option (Int32 × MS))
  | 0 => fun _ _ _ => none
  | n + 1 => bX4_loose_40 (lX4_loose_40 n)
def fX4_loose (x1 : Int32) (S : MS) : Option (Int32 × MS) :=
bnd (fX4_in x1 (1 : Int32) (30 : Int32) S) fun v13 S12 =>
(if v13 = 0 then
bnd (fX4_error (-1000000001 : Int32) S12) fun v21 S20 =>
some (v21, S20)
else
(if ((mIA S12 0 ((0 : Int32)).toNatClampNeg) + x1) ≤ (9999 : Int32) then
lX4_loose_40 FU x1 (0 : Int32) S12
else
bnd (fX4_error (-1000000003 : Int32) S12) fun v18 S17 =>
some (v18, S17)))
set_option maxHeartbeats 4000000 in
set_option maxRecDepth 100000 in
theorem mX4_loose {l : Launch} {D : va_G} {cA : Nat → ClassId} {o : Nat → Nat} {A : Nat → Prop} (x1 : Int32) (S : MS) {out : (Int32 × MS)} (h : fX4_loose x1 S = some out) : Met l yX4_loose (ws_ yX4_loose cX4_loose 3 (some .int)) ({ frames := 12, cells := 0, slots := 0, locals := 342 } : Room) (gPc (mK D cA) (mP D cA o A) A [.ref (o 24), .int x1] S) (gQi (mK D cA) (mP D cA o A) A out) 0 0 A := by
  refine gMet_z (by decide) (Nat.le_of_ble_eq_true rfl) ?_ mKst
  intro p e s m below meth c Q ls args H locs hC hP hS hl ret
  obtain ⟨hx, hb, hml, hown, hts, hA, hK⟩ := hC
  have hown : s.vm.findClass RX4 = some m.cls := hown
  have hl : lv_has ls 3 [(0, .ref (o 24)), (1, .int x1)] := hl
  have L40 : ∀ (n40 : Nat) (x1 : Int32) (x2 : Int32) (S : MS) (H : Heap) (locs : List Loc) (ls : Array Slot), mP D cA o A S H → va_S A s.heap H locs → lv_has ls 3 [(0, .ref (o 24)), (1, .int x1), (2, .int x2)] → lX4_loose_40 n40 x1 x2 S = some out → W p l e ({ frames := 12, cells := 0, slots := 0, locals := 342 } : Room) s m args below meth c H locs 0 0 Q (F0 m 40 ls []) := by
    intro n40
    induction n40 with
    | zero =>
      intro x1 x2 S H locs ls hP hS hl h
      cases h
    | succ n40 ih40 =>
      intro x1 x2 S H locs ls hP hS hl h
      replace h : bX4_loose_40 (lX4_loose_40 n40) x1 x2 S = some out := h
      unfold bX4_loose_40 at h
      refine lv_iload_n hx hb dX4_loose_40 rfl (lv_at hl 2 rfl) ?_
      refine lv_iload_n hx hb dX4_loose_41 rfl (lv_at hl 1 rfl) ?_
      refine lv_icmp_ge (tgt := 55) hx hb dX4_loose_42 (by decide) (fun c1 => ?_) (fun c1 => ?_)
      · have h := ite_t c1 h
        refine lv_aload_n hx hb dX4_loose_55 rfl (lv_at hl 0 rfl) ?_
        obtain ⟨v4, S3, e2, h⟩ := bnd_some h
        refine gc0_i (va_runV (As := []) (rest := []) ⟨hx, hb, hml, hown, hts⟩ (mX4_onOnes (l := l) (D := D) (cA := cA) (o := o) (A := A)  S e2) (cwV 0 hts (lw_V q1500 q1502 qs56 q90 q1503) rfl rfl rfl (by decide +kernel) ⟨Nat.le_of_ble_eq_true rfl, Nat.le_of_ble_eq_true rfl⟩) (gPreV mKst hK hA hS hP (mRecv hK hP)) rfl rfl hl.1 rfl (lv_room (Nat.le_of_ble_eq_true rfl)) dX4_loose_56 ⟨Nat.zero_le _, Nat.zero_le _⟩) hS (fun H locs hP hS => ?_)
        obtain ⟨v7, S6, e5, h⟩ := bnd_some h
        refine gc0_i (va_runS (As := [.int v4]) (rest := []) ⟨hx, hb, hml, hown, hts⟩ (mX4_bits (l := l) (D := D) (cA := cA) (o := o) (A := A) v4 S3 e5) (va_cwS 1 hts (lw_S q1532 q1533 q90 q1534) rfl rfl rfl (by decide +kernel) ⟨Nat.le_of_ble_eq_true rfl, Nat.le_of_ble_eq_true rfl⟩) (gPreS mKst hK hA hS hP) rfl rfl hl.1 rfl (lv_room (Nat.le_of_ble_eq_true rfl)) dX4_loose_59 ⟨Nat.zero_le _, Nat.zero_le _⟩) hS (fun H locs hP hS => ?_)
        exact ret _ _ _ _ _ _ dX4_loose_62 rfl hP hS h
      · have h := ite_f c1 h
        refine lv_aload_n hx hb dX4_loose_45 rfl (lv_at hl 0 rfl) ?_
        obtain ⟨S9, e8, h⟩ := bn1_some h
        refine gc0_v (va_runV (As := []) (rest := []) ⟨hx, hb, hml, hown, hts⟩ (mX4_drawn (l := l) (D := D) (cA := cA) (o := o) (A := A)  S e8) (cwV 0 hts (lw_V q1539 q1541 qs64 q90 q1542) rfl rfl rfl (by decide +kernel) ⟨Nat.le_of_ble_eq_true rfl, Nat.le_of_ble_eq_true rfl⟩) (gPreV mKst hK hA hS hP (mRecv hK hP)) rfl rfl hl.1 rfl (lv_room (Nat.le_of_ble_eq_true rfl)) dX4_loose_46 ⟨Nat.zero_le _, Nat.zero_le _⟩) hS (fun H locs hP hS => ?_)
        obtain ⟨y10, ey10⟩ : ∃ y : Int32, y = x2 + (1 : Int32) := ⟨_, rfl⟩
        refine lv_iinc (v := y10) (lv' := [(2, .int y10), (0, .ref (o 24)), (1, .int x1)]) hx hb dX4_loose_49 hl (k := 2) rfl (by rw [ey10]; rfl) (by decide) rfl (fun ls hl => ?_)
        have h := nm_at ey10 h
        refine lv_goto (tgt := 40) hx hb dX4_loose_52 (by decide) ?_
        exact ih40 x1 y10 S9 _ _ _ hP hS (lv_sub hl [1, 2, 0] rfl) h
  unfold fX4_loose at h
  refine lv_iload_n hx hb dX4_loose_0 rfl (lv_at hl 1 rfl) ?_
  refine lv_iconst (v := (1 : Int32)) hx hb dX4_loose_1 (by decide) ?_
  refine lv_bipush (v := (30 : Int32)) hx hb dX4_loose_2 (by decide) ?_
  obtain ⟨v13, S12, e11, h⟩ := bnd_some h
  refine gc0_i (va_runS (As := [.int x1, .int (1 : Int32), .int (30 : Int32)]) (rest := []) ⟨hx, hb, hml, hown, hts⟩ (mX4_in (l := l) (D := D) (cA := cA) (o := o) (A := A) x1 (1 : Int32) (30 : Int32) S e11) (va_cwS 3 hts (lw_S q1329 q1330 q90 q1331) rfl rfl rfl (by decide +kernel) ⟨Nat.le_of_ble_eq_true rfl, Nat.le_of_ble_eq_true rfl⟩) (gPreS mKst hK hA hS hP) rfl rfl hl.1 rfl (lv_room (Nat.le_of_ble_eq_true rfl)) dX4_loose_4 ⟨Nat.zero_le _, Nat.zero_le _⟩) hS (fun H locs hP hS => ?_)
  refine lv_if_ne (tgt := 17) hx hb dX4_loose_7 (by decide) (fun c14 => ?_) (fun c14 => ?_)
  · have h := ite_f c14 h
    refine lv_aload_n hx hb dX4_loose_17 rfl (lv_at hl 0 rfl) ?_
    refine va_get (D := D) (ci := 4) (v := .ref (o 0)) (C := RX4) (T := TX4) (N := 24) hx hb hts in_X4 hown hK hP.1 0 rfl rfl 0 (by decide) (hts _ q1249) (fun _ h9 => h9) rfl dX4_loose_18 ?_
    refine lv_iconst (v := (0 : Int32)) hx hb dX4_loose_21 (by decide) ?_
    refine va_iald hx hb hK hP.1 1 0 rfl rfl (inB_in (by decide)) dX4_loose_22 ?_
    refine lv_iload_n hx hb dX4_loose_23 rfl (lv_at hl 1 rfl) ?_
    refine lv_iadd hx hb dX4_loose_24 ?_
    refine lv_sipush (v := (9999 : Int32)) hx hb dX4_loose_25 (by decide) ?_
    refine lv_icmp_le (tgt := 38) hx hb dX4_loose_28 (by decide) (fun c15 => ?_) (fun c15 => ?_)
    · have h := ite_t c15 h
      refine lv_iconst (v := (0 : Int32)) hx hb dX4_loose_38 (by decide) ?_
      refine lv_istore_n (lv' := [(2, .int (0 : Int32)), (0, .ref (o 24)), (1, .int x1)]) hx hb dX4_loose_39 rfl hl (by decide) rfl (fun ls hl => ?_)
      exact L40 FU x1 (0 : Int32) S12 _ _ _ hP hS (lv_sub hl [1, 2, 0] rfl) h
    · have h := ite_f c15 h
      refine lv_aload_n hx hb dX4_loose_31 rfl (lv_at hl 0 rfl) ?_
      refine lv_ldc (v := (-1000000003 : Int32)) hx hb hown (hts _ q1418) dX4_loose_32 ?_
      obtain ⟨v18, S17, e16, h⟩ := bnd_some h
      refine gc0_i (va_runV (As := [.int (-1000000003 : Int32)]) (rest := []) ⟨hx, hb, hml, hown, hts⟩ (mX4_error (l := l) (D := D) (cA := cA) (o := o) (A := A) (-1000000003 : Int32) S12 e16) (cwV 1 hts (lw_V q1337 q1339 qs30 q90 q1340) rfl rfl rfl (by decide +kernel) ⟨Nat.le_of_ble_eq_true rfl, Nat.le_of_ble_eq_true rfl⟩) (gPreV mKst hK hA hS hP (mRecv hK hP)) rfl rfl hl.1 rfl (lv_room (Nat.le_of_ble_eq_true rfl)) dX4_loose_34 ⟨Nat.zero_le _, Nat.zero_le _⟩) hS (fun H locs hP hS => ?_)
      exact ret _ _ _ _ _ _ dX4_loose_37 rfl hP hS h
  · have h := ite_t c14 h
    refine lv_aload_n hx hb dX4_loose_10 rfl (lv_at hl 0 rfl) ?_
    refine lv_ldc (v := (-1000000001 : Int32)) hx hb hown (hts _ q1336) dX4_loose_11 ?_
    obtain ⟨v21, S20, e19, h⟩ := bnd_some h
    refine gc0_i (va_runV (As := [.int (-1000000001 : Int32)]) (rest := []) ⟨hx, hb, hml, hown, hts⟩ (mX4_error (l := l) (D := D) (cA := cA) (o := o) (A := A) (-1000000001 : Int32) S12 e19) (cwV 1 hts (lw_V q1337 q1339 qs30 q90 q1340) rfl rfl rfl (by decide +kernel) ⟨Nat.le_of_ble_eq_true rfl, Nat.le_of_ble_eq_true rfl⟩) (gPreV mKst hK hA hS hP (mRecv hK hP)) rfl rfl hl.1 rfl (lv_room (Nat.le_of_ble_eq_true rfl)) dX4_loose_13 ⟨Nat.zero_le _, Nat.zero_le _⟩) hS (fun H locs hP hS => ?_)
    exact ret _ _ _ _ _ _ dX4_loose_16 rfl hP hS h

def bX4_mark_45 (S : MS) : Option (Int32 × MS) :=
bnd (fX4_error (-1000000001 : Int32) S) fun v3 S2 =>
some (v3, S2)
def bX4_mark_20 (x1 : Int32) (x2 : Int32) (x3 : Int32) (x4 : Int32) (S : MS) : Option (Int32 × MS) :=
bnd (fX4_isPicture x3 S) fun v6 S5 =>
(if v6 = 0 then
bX4_mark_45 S5
else
(if x2 = x3 then
bX4_mark_45 S5
else
bnd (fX4_in x4 (-20 : Int32) (20 : Int32) S5) fun v11 S10 =>
(if v11 = 0 then
bX4_mark_45 S10
else
nm (mIA S10 0 ((2 : Int32)).toNatClampNeg) fun y13 =>
(if y13 = (8 : Int32) then
bnd (fX4_error (-1000000004 : Int32) S10) fun v30 S29 =>
some (v30, S29)
else
nm (sIA S10 0 (upd (mIA S10 0) ((2 : Int32)).toNatClampNeg ((mIA S10 0 ((2 : Int32)).toNatClampNeg) + (1 : Int32)))) fun S15 =>
bn1 (fX4_puts y13 (0 : Int32) (x1 / (10 : Int32)) S15) fun S17 =>
bn1 (fX4_puts y13 (1 : Int32) (x1 - x1 / (10 : Int32) * (10 : Int32)) S17) fun S19 =>
bn1 (fX4_puts y13 (2 : Int32) x2 S19) fun S21 =>
bn1 (fX4_puts y13 (3 : Int32) x3 S21) fun S23 =>
bn1 (fX4_puts y13 (4 : Int32) x4 S23) fun S25 =>
bn1 (fX4_puts y13 (5 : Int32) (1 : Int32) S25) fun S27 =>
some (y13, S27)))))
def fX4_mark (x1 : Int32) (x2 : Int32) (x3 : Int32) (x4 : Int32) (S : MS) : Option (Int32 × MS) :=
bnd (fX4_isKm x1 S) fun v33 S32 =>
(if v33 = 0 then
bX4_mark_45 S32
else
(if x2 = (-1 : Int32) then
bX4_mark_20 x1 x2 x3 x4 S32
else
bnd (fX4_isPicture x2 S32) fun v38 S37 =>
(if v38 = 0 then
bX4_mark_45 S37
else
bX4_mark_20 x1 x2 x3 x4 S37)))
set_option maxHeartbeats 4000000 in
set_option maxRecDepth 100000 in
theorem mX4_mark {l : Launch} {D : va_G} {cA : Nat → ClassId} {o : Nat → Nat} {A : Nat → Prop} (x1 : Int32) (x2 : Int32) (x3 : Int32) (x4 : Int32) (S : MS) {out : (Int32 × MS)} (h : fX4_mark x1 x2 x3 x4 S = some out) : Met l yX4_mark (ws_ yX4_mark cX4_mark 6 (some .int)) ({ frames := 2, cells := 0, slots := 0, locals := 43 } : Room) (gPc (mK D cA) (mP D cA o A) A [.ref (o 24), .int x1, .int x2, .int x3, .int x4] S) (gQi (mK D cA) (mP D cA o A) A out) 0 0 A := by
  refine gMet_z (by decide) (Nat.le_of_ble_eq_true rfl) ?_ mKst
  intro p e s m below meth c Q ls args H locs hC hP hS hl ret
  obtain ⟨hx, hb, hml, hown, hts, hA, hK⟩ := hC
  have hown : s.vm.findClass RX4 = some m.cls := hown
  have hl : lv_has ls 6 [(0, .ref (o 24)), (1, .int x1), (2, .int x2), (3, .int x3), (4, .int x4)] := hl
  have B45 : ∀  (S : MS) (H : Heap) (locs : List Loc) (ls : Array Slot), mP D cA o A S H → va_S A s.heap H locs → lv_has ls 6 [(0, .ref (o 24))] → bX4_mark_45   S = some out → W p l e ({ frames := 2, cells := 0, slots := 0, locals := 43 } : Room) s m args below meth c H locs 0 0 Q (F0 m 45 ls []) := by
    intro  S H locs ls hP hS hl h
    unfold bX4_mark_45 at h
    refine lv_aload_n hx hb dX4_mark_45 rfl (lv_at hl 0 rfl) ?_
    refine lv_ldc (v := (-1000000001 : Int32)) hx hb hown (hts _ q1336) dX4_mark_46 ?_
    obtain ⟨v3, S2, e1, h⟩ := bnd_some h
    refine gc0_i (va_runV (As := [.int (-1000000001 : Int32)]) (rest := []) ⟨hx, hb, hml, hown, hts⟩ (mX4_error (l := l) (D := D) (cA := cA) (o := o) (A := A) (-1000000001 : Int32) S e1) (cwV 1 hts (lw_V q1337 q1339 qs30 q90 q1340) rfl rfl rfl (by decide +kernel) ⟨Nat.le_of_ble_eq_true rfl, Nat.le_of_ble_eq_true rfl⟩) (gPreV mKst hK hA hS hP (mRecv hK hP)) rfl rfl hl.1 rfl (lv_room (Nat.le_of_ble_eq_true rfl)) dX4_mark_48 ⟨Nat.zero_le _, Nat.zero_le _⟩) hS (fun H locs hP hS => ?_)
    exact ret _ _ _ _ _ _ dX4_mark_51 rfl hP hS h
  have B20 : ∀ (x1 : Int32) (x2 : Int32) (x3 : Int32) (x4 : Int32) (S : MS) (H : Heap) (locs : List Loc) (ls : Array Slot), mP D cA o A S H → va_S A s.heap H locs → lv_has ls 6 [(0, .ref (o 24)), (1, .int x1), (2, .int x2), (3, .int x3), (4, .int x4)] → bX4_mark_20  x1 x2 x3 x4 S = some out → W p l e ({ frames := 2, cells := 0, slots := 0, locals := 43 } : Room) s m args below meth c H locs 0 0 Q (F0 m 20 ls []) := by
    intro x1 x2 x3 x4 S H locs ls hP hS hl h
    unfold bX4_mark_20 at h
    refine lv_aload_n hx hb dX4_mark_20 rfl (lv_at hl 0 rfl) ?_
    refine lv_iload_n hx hb dX4_mark_21 rfl (lv_at hl 3 rfl) ?_
    obtain ⟨v6, S5, e4, h⟩ := bnd_some h
    refine gc0_i (va_runV (As := [.int x3]) (rest := []) ⟨hx, hb, hml, hown, hts⟩ (mX4_isPicture (l := l) (D := D) (cA := cA) (o := o) (A := A) x3 S e4) (cwV 1 hts (lw_V q1332 q1334 qs29 q90 q1335) rfl rfl rfl (by decide +kernel) ⟨Nat.le_of_ble_eq_true rfl, Nat.le_of_ble_eq_true rfl⟩) (gPreV mKst hK hA hS hP (mRecv hK hP)) rfl rfl hl.1 rfl (lv_room (Nat.le_of_ble_eq_true rfl)) dX4_mark_22 ⟨Nat.zero_le _, Nat.zero_le _⟩) hS (fun H locs hP hS => ?_)
    refine lv_if_eq (tgt := 45) hx hb dX4_mark_25 (by decide) (fun c7 => ?_) (fun c7 => ?_)
    · have h := ite_t c7 h
      exact B45 S5 _ _ _ hP hS (lv_sub hl [0] rfl) h
    · have h := ite_f c7 h
      refine lv_iload_n hx hb dX4_mark_28 rfl (lv_at hl 2 rfl) ?_
      refine lv_iload_n hx hb dX4_mark_29 rfl (lv_at hl 3 rfl) ?_
      refine lv_icmp_eq (tgt := 45) hx hb dX4_mark_30 (by decide) (fun c8 => ?_) (fun c8 => ?_)
      · have h := ite_t c8 h
        exact B45 S5 _ _ _ hP hS (lv_sub hl [0] rfl) h
      · have h := ite_f c8 h
        refine lv_iload hx hb dX4_mark_33 (lv_at hl 4 rfl) ?_
        refine lv_bipush (v := (-20 : Int32)) hx hb dX4_mark_35 (by decide) ?_
        refine lv_bipush (v := (20 : Int32)) hx hb dX4_mark_37 (by decide) ?_
        obtain ⟨v11, S10, e9, h⟩ := bnd_some h
        refine gc0_i (va_runS (As := [.int x4, .int (-20 : Int32), .int (20 : Int32)]) (rest := []) ⟨hx, hb, hml, hown, hts⟩ (mX4_in (l := l) (D := D) (cA := cA) (o := o) (A := A) x4 (-20 : Int32) (20 : Int32) S5 e9) (va_cwS 3 hts (lw_S q1329 q1330 q90 q1331) rfl rfl rfl (by decide +kernel) ⟨Nat.le_of_ble_eq_true rfl, Nat.le_of_ble_eq_true rfl⟩) (gPreS mKst hK hA hS hP) rfl rfl hl.1 rfl (lv_room (Nat.le_of_ble_eq_true rfl)) dX4_mark_39 ⟨Nat.zero_le _, Nat.zero_le _⟩) hS (fun H locs hP hS => ?_)
        refine lv_if_ne (tgt := 52) hx hb dX4_mark_42 (by decide) (fun c12 => ?_) (fun c12 => ?_)
        · have h := ite_f c12 h
          refine lv_aload_n hx hb dX4_mark_52 rfl (lv_at hl 0 rfl) ?_
          refine va_get (D := D) (ci := 4) (v := .ref (o 0)) (C := RX4) (T := TX4) (N := 24) hx hb hts in_X4 hown hK hP.1 0 rfl rfl 0 (by decide) (hts _ q1249) (fun _ h9 => h9) rfl dX4_mark_53 ?_
          refine lv_iconst (v := (2 : Int32)) hx hb dX4_mark_56 (by decide) ?_
          refine va_iald hx hb hK hP.1 1 0 rfl rfl (inB_in (by decide)) dX4_mark_57 ?_
          refine lv_topi (fun y13 ey13 => ?_)
          have h := nm_at ey13 h
          refine lv_istore (lv' := [(5, .int y13), (0, .ref (o 24)), (1, .int x1), (2, .int x2), (3, .int x3), (4, .int x4)]) hx hb dX4_mark_58 hl (by decide) rfl (fun ls hl => ?_)
          refine lv_iload hx hb dX4_mark_60 (lv_at hl 0 rfl) ?_
          refine lv_bipush (v := (8 : Int32)) hx hb dX4_mark_62 (by decide) ?_
          refine lv_icmp_ne (tgt := 74) hx hb dX4_mark_64 (by decide) (fun c14 => ?_) (fun c14 => ?_)
          · have h := ite_f c14 h
            refine lv_aload_n hx hb dX4_mark_74 rfl (lv_at hl 1 rfl) ?_
            refine va_get (D := D) (ci := 4) (v := .ref (o 0)) (C := RX4) (T := TX4) (N := 24) hx hb hts in_X4 hown hK hP.1 0 rfl rfl 0 (by decide) (hts _ q1249) (fun _ h9 => h9) rfl dX4_mark_75 ?_
            refine lv_iconst (v := (2 : Int32)) hx hb dX4_mark_78 (by decide) ?_
            refine lv_dup2_11 hx hb dX4_mark_79 rfl rfl ?_
            refine va_iald hx hb hK hP.1 1 0 rfl rfl (inB_in (by decide)) dX4_mark_80 ?_
            refine lv_iconst (v := (1 : Int32)) hx hb dX4_mark_81 (by decide) ?_
            refine lv_iadd hx hb dX4_mark_82 ?_
            refine va_iast hx hb hK hP.1 hP.2 hS 1 0 rfl rfl (inB_in (by decide)) dX4_mark_83 (fun H locs hP1 hD1 hS => ?_)
            obtain ⟨S15, eS15⟩ : ∃ y : MS, y = (sIA S10 0 (upd (mIA S10 0) ((2 : Int32)).toNatClampNeg ((mIA S10 0 ((2 : Int32)).toNatClampNeg) + (1 : Int32)))) := ⟨_, rfl⟩
            have hP : mP D cA o A S15 H := by rw [eS15]; exact ⟨hP1, hD1⟩
            have h := nm_at eS15 h
            refine lv_aload_n hx hb dX4_mark_84 rfl (lv_at hl 1 rfl) ?_
            refine lv_iload hx hb dX4_mark_85 (lv_at hl 0 rfl) ?_
            refine lv_iconst (v := (0 : Int32)) hx hb dX4_mark_87 (by decide) ?_
            refine lv_iload_n hx hb dX4_mark_88 rfl (lv_at hl 2 rfl) ?_
            refine lv_bipush (v := (10 : Int32)) hx hb dX4_mark_89 (by decide) ?_
            refine lv_idiv hx hb dX4_mark_91 (by decide) ?_
            obtain ⟨S17, e16, h⟩ := bn1_some h
            refine gc0_v (va_runV (As := [.int y13, .int (0 : Int32), .int (x1 / (10 : Int32))]) (rest := []) ⟨hx, hb, hml, hown, hts⟩ (mX4_puts (l := l) (D := D) (cA := cA) (o := o) (A := A) y13 (0 : Int32) (x1 / (10 : Int32)) S15 e16) (cwV 3 hts (lw_V q1343 q1345 qs31 q90 q1346) rfl rfl rfl (by decide +kernel) ⟨Nat.le_of_ble_eq_true rfl, Nat.le_of_ble_eq_true rfl⟩) (gPreV mKst hK hA hS hP (mRecv hK hP)) rfl rfl hl.1 rfl (lv_room (Nat.le_of_ble_eq_true rfl)) dX4_mark_92 ⟨Nat.zero_le _, Nat.zero_le _⟩) hS (fun H locs hP hS => ?_)
            refine lv_aload_n hx hb dX4_mark_95 rfl (lv_at hl 1 rfl) ?_
            refine lv_iload hx hb dX4_mark_96 (lv_at hl 0 rfl) ?_
            refine lv_iconst (v := (1 : Int32)) hx hb dX4_mark_98 (by decide) ?_
            refine lv_iload_n hx hb dX4_mark_99 rfl (lv_at hl 2 rfl) ?_
            refine lv_bipush (v := (10 : Int32)) hx hb dX4_mark_100 (by decide) ?_
            refine lv_irem hx hb dX4_mark_102 (by decide) ?_
            obtain ⟨S19, e18, h⟩ := bn1_some h
            refine gc0_v (va_runV (As := [.int y13, .int (1 : Int32), .int (x1 - x1 / (10 : Int32) * (10 : Int32))]) (rest := []) ⟨hx, hb, hml, hown, hts⟩ (mX4_puts (l := l) (D := D) (cA := cA) (o := o) (A := A) y13 (1 : Int32) (x1 - x1 / (10 : Int32) * (10 : Int32)) S17 e18) (cwV 3 hts (lw_V q1343 q1345 qs31 q90 q1346) rfl rfl rfl (by decide +kernel) ⟨Nat.le_of_ble_eq_true rfl, Nat.le_of_ble_eq_true rfl⟩) (gPreV mKst hK hA hS hP (mRecv hK hP)) rfl rfl hl.1 rfl (lv_room (Nat.le_of_ble_eq_true rfl)) dX4_mark_103 ⟨Nat.zero_le _, Nat.zero_le _⟩) hS (fun H locs hP hS => ?_)
            refine lv_aload_n hx hb dX4_mark_106 rfl (lv_at hl 1 rfl) ?_
            refine lv_iload hx hb dX4_mark_107 (lv_at hl 0 rfl) ?_
            refine lv_iconst (v := (2 : Int32)) hx hb dX4_mark_109 (by decide) ?_
            refine lv_iload_n hx hb dX4_mark_110 rfl (lv_at hl 3 rfl) ?_
            obtain ⟨S21, e20, h⟩ := bn1_some h
            refine gc0_v (va_runV (As := [.int y13, .int (2 : Int32), .int x2]) (rest := []) ⟨hx, hb, hml, hown, hts⟩ (mX4_puts (l := l) (D := D) (cA := cA) (o := o) (A := A) y13 (2 : Int32) x2 S19 e20) (cwV 3 hts (lw_V q1343 q1345 qs31 q90 q1346) rfl rfl rfl (by decide +kernel) ⟨Nat.le_of_ble_eq_true rfl, Nat.le_of_ble_eq_true rfl⟩) (gPreV mKst hK hA hS hP (mRecv hK hP)) rfl rfl hl.1 rfl (lv_room (Nat.le_of_ble_eq_true rfl)) dX4_mark_111 ⟨Nat.zero_le _, Nat.zero_le _⟩) hS (fun H locs hP hS => ?_)
            refine lv_aload_n hx hb dX4_mark_114 rfl (lv_at hl 1 rfl) ?_
            refine lv_iload hx hb dX4_mark_115 (lv_at hl 0 rfl) ?_
            refine lv_iconst (v := (3 : Int32)) hx hb dX4_mark_117 (by decide) ?_
            refine lv_iload_n hx hb dX4_mark_118 rfl (lv_at hl 4 rfl) ?_
            obtain ⟨S23, e22, h⟩ := bn1_some h
            refine gc0_v (va_runV (As := [.int y13, .int (3 : Int32), .int x3]) (rest := []) ⟨hx, hb, hml, hown, hts⟩ (mX4_puts (l := l) (D := D) (cA := cA) (o := o) (A := A) y13 (3 : Int32) x3 S21 e22) (cwV 3 hts (lw_V q1343 q1345 qs31 q90 q1346) rfl rfl rfl (by decide +kernel) ⟨Nat.le_of_ble_eq_true rfl, Nat.le_of_ble_eq_true rfl⟩) (gPreV mKst hK hA hS hP (mRecv hK hP)) rfl rfl hl.1 rfl (lv_room (Nat.le_of_ble_eq_true rfl)) dX4_mark_119 ⟨Nat.zero_le _, Nat.zero_le _⟩) hS (fun H locs hP hS => ?_)
            refine lv_aload_n hx hb dX4_mark_122 rfl (lv_at hl 1 rfl) ?_
            refine lv_iload hx hb dX4_mark_123 (lv_at hl 0 rfl) ?_
            refine lv_iconst (v := (4 : Int32)) hx hb dX4_mark_125 (by decide) ?_
            refine lv_iload hx hb dX4_mark_126 (lv_at hl 5 rfl) ?_
            obtain ⟨S25, e24, h⟩ := bn1_some h
            refine gc0_v (va_runV (As := [.int y13, .int (4 : Int32), .int x4]) (rest := []) ⟨hx, hb, hml, hown, hts⟩ (mX4_puts (l := l) (D := D) (cA := cA) (o := o) (A := A) y13 (4 : Int32) x4 S23 e24) (cwV 3 hts (lw_V q1343 q1345 qs31 q90 q1346) rfl rfl rfl (by decide +kernel) ⟨Nat.le_of_ble_eq_true rfl, Nat.le_of_ble_eq_true rfl⟩) (gPreV mKst hK hA hS hP (mRecv hK hP)) rfl rfl hl.1 rfl (lv_room (Nat.le_of_ble_eq_true rfl)) dX4_mark_128 ⟨Nat.zero_le _, Nat.zero_le _⟩) hS (fun H locs hP hS => ?_)
            refine lv_aload_n hx hb dX4_mark_131 rfl (lv_at hl 1 rfl) ?_
            refine lv_iload hx hb dX4_mark_132 (lv_at hl 0 rfl) ?_
            refine lv_iconst (v := (5 : Int32)) hx hb dX4_mark_134 (by decide) ?_
            refine lv_iconst (v := (1 : Int32)) hx hb dX4_mark_135 (by decide) ?_
            obtain ⟨S27, e26, h⟩ := bn1_some h
            refine gc0_v (va_runV (As := [.int y13, .int (5 : Int32), .int (1 : Int32)]) (rest := []) ⟨hx, hb, hml, hown, hts⟩ (mX4_puts (l := l) (D := D) (cA := cA) (o := o) (A := A) y13 (5 : Int32) (1 : Int32) S25 e26) (cwV 3 hts (lw_V q1343 q1345 qs31 q90 q1346) rfl rfl rfl (by decide +kernel) ⟨Nat.le_of_ble_eq_true rfl, Nat.le_of_ble_eq_true rfl⟩) (gPreV mKst hK hA hS hP (mRecv hK hP)) rfl rfl hl.1 rfl (lv_room (Nat.le_of_ble_eq_true rfl)) dX4_mark_136 ⟨Nat.zero_le _, Nat.zero_le _⟩) hS (fun H locs hP hS => ?_)
            refine lv_iload hx hb dX4_mark_139 (lv_at hl 0 rfl) ?_
            exact ret _ _ _ _ _ _ dX4_mark_141 rfl hP hS h
          · have h := ite_t c14 h
            refine lv_aload_n hx hb dX4_mark_67 rfl (lv_at hl 1 rfl) ?_
            refine lv_ldc (v := (-1000000004 : Int32)) hx hb hown (hts _ q1342) dX4_mark_68 ?_
            obtain ⟨v30, S29, e28, h⟩ := bnd_some h
            refine gc0_i (va_runV (As := [.int (-1000000004 : Int32)]) (rest := []) ⟨hx, hb, hml, hown, hts⟩ (mX4_error (l := l) (D := D) (cA := cA) (o := o) (A := A) (-1000000004 : Int32) S10 e28) (cwV 1 hts (lw_V q1337 q1339 qs30 q90 q1340) rfl rfl rfl (by decide +kernel) ⟨Nat.le_of_ble_eq_true rfl, Nat.le_of_ble_eq_true rfl⟩) (gPreV mKst hK hA hS hP (mRecv hK hP)) rfl rfl hl.1 rfl (lv_room (Nat.le_of_ble_eq_true rfl)) dX4_mark_70 ⟨Nat.zero_le _, Nat.zero_le _⟩) hS (fun H locs hP hS => ?_)
            exact ret _ _ _ _ _ _ dX4_mark_73 rfl hP hS h
        · have h := ite_t c12 h
          exact B45 S10 _ _ _ hP hS (lv_sub hl [0] rfl) h
  unfold fX4_mark at h
  refine lv_iload_n hx hb dX4_mark_0 rfl (lv_at hl 1 rfl) ?_
  obtain ⟨v33, S32, e31, h⟩ := bnd_some h
  refine gc0_i (va_runS (As := [.int x1]) (rest := []) ⟨hx, hb, hml, hown, hts⟩ (mX4_isKm (l := l) (D := D) (cA := cA) (o := o) (A := A) x1 S e31) (va_cwS 1 hts (lw_S q1326 q1327 q90 q1328) rfl rfl rfl (by decide +kernel) ⟨Nat.le_of_ble_eq_true rfl, Nat.le_of_ble_eq_true rfl⟩) (gPreS mKst hK hA hS hP) rfl rfl hl.1 rfl (lv_room (Nat.le_of_ble_eq_true rfl)) dX4_mark_1 ⟨Nat.zero_le _, Nat.zero_le _⟩) hS (fun H locs hP hS => ?_)
  refine lv_if_eq (tgt := 45) hx hb dX4_mark_4 (by decide) (fun c34 => ?_) (fun c34 => ?_)
  · have h := ite_t c34 h
    exact B45 S32 _ _ _ hP hS (lv_sub hl [0] rfl) h
  · have h := ite_f c34 h
    refine lv_iload_n hx hb dX4_mark_7 rfl (lv_at hl 2 rfl) ?_
    refine lv_iconst (v := (-1 : Int32)) hx hb dX4_mark_8 (by decide) ?_
    refine lv_icmp_eq (tgt := 20) hx hb dX4_mark_9 (by decide) (fun c35 => ?_) (fun c35 => ?_)
    · have h := ite_t c35 h
      exact B20 x1 x2 x3 x4 S32 _ _ _ hP hS hl h
    · have h := ite_f c35 h
      refine lv_aload_n hx hb dX4_mark_12 rfl (lv_at hl 0 rfl) ?_
      refine lv_iload_n hx hb dX4_mark_13 rfl (lv_at hl 2 rfl) ?_
      obtain ⟨v38, S37, e36, h⟩ := bnd_some h
      refine gc0_i (va_runV (As := [.int x2]) (rest := []) ⟨hx, hb, hml, hown, hts⟩ (mX4_isPicture (l := l) (D := D) (cA := cA) (o := o) (A := A) x2 S32 e36) (cwV 1 hts (lw_V q1332 q1334 qs29 q90 q1335) rfl rfl rfl (by decide +kernel) ⟨Nat.le_of_ble_eq_true rfl, Nat.le_of_ble_eq_true rfl⟩) (gPreV mKst hK hA hS hP (mRecv hK hP)) rfl rfl hl.1 rfl (lv_room (Nat.le_of_ble_eq_true rfl)) dX4_mark_14 ⟨Nat.zero_le _, Nat.zero_le _⟩) hS (fun H locs hP hS => ?_)
      refine lv_if_eq (tgt := 45) hx hb dX4_mark_17 (by decide) (fun c39 => ?_) (fun c39 => ?_)
      · have h := ite_t c39 h
        exact B45 S37 _ _ _ hP hS (lv_sub hl [0] rfl) h
      · have h := ite_f c39 h
        exact B20 x1 x2 x3 x4 S37 _ _ _ hP hS hl h

def bX4_markIs_18 (S : MS) : Option (Int32 × MS) :=
bnd (fX4_error (-1000000001 : Int32) S) fun v3 S2 =>
some (v3, S2)
def bX4_markIs_59 (t0 : Int32) (S : MS) : Option (Int32 × MS) :=
some (t0, S)
def fX4_markIs (x1 : Int32) (x2 : Int32) (S : MS) : Option (Int32 × MS) :=
bnd (fX4_isMark x1 S) fun v6 S5 =>
(if v6 = 0 then
bX4_markIs_18 S5
else
bnd (fX4_in x2 (0 : Int32) (7 : Int32) S5) fun v10 S9 =>
(if v10 = 0 then
bX4_markIs_18 S9
else
(if (6 : Int32) ≤ x2 then
(if x2 = (6 : Int32) then
bnd (fX4_weight x1 S9) fun v19 S18 =>
bX4_markIs_59 v19 S18
else
bnd (fX4_saysOf x1 S9) fun v16 S15 =>
bX4_markIs_59 v16 S15)
else
bnd (fX4_of x1 x2 S9) fun v22 S21 =>
bX4_markIs_59 v22 S21)))
set_option maxHeartbeats 4000000 in
set_option maxRecDepth 100000 in
theorem mX4_markIs {l : Launch} {D : va_G} {cA : Nat → ClassId} {o : Nat → Nat} {A : Nat → Prop} (x1 : Int32) (x2 : Int32) (S : MS) {out : (Int32 × MS)} (h : fX4_markIs x1 x2 S = some out) : Met l yX4_markIs (ws_ yX4_markIs cX4_markIs 3 (some .int)) ({ frames := 4, cells := 0, slots := 0, locals := 93 } : Room) (gPc (mK D cA) (mP D cA o A) A [.ref (o 24), .int x1, .int x2] S) (gQi (mK D cA) (mP D cA o A) A out) 0 0 A := by
  refine gMet_z (by decide) (Nat.le_of_ble_eq_true rfl) ?_ mKst
  intro p e s m below meth c Q ls args H locs hC hP hS hl ret
  obtain ⟨hx, hb, hml, hown, hts, hA, hK⟩ := hC
  have hown : s.vm.findClass RX4 = some m.cls := hown
  have hl : lv_has ls 3 [(0, .ref (o 24)), (1, .int x1), (2, .int x2)] := hl
  have B18 : ∀  (S : MS) (H : Heap) (locs : List Loc) (ls : Array Slot), mP D cA o A S H → va_S A s.heap H locs → lv_has ls 3 [(0, .ref (o 24))] → bX4_markIs_18   S = some out → W p l e ({ frames := 4, cells := 0, slots := 0, locals := 93 } : Room) s m args below meth c H locs 0 0 Q (F0 m 18 ls []) := by
    intro  S H locs ls hP hS hl h
    unfold bX4_markIs_18 at h
    refine lv_aload_n hx hb dX4_markIs_18 rfl (lv_at hl 0 rfl) ?_
    refine lv_ldc (v := (-1000000001 : Int32)) hx hb hown (hts _ q1336) dX4_markIs_19 ?_
    obtain ⟨v3, S2, e1, h⟩ := bnd_some h
    refine gc0_i (va_runV (As := [.int (-1000000001 : Int32)]) (rest := []) ⟨hx, hb, hml, hown, hts⟩ (mX4_error (l := l) (D := D) (cA := cA) (o := o) (A := A) (-1000000001 : Int32) S e1) (cwV 1 hts (lw_V q1337 q1339 qs30 q90 q1340) rfl rfl rfl (by decide +kernel) ⟨Nat.le_of_ble_eq_true rfl, Nat.le_of_ble_eq_true rfl⟩) (gPreV mKst hK hA hS hP (mRecv hK hP)) rfl rfl hl.1 rfl (lv_room (Nat.le_of_ble_eq_true rfl)) dX4_markIs_21 ⟨Nat.zero_le _, Nat.zero_le _⟩) hS (fun H locs hP hS => ?_)
    exact ret _ _ _ _ _ _ dX4_markIs_24 rfl hP hS h
  have B59 : ∀ (t0 : Int32) (S : MS) (H : Heap) (locs : List Loc) (ls : Array Slot), mP D cA o A S H → va_S A s.heap H locs → lv_has ls 3 [(0, .ref (o 24))] → bX4_markIs_59  t0 S = some out → W p l e ({ frames := 4, cells := 0, slots := 0, locals := 93 } : Room) s m args below meth c H locs 0 0 Q (F0 m 59 ls [.int t0]) := by
    intro t0 S H locs ls hP hS hl h
    unfold bX4_markIs_59 at h
    exact ret _ _ _ _ _ _ dX4_markIs_59 rfl hP hS h
  unfold fX4_markIs at h
  refine lv_aload_n hx hb dX4_markIs_0 rfl (lv_at hl 0 rfl) ?_
  refine lv_iload_n hx hb dX4_markIs_1 rfl (lv_at hl 1 rfl) ?_
  obtain ⟨v6, S5, e4, h⟩ := bnd_some h
  refine gc0_i (va_runV (As := [.int x1]) (rest := []) ⟨hx, hb, hml, hown, hts⟩ (mX4_isMark (l := l) (D := D) (cA := cA) (o := o) (A := A) x1 S e4) (cwV 1 hts (lw_V q1351 q1353 qs32 q90 q1354) rfl rfl rfl (by decide +kernel) ⟨Nat.le_of_ble_eq_true rfl, Nat.le_of_ble_eq_true rfl⟩) (gPreV mKst hK hA hS hP (mRecv hK hP)) rfl rfl hl.1 rfl (lv_room (Nat.le_of_ble_eq_true rfl)) dX4_markIs_2 ⟨Nat.zero_le _, Nat.zero_le _⟩) hS (fun H locs hP hS => ?_)
  refine lv_if_eq (tgt := 18) hx hb dX4_markIs_5 (by decide) (fun c7 => ?_) (fun c7 => ?_)
  · have h := ite_t c7 h
    exact B18 S5 _ _ _ hP hS (lv_sub hl [0] rfl) h
  · have h := ite_f c7 h
    refine lv_iload_n hx hb dX4_markIs_8 rfl (lv_at hl 2 rfl) ?_
    refine lv_iconst (v := (0 : Int32)) hx hb dX4_markIs_9 (by decide) ?_
    refine lv_bipush (v := (7 : Int32)) hx hb dX4_markIs_10 (by decide) ?_
    obtain ⟨v10, S9, e8, h⟩ := bnd_some h
    refine gc0_i (va_runS (As := [.int x2, .int (0 : Int32), .int (7 : Int32)]) (rest := []) ⟨hx, hb, hml, hown, hts⟩ (mX4_in (l := l) (D := D) (cA := cA) (o := o) (A := A) x2 (0 : Int32) (7 : Int32) S5 e8) (va_cwS 3 hts (lw_S q1329 q1330 q90 q1331) rfl rfl rfl (by decide +kernel) ⟨Nat.le_of_ble_eq_true rfl, Nat.le_of_ble_eq_true rfl⟩) (gPreS mKst hK hA hS hP) rfl rfl hl.1 rfl (lv_room (Nat.le_of_ble_eq_true rfl)) dX4_markIs_12 ⟨Nat.zero_le _, Nat.zero_le _⟩) hS (fun H locs hP hS => ?_)
    refine lv_if_ne (tgt := 25) hx hb dX4_markIs_15 (by decide) (fun c11 => ?_) (fun c11 => ?_)
    · have h := ite_f c11 h
      refine lv_iload_n hx hb dX4_markIs_25 rfl (lv_at hl 2 rfl) ?_
      refine lv_bipush (v := (6 : Int32)) hx hb dX4_markIs_26 (by decide) ?_
      refine lv_icmp_ge (tgt := 40) hx hb dX4_markIs_28 (by decide) (fun c12 => ?_) (fun c12 => ?_)
      · have h := ite_t c12 h
        refine lv_iload_n hx hb dX4_markIs_40 rfl (lv_at hl 2 rfl) ?_
        refine lv_bipush (v := (6 : Int32)) hx hb dX4_markIs_41 (by decide) ?_
        refine lv_icmp_ne (tgt := 54) hx hb dX4_markIs_43 (by decide) (fun c13 => ?_) (fun c13 => ?_)
        · have h := ite_f c13 h
          refine lv_aload_n hx hb dX4_markIs_54 rfl (lv_at hl 0 rfl) ?_
          refine lv_iload_n hx hb dX4_markIs_55 rfl (lv_at hl 1 rfl) ?_
          obtain ⟨v16, S15, e14, h⟩ := bnd_some h
          refine gc0_i (va_runV (As := [.int x1]) (rest := []) ⟨hx, hb, hml, hown, hts⟩ (mX4_saysOf (l := l) (D := D) (cA := cA) (o := o) (A := A) x1 S9 e14) (cwV 1 hts (lw_V q1385 q1387 qs39 q90 q1388) rfl rfl rfl (by decide +kernel) ⟨Nat.le_of_ble_eq_true rfl, Nat.le_of_ble_eq_true rfl⟩) (gPreV mKst hK hA hS hP (mRecv hK hP)) rfl rfl hl.1 rfl (lv_room (Nat.le_of_ble_eq_true rfl)) dX4_markIs_56 ⟨Nat.zero_le _, Nat.zero_le _⟩) hS (fun H locs hP hS => ?_)
          exact B59 v16 S15 _ _ _ hP hS (lv_sub hl [0] rfl) h
        · have h := ite_t c13 h
          refine lv_aload_n hx hb dX4_markIs_46 rfl (lv_at hl 0 rfl) ?_
          refine lv_iload_n hx hb dX4_markIs_47 rfl (lv_at hl 1 rfl) ?_
          obtain ⟨v19, S18, e17, h⟩ := bnd_some h
          refine gc0_i (va_runV (As := [.int x1]) (rest := []) ⟨hx, hb, hml, hown, hts⟩ (mX4_weight (l := l) (D := D) (cA := cA) (o := o) (A := A) x1 S9 e17) (cwV 1 hts (lw_V q1359 q1361 qs34 q90 q1362) rfl rfl rfl (by decide +kernel) ⟨Nat.le_of_ble_eq_true rfl, Nat.le_of_ble_eq_true rfl⟩) (gPreV mKst hK hA hS hP (mRecv hK hP)) rfl rfl hl.1 rfl (lv_room (Nat.le_of_ble_eq_true rfl)) dX4_markIs_48 ⟨Nat.zero_le _, Nat.zero_le _⟩) hS (fun H locs hP hS => ?_)
          refine lv_goto (tgt := 59) hx hb dX4_markIs_51 (by decide) ?_
          exact B59 v19 S18 _ _ _ hP hS (lv_sub hl [0] rfl) h
      · have h := ite_f c12 h
        refine lv_aload_n hx hb dX4_markIs_31 rfl (lv_at hl 0 rfl) ?_
        refine lv_iload_n hx hb dX4_markIs_32 rfl (lv_at hl 1 rfl) ?_
        refine lv_iload_n hx hb dX4_markIs_33 rfl (lv_at hl 2 rfl) ?_
        obtain ⟨v22, S21, e20, h⟩ := bnd_some h
        refine gc0_i (va_runV (As := [.int x1, .int x2]) (rest := []) ⟨hx, hb, hml, hown, hts⟩ (mX4_of (l := l) (D := D) (cA := cA) (o := o) (A := A) x1 x2 S9 e20) (cwV 2 hts (lw_V q1355 q1357 qs33 q90 q1358) rfl rfl rfl (by decide +kernel) ⟨Nat.le_of_ble_eq_true rfl, Nat.le_of_ble_eq_true rfl⟩) (gPreV mKst hK hA hS hP (mRecv hK hP)) rfl rfl hl.1 rfl (lv_room (Nat.le_of_ble_eq_true rfl)) dX4_markIs_34 ⟨Nat.zero_le _, Nat.zero_le _⟩) hS (fun H locs hP hS => ?_)
        refine lv_goto (tgt := 59) hx hb dX4_markIs_37 (by decide) ?_
        exact B59 v22 S21 _ _ _ hP hS (lv_sub hl [0] rfl) h
    · have h := ite_t c11 h
      exact B18 S9 _ _ _ hP hS (lv_sub hl [0] rfl) h

def bX4_measure_42 (t0 : Int32) (S : MS) : Option (Int32 × MS) :=
some (t0, S)
def bX4_measure_36 (S : MS) : Option (Int32 × MS) :=
bnd (fX4_error (-1000000001 : Int32) S) fun v3 S2 =>
bX4_measure_42 v3 S2
def fX4_measure (x1 : Int32) (x2 : Int32) (S : MS) : Option (Int32 × MS) :=
bnd (fX4_isMark x1 S) fun v6 S5 =>
(if v6 = 0 then
bX4_measure_36 S5
else
bnd (fX4_in x2 (-20 : Int32) (20 : Int32) S5) fun v10 S9 =>
(if v10 = 0 then
bX4_measure_36 S9
else
bnd (fX4_becomes (((8 : Int32) + ((6 : Int32) * x1)) + (4 : Int32)) x2 S9) fun v14 S13 =>
bX4_measure_42 v14 S13))
set_option maxHeartbeats 4000000 in
set_option maxRecDepth 100000 in
theorem mX4_measure {l : Launch} {D : va_G} {cA : Nat → ClassId} {o : Nat → Nat} {A : Nat → Prop} (x1 : Int32) (x2 : Int32) (S : MS) {out : (Int32 × MS)} (h : fX4_measure x1 x2 S = some out) : Met l yX4_measure (ws_ yX4_measure cX4_measure 3 (some .int)) ({ frames := 2, cells := 0, slots := 0, locals := 43 } : Room) (gPc (mK D cA) (mP D cA o A) A [.ref (o 24), .int x1, .int x2] S) (gQi (mK D cA) (mP D cA o A) A out) 0 0 A := by
  refine gMet_z (by decide) (Nat.le_of_ble_eq_true rfl) ?_ mKst
  intro p e s m below meth c Q ls args H locs hC hP hS hl ret
  obtain ⟨hx, hb, hml, hown, hts, hA, hK⟩ := hC
  have hown : s.vm.findClass RX4 = some m.cls := hown
  have hl : lv_has ls 3 [(0, .ref (o 24)), (1, .int x1), (2, .int x2)] := hl
  have B42 : ∀ (t0 : Int32) (S : MS) (H : Heap) (locs : List Loc) (ls : Array Slot), mP D cA o A S H → va_S A s.heap H locs → lv_has ls 3 [(0, .ref (o 24))] → bX4_measure_42  t0 S = some out → W p l e ({ frames := 2, cells := 0, slots := 0, locals := 43 } : Room) s m args below meth c H locs 0 0 Q (F0 m 42 ls [.int t0]) := by
    intro t0 S H locs ls hP hS hl h
    unfold bX4_measure_42 at h
    exact ret _ _ _ _ _ _ dX4_measure_42 rfl hP hS h
  have B36 : ∀  (S : MS) (H : Heap) (locs : List Loc) (ls : Array Slot), mP D cA o A S H → va_S A s.heap H locs → lv_has ls 3 [(0, .ref (o 24))] → bX4_measure_36   S = some out → W p l e ({ frames := 2, cells := 0, slots := 0, locals := 43 } : Room) s m args below meth c H locs 0 0 Q (F0 m 36 ls []) := by
    intro  S H locs ls hP hS hl h
    unfold bX4_measure_36 at h
    refine lv_aload_n hx hb dX4_measure_36 rfl (lv_at hl 0 rfl) ?_
    refine lv_ldc (v := (-1000000001 : Int32)) hx hb hown (hts _ q1336) dX4_measure_37 ?_
    obtain ⟨v3, S2, e1, h⟩ := bnd_some h
    refine gc0_i (va_runV (As := [.int (-1000000001 : Int32)]) (rest := []) ⟨hx, hb, hml, hown, hts⟩ (mX4_error (l := l) (D := D) (cA := cA) (o := o) (A := A) (-1000000001 : Int32) S e1) (cwV 1 hts (lw_V q1337 q1339 qs30 q90 q1340) rfl rfl rfl (by decide +kernel) ⟨Nat.le_of_ble_eq_true rfl, Nat.le_of_ble_eq_true rfl⟩) (gPreV mKst hK hA hS hP (mRecv hK hP)) rfl rfl hl.1 rfl (lv_room (Nat.le_of_ble_eq_true rfl)) dX4_measure_39 ⟨Nat.zero_le _, Nat.zero_le _⟩) hS (fun H locs hP hS => ?_)
    exact B42 v3 S2 _ _ _ hP hS hl h
  unfold fX4_measure at h
  refine lv_aload_n hx hb dX4_measure_0 rfl (lv_at hl 0 rfl) ?_
  refine lv_iload_n hx hb dX4_measure_1 rfl (lv_at hl 1 rfl) ?_
  obtain ⟨v6, S5, e4, h⟩ := bnd_some h
  refine gc0_i (va_runV (As := [.int x1]) (rest := []) ⟨hx, hb, hml, hown, hts⟩ (mX4_isMark (l := l) (D := D) (cA := cA) (o := o) (A := A) x1 S e4) (cwV 1 hts (lw_V q1351 q1353 qs32 q90 q1354) rfl rfl rfl (by decide +kernel) ⟨Nat.le_of_ble_eq_true rfl, Nat.le_of_ble_eq_true rfl⟩) (gPreV mKst hK hA hS hP (mRecv hK hP)) rfl rfl hl.1 rfl (lv_room (Nat.le_of_ble_eq_true rfl)) dX4_measure_2 ⟨Nat.zero_le _, Nat.zero_le _⟩) hS (fun H locs hP hS => ?_)
  refine lv_if_eq (tgt := 36) hx hb dX4_measure_5 (by decide) (fun c7 => ?_) (fun c7 => ?_)
  · have h := ite_t c7 h
    exact B36 S5 _ _ _ hP hS (lv_sub hl [0] rfl) h
  · have h := ite_f c7 h
    refine lv_iload_n hx hb dX4_measure_8 rfl (lv_at hl 2 rfl) ?_
    refine lv_bipush (v := (-20 : Int32)) hx hb dX4_measure_9 (by decide) ?_
    refine lv_bipush (v := (20 : Int32)) hx hb dX4_measure_11 (by decide) ?_
    obtain ⟨v10, S9, e8, h⟩ := bnd_some h
    refine gc0_i (va_runS (As := [.int x2, .int (-20 : Int32), .int (20 : Int32)]) (rest := []) ⟨hx, hb, hml, hown, hts⟩ (mX4_in (l := l) (D := D) (cA := cA) (o := o) (A := A) x2 (-20 : Int32) (20 : Int32) S5 e8) (va_cwS 3 hts (lw_S q1329 q1330 q90 q1331) rfl rfl rfl (by decide +kernel) ⟨Nat.le_of_ble_eq_true rfl, Nat.le_of_ble_eq_true rfl⟩) (gPreS mKst hK hA hS hP) rfl rfl hl.1 rfl (lv_room (Nat.le_of_ble_eq_true rfl)) dX4_measure_13 ⟨Nat.zero_le _, Nat.zero_le _⟩) hS (fun H locs hP hS => ?_)
    refine lv_if_eq (tgt := 36) hx hb dX4_measure_16 (by decide) (fun c11 => ?_) (fun c11 => ?_)
    · have h := ite_t c11 h
      exact B36 S9 _ _ _ hP hS (lv_sub hl [0] rfl) h
    · have h := ite_f c11 h
      refine lv_aload_n hx hb dX4_measure_19 rfl (lv_at hl 0 rfl) ?_
      refine lv_bipush (v := (8 : Int32)) hx hb dX4_measure_20 (by decide) ?_
      refine lv_bipush (v := (6 : Int32)) hx hb dX4_measure_22 (by decide) ?_
      refine lv_iload_n hx hb dX4_measure_24 rfl (lv_at hl 1 rfl) ?_
      refine lv_imul hx hb dX4_measure_25 ?_
      refine lv_iadd hx hb dX4_measure_26 ?_
      refine lv_iconst (v := (4 : Int32)) hx hb dX4_measure_27 (by decide) ?_
      refine lv_iadd hx hb dX4_measure_28 ?_
      refine lv_iload_n hx hb dX4_measure_29 rfl (lv_at hl 2 rfl) ?_
      obtain ⟨v14, S13, e12, h⟩ := bnd_some h
      refine gc0_i (va_runV (As := [.int (((8 : Int32) + ((6 : Int32) * x1)) + (4 : Int32)), .int x2]) (rest := []) ⟨hx, hb, hml, hown, hts⟩ (mX4_becomes (l := l) (D := D) (cA := cA) (o := o) (A := A) (((8 : Int32) + ((6 : Int32) * x1)) + (4 : Int32)) x2 S9 e12) (cwV 2 hts (lw_V q1397 q1399 qs41 q90 q1400) rfl rfl rfl (by decide +kernel) ⟨Nat.le_of_ble_eq_true rfl, Nat.le_of_ble_eq_true rfl⟩) (gPreV mKst hK hA hS hP (mRecv hK hP)) rfl rfl hl.1 rfl (lv_room (Nat.le_of_ble_eq_true rfl)) dX4_measure_30 ⟨Nat.zero_le _, Nat.zero_le _⟩) hS (fun H locs hP hS => ?_)
      refine lv_goto (tgt := 42) hx hb dX4_measure_33 (by decide) ?_
      exact B42 v14 S13 _ _ _ hP hS (lv_sub hl [0] rfl) h

def bX4_miss_15 (S : MS) : Option (Int64 × MS) :=
bnd (fX4_error (-1000000001 : Int32) S) fun v3 S2 =>
some (((v3).toInt64), S2)
def bX4_miss_53 (t0 : Int64) (S : MS) : Option (Int64 × MS) :=
some (t0, S)
def fX4_miss (x1 : Int32) (x2 : Int32) (S : MS) : Option (Int64 × MS) :=
bnd (fX4_isMark x1 S) fun v6 S5 =>
(if v6 = 0 then
bX4_miss_15 S5
else
bnd (fX4_isPart x2 S5) fun v10 S9 =>
(if v10 = 0 then
bX4_miss_15 S9
else
bnd (fX4_isSolved  S9) fun v14 S13 =>
(if v14 = 0 then
bnd (fX4_error (-1000000003 : Int32) S13) fun v18 S17 =>
bX4_miss_53 ((v18).toInt64) S17
else
bnd (fX4_missOf x1 S13) fun v21 S20 =>
bnd (fX4_inTerms v21 (mLF S20) x2 S20) fun v24 S23 =>
bX4_miss_53 v24 S23)))
set_option maxHeartbeats 4000000 in
set_option maxRecDepth 100000 in
theorem mX4_miss {l : Launch} {D : va_G} {cA : Nat → ClassId} {o : Nat → Nat} {A : Nat → Prop} (x1 : Int32) (x2 : Int32) (S : MS) {out : (Int64 × MS)} (h : fX4_miss x1 x2 S = some out) : Met l yX4_miss (ws_ yX4_miss cX4_miss 3 (some .long)) ({ frames := 10, cells := 0, slots := 0, locals := 300 } : Room) (gPc (mK D cA) (mP D cA o A) A [.ref (o 24), .int x1, .int x2] S) (gQl (mK D cA) (mP D cA o A) A out) 0 0 A := by
  refine gMet_l (by decide) (Nat.le_of_ble_eq_true rfl) ?_ mKst
  intro p e s m below meth c Q ls args H locs hC hP hS hl ret
  obtain ⟨hx, hb, hml, hown, hts, hA, hK⟩ := hC
  have hown : s.vm.findClass RX4 = some m.cls := hown
  have hl : lv_has ls 3 [(0, .ref (o 24)), (1, .int x1), (2, .int x2)] := hl
  have B15 : ∀  (S : MS) (H : Heap) (locs : List Loc) (ls : Array Slot), mP D cA o A S H → va_S A s.heap H locs → lv_has ls 3 [(0, .ref (o 24))] → bX4_miss_15   S = some out → W p l e ({ frames := 10, cells := 0, slots := 0, locals := 300 } : Room) s m args below meth c H locs 0 0 Q (F0 m 15 ls []) := by
    intro  S H locs ls hP hS hl h
    unfold bX4_miss_15 at h
    refine lv_aload_n hx hb dX4_miss_15 rfl (lv_at hl 0 rfl) ?_
    refine lv_ldc (v := (-1000000001 : Int32)) hx hb hown (hts _ q1336) dX4_miss_16 ?_
    obtain ⟨v3, S2, e1, h⟩ := bnd_some h
    refine gc0_i (va_runV (As := [.int (-1000000001 : Int32)]) (rest := []) ⟨hx, hb, hml, hown, hts⟩ (mX4_error (l := l) (D := D) (cA := cA) (o := o) (A := A) (-1000000001 : Int32) S e1) (cwV 1 hts (lw_V q1337 q1339 qs30 q90 q1340) rfl rfl rfl (by decide +kernel) ⟨Nat.le_of_ble_eq_true rfl, Nat.le_of_ble_eq_true rfl⟩) (gPreV mKst hK hA hS hP (mRecv hK hP)) rfl rfl hl.1 rfl (lv_room (Nat.le_of_ble_eq_true rfl)) dX4_miss_18 ⟨Nat.zero_le _, Nat.zero_le _⟩) hS (fun H locs hP hS => ?_)
    refine lv_i2l hx hb dX4_miss_21 rfl ?_
    exact ret _ _ _ _ _ _ dX4_miss_22 hP hS h
  have B53 : ∀ (t0 : Int64) (S : MS) (H : Heap) (locs : List Loc) (ls : Array Slot), mP D cA o A S H → va_S A s.heap H locs → lv_has ls 3 [(0, .ref (o 24))] → bX4_miss_53  t0 S = some out → W p l e ({ frames := 10, cells := 0, slots := 0, locals := 300 } : Room) s m args below meth c H locs 0 0 Q (F0 m 53 ls [.long t0]) := by
    intro t0 S H locs ls hP hS hl h
    unfold bX4_miss_53 at h
    exact ret _ _ _ _ _ _ dX4_miss_53 hP hS h
  unfold fX4_miss at h
  refine lv_aload_n hx hb dX4_miss_0 rfl (lv_at hl 0 rfl) ?_
  refine lv_iload_n hx hb dX4_miss_1 rfl (lv_at hl 1 rfl) ?_
  obtain ⟨v6, S5, e4, h⟩ := bnd_some h
  refine gc0_i (va_runV (As := [.int x1]) (rest := []) ⟨hx, hb, hml, hown, hts⟩ (mX4_isMark (l := l) (D := D) (cA := cA) (o := o) (A := A) x1 S e4) (cwV 1 hts (lw_V q1351 q1353 qs32 q90 q1354) rfl rfl rfl (by decide +kernel) ⟨Nat.le_of_ble_eq_true rfl, Nat.le_of_ble_eq_true rfl⟩) (gPreV mKst hK hA hS hP (mRecv hK hP)) rfl rfl hl.1 rfl (lv_room (Nat.le_of_ble_eq_true rfl)) dX4_miss_2 ⟨Nat.zero_le _, Nat.zero_le _⟩) hS (fun H locs hP hS => ?_)
  refine lv_if_eq (tgt := 15) hx hb dX4_miss_5 (by decide) (fun c7 => ?_) (fun c7 => ?_)
  · have h := ite_t c7 h
    exact B15 S5 _ _ _ hP hS (lv_sub hl [0] rfl) h
  · have h := ite_f c7 h
    refine lv_iload_n hx hb dX4_miss_8 rfl (lv_at hl 2 rfl) ?_
    obtain ⟨v10, S9, e8, h⟩ := bnd_some h
    refine gc0_i (va_runS (As := [.int x2]) (rest := []) ⟨hx, hb, hml, hown, hts⟩ (mX4_isPart (l := l) (D := D) (cA := cA) (o := o) (A := A) x2 S5 e8) (va_cwS 1 hts (lw_S q1560 q1561 q90 q1562) rfl rfl rfl (by decide +kernel) ⟨Nat.le_of_ble_eq_true rfl, Nat.le_of_ble_eq_true rfl⟩) (gPreS mKst hK hA hS hP) rfl rfl hl.1 rfl (lv_room (Nat.le_of_ble_eq_true rfl)) dX4_miss_9 ⟨Nat.zero_le _, Nat.zero_le _⟩) hS (fun H locs hP hS => ?_)
    refine lv_if_ne (tgt := 23) hx hb dX4_miss_12 (by decide) (fun c11 => ?_) (fun c11 => ?_)
    · have h := ite_f c11 h
      refine lv_aload_n hx hb dX4_miss_23 rfl (lv_at hl 0 rfl) ?_
      obtain ⟨v14, S13, e12, h⟩ := bnd_some h
      refine gc0_i (va_runV (As := []) (rest := []) ⟨hx, hb, hml, hown, hts⟩ (mX4_isSolved (l := l) (D := D) (cA := cA) (o := o) (A := A)  S9 e12) (cwV 0 hts (lw_V q1496 q1498 qs55 q90 q1499) rfl rfl rfl (by decide +kernel) ⟨Nat.le_of_ble_eq_true rfl, Nat.le_of_ble_eq_true rfl⟩) (gPreV mKst hK hA hS hP (mRecv hK hP)) rfl rfl hl.1 rfl (lv_room (Nat.le_of_ble_eq_true rfl)) dX4_miss_24 ⟨Nat.zero_le _, Nat.zero_le _⟩) hS (fun H locs hP hS => ?_)
      refine lv_if_eq (tgt := 46) hx hb dX4_miss_27 (by decide) (fun c15 => ?_) (fun c15 => ?_)
      · have h := ite_t c15 h
        refine lv_aload_n hx hb dX4_miss_46 rfl (lv_at hl 0 rfl) ?_
        refine lv_ldc (v := (-1000000003 : Int32)) hx hb hown (hts _ q1418) dX4_miss_47 ?_
        obtain ⟨v18, S17, e16, h⟩ := bnd_some h
        refine gc0_i (va_runV (As := [.int (-1000000003 : Int32)]) (rest := []) ⟨hx, hb, hml, hown, hts⟩ (mX4_error (l := l) (D := D) (cA := cA) (o := o) (A := A) (-1000000003 : Int32) S13 e16) (cwV 1 hts (lw_V q1337 q1339 qs30 q90 q1340) rfl rfl rfl (by decide +kernel) ⟨Nat.le_of_ble_eq_true rfl, Nat.le_of_ble_eq_true rfl⟩) (gPreV mKst hK hA hS hP (mRecv hK hP)) rfl rfl hl.1 rfl (lv_room (Nat.le_of_ble_eq_true rfl)) dX4_miss_49 ⟨Nat.zero_le _, Nat.zero_le _⟩) hS (fun H locs hP hS => ?_)
        refine lv_i2l hx hb dX4_miss_52 rfl ?_
        exact B53 ((v18).toInt64) S17 _ _ _ hP hS (lv_sub hl [0] rfl) h
      · have h := ite_f c15 h
        refine lv_aload_n hx hb dX4_miss_30 rfl (lv_at hl 0 rfl) ?_
        refine lv_iload_n hx hb dX4_miss_31 rfl (lv_at hl 1 rfl) ?_
        obtain ⟨v21, S20, e19, h⟩ := bnd_some h
        refine gc0_l (va_runV (As := [.int x1]) (rest := []) ⟨hx, hb, hml, hown, hts⟩ (mX4_missOf (l := l) (D := D) (cA := cA) (o := o) (A := A) x1 S13 e19) (cwV 1 hts (lw_V q1528 q1530 qs63 q90 q1531) rfl rfl rfl (by decide +kernel) ⟨Nat.le_of_ble_eq_true rfl, Nat.le_of_ble_eq_true rfl⟩) (gPreV mKst hK hA hS hP (mRecv hK hP)) rfl rfl hl.1 rfl (lv_room (Nat.le_of_ble_eq_true rfl)) dX4_miss_32 ⟨Nat.zero_le _, Nat.zero_le _⟩) hS (fun H locs hP hS => ?_)
        refine lv_aload_n hx hb dX4_miss_35 rfl (lv_at hl 0 rfl) ?_
        refine va_get (D := D) (ci := 4) (v := .long (mLF S20)) (C := RX4) (T := TX4) (N := 24) hx hb hts in_X4 hown hK hP.1 0 rfl rfl 11 (by decide) (hts _ q1260) (fun _ h9 => h9) rfl dX4_miss_36 ?_
        refine lv_iload_n hx hb dX4_miss_39 rfl (lv_at hl 2 rfl) ?_
        obtain ⟨v24, S23, e22, h⟩ := bnd_some h
        refine gc0_l (va_runS (As := [.long v21, .long (mLF S20), .int x2]) (rest := []) ⟨hx, hb, hml, hown, hts⟩ (mX4_inTerms (l := l) (D := D) (cA := cA) (o := o) (A := A) v21 (mLF S20) x2 S20 e22) (va_cwS 3 hts (lw_S q1563 q1564 q90 q1565) rfl rfl rfl (by decide +kernel) ⟨Nat.le_of_ble_eq_true rfl, Nat.le_of_ble_eq_true rfl⟩) (gPreS mKst hK hA hS hP) rfl rfl hl.1 rfl (lv_room (Nat.le_of_ble_eq_true rfl)) dX4_miss_40 ⟨Nat.zero_le _, Nat.zero_le _⟩) hS (fun H locs hP hS => ?_)
        refine lv_goto (tgt := 53) hx hb dX4_miss_43 (by decide) ?_
        exact B53 v24 S23 _ _ _ hP hS (lv_sub hl [0] rfl) h
    · have h := ite_t c11 h
      exact B15 S9 _ _ _ hP hS (lv_sub hl [0] rfl) h

def bX4_notMoved_14 (S : MS) : Option (Int32 × MS) :=
some ((-1000000001 : Int32), S)
def bX4_notMoved_35 (S : MS) : Option (Int32 × MS) :=
some ((-1000000002 : Int32), S)
def bX4_notMoved_115 (t0 : Int32) (S : MS) : Option (Int32 × MS) :=
some (t0, S)
def bX4_notMoved_102 (t0 : Int32) (S : MS) : Option (Int32 × MS) :=
(if t0 = 0 then
bX4_notMoved_115 (-1000000001 : Int32) S
else
bX4_notMoved_115 (0 : Int32) S)
def bX4_notMoved_101 (S : MS) : Option (Int32 × MS) :=
bX4_notMoved_102 (0 : Int32) S
def fX4_notMoved (x1 : Int32) (x2 : Int32) (x3 : Int32) (x4 : Int32) (x5 : Int32) (S : MS) : Option (Int32 × MS) :=
bnd (fX4_isSheet x1 S) fun v4 S3 =>
(if v4 = 0 then
bX4_notMoved_14 S3
else
bnd (fX4_isSheet x3 S3) fun v8 S7 =>
(if v8 = 0 then
bX4_notMoved_14 S7
else
chk (inB x1 4) ((if (mIA S7 5 (x1).toNatClampNeg) = 0 then
bX4_notMoved_35 S7
else
chk (inB x3 4) ((if (mIA S7 5 (x3).toNatClampNeg) = 0 then
bX4_notMoved_35 S7
else
chk (inB x1 4) (chk (inB x3 4) ((if (mIA S7 5 (x1).toNatClampNeg) = (mIA S7 5 (x3).toNatClampNeg) then
(if x5 < 0 then
bX4_notMoved_101 S7
else
(if x2 < 0 then
bX4_notMoved_101 S7
else
(if x4 < 0 then
bX4_notMoved_101 S7
else
chk (inB x1 4) ((if ((mIA S7 6 (x1).toNatClampNeg) - x2) < x5 then
bX4_notMoved_101 S7
else
chk (inB x3 4) ((if ((mIA S7 6 (x3).toNatClampNeg) - x4) < x5 then
bX4_notMoved_101 S7
else
bX4_notMoved_102 (1 : Int32) S7)))))))
else
some ((-1000000005 : Int32), S7))))))))))
set_option maxHeartbeats 4000000 in
set_option maxRecDepth 100000 in
theorem mX4_notMoved {l : Launch} {D : va_G} {cA : Nat → ClassId} {o : Nat → Nat} {A : Nat → Prop} (x1 : Int32) (x2 : Int32) (x3 : Int32) (x4 : Int32) (x5 : Int32) (S : MS) {out : (Int32 × MS)} (h : fX4_notMoved x1 x2 x3 x4 x5 S = some out) : Met l yX4_notMoved (ws_ yX4_notMoved cX4_notMoved 7 (some .int)) ({ frames := 2, cells := 0, slots := 0, locals := 42 } : Room) (gPc (mK D cA) (mP D cA o A) A [.ref (o 24), .int x1, .int x2, .int x3, .int x4, .int x5] S) (gQi (mK D cA) (mP D cA o A) A out) 0 0 A := by
  refine gMet_z (by decide) (Nat.le_of_ble_eq_true rfl) ?_ mKst
  intro p e s m below meth c Q ls args H locs hC hP hS hl ret
  obtain ⟨hx, hb, hml, hown, hts, hA, hK⟩ := hC
  have hown : s.vm.findClass RX4 = some m.cls := hown
  have hl : lv_has ls 7 [(0, .ref (o 24)), (1, .int x1), (2, .int x2), (3, .int x3), (4, .int x4), (5, .int x5)] := hl
  have B14 : ∀  (S : MS) (H : Heap) (locs : List Loc) (ls : Array Slot), mP D cA o A S H → va_S A s.heap H locs → lv_has ls 7 [(0, .ref (o 24))] → bX4_notMoved_14   S = some out → W p l e ({ frames := 2, cells := 0, slots := 0, locals := 42 } : Room) s m args below meth c H locs 0 0 Q (F0 m 14 ls []) := by
    intro  S H locs ls hP hS hl h
    unfold bX4_notMoved_14 at h
    refine lv_ldc (v := (-1000000001 : Int32)) hx hb hown (hts _ q1336) dX4_notMoved_14 ?_
    exact ret _ _ _ _ _ _ dX4_notMoved_16 rfl hP hS h
  have B35 : ∀  (S : MS) (H : Heap) (locs : List Loc) (ls : Array Slot), mP D cA o A S H → va_S A s.heap H locs → lv_has ls 7 [(0, .ref (o 24))] → bX4_notMoved_35   S = some out → W p l e ({ frames := 2, cells := 0, slots := 0, locals := 42 } : Room) s m args below meth c H locs 0 0 Q (F0 m 35 ls []) := by
    intro  S H locs ls hP hS hl h
    unfold bX4_notMoved_35 at h
    refine lv_ldc (v := (-1000000002 : Int32)) hx hb hown (hts _ q1613) dX4_notMoved_35 ?_
    exact ret _ _ _ _ _ _ dX4_notMoved_37 rfl hP hS h
  have B115 : ∀ (t0 : Int32) (S : MS) (H : Heap) (locs : List Loc) (ls : Array Slot), mP D cA o A S H → va_S A s.heap H locs → lv_has ls 7 [(0, .ref (o 24))] → bX4_notMoved_115  t0 S = some out → W p l e ({ frames := 2, cells := 0, slots := 0, locals := 42 } : Room) s m args below meth c H locs 0 0 Q (F0 m 115 ls [.int t0]) := by
    intro t0 S H locs ls hP hS hl h
    unfold bX4_notMoved_115 at h
    exact ret _ _ _ _ _ _ dX4_notMoved_115 rfl hP hS h
  have B102 : ∀ (t0 : Int32) (S : MS) (H : Heap) (locs : List Loc) (ls : Array Slot), mP D cA o A S H → va_S A s.heap H locs → lv_has ls 7 [(0, .ref (o 24))] → bX4_notMoved_102  t0 S = some out → W p l e ({ frames := 2, cells := 0, slots := 0, locals := 42 } : Room) s m args below meth c H locs 0 0 Q (F0 m 102 ls [.int t0]) := by
    intro t0 S H locs ls hP hS hl h
    unfold bX4_notMoved_102 at h
    refine lv_istore (lv' := [(6, .int t0), (0, .ref (o 24))]) hx hb dX4_notMoved_102 hl (by decide) rfl (fun ls hl => ?_)
    refine lv_iload hx hb dX4_notMoved_104 (lv_at hl 0 rfl) ?_
    refine lv_if_eq (tgt := 113) hx hb dX4_notMoved_106 (by decide) (fun c1 => ?_) (fun c1 => ?_)
    · have h := ite_t c1 h
      refine lv_ldc (v := (-1000000001 : Int32)) hx hb hown (hts _ q1336) dX4_notMoved_113 ?_
      exact B115 (-1000000001 : Int32) S _ _ _ hP hS (lv_sub hl [1] rfl) h
    · have h := ite_f c1 h
      refine lv_iconst (v := (0 : Int32)) hx hb dX4_notMoved_109 (by decide) ?_
      refine lv_goto (tgt := 115) hx hb dX4_notMoved_110 (by decide) ?_
      exact B115 (0 : Int32) S _ _ _ hP hS (lv_sub hl [1] rfl) h
  have B101 : ∀  (S : MS) (H : Heap) (locs : List Loc) (ls : Array Slot), mP D cA o A S H → va_S A s.heap H locs → lv_has ls 7 [(0, .ref (o 24))] → bX4_notMoved_101   S = some out → W p l e ({ frames := 2, cells := 0, slots := 0, locals := 42 } : Room) s m args below meth c H locs 0 0 Q (F0 m 101 ls []) := by
    intro  S H locs ls hP hS hl h
    unfold bX4_notMoved_101 at h
    refine lv_iconst (v := (0 : Int32)) hx hb dX4_notMoved_101 (by decide) ?_
    exact B102 (0 : Int32) S _ _ _ hP hS hl h
  unfold fX4_notMoved at h
  refine lv_iload_n hx hb dX4_notMoved_0 rfl (lv_at hl 1 rfl) ?_
  obtain ⟨v4, S3, e2, h⟩ := bnd_some h
  refine gc0_i (va_runS (As := [.int x1]) (rest := []) ⟨hx, hb, hml, hown, hts⟩ (mX4_isSheet (l := l) (D := D) (cA := cA) (o := o) (A := A) x1 S e2) (va_cwS 1 hts (lw_S q1636 q1637 q90 q1638) rfl rfl rfl (by decide +kernel) ⟨Nat.le_of_ble_eq_true rfl, Nat.le_of_ble_eq_true rfl⟩) (gPreS mKst hK hA hS hP) rfl rfl hl.1 rfl (lv_room (Nat.le_of_ble_eq_true rfl)) dX4_notMoved_1 ⟨Nat.zero_le _, Nat.zero_le _⟩) hS (fun H locs hP hS => ?_)
  refine lv_if_eq (tgt := 14) hx hb dX4_notMoved_4 (by decide) (fun c5 => ?_) (fun c5 => ?_)
  · have h := ite_t c5 h
    exact B14 S3 _ _ _ hP hS (lv_sub hl [0] rfl) h
  · have h := ite_f c5 h
    refine lv_iload_n hx hb dX4_notMoved_7 rfl (lv_at hl 3 rfl) ?_
    obtain ⟨v8, S7, e6, h⟩ := bnd_some h
    refine gc0_i (va_runS (As := [.int x3]) (rest := []) ⟨hx, hb, hml, hown, hts⟩ (mX4_isSheet (l := l) (D := D) (cA := cA) (o := o) (A := A) x3 S3 e6) (va_cwS 1 hts (lw_S q1636 q1637 q90 q1638) rfl rfl rfl (by decide +kernel) ⟨Nat.le_of_ble_eq_true rfl, Nat.le_of_ble_eq_true rfl⟩) (gPreS mKst hK hA hS hP) rfl rfl hl.1 rfl (lv_room (Nat.le_of_ble_eq_true rfl)) dX4_notMoved_8 ⟨Nat.zero_le _, Nat.zero_le _⟩) hS (fun H locs hP hS => ?_)
    refine lv_if_ne (tgt := 17) hx hb dX4_notMoved_11 (by decide) (fun c9 => ?_) (fun c9 => ?_)
    · have h := ite_f c9 h
      refine lv_aload_n hx hb dX4_notMoved_17 rfl (lv_at hl 0 rfl) ?_
      refine va_get (D := D) (ci := 4) (v := .ref (o 5)) (C := RX4) (T := TX4) (N := 24) hx hb hts in_X4 hown hK hP.1 0 rfl rfl 5 (by decide) (hts _ q1254) (fun _ h9 => h9) rfl dX4_notMoved_18 ?_
      refine lv_iload_n hx hb dX4_notMoved_21 rfl (lv_at hl 1 rfl) ?_
      obtain ⟨g10, h⟩ := chk_some h
      refine va_iald hx hb hK hP.1 5 0 rfl rfl (inB_in g10) dX4_notMoved_22 ?_
      refine lv_if_eq (tgt := 35) hx hb dX4_notMoved_23 (by decide) (fun c11 => ?_) (fun c11 => ?_)
      · have h := ite_t c11 h
        exact B35 S7 _ _ _ hP hS (lv_sub hl [0] rfl) h
      · have h := ite_f c11 h
        refine lv_aload_n hx hb dX4_notMoved_26 rfl (lv_at hl 0 rfl) ?_
        refine va_get (D := D) (ci := 4) (v := .ref (o 5)) (C := RX4) (T := TX4) (N := 24) hx hb hts in_X4 hown hK hP.1 0 rfl rfl 5 (by decide) (hts _ q1254) (fun _ h9 => h9) rfl dX4_notMoved_27 ?_
        refine lv_iload_n hx hb dX4_notMoved_30 rfl (lv_at hl 3 rfl) ?_
        obtain ⟨g12, h⟩ := chk_some h
        refine va_iald hx hb hK hP.1 5 0 rfl rfl (inB_in g12) dX4_notMoved_31 ?_
        refine lv_if_ne (tgt := 38) hx hb dX4_notMoved_32 (by decide) (fun c13 => ?_) (fun c13 => ?_)
        · have h := ite_f c13 h
          refine lv_aload_n hx hb dX4_notMoved_38 rfl (lv_at hl 0 rfl) ?_
          refine va_get (D := D) (ci := 4) (v := .ref (o 5)) (C := RX4) (T := TX4) (N := 24) hx hb hts in_X4 hown hK hP.1 0 rfl rfl 5 (by decide) (hts _ q1254) (fun _ h9 => h9) rfl dX4_notMoved_39 ?_
          refine lv_iload_n hx hb dX4_notMoved_42 rfl (lv_at hl 1 rfl) ?_
          obtain ⟨g14, h⟩ := chk_some h
          refine va_iald hx hb hK hP.1 5 0 rfl rfl (inB_in g14) dX4_notMoved_43 ?_
          refine lv_aload_n hx hb dX4_notMoved_44 rfl (lv_at hl 0 rfl) ?_
          refine va_get (D := D) (ci := 4) (v := .ref (o 5)) (C := RX4) (T := TX4) (N := 24) hx hb hts in_X4 hown hK hP.1 0 rfl rfl 5 (by decide) (hts _ q1254) (fun _ h9 => h9) rfl dX4_notMoved_45 ?_
          refine lv_iload_n hx hb dX4_notMoved_48 rfl (lv_at hl 3 rfl) ?_
          obtain ⟨g15, h⟩ := chk_some h
          refine va_iald hx hb hK hP.1 5 0 rfl rfl (inB_in g15) dX4_notMoved_49 ?_
          refine lv_icmp_eq (tgt := 56) hx hb dX4_notMoved_50 (by decide) (fun c16 => ?_) (fun c16 => ?_)
          · have h := ite_t c16 h
            refine lv_iload hx hb dX4_notMoved_56 (lv_at hl 5 rfl) ?_
            refine lv_if_lt (tgt := 101) hx hb dX4_notMoved_58 (by decide) (fun c17 => ?_) (fun c17 => ?_)
            · have h := ite_t c17 h
              exact B101 S7 _ _ _ hP hS (lv_sub hl [0] rfl) h
            · have h := ite_f c17 h
              refine lv_iload_n hx hb dX4_notMoved_61 rfl (lv_at hl 2 rfl) ?_
              refine lv_if_lt (tgt := 101) hx hb dX4_notMoved_62 (by decide) (fun c18 => ?_) (fun c18 => ?_)
              · have h := ite_t c18 h
                exact B101 S7 _ _ _ hP hS (lv_sub hl [0] rfl) h
              · have h := ite_f c18 h
                refine lv_iload hx hb dX4_notMoved_65 (lv_at hl 4 rfl) ?_
                refine lv_if_lt (tgt := 101) hx hb dX4_notMoved_67 (by decide) (fun c19 => ?_) (fun c19 => ?_)
                · have h := ite_t c19 h
                  exact B101 S7 _ _ _ hP hS (lv_sub hl [0] rfl) h
                · have h := ite_f c19 h
                  refine lv_iload hx hb dX4_notMoved_70 (lv_at hl 5 rfl) ?_
                  refine lv_aload_n hx hb dX4_notMoved_72 rfl (lv_at hl 0 rfl) ?_
                  refine va_get (D := D) (ci := 4) (v := .ref (o 6)) (C := RX4) (T := TX4) (N := 24) hx hb hts in_X4 hown hK hP.1 0 rfl rfl 6 (by decide) (hts _ q1255) (fun _ h9 => h9) rfl dX4_notMoved_73 ?_
                  refine lv_iload_n hx hb dX4_notMoved_76 rfl (lv_at hl 1 rfl) ?_
                  obtain ⟨g20, h⟩ := chk_some h
                  refine va_iald hx hb hK hP.1 6 0 rfl rfl (inB_in g20) dX4_notMoved_77 ?_
                  refine lv_iload_n hx hb dX4_notMoved_78 rfl (lv_at hl 2 rfl) ?_
                  refine lv_isub hx hb dX4_notMoved_79 ?_
                  refine lv_icmp_gt (tgt := 101) hx hb dX4_notMoved_80 (by decide) (fun c21 => ?_) (fun c21 => ?_)
                  · have h := ite_t c21 h
                    exact B101 S7 _ _ _ hP hS (lv_sub hl [0] rfl) h
                  · have h := ite_f c21 h
                    refine lv_iload hx hb dX4_notMoved_83 (lv_at hl 5 rfl) ?_
                    refine lv_aload_n hx hb dX4_notMoved_85 rfl (lv_at hl 0 rfl) ?_
                    refine va_get (D := D) (ci := 4) (v := .ref (o 6)) (C := RX4) (T := TX4) (N := 24) hx hb hts in_X4 hown hK hP.1 0 rfl rfl 6 (by decide) (hts _ q1255) (fun _ h9 => h9) rfl dX4_notMoved_86 ?_
                    refine lv_iload_n hx hb dX4_notMoved_89 rfl (lv_at hl 3 rfl) ?_
                    obtain ⟨g22, h⟩ := chk_some h
                    refine va_iald hx hb hK hP.1 6 0 rfl rfl (inB_in g22) dX4_notMoved_90 ?_
                    refine lv_iload hx hb dX4_notMoved_91 (lv_at hl 4 rfl) ?_
                    refine lv_isub hx hb dX4_notMoved_93 ?_
                    refine lv_icmp_gt (tgt := 101) hx hb dX4_notMoved_94 (by decide) (fun c23 => ?_) (fun c23 => ?_)
                    · have h := ite_t c23 h
                      exact B101 S7 _ _ _ hP hS (lv_sub hl [0] rfl) h
                    · have h := ite_f c23 h
                      refine lv_iconst (v := (1 : Int32)) hx hb dX4_notMoved_97 (by decide) ?_
                      refine lv_goto (tgt := 102) hx hb dX4_notMoved_98 (by decide) ?_
                      exact B102 (1 : Int32) S7 _ _ _ hP hS (lv_sub hl [0] rfl) h
          · have h := ite_f c16 h
            refine lv_ldc (v := (-1000000005 : Int32)) hx hb hown (hts _ q1405) dX4_notMoved_53 ?_
            exact ret _ _ _ _ _ _ dX4_notMoved_55 rfl hP hS h
        · have h := ite_t c13 h
          exact B35 S7 _ _ _ hP hS (lv_sub hl [0] rfl) h
    · have h := ite_t c9 h
      exact B14 S7 _ _ _ hP hS (lv_sub hl [0] rfl) h

def bX4_move_53 (k28 : Int32 → Int32 → Int32 → Int32 → Int32 → Int32 → MS → Option (Int32 × MS)) (x1 : Int32) (x2 : Int32) (x3 : Int32) (x4 : Int32) (x5 : Int32) (x7 : Int32) (t0 : Int32) (S : MS) : Option (Int32 × MS) :=
chk (inB ((((24 : Int32) * x1) + x2) + t0) 96) (chk (inB ((((24 : Int32) * x3) + x4) + t0) 96) (nm (sIA S 7 (upd (mIA S 7) (((((24 : Int32) * x3) + x4) + t0)).toNatClampNeg (mIA S 7 (((((24 : Int32) * x1) + x2) + t0)).toNatClampNeg))) fun S3 =>
nm (x7 + (1 : Int32)) fun y4 =>
k28 x1 x2 x3 x4 x5 y4 S3))
def bX4_move_28 (k28 : Int32 → Int32 → Int32 → Int32 → Int32 → Int32 → MS → Option (Int32 × MS)) (x1 : Int32) (x2 : Int32) (x3 : Int32) (x4 : Int32) (x5 : Int32) (x7 : Int32) (S : MS) : Option (Int32 × MS) :=
(if x5 ≤ x7 then
some (x5, S)
else
(if x4 ≤ x2 then
bX4_move_53 k28 x1 x2 x3 x4 x5 x7 x7 S
else
bX4_move_53 k28 x1 x2 x3 x4 x5 x7 ((x5 - (1 : Int32)) - x7) S))
def lX4_move_28 : Nat → (Int32 → Int32 → Int32 → Int32 → Int32 → Int32 → MS → Option (Int32 × MS))
  | 0 => fun _ _ _ _ _ _ _ => none
  | n + 1 => bX4_move_28 (lX4_move_28 n)
def fX4_move (x1 : Int32) (x2 : Int32) (x3 : Int32) (x4 : Int32) (x5 : Int32) (S : MS) : Option (Int32 × MS) :=
bnd (fX4_notMoved x1 x2 x3 x4 x5 S) fun v9 S8 =>
(if v9 = 0 then
lX4_move_28 FU x1 x2 x3 x4 x5 (0 : Int32) S8
else
bnd (fX4_error v9 S8) fun v13 S12 =>
some (v13, S12))
set_option maxHeartbeats 4000000 in
set_option maxRecDepth 100000 in
theorem mX4_move {l : Launch} {D : va_G} {cA : Nat → ClassId} {o : Nat → Nat} {A : Nat → Prop} (x1 : Int32) (x2 : Int32) (x3 : Int32) (x4 : Int32) (x5 : Int32) (S : MS) {out : (Int32 × MS)} (h : fX4_move x1 x2 x3 x4 x5 S = some out) : Met l yX4_move (ws_ yX4_move cX4_move 9 (some .int)) ({ frames := 3, cells := 0, slots := 0, locals := 68 } : Room) (gPc (mK D cA) (mP D cA o A) A [.ref (o 24), .int x1, .int x2, .int x3, .int x4, .int x5] S) (gQi (mK D cA) (mP D cA o A) A out) 0 0 A := by
  refine gMet_z (by decide) (Nat.le_of_ble_eq_true rfl) ?_ mKst
  intro p e s m below meth c Q ls args H locs hC hP hS hl ret
  obtain ⟨hx, hb, hml, hown, hts, hA, hK⟩ := hC
  have hown : s.vm.findClass RX4 = some m.cls := hown
  have hl : lv_has ls 9 [(0, .ref (o 24)), (1, .int x1), (2, .int x2), (3, .int x3), (4, .int x4), (5, .int x5)] := hl
  have L28 : ∀ (n28 : Nat) (x1 : Int32) (x2 : Int32) (x3 : Int32) (x4 : Int32) (x5 : Int32) (x7 : Int32) (S : MS) (H : Heap) (locs : List Loc) (ls : Array Slot), mP D cA o A S H → va_S A s.heap H locs → lv_has ls 9 [(0, .ref (o 24)), (1, .int x1), (2, .int x2), (3, .int x3), (4, .int x4), (5, .int x5), (7, .int x7)] → lX4_move_28 n28 x1 x2 x3 x4 x5 x7 S = some out → W p l e ({ frames := 3, cells := 0, slots := 0, locals := 68 } : Room) s m args below meth c H locs 0 0 Q (F0 m 28 ls []) := by
    intro n28
    induction n28 with
    | zero =>
      intro x1 x2 x3 x4 x5 x7 S H locs ls hP hS hl h
      cases h
    | succ n28 ih28 =>
      have B53 : ∀ (x1 : Int32) (x2 : Int32) (x3 : Int32) (x4 : Int32) (x5 : Int32) (x7 : Int32) (t0 : Int32) (S : MS) (H : Heap) (locs : List Loc) (ls : Array Slot), mP D cA o A S H → va_S A s.heap H locs → lv_has ls 9 [(0, .ref (o 24)), (1, .int x1), (2, .int x2), (3, .int x3), (4, .int x4), (5, .int x5), (7, .int x7)] → bX4_move_53 (lX4_move_28 n28) x1 x2 x3 x4 x5 x7 t0 S = some out → W p l e ({ frames := 3, cells := 0, slots := 0, locals := 68 } : Room) s m args below meth c H locs 0 0 Q (F0 m 53 ls [.int t0]) := by
        intro x1 x2 x3 x4 x5 x7 t0 S H locs ls hP hS hl h
        unfold bX4_move_53 at h
        refine lv_istore (lv' := [(8, .int t0), (0, .ref (o 24)), (1, .int x1), (2, .int x2), (3, .int x3), (4, .int x4), (5, .int x5), (7, .int x7)]) hx hb dX4_move_53 hl (by decide) rfl (fun ls hl => ?_)
        refine lv_aload_n hx hb dX4_move_55 rfl (lv_at hl 1 rfl) ?_
        refine va_get (D := D) (ci := 4) (v := .ref (o 7)) (C := RX4) (T := TX4) (N := 24) hx hb hts in_X4 hown hK hP.1 0 rfl rfl 7 (by decide) (hts _ q1256) (fun _ h9 => h9) rfl dX4_move_56 ?_
        refine lv_bipush (v := (24 : Int32)) hx hb dX4_move_59 (by decide) ?_
        refine lv_iload_n hx hb dX4_move_61 rfl (lv_at hl 4 rfl) ?_
        refine lv_imul hx hb dX4_move_62 ?_
        refine lv_iload hx hb dX4_move_63 (lv_at hl 5 rfl) ?_
        refine lv_iadd hx hb dX4_move_65 ?_
        refine lv_iload hx hb dX4_move_66 (lv_at hl 0 rfl) ?_
        refine lv_iadd hx hb dX4_move_68 ?_
        refine lv_aload_n hx hb dX4_move_69 rfl (lv_at hl 1 rfl) ?_
        refine va_get (D := D) (ci := 4) (v := .ref (o 7)) (C := RX4) (T := TX4) (N := 24) hx hb hts in_X4 hown hK hP.1 0 rfl rfl 7 (by decide) (hts _ q1256) (fun _ h9 => h9) rfl dX4_move_70 ?_
        refine lv_bipush (v := (24 : Int32)) hx hb dX4_move_73 (by decide) ?_
        refine lv_iload_n hx hb dX4_move_75 rfl (lv_at hl 2 rfl) ?_
        refine lv_imul hx hb dX4_move_76 ?_
        refine lv_iload_n hx hb dX4_move_77 rfl (lv_at hl 3 rfl) ?_
        refine lv_iadd hx hb dX4_move_78 ?_
        refine lv_iload hx hb dX4_move_79 (lv_at hl 0 rfl) ?_
        refine lv_iadd hx hb dX4_move_81 ?_
        obtain ⟨g1, h⟩ := chk_some h
        refine va_iald hx hb hK hP.1 7 0 rfl rfl (inB_in g1) dX4_move_82 ?_
        obtain ⟨g2, h⟩ := chk_some h
        refine va_iast hx hb hK hP.1 hP.2 hS 7 0 rfl rfl (inB_in g2) dX4_move_83 (fun H locs hP1 hD1 hS => ?_)
        obtain ⟨S3, eS3⟩ : ∃ y : MS, y = (sIA S 7 (upd (mIA S 7) (((((24 : Int32) * x3) + x4) + t0)).toNatClampNeg (mIA S 7 (((((24 : Int32) * x1) + x2) + t0)).toNatClampNeg))) := ⟨_, rfl⟩
        have hP : mP D cA o A S3 H := by rw [eS3]; exact ⟨hP1, hD1⟩
        have h := nm_at eS3 h
        obtain ⟨y4, ey4⟩ : ∃ y : Int32, y = x7 + (1 : Int32) := ⟨_, rfl⟩
        refine lv_iinc (v := y4) (lv' := [(7, .int y4), (8, .int t0), (0, .ref (o 24)), (1, .int x1), (2, .int x2), (3, .int x3), (4, .int x4), (5, .int x5)]) hx hb dX4_move_84 hl (k := 7) rfl (by rw [ey4]; rfl) (by decide) rfl (fun ls hl => ?_)
        have h := nm_at ey4 h
        refine lv_goto (tgt := 28) hx hb dX4_move_87 (by decide) ?_
        exact ih28 x1 x2 x3 x4 x5 y4 S3 _ _ _ hP hS (lv_sub hl [2, 3, 4, 5, 6, 7, 0] rfl) h
      intro x1 x2 x3 x4 x5 x7 S H locs ls hP hS hl h
      replace h : bX4_move_28 (lX4_move_28 n28) x1 x2 x3 x4 x5 x7 S = some out := h
      unfold bX4_move_28 at h
      refine lv_iload hx hb dX4_move_28 (lv_at hl 6 rfl) ?_
      refine lv_iload hx hb dX4_move_30 (lv_at hl 5 rfl) ?_
      refine lv_icmp_ge (tgt := 90) hx hb dX4_move_32 (by decide) (fun c5 => ?_) (fun c5 => ?_)
      · have h := ite_t c5 h
        refine lv_iload hx hb dX4_move_90 (lv_at hl 5 rfl) ?_
        exact ret _ _ _ _ _ _ dX4_move_92 rfl hP hS h
      · have h := ite_f c5 h
        refine lv_iload_n hx hb dX4_move_35 rfl (lv_at hl 2 rfl) ?_
        refine lv_iload hx hb dX4_move_36 (lv_at hl 4 rfl) ?_
        refine lv_icmp_ge (tgt := 51) hx hb dX4_move_38 (by decide) (fun c6 => ?_) (fun c6 => ?_)
        · have h := ite_t c6 h
          refine lv_iload hx hb dX4_move_51 (lv_at hl 6 rfl) ?_
          exact B53 x1 x2 x3 x4 x5 x7 x7 S _ _ _ hP hS hl h
        · have h := ite_f c6 h
          refine lv_iload hx hb dX4_move_41 (lv_at hl 5 rfl) ?_
          refine lv_iconst (v := (1 : Int32)) hx hb dX4_move_43 (by decide) ?_
          refine lv_isub hx hb dX4_move_44 ?_
          refine lv_iload hx hb dX4_move_45 (lv_at hl 6 rfl) ?_
          refine lv_isub hx hb dX4_move_47 ?_
          refine lv_goto (tgt := 53) hx hb dX4_move_48 (by decide) ?_
          exact B53 x1 x2 x3 x4 x5 x7 ((x5 - (1 : Int32)) - x7) S _ _ _ hP hS hl h
  unfold fX4_move at h
  refine lv_aload_n hx hb dX4_move_0 rfl (lv_at hl 0 rfl) ?_
  refine lv_iload_n hx hb dX4_move_1 rfl (lv_at hl 1 rfl) ?_
  refine lv_iload_n hx hb dX4_move_2 rfl (lv_at hl 2 rfl) ?_
  refine lv_iload_n hx hb dX4_move_3 rfl (lv_at hl 3 rfl) ?_
  refine lv_iload hx hb dX4_move_4 (lv_at hl 4 rfl) ?_
  refine lv_iload hx hb dX4_move_6 (lv_at hl 5 rfl) ?_
  obtain ⟨v9, S8, e7, h⟩ := bnd_some h
  refine gc0_i (va_runV (As := [.int x1, .int x2, .int x3, .int x4, .int x5]) (rest := []) ⟨hx, hb, hml, hown, hts⟩ (mX4_notMoved (l := l) (D := D) (cA := cA) (o := o) (A := A) x1 x2 x3 x4 x5 S e7) (cwV 5 hts (lw_V q1712 q1714 qs84 q90 q1715) rfl rfl rfl (by decide +kernel) ⟨Nat.le_of_ble_eq_true rfl, Nat.le_of_ble_eq_true rfl⟩) (gPreV mKst hK hA hS hP (mRecv hK hP)) rfl rfl hl.1 rfl (lv_room (Nat.le_of_ble_eq_true rfl)) dX4_move_8 ⟨Nat.zero_le _, Nat.zero_le _⟩) hS (fun H locs hP hS => ?_)
  refine lv_istore (lv' := [(6, .int v9), (0, .ref (o 24)), (1, .int x1), (2, .int x2), (3, .int x3), (4, .int x4), (5, .int x5)]) hx hb dX4_move_11 hl (by decide) rfl (fun ls hl => ?_)
  refine lv_iload hx hb dX4_move_13 (lv_at hl 0 rfl) ?_
  refine lv_if_eq (tgt := 25) hx hb dX4_move_15 (by decide) (fun c10 => ?_) (fun c10 => ?_)
  · have h := ite_t c10 h
    refine lv_iconst (v := (0 : Int32)) hx hb dX4_move_25 (by decide) ?_
    refine lv_istore (lv' := [(7, .int (0 : Int32)), (6, .int v9), (0, .ref (o 24)), (1, .int x1), (2, .int x2), (3, .int x3), (4, .int x4), (5, .int x5)]) hx hb dX4_move_26 hl (by decide) rfl (fun ls hl => ?_)
    exact L28 FU x1 x2 x3 x4 x5 (0 : Int32) S8 _ _ _ hP hS (lv_sub hl [2, 3, 4, 5, 6, 7, 0] rfl) h
  · have h := ite_f c10 h
    refine lv_aload_n hx hb dX4_move_18 rfl (lv_at hl 1 rfl) ?_
    refine lv_iload hx hb dX4_move_19 (lv_at hl 0 rfl) ?_
    obtain ⟨v13, S12, e11, h⟩ := bnd_some h
    refine gc0_i (va_runV (As := [.int v9]) (rest := []) ⟨hx, hb, hml, hown, hts⟩ (mX4_error (l := l) (D := D) (cA := cA) (o := o) (A := A) v9 S8 e11) (cwV 1 hts (lw_V q1337 q1339 qs30 q90 q1340) rfl rfl rfl (by decide +kernel) ⟨Nat.le_of_ble_eq_true rfl, Nat.le_of_ble_eq_true rfl⟩) (gPreV mKst hK hA hS hP (mRecv hK hP)) rfl rfl hl.1 rfl (lv_room (Nat.le_of_ble_eq_true rfl)) dX4_move_21 ⟨Nat.zero_le _, Nat.zero_le _⟩) hS (fun H locs hP hS => ?_)
    exact ret _ _ _ _ _ _ dX4_move_24 rfl hP hS h

def bX4_needed_65 (k24 : Int32 → Int32 → Int32 → MS → Option (Int32 × MS)) (x1 : Int32) (x3 : Int32) (t0 : Int32) (t1 : Int32) (S : MS) : Option (Int32 × MS) :=
nm (t0 ||| t1) fun y1 =>
nm (x3 + (1 : Int32)) fun y2 =>
k24 x1 y1 y2 S
def bX4_needed_64 (k24 : Int32 → Int32 → Int32 → MS → Option (Int32 × MS)) (x1 : Int32) (x3 : Int32) (t0 : Int32) (S : MS) : Option (Int32 × MS) :=
bX4_needed_65 k24 x1 x3 t0 (0 : Int32) S
def bX4_needed_24 (k24 : Int32 → Int32 → Int32 → MS → Option (Int32 × MS)) (x1 : Int32) (x2 : Int32) (x3 : Int32) (S : MS) : Option (Int32 × MS) :=
(if (mIA S 0 ((2 : Int32)).toNatClampNeg) ≤ x3 then
some (x2, S)
else
(if ((x1 >>> (x3 &&& 31)) &&& (1 : Int32)) = (1 : Int32) then
bnd (fX4_doesHold (x1 &&& (((1 : Int32) <<< (x3 &&& 31)) ^^^ (-1 : Int32))) S) fun v7 S6 =>
(if v7 = 0 then
bX4_needed_65 k24 x1 x3 x2 ((1 : Int32) <<< (x3 &&& 31)) S6
else
bX4_needed_64 k24 x1 x3 x2 S6)
else
bX4_needed_64 k24 x1 x3 x2 S))
def lX4_needed_24 : Nat → (Int32 → Int32 → Int32 → MS → Option (Int32 × MS))
  | 0 => fun _ _ _ _ => none
  | n + 1 => bX4_needed_24 (lX4_needed_24 n)
def fX4_needed (S : MS) : Option (Int32 × MS) :=
bnd (fX4_onOnes  S) fun v11 S10 =>
bnd (fX4_doesHold v11 S10) fun v14 S13 =>
(if v14 = 0 then
bnd (fX4_error (-1000000003 : Int32) S13) fun v18 S17 =>
some (v18, S17)
else
lX4_needed_24 FU v11 (0 : Int32) (0 : Int32) S13)
set_option maxHeartbeats 4000000 in
set_option maxRecDepth 100000 in
theorem mX4_needed {l : Launch} {D : va_G} {cA : Nat → ClassId} {o : Nat → Nat} {A : Nat → Prop} (S : MS) {out : (Int32 × MS)} (h : fX4_needed  S = some out) : Met l yX4_needed (ws_ yX4_needed cX4_needed 4 (some .int)) ({ frames := 3, cells := 0, slots := 0, locals := 69 } : Room) (gPc (mK D cA) (mP D cA o A) A [.ref (o 24)] S) (gQi (mK D cA) (mP D cA o A) A out) 0 0 A := by
  refine gMet_z (by decide) (Nat.le_of_ble_eq_true rfl) ?_ mKst
  intro p e s m below meth c Q ls args H locs hC hP hS hl ret
  obtain ⟨hx, hb, hml, hown, hts, hA, hK⟩ := hC
  have hown : s.vm.findClass RX4 = some m.cls := hown
  have hl : lv_has ls 4 [(0, .ref (o 24))] := hl
  have L24 : ∀ (n24 : Nat) (x1 : Int32) (x2 : Int32) (x3 : Int32) (S : MS) (H : Heap) (locs : List Loc) (ls : Array Slot), mP D cA o A S H → va_S A s.heap H locs → lv_has ls 4 [(0, .ref (o 24)), (1, .int x1), (2, .int x2), (3, .int x3)] → lX4_needed_24 n24 x1 x2 x3 S = some out → W p l e ({ frames := 3, cells := 0, slots := 0, locals := 69 } : Room) s m args below meth c H locs 0 0 Q (F0 m 24 ls []) := by
    intro n24
    induction n24 with
    | zero =>
      intro x1 x2 x3 S H locs ls hP hS hl h
      cases h
    | succ n24 ih24 =>
      have B65 : ∀ (x1 : Int32) (x3 : Int32) (t0 : Int32) (t1 : Int32) (S : MS) (H : Heap) (locs : List Loc) (ls : Array Slot), mP D cA o A S H → va_S A s.heap H locs → lv_has ls 4 [(0, .ref (o 24)), (1, .int x1), (3, .int x3)] → bX4_needed_65 (lX4_needed_24 n24) x1 x3 t0 t1 S = some out → W p l e ({ frames := 3, cells := 0, slots := 0, locals := 69 } : Room) s m args below meth c H locs 0 0 Q (F0 m 65 ls [.int t1, .int t0]) := by
        intro x1 x3 t0 t1 S H locs ls hP hS hl h
        unfold bX4_needed_65 at h
        refine lv_ior hx hb dX4_needed_65 ?_
        refine lv_topi (fun y1 ey1 => ?_)
        have h := nm_at ey1 h
        refine lv_istore_n (lv' := [(2, .int y1), (0, .ref (o 24)), (1, .int x1), (3, .int x3)]) hx hb dX4_needed_66 rfl hl (by decide) rfl (fun ls hl => ?_)
        obtain ⟨y2, ey2⟩ : ∃ y : Int32, y = x3 + (1 : Int32) := ⟨_, rfl⟩
        refine lv_iinc (v := y2) (lv' := [(3, .int y2), (2, .int y1), (0, .ref (o 24)), (1, .int x1)]) hx hb dX4_needed_67 hl (k := 3) rfl (by rw [ey2]; rfl) (by decide) rfl (fun ls hl => ?_)
        have h := nm_at ey2 h
        refine lv_goto (tgt := 24) hx hb dX4_needed_70 (by decide) ?_
        exact ih24 x1 y1 y2 S _ _ _ hP hS (lv_sub hl [2, 3, 1, 0] rfl) h
      have B64 : ∀ (x1 : Int32) (x3 : Int32) (t0 : Int32) (S : MS) (H : Heap) (locs : List Loc) (ls : Array Slot), mP D cA o A S H → va_S A s.heap H locs → lv_has ls 4 [(0, .ref (o 24)), (1, .int x1), (3, .int x3)] → bX4_needed_64 (lX4_needed_24 n24) x1 x3 t0 S = some out → W p l e ({ frames := 3, cells := 0, slots := 0, locals := 69 } : Room) s m args below meth c H locs 0 0 Q (F0 m 64 ls [.int t0]) := by
        intro x1 x3 t0 S H locs ls hP hS hl h
        unfold bX4_needed_64 at h
        refine lv_iconst (v := (0 : Int32)) hx hb dX4_needed_64 (by decide) ?_
        exact B65 x1 x3 t0 (0 : Int32) S _ _ _ hP hS hl h
      intro x1 x2 x3 S H locs ls hP hS hl h
      replace h : bX4_needed_24 (lX4_needed_24 n24) x1 x2 x3 S = some out := h
      unfold bX4_needed_24 at h
      refine lv_iload_n hx hb dX4_needed_24 rfl (lv_at hl 3 rfl) ?_
      refine lv_aload_n hx hb dX4_needed_25 rfl (lv_at hl 0 rfl) ?_
      refine va_get (D := D) (ci := 4) (v := .ref (o 0)) (C := RX4) (T := TX4) (N := 24) hx hb hts in_X4 hown hK hP.1 0 rfl rfl 0 (by decide) (hts _ q1249) (fun _ h9 => h9) rfl dX4_needed_26 ?_
      refine lv_iconst (v := (2 : Int32)) hx hb dX4_needed_29 (by decide) ?_
      refine va_iald hx hb hK hP.1 1 0 rfl rfl (inB_in (by decide)) dX4_needed_30 ?_
      refine lv_icmp_ge (tgt := 73) hx hb dX4_needed_31 (by decide) (fun c3 => ?_) (fun c3 => ?_)
      · have h := ite_t c3 h
        refine lv_iload_n hx hb dX4_needed_73 rfl (lv_at hl 2 rfl) ?_
        exact ret _ _ _ _ _ _ dX4_needed_74 rfl hP hS h
      · have h := ite_f c3 h
        refine lv_iload_n hx hb dX4_needed_34 rfl (lv_at hl 2 rfl) ?_
        refine lv_iload_n hx hb dX4_needed_35 rfl (lv_at hl 1 rfl) ?_
        refine lv_iload_n hx hb dX4_needed_36 rfl (lv_at hl 3 rfl) ?_
        refine lv_ishr hx hb dX4_needed_37 ?_
        refine lv_iconst (v := (1 : Int32)) hx hb dX4_needed_38 (by decide) ?_
        refine lv_iand hx hb dX4_needed_39 ?_
        refine lv_iconst (v := (1 : Int32)) hx hb dX4_needed_40 (by decide) ?_
        refine lv_icmp_ne (tgt := 64) hx hb dX4_needed_41 (by decide) (fun c4 => ?_) (fun c4 => ?_)
        · have h := ite_f c4 h
          exact B64 x1 x3 x2 S _ _ _ hP hS (lv_sub hl [0, 1, 3] rfl) h
        · have h := ite_t c4 h
          refine lv_aload_n hx hb dX4_needed_44 rfl (lv_at hl 0 rfl) ?_
          refine lv_iload_n hx hb dX4_needed_45 rfl (lv_at hl 1 rfl) ?_
          refine lv_iconst (v := (1 : Int32)) hx hb dX4_needed_46 (by decide) ?_
          refine lv_iload_n hx hb dX4_needed_47 rfl (lv_at hl 3 rfl) ?_
          refine lv_ishl hx hb dX4_needed_48 ?_
          refine lv_iconst (v := (-1 : Int32)) hx hb dX4_needed_49 (by decide) ?_
          refine lv_ixor hx hb dX4_needed_50 ?_
          refine lv_iand hx hb dX4_needed_51 ?_
          obtain ⟨v7, S6, e5, h⟩ := bnd_some h
          refine gc0_i (va_runV (As := [.int (x1 &&& (((1 : Int32) <<< (x3 &&& 31)) ^^^ (-1 : Int32)))]) (rest := [.int x2]) ⟨hx, hb, hml, hown, hts⟩ (mX4_doesHold (l := l) (D := D) (cA := cA) (o := o) (A := A) (x1 &&& (((1 : Int32) <<< (x3 &&& 31)) ^^^ (-1 : Int32))) S e5) (cwV 1 hts (lw_V q1504 q1506 qs57 q90 q1507) rfl rfl rfl (by decide +kernel) ⟨Nat.le_of_ble_eq_true rfl, Nat.le_of_ble_eq_true rfl⟩) (gPreV mKst hK hA hS hP (mRecv hK hP)) rfl rfl hl.1 rfl (lv_room (Nat.le_of_ble_eq_true rfl)) dX4_needed_52 ⟨Nat.zero_le _, Nat.zero_le _⟩) hS (fun H locs hP hS => ?_)
          refine lv_if_ne (tgt := 64) hx hb dX4_needed_55 (by decide) (fun c8 => ?_) (fun c8 => ?_)
          · have h := ite_f c8 h
            exact B64 x1 x3 x2 S6 _ _ _ hP hS (lv_sub hl [0, 1, 3] rfl) h
          · have h := ite_t c8 h
            refine lv_iconst (v := (1 : Int32)) hx hb dX4_needed_58 (by decide) ?_
            refine lv_iload_n hx hb dX4_needed_59 rfl (lv_at hl 3 rfl) ?_
            refine lv_ishl hx hb dX4_needed_60 ?_
            refine lv_goto (tgt := 65) hx hb dX4_needed_61 (by decide) ?_
            exact B65 x1 x3 x2 ((1 : Int32) <<< (x3 &&& 31)) S6 _ _ _ hP hS (lv_sub hl [0, 1, 3] rfl) h
  unfold fX4_needed at h
  refine lv_aload_n hx hb dX4_needed_0 rfl (lv_at hl 0 rfl) ?_
  obtain ⟨v11, S10, e9, h⟩ := bnd_some h
  refine gc0_i (va_runV (As := []) (rest := []) ⟨hx, hb, hml, hown, hts⟩ (mX4_onOnes (l := l) (D := D) (cA := cA) (o := o) (A := A)  S e9) (cwV 0 hts (lw_V q1500 q1502 qs56 q90 q1503) rfl rfl rfl (by decide +kernel) ⟨Nat.le_of_ble_eq_true rfl, Nat.le_of_ble_eq_true rfl⟩) (gPreV mKst hK hA hS hP (mRecv hK hP)) rfl rfl hl.1 rfl (lv_room (Nat.le_of_ble_eq_true rfl)) dX4_needed_1 ⟨Nat.zero_le _, Nat.zero_le _⟩) hS (fun H locs hP hS => ?_)
  refine lv_istore_n (lv' := [(1, .int v11), (0, .ref (o 24))]) hx hb dX4_needed_4 rfl hl (by decide) rfl (fun ls hl => ?_)
  refine lv_aload_n hx hb dX4_needed_5 rfl (lv_at hl 1 rfl) ?_
  refine lv_iload_n hx hb dX4_needed_6 rfl (lv_at hl 0 rfl) ?_
  obtain ⟨v14, S13, e12, h⟩ := bnd_some h
  refine gc0_i (va_runV (As := [.int v11]) (rest := []) ⟨hx, hb, hml, hown, hts⟩ (mX4_doesHold (l := l) (D := D) (cA := cA) (o := o) (A := A) v11 S10 e12) (cwV 1 hts (lw_V q1504 q1506 qs57 q90 q1507) rfl rfl rfl (by decide +kernel) ⟨Nat.le_of_ble_eq_true rfl, Nat.le_of_ble_eq_true rfl⟩) (gPreV mKst hK hA hS hP (mRecv hK hP)) rfl rfl hl.1 rfl (lv_room (Nat.le_of_ble_eq_true rfl)) dX4_needed_7 ⟨Nat.zero_le _, Nat.zero_le _⟩) hS (fun H locs hP hS => ?_)
  refine lv_if_ne (tgt := 20) hx hb dX4_needed_10 (by decide) (fun c15 => ?_) (fun c15 => ?_)
  · have h := ite_f c15 h
    refine lv_iconst (v := (0 : Int32)) hx hb dX4_needed_20 (by decide) ?_
    refine lv_istore_n (lv' := [(2, .int (0 : Int32)), (1, .int v11), (0, .ref (o 24))]) hx hb dX4_needed_21 rfl hl (by decide) rfl (fun ls hl => ?_)
    refine lv_iconst (v := (0 : Int32)) hx hb dX4_needed_22 (by decide) ?_
    refine lv_istore_n (lv' := [(3, .int (0 : Int32)), (2, .int (0 : Int32)), (1, .int v11), (0, .ref (o 24))]) hx hb dX4_needed_23 rfl hl (by decide) rfl (fun ls hl => ?_)
    exact L24 FU v11 (0 : Int32) (0 : Int32) S13 _ _ _ hP hS (lv_sub hl [3, 2, 1, 0] rfl) h
  · have h := ite_t c15 h
    refine lv_aload_n hx hb dX4_needed_13 rfl (lv_at hl 1 rfl) ?_
    refine lv_ldc (v := (-1000000003 : Int32)) hx hb hown (hts _ q1418) dX4_needed_14 ?_
    obtain ⟨v18, S17, e16, h⟩ := bnd_some h
    refine gc0_i (va_runV (As := [.int (-1000000003 : Int32)]) (rest := []) ⟨hx, hb, hml, hown, hts⟩ (mX4_error (l := l) (D := D) (cA := cA) (o := o) (A := A) (-1000000003 : Int32) S13 e16) (cwV 1 hts (lw_V q1337 q1339 qs30 q90 q1340) rfl rfl rfl (by decide +kernel) ⟨Nat.le_of_ble_eq_true rfl, Nat.le_of_ble_eq_true rfl⟩) (gPreV mKst hK hA hS hP (mRecv hK hP)) rfl rfl hl.1 rfl (lv_room (Nat.le_of_ble_eq_true rfl)) dX4_needed_16 ⟨Nat.zero_le _, Nat.zero_le _⟩) hS (fun H locs hP hS => ?_)
    exact ret _ _ _ _ _ _ dX4_needed_19 rfl hP hS h

def bX4_odds_25 (S : MS) : Option (Int32 × MS) :=
bnd (fX4_error (-1000000001 : Int32) S) fun v3 S2 =>
some (v3, S2)
def bX4_odds_43 (k43 : Int32 → Int32 → Int32 → Int64 → Int32 → MS → Option (Int32 × MS)) (x1 : Int32) (x2 : Int32) (x3 : Int32) (x4 : Int64) (x6 : Int32) (S : MS) : Option (Int32 × MS) :=
(if (20 : Int32) < x6 then
bnd (fX4_inTerms x4 (41 : Int64) x3 S) fun v7 S6 =>
some (((v7).toInt32), S6)
else
bn1 (fX4_puts x1 (4 : Int32) x6 S) fun S9 =>
bn1 (fX4_goesFor x2 S9) fun S11 =>
bnd (fX4_of x1 (5 : Int32) S11) fun v14 S13 =>
nm (x4 + ((v14).toInt64)) fun y15 =>
bn1 (fX4_putsBack  S13) fun S17 =>
nm (x6 + (1 : Int32)) fun y18 =>
k43 x1 x2 x3 y15 y18 S17)
def lX4_odds_43 : Nat → (Int32 → Int32 → Int32 → Int64 → Int32 → MS → Option (Int32 × MS))
  | 0 => fun _ _ _ _ _ _ => none
  | n + 1 => bX4_odds_43 (lX4_odds_43 n)
def fX4_odds (x1 : Int32) (x2 : Int32) (x3 : Int32) (S : MS) : Option (Int32 × MS) :=
bnd (fX4_isMark x1 S) fun v21 S20 =>
(if v21 = 0 then
bX4_odds_25 S20
else
bnd (fX4_in x2 (0 : Int32) (40 : Int32) S20) fun v25 S24 =>
(if v25 = 0 then
bX4_odds_25 S24
else
bnd (fX4_isPart x3 S24) fun v29 S28 =>
(if v29 = 0 then
bX4_odds_25 S28
else
bn1 (fX4_thinks  S28) fun S32 =>
lX4_odds_43 FU x1 x2 x3 (0 : Int64) (-20 : Int32) S32)))
set_option maxHeartbeats 4000000 in
set_option maxRecDepth 100000 in
theorem mX4_odds {l : Launch} {D : va_G} {cA : Nat → ClassId} {o : Nat → Nat} {A : Nat → Prop} (x1 : Int32) (x2 : Int32) (x3 : Int32) (S : MS) {out : (Int32 × MS)} (h : fX4_odds x1 x2 x3 S = some out) : Met l yX4_odds (ws_ yX4_odds cX4_odds 7 (some .int)) ({ frames := 12, cells := 0, slots := 0, locals := 343 } : Room) (gPc (mK D cA) (mP D cA o A) A [.ref (o 24), .int x1, .int x2, .int x3] S) (gQi (mK D cA) (mP D cA o A) A out) 0 0 A := by
  refine gMet_z (by decide) (Nat.le_of_ble_eq_true rfl) ?_ mKst
  intro p e s m below meth c Q ls args H locs hC hP hS hl ret
  obtain ⟨hx, hb, hml, hown, hts, hA, hK⟩ := hC
  have hown : s.vm.findClass RX4 = some m.cls := hown
  have hl : lv_has ls 7 [(0, .ref (o 24)), (1, .int x1), (2, .int x2), (3, .int x3)] := hl
  have B25 : ∀  (S : MS) (H : Heap) (locs : List Loc) (ls : Array Slot), mP D cA o A S H → va_S A s.heap H locs → lv_has ls 7 [(0, .ref (o 24))] → bX4_odds_25   S = some out → W p l e ({ frames := 12, cells := 0, slots := 0, locals := 343 } : Room) s m args below meth c H locs 0 0 Q (F0 m 25 ls []) := by
    intro  S H locs ls hP hS hl h
    unfold bX4_odds_25 at h
    refine lv_aload_n hx hb dX4_odds_25 rfl (lv_at hl 0 rfl) ?_
    refine lv_ldc (v := (-1000000001 : Int32)) hx hb hown (hts _ q1336) dX4_odds_26 ?_
    obtain ⟨v3, S2, e1, h⟩ := bnd_some h
    refine gc0_i (va_runV (As := [.int (-1000000001 : Int32)]) (rest := []) ⟨hx, hb, hml, hown, hts⟩ (mX4_error (l := l) (D := D) (cA := cA) (o := o) (A := A) (-1000000001 : Int32) S e1) (cwV 1 hts (lw_V q1337 q1339 qs30 q90 q1340) rfl rfl rfl (by decide +kernel) ⟨Nat.le_of_ble_eq_true rfl, Nat.le_of_ble_eq_true rfl⟩) (gPreV mKst hK hA hS hP (mRecv hK hP)) rfl rfl hl.1 rfl (lv_room (Nat.le_of_ble_eq_true rfl)) dX4_odds_28 ⟨Nat.zero_le _, Nat.zero_le _⟩) hS (fun H locs hP hS => ?_)
    exact ret _ _ _ _ _ _ dX4_odds_31 rfl hP hS h
  have L43 : ∀ (n43 : Nat) (x1 : Int32) (x2 : Int32) (x3 : Int32) (x4 : Int64) (x6 : Int32) (S : MS) (H : Heap) (locs : List Loc) (ls : Array Slot), mP D cA o A S H → va_S A s.heap H locs → lv_has ls 7 [(0, .ref (o 24)), (1, .int x1), (2, .int x2), (3, .int x3), (4, .long x4), (6, .int x6)] → lX4_odds_43 n43 x1 x2 x3 x4 x6 S = some out → W p l e ({ frames := 12, cells := 0, slots := 0, locals := 343 } : Room) s m args below meth c H locs 0 0 Q (F0 m 43 ls []) := by
    intro n43
    induction n43 with
    | zero =>
      intro x1 x2 x3 x4 x6 S H locs ls hP hS hl h
      cases h
    | succ n43 ih43 =>
      intro x1 x2 x3 x4 x6 S H locs ls hP hS hl h
      replace h : bX4_odds_43 (lX4_odds_43 n43) x1 x2 x3 x4 x6 S = some out := h
      unfold bX4_odds_43 at h
      refine lv_iload hx hb dX4_odds_43 (lv_at hl 5 rfl) ?_
      refine lv_bipush (v := (20 : Int32)) hx hb dX4_odds_45 (by decide) ?_
      refine lv_icmp_gt (tgt := 85) hx hb dX4_odds_47 (by decide) (fun c4 => ?_) (fun c4 => ?_)
      · have h := ite_t c4 h
        refine lv_lload hx hb dX4_odds_85 (lv_at hl 4 rfl) ?_
        refine lv_ldc2 (v := (41 : Int64)) hx hb hown (hts _ q1631) dX4_odds_87 ?_
        refine lv_iload_n hx hb dX4_odds_90 rfl (lv_at hl 3 rfl) ?_
        obtain ⟨v7, S6, e5, h⟩ := bnd_some h
        refine gc0_l (va_runS (As := [.long x4, .long (41 : Int64), .int x3]) (rest := []) ⟨hx, hb, hml, hown, hts⟩ (mX4_inTerms (l := l) (D := D) (cA := cA) (o := o) (A := A) x4 (41 : Int64) x3 S e5) (va_cwS 3 hts (lw_S q1563 q1564 q90 q1565) rfl rfl rfl (by decide +kernel) ⟨Nat.le_of_ble_eq_true rfl, Nat.le_of_ble_eq_true rfl⟩) (gPreS mKst hK hA hS hP) rfl rfl hl.1 rfl (lv_room (Nat.le_of_ble_eq_true rfl)) dX4_odds_91 ⟨Nat.zero_le _, Nat.zero_le _⟩) hS (fun H locs hP hS => ?_)
        refine lv_l2i hx hb dX4_odds_94 rfl ?_
        exact ret _ _ _ _ _ _ dX4_odds_95 rfl hP hS h
      · have h := ite_f c4 h
        refine lv_aload_n hx hb dX4_odds_50 rfl (lv_at hl 0 rfl) ?_
        refine lv_iload_n hx hb dX4_odds_51 rfl (lv_at hl 1 rfl) ?_
        refine lv_iconst (v := (4 : Int32)) hx hb dX4_odds_52 (by decide) ?_
        refine lv_iload hx hb dX4_odds_53 (lv_at hl 5 rfl) ?_
        obtain ⟨S9, e8, h⟩ := bn1_some h
        refine gc0_v (va_runV (As := [.int x1, .int (4 : Int32), .int x6]) (rest := []) ⟨hx, hb, hml, hown, hts⟩ (mX4_puts (l := l) (D := D) (cA := cA) (o := o) (A := A) x1 (4 : Int32) x6 S e8) (cwV 3 hts (lw_V q1343 q1345 qs31 q90 q1346) rfl rfl rfl (by decide +kernel) ⟨Nat.le_of_ble_eq_true rfl, Nat.le_of_ble_eq_true rfl⟩) (gPreV mKst hK hA hS hP (mRecv hK hP)) rfl rfl hl.1 rfl (lv_room (Nat.le_of_ble_eq_true rfl)) dX4_odds_55 ⟨Nat.zero_le _, Nat.zero_le _⟩) hS (fun H locs hP hS => ?_)
        refine lv_aload_n hx hb dX4_odds_58 rfl (lv_at hl 0 rfl) ?_
        refine lv_iload_n hx hb dX4_odds_59 rfl (lv_at hl 2 rfl) ?_
        obtain ⟨S11, e10, h⟩ := bn1_some h
        refine gc0_v (va_runV (As := [.int x2]) (rest := []) ⟨hx, hb, hml, hown, hts⟩ (mX4_goesFor (l := l) (D := D) (cA := cA) (o := o) (A := A) x2 S9 e10) (cwV 1 hts (lw_V q1488 q1490 qs53 q90 q1491) rfl rfl rfl (by decide +kernel) ⟨Nat.le_of_ble_eq_true rfl, Nat.le_of_ble_eq_true rfl⟩) (gPreV mKst hK hA hS hP (mRecv hK hP)) rfl rfl hl.1 rfl (lv_room (Nat.le_of_ble_eq_true rfl)) dX4_odds_60 ⟨Nat.zero_le _, Nat.zero_le _⟩) hS (fun H locs hP hS => ?_)
        refine lv_lload hx hb dX4_odds_63 (lv_at hl 4 rfl) ?_
        refine lv_aload_n hx hb dX4_odds_65 rfl (lv_at hl 0 rfl) ?_
        refine lv_iload_n hx hb dX4_odds_66 rfl (lv_at hl 1 rfl) ?_
        refine lv_iconst (v := (5 : Int32)) hx hb dX4_odds_67 (by decide) ?_
        obtain ⟨v14, S13, e12, h⟩ := bnd_some h
        refine gc0_i (va_runV (As := [.int x1, .int (5 : Int32)]) (rest := [.long x4]) ⟨hx, hb, hml, hown, hts⟩ (mX4_of (l := l) (D := D) (cA := cA) (o := o) (A := A) x1 (5 : Int32) S11 e12) (cwV 2 hts (lw_V q1355 q1357 qs33 q90 q1358) rfl rfl rfl (by decide +kernel) ⟨Nat.le_of_ble_eq_true rfl, Nat.le_of_ble_eq_true rfl⟩) (gPreV mKst hK hA hS hP (mRecv hK hP)) rfl rfl hl.1 rfl (lv_room (Nat.le_of_ble_eq_true rfl)) dX4_odds_68 ⟨Nat.zero_le _, Nat.zero_le _⟩) hS (fun H locs hP hS => ?_)
        refine lv_i2l hx hb dX4_odds_71 rfl ?_
        refine lv_ladd hx hb dX4_odds_72 ?_
        refine lv_topl (fun y15 ey15 => ?_)
        have h := nm_at ey15 h
        refine lv_lstore (lv' := [(4, .long y15), (0, .ref (o 24)), (1, .int x1), (2, .int x2), (3, .int x3), (6, .int x6)]) hx hb dX4_odds_73 hl (by decide) rfl (fun ls hl => ?_)
        refine lv_aload_n hx hb dX4_odds_75 rfl (lv_at hl 1 rfl) ?_
        obtain ⟨S17, e16, h⟩ := bn1_some h
        refine gc0_v (va_runV (As := []) (rest := []) ⟨hx, hb, hml, hown, hts⟩ (mX4_putsBack (l := l) (D := D) (cA := cA) (o := o) (A := A)  S13 e16) (cwV 0 hts (lw_V q1605 q1607 qs69 q90 q1608) rfl rfl rfl (by decide +kernel) ⟨Nat.le_of_ble_eq_true rfl, Nat.le_of_ble_eq_true rfl⟩) (gPreV mKst hK hA hS hP (mRecv hK hP)) rfl rfl hl.1 rfl (lv_room (Nat.le_of_ble_eq_true rfl)) dX4_odds_76 ⟨Nat.zero_le _, Nat.zero_le _⟩) hS (fun H locs hP hS => ?_)
        obtain ⟨y18, ey18⟩ : ∃ y : Int32, y = x6 + (1 : Int32) := ⟨_, rfl⟩
        refine lv_iinc (v := y18) (lv' := [(6, .int y18), (4, .long y15), (0, .ref (o 24)), (1, .int x1), (2, .int x2), (3, .int x3)]) hx hb dX4_odds_79 hl (k := 5) rfl (by rw [ey18]; rfl) (by decide) rfl (fun ls hl => ?_)
        have h := nm_at ey18 h
        refine lv_goto (tgt := 43) hx hb dX4_odds_82 (by decide) ?_
        exact ih43 x1 x2 x3 y15 y18 S17 _ _ _ hP hS (lv_sub hl [2, 3, 4, 5, 1, 0] rfl) h
  unfold fX4_odds at h
  refine lv_aload_n hx hb dX4_odds_0 rfl (lv_at hl 0 rfl) ?_
  refine lv_iload_n hx hb dX4_odds_1 rfl (lv_at hl 1 rfl) ?_
  obtain ⟨v21, S20, e19, h⟩ := bnd_some h
  refine gc0_i (va_runV (As := [.int x1]) (rest := []) ⟨hx, hb, hml, hown, hts⟩ (mX4_isMark (l := l) (D := D) (cA := cA) (o := o) (A := A) x1 S e19) (cwV 1 hts (lw_V q1351 q1353 qs32 q90 q1354) rfl rfl rfl (by decide +kernel) ⟨Nat.le_of_ble_eq_true rfl, Nat.le_of_ble_eq_true rfl⟩) (gPreV mKst hK hA hS hP (mRecv hK hP)) rfl rfl hl.1 rfl (lv_room (Nat.le_of_ble_eq_true rfl)) dX4_odds_2 ⟨Nat.zero_le _, Nat.zero_le _⟩) hS (fun H locs hP hS => ?_)
  refine lv_if_eq (tgt := 25) hx hb dX4_odds_5 (by decide) (fun c22 => ?_) (fun c22 => ?_)
  · have h := ite_t c22 h
    exact B25 S20 _ _ _ hP hS (lv_sub hl [0] rfl) h
  · have h := ite_f c22 h
    refine lv_iload_n hx hb dX4_odds_8 rfl (lv_at hl 2 rfl) ?_
    refine lv_iconst (v := (0 : Int32)) hx hb dX4_odds_9 (by decide) ?_
    refine lv_bipush (v := (40 : Int32)) hx hb dX4_odds_10 (by decide) ?_
    obtain ⟨v25, S24, e23, h⟩ := bnd_some h
    refine gc0_i (va_runS (As := [.int x2, .int (0 : Int32), .int (40 : Int32)]) (rest := []) ⟨hx, hb, hml, hown, hts⟩ (mX4_in (l := l) (D := D) (cA := cA) (o := o) (A := A) x2 (0 : Int32) (40 : Int32) S20 e23) (va_cwS 3 hts (lw_S q1329 q1330 q90 q1331) rfl rfl rfl (by decide +kernel) ⟨Nat.le_of_ble_eq_true rfl, Nat.le_of_ble_eq_true rfl⟩) (gPreS mKst hK hA hS hP) rfl rfl hl.1 rfl (lv_room (Nat.le_of_ble_eq_true rfl)) dX4_odds_12 ⟨Nat.zero_le _, Nat.zero_le _⟩) hS (fun H locs hP hS => ?_)
    refine lv_if_eq (tgt := 25) hx hb dX4_odds_15 (by decide) (fun c26 => ?_) (fun c26 => ?_)
    · have h := ite_t c26 h
      exact B25 S24 _ _ _ hP hS (lv_sub hl [0] rfl) h
    · have h := ite_f c26 h
      refine lv_iload_n hx hb dX4_odds_18 rfl (lv_at hl 3 rfl) ?_
      obtain ⟨v29, S28, e27, h⟩ := bnd_some h
      refine gc0_i (va_runS (As := [.int x3]) (rest := []) ⟨hx, hb, hml, hown, hts⟩ (mX4_isPart (l := l) (D := D) (cA := cA) (o := o) (A := A) x3 S24 e27) (va_cwS 1 hts (lw_S q1560 q1561 q90 q1562) rfl rfl rfl (by decide +kernel) ⟨Nat.le_of_ble_eq_true rfl, Nat.le_of_ble_eq_true rfl⟩) (gPreS mKst hK hA hS hP) rfl rfl hl.1 rfl (lv_room (Nat.le_of_ble_eq_true rfl)) dX4_odds_19 ⟨Nat.zero_le _, Nat.zero_le _⟩) hS (fun H locs hP hS => ?_)
      refine lv_if_ne (tgt := 32) hx hb dX4_odds_22 (by decide) (fun c30 => ?_) (fun c30 => ?_)
      · have h := ite_f c30 h
        refine lv_aload_n hx hb dX4_odds_32 rfl (lv_at hl 0 rfl) ?_
        obtain ⟨S32, e31, h⟩ := bn1_some h
        refine gc0_v (va_runV (As := []) (rest := []) ⟨hx, hb, hml, hown, hts⟩ (mX4_thinks (l := l) (D := D) (cA := cA) (o := o) (A := A)  S28 e31) (cwV 0 hts (lw_V q1598 q1600 qs68 q90 q1601) rfl rfl rfl (by decide +kernel) ⟨Nat.le_of_ble_eq_true rfl, Nat.le_of_ble_eq_true rfl⟩) (gPreV mKst hK hA hS hP (mRecv hK hP)) rfl rfl hl.1 rfl (lv_room (Nat.le_of_ble_eq_true rfl)) dX4_odds_33 ⟨Nat.zero_le _, Nat.zero_le _⟩) hS (fun H locs hP hS => ?_)
        refine lv_lconst (v := (0 : Int64)) hx hb dX4_odds_36 (by decide) ?_
        refine lv_lstore (lv' := [(4, .long (0 : Int64)), (0, .ref (o 24)), (1, .int x1), (2, .int x2), (3, .int x3)]) hx hb dX4_odds_37 hl (by decide) rfl (fun ls hl => ?_)
        refine lv_bipush (v := (-20 : Int32)) hx hb dX4_odds_39 (by decide) ?_
        refine lv_istore (lv' := [(6, .int (-20 : Int32)), (4, .long (0 : Int64)), (0, .ref (o 24)), (1, .int x1), (2, .int x2), (3, .int x3)]) hx hb dX4_odds_41 hl (by decide) rfl (fun ls hl => ?_)
        exact L43 FU x1 x2 x3 (0 : Int64) (-20 : Int32) S32 _ _ _ hP hS (lv_sub hl [2, 3, 4, 5, 1, 0] rfl) h
      · have h := ite_t c30 h
        exact B25 S28 _ _ _ hP hS (lv_sub hl [0] rfl) h

def bX4_on_40 (t0 : Int32) (S : MS) : Option (Int32 × MS) :=
some (t0, S)
def bX4_on_34 (S : MS) : Option (Int32 × MS) :=
bnd (fX4_error (-1000000001 : Int32) S) fun v3 S2 =>
bX4_on_40 v3 S2
def fX4_on (x1 : Int32) (x2 : Int32) (S : MS) : Option (Int32 × MS) :=
bnd (fX4_isMark x1 S) fun v6 S5 =>
(if v6 = 0 then
bX4_on_34 S5
else
bnd (fX4_in x2 (0 : Int32) (1 : Int32) S5) fun v10 S9 =>
(if v10 = 0 then
bX4_on_34 S9
else
bnd (fX4_becomes (((8 : Int32) + ((6 : Int32) * x1)) + (5 : Int32)) x2 S9) fun v14 S13 =>
bX4_on_40 v14 S13))
set_option maxHeartbeats 4000000 in
set_option maxRecDepth 100000 in
theorem mX4_on {l : Launch} {D : va_G} {cA : Nat → ClassId} {o : Nat → Nat} {A : Nat → Prop} (x1 : Int32) (x2 : Int32) (S : MS) {out : (Int32 × MS)} (h : fX4_on x1 x2 S = some out) : Met l yX4_on (ws_ yX4_on cX4_on 3 (some .int)) ({ frames := 2, cells := 0, slots := 0, locals := 43 } : Room) (gPc (mK D cA) (mP D cA o A) A [.ref (o 24), .int x1, .int x2] S) (gQi (mK D cA) (mP D cA o A) A out) 0 0 A := by
  refine gMet_z (by decide) (Nat.le_of_ble_eq_true rfl) ?_ mKst
  intro p e s m below meth c Q ls args H locs hC hP hS hl ret
  obtain ⟨hx, hb, hml, hown, hts, hA, hK⟩ := hC
  have hown : s.vm.findClass RX4 = some m.cls := hown
  have hl : lv_has ls 3 [(0, .ref (o 24)), (1, .int x1), (2, .int x2)] := hl
  have B40 : ∀ (t0 : Int32) (S : MS) (H : Heap) (locs : List Loc) (ls : Array Slot), mP D cA o A S H → va_S A s.heap H locs → lv_has ls 3 [(0, .ref (o 24))] → bX4_on_40  t0 S = some out → W p l e ({ frames := 2, cells := 0, slots := 0, locals := 43 } : Room) s m args below meth c H locs 0 0 Q (F0 m 40 ls [.int t0]) := by
    intro t0 S H locs ls hP hS hl h
    unfold bX4_on_40 at h
    exact ret _ _ _ _ _ _ dX4_on_40 rfl hP hS h
  have B34 : ∀  (S : MS) (H : Heap) (locs : List Loc) (ls : Array Slot), mP D cA o A S H → va_S A s.heap H locs → lv_has ls 3 [(0, .ref (o 24))] → bX4_on_34   S = some out → W p l e ({ frames := 2, cells := 0, slots := 0, locals := 43 } : Room) s m args below meth c H locs 0 0 Q (F0 m 34 ls []) := by
    intro  S H locs ls hP hS hl h
    unfold bX4_on_34 at h
    refine lv_aload_n hx hb dX4_on_34 rfl (lv_at hl 0 rfl) ?_
    refine lv_ldc (v := (-1000000001 : Int32)) hx hb hown (hts _ q1336) dX4_on_35 ?_
    obtain ⟨v3, S2, e1, h⟩ := bnd_some h
    refine gc0_i (va_runV (As := [.int (-1000000001 : Int32)]) (rest := []) ⟨hx, hb, hml, hown, hts⟩ (mX4_error (l := l) (D := D) (cA := cA) (o := o) (A := A) (-1000000001 : Int32) S e1) (cwV 1 hts (lw_V q1337 q1339 qs30 q90 q1340) rfl rfl rfl (by decide +kernel) ⟨Nat.le_of_ble_eq_true rfl, Nat.le_of_ble_eq_true rfl⟩) (gPreV mKst hK hA hS hP (mRecv hK hP)) rfl rfl hl.1 rfl (lv_room (Nat.le_of_ble_eq_true rfl)) dX4_on_37 ⟨Nat.zero_le _, Nat.zero_le _⟩) hS (fun H locs hP hS => ?_)
    exact B40 v3 S2 _ _ _ hP hS hl h
  unfold fX4_on at h
  refine lv_aload_n hx hb dX4_on_0 rfl (lv_at hl 0 rfl) ?_
  refine lv_iload_n hx hb dX4_on_1 rfl (lv_at hl 1 rfl) ?_
  obtain ⟨v6, S5, e4, h⟩ := bnd_some h
  refine gc0_i (va_runV (As := [.int x1]) (rest := []) ⟨hx, hb, hml, hown, hts⟩ (mX4_isMark (l := l) (D := D) (cA := cA) (o := o) (A := A) x1 S e4) (cwV 1 hts (lw_V q1351 q1353 qs32 q90 q1354) rfl rfl rfl (by decide +kernel) ⟨Nat.le_of_ble_eq_true rfl, Nat.le_of_ble_eq_true rfl⟩) (gPreV mKst hK hA hS hP (mRecv hK hP)) rfl rfl hl.1 rfl (lv_room (Nat.le_of_ble_eq_true rfl)) dX4_on_2 ⟨Nat.zero_le _, Nat.zero_le _⟩) hS (fun H locs hP hS => ?_)
  refine lv_if_eq (tgt := 34) hx hb dX4_on_5 (by decide) (fun c7 => ?_) (fun c7 => ?_)
  · have h := ite_t c7 h
    exact B34 S5 _ _ _ hP hS (lv_sub hl [0] rfl) h
  · have h := ite_f c7 h
    refine lv_iload_n hx hb dX4_on_8 rfl (lv_at hl 2 rfl) ?_
    refine lv_iconst (v := (0 : Int32)) hx hb dX4_on_9 (by decide) ?_
    refine lv_iconst (v := (1 : Int32)) hx hb dX4_on_10 (by decide) ?_
    obtain ⟨v10, S9, e8, h⟩ := bnd_some h
    refine gc0_i (va_runS (As := [.int x2, .int (0 : Int32), .int (1 : Int32)]) (rest := []) ⟨hx, hb, hml, hown, hts⟩ (mX4_in (l := l) (D := D) (cA := cA) (o := o) (A := A) x2 (0 : Int32) (1 : Int32) S5 e8) (va_cwS 3 hts (lw_S q1329 q1330 q90 q1331) rfl rfl rfl (by decide +kernel) ⟨Nat.le_of_ble_eq_true rfl, Nat.le_of_ble_eq_true rfl⟩) (gPreS mKst hK hA hS hP) rfl rfl hl.1 rfl (lv_room (Nat.le_of_ble_eq_true rfl)) dX4_on_11 ⟨Nat.zero_le _, Nat.zero_le _⟩) hS (fun H locs hP hS => ?_)
    refine lv_if_eq (tgt := 34) hx hb dX4_on_14 (by decide) (fun c11 => ?_) (fun c11 => ?_)
    · have h := ite_t c11 h
      exact B34 S9 _ _ _ hP hS (lv_sub hl [0] rfl) h
    · have h := ite_f c11 h
      refine lv_aload_n hx hb dX4_on_17 rfl (lv_at hl 0 rfl) ?_
      refine lv_bipush (v := (8 : Int32)) hx hb dX4_on_18 (by decide) ?_
      refine lv_bipush (v := (6 : Int32)) hx hb dX4_on_20 (by decide) ?_
      refine lv_iload_n hx hb dX4_on_22 rfl (lv_at hl 1 rfl) ?_
      refine lv_imul hx hb dX4_on_23 ?_
      refine lv_iadd hx hb dX4_on_24 ?_
      refine lv_iconst (v := (5 : Int32)) hx hb dX4_on_25 (by decide) ?_
      refine lv_iadd hx hb dX4_on_26 ?_
      refine lv_iload_n hx hb dX4_on_27 rfl (lv_at hl 2 rfl) ?_
      obtain ⟨v14, S13, e12, h⟩ := bnd_some h
      refine gc0_i (va_runV (As := [.int (((8 : Int32) + ((6 : Int32) * x1)) + (5 : Int32)), .int x2]) (rest := []) ⟨hx, hb, hml, hown, hts⟩ (mX4_becomes (l := l) (D := D) (cA := cA) (o := o) (A := A) (((8 : Int32) + ((6 : Int32) * x1)) + (5 : Int32)) x2 S9 e12) (cwV 2 hts (lw_V q1397 q1399 qs41 q90 q1400) rfl rfl rfl (by decide +kernel) ⟨Nat.le_of_ble_eq_true rfl, Nat.le_of_ble_eq_true rfl⟩) (gPreV mKst hK hA hS hP (mRecv hK hP)) rfl rfl hl.1 rfl (lv_room (Nat.le_of_ble_eq_true rfl)) dX4_on_28 ⟨Nat.zero_le _, Nat.zero_le _⟩) hS (fun H locs hP hS => ?_)
      refine lv_goto (tgt := 40) hx hb dX4_on_31 (by decide) ?_
      exact B40 v14 S13 _ _ _ hP hS (lv_sub hl [0] rfl) h

def bX4_opens_103 (rc : Int32 → MS → Option MS) (S : MS) : Option MS :=
nm ((mIF S 18) - (1 : Int32)) fun y1 =>
some (sIF S 18 y1)
def bX4_opens_99 (rc : Int32 → MS → Option MS) (t1 : Int32) (t2 : Int32) (S : MS) : Option MS :=
nm (t1 + t2) fun y2 =>
bX4_opens_103 rc (sIF S 17 y2)
def bX4_opens_79 (rc : Int32 → MS → Option MS) (t1 : Int32) (S : MS) : Option MS :=
chk (isB t1) ((if (mIF (sIF S 19 t1) 19) = 0 then
bX4_opens_99 rc (mIF (sIF S 19 t1) 17) (1 : Int32) (sIF S 19 t1)
else
bX4_opens_99 rc (mIF (sIF S 19 t1) 17) (0 : Int32) (sIF S 19 t1)))
def bX4_opens_74 (rc : Int32 → MS → Option MS) (S : MS) : Option MS :=
bX4_opens_79 rc (1 : Int32) S
def gX4_opens (rc : Int32 → MS → Option MS) (x1 : Int32) (S : MS) : Option MS :=
(if (mIF S 18) = (5 : Int32) then
some (sIF S 19 (1 : Int32))
else
nm ((mIF S 18) + (1 : Int32)) fun y6 =>
nm ((mIF (sIF S 18 y6) 17) + (1 : Int32)) fun y7 =>
(if x1 = (33 : Int32) then
bn1 (fX4_one rc  (sIF (sIF S 18 y6) 17 y7)) fun S17 =>
bn1 (fX4_lays (3 : Int32) (0 : Int32) S17) fun S19 =>
bX4_opens_103 rc S19
else
bn1 (fX4_any rc  (sIF (sIF S 18 y6) 17 y7)) fun S10 =>
(if (mIF S10 19) = 0 then
bnd (fX4_look  S10) fun v14 S13 =>
(if v14 = (41 : Int32) then
bX4_opens_79 rc (0 : Int32) S13
else
bX4_opens_74 rc S13)
else
bX4_opens_74 rc S10)))
def fX4_opens : Nat → (Int32 → MS → Option MS)
  | 0 => fun _ _ => none
  | d + 1 => gX4_opens (fX4_opens d)
set_option maxHeartbeats 4000000 in
set_option maxRecDepth 100000 in
theorem nX4_opens {l : Launch} {D : va_G} {cA : Nat → ClassId} {o : Nat → Nat} {A : Nat → Prop} (d : Nat) (rc : Int32 → MS → Option MS) (hrc : ∀ (a0 : Int32) (S : MS) (out : MS), rc a0 S = some out → Met l yX4_opens (ws_ yX4_opens cX4_opens 2 none) ({ frames := 7 * d + 1, cells := 0, slots := 0, locals := 147 * d + 22 } : Room) (gPc (mK D cA) (mP D cA o A) A [.ref (o 24), .int a0] S) (gQv (mK D cA) (mP D cA o A) A out) 0 0 A) (x1 : Int32) (S : MS) {out : MS} (h : gX4_opens rc x1 S = some out) : Met l yX4_opens (ws_ yX4_opens cX4_opens 2 none) ({ frames := 7 * (d + 1) + 1, cells := 0, slots := 0, locals := 147 * (d + 1) + 22 } : Room) (gPc (mK D cA) (mP D cA o A) A [.ref (o 24), .int x1] S) (gQv (mK D cA) (mP D cA o A) A out) 0 0 A := by
  refine gMet_v (by decide) (Nat.le_of_ble_eq_true rfl) ?_ mKst
  intro p e s m below meth c Q ls args H locs hC hP hS hl _ ret
  obtain ⟨hx, hb, hml, hown, hts, hA, hK⟩ := hC
  have hown : s.vm.findClass RX4 = some m.cls := hown
  have hl : lv_has ls 2 [(0, .ref (o 24)), (1, .int x1)] := hl
  have B103 : ∀  (S : MS) (H : Heap) (locs : List Loc) (ls : Array Slot), mP D cA o A S H → va_S A s.heap H locs → lv_has ls 2 [(0, .ref (o 24))] → bX4_opens_103 rc  S = some out → W p l e ({ frames := 7 * (d + 1) + 1, cells := 0, slots := 0, locals := 147 * (d + 1) + 22 } : Room) s m args below meth c H locs 0 0 Q (F0 m 103 ls []) := by
    intro  S H locs ls hP hS hl h
    unfold bX4_opens_103 at h
    refine lv_aload_n hx hb dX4_opens_103 rfl (lv_at hl 0 rfl) ?_
    refine lv_dup hx hb dX4_opens_104 rfl ?_
    refine va_get (D := D) (ci := 4) (v := .int (mIF S 18)) (C := RX4) (T := TX4) (N := 24) hx hb hts in_X4 hown hK hP.1 0 rfl rfl 18 (by decide) (hts _ q1267) (fun _ h9 => h9) rfl dX4_opens_105 ?_
    refine lv_iconst (v := (1 : Int32)) hx hb dX4_opens_108 (by decide) ?_
    refine lv_isub hx hb dX4_opens_109 ?_
    refine lv_topi (fun y1 ey1 => ?_)
    have h := nm_at ey1 h
    refine va_put (D := D) (ci := 4) (v := .int y1) (ty := .int) (C := RX4) (T := TX4) (N := 24) hx hb hts in_X4 tyX4 tyX4_ok nmX4 hown hK hP.1 hP.2 hS 0 rfl rfl 18 (by decide) (hts _ q1267) (fun _ h9 => h9) rfl (by decide +kernel) rfl rfl (Nat.le_of_ble_eq_true rfl) dX4_opens_110 (fun H locs hP1 hD1 hS => ?_)
    have hP : mP D cA o A (sIF S 18 y1) H := ⟨hP1, hD1⟩
    exact ret _ _ _ _ _ dX4_opens_113 hP hS h
  have B99 : ∀ (t1 : Int32) (t2 : Int32) (S : MS) (H : Heap) (locs : List Loc) (ls : Array Slot), mP D cA o A S H → va_S A s.heap H locs → lv_has ls 2 [(0, .ref (o 24))] → bX4_opens_99 rc t1 t2 S = some out → W p l e ({ frames := 7 * (d + 1) + 1, cells := 0, slots := 0, locals := 147 * (d + 1) + 22 } : Room) s m args below meth c H locs 0 0 Q (F0 m 99 ls [.int t2, .int t1, .ref (o 24)]) := by
    intro t1 t2 S H locs ls hP hS hl h
    unfold bX4_opens_99 at h
    refine lv_iadd hx hb dX4_opens_99 ?_
    refine lv_topi (fun y2 ey2 => ?_)
    have h := nm_at ey2 h
    refine va_put (D := D) (ci := 4) (v := .int y2) (ty := .int) (C := RX4) (T := TX4) (N := 24) hx hb hts in_X4 tyX4 tyX4_ok nmX4 hown hK hP.1 hP.2 hS 0 rfl rfl 17 (by decide) (hts _ q1266) (fun _ h9 => h9) rfl (by decide +kernel) rfl rfl (Nat.le_of_ble_eq_true rfl) dX4_opens_100 (fun H locs hP1 hD1 hS => ?_)
    have hP : mP D cA o A (sIF S 17 y2) H := ⟨hP1, hD1⟩
    exact B103 (sIF S 17 y2) _ _ _ hP hS hl h
  have B79 : ∀ (t1 : Int32) (S : MS) (H : Heap) (locs : List Loc) (ls : Array Slot), mP D cA o A S H → va_S A s.heap H locs → lv_has ls 2 [(0, .ref (o 24))] → bX4_opens_79 rc t1 S = some out → W p l e ({ frames := 7 * (d + 1) + 1, cells := 0, slots := 0, locals := 147 * (d + 1) + 22 } : Room) s m args below meth c H locs 0 0 Q (F0 m 79 ls [.int t1, .ref (o 24)]) := by
    intro t1 S H locs ls hP hS hl h
    unfold bX4_opens_79 at h
    obtain ⟨g3, h⟩ := chk_some h
    refine va_put (D := D) (ci := 4) (v := .int t1) (ty := .boolean) (C := RX4) (T := TX4) (N := 24) hx hb hts in_X4 tyX4 tyX4_ok nmX4 hown hK hP.1 hP.2 hS 0 rfl rfl 19 (by decide) (hts _ q1268) (fun _ h9 => h9) rfl (by decide +kernel) (isB_nar g3) (isB_fit g3) (Nat.le_of_ble_eq_true rfl) dX4_opens_79 (fun H locs hP1 hD1 hS => ?_)
    have hP : mP D cA o A (sIF S 19 t1) H := ⟨hP1, hD1⟩
    refine lv_aload_n hx hb dX4_opens_82 rfl (lv_at hl 0 rfl) ?_
    refine lv_dup hx hb dX4_opens_83 rfl ?_
    refine va_get (D := D) (ci := 4) (v := .int (mIF (sIF S 19 t1) 17)) (C := RX4) (T := TX4) (N := 24) hx hb hts in_X4 hown hK hP.1 0 rfl rfl 17 (by decide) (hts _ q1266) (fun _ h9 => h9) rfl dX4_opens_84 ?_
    refine lv_aload_n hx hb dX4_opens_87 rfl (lv_at hl 0 rfl) ?_
    refine va_get (D := D) (ci := 4) (v := .int (mIF (sIF S 19 t1) 19)) (C := RX4) (T := TX4) (N := 24) hx hb hts in_X4 hown hK hP.1 0 rfl rfl 19 (by decide) (hts _ q1268) (fun _ h9 => h9) rfl dX4_opens_88 ?_
    refine lv_if_eq (tgt := 98) hx hb dX4_opens_91 (by decide) (fun c4 => ?_) (fun c4 => ?_)
    · have h := ite_t c4 h
      refine lv_iconst (v := (1 : Int32)) hx hb dX4_opens_98 (by decide) ?_
      exact B99 (mIF (sIF S 19 t1) 17) (1 : Int32) (sIF S 19 t1) _ _ _ hP hS hl h
    · have h := ite_f c4 h
      refine lv_iconst (v := (0 : Int32)) hx hb dX4_opens_94 (by decide) ?_
      refine lv_goto (tgt := 99) hx hb dX4_opens_95 (by decide) ?_
      exact B99 (mIF (sIF S 19 t1) 17) (0 : Int32) (sIF S 19 t1) _ _ _ hP hS hl h
  have B74 : ∀  (S : MS) (H : Heap) (locs : List Loc) (ls : Array Slot), mP D cA o A S H → va_S A s.heap H locs → lv_has ls 2 [(0, .ref (o 24))] → bX4_opens_74 rc  S = some out → W p l e ({ frames := 7 * (d + 1) + 1, cells := 0, slots := 0, locals := 147 * (d + 1) + 22 } : Room) s m args below meth c H locs 0 0 Q (F0 m 74 ls [.ref (o 24)]) := by
    intro  S H locs ls hP hS hl h
    unfold bX4_opens_74 at h
    refine lv_iconst (v := (1 : Int32)) hx hb dX4_opens_74 (by decide) ?_
    refine lv_goto (tgt := 79) hx hb dX4_opens_75 (by decide) ?_
    exact B79 (1 : Int32) S _ _ _ hP hS hl h
  unfold gX4_opens at h
  refine lv_aload_n hx hb dX4_opens_0 rfl (lv_at hl 0 rfl) ?_
  refine va_get (D := D) (ci := 4) (v := .int (mIF S 18)) (C := RX4) (T := TX4) (N := 24) hx hb hts in_X4 hown hK hP.1 0 rfl rfl 18 (by decide) (hts _ q1267) (fun _ h9 => h9) rfl dX4_opens_1 ?_
  refine lv_iconst (v := (5 : Int32)) hx hb dX4_opens_4 (by decide) ?_
  refine lv_icmp_ne (tgt := 14) hx hb dX4_opens_5 (by decide) (fun c5 => ?_) (fun c5 => ?_)
  · have h := ite_f c5 h
    refine lv_aload_n hx hb dX4_opens_14 rfl (lv_at hl 0 rfl) ?_
    refine lv_dup hx hb dX4_opens_15 rfl ?_
    refine va_get (D := D) (ci := 4) (v := .int (mIF S 18)) (C := RX4) (T := TX4) (N := 24) hx hb hts in_X4 hown hK hP.1 0 rfl rfl 18 (by decide) (hts _ q1267) (fun _ h9 => h9) rfl dX4_opens_16 ?_
    refine lv_iconst (v := (1 : Int32)) hx hb dX4_opens_19 (by decide) ?_
    refine lv_iadd hx hb dX4_opens_20 ?_
    refine lv_topi (fun y6 ey6 => ?_)
    have h := nm_at ey6 h
    refine va_put (D := D) (ci := 4) (v := .int y6) (ty := .int) (C := RX4) (T := TX4) (N := 24) hx hb hts in_X4 tyX4 tyX4_ok nmX4 hown hK hP.1 hP.2 hS 0 rfl rfl 18 (by decide) (hts _ q1267) (fun _ h9 => h9) rfl (by decide +kernel) rfl rfl (Nat.le_of_ble_eq_true rfl) dX4_opens_21 (fun H locs hP1 hD1 hS => ?_)
    have hP : mP D cA o A (sIF S 18 y6) H := ⟨hP1, hD1⟩
    refine lv_aload_n hx hb dX4_opens_24 rfl (lv_at hl 0 rfl) ?_
    refine lv_dup hx hb dX4_opens_25 rfl ?_
    refine va_get (D := D) (ci := 4) (v := .int (mIF (sIF S 18 y6) 17)) (C := RX4) (T := TX4) (N := 24) hx hb hts in_X4 hown hK hP.1 0 rfl rfl 17 (by decide) (hts _ q1266) (fun _ h9 => h9) rfl dX4_opens_26 ?_
    refine lv_iconst (v := (1 : Int32)) hx hb dX4_opens_29 (by decide) ?_
    refine lv_iadd hx hb dX4_opens_30 ?_
    refine lv_topi (fun y7 ey7 => ?_)
    have h := nm_at ey7 h
    refine va_put (D := D) (ci := 4) (v := .int y7) (ty := .int) (C := RX4) (T := TX4) (N := 24) hx hb hts in_X4 tyX4 tyX4_ok nmX4 hown hK hP.1 hP.2 hS 0 rfl rfl 17 (by decide) (hts _ q1266) (fun _ h9 => h9) rfl (by decide +kernel) rfl rfl (Nat.le_of_ble_eq_true rfl) dX4_opens_31 (fun H locs hP1 hD1 hS => ?_)
    have hP : mP D cA o A (sIF (sIF S 18 y6) 17 y7) H := ⟨hP1, hD1⟩
    refine lv_iload_n hx hb dX4_opens_34 rfl (lv_at hl 1 rfl) ?_
    refine lv_bipush (v := (33 : Int32)) hx hb dX4_opens_35 (by decide) ?_
    refine lv_icmp_ne (tgt := 53) hx hb dX4_opens_37 (by decide) (fun c8 => ?_) (fun c8 => ?_)
    · have h := ite_f c8 h
      refine lv_aload_n hx hb dX4_opens_53 rfl (lv_at hl 0 rfl) ?_
      obtain ⟨S10, e9, h⟩ := bn1_some h
      refine gc0_v (va_runV (As := []) (rest := []) ⟨hx, hb, hml, hown, hts⟩ (mX4_any (l := l) (D := D) (cA := cA) (o := o) (A := A) d rc hrc  (sIF (sIF S 18 y6) 17 y7) e9) (cwV 0 hts (lw_V q1432 q1434 qs42 q90 q1435) rfl rfl rfl (by decide +kernel) ⟨by dsimp only; omega, by dsimp only; omega⟩) (gPreV mKst hK hA hS hP (mRecv hK hP)) rfl rfl hl.1 rfl (lv_room (Nat.le_of_ble_eq_true rfl)) dX4_opens_54 ⟨Nat.zero_le _, Nat.zero_le _⟩) hS (fun H locs hP hS => ?_)
      refine lv_aload_n hx hb dX4_opens_57 rfl (lv_at hl 0 rfl) ?_
      refine lv_aload_n hx hb dX4_opens_58 rfl (lv_at hl 0 rfl) ?_
      refine va_get (D := D) (ci := 4) (v := .int (mIF S10 19)) (C := RX4) (T := TX4) (N := 24) hx hb hts in_X4 hown hK hP.1 0 rfl rfl 19 (by decide) (hts _ q1268) (fun _ h9 => h9) rfl dX4_opens_59 ?_
      refine lv_if_ne (tgt := 74) hx hb dX4_opens_62 (by decide) (fun c11 => ?_) (fun c11 => ?_)
      · have h := ite_f c11 h
        exact B74 S10 _ _ _ hP hS (lv_sub hl [0] rfl) h
      · have h := ite_t c11 h
        refine lv_aload_n hx hb dX4_opens_65 rfl (lv_at hl 0 rfl) ?_
        obtain ⟨v14, S13, e12, h⟩ := bnd_some h
        refine gc0_i (va_runV (As := []) (rest := [.ref (o 24)]) ⟨hx, hb, hml, hown, hts⟩ (mX4_look (l := l) (D := D) (cA := cA) (o := o) (A := A)  S10 e12) (cwV 0 hts (lw_V q1456 q1458 qs48 q90 q1459) rfl rfl rfl (by decide +kernel) ⟨by dsimp only; omega, by dsimp only; omega⟩) (gPreV mKst hK hA hS hP (mRecv hK hP)) rfl rfl hl.1 rfl (lv_room (Nat.le_of_ble_eq_true rfl)) dX4_opens_66 ⟨Nat.zero_le _, Nat.zero_le _⟩) hS (fun H locs hP hS => ?_)
        refine lv_bipush (v := (41 : Int32)) hx hb dX4_opens_69 (by decide) ?_
        refine lv_icmp_eq (tgt := 78) hx hb dX4_opens_71 (by decide) (fun c15 => ?_) (fun c15 => ?_)
        · have h := ite_t c15 h
          refine lv_iconst (v := (0 : Int32)) hx hb dX4_opens_78 (by decide) ?_
          exact B79 (0 : Int32) S13 _ _ _ hP hS (lv_sub hl [0] rfl) h
        · have h := ite_f c15 h
          exact B74 S13 _ _ _ hP hS (lv_sub hl [0] rfl) h
    · have h := ite_t c8 h
      refine lv_aload_n hx hb dX4_opens_40 rfl (lv_at hl 0 rfl) ?_
      obtain ⟨S17, e16, h⟩ := bn1_some h
      refine gc0_v (va_runV (As := []) (rest := []) ⟨hx, hb, hml, hown, hts⟩ (mX4_one (l := l) (D := D) (cA := cA) (o := o) (A := A) d rc hrc  (sIF (sIF S 18 y6) 17 y7) e16) (cwV 0 hts (lw_V q1452 q1454 qs47 q90 q1455) rfl rfl rfl (by decide +kernel) ⟨by dsimp only; omega, by dsimp only; omega⟩) (gPreV mKst hK hA hS hP (mRecv hK hP)) rfl rfl hl.1 rfl (lv_room (Nat.le_of_ble_eq_true rfl)) dX4_opens_41 ⟨Nat.zero_le _, Nat.zero_le _⟩) hS (fun H locs hP hS => ?_)
      refine lv_aload_n hx hb dX4_opens_44 rfl (lv_at hl 0 rfl) ?_
      refine lv_iconst (v := (3 : Int32)) hx hb dX4_opens_45 (by decide) ?_
      refine lv_iconst (v := (0 : Int32)) hx hb dX4_opens_46 (by decide) ?_
      obtain ⟨S19, e18, h⟩ := bn1_some h
      refine gc0_v (va_runV (As := [.int (3 : Int32), .int (0 : Int32)]) (rest := []) ⟨hx, hb, hml, hown, hts⟩ (mX4_lays (l := l) (D := D) (cA := cA) (o := o) (A := A) (3 : Int32) (0 : Int32) S17 e18) (cwV 2 hts (lw_V q1464 q1466 qs50 q90 q1467) rfl rfl rfl (by decide +kernel) ⟨by dsimp only; omega, by dsimp only; omega⟩) (gPreV mKst hK hA hS hP (mRecv hK hP)) rfl rfl hl.1 rfl (lv_room (Nat.le_of_ble_eq_true rfl)) dX4_opens_47 ⟨Nat.zero_le _, Nat.zero_le _⟩) hS (fun H locs hP hS => ?_)
      refine lv_goto (tgt := 103) hx hb dX4_opens_50 (by decide) ?_
      exact B103 S19 _ _ _ hP hS (lv_sub hl [0] rfl) h
  · have h := ite_t c5 h
    refine lv_aload_n hx hb dX4_opens_8 rfl (lv_at hl 0 rfl) ?_
    refine lv_iconst (v := (1 : Int32)) hx hb dX4_opens_9 (by decide) ?_
    refine va_put (D := D) (ci := 4) (v := .int (1 : Int32)) (ty := .boolean) (C := RX4) (T := TX4) (N := 24) hx hb hts in_X4 tyX4 tyX4_ok nmX4 hown hK hP.1 hP.2 hS 0 rfl rfl 19 (by decide) (hts _ q1268) (fun _ h9 => h9) rfl (by decide +kernel) rfl rfl (Nat.le_of_ble_eq_true rfl) dX4_opens_10 (fun H locs hP1 hD1 hS => ?_)
    have hP : mP D cA o A (sIF S 19 (1 : Int32)) H := ⟨hP1, hD1⟩
    exact ret _ _ _ _ _ dX4_opens_13 hP hS h
theorem oX4_opens {l : Launch} {D : va_G} {cA : Nat → ClassId} {o : Nat → Nat} {A : Nat → Prop} (d : Nat) : ∀ (x1 : Int32) (S : MS) (out : MS), fX4_opens d x1 S = some out → Met l yX4_opens (ws_ yX4_opens cX4_opens 2 none) ({ frames := 7 * d + 1, cells := 0, slots := 0, locals := 147 * d + 22 } : Room) (gPc (mK D cA) (mP D cA o A) A [.ref (o 24), .int x1] S) (gQv (mK D cA) (mP D cA o A) A out) 0 0 A := by
  induction d with
  | zero => intro x1 S out h; cases h
  | succ d ih => intro x1 S out h; exact nX4_opens d _ ih x1 S h
theorem mX4_opens {l : Launch} {D : va_G} {cA : Nat → ClassId} {o : Nat → Nat} {A : Nat → Prop} (d : Nat) (x1 : Int32) (S : MS) {out : MS} (h : fX4_opens d x1 S = some out) : Met l yX4_opens (ws_ yX4_opens cX4_opens 2 none) ({ frames := 7 * d + 1, cells := 0, slots := 0, locals := 147 * d + 22 } : Room) (gPc (mK D cA) (mP D cA o A) A [.ref (o 24), .int x1] S) (gQv (mK D cA) (mP D cA o A) A out) 0 0 A := oX4_opens d x1 S out h

def bX4_plainParts_42 (t0 : Int32) (S : MS) : Option (Int32 × MS) :=
some (t0, S)
def bX4_plainParts_25 (x2 : Int32) (x3 : Int32) (t1 : Int32) (S : MS) : Option (Int32 × MS) :=
chk (isB t1) ((if (mIF (sIF S 23 t1) 23) = 0 then
chk (ne0 x3) (bX4_plainParts_42 (x2 / x3) (sIF S 23 t1))
else
bX4_plainParts_42 (0 : Int32) (sIF S 23 t1)))
def fX4_plainParts (x1 : Int32) (x2 : Int32) (S : MS) : Option (Int32 × MS) :=
bn1 (fX4_begins (13 : Int32) S) fun S5 =>
bnd (fX4_of x1 (1 : Int32) S5) fun v8 S7 =>
nm (v8 - x1) fun y9 =>
(if y9 = 0 then
bX4_plainParts_25 x2 y9 (1 : Int32) S7
else
bX4_plainParts_25 x2 y9 (0 : Int32) S7)
set_option maxHeartbeats 4000000 in
set_option maxRecDepth 100000 in
theorem mX4_plainParts {l : Launch} {D : va_G} {cA : Nat → ClassId} {o : Nat → Nat} {A : Nat → Prop} (x1 : Int32) (x2 : Int32) (S : MS) {out : (Int32 × MS)} (h : fX4_plainParts x1 x2 S = some out) : Met l yX4_plainParts (ws_ yX4_plainParts cX4_plainParts 4 (some .int)) ({ frames := 1, cells := 0, slots := 0, locals := 22 } : Room) (gPc (mK D cA) (mP D cA o A) A [.ref (o 24), .int x1, .int x2] S) (gQi (mK D cA) (mP D cA o A) A out) 0 0 A := by
  refine gMet_z (by decide) (Nat.le_of_ble_eq_true rfl) ?_ mKst
  intro p e s m below meth c Q ls args H locs hC hP hS hl ret
  obtain ⟨hx, hb, hml, hown, hts, hA, hK⟩ := hC
  have hown : s.vm.findClass RX4 = some m.cls := hown
  have hl : lv_has ls 4 [(0, .ref (o 24)), (1, .int x1), (2, .int x2)] := hl
  have B42 : ∀ (t0 : Int32) (S : MS) (H : Heap) (locs : List Loc) (ls : Array Slot), mP D cA o A S H → va_S A s.heap H locs → lv_has ls 4 [(0, .ref (o 24))] → bX4_plainParts_42  t0 S = some out → W p l e ({ frames := 1, cells := 0, slots := 0, locals := 22 } : Room) s m args below meth c H locs 0 0 Q (F0 m 42 ls [.int t0]) := by
    intro t0 S H locs ls hP hS hl h
    unfold bX4_plainParts_42 at h
    exact ret _ _ _ _ _ _ dX4_plainParts_42 rfl hP hS h
  have B25 : ∀ (x2 : Int32) (x3 : Int32) (t1 : Int32) (S : MS) (H : Heap) (locs : List Loc) (ls : Array Slot), mP D cA o A S H → va_S A s.heap H locs → lv_has ls 4 [(0, .ref (o 24)), (2, .int x2), (3, .int x3)] → bX4_plainParts_25  x2 x3 t1 S = some out → W p l e ({ frames := 1, cells := 0, slots := 0, locals := 22 } : Room) s m args below meth c H locs 0 0 Q (F0 m 25 ls [.int t1, .ref (o 24)]) := by
    intro x2 x3 t1 S H locs ls hP hS hl h
    unfold bX4_plainParts_25 at h
    obtain ⟨g1, h⟩ := chk_some h
    refine va_put (D := D) (ci := 4) (v := .int t1) (ty := .boolean) (C := RX4) (T := TX4) (N := 24) hx hb hts in_X4 tyX4 tyX4_ok nmX4 hown hK hP.1 hP.2 hS 0 rfl rfl 23 (by decide) (hts _ q1272) (fun _ h9 => h9) rfl (by decide +kernel) (isB_nar g1) (isB_fit g1) (Nat.le_of_ble_eq_true rfl) dX4_plainParts_25 (fun H locs hP1 hD1 hS => ?_)
    have hP : mP D cA o A (sIF S 23 t1) H := ⟨hP1, hD1⟩
    refine lv_aload_n hx hb dX4_plainParts_28 rfl (lv_at hl 0 rfl) ?_
    refine va_get (D := D) (ci := 4) (v := .int (mIF (sIF S 23 t1) 23)) (C := RX4) (T := TX4) (N := 24) hx hb hts in_X4 hown hK hP.1 0 rfl rfl 23 (by decide) (hts _ q1272) (fun _ h9 => h9) rfl dX4_plainParts_29 ?_
    refine lv_if_eq (tgt := 39) hx hb dX4_plainParts_32 (by decide) (fun c2 => ?_) (fun c2 => ?_)
    · have h := ite_t c2 h
      refine lv_iload_n hx hb dX4_plainParts_39 rfl (lv_at hl 1 rfl) ?_
      refine lv_iload_n hx hb dX4_plainParts_40 rfl (lv_at hl 2 rfl) ?_
      obtain ⟨g3, h⟩ := chk_some h
      refine lv_idiv hx hb dX4_plainParts_41 (ne0_n g3) ?_
      exact B42 (x2 / x3) (sIF S 23 t1) _ _ _ hP hS (lv_sub hl [0] rfl) h
    · have h := ite_f c2 h
      refine lv_iconst (v := (0 : Int32)) hx hb dX4_plainParts_35 (by decide) ?_
      refine lv_goto (tgt := 42) hx hb dX4_plainParts_36 (by decide) ?_
      exact B42 (0 : Int32) (sIF S 23 t1) _ _ _ hP hS (lv_sub hl [0] rfl) h
  unfold fX4_plainParts at h
  refine lv_aload_n hx hb dX4_plainParts_0 rfl (lv_at hl 0 rfl) ?_
  refine lv_bipush (v := (13 : Int32)) hx hb dX4_plainParts_1 (by decide) ?_
  obtain ⟨S5, e4, h⟩ := bn1_some h
  refine gc0_v (va_runV (As := [.int (13 : Int32)]) (rest := []) ⟨hx, hb, hml, hown, hts⟩ (mX4_begins (l := l) (D := D) (cA := cA) (o := o) (A := A) (13 : Int32) S e4) (cwV 1 hts (lw_V q1655 q1657 qs74 q90 q1658) rfl rfl rfl (by decide +kernel) ⟨Nat.le_of_ble_eq_true rfl, Nat.le_of_ble_eq_true rfl⟩) (gPreV mKst hK hA hS hP (mRecv hK hP)) rfl rfl hl.1 rfl (lv_room (Nat.le_of_ble_eq_true rfl)) dX4_plainParts_3 ⟨Nat.zero_le _, Nat.zero_le _⟩) hS (fun H locs hP hS => ?_)
  refine lv_aload_n hx hb dX4_plainParts_6 rfl (lv_at hl 0 rfl) ?_
  refine lv_iload_n hx hb dX4_plainParts_7 rfl (lv_at hl 1 rfl) ?_
  refine lv_iconst (v := (1 : Int32)) hx hb dX4_plainParts_8 (by decide) ?_
  obtain ⟨v8, S7, e6, h⟩ := bnd_some h
  refine gc0_i (va_runV (As := [.int x1, .int (1 : Int32)]) (rest := []) ⟨hx, hb, hml, hown, hts⟩ (mX4_of (l := l) (D := D) (cA := cA) (o := o) (A := A) x1 (1 : Int32) S5 e6) (cwV 2 hts (lw_V q1355 q1357 qs33 q90 q1358) rfl rfl rfl (by decide +kernel) ⟨Nat.le_of_ble_eq_true rfl, Nat.le_of_ble_eq_true rfl⟩) (gPreV mKst hK hA hS hP (mRecv hK hP)) rfl rfl hl.1 rfl (lv_room (Nat.le_of_ble_eq_true rfl)) dX4_plainParts_9 ⟨Nat.zero_le _, Nat.zero_le _⟩) hS (fun H locs hP hS => ?_)
  refine lv_iload_n hx hb dX4_plainParts_12 rfl (lv_at hl 1 rfl) ?_
  refine lv_isub hx hb dX4_plainParts_13 ?_
  refine lv_topi (fun y9 ey9 => ?_)
  have h := nm_at ey9 h
  refine lv_istore_n (lv' := [(3, .int y9), (0, .ref (o 24)), (1, .int x1), (2, .int x2)]) hx hb dX4_plainParts_14 rfl hl (by decide) rfl (fun ls hl => ?_)
  refine lv_aload_n hx hb dX4_plainParts_15 rfl (lv_at hl 1 rfl) ?_
  refine lv_iload_n hx hb dX4_plainParts_16 rfl (lv_at hl 0 rfl) ?_
  refine lv_if_ne (tgt := 24) hx hb dX4_plainParts_17 (by decide) (fun c10 => ?_) (fun c10 => ?_)
  · have h := ite_f c10 h
    refine lv_iconst (v := (0 : Int32)) hx hb dX4_plainParts_24 (by decide) ?_
    exact B25 x2 y9 (0 : Int32) S7 _ _ _ hP hS (lv_sub hl [1, 3, 0] rfl) h
  · have h := ite_t c10 h
    refine lv_iconst (v := (1 : Int32)) hx hb dX4_plainParts_20 (by decide) ?_
    refine lv_goto (tgt := 25) hx hb dX4_plainParts_21 (by decide) ?_
    exact B25 x2 y9 (1 : Int32) S7 _ _ _ hP hS (lv_sub hl [1, 3, 0] rfl) h

def fX4_weighs (x1 : Int32) (x2 : Int32) (S : MS) : Option (Int32 × MS) :=
bnd (fX4_of x1 (0 : Int32) S) fun v3 S2 =>
(if v3 = (1 : Int32) then
bnd (fX4_flatWeighs x1 x2 S2) fun v7 S6 =>
some (v7, S6)
else
(if v3 = (4 : Int32) then
bn1 (fX4_begins (50 : Int32) S2) fun S10 =>
bnd (fX4_flatWeighs x1 x2 S10) fun v13 S12 =>
some ((v13 * (3 : Int32)), S12)
else
(if v3 = (6 : Int32) then
bn1 (fX4_begins (70 : Int32) S2) fun S16 =>
some ((9 : Int32), S16)
else
bnd (fX4_plainWeighs x1 x2 S2) fun v19 S18 =>
some (v19, S18))))
set_option maxHeartbeats 4000000 in
set_option maxRecDepth 100000 in
theorem mX4_weighs {l : Launch} {D : va_G} {cA : Nat → ClassId} {o : Nat → Nat} {A : Nat → Prop} (x1 : Int32) (x2 : Int32) (S : MS) {out : (Int32 × MS)} (h : fX4_weighs x1 x2 S = some out) : Met l yX4_weighs (ws_ yX4_weighs cX4_weighs 3 (some .int)) ({ frames := 3, cells := 0, slots := 0, locals := 65 } : Room) (gPc (mK D cA) (mP D cA o A) A [.ref (o 24), .int x1, .int x2] S) (gQi (mK D cA) (mP D cA o A) A out) 0 0 A := by
  refine gMet_z (by decide) (Nat.le_of_ble_eq_true rfl) ?_ mKst
  intro p e s m below meth c Q ls args H locs hC hP hS hl ret
  obtain ⟨hx, hb, hml, hown, hts, hA, hK⟩ := hC
  have hown : s.vm.findClass RX4 = some m.cls := hown
  have hl : lv_has ls 3 [(0, .ref (o 24)), (1, .int x1), (2, .int x2)] := hl
  unfold fX4_weighs at h
  refine lv_aload_n hx hb dX4_weighs_0 rfl (lv_at hl 0 rfl) ?_
  refine lv_iload_n hx hb dX4_weighs_1 rfl (lv_at hl 1 rfl) ?_
  refine lv_iconst (v := (0 : Int32)) hx hb dX4_weighs_2 (by decide) ?_
  obtain ⟨v3, S2, e1, h⟩ := bnd_some h
  refine gc0_i (va_runV (As := [.int x1, .int (0 : Int32)]) (rest := []) ⟨hx, hb, hml, hown, hts⟩ (mX4_of (l := l) (D := D) (cA := cA) (o := o) (A := A) x1 (0 : Int32) S e1) (cwV 2 hts (lw_V q1355 q1357 qs33 q90 q1358) rfl rfl rfl (by decide +kernel) ⟨Nat.le_of_ble_eq_true rfl, Nat.le_of_ble_eq_true rfl⟩) (gPreV mKst hK hA hS hP (mRecv hK hP)) rfl rfl hl.1 rfl (lv_room (Nat.le_of_ble_eq_true rfl)) dX4_weighs_3 ⟨Nat.zero_le _, Nat.zero_le _⟩) hS (fun H locs hP hS => ?_)
  by_cases c4 : v3 = (1 : Int32)
  · have h := ite_t c4 h
    refine lv_lookup (off := 34) (tgt := 40) hx hb dX4_weighs_6 (by decide) (by rw [c4]; rfl) (by decide) ?_
    refine lv_aload_n hx hb dX4_weighs_40 rfl (lv_at hl 0 rfl) ?_
    refine lv_iload_n hx hb dX4_weighs_41 rfl (lv_at hl 1 rfl) ?_
    refine lv_iload_n hx hb dX4_weighs_42 rfl (lv_at hl 2 rfl) ?_
    obtain ⟨v7, S6, e5, h⟩ := bnd_some h
    refine gc0_i (va_runV (As := [.int x1, .int x2]) (rest := []) ⟨hx, hb, hml, hown, hts⟩ (mX4_flatWeighs (l := l) (D := D) (cA := cA) (o := o) (A := A) x1 x2 S2 e5) (cwV 2 hts (lw_V q1651 q1653 qs73 q90 q1654) rfl rfl rfl (by decide +kernel) ⟨Nat.le_of_ble_eq_true rfl, Nat.le_of_ble_eq_true rfl⟩) (gPreV mKst hK hA hS hP (mRecv hK hP)) rfl rfl hl.1 rfl (lv_room (Nat.le_of_ble_eq_true rfl)) dX4_weighs_43 ⟨Nat.zero_le _, Nat.zero_le _⟩) hS (fun H locs hP hS => ?_)
    exact ret _ _ _ _ _ _ dX4_weighs_46 rfl hP hS h
  · have h := ite_f c4 h
    by_cases c8 : v3 = (4 : Int32)
    · have h := ite_t c8 h
      refine lv_lookup (off := 41) (tgt := 47) hx hb dX4_weighs_6 (by decide) (by rw [c8]; rfl) (by decide) ?_
      refine lv_aload_n hx hb dX4_weighs_47 rfl (lv_at hl 0 rfl) ?_
      refine lv_bipush (v := (50 : Int32)) hx hb dX4_weighs_48 (by decide) ?_
      obtain ⟨S10, e9, h⟩ := bn1_some h
      refine gc0_v (va_runV (As := [.int (50 : Int32)]) (rest := []) ⟨hx, hb, hml, hown, hts⟩ (mX4_begins (l := l) (D := D) (cA := cA) (o := o) (A := A) (50 : Int32) S2 e9) (cwV 1 hts (lw_V q1655 q1657 qs74 q90 q1658) rfl rfl rfl (by decide +kernel) ⟨Nat.le_of_ble_eq_true rfl, Nat.le_of_ble_eq_true rfl⟩) (gPreV mKst hK hA hS hP (mRecv hK hP)) rfl rfl hl.1 rfl (lv_room (Nat.le_of_ble_eq_true rfl)) dX4_weighs_50 ⟨Nat.zero_le _, Nat.zero_le _⟩) hS (fun H locs hP hS => ?_)
      refine lv_aload_n hx hb dX4_weighs_53 rfl (lv_at hl 0 rfl) ?_
      refine lv_iload_n hx hb dX4_weighs_54 rfl (lv_at hl 1 rfl) ?_
      refine lv_iload_n hx hb dX4_weighs_55 rfl (lv_at hl 2 rfl) ?_
      obtain ⟨v13, S12, e11, h⟩ := bnd_some h
      refine gc0_i (va_runV (As := [.int x1, .int x2]) (rest := []) ⟨hx, hb, hml, hown, hts⟩ (mX4_flatWeighs (l := l) (D := D) (cA := cA) (o := o) (A := A) x1 x2 S10 e11) (cwV 2 hts (lw_V q1651 q1653 qs73 q90 q1654) rfl rfl rfl (by decide +kernel) ⟨Nat.le_of_ble_eq_true rfl, Nat.le_of_ble_eq_true rfl⟩) (gPreV mKst hK hA hS hP (mRecv hK hP)) rfl rfl hl.1 rfl (lv_room (Nat.le_of_ble_eq_true rfl)) dX4_weighs_56 ⟨Nat.zero_le _, Nat.zero_le _⟩) hS (fun H locs hP hS => ?_)
      refine lv_iconst (v := (3 : Int32)) hx hb dX4_weighs_59 (by decide) ?_
      refine lv_imul hx hb dX4_weighs_60 ?_
      exact ret _ _ _ _ _ _ dX4_weighs_61 rfl hP hS h
    · have h := ite_f c8 h
      by_cases c14 : v3 = (6 : Int32)
      · have h := ite_t c14 h
        refine lv_lookup (off := 56) (tgt := 62) hx hb dX4_weighs_6 (by decide) (by rw [c14]; rfl) (by decide) ?_
        refine lv_aload_n hx hb dX4_weighs_62 rfl (lv_at hl 0 rfl) ?_
        refine lv_bipush (v := (70 : Int32)) hx hb dX4_weighs_63 (by decide) ?_
        obtain ⟨S16, e15, h⟩ := bn1_some h
        refine gc0_v (va_runV (As := [.int (70 : Int32)]) (rest := []) ⟨hx, hb, hml, hown, hts⟩ (mX4_begins (l := l) (D := D) (cA := cA) (o := o) (A := A) (70 : Int32) S2 e15) (cwV 1 hts (lw_V q1655 q1657 qs74 q90 q1658) rfl rfl rfl (by decide +kernel) ⟨Nat.le_of_ble_eq_true rfl, Nat.le_of_ble_eq_true rfl⟩) (gPreV mKst hK hA hS hP (mRecv hK hP)) rfl rfl hl.1 rfl (lv_room (Nat.le_of_ble_eq_true rfl)) dX4_weighs_65 ⟨Nat.zero_le _, Nat.zero_le _⟩) hS (fun H locs hP hS => ?_)
        refine lv_bipush (v := (9 : Int32)) hx hb dX4_weighs_68 (by decide) ?_
        exact ret _ _ _ _ _ _ dX4_weighs_70 rfl hP hS h
      · have h := ite_f c14 h
        refine lv_lookup (off := 65) (tgt := 71) hx hb dX4_weighs_6 (by decide) (by rw [lv_osw c4 (by decide), lv_osw c8 (by decide), lv_osw c14 (by decide)]; rfl) (by decide) ?_
        refine lv_aload_n hx hb dX4_weighs_71 rfl (lv_at hl 0 rfl) ?_
        refine lv_iload_n hx hb dX4_weighs_72 rfl (lv_at hl 1 rfl) ?_
        refine lv_iload_n hx hb dX4_weighs_73 rfl (lv_at hl 2 rfl) ?_
        obtain ⟨v19, S18, e17, h⟩ := bnd_some h
        refine gc0_i (va_runV (As := [.int x1, .int x2]) (rest := []) ⟨hx, hb, hml, hown, hts⟩ (mX4_plainWeighs (l := l) (D := D) (cA := cA) (o := o) (A := A) x1 x2 S2 e17) (cwV 2 hts (lw_V q1659 q1661 qs75 q90 q1662) rfl rfl rfl (by decide +kernel) ⟨Nat.le_of_ble_eq_true rfl, Nat.le_of_ble_eq_true rfl⟩) (gPreV mKst hK hA hS hP (mRecv hK hP)) rfl rfl hl.1 rfl (lv_room (Nat.le_of_ble_eq_true rfl)) dX4_weighs_74 ⟨Nat.zero_le _, Nat.zero_le _⟩) hS (fun H locs hP hS => ?_)
        exact ret _ _ _ _ _ _ dX4_weighs_77 rfl hP hS h

def fX4_plainSays (x1 : Int32) (x2 : Int32) (S : MS) : Option (Int32 × MS) :=
bn1 (fX4_begins (11 : Int32) S) fun S2 =>
bnd (fX4_weighs x1 x2 S2) fun v5 S4 =>
some ((v5 * (2 : Int32)), S4)
set_option maxHeartbeats 4000000 in
set_option maxRecDepth 100000 in
theorem mX4_plainSays {l : Launch} {D : va_G} {cA : Nat → ClassId} {o : Nat → Nat} {A : Nat → Prop} (x1 : Int32) (x2 : Int32) (S : MS) {out : (Int32 × MS)} (h : fX4_plainSays x1 x2 S = some out) : Met l yX4_plainSays (ws_ yX4_plainSays cX4_plainSays 3 (some .int)) ({ frames := 4, cells := 0, slots := 0, locals := 87 } : Room) (gPc (mK D cA) (mP D cA o A) A [.ref (o 24), .int x1, .int x2] S) (gQi (mK D cA) (mP D cA o A) A out) 0 0 A := by
  refine gMet_z (by decide) (Nat.le_of_ble_eq_true rfl) ?_ mKst
  intro p e s m below meth c Q ls args H locs hC hP hS hl ret
  obtain ⟨hx, hb, hml, hown, hts, hA, hK⟩ := hC
  have hown : s.vm.findClass RX4 = some m.cls := hown
  have hl : lv_has ls 3 [(0, .ref (o 24)), (1, .int x1), (2, .int x2)] := hl
  unfold fX4_plainSays at h
  refine lv_aload_n hx hb dX4_plainSays_0 rfl (lv_at hl 0 rfl) ?_
  refine lv_bipush (v := (11 : Int32)) hx hb dX4_plainSays_1 (by decide) ?_
  obtain ⟨S2, e1, h⟩ := bn1_some h
  refine gc0_v (va_runV (As := [.int (11 : Int32)]) (rest := []) ⟨hx, hb, hml, hown, hts⟩ (mX4_begins (l := l) (D := D) (cA := cA) (o := o) (A := A) (11 : Int32) S e1) (cwV 1 hts (lw_V q1655 q1657 qs74 q90 q1658) rfl rfl rfl (by decide +kernel) ⟨Nat.le_of_ble_eq_true rfl, Nat.le_of_ble_eq_true rfl⟩) (gPreV mKst hK hA hS hP (mRecv hK hP)) rfl rfl hl.1 rfl (lv_room (Nat.le_of_ble_eq_true rfl)) dX4_plainSays_3 ⟨Nat.zero_le _, Nat.zero_le _⟩) hS (fun H locs hP hS => ?_)
  refine lv_aload_n hx hb dX4_plainSays_6 rfl (lv_at hl 0 rfl) ?_
  refine lv_iload_n hx hb dX4_plainSays_7 rfl (lv_at hl 1 rfl) ?_
  refine lv_iload_n hx hb dX4_plainSays_8 rfl (lv_at hl 2 rfl) ?_
  obtain ⟨v5, S4, e3, h⟩ := bnd_some h
  refine gc0_i (va_runV (As := [.int x1, .int x2]) (rest := []) ⟨hx, hb, hml, hown, hts⟩ (mX4_weighs (l := l) (D := D) (cA := cA) (o := o) (A := A) x1 x2 S2 e3) (cwV 2 hts (lw_V q1647 q1649 qs72 q90 q1650) rfl rfl rfl (by decide +kernel) ⟨Nat.le_of_ble_eq_true rfl, Nat.le_of_ble_eq_true rfl⟩) (gPreV mKst hK hA hS hP (mRecv hK hP)) rfl rfl hl.1 rfl (lv_room (Nat.le_of_ble_eq_true rfl)) dX4_plainSays_9 ⟨Nat.zero_le _, Nat.zero_le _⟩) hS (fun H locs hP hS => ?_)
  refine lv_iconst (v := (2 : Int32)) hx hb dX4_plainSays_12 (by decide) ?_
  refine lv_imul hx hb dX4_plainSays_13 ?_
  exact ret _ _ _ _ _ _ dX4_plainSays_14 rfl hP hS h

def fX4_starSays (x1 : Int32) (x2 : Int32) (S : MS) : Option (Int32 × MS) :=
bn1 (fX4_begins (30 : Int32) S) fun S2 =>
bnd (fX4_plainSays x1 x2 S2) fun v5 S4 =>
some ((-v5), S4)
set_option maxHeartbeats 4000000 in
set_option maxRecDepth 100000 in
theorem mX4_starSays {l : Launch} {D : va_G} {cA : Nat → ClassId} {o : Nat → Nat} {A : Nat → Prop} (x1 : Int32) (x2 : Int32) (S : MS) {out : (Int32 × MS)} (h : fX4_starSays x1 x2 S = some out) : Met l yX4_starSays (ws_ yX4_starSays cX4_starSays 3 (some .int)) ({ frames := 5, cells := 0, slots := 0, locals := 109 } : Room) (gPc (mK D cA) (mP D cA o A) A [.ref (o 24), .int x1, .int x2] S) (gQi (mK D cA) (mP D cA o A) A out) 0 0 A := by
  refine gMet_z (by decide) (Nat.le_of_ble_eq_true rfl) ?_ mKst
  intro p e s m below meth c Q ls args H locs hC hP hS hl ret
  obtain ⟨hx, hb, hml, hown, hts, hA, hK⟩ := hC
  have hown : s.vm.findClass RX4 = some m.cls := hown
  have hl : lv_has ls 3 [(0, .ref (o 24)), (1, .int x1), (2, .int x2)] := hl
  unfold fX4_starSays at h
  refine lv_aload_n hx hb dX4_starSays_0 rfl (lv_at hl 0 rfl) ?_
  refine lv_bipush (v := (30 : Int32)) hx hb dX4_starSays_1 (by decide) ?_
  obtain ⟨S2, e1, h⟩ := bn1_some h
  refine gc0_v (va_runV (As := [.int (30 : Int32)]) (rest := []) ⟨hx, hb, hml, hown, hts⟩ (mX4_begins (l := l) (D := D) (cA := cA) (o := o) (A := A) (30 : Int32) S e1) (cwV 1 hts (lw_V q1655 q1657 qs74 q90 q1658) rfl rfl rfl (by decide +kernel) ⟨Nat.le_of_ble_eq_true rfl, Nat.le_of_ble_eq_true rfl⟩) (gPreV mKst hK hA hS hP (mRecv hK hP)) rfl rfl hl.1 rfl (lv_room (Nat.le_of_ble_eq_true rfl)) dX4_starSays_3 ⟨Nat.zero_le _, Nat.zero_le _⟩) hS (fun H locs hP hS => ?_)
  refine lv_aload_n hx hb dX4_starSays_6 rfl (lv_at hl 0 rfl) ?_
  refine lv_iload_n hx hb dX4_starSays_7 rfl (lv_at hl 1 rfl) ?_
  refine lv_iload_n hx hb dX4_starSays_8 rfl (lv_at hl 2 rfl) ?_
  obtain ⟨v5, S4, e3, h⟩ := bnd_some h
  refine gc0_i (va_runV (As := [.int x1, .int x2]) (rest := []) ⟨hx, hb, hml, hown, hts⟩ (mX4_plainSays (l := l) (D := D) (cA := cA) (o := o) (A := A) x1 x2 S2 e3) (cwV 2 hts (lw_V q1671 q1673 qs78 q90 q1674) rfl rfl rfl (by decide +kernel) ⟨Nat.le_of_ble_eq_true rfl, Nat.le_of_ble_eq_true rfl⟩) (gPreV mKst hK hA hS hP (mRecv hK hP)) rfl rfl hl.1 rfl (lv_room (Nat.le_of_ble_eq_true rfl)) dX4_starSays_9 ⟨Nat.zero_le _, Nat.zero_le _⟩) hS (fun H locs hP hS => ?_)
  refine lv_ineg hx hb dX4_starSays_12 ?_
  exact ret _ _ _ _ _ _ dX4_starSays_13 rfl hP hS h

def bX4_says_82 (x1 : Int32) (x2 : Int32) (S : MS) : Option (Int32 × MS) :=
bnd (fX4_plainSays x1 x2 S) fun v3 S2 =>
some (v3, S2)
def fX4_says (x1 : Int32) (x2 : Int32) (S : MS) : Option (Int32 × MS) :=
bnd (fX4_of x1 (0 : Int32) S) fun v6 S5 =>
(if v6 = (2 : Int32) then
bnd (fX4_starSays x1 x2 S5) fun v10 S9 =>
some (v10, S9)
else
(if v6 = (5 : Int32) then
bn1 (fX4_begins (60 : Int32) S5) fun S13 =>
bnd (fX4_starSays x1 (x2 + (1 : Int32)) S13) fun v16 S15 =>
some (v16, S15)
else
(if v6 = (6 : Int32) then
bn1 (fX4_begins (71 : Int32) S5) fun S19 =>
bnd (fX4_plainSays x1 x2 S19) fun v22 S21 =>
bnd (fX4_of x1 (1 : Int32) S21) fun v25 S24 =>
some ((v22 + v25), S24)
else
bX4_says_82 x1 x2 S5)))
set_option maxHeartbeats 4000000 in
set_option maxRecDepth 100000 in
theorem mX4_says {l : Launch} {D : va_G} {cA : Nat → ClassId} {o : Nat → Nat} {A : Nat → Prop} (x1 : Int32) (x2 : Int32) (S : MS) {out : (Int32 × MS)} (h : fX4_says x1 x2 S = some out) : Met l yX4_says (ws_ yX4_says cX4_says 3 (some .int)) ({ frames := 6, cells := 0, slots := 0, locals := 131 } : Room) (gPc (mK D cA) (mP D cA o A) A [.ref (o 24), .int x1, .int x2] S) (gQi (mK D cA) (mP D cA o A) A out) 0 0 A := by
  refine gMet_z (by decide) (Nat.le_of_ble_eq_true rfl) ?_ mKst
  intro p e s m below meth c Q ls args H locs hC hP hS hl ret
  obtain ⟨hx, hb, hml, hown, hts, hA, hK⟩ := hC
  have hown : s.vm.findClass RX4 = some m.cls := hown
  have hl : lv_has ls 3 [(0, .ref (o 24)), (1, .int x1), (2, .int x2)] := hl
  have B82 : ∀ (x1 : Int32) (x2 : Int32) (S : MS) (H : Heap) (locs : List Loc) (ls : Array Slot), mP D cA o A S H → va_S A s.heap H locs → lv_has ls 3 [(0, .ref (o 24)), (1, .int x1), (2, .int x2)] → bX4_says_82  x1 x2 S = some out → W p l e ({ frames := 6, cells := 0, slots := 0, locals := 131 } : Room) s m args below meth c H locs 0 0 Q (F0 m 82 ls []) := by
    intro x1 x2 S H locs ls hP hS hl h
    unfold bX4_says_82 at h
    refine lv_aload_n hx hb dX4_says_82 rfl (lv_at hl 0 rfl) ?_
    refine lv_iload_n hx hb dX4_says_83 rfl (lv_at hl 1 rfl) ?_
    refine lv_iload_n hx hb dX4_says_84 rfl (lv_at hl 2 rfl) ?_
    obtain ⟨v3, S2, e1, h⟩ := bnd_some h
    refine gc0_i (va_runV (As := [.int x1, .int x2]) (rest := []) ⟨hx, hb, hml, hown, hts⟩ (mX4_plainSays (l := l) (D := D) (cA := cA) (o := o) (A := A) x1 x2 S e1) (cwV 2 hts (lw_V q1671 q1673 qs78 q90 q1674) rfl rfl rfl (by decide +kernel) ⟨Nat.le_of_ble_eq_true rfl, Nat.le_of_ble_eq_true rfl⟩) (gPreV mKst hK hA hS hP (mRecv hK hP)) rfl rfl hl.1 rfl (lv_room (Nat.le_of_ble_eq_true rfl)) dX4_says_85 ⟨Nat.zero_le _, Nat.zero_le _⟩) hS (fun H locs hP hS => ?_)
    exact ret _ _ _ _ _ _ dX4_says_88 rfl hP hS h
  unfold fX4_says at h
  refine lv_aload_n hx hb dX4_says_0 rfl (lv_at hl 0 rfl) ?_
  refine lv_iload_n hx hb dX4_says_1 rfl (lv_at hl 1 rfl) ?_
  refine lv_iconst (v := (0 : Int32)) hx hb dX4_says_2 (by decide) ?_
  obtain ⟨v6, S5, e4, h⟩ := bnd_some h
  refine gc0_i (va_runV (As := [.int x1, .int (0 : Int32)]) (rest := []) ⟨hx, hb, hml, hown, hts⟩ (mX4_of (l := l) (D := D) (cA := cA) (o := o) (A := A) x1 (0 : Int32) S e4) (cwV 2 hts (lw_V q1355 q1357 qs33 q90 q1358) rfl rfl rfl (by decide +kernel) ⟨Nat.le_of_ble_eq_true rfl, Nat.le_of_ble_eq_true rfl⟩) (gPreV mKst hK hA hS hP (mRecv hK hP)) rfl rfl hl.1 rfl (lv_room (Nat.le_of_ble_eq_true rfl)) dX4_says_3 ⟨Nat.zero_le _, Nat.zero_le _⟩) hS (fun H locs hP hS => ?_)
  by_cases c7 : v6 = (2 : Int32)
  · have h := ite_t c7 h
    refine lv_tableIn (off := 34) (tgt := 40) hx hb dX4_says_6 (by rw [c7]; decide) (by rw [c7]; decide) (by rw [c7]; rfl) (by decide) ?_
    refine lv_aload_n hx hb dX4_says_40 rfl (lv_at hl 0 rfl) ?_
    refine lv_iload_n hx hb dX4_says_41 rfl (lv_at hl 1 rfl) ?_
    refine lv_iload_n hx hb dX4_says_42 rfl (lv_at hl 2 rfl) ?_
    obtain ⟨v10, S9, e8, h⟩ := bnd_some h
    refine gc0_i (va_runV (As := [.int x1, .int x2]) (rest := []) ⟨hx, hb, hml, hown, hts⟩ (mX4_starSays (l := l) (D := D) (cA := cA) (o := o) (A := A) x1 x2 S5 e8) (cwV 2 hts (lw_V q1667 q1669 qs77 q90 q1670) rfl rfl rfl (by decide +kernel) ⟨Nat.le_of_ble_eq_true rfl, Nat.le_of_ble_eq_true rfl⟩) (gPreV mKst hK hA hS hP (mRecv hK hP)) rfl rfl hl.1 rfl (lv_room (Nat.le_of_ble_eq_true rfl)) dX4_says_43 ⟨Nat.zero_le _, Nat.zero_le _⟩) hS (fun H locs hP hS => ?_)
    exact ret _ _ _ _ _ _ dX4_says_46 rfl hP hS h
  · have h := ite_f c7 h
    by_cases c11 : v6 = (5 : Int32)
    · have h := ite_t c11 h
      refine lv_tableIn (off := 41) (tgt := 47) hx hb dX4_says_6 (by rw [c11]; decide) (by rw [c11]; decide) (by rw [c11]; rfl) (by decide) ?_
      refine lv_aload_n hx hb dX4_says_47 rfl (lv_at hl 0 rfl) ?_
      refine lv_bipush (v := (60 : Int32)) hx hb dX4_says_48 (by decide) ?_
      obtain ⟨S13, e12, h⟩ := bn1_some h
      refine gc0_v (va_runV (As := [.int (60 : Int32)]) (rest := []) ⟨hx, hb, hml, hown, hts⟩ (mX4_begins (l := l) (D := D) (cA := cA) (o := o) (A := A) (60 : Int32) S5 e12) (cwV 1 hts (lw_V q1655 q1657 qs74 q90 q1658) rfl rfl rfl (by decide +kernel) ⟨Nat.le_of_ble_eq_true rfl, Nat.le_of_ble_eq_true rfl⟩) (gPreV mKst hK hA hS hP (mRecv hK hP)) rfl rfl hl.1 rfl (lv_room (Nat.le_of_ble_eq_true rfl)) dX4_says_50 ⟨Nat.zero_le _, Nat.zero_le _⟩) hS (fun H locs hP hS => ?_)
      refine lv_aload_n hx hb dX4_says_53 rfl (lv_at hl 0 rfl) ?_
      refine lv_iload_n hx hb dX4_says_54 rfl (lv_at hl 1 rfl) ?_
      refine lv_iload_n hx hb dX4_says_55 rfl (lv_at hl 2 rfl) ?_
      refine lv_iconst (v := (1 : Int32)) hx hb dX4_says_56 (by decide) ?_
      refine lv_iadd hx hb dX4_says_57 ?_
      obtain ⟨v16, S15, e14, h⟩ := bnd_some h
      refine gc0_i (va_runV (As := [.int x1, .int (x2 + (1 : Int32))]) (rest := []) ⟨hx, hb, hml, hown, hts⟩ (mX4_starSays (l := l) (D := D) (cA := cA) (o := o) (A := A) x1 (x2 + (1 : Int32)) S13 e14) (cwV 2 hts (lw_V q1667 q1669 qs77 q90 q1670) rfl rfl rfl (by decide +kernel) ⟨Nat.le_of_ble_eq_true rfl, Nat.le_of_ble_eq_true rfl⟩) (gPreV mKst hK hA hS hP (mRecv hK hP)) rfl rfl hl.1 rfl (lv_room (Nat.le_of_ble_eq_true rfl)) dX4_says_58 ⟨Nat.zero_le _, Nat.zero_le _⟩) hS (fun H locs hP hS => ?_)
      exact ret _ _ _ _ _ _ dX4_says_61 rfl hP hS h
    · have h := ite_f c11 h
      by_cases c17 : v6 = (6 : Int32)
      · have h := ite_t c17 h
        refine lv_tableIn (off := 56) (tgt := 62) hx hb dX4_says_6 (by rw [c17]; decide) (by rw [c17]; decide) (by rw [c17]; rfl) (by decide) ?_
        refine lv_aload_n hx hb dX4_says_62 rfl (lv_at hl 0 rfl) ?_
        refine lv_bipush (v := (71 : Int32)) hx hb dX4_says_63 (by decide) ?_
        obtain ⟨S19, e18, h⟩ := bn1_some h
        refine gc0_v (va_runV (As := [.int (71 : Int32)]) (rest := []) ⟨hx, hb, hml, hown, hts⟩ (mX4_begins (l := l) (D := D) (cA := cA) (o := o) (A := A) (71 : Int32) S5 e18) (cwV 1 hts (lw_V q1655 q1657 qs74 q90 q1658) rfl rfl rfl (by decide +kernel) ⟨Nat.le_of_ble_eq_true rfl, Nat.le_of_ble_eq_true rfl⟩) (gPreV mKst hK hA hS hP (mRecv hK hP)) rfl rfl hl.1 rfl (lv_room (Nat.le_of_ble_eq_true rfl)) dX4_says_65 ⟨Nat.zero_le _, Nat.zero_le _⟩) hS (fun H locs hP hS => ?_)
        refine lv_aload_n hx hb dX4_says_68 rfl (lv_at hl 0 rfl) ?_
        refine lv_iload_n hx hb dX4_says_69 rfl (lv_at hl 1 rfl) ?_
        refine lv_iload_n hx hb dX4_says_70 rfl (lv_at hl 2 rfl) ?_
        obtain ⟨v22, S21, e20, h⟩ := bnd_some h
        refine gc0_i (va_runV (As := [.int x1, .int x2]) (rest := []) ⟨hx, hb, hml, hown, hts⟩ (mX4_plainSays (l := l) (D := D) (cA := cA) (o := o) (A := A) x1 x2 S19 e20) (cwV 2 hts (lw_V q1671 q1673 qs78 q90 q1674) rfl rfl rfl (by decide +kernel) ⟨Nat.le_of_ble_eq_true rfl, Nat.le_of_ble_eq_true rfl⟩) (gPreV mKst hK hA hS hP (mRecv hK hP)) rfl rfl hl.1 rfl (lv_room (Nat.le_of_ble_eq_true rfl)) dX4_says_71 ⟨Nat.zero_le _, Nat.zero_le _⟩) hS (fun H locs hP hS => ?_)
        refine lv_aload_n hx hb dX4_says_74 rfl (lv_at hl 0 rfl) ?_
        refine lv_iload_n hx hb dX4_says_75 rfl (lv_at hl 1 rfl) ?_
        refine lv_iconst (v := (1 : Int32)) hx hb dX4_says_76 (by decide) ?_
        obtain ⟨v25, S24, e23, h⟩ := bnd_some h
        refine gc0_i (va_runV (As := [.int x1, .int (1 : Int32)]) (rest := [.int v22]) ⟨hx, hb, hml, hown, hts⟩ (mX4_of (l := l) (D := D) (cA := cA) (o := o) (A := A) x1 (1 : Int32) S21 e23) (cwV 2 hts (lw_V q1355 q1357 qs33 q90 q1358) rfl rfl rfl (by decide +kernel) ⟨Nat.le_of_ble_eq_true rfl, Nat.le_of_ble_eq_true rfl⟩) (gPreV mKst hK hA hS hP (mRecv hK hP)) rfl rfl hl.1 rfl (lv_room (Nat.le_of_ble_eq_true rfl)) dX4_says_77 ⟨Nat.zero_le _, Nat.zero_le _⟩) hS (fun H locs hP hS => ?_)
        refine lv_iadd hx hb dX4_says_80 ?_
        exact ret _ _ _ _ _ _ dX4_says_81 rfl hP hS h
      · have h := ite_f c17 h
        have nc7 := lv_neT (a := 2) c7 (by decide)
        have nc11 := lv_neT (a := 5) c11 (by decide)
        have nc17 := lv_neT (a := 6) c17 (by decide)
        have hd26 : W p l e ({ frames := 6, cells := 0, slots := 0, locals := 131 } : Room) s m args below meth c H locs 0 0 Q (F0 m 82 ls []) := by
          exact B82 x1 x2 S5 _ _ _ hP hS hl h
        by_cases u27 : (v6).toInt < 2 ∨ 6 < (v6).toInt
        · exact lv_tableOut (tgt := 82) hx hb dX4_says_6 u27 (by decide) hd26
        · have q28 : (v6).toInt = 3 ∨ (v6).toInt = 4 := by omega
          rcases q28 with q28 | q28
          · have c29 : v6 = (3 : Int32) := Int32.toInt_inj.mp (q28.trans (by decide))
            exact lv_tableIn (off := 76) (tgt := 82) hx hb dX4_says_6 (by rw [c29]; decide) (by rw [c29]; decide) (by rw [c29]; rfl) (by decide) hd26
          · have c30 : v6 = (4 : Int32) := Int32.toInt_inj.mp (q28.trans (by decide))
            exact lv_tableIn (off := 76) (tgt := 82) hx hb dX4_says_6 (by rw [c30]; decide) (by rw [c30]; decide) (by rw [c30]; rfl) (by decide) hd26

def bX4_partsBy_52 (t0 : Int32) (S : MS) : Option (Int32 × MS) :=
some (t0, S)
def bX4_partsBy_20 (x1 : Int32) (x2 : Int32) (S : MS) : Option (Int32 × MS) :=
bn1 (fX4_begins (21 : Int32) S) fun S2 =>
bnd (fX4_plainParts x1 x2 S2) fun v5 S4 =>
(if (mIF S4 23) = 0 then
bnd (fX4_says x1 (1 : Int32) S4) fun v9 S8 =>
bX4_partsBy_52 (v5 + v9) S8
else
bX4_partsBy_52 (0 : Int32) S4)
def fX4_partsBy (x1 : Int32) (x2 : Int32) (S : MS) : Option (Int32 × MS) :=
bnd (fX4_of x1 (0 : Int32) S) fun v12 S11 =>
(if v12 = (1 : Int32) then
bX4_partsBy_20 x1 x2 S11
else
bnd (fX4_of x1 (0 : Int32) S11) fun v16 S15 =>
(if v16 = (4 : Int32) then
bX4_partsBy_20 x1 x2 S15
else
bnd (fX4_plainParts x1 x2 S15) fun v20 S19 =>
some (v20, S19)))
set_option maxHeartbeats 4000000 in
set_option maxRecDepth 100000 in
theorem mX4_partsBy {l : Launch} {D : va_G} {cA : Nat → ClassId} {o : Nat → Nat} {A : Nat → Prop} (x1 : Int32) (x2 : Int32) (S : MS) {out : (Int32 × MS)} (h : fX4_partsBy x1 x2 S = some out) : Met l yX4_partsBy (ws_ yX4_partsBy cX4_partsBy 4 (some .int)) ({ frames := 7, cells := 0, slots := 0, locals := 153 } : Room) (gPc (mK D cA) (mP D cA o A) A [.ref (o 24), .int x1, .int x2] S) (gQi (mK D cA) (mP D cA o A) A out) 0 0 A := by
  refine gMet_z (by decide) (Nat.le_of_ble_eq_true rfl) ?_ mKst
  intro p e s m below meth c Q ls args H locs hC hP hS hl ret
  obtain ⟨hx, hb, hml, hown, hts, hA, hK⟩ := hC
  have hown : s.vm.findClass RX4 = some m.cls := hown
  have hl : lv_has ls 4 [(0, .ref (o 24)), (1, .int x1), (2, .int x2)] := hl
  have B52 : ∀ (t0 : Int32) (S : MS) (H : Heap) (locs : List Loc) (ls : Array Slot), mP D cA o A S H → va_S A s.heap H locs → lv_has ls 4 [(0, .ref (o 24))] → bX4_partsBy_52  t0 S = some out → W p l e ({ frames := 7, cells := 0, slots := 0, locals := 153 } : Room) s m args below meth c H locs 0 0 Q (F0 m 52 ls [.int t0]) := by
    intro t0 S H locs ls hP hS hl h
    unfold bX4_partsBy_52 at h
    exact ret _ _ _ _ _ _ dX4_partsBy_52 rfl hP hS h
  have B20 : ∀ (x1 : Int32) (x2 : Int32) (S : MS) (H : Heap) (locs : List Loc) (ls : Array Slot), mP D cA o A S H → va_S A s.heap H locs → lv_has ls 4 [(0, .ref (o 24)), (1, .int x1), (2, .int x2)] → bX4_partsBy_20  x1 x2 S = some out → W p l e ({ frames := 7, cells := 0, slots := 0, locals := 153 } : Room) s m args below meth c H locs 0 0 Q (F0 m 20 ls []) := by
    intro x1 x2 S H locs ls hP hS hl h
    unfold bX4_partsBy_20 at h
    refine lv_aload_n hx hb dX4_partsBy_20 rfl (lv_at hl 0 rfl) ?_
    refine lv_bipush (v := (21 : Int32)) hx hb dX4_partsBy_21 (by decide) ?_
    obtain ⟨S2, e1, h⟩ := bn1_some h
    refine gc0_v (va_runV (As := [.int (21 : Int32)]) (rest := []) ⟨hx, hb, hml, hown, hts⟩ (mX4_begins (l := l) (D := D) (cA := cA) (o := o) (A := A) (21 : Int32) S e1) (cwV 1 hts (lw_V q1655 q1657 qs74 q90 q1658) rfl rfl rfl (by decide +kernel) ⟨Nat.le_of_ble_eq_true rfl, Nat.le_of_ble_eq_true rfl⟩) (gPreV mKst hK hA hS hP (mRecv hK hP)) rfl rfl hl.1 rfl (lv_room (Nat.le_of_ble_eq_true rfl)) dX4_partsBy_23 ⟨Nat.zero_le _, Nat.zero_le _⟩) hS (fun H locs hP hS => ?_)
    refine lv_aload_n hx hb dX4_partsBy_26 rfl (lv_at hl 0 rfl) ?_
    refine lv_iload_n hx hb dX4_partsBy_27 rfl (lv_at hl 1 rfl) ?_
    refine lv_iload_n hx hb dX4_partsBy_28 rfl (lv_at hl 2 rfl) ?_
    obtain ⟨v5, S4, e3, h⟩ := bnd_some h
    refine gc0_i (va_runV (As := [.int x1, .int x2]) (rest := []) ⟨hx, hb, hml, hown, hts⟩ (mX4_plainParts (l := l) (D := D) (cA := cA) (o := o) (A := A) x1 x2 S2 e3) (cwV 2 hts (lw_V q1687 q1689 qs82 q90 q1690) rfl rfl rfl (by decide +kernel) ⟨Nat.le_of_ble_eq_true rfl, Nat.le_of_ble_eq_true rfl⟩) (gPreV mKst hK hA hS hP (mRecv hK hP)) rfl rfl hl.1 rfl (lv_room (Nat.le_of_ble_eq_true rfl)) dX4_partsBy_29 ⟨Nat.zero_le _, Nat.zero_le _⟩) hS (fun H locs hP hS => ?_)
    refine lv_istore_n (lv' := [(3, .int v5), (0, .ref (o 24)), (1, .int x1), (2, .int x2)]) hx hb dX4_partsBy_32 rfl hl (by decide) rfl (fun ls hl => ?_)
    refine lv_aload_n hx hb dX4_partsBy_33 rfl (lv_at hl 1 rfl) ?_
    refine va_get (D := D) (ci := 4) (v := .int (mIF S4 23)) (C := RX4) (T := TX4) (N := 24) hx hb hts in_X4 hown hK hP.1 0 rfl rfl 23 (by decide) (hts _ q1272) (fun _ h9 => h9) rfl dX4_partsBy_34 ?_
    refine lv_if_eq (tgt := 44) hx hb dX4_partsBy_37 (by decide) (fun c6 => ?_) (fun c6 => ?_)
    · have h := ite_t c6 h
      refine lv_iload_n hx hb dX4_partsBy_44 rfl (lv_at hl 0 rfl) ?_
      refine lv_aload_n hx hb dX4_partsBy_45 rfl (lv_at hl 1 rfl) ?_
      refine lv_iload_n hx hb dX4_partsBy_46 rfl (lv_at hl 2 rfl) ?_
      refine lv_iconst (v := (1 : Int32)) hx hb dX4_partsBy_47 (by decide) ?_
      obtain ⟨v9, S8, e7, h⟩ := bnd_some h
      refine gc0_i (va_runV (As := [.int x1, .int (1 : Int32)]) (rest := [.int v5]) ⟨hx, hb, hml, hown, hts⟩ (mX4_says (l := l) (D := D) (cA := cA) (o := o) (A := A) x1 (1 : Int32) S4 e7) (cwV 2 hts (lw_V q1663 q1665 qs76 q90 q1666) rfl rfl rfl (by decide +kernel) ⟨Nat.le_of_ble_eq_true rfl, Nat.le_of_ble_eq_true rfl⟩) (gPreV mKst hK hA hS hP (mRecv hK hP)) rfl rfl hl.1 rfl (lv_room (Nat.le_of_ble_eq_true rfl)) dX4_partsBy_48 ⟨Nat.zero_le _, Nat.zero_le _⟩) hS (fun H locs hP hS => ?_)
      refine lv_iadd hx hb dX4_partsBy_51 ?_
      exact B52 (v5 + v9) S8 _ _ _ hP hS (lv_sub hl [1] rfl) h
    · have h := ite_f c6 h
      refine lv_iconst (v := (0 : Int32)) hx hb dX4_partsBy_40 (by decide) ?_
      refine lv_goto (tgt := 52) hx hb dX4_partsBy_41 (by decide) ?_
      exact B52 (0 : Int32) S4 _ _ _ hP hS (lv_sub hl [1] rfl) h
  unfold fX4_partsBy at h
  refine lv_aload_n hx hb dX4_partsBy_0 rfl (lv_at hl 0 rfl) ?_
  refine lv_iload_n hx hb dX4_partsBy_1 rfl (lv_at hl 1 rfl) ?_
  refine lv_iconst (v := (0 : Int32)) hx hb dX4_partsBy_2 (by decide) ?_
  obtain ⟨v12, S11, e10, h⟩ := bnd_some h
  refine gc0_i (va_runV (As := [.int x1, .int (0 : Int32)]) (rest := []) ⟨hx, hb, hml, hown, hts⟩ (mX4_of (l := l) (D := D) (cA := cA) (o := o) (A := A) x1 (0 : Int32) S e10) (cwV 2 hts (lw_V q1355 q1357 qs33 q90 q1358) rfl rfl rfl (by decide +kernel) ⟨Nat.le_of_ble_eq_true rfl, Nat.le_of_ble_eq_true rfl⟩) (gPreV mKst hK hA hS hP (mRecv hK hP)) rfl rfl hl.1 rfl (lv_room (Nat.le_of_ble_eq_true rfl)) dX4_partsBy_3 ⟨Nat.zero_le _, Nat.zero_le _⟩) hS (fun H locs hP hS => ?_)
  refine lv_iconst (v := (1 : Int32)) hx hb dX4_partsBy_6 (by decide) ?_
  refine lv_icmp_eq (tgt := 20) hx hb dX4_partsBy_7 (by decide) (fun c13 => ?_) (fun c13 => ?_)
  · have h := ite_t c13 h
    exact B20 x1 x2 S11 _ _ _ hP hS hl h
  · have h := ite_f c13 h
    refine lv_aload_n hx hb dX4_partsBy_10 rfl (lv_at hl 0 rfl) ?_
    refine lv_iload_n hx hb dX4_partsBy_11 rfl (lv_at hl 1 rfl) ?_
    refine lv_iconst (v := (0 : Int32)) hx hb dX4_partsBy_12 (by decide) ?_
    obtain ⟨v16, S15, e14, h⟩ := bnd_some h
    refine gc0_i (va_runV (As := [.int x1, .int (0 : Int32)]) (rest := []) ⟨hx, hb, hml, hown, hts⟩ (mX4_of (l := l) (D := D) (cA := cA) (o := o) (A := A) x1 (0 : Int32) S11 e14) (cwV 2 hts (lw_V q1355 q1357 qs33 q90 q1358) rfl rfl rfl (by decide +kernel) ⟨Nat.le_of_ble_eq_true rfl, Nat.le_of_ble_eq_true rfl⟩) (gPreV mKst hK hA hS hP (mRecv hK hP)) rfl rfl hl.1 rfl (lv_room (Nat.le_of_ble_eq_true rfl)) dX4_partsBy_13 ⟨Nat.zero_le _, Nat.zero_le _⟩) hS (fun H locs hP hS => ?_)
    refine lv_iconst (v := (4 : Int32)) hx hb dX4_partsBy_16 (by decide) ?_
    refine lv_icmp_ne (tgt := 53) hx hb dX4_partsBy_17 (by decide) (fun c17 => ?_) (fun c17 => ?_)
    · have h := ite_f c17 h
      refine lv_aload_n hx hb dX4_partsBy_53 rfl (lv_at hl 0 rfl) ?_
      refine lv_iload_n hx hb dX4_partsBy_54 rfl (lv_at hl 1 rfl) ?_
      refine lv_iload_n hx hb dX4_partsBy_55 rfl (lv_at hl 2 rfl) ?_
      obtain ⟨v20, S19, e18, h⟩ := bnd_some h
      refine gc0_i (va_runV (As := [.int x1, .int x2]) (rest := []) ⟨hx, hb, hml, hown, hts⟩ (mX4_plainParts (l := l) (D := D) (cA := cA) (o := o) (A := A) x1 x2 S15 e18) (cwV 2 hts (lw_V q1687 q1689 qs82 q90 q1690) rfl rfl rfl (by decide +kernel) ⟨Nat.le_of_ble_eq_true rfl, Nat.le_of_ble_eq_true rfl⟩) (gPreV mKst hK hA hS hP (mRecv hK hP)) rfl rfl hl.1 rfl (lv_room (Nat.le_of_ble_eq_true rfl)) dX4_partsBy_56 ⟨Nat.zero_le _, Nat.zero_le _⟩) hS (fun H locs hP hS => ?_)
      exact ret _ _ _ _ _ _ dX4_partsBy_59 rfl hP hS h
    · have h := ite_t c17 h
      exact B20 x1 x2 S15 _ _ _ hP hS hl h

def bX4_pictures_85 (t0 : Int32) (S : MS) : Option (Int32 × MS) :=
some (t0, S)
def bX4_pictures_59 (k20 : Int32 → Int32 → Int32 → MS → Option (Int32 × MS)) (x1 : Int32) (x3 : Int32) (t0 : Int32) (S : MS) : Option (Int32 × MS) :=
nm (x3 + (1 : Int32)) fun y1 =>
k20 x1 t0 y1 S
def bX4_pictures_58 (k20 : Int32 → Int32 → Int32 → MS → Option (Int32 × MS)) (x1 : Int32) (x3 : Int32) (S : MS) : Option (Int32 × MS) :=
bX4_pictures_59 k20 x1 x3 (0 : Int32) S
def bX4_pictures_20 (k20 : Int32 → Int32 → Int32 → MS → Option (Int32 × MS)) (x1 : Int32) (x2 : Int32) (x3 : Int32) (S : MS) : Option (Int32 × MS) :=
(if (mIA S 0 ((2 : Int32)).toNatClampNeg) ≤ x3 then
(if x2 = 0 then
bnd (fX4_error (-1000000003 : Int32) S) fun v6 S5 =>
bX4_pictures_85 v6 S5
else
bnd (fX4_becomes (3 : Int32) x1 S) fun v9 S8 =>
bX4_pictures_85 v9 S8)
else
(if x2 = 0 then
bX4_pictures_58 k20 x1 x3 S
else
bnd (fX4_of x3 (2 : Int32) S) fun v13 S12 =>
(if x1 ≤ v13 then
bX4_pictures_58 k20 x1 x3 S12
else
bnd (fX4_of x3 (3 : Int32) S12) fun v17 S16 =>
(if x1 ≤ v17 then
bX4_pictures_58 k20 x1 x3 S16
else
bX4_pictures_59 k20 x1 x3 (1 : Int32) S16))))
def lX4_pictures_20 : Nat → (Int32 → Int32 → Int32 → MS → Option (Int32 × MS))
  | 0 => fun _ _ _ _ => none
  | n + 1 => bX4_pictures_20 (lX4_pictures_20 n)
def fX4_pictures (x1 : Int32) (S : MS) : Option (Int32 × MS) :=
bnd (fX4_in x1 (1 : Int32) (4 : Int32) S) fun v21 S20 =>
(if v21 = 0 then
bnd (fX4_error (-1000000001 : Int32) S20) fun v25 S24 =>
some (v25, S24)
else
lX4_pictures_20 FU x1 (1 : Int32) (0 : Int32) S20)
set_option maxHeartbeats 4000000 in
set_option maxRecDepth 100000 in
theorem mX4_pictures {l : Launch} {D : va_G} {cA : Nat → ClassId} {o : Nat → Nat} {A : Nat → Prop} (x1 : Int32) (S : MS) {out : (Int32 × MS)} (h : fX4_pictures x1 S = some out) : Met l yX4_pictures (ws_ yX4_pictures cX4_pictures 4 (some .int)) ({ frames := 1, cells := 0, slots := 0, locals := 23 } : Room) (gPc (mK D cA) (mP D cA o A) A [.ref (o 24), .int x1] S) (gQi (mK D cA) (mP D cA o A) A out) 0 0 A := by
  refine gMet_z (by decide) (Nat.le_of_ble_eq_true rfl) ?_ mKst
  intro p e s m below meth c Q ls args H locs hC hP hS hl ret
  obtain ⟨hx, hb, hml, hown, hts, hA, hK⟩ := hC
  have hown : s.vm.findClass RX4 = some m.cls := hown
  have hl : lv_has ls 4 [(0, .ref (o 24)), (1, .int x1)] := hl
  have B85 : ∀ (t0 : Int32) (S : MS) (H : Heap) (locs : List Loc) (ls : Array Slot), mP D cA o A S H → va_S A s.heap H locs → lv_has ls 4 [(0, .ref (o 24))] → bX4_pictures_85  t0 S = some out → W p l e ({ frames := 1, cells := 0, slots := 0, locals := 23 } : Room) s m args below meth c H locs 0 0 Q (F0 m 85 ls [.int t0]) := by
    intro t0 S H locs ls hP hS hl h
    unfold bX4_pictures_85 at h
    exact ret _ _ _ _ _ _ dX4_pictures_85 rfl hP hS h
  have L20 : ∀ (n20 : Nat) (x1 : Int32) (x2 : Int32) (x3 : Int32) (S : MS) (H : Heap) (locs : List Loc) (ls : Array Slot), mP D cA o A S H → va_S A s.heap H locs → lv_has ls 4 [(0, .ref (o 24)), (1, .int x1), (2, .int x2), (3, .int x3)] → lX4_pictures_20 n20 x1 x2 x3 S = some out → W p l e ({ frames := 1, cells := 0, slots := 0, locals := 23 } : Room) s m args below meth c H locs 0 0 Q (F0 m 20 ls []) := by
    intro n20
    induction n20 with
    | zero =>
      intro x1 x2 x3 S H locs ls hP hS hl h
      cases h
    | succ n20 ih20 =>
      have B59 : ∀ (x1 : Int32) (x3 : Int32) (t0 : Int32) (S : MS) (H : Heap) (locs : List Loc) (ls : Array Slot), mP D cA o A S H → va_S A s.heap H locs → lv_has ls 4 [(0, .ref (o 24)), (1, .int x1), (3, .int x3)] → bX4_pictures_59 (lX4_pictures_20 n20) x1 x3 t0 S = some out → W p l e ({ frames := 1, cells := 0, slots := 0, locals := 23 } : Room) s m args below meth c H locs 0 0 Q (F0 m 59 ls [.int t0]) := by
        intro x1 x3 t0 S H locs ls hP hS hl h
        unfold bX4_pictures_59 at h
        refine lv_istore_n (lv' := [(2, .int t0), (0, .ref (o 24)), (1, .int x1), (3, .int x3)]) hx hb dX4_pictures_59 rfl hl (by decide) rfl (fun ls hl => ?_)
        obtain ⟨y1, ey1⟩ : ∃ y : Int32, y = x3 + (1 : Int32) := ⟨_, rfl⟩
        refine lv_iinc (v := y1) (lv' := [(3, .int y1), (2, .int t0), (0, .ref (o 24)), (1, .int x1)]) hx hb dX4_pictures_60 hl (k := 3) rfl (by rw [ey1]; rfl) (by decide) rfl (fun ls hl => ?_)
        have h := nm_at ey1 h
        refine lv_goto (tgt := 20) hx hb dX4_pictures_63 (by decide) ?_
        exact ih20 x1 t0 y1 S _ _ _ hP hS (lv_sub hl [2, 3, 1, 0] rfl) h
      have B58 : ∀ (x1 : Int32) (x3 : Int32) (S : MS) (H : Heap) (locs : List Loc) (ls : Array Slot), mP D cA o A S H → va_S A s.heap H locs → lv_has ls 4 [(0, .ref (o 24)), (1, .int x1), (3, .int x3)] → bX4_pictures_58 (lX4_pictures_20 n20) x1 x3 S = some out → W p l e ({ frames := 1, cells := 0, slots := 0, locals := 23 } : Room) s m args below meth c H locs 0 0 Q (F0 m 58 ls []) := by
        intro x1 x3 S H locs ls hP hS hl h
        unfold bX4_pictures_58 at h
        refine lv_iconst (v := (0 : Int32)) hx hb dX4_pictures_58 (by decide) ?_
        exact B59 x1 x3 (0 : Int32) S _ _ _ hP hS hl h
      intro x1 x2 x3 S H locs ls hP hS hl h
      replace h : bX4_pictures_20 (lX4_pictures_20 n20) x1 x2 x3 S = some out := h
      unfold bX4_pictures_20 at h
      refine lv_iload_n hx hb dX4_pictures_20 rfl (lv_at hl 3 rfl) ?_
      refine lv_aload_n hx hb dX4_pictures_21 rfl (lv_at hl 0 rfl) ?_
      refine va_get (D := D) (ci := 4) (v := .ref (o 0)) (C := RX4) (T := TX4) (N := 24) hx hb hts in_X4 hown hK hP.1 0 rfl rfl 0 (by decide) (hts _ q1249) (fun _ h9 => h9) rfl dX4_pictures_22 ?_
      refine lv_iconst (v := (2 : Int32)) hx hb dX4_pictures_25 (by decide) ?_
      refine va_iald hx hb hK hP.1 1 0 rfl rfl (inB_in (by decide)) dX4_pictures_26 ?_
      refine lv_icmp_ge (tgt := 66) hx hb dX4_pictures_27 (by decide) (fun c2 => ?_) (fun c2 => ?_)
      · have h := ite_t c2 h
        refine lv_iload_n hx hb dX4_pictures_66 rfl (lv_at hl 2 rfl) ?_
        refine lv_if_eq (tgt := 79) hx hb dX4_pictures_67 (by decide) (fun c3 => ?_) (fun c3 => ?_)
        · have h := ite_t c3 h
          refine lv_aload_n hx hb dX4_pictures_79 rfl (lv_at hl 0 rfl) ?_
          refine lv_ldc (v := (-1000000003 : Int32)) hx hb hown (hts _ q1418) dX4_pictures_80 ?_
          obtain ⟨v6, S5, e4, h⟩ := bnd_some h
          refine gc0_i (va_runV (As := [.int (-1000000003 : Int32)]) (rest := []) ⟨hx, hb, hml, hown, hts⟩ (mX4_error (l := l) (D := D) (cA := cA) (o := o) (A := A) (-1000000003 : Int32) S e4) (cwV 1 hts (lw_V q1337 q1339 qs30 q90 q1340) rfl rfl rfl (by decide +kernel) ⟨Nat.le_of_ble_eq_true rfl, Nat.le_of_ble_eq_true rfl⟩) (gPreV mKst hK hA hS hP (mRecv hK hP)) rfl rfl hl.1 rfl (lv_room (Nat.le_of_ble_eq_true rfl)) dX4_pictures_82 ⟨Nat.zero_le _, Nat.zero_le _⟩) hS (fun H locs hP hS => ?_)
          exact B85 v6 S5 _ _ _ hP hS (lv_sub hl [0] rfl) h
        · have h := ite_f c3 h
          refine lv_aload_n hx hb dX4_pictures_70 rfl (lv_at hl 0 rfl) ?_
          refine lv_iconst (v := (3 : Int32)) hx hb dX4_pictures_71 (by decide) ?_
          refine lv_iload_n hx hb dX4_pictures_72 rfl (lv_at hl 1 rfl) ?_
          obtain ⟨v9, S8, e7, h⟩ := bnd_some h
          refine gc0_i (va_runV (As := [.int (3 : Int32), .int x1]) (rest := []) ⟨hx, hb, hml, hown, hts⟩ (mX4_becomes (l := l) (D := D) (cA := cA) (o := o) (A := A) (3 : Int32) x1 S e7) (cwV 2 hts (lw_V q1397 q1399 qs41 q90 q1400) rfl rfl rfl (by decide +kernel) ⟨Nat.le_of_ble_eq_true rfl, Nat.le_of_ble_eq_true rfl⟩) (gPreV mKst hK hA hS hP (mRecv hK hP)) rfl rfl hl.1 rfl (lv_room (Nat.le_of_ble_eq_true rfl)) dX4_pictures_73 ⟨Nat.zero_le _, Nat.zero_le _⟩) hS (fun H locs hP hS => ?_)
          refine lv_goto (tgt := 85) hx hb dX4_pictures_76 (by decide) ?_
          exact B85 v9 S8 _ _ _ hP hS (lv_sub hl [0] rfl) h
      · have h := ite_f c2 h
        refine lv_iload_n hx hb dX4_pictures_30 rfl (lv_at hl 2 rfl) ?_
        refine lv_if_eq (tgt := 58) hx hb dX4_pictures_31 (by decide) (fun c10 => ?_) (fun c10 => ?_)
        · have h := ite_t c10 h
          exact B58 x1 x3 S _ _ _ hP hS (lv_sub hl [0, 1, 3] rfl) h
        · have h := ite_f c10 h
          refine lv_aload_n hx hb dX4_pictures_34 rfl (lv_at hl 0 rfl) ?_
          refine lv_iload_n hx hb dX4_pictures_35 rfl (lv_at hl 3 rfl) ?_
          refine lv_iconst (v := (2 : Int32)) hx hb dX4_pictures_36 (by decide) ?_
          obtain ⟨v13, S12, e11, h⟩ := bnd_some h
          refine gc0_i (va_runV (As := [.int x3, .int (2 : Int32)]) (rest := []) ⟨hx, hb, hml, hown, hts⟩ (mX4_of (l := l) (D := D) (cA := cA) (o := o) (A := A) x3 (2 : Int32) S e11) (cwV 2 hts (lw_V q1355 q1357 qs33 q90 q1358) rfl rfl rfl (by decide +kernel) ⟨Nat.le_of_ble_eq_true rfl, Nat.le_of_ble_eq_true rfl⟩) (gPreV mKst hK hA hS hP (mRecv hK hP)) rfl rfl hl.1 rfl (lv_room (Nat.le_of_ble_eq_true rfl)) dX4_pictures_37 ⟨Nat.zero_le _, Nat.zero_le _⟩) hS (fun H locs hP hS => ?_)
          refine lv_iload_n hx hb dX4_pictures_40 rfl (lv_at hl 1 rfl) ?_
          refine lv_icmp_ge (tgt := 58) hx hb dX4_pictures_41 (by decide) (fun c14 => ?_) (fun c14 => ?_)
          · have h := ite_t c14 h
            exact B58 x1 x3 S12 _ _ _ hP hS (lv_sub hl [0, 1, 3] rfl) h
          · have h := ite_f c14 h
            refine lv_aload_n hx hb dX4_pictures_44 rfl (lv_at hl 0 rfl) ?_
            refine lv_iload_n hx hb dX4_pictures_45 rfl (lv_at hl 3 rfl) ?_
            refine lv_iconst (v := (3 : Int32)) hx hb dX4_pictures_46 (by decide) ?_
            obtain ⟨v17, S16, e15, h⟩ := bnd_some h
            refine gc0_i (va_runV (As := [.int x3, .int (3 : Int32)]) (rest := []) ⟨hx, hb, hml, hown, hts⟩ (mX4_of (l := l) (D := D) (cA := cA) (o := o) (A := A) x3 (3 : Int32) S12 e15) (cwV 2 hts (lw_V q1355 q1357 qs33 q90 q1358) rfl rfl rfl (by decide +kernel) ⟨Nat.le_of_ble_eq_true rfl, Nat.le_of_ble_eq_true rfl⟩) (gPreV mKst hK hA hS hP (mRecv hK hP)) rfl rfl hl.1 rfl (lv_room (Nat.le_of_ble_eq_true rfl)) dX4_pictures_47 ⟨Nat.zero_le _, Nat.zero_le _⟩) hS (fun H locs hP hS => ?_)
            refine lv_iload_n hx hb dX4_pictures_50 rfl (lv_at hl 1 rfl) ?_
            refine lv_icmp_ge (tgt := 58) hx hb dX4_pictures_51 (by decide) (fun c18 => ?_) (fun c18 => ?_)
            · have h := ite_t c18 h
              exact B58 x1 x3 S16 _ _ _ hP hS (lv_sub hl [0, 1, 3] rfl) h
            · have h := ite_f c18 h
              refine lv_iconst (v := (1 : Int32)) hx hb dX4_pictures_54 (by decide) ?_
              refine lv_goto (tgt := 59) hx hb dX4_pictures_55 (by decide) ?_
              exact B59 x1 x3 (1 : Int32) S16 _ _ _ hP hS (lv_sub hl [0, 1, 3] rfl) h
  unfold fX4_pictures at h
  refine lv_iload_n hx hb dX4_pictures_0 rfl (lv_at hl 1 rfl) ?_
  refine lv_iconst (v := (1 : Int32)) hx hb dX4_pictures_1 (by decide) ?_
  refine lv_iconst (v := (4 : Int32)) hx hb dX4_pictures_2 (by decide) ?_
  obtain ⟨v21, S20, e19, h⟩ := bnd_some h
  refine gc0_i (va_runS (As := [.int x1, .int (1 : Int32), .int (4 : Int32)]) (rest := []) ⟨hx, hb, hml, hown, hts⟩ (mX4_in (l := l) (D := D) (cA := cA) (o := o) (A := A) x1 (1 : Int32) (4 : Int32) S e19) (va_cwS 3 hts (lw_S q1329 q1330 q90 q1331) rfl rfl rfl (by decide +kernel) ⟨Nat.le_of_ble_eq_true rfl, Nat.le_of_ble_eq_true rfl⟩) (gPreS mKst hK hA hS hP) rfl rfl hl.1 rfl (lv_room (Nat.le_of_ble_eq_true rfl)) dX4_pictures_3 ⟨Nat.zero_le _, Nat.zero_le _⟩) hS (fun H locs hP hS => ?_)
  refine lv_if_ne (tgt := 16) hx hb dX4_pictures_6 (by decide) (fun c22 => ?_) (fun c22 => ?_)
  · have h := ite_f c22 h
    refine lv_iconst (v := (1 : Int32)) hx hb dX4_pictures_16 (by decide) ?_
    refine lv_istore_n (lv' := [(2, .int (1 : Int32)), (0, .ref (o 24)), (1, .int x1)]) hx hb dX4_pictures_17 rfl hl (by decide) rfl (fun ls hl => ?_)
    refine lv_iconst (v := (0 : Int32)) hx hb dX4_pictures_18 (by decide) ?_
    refine lv_istore_n (lv' := [(3, .int (0 : Int32)), (2, .int (1 : Int32)), (0, .ref (o 24)), (1, .int x1)]) hx hb dX4_pictures_19 rfl hl (by decide) rfl (fun ls hl => ?_)
    exact L20 FU x1 (1 : Int32) (0 : Int32) S20 _ _ _ hP hS (lv_sub hl [2, 3, 1, 0] rfl) h
  · have h := ite_t c22 h
    refine lv_aload_n hx hb dX4_pictures_9 rfl (lv_at hl 0 rfl) ?_
    refine lv_ldc (v := (-1000000001 : Int32)) hx hb hown (hts _ q1336) dX4_pictures_10 ?_
    obtain ⟨v25, S24, e23, h⟩ := bnd_some h
    refine gc0_i (va_runV (As := [.int (-1000000001 : Int32)]) (rest := []) ⟨hx, hb, hml, hown, hts⟩ (mX4_error (l := l) (D := D) (cA := cA) (o := o) (A := A) (-1000000001 : Int32) S20 e23) (cwV 1 hts (lw_V q1337 q1339 qs30 q90 q1340) rfl rfl rfl (by decide +kernel) ⟨Nat.le_of_ble_eq_true rfl, Nat.le_of_ble_eq_true rfl⟩) (gPreV mKst hK hA hS hP (mRecv hK hP)) rfl rfl hl.1 rfl (lv_room (Nat.le_of_ble_eq_true rfl)) dX4_pictures_12 ⟨Nat.zero_le _, Nat.zero_le _⟩) hS (fun H locs hP hS => ?_)
    exact ret _ _ _ _ _ _ dX4_pictures_15 rfl hP hS h

def bX4_place_15 (S : MS) : Option (Int64 × MS) :=
bnd (fX4_error (-1000000001 : Int32) S) fun v3 S2 =>
some (((v3).toInt64), S2)
def bX4_place_54 (t0 : Int64) (S : MS) : Option (Int64 × MS) :=
some (t0, S)
def fX4_place (x1 : Int32) (x2 : Int32) (S : MS) : Option (Int64 × MS) :=
bnd (fX4_isPicture x1 S) fun v6 S5 =>
(if v6 = 0 then
bX4_place_15 S5
else
bnd (fX4_isPart x2 S5) fun v10 S9 =>
(if v10 = 0 then
bX4_place_15 S9
else
bnd (fX4_isSolved  S9) fun v14 S13 =>
(if v14 = 0 then
bnd (fX4_error (-1000000003 : Int32) S13) fun v18 S17 =>
bX4_place_54 ((v18).toInt64) S17
else
chk (inB x1 4) (bnd (fX4_inTerms (mLA S13 10 (x1).toNatClampNeg) (mLF S13) x2 S13) fun v22 S21 =>
bX4_place_54 v22 S21))))
set_option maxHeartbeats 4000000 in
set_option maxRecDepth 100000 in
theorem mX4_place {l : Launch} {D : va_G} {cA : Nat → ClassId} {o : Nat → Nat} {A : Nat → Prop} (x1 : Int32) (x2 : Int32) (S : MS) {out : (Int64 × MS)} (h : fX4_place x1 x2 S = some out) : Met l yX4_place (ws_ yX4_place cX4_place 3 (some .long)) ({ frames := 10, cells := 0, slots := 0, locals := 300 } : Room) (gPc (mK D cA) (mP D cA o A) A [.ref (o 24), .int x1, .int x2] S) (gQl (mK D cA) (mP D cA o A) A out) 0 0 A := by
  refine gMet_l (by decide) (Nat.le_of_ble_eq_true rfl) ?_ mKst
  intro p e s m below meth c Q ls args H locs hC hP hS hl ret
  obtain ⟨hx, hb, hml, hown, hts, hA, hK⟩ := hC
  have hown : s.vm.findClass RX4 = some m.cls := hown
  have hl : lv_has ls 3 [(0, .ref (o 24)), (1, .int x1), (2, .int x2)] := hl
  have B15 : ∀  (S : MS) (H : Heap) (locs : List Loc) (ls : Array Slot), mP D cA o A S H → va_S A s.heap H locs → lv_has ls 3 [(0, .ref (o 24))] → bX4_place_15   S = some out → W p l e ({ frames := 10, cells := 0, slots := 0, locals := 300 } : Room) s m args below meth c H locs 0 0 Q (F0 m 15 ls []) := by
    intro  S H locs ls hP hS hl h
    unfold bX4_place_15 at h
    refine lv_aload_n hx hb dX4_place_15 rfl (lv_at hl 0 rfl) ?_
    refine lv_ldc (v := (-1000000001 : Int32)) hx hb hown (hts _ q1336) dX4_place_16 ?_
    obtain ⟨v3, S2, e1, h⟩ := bnd_some h
    refine gc0_i (va_runV (As := [.int (-1000000001 : Int32)]) (rest := []) ⟨hx, hb, hml, hown, hts⟩ (mX4_error (l := l) (D := D) (cA := cA) (o := o) (A := A) (-1000000001 : Int32) S e1) (cwV 1 hts (lw_V q1337 q1339 qs30 q90 q1340) rfl rfl rfl (by decide +kernel) ⟨Nat.le_of_ble_eq_true rfl, Nat.le_of_ble_eq_true rfl⟩) (gPreV mKst hK hA hS hP (mRecv hK hP)) rfl rfl hl.1 rfl (lv_room (Nat.le_of_ble_eq_true rfl)) dX4_place_18 ⟨Nat.zero_le _, Nat.zero_le _⟩) hS (fun H locs hP hS => ?_)
    refine lv_i2l hx hb dX4_place_21 rfl ?_
    exact ret _ _ _ _ _ _ dX4_place_22 hP hS h
  have B54 : ∀ (t0 : Int64) (S : MS) (H : Heap) (locs : List Loc) (ls : Array Slot), mP D cA o A S H → va_S A s.heap H locs → lv_has ls 3 [(0, .ref (o 24))] → bX4_place_54  t0 S = some out → W p l e ({ frames := 10, cells := 0, slots := 0, locals := 300 } : Room) s m args below meth c H locs 0 0 Q (F0 m 54 ls [.long t0]) := by
    intro t0 S H locs ls hP hS hl h
    unfold bX4_place_54 at h
    exact ret _ _ _ _ _ _ dX4_place_54 hP hS h
  unfold fX4_place at h
  refine lv_aload_n hx hb dX4_place_0 rfl (lv_at hl 0 rfl) ?_
  refine lv_iload_n hx hb dX4_place_1 rfl (lv_at hl 1 rfl) ?_
  obtain ⟨v6, S5, e4, h⟩ := bnd_some h
  refine gc0_i (va_runV (As := [.int x1]) (rest := []) ⟨hx, hb, hml, hown, hts⟩ (mX4_isPicture (l := l) (D := D) (cA := cA) (o := o) (A := A) x1 S e4) (cwV 1 hts (lw_V q1332 q1334 qs29 q90 q1335) rfl rfl rfl (by decide +kernel) ⟨Nat.le_of_ble_eq_true rfl, Nat.le_of_ble_eq_true rfl⟩) (gPreV mKst hK hA hS hP (mRecv hK hP)) rfl rfl hl.1 rfl (lv_room (Nat.le_of_ble_eq_true rfl)) dX4_place_2 ⟨Nat.zero_le _, Nat.zero_le _⟩) hS (fun H locs hP hS => ?_)
  refine lv_if_eq (tgt := 15) hx hb dX4_place_5 (by decide) (fun c7 => ?_) (fun c7 => ?_)
  · have h := ite_t c7 h
    exact B15 S5 _ _ _ hP hS (lv_sub hl [0] rfl) h
  · have h := ite_f c7 h
    refine lv_iload_n hx hb dX4_place_8 rfl (lv_at hl 2 rfl) ?_
    obtain ⟨v10, S9, e8, h⟩ := bnd_some h
    refine gc0_i (va_runS (As := [.int x2]) (rest := []) ⟨hx, hb, hml, hown, hts⟩ (mX4_isPart (l := l) (D := D) (cA := cA) (o := o) (A := A) x2 S5 e8) (va_cwS 1 hts (lw_S q1560 q1561 q90 q1562) rfl rfl rfl (by decide +kernel) ⟨Nat.le_of_ble_eq_true rfl, Nat.le_of_ble_eq_true rfl⟩) (gPreS mKst hK hA hS hP) rfl rfl hl.1 rfl (lv_room (Nat.le_of_ble_eq_true rfl)) dX4_place_9 ⟨Nat.zero_le _, Nat.zero_le _⟩) hS (fun H locs hP hS => ?_)
    refine lv_if_ne (tgt := 23) hx hb dX4_place_12 (by decide) (fun c11 => ?_) (fun c11 => ?_)
    · have h := ite_f c11 h
      refine lv_aload_n hx hb dX4_place_23 rfl (lv_at hl 0 rfl) ?_
      obtain ⟨v14, S13, e12, h⟩ := bnd_some h
      refine gc0_i (va_runV (As := []) (rest := []) ⟨hx, hb, hml, hown, hts⟩ (mX4_isSolved (l := l) (D := D) (cA := cA) (o := o) (A := A)  S9 e12) (cwV 0 hts (lw_V q1496 q1498 qs55 q90 q1499) rfl rfl rfl (by decide +kernel) ⟨Nat.le_of_ble_eq_true rfl, Nat.le_of_ble_eq_true rfl⟩) (gPreV mKst hK hA hS hP (mRecv hK hP)) rfl rfl hl.1 rfl (lv_room (Nat.le_of_ble_eq_true rfl)) dX4_place_24 ⟨Nat.zero_le _, Nat.zero_le _⟩) hS (fun H locs hP hS => ?_)
      refine lv_if_eq (tgt := 47) hx hb dX4_place_27 (by decide) (fun c15 => ?_) (fun c15 => ?_)
      · have h := ite_t c15 h
        refine lv_aload_n hx hb dX4_place_47 rfl (lv_at hl 0 rfl) ?_
        refine lv_ldc (v := (-1000000003 : Int32)) hx hb hown (hts _ q1418) dX4_place_48 ?_
        obtain ⟨v18, S17, e16, h⟩ := bnd_some h
        refine gc0_i (va_runV (As := [.int (-1000000003 : Int32)]) (rest := []) ⟨hx, hb, hml, hown, hts⟩ (mX4_error (l := l) (D := D) (cA := cA) (o := o) (A := A) (-1000000003 : Int32) S13 e16) (cwV 1 hts (lw_V q1337 q1339 qs30 q90 q1340) rfl rfl rfl (by decide +kernel) ⟨Nat.le_of_ble_eq_true rfl, Nat.le_of_ble_eq_true rfl⟩) (gPreV mKst hK hA hS hP (mRecv hK hP)) rfl rfl hl.1 rfl (lv_room (Nat.le_of_ble_eq_true rfl)) dX4_place_50 ⟨Nat.zero_le _, Nat.zero_le _⟩) hS (fun H locs hP hS => ?_)
        refine lv_i2l hx hb dX4_place_53 rfl ?_
        exact B54 ((v18).toInt64) S17 _ _ _ hP hS (lv_sub hl [0] rfl) h
      · have h := ite_f c15 h
        refine lv_aload_n hx hb dX4_place_30 rfl (lv_at hl 0 rfl) ?_
        refine va_get (D := D) (ci := 4) (v := .ref (o 10)) (C := RX4) (T := TX4) (N := 24) hx hb hts in_X4 hown hK hP.1 0 rfl rfl 10 (by decide) (hts _ q1259) (fun _ h9 => h9) rfl dX4_place_31 ?_
        refine lv_iload_n hx hb dX4_place_34 rfl (lv_at hl 1 rfl) ?_
        obtain ⟨g19, h⟩ := chk_some h
        refine va_lald hx hb hK hP.1 10 3 rfl rfl (inB_in g19) dX4_place_35 ?_
        refine lv_aload_n hx hb dX4_place_36 rfl (lv_at hl 0 rfl) ?_
        refine va_get (D := D) (ci := 4) (v := .long (mLF S13)) (C := RX4) (T := TX4) (N := 24) hx hb hts in_X4 hown hK hP.1 0 rfl rfl 11 (by decide) (hts _ q1260) (fun _ h9 => h9) rfl dX4_place_37 ?_
        refine lv_iload_n hx hb dX4_place_40 rfl (lv_at hl 2 rfl) ?_
        obtain ⟨v22, S21, e20, h⟩ := bnd_some h
        refine gc0_l (va_runS (As := [.long (mLA S13 10 (x1).toNatClampNeg), .long (mLF S13), .int x2]) (rest := []) ⟨hx, hb, hml, hown, hts⟩ (mX4_inTerms (l := l) (D := D) (cA := cA) (o := o) (A := A) (mLA S13 10 (x1).toNatClampNeg) (mLF S13) x2 S13 e20) (va_cwS 3 hts (lw_S q1563 q1564 q90 q1565) rfl rfl rfl (by decide +kernel) ⟨Nat.le_of_ble_eq_true rfl, Nat.le_of_ble_eq_true rfl⟩) (gPreS mKst hK hA hS hP) rfl rfl hl.1 rfl (lv_room (Nat.le_of_ble_eq_true rfl)) dX4_place_41 ⟨Nat.zero_le _, Nat.zero_le _⟩) hS (fun H locs hP hS => ?_)
        refine lv_goto (tgt := 54) hx hb dX4_place_44 (by decide) ?_
        exact B54 v22 S21 _ _ _ hP hS (lv_sub hl [0] rfl) h
    · have h := ite_t c11 h
      exact B15 S9 _ _ _ hP hS (lv_sub hl [0] rfl) h

def fX4_plainTies (x1 : Int32) (x2 : Int32) (S : MS) : Option (Int32 × MS) :=
bn1 (fX4_begins (12 : Int32) S) fun S2 =>
bnd (fX4_says x1 x2 S2) fun v5 S4 =>
bnd (fX4_of x1 (1 : Int32) S4) fun v8 S7 =>
some ((v5 - v8), S7)
set_option maxHeartbeats 4000000 in
set_option maxRecDepth 100000 in
theorem mX4_plainTies {l : Launch} {D : va_G} {cA : Nat → ClassId} {o : Nat → Nat} {A : Nat → Prop} (x1 : Int32) (x2 : Int32) (S : MS) {out : (Int32 × MS)} (h : fX4_plainTies x1 x2 S = some out) : Met l yX4_plainTies (ws_ yX4_plainTies cX4_plainTies 3 (some .int)) ({ frames := 7, cells := 0, slots := 0, locals := 153 } : Room) (gPc (mK D cA) (mP D cA o A) A [.ref (o 24), .int x1, .int x2] S) (gQi (mK D cA) (mP D cA o A) A out) 0 0 A := by
  refine gMet_z (by decide) (Nat.le_of_ble_eq_true rfl) ?_ mKst
  intro p e s m below meth c Q ls args H locs hC hP hS hl ret
  obtain ⟨hx, hb, hml, hown, hts, hA, hK⟩ := hC
  have hown : s.vm.findClass RX4 = some m.cls := hown
  have hl : lv_has ls 3 [(0, .ref (o 24)), (1, .int x1), (2, .int x2)] := hl
  unfold fX4_plainTies at h
  refine lv_aload_n hx hb dX4_plainTies_0 rfl (lv_at hl 0 rfl) ?_
  refine lv_bipush (v := (12 : Int32)) hx hb dX4_plainTies_1 (by decide) ?_
  obtain ⟨S2, e1, h⟩ := bn1_some h
  refine gc0_v (va_runV (As := [.int (12 : Int32)]) (rest := []) ⟨hx, hb, hml, hown, hts⟩ (mX4_begins (l := l) (D := D) (cA := cA) (o := o) (A := A) (12 : Int32) S e1) (cwV 1 hts (lw_V q1655 q1657 qs74 q90 q1658) rfl rfl rfl (by decide +kernel) ⟨Nat.le_of_ble_eq_true rfl, Nat.le_of_ble_eq_true rfl⟩) (gPreV mKst hK hA hS hP (mRecv hK hP)) rfl rfl hl.1 rfl (lv_room (Nat.le_of_ble_eq_true rfl)) dX4_plainTies_3 ⟨Nat.zero_le _, Nat.zero_le _⟩) hS (fun H locs hP hS => ?_)
  refine lv_aload_n hx hb dX4_plainTies_6 rfl (lv_at hl 0 rfl) ?_
  refine lv_iload_n hx hb dX4_plainTies_7 rfl (lv_at hl 1 rfl) ?_
  refine lv_iload_n hx hb dX4_plainTies_8 rfl (lv_at hl 2 rfl) ?_
  obtain ⟨v5, S4, e3, h⟩ := bnd_some h
  refine gc0_i (va_runV (As := [.int x1, .int x2]) (rest := []) ⟨hx, hb, hml, hown, hts⟩ (mX4_says (l := l) (D := D) (cA := cA) (o := o) (A := A) x1 x2 S2 e3) (cwV 2 hts (lw_V q1663 q1665 qs76 q90 q1666) rfl rfl rfl (by decide +kernel) ⟨Nat.le_of_ble_eq_true rfl, Nat.le_of_ble_eq_true rfl⟩) (gPreV mKst hK hA hS hP (mRecv hK hP)) rfl rfl hl.1 rfl (lv_room (Nat.le_of_ble_eq_true rfl)) dX4_plainTies_9 ⟨Nat.zero_le _, Nat.zero_le _⟩) hS (fun H locs hP hS => ?_)
  refine lv_aload_n hx hb dX4_plainTies_12 rfl (lv_at hl 0 rfl) ?_
  refine lv_iload_n hx hb dX4_plainTies_13 rfl (lv_at hl 1 rfl) ?_
  refine lv_iconst (v := (1 : Int32)) hx hb dX4_plainTies_14 (by decide) ?_
  obtain ⟨v8, S7, e6, h⟩ := bnd_some h
  refine gc0_i (va_runV (As := [.int x1, .int (1 : Int32)]) (rest := [.int v5]) ⟨hx, hb, hml, hown, hts⟩ (mX4_of (l := l) (D := D) (cA := cA) (o := o) (A := A) x1 (1 : Int32) S4 e6) (cwV 2 hts (lw_V q1355 q1357 qs33 q90 q1358) rfl rfl rfl (by decide +kernel) ⟨Nat.le_of_ble_eq_true rfl, Nat.le_of_ble_eq_true rfl⟩) (gPreV mKst hK hA hS hP (mRecv hK hP)) rfl rfl hl.1 rfl (lv_room (Nat.le_of_ble_eq_true rfl)) dX4_plainTies_15 ⟨Nat.zero_le _, Nat.zero_le _⟩) hS (fun H locs hP hS => ?_)
  refine lv_isub hx hb dX4_plainTies_18 ?_
  exact ret _ _ _ _ _ _ dX4_plainTies_19 rfl hP hS h
