def bX0_untell_30 (x0 : Nat) (x1 : Int32) (t0 : Int32) (S : XS) : Option (Int32 × XS) :=
bn1 (gR S x0 0 2) fun a2 =>
bn1 (gR S a2 1 13) fun a4 =>
bn1 (sQ S a4 5 x1 none) fun S6 =>
some (t0, S6)
def fX0_untell (x0 : Nat) (x1 : Int32) (S : XS) : Option (Int32 × XS) :=
bnd (fX0_isUse x1 S) fun v9 S8 =>
(if v9 = 0 then
chk (isC S8 x0 0) (bnd (fX0_finds x0 (1 : Int32) S8) fun v21 S19 =>
some (v21, S19))
else
bn1 (gR S8 x0 0 2) fun a12 =>
bn1 (gR S8 a12 1 13) fun a14 =>
bn1 (aQ S8 a14 5 x1) fun a16 =>
nlc a16 (
bX0_untell_30 x0 x1 (0 : Int32) S8) fun a17 =>
bX0_untell_30 x0 x1 (1 : Int32) S8)
set_option maxHeartbeats 4000000 in
set_option maxRecDepth 100000 in
theorem mX0_untell {l : Launch} {D : va_G} {cA : Nat → ClassId} {A : Nat → Prop} (x0 : Nat) (x1 : Int32) (S : XS) {out : (Int32 × XS)} (h : fX0_untell x0 x1 S = some out) : Met l yX0_untell (ws_ yX0_untell cX0_untell 3 (some .int)) ({ frames := 2, cells := 0, slots := 0, locals := 42 } : Room) (gPc (xK D cA A) (xP D cA A) A [.ref x0, .int x1] S) (gQi (xK D cA A) (xP D cA A) A out) 0 0 A := by
  refine gMet_z (by decide) (Nat.le_of_ble_eq_true rfl) ?_ xKst
  intro p e s m below meth c Q ls args H locs hC hP hS hl ret
  obtain ⟨hx, hb, hml, hown, hts, hA, hK⟩ := hC
  have hown : s.vm.findClass RX0 = some m.cls := hown
  have hl : lv_has ls 3 [(0, .ref x0), (1, .int x1)] := hl
  have B30 : ∀ (x0 : Nat) (x1 : Int32) (t0 : Int32) (S : XS) (H : Heap) (locs : List Loc) (ls : Array Slot), xP D cA A S H → va_S A s.heap H locs → lv_has ls 3 [(0, .ref x0), (1, .int x1)] → bX0_untell_30  x0 x1 t0 S = some out → W p l e ({ frames := 2, cells := 0, slots := 0, locals := 42 } : Room) s m args below meth c H locs 0 0 Q (F0 m 30 ls [.int t0]) := by
    intro x0 x1 t0 S H locs ls hP hS hl h
    unfold bX0_untell_30 at h
    refine lv_istore_n (lv' := [(2, .int t0), (0, .ref x0), (1, .int x1)]) hx hb dX0_untell_30 rfl hl (by decide) rfl (fun ls hl => ?_)
    refine lv_aload_n hx hb dX0_untell_31 rfl (lv_at hl 1 rfl) ?_
    obtain ⟨a2, e1, h⟩ := bn1_some h
    refine x_get (C := RX0) (T := TX0) (N := 16) (ci := 0) hx hb hts in_X0 hown hK.1 hP rfl 2 (by decide) (hts _ q231) (fun _ h9 => h9) (gR_some e1) dX0_untell_32 ?_
    obtain ⟨a4, e3, h⟩ := bn1_some h
    refine x_getN (C := RX1) (T := TX1) (N := 16) (ci := 1) hx hb hts in_X1 hown hK.1 hP rfl 13 (by decide) (hK.2.1 _ q172 rfl) (fun _ h9 => h9) (gR_some e3) dX0_untell_35 ?_
    refine lv_iload_n hx hb dX0_untell_38 rfl (lv_at hl 2 rfl) ?_
    refine lv_null hx hb dX0_untell_39 ?_
    obtain ⟨S6, e5, h⟩ := bn1_some h
    refine x_astqN (t := 5) hx hb hK.1 hP hS rfl e5 dX0_untell_40 (fun H locs hP hS => ?_)
    refine lv_iload_n hx hb dX0_untell_41 rfl (lv_at hl 0 rfl) ?_
    exact ret _ _ _ _ _ _ dX0_untell_42 rfl hP hS h
  unfold fX0_untell at h
  refine lv_iload_n hx hb dX0_untell_0 rfl (lv_at hl 1 rfl) ?_
  obtain ⟨v9, S8, e7, h⟩ := bnd_some h
  refine gci (va_runS (As := [.int x1]) (rest := []) ⟨hx, hb, hml, hown, hts⟩ (mX0_isUse (l := l) (D := D) (cA := cA) (A := A) x1 S e7) (va_cwS 1 hts (lw_S q604 q605 q86 q606) rfl rfl rfl (by decide +kernel) ⟨Nat.le_of_ble_eq_true rfl, Nat.le_of_ble_eq_true rfl⟩) (gPreS xKst hK hA hS hP) rfl rfl hl.1 rfl (lv_room (Nat.le_of_ble_eq_true rfl)) dX0_untell_1 ⟨by first | omega | (dsimp only; omega), by first | omega | (dsimp only; omega)⟩) hS (fun H locs hP hS => ?_)
  refine lv_if_ne (tgt := 13) hx hb dX0_untell_4 (by decide) (fun c10 => ?_) (fun c10 => ?_)
  · have h := ite_f c10 h
    refine lv_aload_n hx hb dX0_untell_13 rfl (lv_at hl 0 rfl) ?_
    obtain ⟨a12, e11, h⟩ := bn1_some h
    refine x_get (C := RX0) (T := TX0) (N := 16) (ci := 0) hx hb hts in_X0 hown hK.1 hP rfl 2 (by decide) (hts _ q231) (fun _ h9 => h9) (gR_some e11) dX0_untell_14 ?_
    obtain ⟨a14, e13, h⟩ := bn1_some h
    refine x_getN (C := RX1) (T := TX1) (N := 16) (ci := 1) hx hb hts in_X1 hown hK.1 hP rfl 13 (by decide) (hK.2.1 _ q172 rfl) (fun _ h9 => h9) (gR_some e13) dX0_untell_17 ?_
    refine lv_iload_n hx hb dX0_untell_20 rfl (lv_at hl 1 rfl) ?_
    obtain ⟨a16, e15, h⟩ := bn1_some h
    refine x_aldq (t := 5) hx hb hK.1 hP (by decide) e15 dX0_untell_21 ?_
    cases a16 with
    | none =>
      replace h := nlc_n h
      refine lv_ifnonnullN hx hb dX0_untell_22 ?_
      refine lv_iconst (v := (0 : Int32)) hx hb dX0_untell_25 (by decide) ?_
      refine lv_goto (tgt := 30) hx hb dX0_untell_26 (by decide) ?_
      exact B30 x0 x1 (0 : Int32) S8 _ _ _ hP hS hl h
    | some a17 =>
      replace h := nlc_s h
      refine lv_ifnonnull (tgt := 29) hx hb dX0_untell_22 (by decide) ?_
      refine lv_iconst (v := (1 : Int32)) hx hb dX0_untell_29 (by decide) ?_
      exact B30 x0 x1 (1 : Int32) S8 _ _ _ hP hS hl h
  · have h := ite_t c10 h
    refine lv_aload_n hx hb dX0_untell_7 rfl (lv_at hl 0 rfl) ?_
    refine lv_iconst (v := (1 : Int32)) hx hb dX0_untell_8 (by decide) ?_
    obtain ⟨g20, h⟩ := chk_some h
    obtain ⟨fg20, g20⟩ := isC_some g20
    obtain ⟨v21, S19, e18, h⟩ := bnd_some h
    refine gci (va_runV (As := [.int (1 : Int32)]) (rest := []) ⟨hx, hb, hml, hown, hts⟩ (mX0_finds (l := l) (D := D) (cA := cA) (A := A) x0 (1 : Int32) S8 e18) (cwV 1 hts (lw_V q290 q292 qs1 q86 q293) rfl rfl rfl (by decide +kernel) ⟨Nat.le_of_ble_eq_true rfl, Nat.le_of_ble_eq_true rfl⟩) (gPreV xKst hK hA hS hP (x_recv (q := (RX0, TX0, 16)) hK.1 hP rfl g20)) rfl rfl hl.1 rfl (lv_room (Nat.le_of_ble_eq_true rfl)) dX0_untell_9 ⟨by first | omega | (dsimp only; omega), by first | omega | (dsimp only; omega)⟩) hS (fun H locs hP hS => ?_)
    exact ret _ _ _ _ _ _ dX0_untell_12 rfl hP hS h

def fX11_weighs (x0 : Nat) (x1 : Int32) (x2 : Nat) (S : XS) : Option (Int32 × XS) :=
chk (isC S x2 3) (bn1 (fX3_ran x2 (70 : Int32) S) fun S2 =>
some ((9 : Int32), S2))
set_option maxHeartbeats 4000000 in
set_option maxRecDepth 100000 in
theorem mX11_weighs {l : Launch} {D : va_G} {cA : Nat → ClassId} {A : Nat → Prop} (x0 : Nat) (x1 : Int32) (x2 : Nat) (S : XS) {out : (Int32 × XS)} (h : fX11_weighs x0 x1 x2 S = some out) : Met l yX11_weighs (ws_ yX11_weighs cX11_weighs 3 (some .int)) ({ frames := 1, cells := 0, slots := 0, locals := 21 } : Room) (gPc (xK D cA A) (xP D cA A) A [.ref x0, .int x1, .ref x2] S) (gQi (xK D cA A) (xP D cA A) A out) 0 0 A := by
  refine gMet_z (by decide) (Nat.le_of_ble_eq_true rfl) ?_ xKst
  intro p e s m below meth c Q ls args H locs hC hP hS hl ret
  obtain ⟨hx, hb, hml, hown, hts, hA, hK⟩ := hC
  have hown : s.vm.findClass RX11 = some m.cls := hown
  have hl : lv_has ls 3 [(0, .ref x0), (1, .int x1), (2, .ref x2)] := hl
  unfold fX11_weighs at h
  refine lv_aload_n hx hb dX11_weighs_0 rfl (lv_at hl 2 rfl) ?_
  refine lv_bipush (v := (70 : Int32)) hx hb dX11_weighs_1 (by decide) ?_
  obtain ⟨g3, h⟩ := chk_some h
  obtain ⟨fg3, g3⟩ := isC_some g3
  obtain ⟨S2, e1, h⟩ := bn1_some h
  refine gc_v (va_runV (As := [.int (70 : Int32)]) (rest := []) ⟨hx, hb, hml, hown, hts⟩ (mX3_ran (l := l) (D := D) (cA := cA) (A := A) x2 (70 : Int32) S e1) (cwV 1 hts (lw_V q1078 q1064 q1065 q89 q1066) rfl rfl rfl (by decide +kernel) ⟨Nat.le_of_ble_eq_true rfl, Nat.le_of_ble_eq_true rfl⟩) (gPreV xKst hK hA hS hP (x_recv (q := (RX3, TX3, 2)) hK.1 hP rfl g3)) rfl rfl hl.1 rfl (lv_room (Nat.le_of_ble_eq_true rfl)) dX11_weighs_3 ⟨by first | omega | (dsimp only; omega), by first | omega | (dsimp only; omega)⟩) hS (fun H locs hP hS => ?_)
  refine lv_bipush (v := (9 : Int32)) hx hb dX11_weighs_6 (by decide) ?_
  exact ret _ _ _ _ _ _ dX11_weighs_8 rfl hP hS h

def fX6_weighs (x0 : Nat) (x1 : Int32) (x2 : Nat) (S : XS) : Option (Int32 × XS) :=
chk (isC S x2 3) (bn1 (fX3_ran x2 (20 : Int32) S) fun S2 =>
chk (mkB S2 x0) (bnd (fX5_weighs x0 x1 x2 S2) fun v7 S5 =>
some ((v7 - (4 : Int32)), S5)))
set_option maxHeartbeats 4000000 in
set_option maxRecDepth 100000 in
theorem mX6_weighs {l : Launch} {D : va_G} {cA : Nat → ClassId} {A : Nat → Prop} (x0 : Nat) (x1 : Int32) (x2 : Nat) (S : XS) {out : (Int32 × XS)} (h : fX6_weighs x0 x1 x2 S = some out) : Met l yX6_weighs (ws_ yX6_weighs cX6_weighs 3 (some .int)) ({ frames := 2, cells := 0, slots := 0, locals := 43 } : Room) (gPc (xK D cA A) (xP D cA A) A [.ref x0, .int x1, .ref x2] S) (gQi (xK D cA A) (xP D cA A) A out) 0 0 A := by
  refine gMet_z (by decide) (Nat.le_of_ble_eq_true rfl) ?_ xKst
  intro p e s m below meth c Q ls args H locs hC hP hS hl ret
  obtain ⟨hx, hb, hml, hown, hts, hA, hK⟩ := hC
  have hown : s.vm.findClass RX6 = some m.cls := hown
  have hl : lv_has ls 3 [(0, .ref x0), (1, .int x1), (2, .ref x2)] := hl
  unfold fX6_weighs at h
  refine lv_aload_n hx hb dX6_weighs_0 rfl (lv_at hl 2 rfl) ?_
  refine lv_bipush (v := (20 : Int32)) hx hb dX6_weighs_1 (by decide) ?_
  obtain ⟨g3, h⟩ := chk_some h
  obtain ⟨fg3, g3⟩ := isC_some g3
  obtain ⟨S2, e1, h⟩ := bn1_some h
  refine gc_v (va_runV (As := [.int (20 : Int32)]) (rest := []) ⟨hx, hb, hml, hown, hts⟩ (mX3_ran (l := l) (D := D) (cA := cA) (A := A) x2 (20 : Int32) S e1) (cwV 1 hts (lw_V q1070 q1064 q1065 q89 q1066) rfl rfl rfl (by decide +kernel) ⟨Nat.le_of_ble_eq_true rfl, Nat.le_of_ble_eq_true rfl⟩) (gPreV xKst hK hA hS hP (x_recv (q := (RX3, TX3, 2)) hK.1 hP rfl g3)) rfl rfl hl.1 rfl (lv_room (Nat.le_of_ble_eq_true rfl)) dX6_weighs_3 ⟨by first | omega | (dsimp only; omega), by first | omega | (dsimp only; omega)⟩) hS (fun H locs hP hS => ?_)
  refine lv_aload_n hx hb dX6_weighs_6 rfl (lv_at hl 0 rfl) ?_
  refine lv_iload_n hx hb dX6_weighs_7 rfl (lv_at hl 1 rfl) ?_
  refine lv_aload_n hx hb dX6_weighs_8 rfl (lv_at hl 2 rfl) ?_
  obtain ⟨g6, h⟩ := chk_some h
  obtain ⟨C1, cC1, hat1, hrv1⟩ := x_recvM hK.1 hP g6
  obtain ⟨v7, S5, e4, h⟩ := bnd_some h
  refine gci (x_runSU (n := 2) (As := [.int x1, .ref x2]) (rest := []) hat1 ⟨hx, hb, hml, hown, hts⟩ (mX5_weighs (l := l) (D := D) (cA := cA) (A := A) x0 x1 x2 S2 e4) rfl (lw_meth q1080) rfl rfl (hts _ q1071) (hts _ q1059) (hts _ q324) (Or.inl rfl) ⟨rfl, rfl⟩ (hts _ q1057) (hts _ q91) (by decide +kernel) ⟨Nat.le_of_ble_eq_true rfl, Nat.le_of_ble_eq_true rfl⟩ (gPreV xKst hK hA hS hP hrv1) rfl rfl hl.1 rfl (lv_room (Nat.le_of_ble_eq_true rfl)) dX6_weighs_9 ⟨by first | omega | (dsimp only; omega), by first | omega | (dsimp only; omega)⟩) hS (fun H locs hP hS => ?_)
  refine lv_iconst (v := (4 : Int32)) hx hb dX6_weighs_12 (by decide) ?_
  refine lv_isub hx hb dX6_weighs_13 ?_
  exact ret _ _ _ _ _ _ dX6_weighs_14 rfl hP hS h

def fX9_weighs (x0 : Nat) (x1 : Int32) (x2 : Nat) (S : XS) : Option (Int32 × XS) :=
chk (isC S x2 3) (bn1 (fX3_ran x2 (50 : Int32) S) fun S2 =>
chk (mkB S2 x0) (bnd (fX6_weighs x0 x1 x2 S2) fun v7 S5 =>
some ((v7 * (3 : Int32)), S5)))
set_option maxHeartbeats 4000000 in
set_option maxRecDepth 100000 in
theorem mX9_weighs {l : Launch} {D : va_G} {cA : Nat → ClassId} {A : Nat → Prop} (x0 : Nat) (x1 : Int32) (x2 : Nat) (S : XS) {out : (Int32 × XS)} (h : fX9_weighs x0 x1 x2 S = some out) : Met l yX9_weighs (ws_ yX9_weighs cX9_weighs 3 (some .int)) ({ frames := 3, cells := 0, slots := 0, locals := 65 } : Room) (gPc (xK D cA A) (xP D cA A) A [.ref x0, .int x1, .ref x2] S) (gQi (xK D cA A) (xP D cA A) A out) 0 0 A := by
  refine gMet_z (by decide) (Nat.le_of_ble_eq_true rfl) ?_ xKst
  intro p e s m below meth c Q ls args H locs hC hP hS hl ret
  obtain ⟨hx, hb, hml, hown, hts, hA, hK⟩ := hC
  have hown : s.vm.findClass RX9 = some m.cls := hown
  have hl : lv_has ls 3 [(0, .ref x0), (1, .int x1), (2, .ref x2)] := hl
  unfold fX9_weighs at h
  refine lv_aload_n hx hb dX9_weighs_0 rfl (lv_at hl 2 rfl) ?_
  refine lv_bipush (v := (50 : Int32)) hx hb dX9_weighs_1 (by decide) ?_
  obtain ⟨g3, h⟩ := chk_some h
  obtain ⟨fg3, g3⟩ := isC_some g3
  obtain ⟨S2, e1, h⟩ := bn1_some h
  refine gc_v (va_runV (As := [.int (50 : Int32)]) (rest := []) ⟨hx, hb, hml, hown, hts⟩ (mX3_ran (l := l) (D := D) (cA := cA) (A := A) x2 (50 : Int32) S e1) (cwV 1 hts (lw_V q1063 q1064 q1065 q89 q1066) rfl rfl rfl (by decide +kernel) ⟨Nat.le_of_ble_eq_true rfl, Nat.le_of_ble_eq_true rfl⟩) (gPreV xKst hK hA hS hP (x_recv (q := (RX3, TX3, 2)) hK.1 hP rfl g3)) rfl rfl hl.1 rfl (lv_room (Nat.le_of_ble_eq_true rfl)) dX9_weighs_3 ⟨by first | omega | (dsimp only; omega), by first | omega | (dsimp only; omega)⟩) hS (fun H locs hP hS => ?_)
  refine lv_aload_n hx hb dX9_weighs_6 rfl (lv_at hl 0 rfl) ?_
  refine lv_iload_n hx hb dX9_weighs_7 rfl (lv_at hl 1 rfl) ?_
  refine lv_aload_n hx hb dX9_weighs_8 rfl (lv_at hl 2 rfl) ?_
  obtain ⟨g6, h⟩ := chk_some h
  obtain ⟨C1, cC1, hat1, hrv1⟩ := x_recvM hK.1 hP g6
  obtain ⟨v7, S5, e4, h⟩ := bnd_some h
  refine gci (x_runSU (n := 2) (As := [.int x1, .ref x2]) (rest := []) hat1 ⟨hx, hb, hml, hown, hts⟩ (mX6_weighs (l := l) (D := D) (cA := cA) (A := A) x0 x1 x2 S2 e4) rfl (lw_meth q1069) rfl rfl (hts _ q1067) (hts _ q1757) (hts _ q351) (Or.inl rfl) ⟨rfl, rfl⟩ (hts _ q1068) (hts _ q92) (by decide +kernel) ⟨Nat.le_of_ble_eq_true rfl, Nat.le_of_ble_eq_true rfl⟩ (gPreV xKst hK hA hS hP hrv1) rfl rfl hl.1 rfl (lv_room (Nat.le_of_ble_eq_true rfl)) dX9_weighs_9 ⟨by first | omega | (dsimp only; omega), by first | omega | (dsimp only; omega)⟩) hS (fun H locs hP hS => ?_)
  refine lv_iconst (v := (3 : Int32)) hx hb dX9_weighs_12 (by decide) ?_
  refine lv_imul hx hb dX9_weighs_13 ?_
  exact ret _ _ _ _ _ _ dX9_weighs_14 rfl hP hS h
