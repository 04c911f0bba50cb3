def v_X15_weighs (a : Nat) (a0 : Int32) (a1 : Nat) (S : XS) : Option (Int32 × XS) :=
  if isC S a 5 = true then fX5_weighs a a0 a1 S else
  if isC S a 6 = true then fX6_weighs a a0 a1 S else
  if isC S a 7 = true then fX5_weighs a a0 a1 S else
  if isC S a 8 = true then fX5_weighs a a0 a1 S else
  if isC S a 9 = true then fX9_weighs a a0 a1 S else
  if isC S a 10 = true then fX5_weighs a a0 a1 S else
  if isC S a 11 = true then fX11_weighs a a0 a1 S else
  none
theorem v_X15_weighs_c {a : Nat} {a0 : Int32} {a1 : Nat} {S : XS} {o : (Int32 × XS)} (h : v_X15_weighs a a0 a1 S = some o) : (isC S a 5 = true ∧ fX5_weighs a a0 a1 S = some o) ∨ (isC S a 6 = true ∧ fX6_weighs a a0 a1 S = some o) ∨ (isC S a 7 = true ∧ fX5_weighs a a0 a1 S = some o) ∨ (isC S a 8 = true ∧ fX5_weighs a a0 a1 S = some o) ∨ (isC S a 9 = true ∧ fX9_weighs a a0 a1 S = some o) ∨ (isC S a 10 = true ∧ fX5_weighs a a0 a1 S = some o) ∨ (isC S a 11 = true ∧ fX11_weighs a a0 a1 S = some o) := by
  unfold v_X15_weighs at h
  split at h
  · next hc => exact (Or.inl ⟨hc, h⟩)
  · skip
    split at h
    · next hc => exact (Or.inr (Or.inl ⟨hc, h⟩))
    · skip
      split at h
      · next hc => exact (Or.inr (Or.inr (Or.inl ⟨hc, h⟩)))
      · skip
        split at h
        · next hc => exact (Or.inr (Or.inr (Or.inr (Or.inl ⟨hc, h⟩))))
        · skip
          split at h
          · next hc => exact (Or.inr (Or.inr (Or.inr (Or.inr (Or.inl ⟨hc, h⟩)))))
          · skip
            split at h
            · next hc => exact (Or.inr (Or.inr (Or.inr (Or.inr (Or.inr (Or.inl ⟨hc, h⟩))))))
            · skip
              split at h
              · next hc => exact (Or.inr (Or.inr (Or.inr (Or.inr (Or.inr (Or.inr ⟨hc, h⟩))))))
              · cases h
def fX15_says (x0 : Nat) (x1 : Int32) (x2 : Nat) (S : XS) : Option (Int32 × XS) :=
chk (isC S x2 3) (bn1 (fX3_ran x2 (11 : Int32) S) fun S2 =>
bnd (v_X15_weighs x0 x1 x2 S2) fun v4 S5 =>
some ((v4 * (2 : Int32)), S5))
set_option maxHeartbeats 4000000 in
set_option maxRecDepth 100000 in
theorem mX15_says {l : Launch} {D : va_G} {cA : Nat → ClassId} {A : Nat → Prop} (x0 : Nat) (x1 : Int32) (x2 : Nat) (S : XS) {out : (Int32 × XS)} (h : fX15_says x0 x1 x2 S = some out) : MetI l yX15_says (ws_ yX15_says cX15_says 3 (some .int)) ({ frames := 4, cells := 0, slots := 0, locals := 87 } : Room) (gPc (xK D cA A) (xP D cA A) A [.ref x0, .int x1, .ref x2] S) (gQi (xK D cA A) (xP D cA A) A out) 0 0 A := by
  refine gMetI_z (by decide) (Nat.le_of_ble_eq_true rfl) ?_ xKst
  intro p e s m below meth c Q ls args H locs hC hP hS hl ret
  obtain ⟨hx, hb, hml, hown, hts, hA, hK⟩ := hC
  have hown : s.vm.findClass RX15 = some m.cls := hown
  have hl : lv_has ls 3 [(0, .ref x0), (1, .int x1), (2, .ref x2)] := hl
  unfold fX15_says at h
  refine lv_aload_n hx hb dX15_says_0 rfl (lv_at hl 2 rfl) ?_
  refine lv_bipush (v := (11 : Int32)) hx hb dX15_says_1 (by decide) ?_
  obtain ⟨g3, h⟩ := chk_some h
  obtain ⟨fg3, g3⟩ := isC_some g3
  obtain ⟨S2, e1, h⟩ := bn1_some h
  refine gc_v (va_runV (As := [.int (11 : Int32)]) (rest := []) ⟨hx, hb, hml, hown, hts⟩ (mX3_ran (l := l) (D := D) (cA := cA) (A := A) x2 (11 : Int32) S e1) (cwV 1 hts (lw_V q1094 q1064 q1065 q89 q1066) rfl rfl rfl (by decide +kernel) ⟨Nat.le_of_ble_eq_true rfl, Nat.le_of_ble_eq_true rfl⟩) (gPreV xKst hK hA hS hP (x_recv (q := (RX3, TX3, 2)) hK.1 hP rfl g3)) rfl rfl hl.1 rfl (lv_room (Nat.le_of_ble_eq_true rfl)) dX15_says_3 ⟨by first | omega | (dsimp only; omega), by first | omega | (dsimp only; omega)⟩) hS (fun H locs hP hS => ?_)
  refine lv_aload_n hx hb dX15_says_6 rfl (lv_at hl 0 rfl) ?_
  refine lv_iload_n hx hb dX15_says_7 rfl (lv_at hl 1 rfl) ?_
  refine lv_aload_n hx hb dX15_says_8 rfl (lv_at hl 2 rfl) ?_
  obtain ⟨v4, S5, e6, h⟩ := bnd_some h
  have hr7 : va_Run5 p l e ({ frames := 4, cells := 0, slots := 0, locals := 87 } : Room) s m args below meth c H locs 0 0 0 0 (F0 m 9 ls [.ref x2, .int x1, .ref x0]) [] (gQi (xK D cA A) (xP D cA A) A (v4, S5) ([.ref x0, .int x1, .ref x2]).toArray) A := by
    rcases v_X15_weighs_c e6 with ⟨gc, ec⟩ | ⟨gc, ec⟩ | ⟨gc, ec⟩ | ⟨gc, ec⟩ | ⟨gc, ec⟩ | ⟨gc, ec⟩ | ⟨gc, ec⟩
    · obtain ⟨fc, gc⟩ := isC_some gc
      exact va_runF (cC := D.1 5) (hK.1.1 5 _ rfl).2 ⟨hx, hb, hml, hown, hts⟩ (mX5_weighs (l := l) (D := D) (cA := cA) (A := A) x0 x1 x2 S2 ec) (va_cwF (C := RX5) 2 hts (lw_app (xw4 q1096 q1112 q1057 q91) (lw_meth q1080)) rfl rfl rfl (hK.2.2.2.1 ("PictureBlock$Mark", ⟨"PictureBlock$Weighs", "weighs", "(ILPictureBlock$Trace;)I"⟩, ⟨"PictureBlock$Mark", "weighs", "(ILPictureBlock$Trace;)I"⟩) (by decide)) (by decide +kernel) ⟨Nat.le_of_ble_eq_true rfl, Nat.le_of_ble_eq_true rfl⟩) (gPreV (As := [.int x1, .ref x2]) xKst hK hA hS hP (x_recv (q := (RX5, TX5, 2)) hK.1 hP rfl gc)) (rest := []) rfl rfl hl.1 rfl (lv_room (Nat.le_of_ble_eq_true rfl)) dX15_says_9 ⟨by first | exact Nat.zero_le _ | (dsimp only; omega), by first | exact Nat.zero_le _ | (dsimp only; omega)⟩
    · obtain ⟨fc, gc⟩ := isC_some gc
      exact va_runF (cC := D.1 6) (hK.1.1 6 _ rfl).2 ⟨hx, hb, hml, hown, hts⟩ (mX6_weighs (l := l) (D := D) (cA := cA) (A := A) x0 x1 x2 S2 ec) (va_cwF (C := RX6) 2 hts (lw_app (xw4 q1096 q1108 q1068 q92) (lw_meth q1069)) rfl rfl rfl (hK.2.2.2.1 ("PictureBlock$Flat", ⟨"PictureBlock$Weighs", "weighs", "(ILPictureBlock$Trace;)I"⟩, ⟨"PictureBlock$Flat", "weighs", "(ILPictureBlock$Trace;)I"⟩) (by decide)) (by decide +kernel) ⟨Nat.le_of_ble_eq_true rfl, Nat.le_of_ble_eq_true rfl⟩) (gPreV (As := [.int x1, .ref x2]) xKst hK hA hS hP (x_recv (q := (RX6, TX6, 2)) hK.1 hP rfl gc)) (rest := []) rfl rfl hl.1 rfl (lv_room (Nat.le_of_ble_eq_true rfl)) dX15_says_9 ⟨by first | exact Nat.zero_le _ | (dsimp only; omega), by first | exact Nat.zero_le _ | (dsimp only; omega)⟩
    · obtain ⟨fc, gc⟩ := isC_some gc
      exact va_runF (cC := D.1 7) (hK.1.1 7 _ rfl).2 ⟨hx, hb, hml, hown, hts⟩ (mX5_weighs (l := l) (D := D) (cA := cA) (A := A) x0 x1 x2 S2 ec) (va_cwF (C := RX7) 2 hts (lw_app (xw4 q1096 q1122 q1057 q91) (lw_meth q1080)) rfl rfl rfl (hK.2.2.2.1 ("PictureBlock$Star", ⟨"PictureBlock$Weighs", "weighs", "(ILPictureBlock$Trace;)I"⟩, ⟨"PictureBlock$Mark", "weighs", "(ILPictureBlock$Trace;)I"⟩) (by decide)) (by decide +kernel) ⟨Nat.le_of_ble_eq_true rfl, Nat.le_of_ble_eq_true rfl⟩) (gPreV (As := [.int x1, .ref x2]) xKst hK hA hS hP (x_recv (q := (RX7, TX7, 2)) hK.1 hP rfl gc)) (rest := []) rfl rfl hl.1 rfl (lv_room (Nat.le_of_ble_eq_true rfl)) dX15_says_9 ⟨by first | exact Nat.zero_le _ | (dsimp only; omega), by first | exact Nat.zero_le _ | (dsimp only; omega)⟩
    · obtain ⟨fc, gc⟩ := isC_some gc
      exact va_runF (cC := D.1 8) (hK.1.1 8 _ rfl).2 ⟨hx, hb, hml, hown, hts⟩ (mX5_weighs (l := l) (D := D) (cA := cA) (A := A) x0 x1 x2 S2 ec) (va_cwF (C := RX8) 2 hts (lw_app (xw4 q1096 q1115 q1057 q91) (lw_meth q1080)) rfl rfl rfl (hK.2.2.2.1 ("PictureBlock$Peak", ⟨"PictureBlock$Weighs", "weighs", "(ILPictureBlock$Trace;)I"⟩, ⟨"PictureBlock$Mark", "weighs", "(ILPictureBlock$Trace;)I"⟩) (by decide)) (by decide +kernel) ⟨Nat.le_of_ble_eq_true rfl, Nat.le_of_ble_eq_true rfl⟩) (gPreV (As := [.int x1, .ref x2]) xKst hK hA hS hP (x_recv (q := (RX8, TX8, 2)) hK.1 hP rfl gc)) (rest := []) rfl rfl hl.1 rfl (lv_room (Nat.le_of_ble_eq_true rfl)) dX15_says_9 ⟨by first | exact Nat.zero_le _ | (dsimp only; omega), by first | exact Nat.zero_le _ | (dsimp only; omega)⟩
    · obtain ⟨fc, gc⟩ := isC_some gc
      exact va_runF (cC := D.1 9) (hK.1.1 9 _ rfl).2 ⟨hx, hb, hml, hown, hts⟩ (mX9_weighs (l := l) (D := D) (cA := cA) (A := A) x0 x1 x2 S2 ec) (va_cwF (C := RX9) 2 hts (lw_app (xw4 q1096 q1100 q1061 q95) (lw_meth q1062)) rfl rfl rfl (hK.2.2.2.1 ("PictureBlock$Air", ⟨"PictureBlock$Weighs", "weighs", "(ILPictureBlock$Trace;)I"⟩, ⟨"PictureBlock$Air", "weighs", "(ILPictureBlock$Trace;)I"⟩) (by decide)) (by decide +kernel) ⟨Nat.le_of_ble_eq_true rfl, Nat.le_of_ble_eq_true rfl⟩) (gPreV (As := [.int x1, .ref x2]) xKst hK hA hS hP (x_recv (q := (RX9, TX9, 2)) hK.1 hP rfl gc)) (rest := []) rfl rfl hl.1 rfl (lv_room (Nat.le_of_ble_eq_true rfl)) dX15_says_9 ⟨by first | exact Nat.zero_le _ | (dsimp only; omega), by first | exact Nat.zero_le _ | (dsimp only; omega)⟩
    · obtain ⟨fc, gc⟩ := isC_some gc
      exact va_runF (cC := D.1 10) (hK.1.1 10 _ rfl).2 ⟨hx, hb, hml, hown, hts⟩ (mX5_weighs (l := l) (D := D) (cA := cA) (A := A) x0 x1 x2 S2 ec) (va_cwF (C := RX10) 2 hts (lw_app (xw4 q1096 q1104 q1057 q91) (lw_meth q1080)) rfl rfl rfl (hK.2.2.2.1 ("PictureBlock$Faint", ⟨"PictureBlock$Weighs", "weighs", "(ILPictureBlock$Trace;)I"⟩, ⟨"PictureBlock$Mark", "weighs", "(ILPictureBlock$Trace;)I"⟩) (by decide)) (by decide +kernel) ⟨Nat.le_of_ble_eq_true rfl, Nat.le_of_ble_eq_true rfl⟩) (gPreV (As := [.int x1, .ref x2]) xKst hK hA hS hP (x_recv (q := (RX10, TX10, 2)) hK.1 hP rfl gc)) (rest := []) rfl rfl hl.1 rfl (lv_room (Nat.le_of_ble_eq_true rfl)) dX15_says_9 ⟨by first | exact Nat.zero_le _ | (dsimp only; omega), by first | exact Nat.zero_le _ | (dsimp only; omega)⟩
    · obtain ⟨fc, gc⟩ := isC_some gc
      exact va_runF (cC := D.1 11) (hK.1.1 11 _ rfl).2 ⟨hx, hb, hml, hown, hts⟩ (mX11_weighs (l := l) (D := D) (cA := cA) (A := A) x0 x1 x2 S2 ec) (va_cwF (C := RX11) 2 hts (lw_app (xw4 q1096 q1118 q1076 q97) (lw_meth q1077)) rfl rfl rfl (hK.2.2.2.1 ("PictureBlock$Shore", ⟨"PictureBlock$Weighs", "weighs", "(ILPictureBlock$Trace;)I"⟩, ⟨"PictureBlock$Shore", "weighs", "(ILPictureBlock$Trace;)I"⟩) (by decide)) (by decide +kernel) ⟨Nat.le_of_ble_eq_true rfl, Nat.le_of_ble_eq_true rfl⟩) (gPreV (As := [.int x1, .ref x2]) xKst hK hA hS hP (x_recv (q := (RX11, TX11, 2)) hK.1 hP rfl gc)) (rest := []) rfl rfl hl.1 rfl (lv_room (Nat.le_of_ble_eq_true rfl)) dX15_says_9 ⟨by first | exact Nat.zero_le _ | (dsimp only; omega), by first | exact Nat.zero_le _ | (dsimp only; omega)⟩
  refine gc5 hr7 hS (fun H locs hP hS => ?_)
  refine lv_iconst (v := (2 : Int32)) hx hb dX15_says_14 (by decide) ?_
  refine lv_imul hx hb dX15_says_15 ?_
  exact ret _ _ _ _ _ _ dX15_says_16 rfl hP hS h

def fX7_says (x0 : Nat) (x1 : Int32) (x2 : Nat) (S : XS) : Option (Int32 × XS) :=
chk (isC S x2 3) (bn1 (fX3_ran x2 (30 : Int32) S) fun S2 =>
chk (mkB S2 x0) (bnd (fX15_says x0 x1 x2 S2) fun v7 S5 =>
some (((0 : Int32) - v7), S5)))
set_option maxHeartbeats 4000000 in
set_option maxRecDepth 100000 in
theorem mX7_says {l : Launch} {D : va_G} {cA : Nat → ClassId} {A : Nat → Prop} (x0 : Nat) (x1 : Int32) (x2 : Nat) (S : XS) {out : (Int32 × XS)} (h : fX7_says x0 x1 x2 S = some out) : Met l yX7_says (ws_ yX7_says cX7_says 3 (some .int)) ({ frames := 5, cells := 0, slots := 0, locals := 109 } : Room) (gPc (xK D cA A) (xP D cA A) A [.ref x0, .int x1, .ref x2] S) (gQi (xK D cA A) (xP D cA A) A out) 0 0 A := by
  refine gMet_z (by decide) (Nat.le_of_ble_eq_true rfl) ?_ xKst
  intro p e s m below meth c Q ls args H locs hC hP hS hl ret
  obtain ⟨hx, hb, hml, hown, hts, hA, hK⟩ := hC
  have hown : s.vm.findClass RX7 = some m.cls := hown
  have hl : lv_has ls 3 [(0, .ref x0), (1, .int x1), (2, .ref x2)] := hl
  unfold fX7_says at h
  refine lv_aload_n hx hb dX7_says_0 rfl (lv_at hl 2 rfl) ?_
  refine lv_bipush (v := (30 : Int32)) hx hb dX7_says_1 (by decide) ?_
  obtain ⟨g3, h⟩ := chk_some h
  obtain ⟨fg3, g3⟩ := isC_some g3
  obtain ⟨S2, e1, h⟩ := bn1_some h
  refine gc_v (va_runV (As := [.int (30 : Int32)]) (rest := []) ⟨hx, hb, hml, hown, hts⟩ (mX3_ran (l := l) (D := D) (cA := cA) (A := A) x2 (30 : Int32) S e1) (cwV 1 hts (lw_V q1091 q1064 q1065 q89 q1066) rfl rfl rfl (by decide +kernel) ⟨Nat.le_of_ble_eq_true rfl, Nat.le_of_ble_eq_true rfl⟩) (gPreV xKst hK hA hS hP (x_recv (q := (RX3, TX3, 2)) hK.1 hP rfl g3)) rfl rfl hl.1 rfl (lv_room (Nat.le_of_ble_eq_true rfl)) dX7_says_3 ⟨by first | omega | (dsimp only; omega), by first | omega | (dsimp only; omega)⟩) hS (fun H locs hP hS => ?_)
  refine lv_iconst (v := (0 : Int32)) hx hb dX7_says_6 (by decide) ?_
  refine lv_aload_n hx hb dX7_says_7 rfl (lv_at hl 0 rfl) ?_
  refine lv_iload_n hx hb dX7_says_8 rfl (lv_at hl 1 rfl) ?_
  refine lv_aload_n hx hb dX7_says_9 rfl (lv_at hl 2 rfl) ?_
  obtain ⟨g6, h⟩ := chk_some h
  obtain ⟨C1, cC1, hat1, hrv1⟩ := x_recvM hK.1 hP g6
  obtain ⟨v7, S5, e4, h⟩ := bnd_some h
  refine gci (x_runSD (n := 2) (As := [.int x1, .ref x2]) (rest := [.int (0 : Int32)]) hat1 ⟨hx, hb, hml, hown, hts⟩ (mX15_says (l := l) (D := D) (cA := cA) (A := A) x0 x1 x2 S2 e4) rfl (lw_meth q1093) rfl rfl (dw2 hK) (dw1 hK) (hts _ q333) (xdfP hK (by decide)) ⟨rfl, rfl⟩ (hts _ q1092) (by decide +kernel) ⟨Nat.le_of_ble_eq_true rfl, Nat.le_of_ble_eq_true rfl⟩ (gPreV xKst hK hA hS hP hrv1) rfl rfl hl.1 rfl (lv_room (Nat.le_of_ble_eq_true rfl)) dX7_says_10 ⟨by first | omega | (dsimp only; omega), by first | omega | (dsimp only; omega)⟩) hS (fun H locs hP hS => ?_)
  refine lv_isub hx hb dX7_says_13 ?_
  exact ret _ _ _ _ _ _ dX7_says_14 rfl hP hS h

def fX10_says (x0 : Nat) (x1 : Int32) (x2 : Nat) (S : XS) : Option (Int32 × XS) :=
chk (isC S x2 3) (bn1 (fX3_ran x2 (60 : Int32) S) fun S2 =>
chk (mkB S2 x0) (bnd (fX7_says x0 (x1 + (1 : Int32)) x2 S2) fun v7 S5 =>
some (v7, S5)))
set_option maxHeartbeats 4000000 in
set_option maxRecDepth 100000 in
theorem mX10_says {l : Launch} {D : va_G} {cA : Nat → ClassId} {A : Nat → Prop} (x0 : Nat) (x1 : Int32) (x2 : Nat) (S : XS) {out : (Int32 × XS)} (h : fX10_says x0 x1 x2 S = some out) : Met l yX10_says (ws_ yX10_says cX10_says 3 (some .int)) ({ frames := 6, cells := 0, slots := 0, locals := 131 } : Room) (gPc (xK D cA A) (xP D cA A) A [.ref x0, .int x1, .ref x2] S) (gQi (xK D cA A) (xP D cA A) A out) 0 0 A := by
  refine gMet_z (by decide) (Nat.le_of_ble_eq_true rfl) ?_ xKst
  intro p e s m below meth c Q ls args H locs hC hP hS hl ret
  obtain ⟨hx, hb, hml, hown, hts, hA, hK⟩ := hC
  have hown : s.vm.findClass RX10 = some m.cls := hown
  have hl : lv_has ls 3 [(0, .ref x0), (1, .int x1), (2, .ref x2)] := hl
  unfold fX10_says at h
  refine lv_aload_n hx hb dX10_says_0 rfl (lv_at hl 2 rfl) ?_
  refine lv_bipush (v := (60 : Int32)) hx hb dX10_says_1 (by decide) ?_
  obtain ⟨g3, h⟩ := chk_some h
  obtain ⟨fg3, g3⟩ := isC_some g3
  obtain ⟨S2, e1, h⟩ := bn1_some h
  refine gc_v (va_runV (As := [.int (60 : Int32)]) (rest := []) ⟨hx, hb, hml, hown, hts⟩ (mX3_ran (l := l) (D := D) (cA := cA) (A := A) x2 (60 : Int32) S e1) (cwV 1 hts (lw_V q1087 q1064 q1065 q89 q1066) rfl rfl rfl (by decide +kernel) ⟨Nat.le_of_ble_eq_true rfl, Nat.le_of_ble_eq_true rfl⟩) (gPreV xKst hK hA hS hP (x_recv (q := (RX3, TX3, 2)) hK.1 hP rfl g3)) rfl rfl hl.1 rfl (lv_room (Nat.le_of_ble_eq_true rfl)) dX10_says_3 ⟨by first | omega | (dsimp only; omega), by first | omega | (dsimp only; omega)⟩) hS (fun H locs hP hS => ?_)
  refine lv_aload_n hx hb dX10_says_6 rfl (lv_at hl 0 rfl) ?_
  refine lv_iload_n hx hb dX10_says_7 rfl (lv_at hl 1 rfl) ?_
  refine lv_iconst (v := (1 : Int32)) hx hb dX10_says_8 (by decide) ?_
  refine lv_iadd hx hb dX10_says_9 ?_
  refine lv_aload_n hx hb dX10_says_10 rfl (lv_at hl 2 rfl) ?_
  obtain ⟨g6, h⟩ := chk_some h
  obtain ⟨C1, cC1, hat1, hrv1⟩ := x_recvM hK.1 hP g6
  obtain ⟨v7, S5, e4, h⟩ := bnd_some h
  refine gci (x_runSU (n := 2) (As := [.int (x1 + (1 : Int32)), .ref x2]) (rest := []) hat1 ⟨hx, hb, hml, hown, hts⟩ (mX7_says (l := l) (D := D) (cA := cA) (A := A) x0 (x1 + (1 : Int32)) x2 S2 e4) rfl (lw_meth q1090) rfl rfl (hts _ q1088) (hts _ q1758) (hts _ q360) (Or.inl rfl) ⟨rfl, rfl⟩ (hts _ q1089) (hts _ q93) (by decide +kernel) ⟨Nat.le_of_ble_eq_true rfl, Nat.le_of_ble_eq_true rfl⟩ (gPreV xKst hK hA hS hP hrv1) rfl rfl hl.1 rfl (lv_room (Nat.le_of_ble_eq_true rfl)) dX10_says_11 ⟨by first | omega | (dsimp only; omega), by first | omega | (dsimp only; omega)⟩) hS (fun H locs hP hS => ?_)
  exact ret _ _ _ _ _ _ dX10_says_14 rfl hP hS h

def fX11_says (x0 : Nat) (x1 : Int32) (x2 : Nat) (S : XS) : Option (Int32 × XS) :=
chk (isC S x2 3) (bn1 (fX3_ran x2 (71 : Int32) S) fun S2 =>
chk (mkB S2 x0) (bnd (fX15_says x0 x1 x2 S2) fun v7 S5 =>
bn1 (gIM S5 x0 1) fun v9 =>
some ((v7 + v9), S5)))
set_option maxHeartbeats 4000000 in
set_option maxRecDepth 100000 in
theorem mX11_says {l : Launch} {D : va_G} {cA : Nat → ClassId} {A : Nat → Prop} (x0 : Nat) (x1 : Int32) (x2 : Nat) (S : XS) {out : (Int32 × XS)} (h : fX11_says x0 x1 x2 S = some out) : Met l yX11_says (ws_ yX11_says cX11_says 3 (some .int)) ({ frames := 5, cells := 0, slots := 0, locals := 109 } : Room) (gPc (xK D cA A) (xP D cA A) A [.ref x0, .int x1, .ref x2] S) (gQi (xK D cA A) (xP D cA A) A out) 0 0 A := by
  refine gMet_z (by decide) (Nat.le_of_ble_eq_true rfl) ?_ xKst
  intro p e s m below meth c Q ls args H locs hC hP hS hl ret
  obtain ⟨hx, hb, hml, hown, hts, hA, hK⟩ := hC
  have hown : s.vm.findClass RX11 = some m.cls := hown
  have hl : lv_has ls 3 [(0, .ref x0), (1, .int x1), (2, .ref x2)] := hl
  unfold fX11_says at h
  refine lv_aload_n hx hb dX11_says_0 rfl (lv_at hl 2 rfl) ?_
  refine lv_bipush (v := (71 : Int32)) hx hb dX11_says_1 (by decide) ?_
  obtain ⟨g3, h⟩ := chk_some h
  obtain ⟨fg3, g3⟩ := isC_some g3
  obtain ⟨S2, e1, h⟩ := bn1_some h
  refine gc_v (va_runV (As := [.int (71 : Int32)]) (rest := []) ⟨hx, hb, hml, hown, hts⟩ (mX3_ran (l := l) (D := D) (cA := cA) (A := A) x2 (71 : Int32) S e1) (cwV 1 hts (lw_V q1078 q1064 q1065 q89 q1066) rfl rfl rfl (by decide +kernel) ⟨Nat.le_of_ble_eq_true rfl, Nat.le_of_ble_eq_true rfl⟩) (gPreV xKst hK hA hS hP (x_recv (q := (RX3, TX3, 2)) hK.1 hP rfl g3)) rfl rfl hl.1 rfl (lv_room (Nat.le_of_ble_eq_true rfl)) dX11_says_3 ⟨by first | omega | (dsimp only; omega), by first | omega | (dsimp only; omega)⟩) hS (fun H locs hP hS => ?_)
  refine lv_aload_n hx hb dX11_says_6 rfl (lv_at hl 0 rfl) ?_
  refine lv_iload_n hx hb dX11_says_7 rfl (lv_at hl 1 rfl) ?_
  refine lv_aload_n hx hb dX11_says_8 rfl (lv_at hl 2 rfl) ?_
  obtain ⟨g6, h⟩ := chk_some h
  obtain ⟨C1, cC1, hat1, hrv1⟩ := x_recvM hK.1 hP g6
  obtain ⟨v7, S5, e4, h⟩ := bnd_some h
  refine gci (x_runSD (n := 2) (As := [.int x1, .ref x2]) (rest := []) hat1 ⟨hx, hb, hml, hown, hts⟩ (mX15_says (l := l) (D := D) (cA := cA) (A := A) x0 x1 x2 S2 e4) rfl (lw_meth q1093) rfl rfl (dw3 hK) (dw1 hK) (hts _ q369) (xdfP hK (by decide)) ⟨rfl, rfl⟩ (hts _ q1092) (by decide +kernel) ⟨Nat.le_of_ble_eq_true rfl, Nat.le_of_ble_eq_true rfl⟩ (gPreV xKst hK hA hS hP hrv1) rfl rfl hl.1 rfl (lv_room (Nat.le_of_ble_eq_true rfl)) dX11_says_9 ⟨by first | omega | (dsimp only; omega), by first | omega | (dsimp only; omega)⟩) hS (fun H locs hP hS => ?_)
  refine lv_aload_n hx hb dX11_says_12 rfl (lv_at hl 0 rfl) ?_
  obtain ⟨v9, e8, h⟩ := bn1_some h
  refine x_getM hx hb hts hown hK hP 1 (by decide) (hts _ q315) (fun x h9 => u_same (hts _ q316) x h9) e8 dX11_says_13 ?_
  refine lv_iadd hx hb dX11_says_16 ?_
  exact ret _ _ _ _ _ _ dX11_says_17 rfl hP hS h

def v_X5_says (a : Nat) (a0 : Int32) (a1 : Nat) (S : XS) : Option (Int32 × XS) :=
  if isC S a 5 = true then fX15_says a a0 a1 S else
  if isC S a 6 = true then fX15_says a a0 a1 S else
  if isC S a 7 = true then fX7_says a a0 a1 S else
  if isC S a 8 = true then fX15_says a a0 a1 S else
  if isC S a 9 = true then fX15_says a a0 a1 S else
  if isC S a 10 = true then fX10_says a a0 a1 S else
  if isC S a 11 = true then fX11_says a a0 a1 S else
  none
theorem v_X5_says_c {a : Nat} {a0 : Int32} {a1 : Nat} {S : XS} {o : (Int32 × XS)} (h : v_X5_says a a0 a1 S = some o) : (isC S a 5 = true ∧ fX15_says a a0 a1 S = some o) ∨ (isC S a 6 = true ∧ fX15_says a a0 a1 S = some o) ∨ (isC S a 7 = true ∧ fX7_says a a0 a1 S = some o) ∨ (isC S a 8 = true ∧ fX15_says a a0 a1 S = some o) ∨ (isC S a 9 = true ∧ fX15_says a a0 a1 S = some o) ∨ (isC S a 10 = true ∧ fX10_says a a0 a1 S = some o) ∨ (isC S a 11 = true ∧ fX11_says a a0 a1 S = some o) := by
  unfold v_X5_says at h
  split at h
  · next hc => exact (Or.inl ⟨hc, h⟩)
  · skip
    split at h
    · next hc => exact (Or.inr (Or.inl ⟨hc, h⟩))
    · skip
      split at h
      · next hc => exact (Or.inr (Or.inr (Or.inl ⟨hc, h⟩)))
      · skip
        split at h
        · next hc => exact (Or.inr (Or.inr (Or.inr (Or.inl ⟨hc, h⟩))))
        · skip
          split at h
          · next hc => exact (Or.inr (Or.inr (Or.inr (Or.inr (Or.inl ⟨hc, h⟩)))))
          · skip
            split at h
            · next hc => exact (Or.inr (Or.inr (Or.inr (Or.inr (Or.inr (Or.inl ⟨hc, h⟩))))))
            · skip
              split at h
              · next hc => exact (Or.inr (Or.inr (Or.inr (Or.inr (Or.inr (Or.inr ⟨hc, h⟩))))))
              · cases h
def fX5_ties (x0 : Nat) (x1 : Int32) (x2 : Nat) (S : XS) : Option (Int32 × XS) :=
chk (isC S x2 3) (bn1 (fX3_ran x2 (12 : Int32) S) fun S2 =>
bnd (v_X5_says x0 x1 x2 S2) fun v4 S5 =>
bn1 (gIM S5 x0 1) fun v8 =>
some ((v4 - v8), S5))
set_option maxHeartbeats 4000000 in
set_option maxRecDepth 100000 in
theorem mX5_ties {l : Launch} {D : va_G} {cA : Nat → ClassId} {A : Nat → Prop} (x0 : Nat) (x1 : Int32) (x2 : Nat) (S : XS) {out : (Int32 × XS)} (h : fX5_ties x0 x1 x2 S = some out) : Met l yX5_ties (ws_ yX5_ties cX5_ties 3 (some .int)) ({ frames := 7, cells := 0, slots := 0, locals := 153 } : Room) (gPc (xK D cA A) (xP D cA A) A [.ref x0, .int x1, .ref x2] S) (gQi (xK D cA A) (xP D cA A) A out) 0 0 A := by
  refine gMet_z (by decide) (Nat.le_of_ble_eq_true rfl) ?_ xKst
  intro p e s m below meth c Q ls args H locs hC hP hS hl ret
  obtain ⟨hx, hb, hml, hown, hts, hA, hK⟩ := hC
  have hown : s.vm.findClass RX5 = some m.cls := hown
  have hl : lv_has ls 3 [(0, .ref x0), (1, .int x1), (2, .ref x2)] := hl
  unfold fX5_ties at h
  refine lv_aload_n hx hb dX5_ties_0 rfl (lv_at hl 2 rfl) ?_
  refine lv_bipush (v := (12 : Int32)) hx hb dX5_ties_1 (by decide) ?_
  obtain ⟨g3, h⟩ := chk_some h
  obtain ⟨fg3, g3⟩ := isC_some g3
  obtain ⟨S2, e1, h⟩ := bn1_some h
  refine gc_v (va_runV (As := [.int (12 : Int32)]) (rest := []) ⟨hx, hb, hml, hown, hts⟩ (mX3_ran (l := l) (D := D) (cA := cA) (A := A) x2 (12 : Int32) S e1) (cwV 1 hts (lw_V q1081 q1064 q1065 q89 q1066) rfl rfl rfl (by decide +kernel) ⟨Nat.le_of_ble_eq_true rfl, Nat.le_of_ble_eq_true rfl⟩) (gPreV xKst hK hA hS hP (x_recv (q := (RX3, TX3, 2)) hK.1 hP rfl g3)) rfl rfl hl.1 rfl (lv_room (Nat.le_of_ble_eq_true rfl)) dX5_ties_3 ⟨by first | omega | (dsimp only; omega), by first | omega | (dsimp only; omega)⟩) hS (fun H locs hP hS => ?_)
  refine lv_aload_n hx hb dX5_ties_6 rfl (lv_at hl 0 rfl) ?_
  refine lv_iload_n hx hb dX5_ties_7 rfl (lv_at hl 1 rfl) ?_
  refine lv_aload_n hx hb dX5_ties_8 rfl (lv_at hl 2 rfl) ?_
  obtain ⟨v4, S5, e6, h⟩ := bnd_some h
  have hr9 : va_Run p l e ({ frames := 7, cells := 0, slots := 0, locals := 153 } : Room) s m args below meth c H locs 0 0 0 0 (F0 m 9 ls [.ref x2, .int x1, .ref x0]) [] (gQi (xK D cA A) (xP D cA A) A (v4, S5) ([.ref x0, .int x1, .ref x2]).toArray) A := by
    rcases v_X5_says_c e6 with ⟨gc, ec⟩ | ⟨gc, ec⟩ | ⟨gc, ec⟩ | ⟨gc, ec⟩ | ⟨gc, ec⟩ | ⟨gc, ec⟩ | ⟨gc, ec⟩
    · obtain ⟨fc, gc⟩ := isC_some gc
      exact x_runVD (n := 2) (rest := []) ⟨hx, hb, hml, hown, hts⟩ (mX15_says (l := l) (D := D) (cA := cA) (A := A) x0 x1 x2 S2 ec) rfl (lw_meth q1093) rfl rfl (dw4 hK) (dw1 hK) (xdfP hK (by decide)) ⟨by decide, by decide⟩ ⟨rfl, rfl⟩ (hts _ q1092) (by decide +kernel) ⟨Nat.le_of_ble_eq_true rfl, Nat.le_of_ble_eq_true rfl⟩ (gPreV (As := [.int x1, .ref x2]) xKst hK hA hS hP (x_recv (q := (RX5, TX5, 2)) hK.1 hP rfl gc)) rfl rfl hl.1 rfl (lv_room (Nat.le_of_ble_eq_true rfl)) dX5_ties_9 ⟨by first | exact Nat.zero_le _ | (dsimp only; omega), by first | exact Nat.zero_le _ | (dsimp only; omega)⟩
    · obtain ⟨fc, gc⟩ := isC_some gc
      exact x_runVD (n := 2) (rest := []) ⟨hx, hb, hml, hown, hts⟩ (mX15_says (l := l) (D := D) (cA := cA) (A := A) x0 x1 x2 S2 ec) rfl (lw_meth q1093) rfl rfl (dw4 hK) (dw1 hK) (xdfP hK (by decide)) ⟨by decide, by decide⟩ ⟨rfl, rfl⟩ (hts _ q1092) (by decide +kernel) ⟨Nat.le_of_ble_eq_true rfl, Nat.le_of_ble_eq_true rfl⟩ (gPreV (As := [.int x1, .ref x2]) xKst hK hA hS hP (x_recv (q := (RX6, TX6, 2)) hK.1 hP rfl gc)) rfl rfl hl.1 rfl (lv_room (Nat.le_of_ble_eq_true rfl)) dX5_ties_9 ⟨by first | exact Nat.zero_le _ | (dsimp only; omega), by first | exact Nat.zero_le _ | (dsimp only; omega)⟩
    · obtain ⟨fc, gc⟩ := isC_some gc
      exact x_runUO (n := 2) (rest := []) (C := RX7) (owner := RX15) ⟨hx, hb, hml, hown, hts⟩ (mX7_says (l := l) (D := D) (cA := cA) (A := A) x0 x1 x2 S2 ec) rfl (lw_meth q1090) rfl rfl (dw4 hK) (dw1 hK) (va_Decl.of (hts _ q1092) (hts _ q1093)) (hts _ q1130) (by decide +kernel) (hts _ q1089) (hts _ q93) ⟨Nat.le_of_ble_eq_true rfl, Nat.le_of_ble_eq_true rfl⟩ (gPreV (As := [.int x1, .ref x2]) xKst hK hA hS hP (x_recv (q := (RX7, TX7, 2)) hK.1 hP rfl gc)) rfl rfl hl.1 rfl (lv_room (Nat.le_of_ble_eq_true rfl)) dX5_ties_9 ⟨by first | exact Nat.zero_le _ | (dsimp only; omega), by first | exact Nat.zero_le _ | (dsimp only; omega)⟩
    · obtain ⟨fc, gc⟩ := isC_some gc
      exact x_runVD (n := 2) (rest := []) ⟨hx, hb, hml, hown, hts⟩ (mX15_says (l := l) (D := D) (cA := cA) (A := A) x0 x1 x2 S2 ec) rfl (lw_meth q1093) rfl rfl (dw4 hK) (dw1 hK) (xdfP hK (by decide)) ⟨by decide, by decide⟩ ⟨rfl, rfl⟩ (hts _ q1092) (by decide +kernel) ⟨Nat.le_of_ble_eq_true rfl, Nat.le_of_ble_eq_true rfl⟩ (gPreV (As := [.int x1, .ref x2]) xKst hK hA hS hP (x_recv (q := (RX8, TX8, 2)) hK.1 hP rfl gc)) rfl rfl hl.1 rfl (lv_room (Nat.le_of_ble_eq_true rfl)) dX5_ties_9 ⟨by first | exact Nat.zero_le _ | (dsimp only; omega), by first | exact Nat.zero_le _ | (dsimp only; omega)⟩
    · obtain ⟨fc, gc⟩ := isC_some gc
      exact x_runVD (n := 2) (rest := []) ⟨hx, hb, hml, hown, hts⟩ (mX15_says (l := l) (D := D) (cA := cA) (A := A) x0 x1 x2 S2 ec) rfl (lw_meth q1093) rfl rfl (dw4 hK) (dw1 hK) (xdfP hK (by decide)) ⟨by decide, by decide⟩ ⟨rfl, rfl⟩ (hts _ q1092) (by decide +kernel) ⟨Nat.le_of_ble_eq_true rfl, Nat.le_of_ble_eq_true rfl⟩ (gPreV (As := [.int x1, .ref x2]) xKst hK hA hS hP (x_recv (q := (RX9, TX9, 2)) hK.1 hP rfl gc)) rfl rfl hl.1 rfl (lv_room (Nat.le_of_ble_eq_true rfl)) dX5_ties_9 ⟨by first | exact Nat.zero_le _ | (dsimp only; omega), by first | exact Nat.zero_le _ | (dsimp only; omega)⟩
    · obtain ⟨fc, gc⟩ := isC_some gc
      exact x_runUO (n := 2) (rest := []) (C := RX10) (owner := RX15) ⟨hx, hb, hml, hown, hts⟩ (mX10_says (l := l) (D := D) (cA := cA) (A := A) x0 x1 x2 S2 ec) rfl (lw_meth q1086) rfl rfl (dw4 hK) (dw1 hK) (va_Decl.of (hts _ q1092) (hts _ q1093)) (hts _ q1084) (by decide +kernel) (hts _ q1085) (hts _ q96) ⟨Nat.le_of_ble_eq_true rfl, Nat.le_of_ble_eq_true rfl⟩ (gPreV (As := [.int x1, .ref x2]) xKst hK hA hS hP (x_recv (q := (RX10, TX10, 2)) hK.1 hP rfl gc)) rfl rfl hl.1 rfl (lv_room (Nat.le_of_ble_eq_true rfl)) dX5_ties_9 ⟨by first | exact Nat.zero_le _ | (dsimp only; omega), by first | exact Nat.zero_le _ | (dsimp only; omega)⟩
    · obtain ⟨fc, gc⟩ := isC_some gc
      exact x_runUO (n := 2) (rest := []) (C := RX11) (owner := RX15) ⟨hx, hb, hml, hown, hts⟩ (mX11_says (l := l) (D := D) (cA := cA) (A := A) x0 x1 x2 S2 ec) rfl (lw_meth q1129) rfl rfl (dw4 hK) (dw1 hK) (va_Decl.of (hts _ q1092) (hts _ q1093)) (hts _ q1127) (by decide +kernel) (hts _ q1128) (hts _ q97) ⟨Nat.le_of_ble_eq_true rfl, Nat.le_of_ble_eq_true rfl⟩ (gPreV (As := [.int x1, .ref x2]) xKst hK hA hS hP (x_recv (q := (RX11, TX11, 2)) hK.1 hP rfl gc)) rfl rfl hl.1 rfl (lv_room (Nat.le_of_ble_eq_true rfl)) dX5_ties_9 ⟨by first | exact Nat.zero_le _ | (dsimp only; omega), by first | exact Nat.zero_le _ | (dsimp only; omega)⟩
  refine gci0 hr9 hS (fun H locs hP hS => ?_)
  refine lv_aload_n hx hb dX5_ties_12 rfl (lv_at hl 0 rfl) ?_
  obtain ⟨v8, e7, h⟩ := bn1_some h
  refine x_getM hx hb hts hown hK hP 1 (by decide) (hts _ q312) (fun _ h9 => h9) e7 dX5_ties_13 ?_
  refine lv_isub hx hb dX5_ties_16 ?_
  exact ret _ _ _ _ _ _ dX5_ties_17 rfl hP hS h

def fX8_ties (x0 : Nat) (x1 : Int32) (x2 : Nat) (S : XS) : Option (Int32 × XS) :=
chk (isC S x2 3) (bn1 (fX3_ran x2 (40 : Int32) S) fun S2 =>
chk (mkB S2 x0) (bnd (fX5_ties x0 (x1 / (2 : Int32)) x2 S2) fun v7 S5 =>
some (v7, S5)))
set_option maxHeartbeats 4000000 in
set_option maxRecDepth 100000 in
theorem mX8_ties {l : Launch} {D : va_G} {cA : Nat → ClassId} {A : Nat → Prop} (x0 : Nat) (x1 : Int32) (x2 : Nat) (S : XS) {out : (Int32 × XS)} (h : fX8_ties x0 x1 x2 S = some out) : Met l yX8_ties (ws_ yX8_ties cX8_ties 3 (some .int)) ({ frames := 8, cells := 0, slots := 0, locals := 175 } : Room) (gPc (xK D cA A) (xP D cA A) A [.ref x0, .int x1, .ref x2] S) (gQi (xK D cA A) (xP D cA A) A out) 0 0 A := by
  refine gMet_z (by decide) (Nat.le_of_ble_eq_true rfl) ?_ xKst
  intro p e s m below meth c Q ls args H locs hC hP hS hl ret
  obtain ⟨hx, hb, hml, hown, hts, hA, hK⟩ := hC
  have hown : s.vm.findClass RX8 = some m.cls := hown
  have hl : lv_has ls 3 [(0, .ref x0), (1, .int x1), (2, .ref x2)] := hl
  unfold fX8_ties at h
  refine lv_aload_n hx hb dX8_ties_0 rfl (lv_at hl 2 rfl) ?_
  refine lv_bipush (v := (40 : Int32)) hx hb dX8_ties_1 (by decide) ?_
  obtain ⟨g3, h⟩ := chk_some h
  obtain ⟨fg3, g3⟩ := isC_some g3
  obtain ⟨S2, e1, h⟩ := bn1_some h
  refine gc_v (va_runV (As := [.int (40 : Int32)]) (rest := []) ⟨hx, hb, hml, hown, hts⟩ (mX3_ran (l := l) (D := D) (cA := cA) (A := A) x2 (40 : Int32) S e1) (cwV 1 hts (lw_V q1147 q1064 q1065 q89 q1066) rfl rfl rfl (by decide +kernel) ⟨Nat.le_of_ble_eq_true rfl, Nat.le_of_ble_eq_true rfl⟩) (gPreV xKst hK hA hS hP (x_recv (q := (RX3, TX3, 2)) hK.1 hP rfl g3)) rfl rfl hl.1 rfl (lv_room (Nat.le_of_ble_eq_true rfl)) dX8_ties_3 ⟨by first | omega | (dsimp only; omega), by first | omega | (dsimp only; omega)⟩) hS (fun H locs hP hS => ?_)
  refine lv_aload_n hx hb dX8_ties_6 rfl (lv_at hl 0 rfl) ?_
  refine lv_iload_n hx hb dX8_ties_7 rfl (lv_at hl 1 rfl) ?_
  refine lv_iconst (v := (2 : Int32)) hx hb dX8_ties_8 (by decide) ?_
  refine lv_idiv hx hb dX8_ties_9 (by decide) ?_
  refine lv_aload_n hx hb dX8_ties_10 rfl (lv_at hl 2 rfl) ?_
  obtain ⟨g6, h⟩ := chk_some h
  obtain ⟨C1, cC1, hat1, hrv1⟩ := x_recvM hK.1 hP g6
  obtain ⟨v7, S5, e4, h⟩ := bnd_some h
  refine gci (x_runSU (n := 2) (As := [.int (x1 / (2 : Int32)), .ref x2]) (rest := []) hat1 ⟨hx, hb, hml, hown, hts⟩ (mX5_ties (l := l) (D := D) (cA := cA) (A := A) x0 (x1 / (2 : Int32)) x2 S2 e4) rfl (lw_meth q1151) rfl rfl (hts _ q1148) (hts _ q1135) (hts _ q342) (Or.inl rfl) ⟨rfl, rfl⟩ (hts _ q1133) (hts _ q91) (by decide +kernel) ⟨Nat.le_of_ble_eq_true rfl, Nat.le_of_ble_eq_true rfl⟩ (gPreV xKst hK hA hS hP hrv1) rfl rfl hl.1 rfl (lv_room (Nat.le_of_ble_eq_true rfl)) dX8_ties_11 ⟨by first | omega | (dsimp only; omega), by first | omega | (dsimp only; omega)⟩) hS (fun H locs hP hS => ?_)
  exact ret _ _ _ _ _ _ dX8_ties_14 rfl hP hS h

def fX9_ties (x0 : Nat) (x1 : Int32) (x2 : Nat) (S : XS) : Option (Int32 × XS) :=
chk (isC S x2 3) (bn1 (fX3_ran x2 (51 : Int32) S) fun S2 =>
chk (mkB S2 x0) (bnd (fX5_ties x0 x1 x2 S2) fun v7 S5 =>
bn1 (gIM S5 x0 0) fun v9 =>
some ((v7 ^^^ v9), S5)))
set_option maxHeartbeats 4000000 in
set_option maxRecDepth 100000 in
theorem mX9_ties {l : Launch} {D : va_G} {cA : Nat → ClassId} {A : Nat → Prop} (x0 : Nat) (x1 : Int32) (x2 : Nat) (S : XS) {out : (Int32 × XS)} (h : fX9_ties x0 x1 x2 S = some out) : Met l yX9_ties (ws_ yX9_ties cX9_ties 3 (some .int)) ({ frames := 8, cells := 0, slots := 0, locals := 175 } : Room) (gPc (xK D cA A) (xP D cA A) A [.ref x0, .int x1, .ref x2] S) (gQi (xK D cA A) (xP D cA A) A out) 0 0 A := by
  refine gMet_z (by decide) (Nat.le_of_ble_eq_true rfl) ?_ xKst
  intro p e s m below meth c Q ls args H locs hC hP hS hl ret
  obtain ⟨hx, hb, hml, hown, hts, hA, hK⟩ := hC
  have hown : s.vm.findClass RX9 = some m.cls := hown
  have hl : lv_has ls 3 [(0, .ref x0), (1, .int x1), (2, .ref x2)] := hl
  unfold fX9_ties at h
  refine lv_aload_n hx hb dX9_ties_0 rfl (lv_at hl 2 rfl) ?_
  refine lv_bipush (v := (51 : Int32)) hx hb dX9_ties_1 (by decide) ?_
  obtain ⟨g3, h⟩ := chk_some h
  obtain ⟨fg3, g3⟩ := isC_some g3
  obtain ⟨S2, e1, h⟩ := bn1_some h
  refine gc_v (va_runV (As := [.int (51 : Int32)]) (rest := []) ⟨hx, hb, hml, hown, hts⟩ (mX3_ran (l := l) (D := D) (cA := cA) (A := A) x2 (51 : Int32) S e1) (cwV 1 hts (lw_V q1063 q1064 q1065 q89 q1066) rfl rfl rfl (by decide +kernel) ⟨Nat.le_of_ble_eq_true rfl, Nat.le_of_ble_eq_true rfl⟩) (gPreV xKst hK hA hS hP (x_recv (q := (RX3, TX3, 2)) hK.1 hP rfl g3)) rfl rfl hl.1 rfl (lv_room (Nat.le_of_ble_eq_true rfl)) dX9_ties_3 ⟨by first | omega | (dsimp only; omega), by first | omega | (dsimp only; omega)⟩) hS (fun H locs hP hS => ?_)
  refine lv_aload_n hx hb dX9_ties_6 rfl (lv_at hl 0 rfl) ?_
  refine lv_iload_n hx hb dX9_ties_7 rfl (lv_at hl 1 rfl) ?_
  refine lv_aload_n hx hb dX9_ties_8 rfl (lv_at hl 2 rfl) ?_
  obtain ⟨g6, h⟩ := chk_some h
  obtain ⟨C1, cC1, hat1, hrv1⟩ := x_recvM hK.1 hP g6
  obtain ⟨v7, S5, e4, h⟩ := bnd_some h
  refine gci (x_runSU (n := 2) (As := [.int x1, .ref x2]) (rest := []) hat1 ⟨hx, hb, hml, hown, hts⟩ (mX5_ties (l := l) (D := D) (cA := cA) (A := A) x0 x1 x2 S2 e4) rfl (lw_meth q1151) rfl rfl (hts _ q1139) (hts _ q1140) (hts _ q351) (Or.inr (hts _ q324)) ⟨rfl, rfl⟩ (hts _ q1133) (hts _ q91) (by decide +kernel) ⟨Nat.le_of_ble_eq_true rfl, Nat.le_of_ble_eq_true rfl⟩ (gPreV xKst hK hA hS hP hrv1) rfl rfl hl.1 rfl (lv_room (Nat.le_of_ble_eq_true rfl)) dX9_ties_9 ⟨by first | omega | (dsimp only; omega), by first | omega | (dsimp only; omega)⟩) hS (fun H locs hP hS => ?_)
  refine lv_aload_n hx hb dX9_ties_12 rfl (lv_at hl 0 rfl) ?_
  obtain ⟨v9, e8, h⟩ := bn1_some h
  refine x_getM hx hb hts hown hK hP 0 (by decide) (hts _ q310) (fun x h9 => u_same (hts _ q311) x h9) e8 dX9_ties_13 ?_
  refine lv_ixor hx hb dX9_ties_16 ?_
  exact ret _ _ _ _ _ _ dX9_ties_17 rfl hP hS h

def fX5_parts (x0 : Nat) (x1 : Int32) (x2 : Nat) (S : XS) : Option ((Int32 ⊕ Nat) × XS) :=
chk (isC S x2 3) (bn1 (fX3_ran x2 (13 : Int32) S) fun S2 =>
bn1 (gIM S2 x0 1) fun v5 =>
bn1 (gIM S2 x0 0) fun v7 =>
(if (v5 - v7) = 0 then
some (.inr (S2.2 + 2), xthr S2 15)
else
some (.inl (x1 / (v5 - v7)), S2)))
set_option maxHeartbeats 4000000 in
set_option maxRecDepth 100000 in
theorem mX5_parts {l : Launch} {D : va_G} {cA : Nat → ClassId} {A : Nat → Prop} (htr : l.stackTraces = false) (x0 : Nat) (x1 : Int32) (x2 : Nat) (S : XS) {out : ((Int32 ⊕ Nat) × XS)} (h : fX5_parts x0 x1 x2 S = some out) : MetT l yX5_parts (ws_ yX5_parts cX5_parts 3 (some .int)) ({ frames := 7, cells := 3, slots := 19, locals := 10248 } : Room) (gPc (xK D cA A) (xP D cA A) A [.ref x0, .int x1, .ref x2] S) (gQT (xK D cA A) (xP D cA A) A tvI out) 3 19 A := by
  refine gMetT_z (by decide) (Nat.le_of_ble_eq_true rfl) ?_ xKst
  intro p e s m below meth c Q ls args H locs hC hP hS hl ret lea
  obtain ⟨hx, hb, hml, hown, hts, hA, hK⟩ := hC
  have hown : s.vm.findClass RX5 = some m.cls := hown
  have hl : lv_has ls 3 [(0, .ref x0), (1, .int x1), (2, .ref x2)] := hl
  unfold fX5_parts at h
  refine lv_aload_n hx hb dX5_parts_0 rfl (lv_at hl 2 rfl) ?_
  refine lv_bipush (v := (13 : Int32)) hx hb dX5_parts_1 (by decide) ?_
  obtain ⟨g3, h⟩ := chk_some h
  obtain ⟨fg3, g3⟩ := isC_some g3
  obtain ⟨S2, e1, h⟩ := bn1_some h
  refine gc_v (va_runV (As := [.int (13 : Int32)]) (rest := []) ⟨hx, hb, hml, hown, hts⟩ (mX3_ran (l := l) (D := D) (cA := cA) (A := A) x2 (13 : Int32) S e1) (cwV 1 hts (lw_V q1081 q1064 q1065 q89 q1066) rfl rfl rfl (by decide +kernel) ⟨Nat.le_of_ble_eq_true rfl, Nat.le_of_ble_eq_true rfl⟩) (gPreV xKst hK hA hS hP (x_recv (q := (RX3, TX3, 2)) hK.1 hP rfl g3)) rfl rfl hl.1 rfl (lv_room (Nat.le_of_ble_eq_true rfl)) dX5_parts_3 ⟨by first | omega | (dsimp only; omega), by first | omega | (dsimp only; omega)⟩) hS (fun H locs hP hS => ?_)
  refine lv_iload_n hx hb dX5_parts_6 rfl (lv_at hl 1 rfl) ?_
  refine lv_aload_n hx hb dX5_parts_7 rfl (lv_at hl 0 rfl) ?_
  obtain ⟨v5, e4, h⟩ := bn1_some h
  refine x_getM hx hb hts hown hK hP 1 (by decide) (hts _ q312) (fun _ h9 => h9) e4 dX5_parts_8 ?_
  refine lv_aload_n hx hb dX5_parts_11 rfl (lv_at hl 0 rfl) ?_
  obtain ⟨v7, e6, h⟩ := bn1_some h
  refine x_getM hx hb hts hown hK hP 0 (by decide) (hts _ q307) (fun _ h9 => h9) e6 dX5_parts_12 ?_
  refine lv_isub hx hb dX5_parts_15 ?_
  by_cases c8 : (v5 - v7) = 0
  · have h := ite_t c8 h
    refine x_idiv0 hx hb htr hts hK hP hS hA c8 (hl.1.trans hml.symm) (Nat.le_of_ble_eq_true rfl) (Nat.le_of_ble_eq_true rfl) (lv_room (Nat.le_of_ble_eq_true rfl)) (Nat.le_of_ble_eq_true rfl) (Nat.le_of_ble_eq_true rfl) dX5_parts_16 (fun H locs hP hS => ?_)
    refine WX.widen (k := 3) (n := 19) (by omega) (by omega) ?_
    exact lea _ _ _ _ _ _ _ hP hS h
  · have h := ite_f c8 h
    refine lv_idiv hx hb dX5_parts_16 c8 ?_
    exact ret _ _ _ _ _ _ dX5_parts_17 rfl hP hS h

def v_X6_says (a : Nat) (a0 : Int32) (a1 : Nat) (S : XS) : Option (Int32 × XS) :=
  if isC S a 6 = true then fX15_says a a0 a1 S else
  if isC S a 9 = true then fX15_says a a0 a1 S else
  none
theorem v_X6_says_c {a : Nat} {a0 : Int32} {a1 : Nat} {S : XS} {o : (Int32 × XS)} (h : v_X6_says a a0 a1 S = some o) : (isC S a 6 = true ∧ fX15_says a a0 a1 S = some o) ∨ (isC S a 9 = true ∧ fX15_says a a0 a1 S = some o) := by
  unfold v_X6_says at h
  split at h
  · next hc => exact (Or.inl ⟨hc, h⟩)
  · skip
    split at h
    · next hc => exact (Or.inr ⟨hc, h⟩)
    · cases h
def fX6_parts (x0 : Nat) (x1 : Int32) (x2 : Nat) (S : XS) : Option ((Int32 ⊕ Nat) × XS) :=
chk (isC S x2 3) (bn1 (fX3_ran x2 (21 : Int32) S) fun S2 =>
chk (mkB S2 x0) (tcl (fX5_parts x0 x1 x2 S2) (fun v8 S5 =>
bnd (v_X6_says x0 (1 : Int32) x2 S5) fun v10 S11 =>
some (.inl (v8 + v10), S11)) (fun x9 S5 =>
some (.inr x9, S5))))
set_option maxHeartbeats 4000000 in
set_option maxRecDepth 100000 in
theorem mX6_parts {l : Launch} {D : va_G} {cA : Nat → ClassId} {A : Nat → Prop} (htr : l.stackTraces = false) (x0 : Nat) (x1 : Int32) (x2 : Nat) (S : XS) {out : ((Int32 ⊕ Nat) × XS)} (h : fX6_parts x0 x1 x2 S = some out) : MetT l yX6_parts (ws_ yX6_parts cX6_parts 4 (some .int)) ({ frames := 8, cells := 3, slots := 19, locals := 10270 } : Room) (gPc (xK D cA A) (xP D cA A) A [.ref x0, .int x1, .ref x2] S) (gQT (xK D cA A) (xP D cA A) A tvI out) 3 19 A := by
  refine gMetT_z (by decide) (Nat.le_of_ble_eq_true rfl) ?_ xKst
  intro p e s m below meth c Q ls args H locs hC hP hS hl ret lea
  obtain ⟨hx, hb, hml, hown, hts, hA, hK⟩ := hC
  have hown : s.vm.findClass RX6 = some m.cls := hown
  have hl : lv_has ls 4 [(0, .ref x0), (1, .int x1), (2, .ref x2)] := hl
  unfold fX6_parts at h
  refine lv_aload_n hx hb dX6_parts_0 rfl (lv_at hl 2 rfl) ?_
  refine lv_bipush (v := (21 : Int32)) hx hb dX6_parts_1 (by decide) ?_
  obtain ⟨g3, h⟩ := chk_some h
  obtain ⟨fg3, g3⟩ := isC_some g3
  obtain ⟨S2, e1, h⟩ := bn1_some h
  refine gc_v (va_runV (As := [.int (21 : Int32)]) (rest := []) ⟨hx, hb, hml, hown, hts⟩ (mX3_ran (l := l) (D := D) (cA := cA) (A := A) x2 (21 : Int32) S e1) (cwV 1 hts (lw_V q1070 q1064 q1065 q89 q1066) rfl rfl rfl (by decide +kernel) ⟨Nat.le_of_ble_eq_true rfl, Nat.le_of_ble_eq_true rfl⟩) (gPreV xKst hK hA hS hP (x_recv (q := (RX3, TX3, 2)) hK.1 hP rfl g3)) rfl rfl hl.1 rfl (lv_room (Nat.le_of_ble_eq_true rfl)) dX6_parts_3 ⟨by first | omega | (dsimp only; omega), by first | omega | (dsimp only; omega)⟩) hS (fun H locs hP hS => ?_)
  refine lv_aload_n hx hb dX6_parts_6 rfl (lv_at hl 0 rfl) ?_
  refine lv_iload_n hx hb dX6_parts_7 rfl (lv_at hl 1 rfl) ?_
  refine lv_aload_n hx hb dX6_parts_8 rfl (lv_at hl 2 rfl) ?_
  obtain ⟨g6, h⟩ := chk_some h
  obtain ⟨C1, cC1, hat1, hrv1⟩ := x_recvM hK.1 hP g6
  obtain ⟨r7, S5, e4, h⟩ := tcl_some h
  refine gcT (x_runST (n := 2) (As := [.int x1, .ref x2]) (rest := []) hat1 ⟨hx, hb, hml, hown, hts⟩ (mX5_parts (l := l) (D := D) (cA := cA) (A := A) htr x0 x1 x2 S2 e4) rfl (lw_meth q1165) rfl rfl (hts _ q1159) (hts _ q1155) (hts _ q324) rfl ⟨rfl, rfl⟩ (hts _ q1153) (hts _ q91) (by decide +kernel) ⟨Nat.le_of_ble_eq_true rfl, Nat.le_of_ble_eq_true rfl⟩ (gPreV xKst hK hA hS hP hrv1) rfl rfl hl.1 rfl (lv_room (Nat.le_of_ble_eq_true rfl)) dX6_parts_9 ⟨by first | omega | (dsimp only; omega), by first | omega | (dsimp only; omega)⟩) hS (fun v8 H locs er7 hP hS => ?_) (fun x9 H locs er7 hP hS => ?_)
  · subst er7
    replace h := tc_l h
    refine W.eq (g2 := F0 m 12 ls [.int v8]) rfl ?_
    refine lv_istore_n (lv' := [(3, .int v8), (0, .ref x0), (1, .int x1), (2, .ref x2)]) hx hb dX6_parts_12 rfl hl (by decide) rfl (fun ls hl => ?_)
    refine lv_iload_n hx hb dX6_parts_13 rfl (lv_at hl 0 rfl) ?_
    refine lv_aload_n hx hb dX6_parts_14 rfl (lv_at hl 1 rfl) ?_
    refine lv_iconst (v := (1 : Int32)) hx hb dX6_parts_15 (by decide) ?_
    refine lv_aload_n hx hb dX6_parts_16 rfl (lv_at hl 3 rfl) ?_
    obtain ⟨v10, S11, e12, h⟩ := bnd_some h
    have hr13 : va_Run p l e ({ frames := 8, cells := 3, slots := 19, locals := 10270 } : Room) s m args below meth c H locs 0 0 0 0 (F0 m 17 ls [.ref x2, .int (1 : Int32), .ref x0, .int v8]) [.int v8] (gQi (xK D cA A) (xP D cA A) A (v10, S11) ([.ref x0, .int (1 : Int32), .ref x2]).toArray) A := by
      rcases v_X6_says_c e12 with ⟨gc, ec⟩ | ⟨gc, ec⟩
      · obtain ⟨fc, gc⟩ := isC_some gc
        exact x_runVD (n := 2) (rest := [.int v8]) ⟨hx, hb, hml, hown, hts⟩ (mX15_says (l := l) (D := D) (cA := cA) (A := A) x0 (1 : Int32) x2 S5 ec) rfl (lw_meth q1093) rfl rfl (dw5 hK) (dw6 hK) (xdfP hK (by decide)) ⟨by decide, by decide⟩ ⟨rfl, rfl⟩ (hts _ q1092) (by decide +kernel) ⟨Nat.le_of_ble_eq_true rfl, Nat.le_of_ble_eq_true rfl⟩ (gPreV (As := [.int (1 : Int32), .ref x2]) xKst hK hA hS hP (x_recv (q := (RX6, TX6, 2)) hK.1 hP rfl gc)) rfl rfl hl.1 rfl (lv_room (Nat.le_of_ble_eq_true rfl)) dX6_parts_17 ⟨by first | exact Nat.zero_le _ | (dsimp only; omega), by first | exact Nat.zero_le _ | (dsimp only; omega)⟩
      · obtain ⟨fc, gc⟩ := isC_some gc
        exact x_runVD (n := 2) (rest := [.int v8]) ⟨hx, hb, hml, hown, hts⟩ (mX15_says (l := l) (D := D) (cA := cA) (A := A) x0 (1 : Int32) x2 S5 ec) rfl (lw_meth q1093) rfl rfl (dw5 hK) (dw6 hK) (xdfP hK (by decide)) ⟨by decide, by decide⟩ ⟨rfl, rfl⟩ (hts _ q1092) (by decide +kernel) ⟨Nat.le_of_ble_eq_true rfl, Nat.le_of_ble_eq_true rfl⟩ (gPreV (As := [.int (1 : Int32), .ref x2]) xKst hK hA hS hP (x_recv (q := (RX9, TX9, 2)) hK.1 hP rfl gc)) rfl rfl hl.1 rfl (lv_room (Nat.le_of_ble_eq_true rfl)) dX6_parts_17 ⟨by first | exact Nat.zero_le _ | (dsimp only; omega), by first | exact Nat.zero_le _ | (dsimp only; omega)⟩
    refine gci0 hr13 hS (fun H locs hP hS => ?_)
    refine lv_iadd hx hb dX6_parts_20 ?_
    exact ret _ _ _ _ _ _ dX6_parts_21 rfl hP hS h
  · subst er7
    replace h := tc_r h
    refine WX.widen (k := 3) (n := 19) (by omega) (by omega) ?_
    exact lea _ _ _ _ _ _ _ hP hS h

def v_X5_parts (a : Nat) (a0 : Int32) (a1 : Nat) (S : XS) : Option ((Int32 ⊕ Nat) × XS) :=
  if isC S a 5 = true then fX5_parts a a0 a1 S else
  if isC S a 6 = true then fX6_parts a a0 a1 S else
  if isC S a 7 = true then fX5_parts a a0 a1 S else
  if isC S a 8 = true then fX5_parts a a0 a1 S else
  if isC S a 9 = true then fX6_parts a a0 a1 S else
  if isC S a 10 = true then fX5_parts a a0 a1 S else
  if isC S a 11 = true then fX5_parts a a0 a1 S else
  none
theorem v_X5_parts_c {a : Nat} {a0 : Int32} {a1 : Nat} {S : XS} {o : ((Int32 ⊕ Nat) × XS)} (h : v_X5_parts a a0 a1 S = some o) : (isC S a 5 = true ∧ fX5_parts a a0 a1 S = some o) ∨ (isC S a 6 = true ∧ fX6_parts a a0 a1 S = some o) ∨ (isC S a 7 = true ∧ fX5_parts a a0 a1 S = some o) ∨ (isC S a 8 = true ∧ fX5_parts a a0 a1 S = some o) ∨ (isC S a 9 = true ∧ fX6_parts a a0 a1 S = some o) ∨ (isC S a 10 = true ∧ fX5_parts a a0 a1 S = some o) ∨ (isC S a 11 = true ∧ fX5_parts a a0 a1 S = some o) := by
  unfold v_X5_parts at h
  split at h
  · next hc => exact (Or.inl ⟨hc, h⟩)
  · skip
    split at h
    · next hc => exact (Or.inr (Or.inl ⟨hc, h⟩))
    · skip
      split at h
      · next hc => exact (Or.inr (Or.inr (Or.inl ⟨hc, h⟩)))
      · skip
        split at h
        · next hc => exact (Or.inr (Or.inr (Or.inr (Or.inl ⟨hc, h⟩))))
        · skip
          split at h
          · next hc => exact (Or.inr (Or.inr (Or.inr (Or.inr (Or.inl ⟨hc, h⟩)))))
          · skip
            split at h
            · next hc => exact (Or.inr (Or.inr (Or.inr (Or.inr (Or.inr (Or.inl ⟨hc, h⟩))))))
            · skip
              split at h
              · next hc => exact (Or.inr (Or.inr (Or.inr (Or.inr (Or.inr (Or.inr ⟨hc, h⟩))))))
              · cases h
def v_X5_ties (a : Nat) (a0 : Int32) (a1 : Nat) (S : XS) : Option (Int32 × XS) :=
  if isC S a 5 = true then fX5_ties a a0 a1 S else
  if isC S a 6 = true then fX5_ties a a0 a1 S else
  if isC S a 7 = true then fX5_ties a a0 a1 S else
  if isC S a 8 = true then fX8_ties a a0 a1 S else
  if isC S a 9 = true then fX9_ties a a0 a1 S else
  if isC S a 10 = true then fX5_ties a a0 a1 S else
  if isC S a 11 = true then fX5_ties a a0 a1 S else
  none
theorem v_X5_ties_c {a : Nat} {a0 : Int32} {a1 : Nat} {S : XS} {o : (Int32 × XS)} (h : v_X5_ties a a0 a1 S = some o) : (isC S a 5 = true ∧ fX5_ties a a0 a1 S = some o) ∨ (isC S a 6 = true ∧ fX5_ties a a0 a1 S = some o) ∨ (isC S a 7 = true ∧ fX5_ties a a0 a1 S = some o) ∨ (isC S a 8 = true ∧ fX8_ties a a0 a1 S = some o) ∨ (isC S a 9 = true ∧ fX9_ties a a0 a1 S = some o) ∨ (isC S a 10 = true ∧ fX5_ties a a0 a1 S = some o) ∨ (isC S a 11 = true ∧ fX5_ties a a0 a1 S = some o) := by
  unfold v_X5_ties at h
  split at h
  · next hc => exact (Or.inl ⟨hc, h⟩)
  · skip
    split at h
    · next hc => exact (Or.inr (Or.inl ⟨hc, h⟩))
    · skip
      split at h
      · next hc => exact (Or.inr (Or.inr (Or.inl ⟨hc, h⟩)))
      · skip
        split at h
        · next hc => exact (Or.inr (Or.inr (Or.inr (Or.inl ⟨hc, h⟩))))
        · skip
          split at h
          · next hc => exact (Or.inr (Or.inr (Or.inr (Or.inr (Or.inl ⟨hc, h⟩)))))
          · skip
            split at h
            · next hc => exact (Or.inr (Or.inr (Or.inr (Or.inr (Or.inr (Or.inl ⟨hc, h⟩))))))
            · skip
              split at h
              · next hc => exact (Or.inr (Or.inr (Or.inr (Or.inr (Or.inr (Or.inr ⟨hc, h⟩))))))
              · cases h
def v_X5_weighs (a : Nat) (a0 : Int32) (a1 : Nat) (S : XS) : Option (Int32 × XS) :=
  if isC S a 5 = true then fX5_weighs a a0 a1 S else
  if isC S a 6 = true then fX6_weighs a a0 a1 S else
  if isC S a 7 = true then fX5_weighs a a0 a1 S else
  if isC S a 8 = true then fX5_weighs a a0 a1 S else
  if isC S a 9 = true then fX9_weighs a a0 a1 S else
  if isC S a 10 = true then fX5_weighs a a0 a1 S else
  if isC S a 11 = true then fX11_weighs a a0 a1 S else
  none
theorem v_X5_weighs_c {a : Nat} {a0 : Int32} {a1 : Nat} {S : XS} {o : (Int32 × XS)} (h : v_X5_weighs a a0 a1 S = some o) : (isC S a 5 = true ∧ fX5_weighs a a0 a1 S = some o) ∨ (isC S a 6 = true ∧ fX6_weighs a a0 a1 S = some o) ∨ (isC S a 7 = true ∧ fX5_weighs a a0 a1 S = some o) ∨ (isC S a 8 = true ∧ fX5_weighs a a0 a1 S = some o) ∨ (isC S a 9 = true ∧ fX9_weighs a a0 a1 S = some o) ∨ (isC S a 10 = true ∧ fX5_weighs a a0 a1 S = some o) ∨ (isC S a 11 = true ∧ fX11_weighs a a0 a1 S = some o) := by
  unfold v_X5_weighs at h
  split at h
  · next hc => exact (Or.inl ⟨hc, h⟩)
  · skip
    split at h
    · next hc => exact (Or.inr (Or.inl ⟨hc, h⟩))
    · skip
      split at h
      · next hc => exact (Or.inr (Or.inr (Or.inl ⟨hc, h⟩)))
      · skip
        split at h
        · next hc => exact (Or.inr (Or.inr (Or.inr (Or.inl ⟨hc, h⟩))))
        · skip
          split at h
          · next hc => exact (Or.inr (Or.inr (Or.inr (Or.inr (Or.inl ⟨hc, h⟩)))))
          · skip
            split at h
            · next hc => exact (Or.inr (Or.inr (Or.inr (Or.inr (Or.inr (Or.inl ⟨hc, h⟩))))))
            · skip
              split at h
              · next hc => exact (Or.inr (Or.inr (Or.inr (Or.inr (Or.inr (Or.inr ⟨hc, h⟩))))))
              · cases h
def bX0_voice_17 (x0 : Nat) (S : XS) : Option (Int32 × XS) :=
chk (isC S x0 0) (bnd (fX0_finds x0 (1 : Int32) S) fun v4 S2 =>
some (v4, S2))
def bX0_voice_104 (x0 : Nat) (t0 : Int32) (S : XS) : Option (Int32 × XS) :=
some (t0, S)
def fX0_voice (x0 : Nat) (x1 : Int32) (x2 : Int32) (x3 : Int32) (S : XS) : Option (Int32 × XS) :=
chk (isC S x0 0) (bnd (fX0_isMark x0 x1 S) fun v8 S6 =>
(if v8 = 0 then
bX0_voice_17 x0 S6
else
bnd (fX0_isIn x2 (0 : Int32) (3 : Int32) S6) fun v12 S11 =>
(if v12 = 0 then
bX0_voice_17 x0 S11
else
bn1 (gR S11 x0 0 5) fun a15 =>
bn1 (pF S11 a15 3 1 (.int (0 : Int32))) fun S17 =>
bn1 (gR S17 x0 0 2) fun a19 =>
chk (isC S17 a19 1) (bnd (fX1_at a19 x1 S17) fun a23 S21 =>
(if x2 = 0 then
bn1 (gR S21 x0 0 5) fun a53 =>
bnd (v_X5_weighs a23 x3 a53 S21) fun v54 S55 =>
bX0_voice_104 x0 v54 S55
else
(if x2 = (1 : Int32) then
bn1 (gR S21 x0 0 5) fun a47 =>
bnd (v_X5_says a23 x3 a47 S21) fun v48 S49 =>
bX0_voice_104 x0 v48 S49
else
(if x2 = (2 : Int32) then
bn1 (gR S21 x0 0 5) fun a41 =>
bnd (v_X5_ties a23 x3 a41 S21) fun v42 S43 =>
bX0_voice_104 x0 v42 S43
else
bn1 (gR S21 x0 0 5) fun a28 =>
tcl (v_X5_parts a23 x3 a28 S21) (fun v29 S30 =>
bX0_voice_104 x0 v29 S30) (fun x34 S30 =>
chk (isC S30 x34 15) (chk (isC S30 x0 0) (bnd (fX0_finds x0 (6 : Int32) S30) fun v39 S37 =>
some (v39, S37)))))))))))
set_option maxHeartbeats 4000000 in
set_option maxRecDepth 100000 in
theorem mX0_voice {l : Launch} {D : va_G} {cA : Nat → ClassId} {A : Nat → Prop} (htr : l.stackTraces = false) (x0 : Nat) (x1 : Int32) (x2 : Int32) (x3 : Int32) (S : XS) {out : (Int32 × XS)} (h : fX0_voice x0 x1 x2 x3 S = some out) : Met l yX0_voice (wsW_ yX0_voice cX0_voice 6 (some .int) [(41, 104, 105, 342)]) ({ frames := 9, cells := 3, slots := 19, locals := 10293 } : Room) (gPc (xK D cA A) (xP D cA A) A [.ref x0, .int x1, .int x2, .int x3] S) (gQi (xK D cA A) (xP D cA A) A out) 3 19 A := by
  refine gMetX_z (by decide) (Nat.le_of_ble_eq_true rfl) ?_ xKst
  intro p e s m below meth c Q ls args H locs hC hP hS hl htab ret
  obtain ⟨hx, hb, hml, hown, hts, hA, hK⟩ := hC
  have hown : s.vm.findClass RX0 = some m.cls := hown
  have hl : lv_has ls 6 [(0, .ref x0), (1, .int x1), (2, .int x2), (3, .int x3)] := hl
  have B17 : ∀ (x0 : Nat) (S : XS) (H : Heap) (locs : List Loc) (ls : Array Slot), xP D cA A S H → va_S A s.heap H locs → lv_has ls 6 [(0, .ref x0)] → bX0_voice_17  x0 S = some out → W p l e ({ frames := 9, cells := 3, slots := 19, locals := 10293 } : Room) s m args below meth c H locs 0 0 Q (F0 m 17 ls []) := by
    intro x0 S H locs ls hP hS hl h
    unfold bX0_voice_17 at h
    refine lv_aload_n hx hb dX0_voice_17 rfl (lv_at hl 0 rfl) ?_
    refine lv_iconst (v := (1 : Int32)) hx hb dX0_voice_18 (by decide) ?_
    obtain ⟨g3, h⟩ := chk_some h
    obtain ⟨fg3, g3⟩ := isC_some g3
    obtain ⟨v4, S2, e1, h⟩ := bnd_some h
    refine gci (va_runV (As := [.int (1 : Int32)]) (rest := []) ⟨hx, hb, hml, hown, hts⟩ (mX0_finds (l := l) (D := D) (cA := cA) (A := A) x0 (1 : Int32) S e1) (cwV 1 hts (lw_V q290 q292 qs1 q86 q293) rfl rfl rfl (by decide +kernel) ⟨Nat.le_of_ble_eq_true rfl, Nat.le_of_ble_eq_true rfl⟩) (gPreV xKst hK hA hS hP (x_recv (q := (RX0, TX0, 16)) hK.1 hP rfl g3)) rfl rfl hl.1 rfl (lv_room (Nat.le_of_ble_eq_true rfl)) dX0_voice_19 ⟨by first | omega | (dsimp only; omega), by first | omega | (dsimp only; omega)⟩) hS (fun H locs hP hS => ?_)
    refine W.widen (k := 3) (n := 19) (by omega) (by omega) ?_
    exact ret _ _ _ _ _ _ dX0_voice_22 rfl hP hS h
  have B104 : ∀ (x0 : Nat) (t0 : Int32) (S : XS) (H : Heap) (locs : List Loc) (ls : Array Slot), xP D cA A S H → va_S A s.heap H locs → lv_has ls 6 [(0, .ref x0)] → bX0_voice_104  x0 t0 S = some out → W p l e ({ frames := 9, cells := 3, slots := 19, locals := 10293 } : Room) s m args below meth c H locs 0 0 Q (F0 m 104 ls [.int t0]) := by
    intro x0 t0 S H locs ls hP hS hl h
    unfold bX0_voice_104 at h
    refine W.widen (k := 3) (n := 19) (by omega) (by omega) ?_
    exact ret _ _ _ _ _ _ dX0_voice_104 rfl hP hS h
  unfold fX0_voice at h
  refine lv_aload_n hx hb dX0_voice_0 rfl (lv_at hl 0 rfl) ?_
  refine lv_iload_n hx hb dX0_voice_1 rfl (lv_at hl 1 rfl) ?_
  obtain ⟨g7, h⟩ := chk_some h
  obtain ⟨fg7, g7⟩ := isC_some g7
  obtain ⟨v8, S6, e5, h⟩ := bnd_some h
  refine gci (va_runV (As := [.int x1]) (rest := []) ⟨hx, hb, hml, hown, hts⟩ (mX0_isMark (l := l) (D := D) (cA := cA) (A := A) x0 x1 S e5) (cwV 1 hts (lw_V q380 q382 qs2 q86 q383) rfl rfl rfl (by decide +kernel) ⟨Nat.le_of_ble_eq_true rfl, Nat.le_of_ble_eq_true rfl⟩) (gPreV xKst hK hA hS hP (x_recv (q := (RX0, TX0, 16)) hK.1 hP rfl g7)) rfl rfl hl.1 rfl (lv_room (Nat.le_of_ble_eq_true rfl)) dX0_voice_2 ⟨by first | omega | (dsimp only; omega), by first | omega | (dsimp only; omega)⟩) hS (fun H locs hP hS => ?_)
  refine lv_if_eq (tgt := 17) hx hb dX0_voice_5 (by decide) (fun c9 => ?_) (fun c9 => ?_)
  · have h := ite_t c9 h
    refine W.widen (k := 0) (n := 0) (by omega) (by omega) ?_
    exact B17 x0 S6 _ _ _ hP hS (lv_sub hl [0] rfl) h
  · have h := ite_f c9 h
    refine lv_iload_n hx hb dX0_voice_8 rfl (lv_at hl 2 rfl) ?_
    refine lv_iconst (v := (0 : Int32)) hx hb dX0_voice_9 (by decide) ?_
    refine lv_iconst (v := (3 : Int32)) hx hb dX0_voice_10 (by decide) ?_
    obtain ⟨v12, S11, e10, h⟩ := bnd_some h
    refine gci (va_runS (As := [.int x2, .int (0 : Int32), .int (3 : Int32)]) (rest := []) ⟨hx, hb, hml, hown, hts⟩ (mX0_isIn (l := l) (D := D) (cA := cA) (A := A) x2 (0 : Int32) (3 : Int32) S6 e10) (va_cwS 3 hts (lw_S q283 q284 q86 q285) rfl rfl rfl (by decide +kernel) ⟨Nat.le_of_ble_eq_true rfl, Nat.le_of_ble_eq_true rfl⟩) (gPreS xKst hK hA hS hP) rfl rfl hl.1 rfl (lv_room (Nat.le_of_ble_eq_true rfl)) dX0_voice_11 ⟨by first | omega | (dsimp only; omega), by first | omega | (dsimp only; omega)⟩) hS (fun H locs hP hS => ?_)
    refine lv_if_ne (tgt := 23) hx hb dX0_voice_14 (by decide) (fun c13 => ?_) (fun c13 => ?_)
    · have h := ite_f c13 h
      refine lv_aload_n hx hb dX0_voice_23 rfl (lv_at hl 0 rfl) ?_
      obtain ⟨a15, e14, h⟩ := bn1_some h
      refine x_get (C := RX0) (T := TX0) (N := 16) (ci := 0) hx hb hts in_X0 hown hK.1 hP rfl 5 (by decide) (hts _ q234) (fun _ h9 => h9) (gR_some e14) dX0_voice_24 ?_
      refine lv_iconst (v := (0 : Int32)) hx hb dX0_voice_27 (by decide) ?_
      obtain ⟨S17, e16, h⟩ := bn1_some h
      refine x_putN (v := .int (0 : Int32)) (ty := .int) (C := RX3) (T := TX3) (N := 2) (ci := 3) hx hb hts in_X3 tyX3 tyX3_ok nmX3 hown hK.1 hP hS rfl 1 (by decide) (hK.2.1 _ q219 rfl) (fun _ h9 => h9) rfl (by decide +kernel) rfl rfl e16 dX0_voice_28 (fun H locs hP hS => ?_)
      refine lv_aload_n hx hb dX0_voice_31 rfl (lv_at hl 0 rfl) ?_
      obtain ⟨a19, e18, h⟩ := bn1_some h
      refine x_get (C := RX0) (T := TX0) (N := 16) (ci := 0) hx hb hts in_X0 hown hK.1 hP rfl 2 (by decide) (hts _ q231) (fun _ h9 => h9) (gR_some e18) dX0_voice_32 ?_
      refine lv_iload_n hx hb dX0_voice_35 rfl (lv_at hl 1 rfl) ?_
      obtain ⟨g22, h⟩ := chk_some h
      obtain ⟨fg22, g22⟩ := isC_some g22
      obtain ⟨a23, S21, e20, h⟩ := bnd_some h
      refine gcr (va_runV (As := [.int x1]) (rest := []) ⟨hx, hb, hml, hown, hts⟩ (mX1_at (l := l) (D := D) (cA := cA) (A := A) a19 x1 S17 e20) (cwV 1 hts (lw_V q384 q385 q386 q87 q387) rfl rfl rfl (by decide +kernel) ⟨Nat.le_of_ble_eq_true rfl, Nat.le_of_ble_eq_true rfl⟩) (gPreV xKst hK hA hS hP (x_recv (q := (RX1, TX1, 16)) hK.1 hP rfl g22)) rfl rfl hl.1 rfl (lv_room (Nat.le_of_ble_eq_true rfl)) dX0_voice_36 ⟨by first | omega | (dsimp only; omega), by first | omega | (dsimp only; omega)⟩) hS (fun H locs hP hS => ?_)
      refine lv_astore (lv' := [(4, .ref a23), (0, .ref x0), (1, .int x1), (2, .int x2), (3, .int x3)]) hx hb dX0_voice_39 hl (by decide) rfl (fun ls hl => ?_)
      refine lv_iload_n hx hb dX0_voice_41 rfl (lv_at hl 3 rfl) ?_
      refine lv_if_ne (tgt := 58) hx hb dX0_voice_42 (by decide) (fun c24 => ?_) (fun c24 => ?_)
      · have h := ite_f c24 h
        refine lv_iload_n hx hb dX0_voice_58 rfl (lv_at hl 3 rfl) ?_
        refine lv_iconst (v := (1 : Int32)) hx hb dX0_voice_59 (by decide) ?_
        refine lv_icmp_ne (tgt := 76) hx hb dX0_voice_60 (by decide) (fun c25 => ?_) (fun c25 => ?_)
        · have h := ite_f c25 h
          refine lv_iload_n hx hb dX0_voice_76 rfl (lv_at hl 3 rfl) ?_
          refine lv_iconst (v := (2 : Int32)) hx hb dX0_voice_77 (by decide) ?_
          refine lv_icmp_ne (tgt := 94) hx hb dX0_voice_78 (by decide) (fun c26 => ?_) (fun c26 => ?_)
          · have h := ite_f c26 h
            refine lv_aload hx hb dX0_voice_94 (lv_at hl 0 rfl) ?_
            refine lv_iload_n hx hb dX0_voice_96 rfl (lv_at hl 4 rfl) ?_
            refine lv_aload_n hx hb dX0_voice_97 rfl (lv_at hl 1 rfl) ?_
            obtain ⟨a28, e27, h⟩ := bn1_some h
            refine x_get (C := RX0) (T := TX0) (N := 16) (ci := 0) hx hb hts in_X0 hown hK.1 hP rfl 5 (by decide) (hts _ q234) (fun _ h9 => h9) (gR_some e27) dX0_voice_98 ?_
            obtain ⟨r33, S30, e31, h⟩ := tcl_some h
            have hr32 : va_RunT p l e ({ frames := 9, cells := 3, slots := 19, locals := 10293 } : Room) s m args below meth c H locs 0 0 3 19 (F0 m 101 ls [.ref a28, .int x3, .ref a23]) [] (gQT (xK D cA A) (xP D cA A) A tvI (r33, S30) ([.ref a23, .int x3, .ref a28]).toArray) A := by
              rcases v_X5_parts_c e31 with ⟨gc, ec⟩ | ⟨gc, ec⟩ | ⟨gc, ec⟩ | ⟨gc, ec⟩ | ⟨gc, ec⟩ | ⟨gc, ec⟩ | ⟨gc, ec⟩
              · obtain ⟨fc, gc⟩ := isC_some gc
                exact x_runUT (n := 2) (rest := []) (C := RX5) (owner := RX5) ⟨hx, hb, hml, hown, hts⟩ (mX5_parts (l := l) (D := D) (cA := cA) (A := A) htr a23 x3 a28 S21 ec) rfl (lw_meth q1165) rfl rfl (hts _ q1152) (hts _ q1155) (va_Decl.of (hts _ q1153) (hts _ q1165)) (hts _ q1154) (by decide +kernel) (hts _ q1153) (hts _ q91) ⟨Nat.le_of_ble_eq_true rfl, Nat.le_of_ble_eq_true rfl⟩ (gPreV (As := [.int x3, .ref a28]) xKst hK hA hS hP (x_recv (q := (RX5, TX5, 2)) hK.1 hP rfl gc)) rfl rfl hl.1 rfl (lv_room (Nat.le_of_ble_eq_true rfl)) dX0_voice_101 ⟨by first | exact Nat.zero_le _ | (dsimp only; omega), by first | exact Nat.zero_le _ | (dsimp only; omega)⟩
              · obtain ⟨fc, gc⟩ := isC_some gc
                exact x_runUT (n := 2) (rest := []) (C := RX6) (owner := RX5) ⟨hx, hb, hml, hown, hts⟩ (mX6_parts (l := l) (D := D) (cA := cA) (A := A) htr a23 x3 a28 S21 ec) rfl (lw_meth q1158) rfl rfl (hts _ q1152) (hts _ q1155) (va_Decl.of (hts _ q1153) (hts _ q1165)) (hts _ q1161) (by decide +kernel) (hts _ q1157) (hts _ q92) ⟨Nat.le_of_ble_eq_true rfl, Nat.le_of_ble_eq_true rfl⟩ (gPreV (As := [.int x3, .ref a28]) xKst hK hA hS hP (x_recv (q := (RX6, TX6, 2)) hK.1 hP rfl gc)) rfl rfl hl.1 rfl (lv_room (Nat.le_of_ble_eq_true rfl)) dX0_voice_101 ⟨by first | exact Nat.zero_le _ | (dsimp only; omega), by first | exact Nat.zero_le _ | (dsimp only; omega)⟩
              · obtain ⟨fc, gc⟩ := isC_some gc
                exact x_runUT (n := 2) (rest := []) (C := RX7) (owner := RX5) ⟨hx, hb, hml, hown, hts⟩ (mX5_parts (l := l) (D := D) (cA := cA) (A := A) htr a23 x3 a28 S21 ec) rfl (lw_meth q1165) rfl rfl (hts _ q1152) (hts _ q1155) (va_Decl.of (hts _ q1153) (hts _ q1165)) (hts _ q1164) (by decide +kernel) (hts _ q1153) (hts _ q91) ⟨Nat.le_of_ble_eq_true rfl, Nat.le_of_ble_eq_true rfl⟩ (gPreV (As := [.int x3, .ref a28]) xKst hK hA hS hP (x_recv (q := (RX7, TX7, 2)) hK.1 hP rfl gc)) rfl rfl hl.1 rfl (lv_room (Nat.le_of_ble_eq_true rfl)) dX0_voice_101 ⟨by first | exact Nat.zero_le _ | (dsimp only; omega), by first | exact Nat.zero_le _ | (dsimp only; omega)⟩
              · obtain ⟨fc, gc⟩ := isC_some gc
                exact x_runUT (n := 2) (rest := []) (C := RX8) (owner := RX5) ⟨hx, hb, hml, hown, hts⟩ (mX5_parts (l := l) (D := D) (cA := cA) (A := A) htr a23 x3 a28 S21 ec) rfl (lw_meth q1165) rfl rfl (hts _ q1152) (hts _ q1155) (va_Decl.of (hts _ q1153) (hts _ q1165)) (hts _ q1162) (by decide +kernel) (hts _ q1153) (hts _ q91) ⟨Nat.le_of_ble_eq_true rfl, Nat.le_of_ble_eq_true rfl⟩ (gPreV (As := [.int x3, .ref a28]) xKst hK hA hS hP (x_recv (q := (RX8, TX8, 2)) hK.1 hP rfl gc)) rfl rfl hl.1 rfl (lv_room (Nat.le_of_ble_eq_true rfl)) dX0_voice_101 ⟨by first | exact Nat.zero_le _ | (dsimp only; omega), by first | exact Nat.zero_le _ | (dsimp only; omega)⟩
              · obtain ⟨fc, gc⟩ := isC_some gc
                exact x_runUT (n := 2) (rest := []) (C := RX9) (owner := RX5) ⟨hx, hb, hml, hown, hts⟩ (mX6_parts (l := l) (D := D) (cA := cA) (A := A) htr a23 x3 a28 S21 ec) rfl (lw_meth q1158) rfl rfl (hts _ q1152) (hts _ q1155) (va_Decl.of (hts _ q1153) (hts _ q1165)) (hts _ q1156) (by decide +kernel) (hts _ q1157) (hts _ q92) ⟨Nat.le_of_ble_eq_true rfl, Nat.le_of_ble_eq_true rfl⟩ (gPreV (As := [.int x3, .ref a28]) xKst hK hA hS hP (x_recv (q := (RX9, TX9, 2)) hK.1 hP rfl gc)) rfl rfl hl.1 rfl (lv_room (Nat.le_of_ble_eq_true rfl)) dX0_voice_101 ⟨by first | exact Nat.zero_le _ | (dsimp only; omega), by first | exact Nat.zero_le _ | (dsimp only; omega)⟩
              · obtain ⟨fc, gc⟩ := isC_some gc
                exact x_runUT (n := 2) (rest := []) (C := RX10) (owner := RX5) ⟨hx, hb, hml, hown, hts⟩ (mX5_parts (l := l) (D := D) (cA := cA) (A := A) htr a23 x3 a28 S21 ec) rfl (lw_meth q1165) rfl rfl (hts _ q1152) (hts _ q1155) (va_Decl.of (hts _ q1153) (hts _ q1165)) (hts _ q1160) (by decide +kernel) (hts _ q1153) (hts _ q91) ⟨Nat.le_of_ble_eq_true rfl, Nat.le_of_ble_eq_true rfl⟩ (gPreV (As := [.int x3, .ref a28]) xKst hK hA hS hP (x_recv (q := (RX10, TX10, 2)) hK.1 hP rfl gc)) rfl rfl hl.1 rfl (lv_room (Nat.le_of_ble_eq_true rfl)) dX0_voice_101 ⟨by first | exact Nat.zero_le _ | (dsimp only; omega), by first | exact Nat.zero_le _ | (dsimp only; omega)⟩
              · obtain ⟨fc, gc⟩ := isC_some gc
                exact x_runUT (n := 2) (rest := []) (C := RX11) (owner := RX5) ⟨hx, hb, hml, hown, hts⟩ (mX5_parts (l := l) (D := D) (cA := cA) (A := A) htr a23 x3 a28 S21 ec) rfl (lw_meth q1165) rfl rfl (hts _ q1152) (hts _ q1155) (va_Decl.of (hts _ q1153) (hts _ q1165)) (hts _ q1163) (by decide +kernel) (hts _ q1153) (hts _ q91) ⟨Nat.le_of_ble_eq_true rfl, Nat.le_of_ble_eq_true rfl⟩ (gPreV (As := [.int x3, .ref a28]) xKst hK hA hS hP (x_recv (q := (RX11, TX11, 2)) hK.1 hP rfl gc)) rfl rfl hl.1 rfl (lv_room (Nat.le_of_ble_eq_true rfl)) dX0_voice_101 ⟨by first | exact Nat.zero_le _ | (dsimp only; omega), by first | exact Nat.zero_le _ | (dsimp only; omega)⟩
            refine gcT hr32 hS (fun v29 H locs er33 hP hS => ?_) (fun x34 H locs er33 hP hS => ?_)
            · subst er33
              replace h := tc_l h
              refine W.eq (g2 := F0 m 104 ls [.int v29]) rfl ?_
              refine W.widen (k := 0) (n := 0) (by omega) (by omega) ?_
              exact B104 x0 v29 S30 _ _ _ hP hS (lv_sub hl [1] rfl) h
            · subst er33
              replace h := tc_r h
              obtain ⟨g35, h⟩ := chk_some h
              obtain ⟨fg35, g35⟩ := isC_some g35
              refine x_caught (r := (RJ10, TJ10, 0)) rfl hown (hts _ q1027) htab (by decide) (by decide) (by decide) hK.1 hP g35 ?_
              refine lv_astore (lv' := [(5, .ref x34), (4, .ref a23), (0, .ref x0), (1, .int x1), (2, .int x2), (3, .int x3)]) hx hb dX0_voice_105 hl (by decide) rfl (fun ls hl => ?_)
              refine lv_aload_n hx hb dX0_voice_107 rfl (lv_at hl 2 rfl) ?_
              refine lv_bipush (v := (6 : Int32)) hx hb dX0_voice_108 (by decide) ?_
              obtain ⟨g38, h⟩ := chk_some h
              obtain ⟨fg38, g38⟩ := isC_some g38
              obtain ⟨v39, S37, e36, h⟩ := bnd_some h
              refine gci (va_runV (As := [.int (6 : Int32)]) (rest := []) ⟨hx, hb, hml, hown, hts⟩ (mX0_finds (l := l) (D := D) (cA := cA) (A := A) x0 (6 : Int32) S30 e36) (cwV 1 hts (lw_V q290 q292 qs1 q86 q293) rfl rfl rfl (by decide +kernel) ⟨Nat.le_of_ble_eq_true rfl, Nat.le_of_ble_eq_true rfl⟩) (gPreV xKst hK hA hS hP (x_recv (q := (RX0, TX0, 16)) hK.1 hP rfl g38)) rfl rfl hl.1 rfl (lv_room (Nat.le_of_ble_eq_true rfl)) dX0_voice_110 ⟨by first | omega | (dsimp only; omega), by first | omega | (dsimp only; omega)⟩) hS (fun H locs hP hS => ?_)
              refine W.widen (k := 3) (n := 19) (by omega) (by omega) ?_
              exact ret _ _ _ _ _ _ dX0_voice_113 rfl hP hS h
          · have h := ite_t c26 h
            refine lv_aload hx hb dX0_voice_81 (lv_at hl 0 rfl) ?_
            refine lv_iload_n hx hb dX0_voice_83 rfl (lv_at hl 4 rfl) ?_
            refine lv_aload_n hx hb dX0_voice_84 rfl (lv_at hl 1 rfl) ?_
            obtain ⟨a41, e40, h⟩ := bn1_some h
            refine x_get (C := RX0) (T := TX0) (N := 16) (ci := 0) hx hb hts in_X0 hown hK.1 hP rfl 5 (by decide) (hts _ q234) (fun _ h9 => h9) (gR_some e40) dX0_voice_85 ?_
            obtain ⟨v42, S43, e44, h⟩ := bnd_some h
            have hr45 : va_Run p l e ({ frames := 9, cells := 3, slots := 19, locals := 10293 } : Room) s m args below meth c H locs 0 0 0 0 (F0 m 88 ls [.ref a41, .int x3, .ref a23]) [] (gQi (xK D cA A) (xP D cA A) A (v42, S43) ([.ref a23, .int x3, .ref a41]).toArray) A := by
              rcases v_X5_ties_c e44 with ⟨gc, ec⟩ | ⟨gc, ec⟩ | ⟨gc, ec⟩ | ⟨gc, ec⟩ | ⟨gc, ec⟩ | ⟨gc, ec⟩ | ⟨gc, ec⟩
              · obtain ⟨fc, gc⟩ := isC_some gc
                exact va_runU (rest := []) ⟨hx, hb, hml, hown, hts⟩ (mX5_ties (l := l) (D := D) (cA := cA) (A := A) a23 x3 a41 S21 ec) (va_cwO (C := RX5) (owner := RX5) 2 hts (lw_app (xw6 q1132 q1135 q1133 q1134 q1133 q91) (lw_meth q1151)) rfl rfl rfl q1151 (by decide +kernel) ⟨Nat.le_of_ble_eq_true rfl, Nat.le_of_ble_eq_true rfl⟩) (gPreV (As := [.int x3, .ref a41]) xKst hK hA hS hP (x_recv (q := (RX5, TX5, 2)) hK.1 hP rfl gc)) rfl rfl hl.1 rfl (lv_room (Nat.le_of_ble_eq_true rfl)) dX0_voice_88 ⟨by first | exact Nat.zero_le _ | (dsimp only; omega), by first | exact Nat.zero_le _ | (dsimp only; omega)⟩
              · obtain ⟨fc, gc⟩ := isC_some gc
                exact va_runU (rest := []) ⟨hx, hb, hml, hown, hts⟩ (mX5_ties (l := l) (D := D) (cA := cA) (A := A) a23 x3 a41 S21 ec) (va_cwO (C := RX6) (owner := RX5) 2 hts (lw_app (xw6 q1132 q1135 q1133 q1143 q1133 q91) (lw_meth q1151)) rfl rfl rfl q1151 (by decide +kernel) ⟨Nat.le_of_ble_eq_true rfl, Nat.le_of_ble_eq_true rfl⟩) (gPreV (As := [.int x3, .ref a41]) xKst hK hA hS hP (x_recv (q := (RX6, TX6, 2)) hK.1 hP rfl gc)) rfl rfl hl.1 rfl (lv_room (Nat.le_of_ble_eq_true rfl)) dX0_voice_88 ⟨by first | exact Nat.zero_le _ | (dsimp only; omega), by first | exact Nat.zero_le _ | (dsimp only; omega)⟩
              · obtain ⟨fc, gc⟩ := isC_some gc
                exact va_runU (rest := []) ⟨hx, hb, hml, hown, hts⟩ (mX5_ties (l := l) (D := D) (cA := cA) (A := A) a23 x3 a41 S21 ec) (va_cwO (C := RX7) (owner := RX5) 2 hts (lw_app (xw6 q1132 q1135 q1133 q1150 q1133 q91) (lw_meth q1151)) rfl rfl rfl q1151 (by decide +kernel) ⟨Nat.le_of_ble_eq_true rfl, Nat.le_of_ble_eq_true rfl⟩) (gPreV (As := [.int x3, .ref a41]) xKst hK hA hS hP (x_recv (q := (RX7, TX7, 2)) hK.1 hP rfl gc)) rfl rfl hl.1 rfl (lv_room (Nat.le_of_ble_eq_true rfl)) dX0_voice_88 ⟨by first | exact Nat.zero_le _ | (dsimp only; omega), by first | exact Nat.zero_le _ | (dsimp only; omega)⟩
              · obtain ⟨fc, gc⟩ := isC_some gc
                exact va_runU (rest := []) ⟨hx, hb, hml, hown, hts⟩ (mX8_ties (l := l) (D := D) (cA := cA) (A := A) a23 x3 a41 S21 ec) (va_cwO (C := RX8) (owner := RX5) 2 hts (lw_app (xw6 q1132 q1135 q1133 q1144 q1145 q94) (lw_meth q1146)) rfl rfl rfl q1151 (by decide +kernel) ⟨Nat.le_of_ble_eq_true rfl, Nat.le_of_ble_eq_true rfl⟩) (gPreV (As := [.int x3, .ref a41]) xKst hK hA hS hP (x_recv (q := (RX8, TX8, 2)) hK.1 hP rfl gc)) rfl rfl hl.1 rfl (lv_room (Nat.le_of_ble_eq_true rfl)) dX0_voice_88 ⟨by first | exact Nat.zero_le _ | (dsimp only; omega), by first | exact Nat.zero_le _ | (dsimp only; omega)⟩
              · obtain ⟨fc, gc⟩ := isC_some gc
                exact va_runU (rest := []) ⟨hx, hb, hml, hown, hts⟩ (mX9_ties (l := l) (D := D) (cA := cA) (A := A) a23 x3 a41 S21 ec) (va_cwO (C := RX9) (owner := RX5) 2 hts (lw_app (xw6 q1132 q1135 q1133 q1136 q1137 q95) (lw_meth q1138)) rfl rfl rfl q1151 (by decide +kernel) ⟨Nat.le_of_ble_eq_true rfl, Nat.le_of_ble_eq_true rfl⟩) (gPreV (As := [.int x3, .ref a41]) xKst hK hA hS hP (x_recv (q := (RX9, TX9, 2)) hK.1 hP rfl gc)) rfl rfl hl.1 rfl (lv_room (Nat.le_of_ble_eq_true rfl)) dX0_voice_88 ⟨by first | exact Nat.zero_le _ | (dsimp only; omega), by first | exact Nat.zero_le _ | (dsimp only; omega)⟩
              · obtain ⟨fc, gc⟩ := isC_some gc
                exact va_runU (rest := []) ⟨hx, hb, hml, hown, hts⟩ (mX5_ties (l := l) (D := D) (cA := cA) (A := A) a23 x3 a41 S21 ec) (va_cwO (C := RX10) (owner := RX5) 2 hts (lw_app (xw6 q1132 q1135 q1133 q1142 q1133 q91) (lw_meth q1151)) rfl rfl rfl q1151 (by decide +kernel) ⟨Nat.le_of_ble_eq_true rfl, Nat.le_of_ble_eq_true rfl⟩) (gPreV (As := [.int x3, .ref a41]) xKst hK hA hS hP (x_recv (q := (RX10, TX10, 2)) hK.1 hP rfl gc)) rfl rfl hl.1 rfl (lv_room (Nat.le_of_ble_eq_true rfl)) dX0_voice_88 ⟨by first | exact Nat.zero_le _ | (dsimp only; omega), by first | exact Nat.zero_le _ | (dsimp only; omega)⟩
              · obtain ⟨fc, gc⟩ := isC_some gc
                exact va_runU (rest := []) ⟨hx, hb, hml, hown, hts⟩ (mX5_ties (l := l) (D := D) (cA := cA) (A := A) a23 x3 a41 S21 ec) (va_cwO (C := RX11) (owner := RX5) 2 hts (lw_app (xw6 q1132 q1135 q1133 q1149 q1133 q91) (lw_meth q1151)) rfl rfl rfl q1151 (by decide +kernel) ⟨Nat.le_of_ble_eq_true rfl, Nat.le_of_ble_eq_true rfl⟩) (gPreV (As := [.int x3, .ref a41]) xKst hK hA hS hP (x_recv (q := (RX11, TX11, 2)) hK.1 hP rfl gc)) rfl rfl hl.1 rfl (lv_room (Nat.le_of_ble_eq_true rfl)) dX0_voice_88 ⟨by first | exact Nat.zero_le _ | (dsimp only; omega), by first | exact Nat.zero_le _ | (dsimp only; omega)⟩
            refine gci0 hr45 hS (fun H locs hP hS => ?_)
            refine lv_goto (tgt := 104) hx hb dX0_voice_91 (by decide) ?_
            refine W.widen (k := 0) (n := 0) (by omega) (by omega) ?_
            exact B104 x0 v42 S43 _ _ _ hP hS (lv_sub hl [1] rfl) h
        · have h := ite_t c25 h
          refine lv_aload hx hb dX0_voice_63 (lv_at hl 0 rfl) ?_
          refine lv_iload_n hx hb dX0_voice_65 rfl (lv_at hl 4 rfl) ?_
          refine lv_aload_n hx hb dX0_voice_66 rfl (lv_at hl 1 rfl) ?_
          obtain ⟨a47, e46, h⟩ := bn1_some h
          refine x_get (C := RX0) (T := TX0) (N := 16) (ci := 0) hx hb hts in_X0 hown hK.1 hP rfl 5 (by decide) (hts _ q234) (fun _ h9 => h9) (gR_some e46) dX0_voice_67 ?_
          obtain ⟨v48, S49, e50, h⟩ := bnd_some h
          have hr51 : va_Run p l e ({ frames := 9, cells := 3, slots := 19, locals := 10293 } : Room) s m args below meth c H locs 0 0 0 0 (F0 m 70 ls [.ref a47, .int x3, .ref a23]) [] (gQi (xK D cA A) (xP D cA A) A (v48, S49) ([.ref a23, .int x3, .ref a47]).toArray) A := by
            rcases v_X5_says_c e50 with ⟨gc, ec⟩ | ⟨gc, ec⟩ | ⟨gc, ec⟩ | ⟨gc, ec⟩ | ⟨gc, ec⟩ | ⟨gc, ec⟩ | ⟨gc, ec⟩
            · obtain ⟨fc, gc⟩ := isC_some gc
              exact x_runVD (n := 2) (rest := []) ⟨hx, hb, hml, hown, hts⟩ (mX15_says (l := l) (D := D) (cA := cA) (A := A) a23 x3 a47 S21 ec) rfl (lw_meth q1093) rfl rfl (dw0 hK) (dw1 hK) (xdfP hK (by decide)) ⟨by decide, by decide⟩ ⟨rfl, rfl⟩ (hts _ q1092) (by decide +kernel) ⟨Nat.le_of_ble_eq_true rfl, Nat.le_of_ble_eq_true rfl⟩ (gPreV (As := [.int x3, .ref a47]) xKst hK hA hS hP (x_recv (q := (RX5, TX5, 2)) hK.1 hP rfl gc)) rfl rfl hl.1 rfl (lv_room (Nat.le_of_ble_eq_true rfl)) dX0_voice_70 ⟨by first | exact Nat.zero_le _ | (dsimp only; omega), by first | exact Nat.zero_le _ | (dsimp only; omega)⟩
            · obtain ⟨fc, gc⟩ := isC_some gc
              exact x_runVD (n := 2) (rest := []) ⟨hx, hb, hml, hown, hts⟩ (mX15_says (l := l) (D := D) (cA := cA) (A := A) a23 x3 a47 S21 ec) rfl (lw_meth q1093) rfl rfl (dw0 hK) (dw1 hK) (xdfP hK (by decide)) ⟨by decide, by decide⟩ ⟨rfl, rfl⟩ (hts _ q1092) (by decide +kernel) ⟨Nat.le_of_ble_eq_true rfl, Nat.le_of_ble_eq_true rfl⟩ (gPreV (As := [.int x3, .ref a47]) xKst hK hA hS hP (x_recv (q := (RX6, TX6, 2)) hK.1 hP rfl gc)) rfl rfl hl.1 rfl (lv_room (Nat.le_of_ble_eq_true rfl)) dX0_voice_70 ⟨by first | exact Nat.zero_le _ | (dsimp only; omega), by first | exact Nat.zero_le _ | (dsimp only; omega)⟩
            · obtain ⟨fc, gc⟩ := isC_some gc
              exact x_runUO (n := 2) (rest := []) (C := RX7) (owner := RX15) ⟨hx, hb, hml, hown, hts⟩ (mX7_says (l := l) (D := D) (cA := cA) (A := A) a23 x3 a47 S21 ec) rfl (lw_meth q1090) rfl rfl (dw0 hK) (dw1 hK) (va_Decl.of (hts _ q1092) (hts _ q1093)) (hts _ q1130) (by decide +kernel) (hts _ q1089) (hts _ q93) ⟨Nat.le_of_ble_eq_true rfl, Nat.le_of_ble_eq_true rfl⟩ (gPreV (As := [.int x3, .ref a47]) xKst hK hA hS hP (x_recv (q := (RX7, TX7, 2)) hK.1 hP rfl gc)) rfl rfl hl.1 rfl (lv_room (Nat.le_of_ble_eq_true rfl)) dX0_voice_70 ⟨by first | exact Nat.zero_le _ | (dsimp only; omega), by first | exact Nat.zero_le _ | (dsimp only; omega)⟩
            · obtain ⟨fc, gc⟩ := isC_some gc
              exact x_runVD (n := 2) (rest := []) ⟨hx, hb, hml, hown, hts⟩ (mX15_says (l := l) (D := D) (cA := cA) (A := A) a23 x3 a47 S21 ec) rfl (lw_meth q1093) rfl rfl (dw0 hK) (dw1 hK) (xdfP hK (by decide)) ⟨by decide, by decide⟩ ⟨rfl, rfl⟩ (hts _ q1092) (by decide +kernel) ⟨Nat.le_of_ble_eq_true rfl, Nat.le_of_ble_eq_true rfl⟩ (gPreV (As := [.int x3, .ref a47]) xKst hK hA hS hP (x_recv (q := (RX8, TX8, 2)) hK.1 hP rfl gc)) rfl rfl hl.1 rfl (lv_room (Nat.le_of_ble_eq_true rfl)) dX0_voice_70 ⟨by first | exact Nat.zero_le _ | (dsimp only; omega), by first | exact Nat.zero_le _ | (dsimp only; omega)⟩
            · obtain ⟨fc, gc⟩ := isC_some gc
              exact x_runVD (n := 2) (rest := []) ⟨hx, hb, hml, hown, hts⟩ (mX15_says (l := l) (D := D) (cA := cA) (A := A) a23 x3 a47 S21 ec) rfl (lw_meth q1093) rfl rfl (dw0 hK) (dw1 hK) (xdfP hK (by decide)) ⟨by decide, by decide⟩ ⟨rfl, rfl⟩ (hts _ q1092) (by decide +kernel) ⟨Nat.le_of_ble_eq_true rfl, Nat.le_of_ble_eq_true rfl⟩ (gPreV (As := [.int x3, .ref a47]) xKst hK hA hS hP (x_recv (q := (RX9, TX9, 2)) hK.1 hP rfl gc)) rfl rfl hl.1 rfl (lv_room (Nat.le_of_ble_eq_true rfl)) dX0_voice_70 ⟨by first | exact Nat.zero_le _ | (dsimp only; omega), by first | exact Nat.zero_le _ | (dsimp only; omega)⟩
            · obtain ⟨fc, gc⟩ := isC_some gc
              exact x_runUO (n := 2) (rest := []) (C := RX10) (owner := RX15) ⟨hx, hb, hml, hown, hts⟩ (mX10_says (l := l) (D := D) (cA := cA) (A := A) a23 x3 a47 S21 ec) rfl (lw_meth q1086) rfl rfl (dw0 hK) (dw1 hK) (va_Decl.of (hts _ q1092) (hts _ q1093)) (hts _ q1084) (by decide +kernel) (hts _ q1085) (hts _ q96) ⟨Nat.le_of_ble_eq_true rfl, Nat.le_of_ble_eq_true rfl⟩ (gPreV (As := [.int x3, .ref a47]) xKst hK hA hS hP (x_recv (q := (RX10, TX10, 2)) hK.1 hP rfl gc)) rfl rfl hl.1 rfl (lv_room (Nat.le_of_ble_eq_true rfl)) dX0_voice_70 ⟨by first | exact Nat.zero_le _ | (dsimp only; omega), by first | exact Nat.zero_le _ | (dsimp only; omega)⟩
            · obtain ⟨fc, gc⟩ := isC_some gc
              exact x_runUO (n := 2) (rest := []) (C := RX11) (owner := RX15) ⟨hx, hb, hml, hown, hts⟩ (mX11_says (l := l) (D := D) (cA := cA) (A := A) a23 x3 a47 S21 ec) rfl (lw_meth q1129) rfl rfl (dw0 hK) (dw1 hK) (va_Decl.of (hts _ q1092) (hts _ q1093)) (hts _ q1127) (by decide +kernel) (hts _ q1128) (hts _ q97) ⟨Nat.le_of_ble_eq_true rfl, Nat.le_of_ble_eq_true rfl⟩ (gPreV (As := [.int x3, .ref a47]) xKst hK hA hS hP (x_recv (q := (RX11, TX11, 2)) hK.1 hP rfl gc)) rfl rfl hl.1 rfl (lv_room (Nat.le_of_ble_eq_true rfl)) dX0_voice_70 ⟨by first | exact Nat.zero_le _ | (dsimp only; omega), by first | exact Nat.zero_le _ | (dsimp only; omega)⟩
          refine gci0 hr51 hS (fun H locs hP hS => ?_)
          refine lv_goto (tgt := 104) hx hb dX0_voice_73 (by decide) ?_
          refine W.widen (k := 0) (n := 0) (by omega) (by omega) ?_
          exact B104 x0 v48 S49 _ _ _ hP hS (lv_sub hl [1] rfl) h
      · have h := ite_t c24 h
        refine lv_aload hx hb dX0_voice_45 (lv_at hl 0 rfl) ?_
        refine lv_iload_n hx hb dX0_voice_47 rfl (lv_at hl 4 rfl) ?_
        refine lv_aload_n hx hb dX0_voice_48 rfl (lv_at hl 1 rfl) ?_
        obtain ⟨a53, e52, h⟩ := bn1_some h
        refine x_get (C := RX0) (T := TX0) (N := 16) (ci := 0) hx hb hts in_X0 hown hK.1 hP rfl 5 (by decide) (hts _ q234) (fun _ h9 => h9) (gR_some e52) dX0_voice_49 ?_
        obtain ⟨v54, S55, e56, h⟩ := bnd_some h
        have hr57 : va_Run p l e ({ frames := 9, cells := 3, slots := 19, locals := 10293 } : Room) s m args below meth c H locs 0 0 0 0 (F0 m 52 ls [.ref a53, .int x3, .ref a23]) [] (gQi (xK D cA A) (xP D cA A) A (v54, S55) ([.ref a23, .int x3, .ref a53]).toArray) A := by
          rcases v_X5_weighs_c e56 with ⟨gc, ec⟩ | ⟨gc, ec⟩ | ⟨gc, ec⟩ | ⟨gc, ec⟩ | ⟨gc, ec⟩ | ⟨gc, ec⟩ | ⟨gc, ec⟩
          · obtain ⟨fc, gc⟩ := isC_some gc
            exact va_runU (rest := []) ⟨hx, hb, hml, hown, hts⟩ (mX5_weighs (l := l) (D := D) (cA := cA) (A := A) a23 x3 a53 S21 ec) (va_cwO (C := RX5) (owner := RX5) 2 hts (lw_app (xw6 q1056 q1059 q1057 q1058 q1057 q91) (lw_meth q1080)) rfl rfl rfl q1080 (by decide +kernel) ⟨Nat.le_of_ble_eq_true rfl, Nat.le_of_ble_eq_true rfl⟩) (gPreV (As := [.int x3, .ref a53]) xKst hK hA hS hP (x_recv (q := (RX5, TX5, 2)) hK.1 hP rfl gc)) rfl rfl hl.1 rfl (lv_room (Nat.le_of_ble_eq_true rfl)) dX0_voice_52 ⟨by first | exact Nat.zero_le _ | (dsimp only; omega), by first | exact Nat.zero_le _ | (dsimp only; omega)⟩
          · obtain ⟨fc, gc⟩ := isC_some gc
            exact va_runU (rest := []) ⟨hx, hb, hml, hown, hts⟩ (mX6_weighs (l := l) (D := D) (cA := cA) (A := A) a23 x3 a53 S21 ec) (va_cwO (C := RX6) (owner := RX5) 2 hts (lw_app (xw6 q1056 q1059 q1057 q1073 q1068 q92) (lw_meth q1069)) rfl rfl rfl q1080 (by decide +kernel) ⟨Nat.le_of_ble_eq_true rfl, Nat.le_of_ble_eq_true rfl⟩) (gPreV (As := [.int x3, .ref a53]) xKst hK hA hS hP (x_recv (q := (RX6, TX6, 2)) hK.1 hP rfl gc)) rfl rfl hl.1 rfl (lv_room (Nat.le_of_ble_eq_true rfl)) dX0_voice_52 ⟨by first | exact Nat.zero_le _ | (dsimp only; omega), by first | exact Nat.zero_le _ | (dsimp only; omega)⟩
          · obtain ⟨fc, gc⟩ := isC_some gc
            exact va_runU (rest := []) ⟨hx, hb, hml, hown, hts⟩ (mX5_weighs (l := l) (D := D) (cA := cA) (A := A) a23 x3 a53 S21 ec) (va_cwO (C := RX7) (owner := RX5) 2 hts (lw_app (xw6 q1056 q1059 q1057 q1079 q1057 q91) (lw_meth q1080)) rfl rfl rfl q1080 (by decide +kernel) ⟨Nat.le_of_ble_eq_true rfl, Nat.le_of_ble_eq_true rfl⟩) (gPreV (As := [.int x3, .ref a53]) xKst hK hA hS hP (x_recv (q := (RX7, TX7, 2)) hK.1 hP rfl gc)) rfl rfl hl.1 rfl (lv_room (Nat.le_of_ble_eq_true rfl)) dX0_voice_52 ⟨by first | exact Nat.zero_le _ | (dsimp only; omega), by first | exact Nat.zero_le _ | (dsimp only; omega)⟩
          · obtain ⟨fc, gc⟩ := isC_some gc
            exact va_runU (rest := []) ⟨hx, hb, hml, hown, hts⟩ (mX5_weighs (l := l) (D := D) (cA := cA) (A := A) a23 x3 a53 S21 ec) (va_cwO (C := RX8) (owner := RX5) 2 hts (lw_app (xw6 q1056 q1059 q1057 q1074 q1057 q91) (lw_meth q1080)) rfl rfl rfl q1080 (by decide +kernel) ⟨Nat.le_of_ble_eq_true rfl, Nat.le_of_ble_eq_true rfl⟩) (gPreV (As := [.int x3, .ref a53]) xKst hK hA hS hP (x_recv (q := (RX8, TX8, 2)) hK.1 hP rfl gc)) rfl rfl hl.1 rfl (lv_room (Nat.le_of_ble_eq_true rfl)) dX0_voice_52 ⟨by first | exact Nat.zero_le _ | (dsimp only; omega), by first | exact Nat.zero_le _ | (dsimp only; omega)⟩
          · obtain ⟨fc, gc⟩ := isC_some gc
            exact va_runU (rest := []) ⟨hx, hb, hml, hown, hts⟩ (mX9_weighs (l := l) (D := D) (cA := cA) (A := A) a23 x3 a53 S21 ec) (va_cwO (C := RX9) (owner := RX5) 2 hts (lw_app (xw6 q1056 q1059 q1057 q1060 q1061 q95) (lw_meth q1062)) rfl rfl rfl q1080 (by decide +kernel) ⟨Nat.le_of_ble_eq_true rfl, Nat.le_of_ble_eq_true rfl⟩) (gPreV (As := [.int x3, .ref a53]) xKst hK hA hS hP (x_recv (q := (RX9, TX9, 2)) hK.1 hP rfl gc)) rfl rfl hl.1 rfl (lv_room (Nat.le_of_ble_eq_true rfl)) dX0_voice_52 ⟨by first | exact Nat.zero_le _ | (dsimp only; omega), by first | exact Nat.zero_le _ | (dsimp only; omega)⟩
          · obtain ⟨fc, gc⟩ := isC_some gc
            exact va_runU (rest := []) ⟨hx, hb, hml, hown, hts⟩ (mX5_weighs (l := l) (D := D) (cA := cA) (A := A) a23 x3 a53 S21 ec) (va_cwO (C := RX10) (owner := RX5) 2 hts (lw_app (xw6 q1056 q1059 q1057 q1072 q1057 q91) (lw_meth q1080)) rfl rfl rfl q1080 (by decide +kernel) ⟨Nat.le_of_ble_eq_true rfl, Nat.le_of_ble_eq_true rfl⟩) (gPreV (As := [.int x3, .ref a53]) xKst hK hA hS hP (x_recv (q := (RX10, TX10, 2)) hK.1 hP rfl gc)) rfl rfl hl.1 rfl (lv_room (Nat.le_of_ble_eq_true rfl)) dX0_voice_52 ⟨by first | exact Nat.zero_le _ | (dsimp only; omega), by first | exact Nat.zero_le _ | (dsimp only; omega)⟩
          · obtain ⟨fc, gc⟩ := isC_some gc
            exact va_runU (rest := []) ⟨hx, hb, hml, hown, hts⟩ (mX11_weighs (l := l) (D := D) (cA := cA) (A := A) a23 x3 a53 S21 ec) (va_cwO (C := RX11) (owner := RX5) 2 hts (lw_app (xw6 q1056 q1059 q1057 q1075 q1076 q97) (lw_meth q1077)) rfl rfl rfl q1080 (by decide +kernel) ⟨Nat.le_of_ble_eq_true rfl, Nat.le_of_ble_eq_true rfl⟩) (gPreV (As := [.int x3, .ref a53]) xKst hK hA hS hP (x_recv (q := (RX11, TX11, 2)) hK.1 hP rfl gc)) rfl rfl hl.1 rfl (lv_room (Nat.le_of_ble_eq_true rfl)) dX0_voice_52 ⟨by first | exact Nat.zero_le _ | (dsimp only; omega), by first | exact Nat.zero_le _ | (dsimp only; omega)⟩
        refine gci0 hr57 hS (fun H locs hP hS => ?_)
        refine lv_goto (tgt := 104) hx hb dX0_voice_55 (by decide) ?_
        refine W.widen (k := 0) (n := 0) (by omega) (by omega) ?_
        exact B104 x0 v54 S55 _ _ _ hP hS (lv_sub hl [1] rfl) h
    · have h := ite_t c13 h
      refine W.widen (k := 0) (n := 0) (by omega) (by omega) ?_
      exact B17 x0 S11 _ _ _ hP hS (lv_sub hl [0] rfl) h

def bX0_sheet_29 (x0 : Nat) (S : XS) : Option (Int32 × XS) :=
chk (isC S x0 0) (bnd (fX0_finds x0 (1 : Int32) S) fun v4 S2 =>
some (v4, S2))
def bX0_sheet_92 (x0 : Nat) (t0 : Nat) (t1 : Option Nat) (S : XS) : Option (Int32 × XS) :=
bn1 (pF S t0 2 0 (va_rf t1)) fun S6 =>
some ((1 : Int32), S6)
def bX0_sheet_97 (x0 : Nat) (t0 : Nat) (S : XS) : Option (Int32 × XS) :=
chk (isC S x0 0) (bnd (fX0_finds x0 (3 : Int32) S) fun v10 S8 =>
some (v10, S8))
def bX0_sheet_51 (x0 : Nat) (x1 : Int32) (x2 : Int32) (x3 : Int32) (S : XS) : Option (Int32 × XS) :=
bn1 (gR S x0 0 7) fun a12 =>
bn1 (aR S a12 4 x1) fun a14 =>
(if x2 = 0 then
bX0_sheet_92 x0 a14 none S
else
(if x2 = (8 : Int32) then
(if x3 < 0 then
chk (isC (xthr S 16) (S.2 + 2) 16) (chk (isC (xthr S 16) x0 0) (bnd (fX0_finds x0 (3 : Int32) (xthr S 16)) fun v44 S42 =>
some (v44, S42)))
else
chk (decide (x3.toNatClampNeg ≤ 24)) (nm (xnew S (aeI 1 x3.toNatClampNeg (fun _ => 0))) fun S38 =>
bX0_sheet_92 x0 a14 (some S.2) S38))
else
(if x2 = (16 : Int32) then
(if x3 < 0 then
chk (isC (xthr S 16) (S.2 + 2) 16) (chk (isC (xthr S 16) x0 0) (bnd (fX0_finds x0 (3 : Int32) (xthr S 16)) fun v35 S33 =>
some (v35, S33)))
else
chk (decide (x3.toNatClampNeg ≤ 24)) (nm (xnew S (aeI 2 x3.toNatClampNeg (fun _ => 0))) fun S29 =>
bX0_sheet_92 x0 a14 (some S.2) S29))
else
(if x3 < 0 then
chk (isC (xthr S 16) (S.2 + 2) 16) (chk (isC (xthr S 16) x0 0) (bnd (fX0_finds x0 (3 : Int32) (xthr S 16)) fun v26 S24 =>
some (v26, S24)))
else
chk (decide (x3.toNatClampNeg ≤ 24)) (nm (xnew S (aeI 0 x3.toNatClampNeg (fun _ => 0))) fun S20 =>
bX0_sheet_92 x0 a14 (some S.2) S20)))))
def bX0_sheet_35 (x0 : Nat) (x1 : Int32) (x2 : Int32) (x3 : Int32) (S : XS) : Option (Int32 × XS) :=
(if x2 = 0 then
bX0_sheet_51 x0 x1 x2 x3 S
else
(if x3 ≤ (24 : Int32) then
bX0_sheet_51 x0 x1 x2 x3 S
else
chk (isC S x0 0) (bnd (fX0_finds x0 (1 : Int32) S) fun v50 S48 =>
some (v50, S48))))
def fX0_sheet (x0 : Nat) (x1 : Int32) (x2 : Int32) (x3 : Int32) (S : XS) : Option (Int32 × XS) :=
bnd (fX0_isSheet x1 S) fun v53 S52 =>
(if v53 = 0 then
bX0_sheet_29 x0 S52
else
(if x2 = 0 then
bX0_sheet_35 x0 x1 x2 x3 S52
else
(if x2 = (8 : Int32) then
bX0_sheet_35 x0 x1 x2 x3 S52
else
(if x2 = (16 : Int32) then
bX0_sheet_35 x0 x1 x2 x3 S52
else
(if x2 = (32 : Int32) then
bX0_sheet_35 x0 x1 x2 x3 S52
else
bX0_sheet_29 x0 S52)))))
set_option maxHeartbeats 4000000 in
set_option maxRecDepth 100000 in
theorem mX0_sheet {l : Launch} {D : va_G} {cA : Nat → ClassId} {A : Nat → Prop} (htr : l.stackTraces = false) (x0 : Nat) (x1 : Int32) (x2 : Int32) (x3 : Int32) (S : XS) {out : (Int32 × XS)} (h : fX0_sheet x0 x1 x2 x3 S = some out) : Met l yX0_sheet (wsW_ yX0_sheet cX0_sheet 5 (some .int) [(51, 96, 97, 350)]) ({ frames := 7, cells := 4, slots := 78, locals := 10248 } : Room) (gPc (xK D cA A) (xP D cA A) A [.ref x0, .int x1, .int x2, .int x3] S) (gQi (xK D cA A) (xP D cA A) A out) 4 78 A := by
  refine gMetX_z (by decide) (Nat.le_of_ble_eq_true rfl) ?_ xKst
  intro p e s m below meth c Q ls args H locs hC hP hS hl htab ret
  obtain ⟨hx, hb, hml, hown, hts, hA, hK⟩ := hC
  have hown : s.vm.findClass RX0 = some m.cls := hown
  have hl : lv_has ls 5 [(0, .ref x0), (1, .int x1), (2, .int x2), (3, .int x3)] := hl
  have B29 : ∀ (x0 : Nat) (S : XS) (H : Heap) (locs : List Loc) (ls : Array Slot), xP D cA A S H → va_S A s.heap H locs → lv_has ls 5 [(0, .ref x0)] → bX0_sheet_29  x0 S = some out → W p l e ({ frames := 7, cells := 4, slots := 78, locals := 10248 } : Room) s m args below meth c H locs 0 0 Q (F0 m 29 ls []) := by
    intro x0 S H locs ls hP hS hl h
    unfold bX0_sheet_29 at h
    refine lv_aload_n hx hb dX0_sheet_29 rfl (lv_at hl 0 rfl) ?_
    refine lv_iconst (v := (1 : Int32)) hx hb dX0_sheet_30 (by decide) ?_
    obtain ⟨g3, h⟩ := chk_some h
    obtain ⟨fg3, g3⟩ := isC_some g3
    obtain ⟨v4, S2, e1, h⟩ := bnd_some h
    refine gci (va_runV (As := [.int (1 : Int32)]) (rest := []) ⟨hx, hb, hml, hown, hts⟩ (mX0_finds (l := l) (D := D) (cA := cA) (A := A) x0 (1 : Int32) S e1) (cwV 1 hts (lw_V q290 q292 qs1 q86 q293) rfl rfl rfl (by decide +kernel) ⟨Nat.le_of_ble_eq_true rfl, Nat.le_of_ble_eq_true rfl⟩) (gPreV xKst hK hA hS hP (x_recv (q := (RX0, TX0, 16)) hK.1 hP rfl g3)) rfl rfl hl.1 rfl (lv_room (Nat.le_of_ble_eq_true rfl)) dX0_sheet_31 ⟨by first | omega | (dsimp only; omega), by first | omega | (dsimp only; omega)⟩) hS (fun H locs hP hS => ?_)
    refine W.widen (k := 4) (n := 78) (by omega) (by omega) ?_
    exact ret _ _ _ _ _ _ dX0_sheet_34 rfl hP hS h
  have B92 : ∀ (x0 : Nat) (t0 : Nat) (t1 : Option Nat) (S : XS) (H : Heap) (locs : List Loc) (ls : Array Slot), xP D cA A S H → va_S A s.heap H locs → lv_has ls 5 [(0, .ref x0)] → bX0_sheet_92  x0 t0 t1 S = some out → W p l e ({ frames := 7, cells := 4, slots := 78, locals := 10248 } : Room) s m args below meth c H locs 1 24 Q (F0 m 92 ls [va_rf t1, .ref t0]) := by
    intro x0 t0 t1 S H locs ls hP hS hl h
    unfold bX0_sheet_92 at h
    obtain ⟨S6, e5, h⟩ := bn1_some h
    refine x_putN (v := va_rf t1) (ty := (.object "java/lang/Object")) (C := RX2) (T := TX2) (N := 1) (ci := 2) hx hb hts in_X2 tyX2 tyX2_ok nmX2 hown hK.1 hP hS rfl 0 (by decide) (hK.2.1 _ q139 rfl) (fun _ h9 => h9) rfl (by decide +kernel) (rf_nar _) (rf_fit _) e5 dX0_sheet_92 (fun H locs hP hS => ?_)
    refine lv_iconst (v := (1 : Int32)) hx hb dX0_sheet_95 (by decide) ?_
    refine W.widen (k := 4) (n := 78) (by omega) (by omega) ?_
    exact ret _ _ _ _ _ _ dX0_sheet_96 rfl hP hS h
  have B97 : ∀ (x0 : Nat) (t0 : Nat) (S : XS) (H : Heap) (locs : List Loc) (ls : Array Slot), xP D cA A S H → va_S A s.heap H locs → lv_has ls 5 [(0, .ref x0)] → bX0_sheet_97  x0 t0 S = some out → W p l e ({ frames := 7, cells := 4, slots := 78, locals := 10248 } : Room) s m args below meth c H locs 4 78 Q (F0 m 97 ls [.ref t0]) := by
    intro x0 t0 S H locs ls hP hS hl h
    unfold bX0_sheet_97 at h
    refine lv_astore (lv' := [(4, .ref t0), (0, .ref x0)]) hx hb dX0_sheet_97 hl (by decide) rfl (fun ls hl => ?_)
    refine lv_aload_n hx hb dX0_sheet_99 rfl (lv_at hl 1 rfl) ?_
    refine lv_iconst (v := (3 : Int32)) hx hb dX0_sheet_100 (by decide) ?_
    obtain ⟨g9, h⟩ := chk_some h
    obtain ⟨fg9, g9⟩ := isC_some g9
    obtain ⟨v10, S8, e7, h⟩ := bnd_some h
    refine gci (va_runV (As := [.int (3 : Int32)]) (rest := []) ⟨hx, hb, hml, hown, hts⟩ (mX0_finds (l := l) (D := D) (cA := cA) (A := A) x0 (3 : Int32) S e7) (cwV 1 hts (lw_V q290 q292 qs1 q86 q293) rfl rfl rfl (by decide +kernel) ⟨Nat.le_of_ble_eq_true rfl, Nat.le_of_ble_eq_true rfl⟩) (gPreV xKst hK hA hS hP (x_recv (q := (RX0, TX0, 16)) hK.1 hP rfl g9)) rfl rfl hl.1 rfl (lv_room (Nat.le_of_ble_eq_true rfl)) dX0_sheet_101 ⟨by first | omega | (dsimp only; omega), by first | omega | (dsimp only; omega)⟩) hS (fun H locs hP hS => ?_)
    refine W.widen (k := 4) (n := 78) (by omega) (by omega) ?_
    exact ret _ _ _ _ _ _ dX0_sheet_104 rfl hP hS h
  have B51 : ∀ (x0 : Nat) (x1 : Int32) (x2 : Int32) (x3 : Int32) (S : XS) (H : Heap) (locs : List Loc) (ls : Array Slot), xP D cA A S H → va_S A s.heap H locs → lv_has ls 5 [(0, .ref x0), (1, .int x1), (2, .int x2), (3, .int x3)] → bX0_sheet_51  x0 x1 x2 x3 S = some out → W p l e ({ frames := 7, cells := 4, slots := 78, locals := 10248 } : Room) s m args below meth c H locs 0 0 Q (F0 m 51 ls []) := by
    intro x0 x1 x2 x3 S H locs ls hP hS hl h
    unfold bX0_sheet_51 at h
    refine lv_aload_n hx hb dX0_sheet_51 rfl (lv_at hl 0 rfl) ?_
    obtain ⟨a12, e11, h⟩ := bn1_some h
    refine x_get (C := RX0) (T := TX0) (N := 16) (ci := 0) hx hb hts in_X0 hown hK.1 hP rfl 7 (by decide) (hts _ q236) (fun _ h9 => h9) (gR_some e11) dX0_sheet_52 ?_
    refine lv_iload_n hx hb dX0_sheet_55 rfl (lv_at hl 1 rfl) ?_
    obtain ⟨a14, e13, h⟩ := bn1_some h
    refine x_aldr (t := 4) hx hb hK.1 hP (by decide) e13 dX0_sheet_56 ?_
    refine lv_iload_n hx hb dX0_sheet_57 rfl (lv_at hl 2 rfl) ?_
    refine lv_if_ne (tgt := 65) hx hb dX0_sheet_58 (by decide) (fun c15 => ?_) (fun c15 => ?_)
    · have h := ite_f c15 h
      refine lv_iload_n hx hb dX0_sheet_65 rfl (lv_at hl 2 rfl) ?_
      refine lv_bipush (v := (8 : Int32)) hx hb dX0_sheet_66 (by decide) ?_
      refine lv_icmp_ne (tgt := 77) hx hb dX0_sheet_68 (by decide) (fun c16 => ?_) (fun c16 => ?_)
      · have h := ite_f c16 h
        refine lv_iload_n hx hb dX0_sheet_77 rfl (lv_at hl 2 rfl) ?_
        refine lv_bipush (v := (16 : Int32)) hx hb dX0_sheet_78 (by decide) ?_
        refine lv_icmp_ne (tgt := 89) hx hb dX0_sheet_80 (by decide) (fun c17 => ?_) (fun c17 => ?_)
        · have h := ite_f c17 h
          refine lv_iload_n hx hb dX0_sheet_89 rfl (lv_at hl 3 rfl) ?_
          by_cases c18 : x3 < 0
          · have h := ite_t c18 h
            refine x_newNeg hx hb htr hts hK hP hS hA c18 (hl.1.trans hml.symm) (Nat.le_of_ble_eq_true rfl) (Nat.le_of_ble_eq_true rfl) (lv_room (Nat.le_of_ble_eq_true rfl)) (Nat.le_of_ble_eq_true rfl) (Nat.le_of_ble_eq_true rfl) dX0_sheet_90 (fun H locs hP hS => ?_)
            obtain ⟨g22, h⟩ := chk_some h
            obtain ⟨fg22, g22⟩ := isC_some g22
            refine x_caught (r := (RJ11, TJ11, 0)) rfl hown (hts _ q1174) htab (by decide) (by decide) (by decide) hK.1 hP g22 ?_
            refine lv_astore (lv' := [(4, .ref (S.2 + 2)), (0, .ref x0), (1, .int x1), (2, .int x2), (3, .int x3)]) hx hb dX0_sheet_97 hl (by decide) rfl (fun ls hl => ?_)
            refine lv_aload_n hx hb dX0_sheet_99 rfl (lv_at hl 1 rfl) ?_
            refine lv_iconst (v := (3 : Int32)) hx hb dX0_sheet_100 (by decide) ?_
            obtain ⟨g25, h⟩ := chk_some h
            obtain ⟨fg25, g25⟩ := isC_some g25
            obtain ⟨v26, S24, e23, h⟩ := bnd_some h
            refine gci (va_runV (As := [.int (3 : Int32)]) (rest := []) ⟨hx, hb, hml, hown, hts⟩ (mX0_finds (l := l) (D := D) (cA := cA) (A := A) x0 (3 : Int32) (xthr S 16) e23) (cwV 1 hts (lw_V q290 q292 qs1 q86 q293) rfl rfl rfl (by decide +kernel) ⟨Nat.le_of_ble_eq_true rfl, Nat.le_of_ble_eq_true rfl⟩) (gPreV xKst hK hA hS hP (x_recv (q := (RX0, TX0, 16)) hK.1 hP rfl g25)) rfl rfl hl.1 rfl (lv_room (Nat.le_of_ble_eq_true rfl)) dX0_sheet_101 ⟨by first | omega | (dsimp only; omega), by first | omega | (dsimp only; omega)⟩) hS (fun H locs hP hS => ?_)
            refine W.widen (k := 4) (n := 78) (by omega) (by omega) ?_
            exact ret _ _ _ _ _ _ dX0_sheet_104 rfl hP hS h
          · have h := ite_f c18 h
            obtain ⟨g19, h⟩ := chk_some h
            have g19 := of_decide_eq_true g19
            refine x_new0 (N' := x3.toNatClampNeg) hx hb (hts _ q143) hK.1 hP hS hA c18 rfl (by omega) (by first | omega | (dsimp only; omega)) (by first | omega | (dsimp only; omega)) dX0_sheet_90 (fun H hP hS => ?_)
            obtain ⟨S20, eS20⟩ : ∃ y : XS, y = xnew S (aeI 0 x3.toNatClampNeg (fun _ => 0)) := ⟨_, rfl⟩
            rw [← eS20] at hP
            have h := nm_at eS20 h
            refine W.widen (k := 1) (n := 24) (by omega) (by omega) ?_
            refine W.widen (k := 1) (n := 24) (by omega) (by omega) ?_
            exact B92 x0 a14 (some S.2) S20 _ _ _ hP hS (lv_sub hl [0] rfl) h
        · have h := ite_t c17 h
          refine lv_iload_n hx hb dX0_sheet_83 rfl (lv_at hl 3 rfl) ?_
          by_cases c27 : x3 < 0
          · have h := ite_t c27 h
            refine x_newNeg hx hb htr hts hK hP hS hA c27 (hl.1.trans hml.symm) (Nat.le_of_ble_eq_true rfl) (Nat.le_of_ble_eq_true rfl) (lv_room (Nat.le_of_ble_eq_true rfl)) (Nat.le_of_ble_eq_true rfl) (Nat.le_of_ble_eq_true rfl) dX0_sheet_84 (fun H locs hP hS => ?_)
            obtain ⟨g31, h⟩ := chk_some h
            obtain ⟨fg31, g31⟩ := isC_some g31
            refine x_caught (r := (RJ11, TJ11, 0)) rfl hown (hts _ q1174) htab (by decide) (by decide) (by decide) hK.1 hP g31 ?_
            refine lv_astore (lv' := [(4, .ref (S.2 + 2)), (0, .ref x0), (1, .int x1), (2, .int x2), (3, .int x3)]) hx hb dX0_sheet_97 hl (by decide) rfl (fun ls hl => ?_)
            refine lv_aload_n hx hb dX0_sheet_99 rfl (lv_at hl 1 rfl) ?_
            refine lv_iconst (v := (3 : Int32)) hx hb dX0_sheet_100 (by decide) ?_
            obtain ⟨g34, h⟩ := chk_some h
            obtain ⟨fg34, g34⟩ := isC_some g34
            obtain ⟨v35, S33, e32, h⟩ := bnd_some h
            refine gci (va_runV (As := [.int (3 : Int32)]) (rest := []) ⟨hx, hb, hml, hown, hts⟩ (mX0_finds (l := l) (D := D) (cA := cA) (A := A) x0 (3 : Int32) (xthr S 16) e32) (cwV 1 hts (lw_V q290 q292 qs1 q86 q293) rfl rfl rfl (by decide +kernel) ⟨Nat.le_of_ble_eq_true rfl, Nat.le_of_ble_eq_true rfl⟩) (gPreV xKst hK hA hS hP (x_recv (q := (RX0, TX0, 16)) hK.1 hP rfl g34)) rfl rfl hl.1 rfl (lv_room (Nat.le_of_ble_eq_true rfl)) dX0_sheet_101 ⟨by first | omega | (dsimp only; omega), by first | omega | (dsimp only; omega)⟩) hS (fun H locs hP hS => ?_)
            refine W.widen (k := 4) (n := 78) (by omega) (by omega) ?_
            exact ret _ _ _ _ _ _ dX0_sheet_104 rfl hP hS h
          · have h := ite_f c27 h
            obtain ⟨g28, h⟩ := chk_some h
            have g28 := of_decide_eq_true g28
            refine x_new2 (N' := x3.toNatClampNeg) hx hb (hts _ q637) hK.1 hP hS hA c27 rfl (by omega) (by first | omega | (dsimp only; omega)) (by first | omega | (dsimp only; omega)) dX0_sheet_84 (fun H hP hS => ?_)
            obtain ⟨S29, eS29⟩ : ∃ y : XS, y = xnew S (aeI 2 x3.toNatClampNeg (fun _ => 0)) := ⟨_, rfl⟩
            rw [← eS29] at hP
            have h := nm_at eS29 h
            refine W.widen (k := 1) (n := 24) (by omega) (by omega) ?_
            refine lv_goto (tgt := 92) hx hb dX0_sheet_86 (by decide) ?_
            refine W.widen (k := 1) (n := 24) (by omega) (by omega) ?_
            exact B92 x0 a14 (some S.2) S29 _ _ _ hP hS (lv_sub hl [0] rfl) h
      · have h := ite_t c16 h
        refine lv_iload_n hx hb dX0_sheet_71 rfl (lv_at hl 3 rfl) ?_
        by_cases c36 : x3 < 0
        · have h := ite_t c36 h
          refine x_newNeg hx hb htr hts hK hP hS hA c36 (hl.1.trans hml.symm) (Nat.le_of_ble_eq_true rfl) (Nat.le_of_ble_eq_true rfl) (lv_room (Nat.le_of_ble_eq_true rfl)) (Nat.le_of_ble_eq_true rfl) (Nat.le_of_ble_eq_true rfl) dX0_sheet_72 (fun H locs hP hS => ?_)
          obtain ⟨g40, h⟩ := chk_some h
          obtain ⟨fg40, g40⟩ := isC_some g40
          refine x_caught (r := (RJ11, TJ11, 0)) rfl hown (hts _ q1174) htab (by decide) (by decide) (by decide) hK.1 hP g40 ?_
          refine lv_astore (lv' := [(4, .ref (S.2 + 2)), (0, .ref x0), (1, .int x1), (2, .int x2), (3, .int x3)]) hx hb dX0_sheet_97 hl (by decide) rfl (fun ls hl => ?_)
          refine lv_aload_n hx hb dX0_sheet_99 rfl (lv_at hl 1 rfl) ?_
          refine lv_iconst (v := (3 : Int32)) hx hb dX0_sheet_100 (by decide) ?_
          obtain ⟨g43, h⟩ := chk_some h
          obtain ⟨fg43, g43⟩ := isC_some g43
          obtain ⟨v44, S42, e41, h⟩ := bnd_some h
          refine gci (va_runV (As := [.int (3 : Int32)]) (rest := []) ⟨hx, hb, hml, hown, hts⟩ (mX0_finds (l := l) (D := D) (cA := cA) (A := A) x0 (3 : Int32) (xthr S 16) e41) (cwV 1 hts (lw_V q290 q292 qs1 q86 q293) rfl rfl rfl (by decide +kernel) ⟨Nat.le_of_ble_eq_true rfl, Nat.le_of_ble_eq_true rfl⟩) (gPreV xKst hK hA hS hP (x_recv (q := (RX0, TX0, 16)) hK.1 hP rfl g43)) rfl rfl hl.1 rfl (lv_room (Nat.le_of_ble_eq_true rfl)) dX0_sheet_101 ⟨by first | omega | (dsimp only; omega), by first | omega | (dsimp only; omega)⟩) hS (fun H locs hP hS => ?_)
          refine W.widen (k := 4) (n := 78) (by omega) (by omega) ?_
          exact ret _ _ _ _ _ _ dX0_sheet_104 rfl hP hS h
        · have h := ite_f c36 h
          obtain ⟨g37, h⟩ := chk_some h
          have g37 := of_decide_eq_true g37
          refine x_new1 (N' := x3.toNatClampNeg) hx hb (hts _ q144) hK.1 hP hS hA c36 rfl (by omega) (by first | omega | (dsimp only; omega)) (by first | omega | (dsimp only; omega)) dX0_sheet_72 (fun H hP hS => ?_)
          obtain ⟨S38, eS38⟩ : ∃ y : XS, y = xnew S (aeI 1 x3.toNatClampNeg (fun _ => 0)) := ⟨_, rfl⟩
          rw [← eS38] at hP
          have h := nm_at eS38 h
          refine W.widen (k := 1) (n := 24) (by omega) (by omega) ?_
          refine lv_goto (tgt := 92) hx hb dX0_sheet_74 (by decide) ?_
          refine W.widen (k := 1) (n := 24) (by omega) (by omega) ?_
          exact B92 x0 a14 (some S.2) S38 _ _ _ hP hS (lv_sub hl [0] rfl) h
    · have h := ite_t c15 h
      refine lv_null hx hb dX0_sheet_61 ?_
      refine lv_goto (tgt := 92) hx hb dX0_sheet_62 (by decide) ?_
      refine W.widen (k := 1) (n := 24) (by omega) (by omega) ?_
      exact B92 x0 a14 none S _ _ _ hP hS (lv_sub hl [0] rfl) h
  have B35 : ∀ (x0 : Nat) (x1 : Int32) (x2 : Int32) (x3 : Int32) (S : XS) (H : Heap) (locs : List Loc) (ls : Array Slot), xP D cA A S H → va_S A s.heap H locs → lv_has ls 5 [(0, .ref x0), (1, .int x1), (2, .int x2), (3, .int x3)] → bX0_sheet_35  x0 x1 x2 x3 S = some out → W p l e ({ frames := 7, cells := 4, slots := 78, locals := 10248 } : Room) s m args below meth c H locs 0 0 Q (F0 m 35 ls []) := by
    intro x0 x1 x2 x3 S H locs ls hP hS hl h
    unfold bX0_sheet_35 at h
    refine lv_iload_n hx hb dX0_sheet_35 rfl (lv_at hl 2 rfl) ?_
    refine lv_if_eq (tgt := 51) hx hb dX0_sheet_36 (by decide) (fun c45 => ?_) (fun c45 => ?_)
    · have h := ite_t c45 h
      refine W.widen (k := 0) (n := 0) (by omega) (by omega) ?_
      exact B51 x0 x1 x2 x3 S _ _ _ hP hS hl h
    · have h := ite_f c45 h
      refine lv_iload_n hx hb dX0_sheet_39 rfl (lv_at hl 3 rfl) ?_
      refine lv_bipush (v := (24 : Int32)) hx hb dX0_sheet_40 (by decide) ?_
      refine lv_icmp_le (tgt := 51) hx hb dX0_sheet_42 (by decide) (fun c46 => ?_) (fun c46 => ?_)
      · have h := ite_t c46 h
        refine W.widen (k := 0) (n := 0) (by omega) (by omega) ?_
        exact B51 x0 x1 x2 x3 S _ _ _ hP hS hl h
      · have h := ite_f c46 h
        refine lv_aload_n hx hb dX0_sheet_45 rfl (lv_at hl 0 rfl) ?_
        refine lv_iconst (v := (1 : Int32)) hx hb dX0_sheet_46 (by decide) ?_
        obtain ⟨g49, h⟩ := chk_some h
        obtain ⟨fg49, g49⟩ := isC_some g49
        obtain ⟨v50, S48, e47, h⟩ := bnd_some h
        refine gci (va_runV (As := [.int (1 : Int32)]) (rest := []) ⟨hx, hb, hml, hown, hts⟩ (mX0_finds (l := l) (D := D) (cA := cA) (A := A) x0 (1 : Int32) S e47) (cwV 1 hts (lw_V q290 q292 qs1 q86 q293) rfl rfl rfl (by decide +kernel) ⟨Nat.le_of_ble_eq_true rfl, Nat.le_of_ble_eq_true rfl⟩) (gPreV xKst hK hA hS hP (x_recv (q := (RX0, TX0, 16)) hK.1 hP rfl g49)) rfl rfl hl.1 rfl (lv_room (Nat.le_of_ble_eq_true rfl)) dX0_sheet_47 ⟨by first | omega | (dsimp only; omega), by first | omega | (dsimp only; omega)⟩) hS (fun H locs hP hS => ?_)
        refine W.widen (k := 4) (n := 78) (by omega) (by omega) ?_
        exact ret _ _ _ _ _ _ dX0_sheet_50 rfl hP hS h
  unfold fX0_sheet at h
  refine lv_iload_n hx hb dX0_sheet_0 rfl (lv_at hl 1 rfl) ?_
  obtain ⟨v53, S52, e51, h⟩ := bnd_some h
  refine gci (va_runS (As := [.int x1]) (rest := []) ⟨hx, hb, hml, hown, hts⟩ (mX0_isSheet (l := l) (D := D) (cA := cA) (A := A) x1 S e51) (va_cwS 1 hts (lw_S q1011 q1012 q86 q1013) rfl rfl rfl (by decide +kernel) ⟨Nat.le_of_ble_eq_true rfl, Nat.le_of_ble_eq_true rfl⟩) (gPreS xKst hK hA hS hP) rfl rfl hl.1 rfl (lv_room (Nat.le_of_ble_eq_true rfl)) dX0_sheet_1 ⟨by first | omega | (dsimp only; omega), by first | omega | (dsimp only; omega)⟩) hS (fun H locs hP hS => ?_)
  refine lv_if_eq (tgt := 29) hx hb dX0_sheet_4 (by decide) (fun c54 => ?_) (fun c54 => ?_)
  · have h := ite_t c54 h
    refine W.widen (k := 0) (n := 0) (by omega) (by omega) ?_
    exact B29 x0 S52 _ _ _ hP hS (lv_sub hl [0] rfl) h
  · have h := ite_f c54 h
    refine lv_iload_n hx hb dX0_sheet_7 rfl (lv_at hl 2 rfl) ?_
    refine lv_if_eq (tgt := 35) hx hb dX0_sheet_8 (by decide) (fun c55 => ?_) (fun c55 => ?_)
    · have h := ite_t c55 h
      refine W.widen (k := 0) (n := 0) (by omega) (by omega) ?_
      exact B35 x0 x1 x2 x3 S52 _ _ _ hP hS hl h
    · have h := ite_f c55 h
      refine lv_iload_n hx hb dX0_sheet_11 rfl (lv_at hl 2 rfl) ?_
      refine lv_bipush (v := (8 : Int32)) hx hb dX0_sheet_12 (by decide) ?_
      refine lv_icmp_eq (tgt := 35) hx hb dX0_sheet_14 (by decide) (fun c56 => ?_) (fun c56 => ?_)
      · have h := ite_t c56 h
        refine W.widen (k := 0) (n := 0) (by omega) (by omega) ?_
        exact B35 x0 x1 x2 x3 S52 _ _ _ hP hS hl h
      · have h := ite_f c56 h
        refine lv_iload_n hx hb dX0_sheet_17 rfl (lv_at hl 2 rfl) ?_
        refine lv_bipush (v := (16 : Int32)) hx hb dX0_sheet_18 (by decide) ?_
        refine lv_icmp_eq (tgt := 35) hx hb dX0_sheet_20 (by decide) (fun c57 => ?_) (fun c57 => ?_)
        · have h := ite_t c57 h
          refine W.widen (k := 0) (n := 0) (by omega) (by omega) ?_
          exact B35 x0 x1 x2 x3 S52 _ _ _ hP hS hl h
        · have h := ite_f c57 h
          refine lv_iload_n hx hb dX0_sheet_23 rfl (lv_at hl 2 rfl) ?_
          refine lv_bipush (v := (32 : Int32)) hx hb dX0_sheet_24 (by decide) ?_
          refine lv_icmp_eq (tgt := 35) hx hb dX0_sheet_26 (by decide) (fun c58 => ?_) (fun c58 => ?_)
          · have h := ite_t c58 h
            refine W.widen (k := 0) (n := 0) (by omega) (by omega) ?_
            exact B35 x0 x1 x2 x3 S52 _ _ _ hP hS hl h
          · have h := ite_f c58 h
            refine W.widen (k := 0) (n := 0) (by omega) (by omega) ?_
            exact B29 x0 S52 _ _ _ hP hS (lv_sub hl [0] rfl) h
