def bX0_worked_133 (k4 : Nat → Nat → Int32 → Int32 → XS → Option (Int32 × XS)) (x0 : Nat) (x1 : Nat) (x2 : Int32) (x3 : Int32) (S : XS) : Option (Int32 × XS) :=
nm (x3 + (1 : Int32)) fun y1 =>
k4 x0 x1 x2 y1 S
def bX0_worked_63 (k4 : Nat → Nat → Int32 → Int32 → XS → Option (Int32 × XS)) (x0 : Nat) (x1 : Nat) (x2 : Int32) (x3 : Int32) (t0 : Nat) (t1 : Int32) (t2 : Int32) (S : XS) : Option (Int32 × XS) :=
bn1 (sI S t0 0 t1 t2) fun S3 =>
nm (x2 + (1 : Int32)) fun y4 =>
bX0_worked_133 k4 x0 x1 y4 x3 S3
def bX0_worked_32 (k4 : Nat → Nat → Int32 → Int32 → XS → Option (Int32 × XS)) (x0 : Nat) (x1 : Nat) (x2 : Int32) (x3 : Int32) (x4 : Int32) (S : XS) : Option (Int32 × XS) :=
bn1 (gR S x0 0 0) fun a6 =>
(if x4 = (1 : Int32) then
bn1 (gR S x1 13 1) fun a17 =>
bn1 (aI S a17 2 x3) fun v19 =>
bX0_worked_63 k4 x0 x1 x2 x3 a6 x2 v19 S
else
bn1 (gR S x0 0 1) fun a9 =>
bn1 (gR S x1 13 1) fun a11 =>
bn1 (aI S a11 2 x3) fun v13 =>
bn1 (aI S a9 0 v13) fun v15 =>
bX0_worked_63 k4 x0 x1 x2 x3 a6 x2 v15 S)
def bX0_worked_99 (k4 : Nat → Nat → Int32 → Int32 → XS → Option (Int32 × XS)) (x0 : Nat) (x1 : Nat) (x2 : Int32) (x3 : Int32) (t0 : Nat) (t1 : Int32) (t2 : Int32) (S : XS) : Option (Int32 × XS) :=
bn1 (sI S t0 0 t1 t2) fun S21 =>
bX0_worked_133 k4 x0 x1 x2 x3 S21
def bX0_worked_4 (k4 : Nat → Nat → Int32 → Int32 → XS → Option (Int32 × XS)) (x0 : Nat) (x1 : Nat) (x2 : Int32) (x3 : Int32) (S : XS) : Option (Int32 × XS) :=
bn1 (gI S x1 13 2) fun v23 =>
(if v23 ≤ x3 then
bn1 (gR S x0 0 0) fun a26 =>
bn1 (aI S a26 0 (0 : Int32)) fun v28 =>
some (v28, S)
else
bn1 (gR S x1 13 0) fun a30 =>
bn1 (aI S a30 1 x3) fun v32 =>
(if v32 = (1 : Int32) then
bX0_worked_32 k4 x0 x1 x2 x3 v32 S
else
(if v32 = (2 : Int32) then
bX0_worked_32 k4 x0 x1 x2 x3 v32 S
else
(if v32 = (3 : Int32) then
bn1 (gR S x0 0 0) fun a53 =>
bn1 (gR S x0 0 0) fun a55 =>
bn1 (aI S a55 0 (x2 - (1 : Int32))) fun v57 =>
(if v57 = 0 then
bX0_worked_99 k4 x0 x1 x2 x3 a53 (x2 - (1 : Int32)) (1 : Int32) S
else
bX0_worked_99 k4 x0 x1 x2 x3 a53 (x2 - (1 : Int32)) (0 : Int32) S)
else
nm (x2 + (-1 : Int32)) fun y36 =>
bn1 (gR S x0 0 0) fun a38 =>
bn1 (gR S x0 0 0) fun a40 =>
bn1 (aI S a40 0 (y36 - (1 : Int32))) fun v42 =>
bn1 (gR S x0 0 0) fun a44 =>
bn1 (aI S a44 0 y36) fun v46 =>
bnd (fX0_both v32 v42 v46 S) fun v49 S48 =>
bn1 (sI S48 a38 0 (y36 - (1 : Int32)) v49) fun S51 =>
bX0_worked_133 k4 x0 x1 y36 x3 S51))))
def lX0_worked_4 : Nat → (Nat → Nat → Int32 → Int32 → XS → Option (Int32 × XS))
  | 0 => fun _ _ _ _ _ => none
  | n + 1 => bX0_worked_4 (lX0_worked_4 n)
def fX0_worked (x0 : Nat) (x1 : Nat) (S : XS) : Option (Int32 × XS) :=
lX0_worked_4 FU x0 x1 (0 : Int32) (0 : Int32) S
set_option maxHeartbeats 4000000 in
set_option maxRecDepth 100000 in
theorem mX0_worked {l : Launch} {D : va_G} {cA : Nat → ClassId} {A : Nat → Prop} (x0 : Nat) (x1 : Nat) (S : XS) {out : (Int32 × XS)} (h : fX0_worked x0 x1 S = some out) : Met l yX0_worked (ws_ yX0_worked cX0_worked 5 (some .int)) ({ frames := 1, cells := 0, slots := 0, locals := 22 } : Room) (gPc (xK D cA A) (xP D cA A) A [.ref x0, .ref x1] S) (gQi (xK D cA A) (xP D cA A) A out) 0 0 A := by
  refine gMet_z (by decide) (Nat.le_of_ble_eq_true rfl) ?_ xKst
  intro p e s m below meth c Q ls args H locs hC hP hS hl ret
  obtain ⟨hx, hb, hml, hown, hts, hA, hK⟩ := hC
  have hown : s.vm.findClass RX0 = some m.cls := hown
  have hl : lv_has ls 5 [(0, .ref x0), (1, .ref x1)] := hl
  have L4 : ∀ (n4 : Nat) (x0 : Nat) (x1 : Nat) (x2 : Int32) (x3 : Int32) (S : XS) (H : Heap) (locs : List Loc) (ls : Array Slot), xP D cA A S H → va_S A s.heap H locs → lv_has ls 5 [(0, .ref x0), (1, .ref x1), (2, .int x2), (3, .int x3)] → lX0_worked_4 n4 x0 x1 x2 x3 S = some out → W p l e ({ frames := 1, cells := 0, slots := 0, locals := 22 } : Room) s m args below meth c H locs 0 0 Q (F0 m 4 ls []) := by
    intro n4
    induction n4 with
    | zero =>
      intro x0 x1 x2 x3 S H locs ls hP hS hl h
      cases h
    | succ n4 ih4 =>
      have B133 : ∀ (x0 : Nat) (x1 : Nat) (x2 : Int32) (x3 : Int32) (S : XS) (H : Heap) (locs : List Loc) (ls : Array Slot), xP D cA A S H → va_S A s.heap H locs → lv_has ls 5 [(0, .ref x0), (1, .ref x1), (2, .int x2), (3, .int x3)] → bX0_worked_133 (lX0_worked_4 n4) x0 x1 x2 x3 S = some out → W p l e ({ frames := 1, cells := 0, slots := 0, locals := 22 } : Room) s m args below meth c H locs 0 0 Q (F0 m 133 ls []) := by
        intro x0 x1 x2 x3 S H locs ls hP hS hl h
        unfold bX0_worked_133 at h
        obtain ⟨y1, ey1⟩ : ∃ y : Int32, y = x3 + (1 : Int32) := ⟨_, rfl⟩
        refine lv_iinc (v := y1) (lv' := [(3, .int y1), (0, .ref x0), (1, .ref x1), (2, .int x2)]) hx hb dX0_worked_133 hl (k := 3) rfl (by rw [ey1]; rfl) (by decide) rfl (fun ls hl => ?_)
        have h := nm_at ey1 h
        refine lv_goto (tgt := 4) hx hb dX0_worked_136 (by decide) ?_
        exact ih4 x0 x1 x2 y1 S _ _ _ hP hS (lv_sub hl [1, 2, 3, 0] rfl) h
      have B63 : ∀ (x0 : Nat) (x1 : Nat) (x2 : Int32) (x3 : Int32) (t0 : Nat) (t1 : Int32) (t2 : Int32) (S : XS) (H : Heap) (locs : List Loc) (ls : Array Slot), xP D cA A S H → va_S A s.heap H locs → lv_has ls 5 [(0, .ref x0), (1, .ref x1), (2, .int x2), (3, .int x3)] → bX0_worked_63 (lX0_worked_4 n4) x0 x1 x2 x3 t0 t1 t2 S = some out → W p l e ({ frames := 1, cells := 0, slots := 0, locals := 22 } : Room) s m args below meth c H locs 0 0 Q (F0 m 63 ls [.int t2, .int t1, .ref t0]) := by
        intro x0 x1 x2 x3 t0 t1 t2 S H locs ls hP hS hl h
        unfold bX0_worked_63 at h
        obtain ⟨S3, e2, h⟩ := bn1_some h
        refine x_iast hx hb hK.1 hP hS e2 dX0_worked_63 (fun H locs hP hS => ?_)
        obtain ⟨y4, ey4⟩ : ∃ y : Int32, y = x2 + (1 : Int32) := ⟨_, rfl⟩
        refine lv_iinc (v := y4) (lv' := [(2, .int y4), (0, .ref x0), (1, .ref x1), (3, .int x3)]) hx hb dX0_worked_64 hl (k := 2) rfl (by rw [ey4]; rfl) (by decide) rfl (fun ls hl => ?_)
        have h := nm_at ey4 h
        refine lv_goto (tgt := 133) hx hb dX0_worked_67 (by decide) ?_
        exact B133 x0 x1 y4 x3 S3 _ _ _ hP hS (lv_sub hl [1, 2, 0, 3] rfl) h
      have B32 : ∀ (x0 : Nat) (x1 : Nat) (x2 : Int32) (x3 : Int32) (x4 : Int32) (S : XS) (H : Heap) (locs : List Loc) (ls : Array Slot), xP D cA A S H → va_S A s.heap H locs → lv_has ls 5 [(0, .ref x0), (1, .ref x1), (2, .int x2), (3, .int x3), (4, .int x4)] → bX0_worked_32 (lX0_worked_4 n4) x0 x1 x2 x3 x4 S = some out → W p l e ({ frames := 1, cells := 0, slots := 0, locals := 22 } : Room) s m args below meth c H locs 0 0 Q (F0 m 32 ls []) := by
        intro x0 x1 x2 x3 x4 S H locs ls hP hS hl h
        unfold bX0_worked_32 at h
        refine lv_aload_n hx hb dX0_worked_32 rfl (lv_at hl 0 rfl) ?_
        obtain ⟨a6, e5, h⟩ := bn1_some h
        refine x_get (C := RX0) (T := TX0) (N := 16) (ci := 0) hx hb hts in_X0 hown hK.1 hP rfl 0 (by decide) (hts _ q229) (fun _ h9 => h9) (gR_some e5) dX0_worked_33 ?_
        refine lv_iload_n hx hb dX0_worked_36 rfl (lv_at hl 2 rfl) ?_
        refine lv_iload hx hb dX0_worked_37 (lv_at hl 4 rfl) ?_
        refine lv_iconst (v := (1 : Int32)) hx hb dX0_worked_39 (by decide) ?_
        refine lv_icmp_ne (tgt := 52) hx hb dX0_worked_40 (by decide) (fun c7 => ?_) (fun c7 => ?_)
        · have h := ite_f c7 h
          refine lv_aload_n hx hb dX0_worked_52 rfl (lv_at hl 0 rfl) ?_
          obtain ⟨a9, e8, h⟩ := bn1_some h
          refine x_get (C := RX0) (T := TX0) (N := 16) (ci := 0) hx hb hts in_X0 hown hK.1 hP rfl 1 (by decide) (hts _ q230) (fun _ h9 => h9) (gR_some e8) dX0_worked_53 ?_
          refine lv_aload_n hx hb dX0_worked_56 rfl (lv_at hl 1 rfl) ?_
          obtain ⟨a11, e10, h⟩ := bn1_some h
          refine x_getN (C := RX13) (T := TX13) (N := 3) (ci := 13) hx hb hts in_X13 hown hK.1 hP rfl 1 (by decide) (hK.2.1 _ q627 rfl) (fun _ h9 => h9) (gR_some e10) dX0_worked_57 ?_
          refine lv_iload_n hx hb dX0_worked_60 rfl (lv_at hl 3 rfl) ?_
          obtain ⟨v13, e12, h⟩ := bn1_some h
          refine x_sald hx hb hK.1 hP e12 dX0_worked_61 ?_
          obtain ⟨v15, e14, h⟩ := bn1_some h
          refine x_iald hx hb hK.1 hP e14 dX0_worked_62 ?_
          exact B63 x0 x1 x2 x3 a6 x2 v15 S _ _ _ hP hS (lv_sub hl [0, 1, 2, 3] rfl) h
        · have h := ite_t c7 h
          refine lv_aload_n hx hb dX0_worked_43 rfl (lv_at hl 1 rfl) ?_
          obtain ⟨a17, e16, h⟩ := bn1_some h
          refine x_getN (C := RX13) (T := TX13) (N := 3) (ci := 13) hx hb hts in_X13 hown hK.1 hP rfl 1 (by decide) (hK.2.1 _ q627 rfl) (fun _ h9 => h9) (gR_some e16) dX0_worked_44 ?_
          refine lv_iload_n hx hb dX0_worked_47 rfl (lv_at hl 3 rfl) ?_
          obtain ⟨v19, e18, h⟩ := bn1_some h
          refine x_sald hx hb hK.1 hP e18 dX0_worked_48 ?_
          refine lv_goto (tgt := 63) hx hb dX0_worked_49 (by decide) ?_
          exact B63 x0 x1 x2 x3 a6 x2 v19 S _ _ _ hP hS (lv_sub hl [0, 1, 2, 3] rfl) h
      have B99 : ∀ (x0 : Nat) (x1 : Nat) (x2 : Int32) (x3 : Int32) (t0 : Nat) (t1 : Int32) (t2 : Int32) (S : XS) (H : Heap) (locs : List Loc) (ls : Array Slot), xP D cA A S H → va_S A s.heap H locs → lv_has ls 5 [(0, .ref x0), (1, .ref x1), (2, .int x2), (3, .int x3)] → bX0_worked_99 (lX0_worked_4 n4) x0 x1 x2 x3 t0 t1 t2 S = some out → W p l e ({ frames := 1, cells := 0, slots := 0, locals := 22 } : Room) s m args below meth c H locs 0 0 Q (F0 m 99 ls [.int t2, .int t1, .ref t0]) := by
        intro x0 x1 x2 x3 t0 t1 t2 S H locs ls hP hS hl h
        unfold bX0_worked_99 at h
        obtain ⟨S21, e20, h⟩ := bn1_some h
        refine x_iast hx hb hK.1 hP hS e20 dX0_worked_99 (fun H locs hP hS => ?_)
        refine lv_goto (tgt := 133) hx hb dX0_worked_100 (by decide) ?_
        exact B133 x0 x1 x2 x3 S21 _ _ _ hP hS hl h
      intro x0 x1 x2 x3 S H locs ls hP hS hl h
      replace h : bX0_worked_4 (lX0_worked_4 n4) x0 x1 x2 x3 S = some out := h
      unfold bX0_worked_4 at h
      refine lv_iload_n hx hb dX0_worked_4 rfl (lv_at hl 3 rfl) ?_
      refine lv_aload_n hx hb dX0_worked_5 rfl (lv_at hl 1 rfl) ?_
      obtain ⟨v23, e22, h⟩ := bn1_some h
      refine x_getN (C := RX13) (T := TX13) (N := 3) (ci := 13) hx hb hts in_X13 hown hK.1 hP rfl 2 (by decide) (hK.2.1 _ q629 rfl) (fun _ h9 => h9) (gI_some e22) dX0_worked_6 ?_
      refine lv_icmp_ge (tgt := 139) hx hb dX0_worked_9 (by decide) (fun c24 => ?_) (fun c24 => ?_)
      · have h := ite_t c24 h
        refine lv_aload_n hx hb dX0_worked_139 rfl (lv_at hl 0 rfl) ?_
        obtain ⟨a26, e25, h⟩ := bn1_some h
        refine x_get (C := RX0) (T := TX0) (N := 16) (ci := 0) hx hb hts in_X0 hown hK.1 hP rfl 0 (by decide) (hts _ q229) (fun _ h9 => h9) (gR_some e25) dX0_worked_140 ?_
        refine lv_iconst (v := (0 : Int32)) hx hb dX0_worked_143 (by decide) ?_
        obtain ⟨v28, e27, h⟩ := bn1_some h
        refine x_iald hx hb hK.1 hP e27 dX0_worked_144 ?_
        exact ret _ _ _ _ _ _ dX0_worked_145 rfl hP hS h
      · have h := ite_f c24 h
        refine lv_aload_n hx hb dX0_worked_12 rfl (lv_at hl 1 rfl) ?_
        obtain ⟨a30, e29, h⟩ := bn1_some h
        refine x_getN (C := RX13) (T := TX13) (N := 3) (ci := 13) hx hb hts in_X13 hown hK.1 hP rfl 0 (by decide) (hK.2.1 _ q625 rfl) (fun _ h9 => h9) (gR_some e29) dX0_worked_13 ?_
        refine lv_iload_n hx hb dX0_worked_16 rfl (lv_at hl 3 rfl) ?_
        obtain ⟨v32, e31, h⟩ := bn1_some h
        refine x_bald hx hb hK.1 hP e31 dX0_worked_17 ?_
        refine lv_istore (lv' := [(4, .int v32), (0, .ref x0), (1, .ref x1), (2, .int x2), (3, .int x3)]) hx hb dX0_worked_18 hl (by decide) rfl (fun ls hl => ?_)
        refine lv_iload hx hb dX0_worked_20 (lv_at hl 0 rfl) ?_
        refine lv_iconst (v := (1 : Int32)) hx hb dX0_worked_22 (by decide) ?_
        refine lv_icmp_eq (tgt := 32) hx hb dX0_worked_23 (by decide) (fun c33 => ?_) (fun c33 => ?_)
        · have h := ite_t c33 h
          exact B32 x0 x1 x2 x3 v32 S _ _ _ hP hS (lv_sub hl [1, 2, 3, 4, 0] rfl) h
        · have h := ite_f c33 h
          refine lv_iload hx hb dX0_worked_26 (lv_at hl 0 rfl) ?_
          refine lv_iconst (v := (2 : Int32)) hx hb dX0_worked_28 (by decide) ?_
          refine lv_icmp_ne (tgt := 70) hx hb dX0_worked_29 (by decide) (fun c34 => ?_) (fun c34 => ?_)
          · have h := ite_f c34 h
            refine lv_iload hx hb dX0_worked_70 (lv_at hl 0 rfl) ?_
            refine lv_iconst (v := (3 : Int32)) hx hb dX0_worked_72 (by decide) ?_
            refine lv_icmp_ne (tgt := 103) hx hb dX0_worked_73 (by decide) (fun c35 => ?_) (fun c35 => ?_)
            · have h := ite_f c35 h
              obtain ⟨y36, ey36⟩ : ∃ y : Int32, y = x2 + (-1 : Int32) := ⟨_, rfl⟩
              refine lv_iinc (v := y36) (lv' := [(2, .int y36), (4, .int v32), (0, .ref x0), (1, .ref x1), (3, .int x3)]) hx hb dX0_worked_103 hl (k := 3) rfl (by rw [ey36]; rfl) (by decide) rfl (fun ls hl => ?_)
              have h := nm_at ey36 h
              refine lv_aload_n hx hb dX0_worked_106 rfl (lv_at hl 2 rfl) ?_
              obtain ⟨a38, e37, h⟩ := bn1_some h
              refine x_get (C := RX0) (T := TX0) (N := 16) (ci := 0) hx hb hts in_X0 hown hK.1 hP rfl 0 (by decide) (hts _ q229) (fun _ h9 => h9) (gR_some e37) dX0_worked_107 ?_
              refine lv_iload_n hx hb dX0_worked_110 rfl (lv_at hl 0 rfl) ?_
              refine lv_iconst (v := (1 : Int32)) hx hb dX0_worked_111 (by decide) ?_
              refine lv_isub hx hb dX0_worked_112 ?_
              refine lv_iload hx hb dX0_worked_113 (lv_at hl 1 rfl) ?_
              refine lv_aload_n hx hb dX0_worked_115 rfl (lv_at hl 2 rfl) ?_
              obtain ⟨a40, e39, h⟩ := bn1_some h
              refine x_get (C := RX0) (T := TX0) (N := 16) (ci := 0) hx hb hts in_X0 hown hK.1 hP rfl 0 (by decide) (hts _ q229) (fun _ h9 => h9) (gR_some e39) dX0_worked_116 ?_
              refine lv_iload_n hx hb dX0_worked_119 rfl (lv_at hl 0 rfl) ?_
              refine lv_iconst (v := (1 : Int32)) hx hb dX0_worked_120 (by decide) ?_
              refine lv_isub hx hb dX0_worked_121 ?_
              obtain ⟨v42, e41, h⟩ := bn1_some h
              refine x_iald hx hb hK.1 hP e41 dX0_worked_122 ?_
              refine lv_aload_n hx hb dX0_worked_123 rfl (lv_at hl 2 rfl) ?_
              obtain ⟨a44, e43, h⟩ := bn1_some h
              refine x_get (C := RX0) (T := TX0) (N := 16) (ci := 0) hx hb hts in_X0 hown hK.1 hP rfl 0 (by decide) (hts _ q229) (fun _ h9 => h9) (gR_some e43) dX0_worked_124 ?_
              refine lv_iload_n hx hb dX0_worked_127 rfl (lv_at hl 0 rfl) ?_
              obtain ⟨v46, e45, h⟩ := bn1_some h
              refine x_iald hx hb hK.1 hP e45 dX0_worked_128 ?_
              obtain ⟨v49, S48, e47, h⟩ := bnd_some h
              refine gci (va_runS (As := [.int v32, .int v42, .int v46]) (rest := [.int (y36 - (1 : Int32)), .ref a38]) ⟨hx, hb, hml, hown, hts⟩ (mX0_both (l := l) (D := D) (cA := cA) (A := A) v32 v42 v46 S e47) (va_cwS 3 hts (lw_S q502 q503 q86 q504) rfl rfl rfl (by decide +kernel) ⟨Nat.le_of_ble_eq_true rfl, Nat.le_of_ble_eq_true rfl⟩) (gPreS xKst hK hA hS hP) rfl rfl hl.1 rfl (lv_room (Nat.le_of_ble_eq_true rfl)) dX0_worked_129 ⟨by first | omega | (dsimp only; omega), by first | omega | (dsimp only; omega)⟩) hS (fun H locs hP hS => ?_)
              obtain ⟨S51, e50, h⟩ := bn1_some h
              refine x_iast hx hb hK.1 hP hS e50 dX0_worked_132 (fun H locs hP hS => ?_)
              exact B133 x0 x1 y36 x3 S51 _ _ _ hP hS (lv_sub hl [2, 3, 0, 4] rfl) h
            · have h := ite_t c35 h
              refine lv_aload_n hx hb dX0_worked_76 rfl (lv_at hl 1 rfl) ?_
              obtain ⟨a53, e52, h⟩ := bn1_some h
              refine x_get (C := RX0) (T := TX0) (N := 16) (ci := 0) hx hb hts in_X0 hown hK.1 hP rfl 0 (by decide) (hts _ q229) (fun _ h9 => h9) (gR_some e52) dX0_worked_77 ?_
              refine lv_iload_n hx hb dX0_worked_80 rfl (lv_at hl 3 rfl) ?_
              refine lv_iconst (v := (1 : Int32)) hx hb dX0_worked_81 (by decide) ?_
              refine lv_isub hx hb dX0_worked_82 ?_
              refine lv_aload_n hx hb dX0_worked_83 rfl (lv_at hl 1 rfl) ?_
              obtain ⟨a55, e54, h⟩ := bn1_some h
              refine x_get (C := RX0) (T := TX0) (N := 16) (ci := 0) hx hb hts in_X0 hown hK.1 hP rfl 0 (by decide) (hts _ q229) (fun _ h9 => h9) (gR_some e54) dX0_worked_84 ?_
              refine lv_iload_n hx hb dX0_worked_87 rfl (lv_at hl 3 rfl) ?_
              refine lv_iconst (v := (1 : Int32)) hx hb dX0_worked_88 (by decide) ?_
              refine lv_isub hx hb dX0_worked_89 ?_
              obtain ⟨v57, e56, h⟩ := bn1_some h
              refine x_iald hx hb hK.1 hP e56 dX0_worked_90 ?_
              refine lv_if_ne (tgt := 98) hx hb dX0_worked_91 (by decide) (fun c58 => ?_) (fun c58 => ?_)
              · have h := ite_f c58 h
                refine lv_iconst (v := (0 : Int32)) hx hb dX0_worked_98 (by decide) ?_
                exact B99 x0 x1 x2 x3 a53 (x2 - (1 : Int32)) (0 : Int32) S _ _ _ hP hS (lv_sub hl [1, 2, 3, 4] rfl) h
              · have h := ite_t c58 h
                refine lv_iconst (v := (1 : Int32)) hx hb dX0_worked_94 (by decide) ?_
                refine lv_goto (tgt := 99) hx hb dX0_worked_95 (by decide) ?_
                exact B99 x0 x1 x2 x3 a53 (x2 - (1 : Int32)) (1 : Int32) S _ _ _ hP hS (lv_sub hl [1, 2, 3, 4] rfl) h
          · have h := ite_t c34 h
            exact B32 x0 x1 x2 x3 v32 S _ _ _ hP hS (lv_sub hl [1, 2, 3, 4, 0] rfl) h
  unfold fX0_worked at h
  refine lv_iconst (v := (0 : Int32)) hx hb dX0_worked_0 (by decide) ?_
  refine lv_istore_n (lv' := [(2, .int (0 : Int32)), (0, .ref x0), (1, .ref x1)]) hx hb dX0_worked_1 rfl hl (by decide) rfl (fun ls hl => ?_)
  refine lv_iconst (v := (0 : Int32)) hx hb dX0_worked_2 (by decide) ?_
  refine lv_istore_n (lv' := [(3, .int (0 : Int32)), (2, .int (0 : Int32)), (0, .ref x0), (1, .ref x1)]) hx hb dX0_worked_3 rfl hl (by decide) rfl (fun ls hl => ?_)
  exact L4 FU x0 x1 (0 : Int32) (0 : Int32) S _ _ _ hP hS (lv_sub hl [2, 3, 1, 0] rfl) h

def fX0_held (x0 : Int32) (x1 : Int32) (x2 : Int32) (S : XS) : Option (Int32 × XS) :=
some ((if x1 < (if x0 < x2 then x0 else x2) then (if x0 < x2 then x0 else x2) else x1), S)
set_option maxHeartbeats 4000000 in
set_option maxRecDepth 100000 in
theorem mX0_held {l : Launch} {D : va_G} {cA : Nat → ClassId} {A : Nat → Prop} (x0 : Int32) (x1 : Int32) (x2 : Int32) (S : XS) {out : (Int32 × XS)} (h : fX0_held x0 x1 x2 S = some out) : Met l yX0_held (ws_ yX0_held cX0_held 3 (some .int)) ({ frames := 1, cells := 0, slots := 0, locals := 60 } : Room) (gPc (xK D cA A) (xP D cA A) A [.int x0, .int x1, .int x2] S) (gQi (xK D cA A) (xP D cA A) A out) 0 0 A := by
  refine gMet_z (by decide) (Nat.le_of_ble_eq_true rfl) ?_ xKst
  intro p e s m below meth c Q ls args H locs hC hP hS hl ret
  obtain ⟨hx, hb, hml, hown, hts, hA, hK⟩ := hC
  have hown : s.vm.findClass RX0 = some m.cls := hown
  have hl : lv_has ls 3 [(0, .int x0), (1, .int x1), (2, .int x2)] := hl
  unfold fX0_held at h
  refine lv_iload_n hx hb dX0_held_0 rfl (lv_at hl 1 rfl) ?_
  refine lv_iload_n hx hb dX0_held_1 rfl (lv_at hl 2 rfl) ?_
  refine lv_iload_n hx hb dX0_held_2 rfl (lv_at hl 0 rfl) ?_
  refine va_mmin hx hb (hml.trans hl.1.symm) hown (hts _ q508) (hts _ q509) (hts _ q98) (hts _ q510) (Nat.le_of_ble_eq_true rfl) (Nat.le_of_ble_eq_true rfl) (by first | exact Nat.zero_le _ | (dsimp only; omega)) (by first | exact Nat.zero_le _ | (dsimp only; omega)) dX0_held_3 ?_
  refine va_mmax hx hb (hml.trans hl.1.symm) hown (hts _ q511) (hts _ q512) (hts _ q98) (hts _ q513) (Nat.le_of_ble_eq_true rfl) (Nat.le_of_ble_eq_true rfl) (by first | exact Nat.zero_le _ | (dsimp only; omega)) (by first | exact Nat.zero_le _ | (dsimp only; omega)) dX0_held_6 ?_
  exact ret _ _ _ _ _ _ dX0_held_9 rfl hP hS h

def bX0_given_75 (x0 : Nat) (t0 : Int32) (S : XS) : Option (Int32 × XS) :=
some (t0, S)
def bX0_given_52 (x0 : Nat) (x1 : Int32) (x5 : Int32) (S : XS) : Option (Int32 × XS) :=
(if x1 = 0 then
bnd (fX0_held x5 (1 : Int32) (4 : Int32) S) fun v7 S6 =>
bX0_given_75 x0 v7 S6
else
bnd (fX0_held x5 (-30 : Int32) (30 : Int32) S) fun v4 S3 =>
bX0_given_75 x0 v4 S3)
def fX0_given (x0 : Nat) (x1 : Int32) (x2 : Int32) (x3 : Int32) (x4 : Int32) (S : XS) : Option (Int32 × XS) :=
bn1 (gR S x0 0 2) fun a9 =>
bn1 (gR S a9 1 13) fun a11 =>
bn1 (aQ S a11 5 x1) fun a13 =>
nlc a13 (
bX0_given_52 x0 x1 x2 S) fun a14 =>
bn1 (gR S x0 0 1) fun a16 =>
bn1 (sI S a16 0 (0 : Int32) x2) fun S18 =>
bn1 (gR S18 x0 0 1) fun a20 =>
bn1 (sI S18 a20 0 (1 : Int32) x3) fun S22 =>
bn1 (gR S22 x0 0 1) fun a24 =>
bn1 (sI S22 a24 0 (2 : Int32) x4) fun S26 =>
bn1 (gR S26 x0 0 2) fun a28 =>
bn1 (gR S26 a28 1 13) fun a30 =>
bn1 (aQ S26 a30 5 x1) fun a32 =>
bn1 a32 fun a33 =>
chk (isC S26 x0 0) (bnd (fX0_worked x0 a33 S26) fun v38 S36 =>
bX0_given_52 x0 x1 v38 S36)
set_option maxHeartbeats 4000000 in
set_option maxRecDepth 100000 in
theorem mX0_given {l : Launch} {D : va_G} {cA : Nat → ClassId} {A : Nat → Prop} (x0 : Nat) (x1 : Int32) (x2 : Int32) (x3 : Int32) (x4 : Int32) (S : XS) {out : (Int32 × XS)} (h : fX0_given x0 x1 x2 x3 x4 S = some out) : Met l yX0_given (ws_ yX0_given cX0_given 6 (some .int)) ({ frames := 2, cells := 0, slots := 0, locals := 82 } : Room) (gPc (xK D cA A) (xP D cA A) A [.ref x0, .int x1, .int x2, .int x3, .int x4] S) (gQi (xK D cA A) (xP D cA A) A out) 0 0 A := by
  refine gMet_z (by decide) (Nat.le_of_ble_eq_true rfl) ?_ xKst
  intro p e s m below meth c Q ls args H locs hC hP hS hl ret
  obtain ⟨hx, hb, hml, hown, hts, hA, hK⟩ := hC
  have hown : s.vm.findClass RX0 = some m.cls := hown
  have hl : lv_has ls 6 [(0, .ref x0), (1, .int x1), (2, .int x2), (3, .int x3), (4, .int x4)] := hl
  have B75 : ∀ (x0 : Nat) (t0 : Int32) (S : XS) (H : Heap) (locs : List Loc) (ls : Array Slot), xP D cA A S H → va_S A s.heap H locs → lv_has ls 6 [(0, .ref x0)] → bX0_given_75  x0 t0 S = some out → W p l e ({ frames := 2, cells := 0, slots := 0, locals := 82 } : Room) s m args below meth c H locs 0 0 Q (F0 m 75 ls [.int t0]) := by
    intro x0 t0 S H locs ls hP hS hl h
    unfold bX0_given_75 at h
    exact ret _ _ _ _ _ _ dX0_given_75 rfl hP hS h
  have B52 : ∀ (x0 : Nat) (x1 : Int32) (x5 : Int32) (S : XS) (H : Heap) (locs : List Loc) (ls : Array Slot), xP D cA A S H → va_S A s.heap H locs → lv_has ls 6 [(0, .ref x0), (1, .int x1), (5, .int x5)] → bX0_given_52  x0 x1 x5 S = some out → W p l e ({ frames := 2, cells := 0, slots := 0, locals := 82 } : Room) s m args below meth c H locs 0 0 Q (F0 m 52 ls []) := by
    intro x0 x1 x5 S H locs ls hP hS hl h
    unfold bX0_given_52 at h
    refine lv_iload_n hx hb dX0_given_52 rfl (lv_at hl 1 rfl) ?_
    refine lv_if_ne (tgt := 66) hx hb dX0_given_53 (by decide) (fun c1 => ?_) (fun c1 => ?_)
    · have h := ite_f c1 h
      refine lv_iload hx hb dX0_given_66 (lv_at hl 2 rfl) ?_
      refine lv_bipush (v := (-30 : Int32)) hx hb dX0_given_68 (by decide) ?_
      refine lv_bipush (v := (30 : Int32)) hx hb dX0_given_70 (by decide) ?_
      obtain ⟨v4, S3, e2, h⟩ := bnd_some h
      refine gci (va_runS (As := [.int x5, .int (-30 : Int32), .int (30 : Int32)]) (rest := []) ⟨hx, hb, hml, hown, hts⟩ (mX0_held (l := l) (D := D) (cA := cA) (A := A) x5 (-30 : Int32) (30 : Int32) S e2) (va_cwS 3 hts (lw_S q505 q506 q86 q507) rfl rfl rfl (by decide +kernel) ⟨Nat.le_of_ble_eq_true rfl, Nat.le_of_ble_eq_true rfl⟩) (gPreS xKst hK hA hS hP) rfl rfl hl.1 rfl (lv_room (Nat.le_of_ble_eq_true rfl)) dX0_given_72 ⟨by first | omega | (dsimp only; omega), by first | omega | (dsimp only; omega)⟩) hS (fun H locs hP hS => ?_)
      exact B75 x0 v4 S3 _ _ _ hP hS (lv_sub hl [0] rfl) h
    · have h := ite_t c1 h
      refine lv_iload hx hb dX0_given_56 (lv_at hl 2 rfl) ?_
      refine lv_iconst (v := (1 : Int32)) hx hb dX0_given_58 (by decide) ?_
      refine lv_iconst (v := (4 : Int32)) hx hb dX0_given_59 (by decide) ?_
      obtain ⟨v7, S6, e5, h⟩ := bnd_some h
      refine gci (va_runS (As := [.int x5, .int (1 : Int32), .int (4 : Int32)]) (rest := []) ⟨hx, hb, hml, hown, hts⟩ (mX0_held (l := l) (D := D) (cA := cA) (A := A) x5 (1 : Int32) (4 : Int32) S e5) (va_cwS 3 hts (lw_S q505 q506 q86 q507) rfl rfl rfl (by decide +kernel) ⟨Nat.le_of_ble_eq_true rfl, Nat.le_of_ble_eq_true rfl⟩) (gPreS xKst hK hA hS hP) rfl rfl hl.1 rfl (lv_room (Nat.le_of_ble_eq_true rfl)) dX0_given_60 ⟨by first | omega | (dsimp only; omega), by first | omega | (dsimp only; omega)⟩) hS (fun H locs hP hS => ?_)
      refine lv_goto (tgt := 75) hx hb dX0_given_63 (by decide) ?_
      exact B75 x0 v7 S6 _ _ _ hP hS (lv_sub hl [0] rfl) h
  unfold fX0_given at h
  refine lv_iload_n hx hb dX0_given_0 rfl (lv_at hl 2 rfl) ?_
  refine lv_istore (lv' := [(5, .int x2), (0, .ref x0), (1, .int x1), (2, .int x2), (3, .int x3), (4, .int x4)]) hx hb dX0_given_1 hl (by decide) rfl (fun ls hl => ?_)
  refine lv_aload_n hx hb dX0_given_3 rfl (lv_at hl 1 rfl) ?_
  obtain ⟨a9, e8, h⟩ := bn1_some h
  refine x_get (C := RX0) (T := TX0) (N := 16) (ci := 0) hx hb hts in_X0 hown hK.1 hP rfl 2 (by decide) (hts _ q231) (fun _ h9 => h9) (gR_some e8) dX0_given_4 ?_
  obtain ⟨a11, e10, h⟩ := bn1_some h
  refine x_getN (C := RX1) (T := TX1) (N := 16) (ci := 1) hx hb hts in_X1 hown hK.1 hP rfl 13 (by decide) (hK.2.1 _ q172 rfl) (fun _ h9 => h9) (gR_some e10) dX0_given_7 ?_
  refine lv_iload_n hx hb dX0_given_10 rfl (lv_at hl 2 rfl) ?_
  obtain ⟨a13, e12, h⟩ := bn1_some h
  refine x_aldq (t := 5) hx hb hK.1 hP (by decide) e12 dX0_given_11 ?_
  cases a13 with
  | none =>
    replace h := nlc_n h
    refine lv_ifnullN (tgt := 52) hx hb dX0_given_12 (by decide) ?_
    exact B52 x0 x1 x2 S _ _ _ hP hS (lv_sub hl [1, 2, 0] rfl) h
  | some a14 =>
    replace h := nlc_s h
    refine lv_ifnull hx hb dX0_given_12 ?_
    refine lv_aload_n hx hb dX0_given_15 rfl (lv_at hl 1 rfl) ?_
    obtain ⟨a16, e15, h⟩ := bn1_some h
    refine x_get (C := RX0) (T := TX0) (N := 16) (ci := 0) hx hb hts in_X0 hown hK.1 hP rfl 1 (by decide) (hts _ q230) (fun _ h9 => h9) (gR_some e15) dX0_given_16 ?_
    refine lv_iconst (v := (0 : Int32)) hx hb dX0_given_19 (by decide) ?_
    refine lv_iload_n hx hb dX0_given_20 rfl (lv_at hl 3 rfl) ?_
    obtain ⟨S18, e17, h⟩ := bn1_some h
    refine x_iast hx hb hK.1 hP hS e17 dX0_given_21 (fun H locs hP hS => ?_)
    refine lv_aload_n hx hb dX0_given_22 rfl (lv_at hl 1 rfl) ?_
    obtain ⟨a20, e19, h⟩ := bn1_some h
    refine x_get (C := RX0) (T := TX0) (N := 16) (ci := 0) hx hb hts in_X0 hown hK.1 hP rfl 1 (by decide) (hts _ q230) (fun _ h9 => h9) (gR_some e19) dX0_given_23 ?_
    refine lv_iconst (v := (1 : Int32)) hx hb dX0_given_26 (by decide) ?_
    refine lv_iload_n hx hb dX0_given_27 rfl (lv_at hl 4 rfl) ?_
    obtain ⟨S22, e21, h⟩ := bn1_some h
    refine x_iast hx hb hK.1 hP hS e21 dX0_given_28 (fun H locs hP hS => ?_)
    refine lv_aload_n hx hb dX0_given_29 rfl (lv_at hl 1 rfl) ?_
    obtain ⟨a24, e23, h⟩ := bn1_some h
    refine x_get (C := RX0) (T := TX0) (N := 16) (ci := 0) hx hb hts in_X0 hown hK.1 hP rfl 1 (by decide) (hts _ q230) (fun _ h9 => h9) (gR_some e23) dX0_given_30 ?_
    refine lv_iconst (v := (2 : Int32)) hx hb dX0_given_33 (by decide) ?_
    refine lv_iload hx hb dX0_given_34 (lv_at hl 5 rfl) ?_
    obtain ⟨S26, e25, h⟩ := bn1_some h
    refine x_iast hx hb hK.1 hP hS e25 dX0_given_36 (fun H locs hP hS => ?_)
    refine lv_aload_n hx hb dX0_given_37 rfl (lv_at hl 1 rfl) ?_
    refine lv_aload_n hx hb dX0_given_38 rfl (lv_at hl 1 rfl) ?_
    obtain ⟨a28, e27, h⟩ := bn1_some h
    refine x_get (C := RX0) (T := TX0) (N := 16) (ci := 0) hx hb hts in_X0 hown hK.1 hP rfl 2 (by decide) (hts _ q231) (fun _ h9 => h9) (gR_some e27) dX0_given_39 ?_
    obtain ⟨a30, e29, h⟩ := bn1_some h
    refine x_getN (C := RX1) (T := TX1) (N := 16) (ci := 1) hx hb hts in_X1 hown hK.1 hP rfl 13 (by decide) (hK.2.1 _ q172 rfl) (fun _ h9 => h9) (gR_some e29) dX0_given_42 ?_
    refine lv_iload_n hx hb dX0_given_45 rfl (lv_at hl 2 rfl) ?_
    obtain ⟨a32, e31, h⟩ := bn1_some h
    refine x_aldq (t := 5) hx hb hK.1 hP (by decide) e31 dX0_given_46 ?_
    obtain ⟨a33, e34, h⟩ := bn1_some h
    subst e34
    obtain ⟨g37, h⟩ := chk_some h
    obtain ⟨fg37, g37⟩ := isC_some g37
    obtain ⟨v38, S36, e35, h⟩ := bnd_some h
    refine gci (va_runV (As := [.ref a33]) (rest := []) ⟨hx, hb, hml, hown, hts⟩ (mX0_worked (l := l) (D := D) (cA := cA) (A := A) x0 a33 S26 e35) (cwV 1 hts (lw_V q498 q500 qs5 q86 q501) rfl rfl rfl (by decide +kernel) ⟨Nat.le_of_ble_eq_true rfl, Nat.le_of_ble_eq_true rfl⟩) (gPreV xKst hK hA hS hP (x_recv (q := (RX0, TX0, 16)) hK.1 hP rfl g37)) rfl rfl hl.1 rfl (lv_room (Nat.le_of_ble_eq_true rfl)) dX0_given_47 ⟨by first | omega | (dsimp only; omega), by first | omega | (dsimp only; omega)⟩) hS (fun H locs hP hS => ?_)
    refine lv_istore (lv' := [(5, .int v38), (0, .ref x0), (1, .int x1), (2, .int x2), (3, .int x3), (4, .int x4)]) hx hb dX0_given_50 hl (by decide) rfl (fun ls hl => ?_)
    exact B52 x0 x1 v38 S36 _ _ _ hP hS (lv_sub hl [1, 2, 0] rfl) h

def v_Seen_weight (a : Nat) (a0 : Nat) (S : XS) : Option (Int32 × XS) :=
  if isC S a 5 = true then fX5_weight a a0 S else
  if isC S a 6 = true then fX6_weight a a0 S else
  if isC S a 7 = true then fX7_weight a a0 S else
  if isC S a 8 = true then fX8_weight a a0 S else
  if isC S a 9 = true then fX9_weight a a0 S else
  if isC S a 10 = true then fX10_weight a a0 S else
  if isC S a 11 = true then fX11_weight a a0 S else
  none
theorem v_Seen_weight_c {a : Nat} {a0 : Nat} {S : XS} {o : (Int32 × XS)} (h : v_Seen_weight a a0 S = some o) : (isC S a 5 = true ∧ fX5_weight a a0 S = some o) ∨ (isC S a 6 = true ∧ fX6_weight a a0 S = some o) ∨ (isC S a 7 = true ∧ fX7_weight a a0 S = some o) ∨ (isC S a 8 = true ∧ fX8_weight a a0 S = some o) ∨ (isC S a 9 = true ∧ fX9_weight a a0 S = some o) ∨ (isC S a 10 = true ∧ fX10_weight a a0 S = some o) ∨ (isC S a 11 = true ∧ fX11_weight a a0 S = some o) := by
  unfold v_Seen_weight at h
  split at h
  · next hc => exact (Or.inl ⟨hc, h⟩)
  · skip
    split at h
    · next hc => exact (Or.inr (Or.inl ⟨hc, h⟩))
    · skip
      split at h
      · next hc => exact (Or.inr (Or.inr (Or.inl ⟨hc, h⟩)))
      · skip
        split at h
        · next hc => exact (Or.inr (Or.inr (Or.inr (Or.inl ⟨hc, h⟩))))
        · skip
          split at h
          · next hc => exact (Or.inr (Or.inr (Or.inr (Or.inr (Or.inl ⟨hc, h⟩)))))
          · skip
            split at h
            · next hc => exact (Or.inr (Or.inr (Or.inr (Or.inr (Or.inr (Or.inl ⟨hc, h⟩))))))
            · skip
              split at h
              · next hc => exact (Or.inr (Or.inr (Or.inr (Or.inr (Or.inr (Or.inr ⟨hc, h⟩))))))
              · cases h
def fX0_weightOf (x0 : Nat) (x1 : Int32) (S : XS) : Option (Int32 × XS) :=
bn1 (gR S x0 0 2) fun a2 =>
chk (isC S a2 1) (bnd (fX1_at a2 x1 S) fun a6 S4 =>
bn1 (gR S4 x0 0 2) fun a8 =>
bnd (v_Seen_weight a6 a8 S4) fun v9 S10 =>
bn1 (gR S10 x0 0 2) fun a13 =>
chk (isC S10 a13 1) (bnd (fX1_marks a13 x1 S10) fun v17 S15 =>
bn1 (gR S15 x0 0 2) fun a19 =>
bn1 (gI S15 a19 1 2) fun v21 =>
chk (isC S15 x0 0) (bnd (fX0_given x0 (0 : Int32) v9 v17 (v21 - v21 / (8 : Int32) * (8 : Int32)) S15) fun v25 S23 =>
some (v25, S23))))
set_option maxHeartbeats 4000000 in
set_option maxRecDepth 100000 in
theorem mX0_weightOf {l : Launch} {D : va_G} {cA : Nat → ClassId} {A : Nat → Prop} (x0 : Nat) (x1 : Int32) (S : XS) {out : (Int32 × XS)} (h : fX0_weightOf x0 x1 S = some out) : Met l yX0_weightOf (ws_ yX0_weightOf cX0_weightOf 3 (some .int)) ({ frames := 3, cells := 0, slots := 0, locals := 107 } : Room) (gPc (xK D cA A) (xP D cA A) A [.ref x0, .int x1] S) (gQi (xK D cA A) (xP D cA A) A out) 0 0 A := by
  refine gMet_z (by decide) (Nat.le_of_ble_eq_true rfl) ?_ xKst
  intro p e s m below meth c Q ls args H locs hC hP hS hl ret
  obtain ⟨hx, hb, hml, hown, hts, hA, hK⟩ := hC
  have hown : s.vm.findClass RX0 = some m.cls := hown
  have hl : lv_has ls 3 [(0, .ref x0), (1, .int x1)] := hl
  unfold fX0_weightOf at h
  refine lv_aload_n hx hb dX0_weightOf_0 rfl (lv_at hl 0 rfl) ?_
  obtain ⟨a2, e1, h⟩ := bn1_some h
  refine x_get (C := RX0) (T := TX0) (N := 16) (ci := 0) hx hb hts in_X0 hown hK.1 hP rfl 2 (by decide) (hts _ q231) (fun _ h9 => h9) (gR_some e1) dX0_weightOf_1 ?_
  refine lv_iload_n hx hb dX0_weightOf_4 rfl (lv_at hl 1 rfl) ?_
  obtain ⟨g5, h⟩ := chk_some h
  obtain ⟨fg5, g5⟩ := isC_some g5
  obtain ⟨a6, S4, e3, h⟩ := bnd_some h
  refine gcr (va_runV (As := [.int x1]) (rest := []) ⟨hx, hb, hml, hown, hts⟩ (mX1_at (l := l) (D := D) (cA := cA) (A := A) a2 x1 S e3) (cwV 1 hts (lw_V q384 q385 q386 q87 q387) rfl rfl rfl (by decide +kernel) ⟨Nat.le_of_ble_eq_true rfl, Nat.le_of_ble_eq_true rfl⟩) (gPreV xKst hK hA hS hP (x_recv (q := (RX1, TX1, 16)) hK.1 hP rfl g5)) rfl rfl hl.1 rfl (lv_room (Nat.le_of_ble_eq_true rfl)) dX0_weightOf_5 ⟨by first | omega | (dsimp only; omega), by first | omega | (dsimp only; omega)⟩) hS (fun H locs hP hS => ?_)
  refine lv_astore_n (lv' := [(2, .ref a6), (0, .ref x0), (1, .int x1)]) hx hb dX0_weightOf_8 rfl hl (by decide) rfl (fun ls hl => ?_)
  refine lv_aload_n hx hb dX0_weightOf_9 rfl (lv_at hl 1 rfl) ?_
  refine lv_iconst (v := (0 : Int32)) hx hb dX0_weightOf_10 (by decide) ?_
  refine lv_aload_n hx hb dX0_weightOf_11 rfl (lv_at hl 0 rfl) ?_
  refine lv_aload_n hx hb dX0_weightOf_12 rfl (lv_at hl 1 rfl) ?_
  obtain ⟨a8, e7, h⟩ := bn1_some h
  refine x_get (C := RX0) (T := TX0) (N := 16) (ci := 0) hx hb hts in_X0 hown hK.1 hP rfl 2 (by decide) (hts _ q231) (fun _ h9 => h9) (gR_some e7) dX0_weightOf_13 ?_
  obtain ⟨v9, S10, e11, h⟩ := bnd_some h
  have hr26 : va_Run5 p l e ({ frames := 3, cells := 0, slots := 0, locals := 107 } : Room) s m args below meth c H locs 0 0 0 0 (F0 m 16 ls [.ref a8, .ref a6, .int (0 : Int32), .ref x0]) [.int (0 : Int32), .ref x0] (gQi (xK D cA A) (xP D cA A) A (v9, S10) ([.ref a6, .ref a8]).toArray) A := by
    rcases v_Seen_weight_c e11 with ⟨gc, ec⟩ | ⟨gc, ec⟩ | ⟨gc, ec⟩ | ⟨gc, ec⟩ | ⟨gc, ec⟩ | ⟨gc, ec⟩ | ⟨gc, ec⟩
    · obtain ⟨fc, gc⟩ := isC_some gc
      exact va_runF (cC := D.1 5) (hK.1.1 5 _ rfl).2 ⟨hx, hb, hml, hown, hts⟩ (mX5_weight (l := l) (D := D) (cA := cA) (A := A) a6 a8 S4 ec) (va_cwF (C := RX5) 1 hts (lw_app (xw4 q423 q472 q446 q91) (lw_meth q447)) rfl rfl rfl (hK.2.2.2.1 ("PictureBlock$Mark", ⟨"PictureBlock$Seen", "weight", "(LPictureBlock$Block;)I"⟩, ⟨"PictureBlock$Mark", "weight", "(LPictureBlock$Block;)I"⟩) (by decide)) (by decide +kernel) ⟨Nat.le_of_ble_eq_true rfl, Nat.le_of_ble_eq_true rfl⟩) (gPreV (As := [.ref a8]) xKst hK hA hS hP (x_recv (q := (RX5, TX5, 2)) hK.1 hP rfl gc)) (rest := [.int (0 : Int32), .ref x0]) rfl rfl hl.1 rfl (lv_room (Nat.le_of_ble_eq_true rfl)) dX0_weightOf_16 ⟨by first | exact Nat.zero_le _ | (dsimp only; omega), by first | exact Nat.zero_le _ | (dsimp only; omega)⟩
    · obtain ⟨fc, gc⟩ := isC_some gc
      exact va_runF (cC := D.1 6) (hK.1.1 6 _ rfl).2 ⟨hx, hb, hml, hown, hts⟩ (mX6_weight (l := l) (D := D) (cA := cA) (A := A) a6 a8 S4 ec) (va_cwF (C := RX6) 1 hts (lw_app (xw4 q423 q468 q443 q92) (lw_meth q444)) rfl rfl rfl (hK.2.2.2.1 ("PictureBlock$Flat", ⟨"PictureBlock$Seen", "weight", "(LPictureBlock$Block;)I"⟩, ⟨"PictureBlock$Flat", "weight", "(LPictureBlock$Block;)I"⟩) (by decide)) (by decide +kernel) ⟨Nat.le_of_ble_eq_true rfl, Nat.le_of_ble_eq_true rfl⟩) (gPreV (As := [.ref a8]) xKst hK hA hS hP (x_recv (q := (RX6, TX6, 2)) hK.1 hP rfl gc)) (rest := [.int (0 : Int32), .ref x0]) rfl rfl hl.1 rfl (lv_room (Nat.le_of_ble_eq_true rfl)) dX0_weightOf_16 ⟨by first | exact Nat.zero_le _ | (dsimp only; omega), by first | exact Nat.zero_le _ | (dsimp only; omega)⟩
    · obtain ⟨fc, gc⟩ := isC_some gc
      exact va_runF (cC := D.1 7) (hK.1.1 7 _ rfl).2 ⟨hx, hb, hml, hown, hts⟩ (mX7_weight (l := l) (D := D) (cA := cA) (A := A) a6 a8 S4 ec) (va_cwF (C := RX7) 1 hts (lw_app (xw4 q423 q490 q455 q93) (lw_meth q456)) rfl rfl rfl (hK.2.2.2.1 ("PictureBlock$Star", ⟨"PictureBlock$Seen", "weight", "(LPictureBlock$Block;)I"⟩, ⟨"PictureBlock$Star", "weight", "(LPictureBlock$Block;)I"⟩) (by decide)) (by decide +kernel) ⟨Nat.le_of_ble_eq_true rfl, Nat.le_of_ble_eq_true rfl⟩) (gPreV (As := [.ref a8]) xKst hK hA hS hP (x_recv (q := (RX7, TX7, 2)) hK.1 hP rfl gc)) (rest := [.int (0 : Int32), .ref x0]) rfl rfl hl.1 rfl (lv_room (Nat.le_of_ble_eq_true rfl)) dX0_weightOf_16 ⟨by first | exact Nat.zero_le _ | (dsimp only; omega), by first | exact Nat.zero_le _ | (dsimp only; omega)⟩
    · obtain ⟨fc, gc⟩ := isC_some gc
      exact va_runF (cC := D.1 8) (hK.1.1 8 _ rfl).2 ⟨hx, hb, hml, hown, hts⟩ (mX8_weight (l := l) (D := D) (cA := cA) (A := A) a6 a8 S4 ec) (va_cwF (C := RX8) 1 hts (lw_app (xw4 q423 q476 q478 q94) (lw_meth q480)) rfl rfl rfl (hK.2.2.2.1 ("PictureBlock$Peak", ⟨"PictureBlock$Seen", "weight", "(LPictureBlock$Block;)I"⟩, ⟨"PictureBlock$Peak", "weight", "(LPictureBlock$Block;)I"⟩) (by decide)) (by decide +kernel) ⟨Nat.le_of_ble_eq_true rfl, Nat.le_of_ble_eq_true rfl⟩) (gPreV (As := [.ref a8]) xKst hK hA hS hP (x_recv (q := (RX8, TX8, 2)) hK.1 hP rfl gc)) (rest := [.int (0 : Int32), .ref x0]) rfl rfl hl.1 rfl (lv_room (Nat.le_of_ble_eq_true rfl)) dX0_weightOf_16 ⟨by first | exact Nat.zero_le _ | (dsimp only; omega), by first | exact Nat.zero_le _ | (dsimp only; omega)⟩
    · obtain ⟨fc, gc⟩ := isC_some gc
      exact va_runF (cC := D.1 9) (hK.1.1 9 _ rfl).2 ⟨hx, hb, hml, hown, hts⟩ (mX9_weight (l := l) (D := D) (cA := cA) (A := A) a6 a8 S4 ec) (va_cwF (C := RX9) 1 hts (lw_app (xw4 q423 q427 q429 q95) (lw_meth q431)) rfl rfl rfl (hK.2.2.2.1 ("PictureBlock$Air", ⟨"PictureBlock$Seen", "weight", "(LPictureBlock$Block;)I"⟩, ⟨"PictureBlock$Air", "weight", "(LPictureBlock$Block;)I"⟩) (by decide)) (by decide +kernel) ⟨Nat.le_of_ble_eq_true rfl, Nat.le_of_ble_eq_true rfl⟩) (gPreV (As := [.ref a8]) xKst hK hA hS hP (x_recv (q := (RX9, TX9, 2)) hK.1 hP rfl gc)) (rest := [.int (0 : Int32), .ref x0]) rfl rfl hl.1 rfl (lv_room (Nat.le_of_ble_eq_true rfl)) dX0_weightOf_16 ⟨by first | exact Nat.zero_le _ | (dsimp only; omega), by first | exact Nat.zero_le _ | (dsimp only; omega)⟩
    · obtain ⟨fc, gc⟩ := isC_some gc
      exact va_runF (cC := D.1 10) (hK.1.1 10 _ rfl).2 ⟨hx, hb, hml, hown, hts⟩ (mX10_weight (l := l) (D := D) (cA := cA) (A := A) a6 a8 S4 ec) (va_cwF (C := RX10) 1 hts (lw_app (xw4 q423 q449 q451 q96) (lw_meth q453)) rfl rfl rfl (hK.2.2.2.1 ("PictureBlock$Faint", ⟨"PictureBlock$Seen", "weight", "(LPictureBlock$Block;)I"⟩, ⟨"PictureBlock$Faint", "weight", "(LPictureBlock$Block;)I"⟩) (by decide)) (by decide +kernel) ⟨Nat.le_of_ble_eq_true rfl, Nat.le_of_ble_eq_true rfl⟩) (gPreV (As := [.ref a8]) xKst hK hA hS hP (x_recv (q := (RX10, TX10, 2)) hK.1 hP rfl gc)) (rest := [.int (0 : Int32), .ref x0]) rfl rfl hl.1 rfl (lv_room (Nat.le_of_ble_eq_true rfl)) dX0_weightOf_16 ⟨by first | exact Nat.zero_le _ | (dsimp only; omega), by first | exact Nat.zero_le _ | (dsimp only; omega)⟩
    · obtain ⟨fc, gc⟩ := isC_some gc
      exact va_runF (cC := D.1 11) (hK.1.1 11 _ rfl).2 ⟨hx, hb, hml, hown, hts⟩ (mX11_weight (l := l) (D := D) (cA := cA) (A := A) a6 a8 S4 ec) (va_cwF (C := RX11) 1 hts (lw_app (xw4 q423 q483 q485 q97) (lw_meth q487)) rfl rfl rfl (hK.2.2.2.1 ("PictureBlock$Shore", ⟨"PictureBlock$Seen", "weight", "(LPictureBlock$Block;)I"⟩, ⟨"PictureBlock$Shore", "weight", "(LPictureBlock$Block;)I"⟩) (by decide)) (by decide +kernel) ⟨Nat.le_of_ble_eq_true rfl, Nat.le_of_ble_eq_true rfl⟩) (gPreV (As := [.ref a8]) xKst hK hA hS hP (x_recv (q := (RX11, TX11, 2)) hK.1 hP rfl gc)) (rest := [.int (0 : Int32), .ref x0]) rfl rfl hl.1 rfl (lv_room (Nat.le_of_ble_eq_true rfl)) dX0_weightOf_16 ⟨by first | exact Nat.zero_le _ | (dsimp only; omega), by first | exact Nat.zero_le _ | (dsimp only; omega)⟩
  refine gc5 hr26 hS (fun H locs hP hS => ?_)
  refine lv_aload_n hx hb dX0_weightOf_21 rfl (lv_at hl 1 rfl) ?_
  obtain ⟨a13, e12, h⟩ := bn1_some h
  refine x_get (C := RX0) (T := TX0) (N := 16) (ci := 0) hx hb hts in_X0 hown hK.1 hP rfl 2 (by decide) (hts _ q231) (fun _ h9 => h9) (gR_some e12) dX0_weightOf_22 ?_
  refine lv_iload_n hx hb dX0_weightOf_25 rfl (lv_at hl 2 rfl) ?_
  obtain ⟨g16, h⟩ := chk_some h
  obtain ⟨fg16, g16⟩ := isC_some g16
  obtain ⟨v17, S15, e14, h⟩ := bnd_some h
  refine gci (va_runV (As := [.int x1]) (rest := [.int v9, .int (0 : Int32), .ref x0]) ⟨hx, hb, hml, hown, hts⟩ (mX1_marks (l := l) (D := D) (cA := cA) (A := A) a13 x1 S10 e14) (cwV 1 hts (lw_V q493 q463 q1754 q87 q465) rfl rfl rfl (by decide +kernel) ⟨Nat.le_of_ble_eq_true rfl, Nat.le_of_ble_eq_true rfl⟩) (gPreV xKst hK hA hS hP (x_recv (q := (RX1, TX1, 16)) hK.1 hP rfl g16)) rfl rfl hl.1 rfl (lv_room (Nat.le_of_ble_eq_true rfl)) dX0_weightOf_26 ⟨by first | omega | (dsimp only; omega), by first | omega | (dsimp only; omega)⟩) hS (fun H locs hP hS => ?_)
  refine lv_aload_n hx hb dX0_weightOf_29 rfl (lv_at hl 1 rfl) ?_
  obtain ⟨a19, e18, h⟩ := bn1_some h
  refine x_get (C := RX0) (T := TX0) (N := 16) (ci := 0) hx hb hts in_X0 hown hK.1 hP rfl 2 (by decide) (hts _ q231) (fun _ h9 => h9) (gR_some e18) dX0_weightOf_30 ?_
  obtain ⟨v21, e20, h⟩ := bn1_some h
  refine x_getN (C := RX1) (T := TX1) (N := 16) (ci := 1) hx hb hts in_X1 hown hK.1 hP rfl 2 (by decide) (hK.2.1 _ q150 rfl) (fun _ h9 => h9) (gI_some e20) dX0_weightOf_33 ?_
  refine lv_bipush (v := (8 : Int32)) hx hb dX0_weightOf_36 (by decide) ?_
  refine lv_irem hx hb dX0_weightOf_38 (by decide) ?_
  obtain ⟨g24, h⟩ := chk_some h
  obtain ⟨fg24, g24⟩ := isC_some g24
  obtain ⟨v25, S23, e22, h⟩ := bnd_some h
  refine gci (va_runV (As := [.int (0 : Int32), .int v9, .int v17, .int (v21 - v21 / (8 : Int32) * (8 : Int32))]) (rest := []) ⟨hx, hb, hml, hown, hts⟩ (mX0_given (l := l) (D := D) (cA := cA) (A := A) x0 (0 : Int32) v9 v17 (v21 - v21 / (8 : Int32) * (8 : Int32)) S15 e22) (cwV 4 hts (lw_V q494 q496 qs4 q86 q497) rfl rfl rfl (by decide +kernel) ⟨Nat.le_of_ble_eq_true rfl, Nat.le_of_ble_eq_true rfl⟩) (gPreV xKst hK hA hS hP (x_recv (q := (RX0, TX0, 16)) hK.1 hP rfl g24)) rfl rfl hl.1 rfl (lv_room (Nat.le_of_ble_eq_true rfl)) dX0_weightOf_39 ⟨by first | omega | (dsimp only; omega), by first | omega | (dsimp only; omega)⟩) hS (fun H locs hP hS => ?_)
  exact ret _ _ _ _ _ _ dX0_weightOf_42 rfl hP hS h

def fX10_value (x0 : Nat) (x1 : Nat) (S : XS) : Option (Int32 × XS) :=
chk (mkB S x0) (bnd (fX5_value x0 x1 S) fun v4 S2 =>
some (((v4 / (2 : Int32)) * (2 : Int32)), S2))
set_option maxHeartbeats 4000000 in
set_option maxRecDepth 100000 in
theorem mX10_value {l : Launch} {D : va_G} {cA : Nat → ClassId} {A : Nat → Prop} (x0 : Nat) (x1 : Nat) (S : XS) {out : (Int32 × XS)} (h : fX10_value x0 x1 S = some out) : Met l yX10_value (ws_ yX10_value cX10_value 2 (some .int)) ({ frames := 2, cells := 0, slots := 0, locals := 42 } : Room) (gPc (xK D cA A) (xP D cA A) A [.ref x0, .ref x1] S) (gQi (xK D cA A) (xP D cA A) A out) 0 0 A := by
  refine gMet_z (by decide) (Nat.le_of_ble_eq_true rfl) ?_ xKst
  intro p e s m below meth c Q ls args H locs hC hP hS hl ret
  obtain ⟨hx, hb, hml, hown, hts, hA, hK⟩ := hC
  have hown : s.vm.findClass RX10 = some m.cls := hown
  have hl : lv_has ls 2 [(0, .ref x0), (1, .ref x1)] := hl
  unfold fX10_value at h
  refine lv_aload_n hx hb dX10_value_0 rfl (lv_at hl 0 rfl) ?_
  refine lv_aload_n hx hb dX10_value_1 rfl (lv_at hl 1 rfl) ?_
  obtain ⟨g3, h⟩ := chk_some h
  obtain ⟨C1, cC1, hat1, hrv1⟩ := x_recvM hK.1 hP g3
  obtain ⟨v4, S2, e1, h⟩ := bnd_some h
  refine gci (x_runSU (n := 1) (As := [.ref x1]) (rest := []) hat1 ⟨hx, hb, hml, hown, hts⟩ (mX5_value (l := l) (D := D) (cA := cA) (A := A) x0 x1 S e1) rfl (lw_meth q531) rfl rfl (hts _ q546) (hts _ q547) (hts _ q360) (Or.inr (hts _ q333)) ⟨rfl, rfl⟩ (hts _ q530) (hts _ q91) (by decide +kernel) ⟨Nat.le_of_ble_eq_true rfl, Nat.le_of_ble_eq_true rfl⟩ (gPreV xKst hK hA hS hP hrv1) rfl rfl hl.1 rfl (lv_room (Nat.le_of_ble_eq_true rfl)) dX10_value_2 ⟨by first | omega | (dsimp only; omega), by first | omega | (dsimp only; omega)⟩) hS (fun H locs hP hS => ?_)
  refine lv_iconst (v := (2 : Int32)) hx hb dX10_value_5 (by decide) ?_
  refine lv_idiv hx hb dX10_value_6 (by decide) ?_
  refine lv_iconst (v := (2 : Int32)) hx hb dX10_value_7 (by decide) ?_
  refine lv_imul hx hb dX10_value_8 ?_
  exact ret _ _ _ _ _ _ dX10_value_9 rfl hP hS h

def fX11_value (x0 : Nat) (x1 : Nat) (S : XS) : Option (Int32 × XS) :=
chk (mkB S x0) (bnd (fX5_value x0 x1 S) fun v4 S2 =>
bn1 (gIM S2 x0 1) fun v6 =>
some (((if (0 : Int32) < v4 then v4 else (0 : Int32)) - v6), S2))
set_option maxHeartbeats 4000000 in
set_option maxRecDepth 100000 in
theorem mX11_value {l : Launch} {D : va_G} {cA : Nat → ClassId} {A : Nat → Prop} (x0 : Nat) (x1 : Nat) (S : XS) {out : (Int32 × XS)} (h : fX11_value x0 x1 S = some out) : Met l yX11_value (ws_ yX11_value cX11_value 2 (some .int)) ({ frames := 2, cells := 0, slots := 0, locals := 60 } : Room) (gPc (xK D cA A) (xP D cA A) A [.ref x0, .ref x1] S) (gQi (xK D cA A) (xP D cA A) A out) 0 0 A := by
  refine gMet_z (by decide) (Nat.le_of_ble_eq_true rfl) ?_ xKst
  intro p e s m below meth c Q ls args H locs hC hP hS hl ret
  obtain ⟨hx, hb, hml, hown, hts, hA, hK⟩ := hC
  have hown : s.vm.findClass RX11 = some m.cls := hown
  have hl : lv_has ls 2 [(0, .ref x0), (1, .ref x1)] := hl
  unfold fX11_value at h
  refine lv_iconst (v := (0 : Int32)) hx hb dX11_value_0 (by decide) ?_
  refine lv_aload_n hx hb dX11_value_1 rfl (lv_at hl 0 rfl) ?_
  refine lv_aload_n hx hb dX11_value_2 rfl (lv_at hl 1 rfl) ?_
  obtain ⟨g3, h⟩ := chk_some h
  obtain ⟨C1, cC1, hat1, hrv1⟩ := x_recvM hK.1 hP g3
  obtain ⟨v4, S2, e1, h⟩ := bnd_some h
  refine gci (x_runSU (n := 1) (As := [.ref x1]) (rest := [.int (0 : Int32)]) hat1 ⟨hx, hb, hml, hown, hts⟩ (mX5_value (l := l) (D := D) (cA := cA) (A := A) x0 x1 S e1) rfl (lw_meth q531) rfl rfl (hts _ q564) (hts _ q1755) (hts _ q369) (Or.inl rfl) ⟨rfl, rfl⟩ (hts _ q530) (hts _ q91) (by decide +kernel) ⟨Nat.le_of_ble_eq_true rfl, Nat.le_of_ble_eq_true rfl⟩ (gPreV xKst hK hA hS hP hrv1) rfl rfl hl.1 rfl (lv_room (Nat.le_of_ble_eq_true rfl)) dX11_value_3 ⟨by first | omega | (dsimp only; omega), by first | omega | (dsimp only; omega)⟩) hS (fun H locs hP hS => ?_)
  refine va_mmax hx hb (hml.trans hl.1.symm) hown (hts _ q565) (hts _ q512) (hts _ q98) (hts _ q513) (Nat.le_of_ble_eq_true rfl) (Nat.le_of_ble_eq_true rfl) (by first | exact Nat.zero_le _ | (dsimp only; omega)) (by first | exact Nat.zero_le _ | (dsimp only; omega)) dX11_value_6 ?_
  refine lv_aload_n hx hb dX11_value_9 rfl (lv_at hl 0 rfl) ?_
  obtain ⟨v6, e5, h⟩ := bn1_some h
  refine x_getM hx hb hts hown hK hP 1 (by decide) (hts _ q315) (fun x h9 => u_same (hts _ q316) x h9) e5 dX11_value_10 ?_
  refine lv_isub hx hb dX11_value_13 ?_
  exact ret _ _ _ _ _ _ dX11_value_14 rfl hP hS h

def fX8_value (x0 : Nat) (x1 : Nat) (S : XS) : Option (Int32 × XS) :=
chk (mkB S x0) (bnd (fX5_value x0 x1 S) fun v4 S2 =>
bn1 (gIM S2 x0 1) fun v6 =>
some (((v4 + (v6 - v6 / (3 : Int32) * (3 : Int32))) - (1 : Int32)), S2))
set_option maxHeartbeats 4000000 in
set_option maxRecDepth 100000 in
theorem mX8_value {l : Launch} {D : va_G} {cA : Nat → ClassId} {A : Nat → Prop} (x0 : Nat) (x1 : Nat) (S : XS) {out : (Int32 × XS)} (h : fX8_value x0 x1 S = some out) : Met l yX8_value (ws_ yX8_value cX8_value 2 (some .int)) ({ frames := 2, cells := 0, slots := 0, locals := 42 } : Room) (gPc (xK D cA A) (xP D cA A) A [.ref x0, .ref x1] S) (gQi (xK D cA A) (xP D cA A) A out) 0 0 A := by
  refine gMet_z (by decide) (Nat.le_of_ble_eq_true rfl) ?_ xKst
  intro p e s m below meth c Q ls args H locs hC hP hS hl ret
  obtain ⟨hx, hb, hml, hown, hts, hA, hK⟩ := hC
  have hown : s.vm.findClass RX8 = some m.cls := hown
  have hl : lv_has ls 2 [(0, .ref x0), (1, .ref x1)] := hl
  unfold fX8_value at h
  refine lv_aload_n hx hb dX8_value_0 rfl (lv_at hl 0 rfl) ?_
  refine lv_aload_n hx hb dX8_value_1 rfl (lv_at hl 1 rfl) ?_
  obtain ⟨g3, h⟩ := chk_some h
  obtain ⟨C1, cC1, hat1, hrv1⟩ := x_recvM hK.1 hP g3
  obtain ⟨v4, S2, e1, h⟩ := bnd_some h
  refine gci (x_runSU (n := 1) (As := [.ref x1]) (rest := []) hat1 ⟨hx, hb, hml, hown, hts⟩ (mX5_value (l := l) (D := D) (cA := cA) (A := A) x0 x1 S e1) rfl (lw_meth q531) rfl rfl (hts _ q558) (hts _ q1755) (hts _ q342) (Or.inl rfl) ⟨rfl, rfl⟩ (hts _ q530) (hts _ q91) (by decide +kernel) ⟨Nat.le_of_ble_eq_true rfl, Nat.le_of_ble_eq_true rfl⟩ (gPreV xKst hK hA hS hP hrv1) rfl rfl hl.1 rfl (lv_room (Nat.le_of_ble_eq_true rfl)) dX8_value_2 ⟨by first | omega | (dsimp only; omega), by first | omega | (dsimp only; omega)⟩) hS (fun H locs hP hS => ?_)
  refine lv_aload_n hx hb dX8_value_5 rfl (lv_at hl 0 rfl) ?_
  obtain ⟨v6, e5, h⟩ := bn1_some h
  refine x_getM hx hb hts hown hK hP 1 (by decide) (hts _ q313) (fun x h9 => u_same (hts _ q314) x h9) e5 dX8_value_6 ?_
  refine lv_iconst (v := (3 : Int32)) hx hb dX8_value_9 (by decide) ?_
  refine lv_irem hx hb dX8_value_10 (by decide) ?_
  refine lv_iadd hx hb dX8_value_11 ?_
  refine lv_iconst (v := (1 : Int32)) hx hb dX8_value_12 (by decide) ?_
  refine lv_isub hx hb dX8_value_13 ?_
  exact ret _ _ _ _ _ _ dX8_value_14 rfl hP hS h

def fX9_value (x0 : Nat) (x1 : Nat) (S : XS) : Option (Int32 × XS) :=
chk (mkB S x0) (bnd (fX5_value x0 x1 S) fun v4 S2 =>
chk (isC S2 x1 1) (bnd (fX1_round x1 S2) fun v8 S6 =>
bn1 (gIM S6 x0 1) fun v10 =>
chk (ne0 (v10 + (1 : Int32))) (some ((v4 + (v8 - v8 / (v10 + (1 : Int32)) * (v10 + (1 : Int32)))), S6))))
set_option maxHeartbeats 4000000 in
set_option maxRecDepth 100000 in
theorem mX9_value {l : Launch} {D : va_G} {cA : Nat → ClassId} {A : Nat → Prop} (x0 : Nat) (x1 : Nat) (S : XS) {out : (Int32 × XS)} (h : fX9_value x0 x1 S = some out) : Met l yX9_value (ws_ yX9_value cX9_value 2 (some .int)) ({ frames := 2, cells := 0, slots := 0, locals := 42 } : Room) (gPc (xK D cA A) (xP D cA A) A [.ref x0, .ref x1] S) (gQi (xK D cA A) (xP D cA A) A out) 0 0 A := by
  refine gMet_z (by decide) (Nat.le_of_ble_eq_true rfl) ?_ xKst
  intro p e s m below meth c Q ls args H locs hC hP hS hl ret
  obtain ⟨hx, hb, hml, hown, hts, hA, hK⟩ := hC
  have hown : s.vm.findClass RX9 = some m.cls := hown
  have hl : lv_has ls 2 [(0, .ref x0), (1, .ref x1)] := hl
  unfold fX9_value at h
  refine lv_aload_n hx hb dX9_value_0 rfl (lv_at hl 0 rfl) ?_
  refine lv_aload_n hx hb dX9_value_1 rfl (lv_at hl 1 rfl) ?_
  obtain ⟨g3, h⟩ := chk_some h
  obtain ⟨C1, cC1, hat1, hrv1⟩ := x_recvM hK.1 hP g3
  obtain ⟨v4, S2, e1, h⟩ := bnd_some h
  refine gci (x_runSU (n := 1) (As := [.ref x1]) (rest := []) hat1 ⟨hx, hb, hml, hown, hts⟩ (mX5_value (l := l) (D := D) (cA := cA) (A := A) x0 x1 S e1) rfl (lw_meth q531) rfl rfl (hts _ q527) (hts _ q528) (hts _ q351) (Or.inr (hts _ q324)) ⟨rfl, rfl⟩ (hts _ q530) (hts _ q91) (by decide +kernel) ⟨Nat.le_of_ble_eq_true rfl, Nat.le_of_ble_eq_true rfl⟩ (gPreV xKst hK hA hS hP hrv1) rfl rfl hl.1 rfl (lv_room (Nat.le_of_ble_eq_true rfl)) dX9_value_2 ⟨by first | omega | (dsimp only; omega), by first | omega | (dsimp only; omega)⟩) hS (fun H locs hP hS => ?_)
  refine lv_aload_n hx hb dX9_value_5 rfl (lv_at hl 1 rfl) ?_
  obtain ⟨g7, h⟩ := chk_some h
  obtain ⟨fg7, g7⟩ := isC_some g7
  obtain ⟨v8, S6, e5, h⟩ := bnd_some h
  refine gc5 (va_runF (cC := D.1 1) (hK.1.1 1 _ rfl).2 ⟨hx, hb, hml, hown, hts⟩ (mX1_round (l := l) (D := D) (cA := cA) (A := A) x1 S2 e5) (va_cwF (C := RX1) 0 hts (lw_app (xw4 q433 q437 q439 q87) (lw_meth q441)) rfl rfl rfl (hK.2.2.2.1 ("PictureBlock$House", ⟨"PictureBlock$Block", "round", "()I"⟩, ⟨"PictureBlock$House", "round", "()I"⟩) (by decide)) (by decide +kernel) ⟨Nat.le_of_ble_eq_true rfl, Nat.le_of_ble_eq_true rfl⟩) (gPreV (As := []) xKst hK hA hS hP (x_recv (q := (RX1, TX1, 16)) hK.1 hP rfl g7)) (rest := [.int v4]) rfl rfl hl.1 rfl (lv_room (Nat.le_of_ble_eq_true rfl)) dX9_value_6 ⟨by first | omega | (dsimp only; omega), by first | omega | (dsimp only; omega)⟩) hS (fun H locs hP hS => ?_)
  refine lv_aload_n hx hb dX9_value_11 rfl (lv_at hl 0 rfl) ?_
  obtain ⟨v10, e9, h⟩ := bn1_some h
  refine x_getM hx hb hts hown hK hP 1 (by decide) (hts _ q317) (fun x h9 => u_same (hts _ q318) x h9) e9 dX9_value_12 ?_
  refine lv_iconst (v := (1 : Int32)) hx hb dX9_value_15 (by decide) ?_
  refine lv_iadd hx hb dX9_value_16 ?_
  obtain ⟨g11, h⟩ := chk_some h
  refine lv_irem hx hb dX9_value_17 (ne0_n g11) ?_
  refine lv_iadd hx hb dX9_value_18 ?_
  exact ret _ _ _ _ _ _ dX9_value_19 rfl hP hS h

def v_Seen_value (a : Nat) (a0 : Nat) (S : XS) : Option (Int32 × XS) :=
  if isC S a 5 = true then fX5_value a a0 S else
  if isC S a 6 = true then fX5_value a a0 S else
  if isC S a 7 = true then fX5_value a a0 S else
  if isC S a 8 = true then fX8_value a a0 S else
  if isC S a 9 = true then fX9_value a a0 S else
  if isC S a 10 = true then fX10_value a a0 S else
  if isC S a 11 = true then fX11_value a a0 S else
  none
theorem v_Seen_value_c {a : Nat} {a0 : Nat} {S : XS} {o : (Int32 × XS)} (h : v_Seen_value a a0 S = some o) : (isC S a 5 = true ∧ fX5_value a a0 S = some o) ∨ (isC S a 6 = true ∧ fX5_value a a0 S = some o) ∨ (isC S a 7 = true ∧ fX5_value a a0 S = some o) ∨ (isC S a 8 = true ∧ fX8_value a a0 S = some o) ∨ (isC S a 9 = true ∧ fX9_value a a0 S = some o) ∨ (isC S a 10 = true ∧ fX10_value a a0 S = some o) ∨ (isC S a 11 = true ∧ fX11_value a a0 S = some o) := by
  unfold v_Seen_value at h
  split at h
  · next hc => exact (Or.inl ⟨hc, h⟩)
  · skip
    split at h
    · next hc => exact (Or.inr (Or.inl ⟨hc, h⟩))
    · skip
      split at h
      · next hc => exact (Or.inr (Or.inr (Or.inl ⟨hc, h⟩)))
      · skip
        split at h
        · next hc => exact (Or.inr (Or.inr (Or.inr (Or.inl ⟨hc, h⟩))))
        · skip
          split at h
          · next hc => exact (Or.inr (Or.inr (Or.inr (Or.inr (Or.inl ⟨hc, h⟩)))))
          · skip
            split at h
            · next hc => exact (Or.inr (Or.inr (Or.inr (Or.inr (Or.inr (Or.inl ⟨hc, h⟩))))))
            · skip
              split at h
              · next hc => exact (Or.inr (Or.inr (Or.inr (Or.inr (Or.inr (Or.inr ⟨hc, h⟩))))))
              · cases h
def fX0_saidBy (x0 : Nat) (x1 : Int32) (S : XS) : Option (Int32 × XS) :=
bn1 (gR S x0 0 2) fun a2 =>
chk (isC S a2 1) (bnd (fX1_at a2 x1 S) fun a6 S4 =>
bn1 (gR S4 x0 0 2) fun a8 =>
bnd (v_Seen_value a6 a8 S4) fun v9 S10 =>
bn1 (gR S10 x0 0 2) fun a13 =>
bn1 (gR S10 a13 1 11) fun a15 =>
bn1 (aI S10 a15 0 x1) fun v17 =>
bn1 (gR S10 x0 0 2) fun a19 =>
bn1 (gI S10 a19 1 2) fun v21 =>
chk (isC S10 x0 0) (bnd (fX0_given x0 (1 : Int32) v9 v17 (v21 - v21 / (8 : Int32) * (8 : Int32)) S10) fun v25 S23 =>
some (v25, S23)))
set_option maxHeartbeats 4000000 in
set_option maxRecDepth 100000 in
theorem mX0_saidBy {l : Launch} {D : va_G} {cA : Nat → ClassId} {A : Nat → Prop} (x0 : Nat) (x1 : Int32) (S : XS) {out : (Int32 × XS)} (h : fX0_saidBy x0 x1 S = some out) : Met l yX0_saidBy (ws_ yX0_saidBy cX0_saidBy 3 (some .int)) ({ frames := 3, cells := 0, slots := 0, locals := 107 } : Room) (gPc (xK D cA A) (xP D cA A) A [.ref x0, .int x1] S) (gQi (xK D cA A) (xP D cA A) A out) 0 0 A := by
  refine gMet_z (by decide) (Nat.le_of_ble_eq_true rfl) ?_ xKst
  intro p e s m below meth c Q ls args H locs hC hP hS hl ret
  obtain ⟨hx, hb, hml, hown, hts, hA, hK⟩ := hC
  have hown : s.vm.findClass RX0 = some m.cls := hown
  have hl : lv_has ls 3 [(0, .ref x0), (1, .int x1)] := hl
  unfold fX0_saidBy at h
  refine lv_aload_n hx hb dX0_saidBy_0 rfl (lv_at hl 0 rfl) ?_
  obtain ⟨a2, e1, h⟩ := bn1_some h
  refine x_get (C := RX0) (T := TX0) (N := 16) (ci := 0) hx hb hts in_X0 hown hK.1 hP rfl 2 (by decide) (hts _ q231) (fun _ h9 => h9) (gR_some e1) dX0_saidBy_1 ?_
  refine lv_iload_n hx hb dX0_saidBy_4 rfl (lv_at hl 1 rfl) ?_
  obtain ⟨g5, h⟩ := chk_some h
  obtain ⟨fg5, g5⟩ := isC_some g5
  obtain ⟨a6, S4, e3, h⟩ := bnd_some h
  refine gcr (va_runV (As := [.int x1]) (rest := []) ⟨hx, hb, hml, hown, hts⟩ (mX1_at (l := l) (D := D) (cA := cA) (A := A) a2 x1 S e3) (cwV 1 hts (lw_V q384 q385 q386 q87 q387) rfl rfl rfl (by decide +kernel) ⟨Nat.le_of_ble_eq_true rfl, Nat.le_of_ble_eq_true rfl⟩) (gPreV xKst hK hA hS hP (x_recv (q := (RX1, TX1, 16)) hK.1 hP rfl g5)) rfl rfl hl.1 rfl (lv_room (Nat.le_of_ble_eq_true rfl)) dX0_saidBy_5 ⟨by first | omega | (dsimp only; omega), by first | omega | (dsimp only; omega)⟩) hS (fun H locs hP hS => ?_)
  refine lv_astore_n (lv' := [(2, .ref a6), (0, .ref x0), (1, .int x1)]) hx hb dX0_saidBy_8 rfl hl (by decide) rfl (fun ls hl => ?_)
  refine lv_aload_n hx hb dX0_saidBy_9 rfl (lv_at hl 1 rfl) ?_
  refine lv_iconst (v := (1 : Int32)) hx hb dX0_saidBy_10 (by decide) ?_
  refine lv_aload_n hx hb dX0_saidBy_11 rfl (lv_at hl 0 rfl) ?_
  refine lv_aload_n hx hb dX0_saidBy_12 rfl (lv_at hl 1 rfl) ?_
  obtain ⟨a8, e7, h⟩ := bn1_some h
  refine x_get (C := RX0) (T := TX0) (N := 16) (ci := 0) hx hb hts in_X0 hown hK.1 hP rfl 2 (by decide) (hts _ q231) (fun _ h9 => h9) (gR_some e7) dX0_saidBy_13 ?_
  obtain ⟨v9, S10, e11, h⟩ := bnd_some h
  have hr26 : va_Run5 p l e ({ frames := 3, cells := 0, slots := 0, locals := 107 } : Room) s m args below meth c H locs 0 0 0 0 (F0 m 16 ls [.ref a8, .ref a6, .int (1 : Int32), .ref x0]) [.int (1 : Int32), .ref x0] (gQi (xK D cA A) (xP D cA A) A (v9, S10) ([.ref a6, .ref a8]).toArray) A := by
    rcases v_Seen_value_c e11 with ⟨gc, ec⟩ | ⟨gc, ec⟩ | ⟨gc, ec⟩ | ⟨gc, ec⟩ | ⟨gc, ec⟩ | ⟨gc, ec⟩ | ⟨gc, ec⟩
    · obtain ⟨fc, gc⟩ := isC_some gc
      exact va_runF (cC := D.1 5) (hK.1.1 5 _ rfl).2 ⟨hx, hb, hml, hown, hts⟩ (mX5_value (l := l) (D := D) (cA := cA) (A := A) a6 a8 S4 ec) (va_cwF (C := RX5) 1 hts (lw_app (xw4 q519 q551 q530 q91) (lw_meth q531)) rfl rfl rfl (hK.2.2.2.1 ("PictureBlock$Mark", ⟨"PictureBlock$Seen", "value", "(LPictureBlock$Block;)I"⟩, ⟨"PictureBlock$Mark", "value", "(LPictureBlock$Block;)I"⟩) (by decide)) (by decide +kernel) ⟨Nat.le_of_ble_eq_true rfl, Nat.le_of_ble_eq_true rfl⟩) (gPreV (As := [.ref a8]) xKst hK hA hS hP (x_recv (q := (RX5, TX5, 2)) hK.1 hP rfl gc)) (rest := [.int (1 : Int32), .ref x0]) rfl rfl hl.1 rfl (lv_room (Nat.le_of_ble_eq_true rfl)) dX0_saidBy_16 ⟨by first | exact Nat.zero_le _ | (dsimp only; omega), by first | exact Nat.zero_le _ | (dsimp only; omega)⟩
    · obtain ⟨fc, gc⟩ := isC_some gc
      exact va_runF (cC := D.1 6) (hK.1.1 6 _ rfl).2 ⟨hx, hb, hml, hown, hts⟩ (mX5_value (l := l) (D := D) (cA := cA) (A := A) a6 a8 S4 ec) (va_cwF (C := RX6) 1 hts (lw_app (xw4 q519 q548 q530 q91) (lw_meth q531)) rfl rfl rfl (hK.2.2.2.1 ("PictureBlock$Flat", ⟨"PictureBlock$Seen", "value", "(LPictureBlock$Block;)I"⟩, ⟨"PictureBlock$Mark", "value", "(LPictureBlock$Block;)I"⟩) (by decide)) (by decide +kernel) ⟨Nat.le_of_ble_eq_true rfl, Nat.le_of_ble_eq_true rfl⟩) (gPreV (As := [.ref a8]) xKst hK hA hS hP (x_recv (q := (RX6, TX6, 2)) hK.1 hP rfl gc)) (rest := [.int (1 : Int32), .ref x0]) rfl rfl hl.1 rfl (lv_room (Nat.le_of_ble_eq_true rfl)) dX0_saidBy_16 ⟨by first | exact Nat.zero_le _ | (dsimp only; omega), by first | exact Nat.zero_le _ | (dsimp only; omega)⟩
    · obtain ⟨fc, gc⟩ := isC_some gc
      exact va_runF (cC := D.1 7) (hK.1.1 7 _ rfl).2 ⟨hx, hb, hml, hown, hts⟩ (mX5_value (l := l) (D := D) (cA := cA) (A := A) a6 a8 S4 ec) (va_cwF (C := RX7) 1 hts (lw_app (xw4 q519 q566 q530 q91) (lw_meth q531)) rfl rfl rfl (hK.2.2.2.1 ("PictureBlock$Star", ⟨"PictureBlock$Seen", "value", "(LPictureBlock$Block;)I"⟩, ⟨"PictureBlock$Mark", "value", "(LPictureBlock$Block;)I"⟩) (by decide)) (by decide +kernel) ⟨Nat.le_of_ble_eq_true rfl, Nat.le_of_ble_eq_true rfl⟩) (gPreV (As := [.ref a8]) xKst hK hA hS hP (x_recv (q := (RX7, TX7, 2)) hK.1 hP rfl gc)) (rest := [.int (1 : Int32), .ref x0]) rfl rfl hl.1 rfl (lv_room (Nat.le_of_ble_eq_true rfl)) dX0_saidBy_16 ⟨by first | exact Nat.zero_le _ | (dsimp only; omega), by first | exact Nat.zero_le _ | (dsimp only; omega)⟩
    · obtain ⟨fc, gc⟩ := isC_some gc
      exact va_runF (cC := D.1 8) (hK.1.1 8 _ rfl).2 ⟨hx, hb, hml, hown, hts⟩ (mX8_value (l := l) (D := D) (cA := cA) (A := A) a6 a8 S4 ec) (va_cwF (C := RX8) 1 hts (lw_app (xw4 q519 q553 q555 q94) (lw_meth q557)) rfl rfl rfl (hK.2.2.2.1 ("PictureBlock$Peak", ⟨"PictureBlock$Seen", "value", "(LPictureBlock$Block;)I"⟩, ⟨"PictureBlock$Peak", "value", "(LPictureBlock$Block;)I"⟩) (by decide)) (by decide +kernel) ⟨Nat.le_of_ble_eq_true rfl, Nat.le_of_ble_eq_true rfl⟩) (gPreV (As := [.ref a8]) xKst hK hA hS hP (x_recv (q := (RX8, TX8, 2)) hK.1 hP rfl gc)) (rest := [.int (1 : Int32), .ref x0]) rfl rfl hl.1 rfl (lv_room (Nat.le_of_ble_eq_true rfl)) dX0_saidBy_16 ⟨by first | exact Nat.zero_le _ | (dsimp only; omega), by first | exact Nat.zero_le _ | (dsimp only; omega)⟩
    · obtain ⟨fc, gc⟩ := isC_some gc
      exact va_runF (cC := D.1 9) (hK.1.1 9 _ rfl).2 ⟨hx, hb, hml, hown, hts⟩ (mX9_value (l := l) (D := D) (cA := cA) (A := A) a6 a8 S4 ec) (va_cwF (C := RX9) 1 hts (lw_app (xw4 q519 q522 q524 q95) (lw_meth q526)) rfl rfl rfl (hK.2.2.2.1 ("PictureBlock$Air", ⟨"PictureBlock$Seen", "value", "(LPictureBlock$Block;)I"⟩, ⟨"PictureBlock$Air", "value", "(LPictureBlock$Block;)I"⟩) (by decide)) (by decide +kernel) ⟨Nat.le_of_ble_eq_true rfl, Nat.le_of_ble_eq_true rfl⟩) (gPreV (As := [.ref a8]) xKst hK hA hS hP (x_recv (q := (RX9, TX9, 2)) hK.1 hP rfl gc)) (rest := [.int (1 : Int32), .ref x0]) rfl rfl hl.1 rfl (lv_room (Nat.le_of_ble_eq_true rfl)) dX0_saidBy_16 ⟨by first | exact Nat.zero_le _ | (dsimp only; omega), by first | exact Nat.zero_le _ | (dsimp only; omega)⟩
    · obtain ⟨fc, gc⟩ := isC_some gc
      exact va_runF (cC := D.1 10) (hK.1.1 10 _ rfl).2 ⟨hx, hb, hml, hown, hts⟩ (mX10_value (l := l) (D := D) (cA := cA) (A := A) a6 a8 S4 ec) (va_cwF (C := RX10) 1 hts (lw_app (xw4 q519 q541 q543 q96) (lw_meth q545)) rfl rfl rfl (hK.2.2.2.1 ("PictureBlock$Faint", ⟨"PictureBlock$Seen", "value", "(LPictureBlock$Block;)I"⟩, ⟨"PictureBlock$Faint", "value", "(LPictureBlock$Block;)I"⟩) (by decide)) (by decide +kernel) ⟨Nat.le_of_ble_eq_true rfl, Nat.le_of_ble_eq_true rfl⟩) (gPreV (As := [.ref a8]) xKst hK hA hS hP (x_recv (q := (RX10, TX10, 2)) hK.1 hP rfl gc)) (rest := [.int (1 : Int32), .ref x0]) rfl rfl hl.1 rfl (lv_room (Nat.le_of_ble_eq_true rfl)) dX0_saidBy_16 ⟨by first | exact Nat.zero_le _ | (dsimp only; omega), by first | exact Nat.zero_le _ | (dsimp only; omega)⟩
    · obtain ⟨fc, gc⟩ := isC_some gc
      exact va_runF (cC := D.1 11) (hK.1.1 11 _ rfl).2 ⟨hx, hb, hml, hown, hts⟩ (mX11_value (l := l) (D := D) (cA := cA) (A := A) a6 a8 S4 ec) (va_cwF (C := RX11) 1 hts (lw_app (xw4 q519 q559 q561 q97) (lw_meth q563)) rfl rfl rfl (hK.2.2.2.1 ("PictureBlock$Shore", ⟨"PictureBlock$Seen", "value", "(LPictureBlock$Block;)I"⟩, ⟨"PictureBlock$Shore", "value", "(LPictureBlock$Block;)I"⟩) (by decide)) (by decide +kernel) ⟨Nat.le_of_ble_eq_true rfl, Nat.le_of_ble_eq_true rfl⟩) (gPreV (As := [.ref a8]) xKst hK hA hS hP (x_recv (q := (RX11, TX11, 2)) hK.1 hP rfl gc)) (rest := [.int (1 : Int32), .ref x0]) rfl rfl hl.1 rfl (lv_room (Nat.le_of_ble_eq_true rfl)) dX0_saidBy_16 ⟨by first | exact Nat.zero_le _ | (dsimp only; omega), by first | exact Nat.zero_le _ | (dsimp only; omega)⟩
  refine gc5 hr26 hS (fun H locs hP hS => ?_)
  refine lv_aload_n hx hb dX0_saidBy_21 rfl (lv_at hl 1 rfl) ?_
  obtain ⟨a13, e12, h⟩ := bn1_some h
  refine x_get (C := RX0) (T := TX0) (N := 16) (ci := 0) hx hb hts in_X0 hown hK.1 hP rfl 2 (by decide) (hts _ q231) (fun _ h9 => h9) (gR_some e12) dX0_saidBy_22 ?_
  obtain ⟨a15, e14, h⟩ := bn1_some h
  refine x_getN (C := RX1) (T := TX1) (N := 16) (ci := 1) hx hb hts in_X1 hown hK.1 hP rfl 11 (by decide) (hK.2.1 _ q168 rfl) (fun _ h9 => h9) (gR_some e14) dX0_saidBy_25 ?_
  refine lv_iload_n hx hb dX0_saidBy_28 rfl (lv_at hl 2 rfl) ?_
  obtain ⟨v17, e16, h⟩ := bn1_some h
  refine x_iald hx hb hK.1 hP e16 dX0_saidBy_29 ?_
  refine lv_aload_n hx hb dX0_saidBy_30 rfl (lv_at hl 1 rfl) ?_
  obtain ⟨a19, e18, h⟩ := bn1_some h
  refine x_get (C := RX0) (T := TX0) (N := 16) (ci := 0) hx hb hts in_X0 hown hK.1 hP rfl 2 (by decide) (hts _ q231) (fun _ h9 => h9) (gR_some e18) dX0_saidBy_31 ?_
  obtain ⟨v21, e20, h⟩ := bn1_some h
  refine x_getN (C := RX1) (T := TX1) (N := 16) (ci := 1) hx hb hts in_X1 hown hK.1 hP rfl 2 (by decide) (hK.2.1 _ q150 rfl) (fun _ h9 => h9) (gI_some e20) dX0_saidBy_34 ?_
  refine lv_bipush (v := (8 : Int32)) hx hb dX0_saidBy_37 (by decide) ?_
  refine lv_irem hx hb dX0_saidBy_39 (by decide) ?_
  obtain ⟨g24, h⟩ := chk_some h
  obtain ⟨fg24, g24⟩ := isC_some g24
  obtain ⟨v25, S23, e22, h⟩ := bnd_some h
  refine gci (va_runV (As := [.int (1 : Int32), .int v9, .int v17, .int (v21 - v21 / (8 : Int32) * (8 : Int32))]) (rest := []) ⟨hx, hb, hml, hown, hts⟩ (mX0_given (l := l) (D := D) (cA := cA) (A := A) x0 (1 : Int32) v9 v17 (v21 - v21 / (8 : Int32) * (8 : Int32)) S10 e22) (cwV 4 hts (lw_V q494 q496 qs4 q86 q497) rfl rfl rfl (by decide +kernel) ⟨Nat.le_of_ble_eq_true rfl, Nat.le_of_ble_eq_true rfl⟩) (gPreV xKst hK hA hS hP (x_recv (q := (RX0, TX0, 16)) hK.1 hP rfl g24)) rfl rfl hl.1 rfl (lv_room (Nat.le_of_ble_eq_true rfl)) dX0_saidBy_40 ⟨by first | omega | (dsimp only; omega), by first | omega | (dsimp only; omega)⟩) hS (fun H locs hP hS => ?_)
  exact ret _ _ _ _ _ _ dX0_saidBy_43 rfl hP hS h

def bX0_comesTo_115 (k8 : Nat → Int32 → Int64 → Int64 → Int32 → XS → Option (Int64 × XS)) (k103 : Nat → Int32 → Int64 → Int64 → Int32 → Int32 → XS → Option (Int64 × XS)) (k115 : Nat → Int32 → Int64 → Int64 → Int32 → Int32 → Int32 → XS → Option (Int64 × XS)) (x0 : Nat) (x1 : Int32) (x2 : Int64) (x4 : Int64) (x6 : Int32) (x8 : Int32) (x9 : Int32) (S : XS) : Option (Int64 × XS) :=
(if x1 ≤ x9 then
nm (x8 + (1 : Int32)) fun y2 =>
k103 x0 x1 x2 x4 x6 y2 S
else
bn1 (gR S x0 0 9) fun a4 =>
bn1 (aR S a4 6 x8) fun a6 =>
bn1 (gR S x0 0 9) fun a8 =>
bn1 (aR S a8 6 x8) fun a10 =>
bn1 (aL S a10 x9) fun v12 =>
bn1 (gR S x0 0 9) fun a14 =>
bn1 (aR S a14 6 x6) fun a16 =>
bn1 (aL S a16 x6) fun v18 =>
bn1 (gR S x0 0 9) fun a20 =>
bn1 (aR S a20 6 x8) fun a22 =>
bn1 (aL S a22 x6) fun v24 =>
bn1 (gR S x0 0 9) fun a26 =>
bn1 (aR S a26 6 x6) fun a28 =>
bn1 (aL S a28 x9) fun v30 =>
chk (ne0L x2) (bn1 (sL S a6 x9 (((v12 * v18) - (v24 * v30)) / x2)) fun S33 =>
nm (x9 + (1 : Int32)) fun y34 =>
k115 x0 x1 x2 x4 x6 x8 y34 S33))
def lX0_comesTo_115 (k8 : Nat → Int32 → Int64 → Int64 → Int32 → XS → Option (Int64 × XS)) (k103 : Nat → Int32 → Int64 → Int64 → Int32 → Int32 → XS → Option (Int64 × XS)) : Nat → (Nat → Int32 → Int64 → Int64 → Int32 → Int32 → Int32 → XS → Option (Int64 × XS))
  | 0 => fun _ _ _ _ _ _ _ _ => none
  | n + 1 => bX0_comesTo_115 k8 k103 (lX0_comesTo_115 k8 k103 n)
def bX0_comesTo_103 (k8 : Nat → Int32 → Int64 → Int64 → Int32 → XS → Option (Int64 × XS)) (k103 : Nat → Int32 → Int64 → Int64 → Int32 → Int32 → XS → Option (Int64 × XS)) (x0 : Nat) (x1 : Int32) (x2 : Int64) (x4 : Int64) (x6 : Int32) (x8 : Int32) (S : XS) : Option (Int64 × XS) :=
(if x1 ≤ x8 then
bn1 (gR S x0 0 9) fun a37 =>
bn1 (aR S a37 6 x6) fun a39 =>
bn1 (aL S a39 x6) fun v41 =>
nm (x6 + (1 : Int32)) fun y42 =>
k8 x0 x1 v41 x4 y42 S
else
nm (x6 + (1 : Int32)) fun y43 =>
lX0_comesTo_115 k8 k103 FU x0 x1 x2 x4 x6 x8 y43 S)
def lX0_comesTo_103 (k8 : Nat → Int32 → Int64 → Int64 → Int32 → XS → Option (Int64 × XS)) : Nat → (Nat → Int32 → Int64 → Int64 → Int32 → Int32 → XS → Option (Int64 × XS))
  | 0 => fun _ _ _ _ _ _ _ => none
  | n + 1 => bX0_comesTo_103 k8 (lX0_comesTo_103 k8 n)
def bX0_comesTo_97 (k8 : Nat → Int32 → Int64 → Int64 → Int32 → XS → Option (Int64 × XS)) (x0 : Nat) (x1 : Int32) (x2 : Int64) (x4 : Int64) (x6 : Int32) (S : XS) : Option (Int64 × XS) :=
nm (x6 + (1 : Int32)) fun y44 =>
lX0_comesTo_103 k8 FU x0 x1 x2 x4 x6 y44 S
def bX0_comesTo_45 (k8 : Nat → Int32 → Int64 → Int64 → Int32 → XS → Option (Int64 × XS)) (x0 : Nat) (x1 : Int32) (x2 : Int64) (x4 : Int64) (x6 : Int32) (x7 : Int32) (S : XS) : Option (Int64 × XS) :=
(if x7 = x1 then
some ((0 : Int64), S)
else
(if x7 ≤ x6 then
bX0_comesTo_97 k8 x0 x1 x2 x4 x6 S
else
bn1 (gR S x0 0 9) fun a48 =>
bn1 (aR S a48 6 x7) fun a50 =>
bn1 (gR S x0 0 9) fun a52 =>
bn1 (gR S x0 0 9) fun a54 =>
bn1 (aR S a54 6 x6) fun a56 =>
chk (isL S a56) (bn1 (sQ S a52 6 x7 (some a56)) fun S58 =>
bn1 (gR S58 x0 0 9) fun a60 =>
chk (isL S58 a50) (bn1 (sQ S58 a60 6 x6 (some a50)) fun S62 =>
nm (-x4) fun y63 =>
bX0_comesTo_97 k8 x0 x1 x2 y63 x6 S62))))
def bX0_comesTo_18 (k8 : Nat → Int32 → Int64 → Int64 → Int32 → XS → Option (Int64 × XS)) (k18 : Nat → Int32 → Int64 → Int64 → Int32 → Int32 → XS → Option (Int64 × XS)) (x0 : Nat) (x1 : Int32) (x2 : Int64) (x4 : Int64) (x6 : Int32) (x7 : Int32) (S : XS) : Option (Int64 × XS) :=
(if x1 ≤ x7 then
bX0_comesTo_45 k8 x0 x1 x2 x4 x6 x7 S
else
bn1 (gR S x0 0 9) fun a68 =>
bn1 (aR S a68 6 x7) fun a70 =>
bn1 (aL S a70 x6) fun v72 =>
(if (lg_cmp v72 (0 : Int64)) = 0 then
nm (x7 + (1 : Int32)) fun y74 =>
k18 x0 x1 x2 x4 x6 y74 S
else
bX0_comesTo_45 k8 x0 x1 x2 x4 x6 x7 S))
def lX0_comesTo_18 (k8 : Nat → Int32 → Int64 → Int64 → Int32 → XS → Option (Int64 × XS)) : Nat → (Nat → Int32 → Int64 → Int64 → Int32 → Int32 → XS → Option (Int64 × XS))
  | 0 => fun _ _ _ _ _ _ _ => none
  | n + 1 => bX0_comesTo_18 k8 (lX0_comesTo_18 k8 n)
def bX0_comesTo_8 (k8 : Nat → Int32 → Int64 → Int64 → Int32 → XS → Option (Int64 × XS)) (x0 : Nat) (x1 : Int32) (x2 : Int64) (x4 : Int64) (x6 : Int32) (S : XS) : Option (Int64 × XS) :=
(if x1 ≤ x6 then
some ((x4 * x2), S)
else
lX0_comesTo_18 k8 FU x0 x1 x2 x4 x6 x6 S)
def lX0_comesTo_8 : Nat → (Nat → Int32 → Int64 → Int64 → Int32 → XS → Option (Int64 × XS))
  | 0 => fun _ _ _ _ _ _ => none
  | n + 1 => bX0_comesTo_8 (lX0_comesTo_8 n)
def fX0_comesTo (x0 : Nat) (x1 : Int32) (S : XS) : Option (Int64 × XS) :=
lX0_comesTo_8 FU x0 x1 (1 : Int64) (1 : Int64) (0 : Int32) S
set_option maxHeartbeats 4000000 in
set_option maxRecDepth 100000 in
theorem mX0_comesTo {l : Launch} {D : va_G} {cA : Nat → ClassId} {A : Nat → Prop} (x0 : Nat) (x1 : Int32) (S : XS) {out : (Int64 × XS)} (h : fX0_comesTo x0 x1 S = some out) : Met l yX0_comesTo (ws_ yX0_comesTo cX0_comesTo 10 (some .long)) ({ frames := 0, cells := 0, slots := 0, locals := 0 } : Room) (gPc (xK D cA A) (xP D cA A) A [.ref x0, .int x1] S) (gQl (xK D cA A) (xP D cA A) A out) 0 0 A := by
  refine gMet_l (by decide) (Nat.le_of_ble_eq_true rfl) ?_ xKst
  intro p e s m below meth c Q ls args H locs hC hP hS hl ret
  obtain ⟨hx, hb, hml, hown, hts, hA, hK⟩ := hC
  have hown : s.vm.findClass RX0 = some m.cls := hown
  have hl : lv_has ls 10 [(0, .ref x0), (1, .int x1)] := hl
  have L8 : ∀ (n8 : Nat) (x0 : Nat) (x1 : Int32) (x2 : Int64) (x4 : Int64) (x6 : Int32) (S : XS) (H : Heap) (locs : List Loc) (ls : Array Slot), xP D cA A S H → va_S A s.heap H locs → lv_has ls 10 [(0, .ref x0), (1, .int x1), (2, .long x2), (4, .long x4), (6, .int x6)] → lX0_comesTo_8 n8 x0 x1 x2 x4 x6 S = some out → W p l e ({ frames := 0, cells := 0, slots := 0, locals := 0 } : Room) s m args below meth c H locs 0 0 Q (F0 m 8 ls []) := by
    intro n8
    induction n8 with
    | zero =>
      intro x0 x1 x2 x4 x6 S H locs ls hP hS hl h
      cases h
    | succ n8 ih8 =>
      have L103 : ∀ (n103 : Nat) (x0 : Nat) (x1 : Int32) (x2 : Int64) (x4 : Int64) (x6 : Int32) (x8 : Int32) (S : XS) (H : Heap) (locs : List Loc) (ls : Array Slot), xP D cA A S H → va_S A s.heap H locs → lv_has ls 10 [(0, .ref x0), (1, .int x1), (2, .long x2), (4, .long x4), (6, .int x6), (8, .int x8)] → lX0_comesTo_103 (lX0_comesTo_8 n8) n103 x0 x1 x2 x4 x6 x8 S = some out → W p l e ({ frames := 0, cells := 0, slots := 0, locals := 0 } : Room) s m args below meth c H locs 0 0 Q (F0 m 103 ls []) := by
        intro n103
        induction n103 with
        | zero =>
          intro x0 x1 x2 x4 x6 x8 S H locs ls hP hS hl h
          cases h
        | succ n103 ih103 =>
          have L115 : ∀ (n115 : Nat) (x0 : Nat) (x1 : Int32) (x2 : Int64) (x4 : Int64) (x6 : Int32) (x8 : Int32) (x9 : Int32) (S : XS) (H : Heap) (locs : List Loc) (ls : Array Slot), xP D cA A S H → va_S A s.heap H locs → lv_has ls 10 [(0, .ref x0), (1, .int x1), (2, .long x2), (4, .long x4), (6, .int x6), (8, .int x8), (9, .int x9)] → lX0_comesTo_115 (lX0_comesTo_8 n8) (lX0_comesTo_103 (lX0_comesTo_8 n8) n103) n115 x0 x1 x2 x4 x6 x8 x9 S = some out → W p l e ({ frames := 0, cells := 0, slots := 0, locals := 0 } : Room) s m args below meth c H locs 0 0 Q (F0 m 115 ls []) := by
            intro n115
            induction n115 with
            | zero =>
              intro x0 x1 x2 x4 x6 x8 x9 S H locs ls hP hS hl h
              cases h
            | succ n115 ih115 =>
              intro x0 x1 x2 x4 x6 x8 x9 S H locs ls hP hS hl h
              replace h : bX0_comesTo_115 (lX0_comesTo_8 n8) (lX0_comesTo_103 (lX0_comesTo_8 n8) n103) (lX0_comesTo_115 (lX0_comesTo_8 n8) (lX0_comesTo_103 (lX0_comesTo_8 n8) n103) n115) x0 x1 x2 x4 x6 x8 x9 S = some out := h
              unfold bX0_comesTo_115 at h
              refine lv_iload hx hb dX0_comesTo_115 (lv_at hl 6 rfl) ?_
              refine lv_iload_n hx hb dX0_comesTo_117 rfl (lv_at hl 1 rfl) ?_
              refine lv_icmp_ge (tgt := 182) hx hb dX0_comesTo_118 (by decide) (fun c1 => ?_) (fun c1 => ?_)
              · have h := ite_t c1 h
                obtain ⟨y2, ey2⟩ : ∃ y : Int32, y = x8 + (1 : Int32) := ⟨_, rfl⟩
                refine lv_iinc (v := y2) (lv' := [(8, .int y2), (0, .ref x0), (1, .int x1), (2, .long x2), (4, .long x4), (6, .int x6), (9, .int x9)]) hx hb dX0_comesTo_182 hl (k := 5) rfl (by rw [ey2]; rfl) (by decide) rfl (fun ls hl => ?_)
                have h := nm_at ey2 h
                refine lv_goto (tgt := 103) hx hb dX0_comesTo_185 (by decide) ?_
                exact ih103 x0 x1 x2 x4 x6 y2 S _ _ _ hP hS (lv_sub hl [1, 2, 3, 4, 5, 0] rfl) h
              · have h := ite_f c1 h
                refine lv_aload_n hx hb dX0_comesTo_121 rfl (lv_at hl 0 rfl) ?_
                obtain ⟨a4, e3, h⟩ := bn1_some h
                refine x_get (C := RX0) (T := TX0) (N := 16) (ci := 0) hx hb hts in_X0 hown hK.1 hP rfl 9 (by decide) (hts _ q238) (fun _ h9 => h9) (gR_some e3) dX0_comesTo_122 ?_
                refine lv_iload hx hb dX0_comesTo_125 (lv_at hl 5 rfl) ?_
                obtain ⟨a6, e5, h⟩ := bn1_some h
                refine x_aldr (t := 6) hx hb hK.1 hP (by decide) e5 dX0_comesTo_127 ?_
                refine lv_iload hx hb dX0_comesTo_128 (lv_at hl 6 rfl) ?_
                refine lv_aload_n hx hb dX0_comesTo_130 rfl (lv_at hl 0 rfl) ?_
                obtain ⟨a8, e7, h⟩ := bn1_some h
                refine x_get (C := RX0) (T := TX0) (N := 16) (ci := 0) hx hb hts in_X0 hown hK.1 hP rfl 9 (by decide) (hts _ q238) (fun _ h9 => h9) (gR_some e7) dX0_comesTo_131 ?_
                refine lv_iload hx hb dX0_comesTo_134 (lv_at hl 5 rfl) ?_
                obtain ⟨a10, e9, h⟩ := bn1_some h
                refine x_aldr (t := 6) hx hb hK.1 hP (by decide) e9 dX0_comesTo_136 ?_
                refine lv_iload hx hb dX0_comesTo_137 (lv_at hl 6 rfl) ?_
                obtain ⟨v12, e11, h⟩ := bn1_some h
                refine x_lald hx hb hK.1 hP e11 dX0_comesTo_139 ?_
                refine lv_aload_n hx hb dX0_comesTo_140 rfl (lv_at hl 0 rfl) ?_
                obtain ⟨a14, e13, h⟩ := bn1_some h
                refine x_get (C := RX0) (T := TX0) (N := 16) (ci := 0) hx hb hts in_X0 hown hK.1 hP rfl 9 (by decide) (hts _ q238) (fun _ h9 => h9) (gR_some e13) dX0_comesTo_141 ?_
                refine lv_iload hx hb dX0_comesTo_144 (lv_at hl 4 rfl) ?_
                obtain ⟨a16, e15, h⟩ := bn1_some h
                refine x_aldr (t := 6) hx hb hK.1 hP (by decide) e15 dX0_comesTo_146 ?_
                refine lv_iload hx hb dX0_comesTo_147 (lv_at hl 4 rfl) ?_
                obtain ⟨v18, e17, h⟩ := bn1_some h
                refine x_lald hx hb hK.1 hP e17 dX0_comesTo_149 ?_
                refine lv_lmul hx hb dX0_comesTo_150 ?_
                refine lv_aload_n hx hb dX0_comesTo_151 rfl (lv_at hl 0 rfl) ?_
                obtain ⟨a20, e19, h⟩ := bn1_some h
                refine x_get (C := RX0) (T := TX0) (N := 16) (ci := 0) hx hb hts in_X0 hown hK.1 hP rfl 9 (by decide) (hts _ q238) (fun _ h9 => h9) (gR_some e19) dX0_comesTo_152 ?_
                refine lv_iload hx hb dX0_comesTo_155 (lv_at hl 5 rfl) ?_
                obtain ⟨a22, e21, h⟩ := bn1_some h
                refine x_aldr (t := 6) hx hb hK.1 hP (by decide) e21 dX0_comesTo_157 ?_
                refine lv_iload hx hb dX0_comesTo_158 (lv_at hl 4 rfl) ?_
                obtain ⟨v24, e23, h⟩ := bn1_some h
                refine x_lald hx hb hK.1 hP e23 dX0_comesTo_160 ?_
                refine lv_aload_n hx hb dX0_comesTo_161 rfl (lv_at hl 0 rfl) ?_
                obtain ⟨a26, e25, h⟩ := bn1_some h
                refine x_get (C := RX0) (T := TX0) (N := 16) (ci := 0) hx hb hts in_X0 hown hK.1 hP rfl 9 (by decide) (hts _ q238) (fun _ h9 => h9) (gR_some e25) dX0_comesTo_162 ?_
                refine lv_iload hx hb dX0_comesTo_165 (lv_at hl 4 rfl) ?_
                obtain ⟨a28, e27, h⟩ := bn1_some h
                refine x_aldr (t := 6) hx hb hK.1 hP (by decide) e27 dX0_comesTo_167 ?_
                refine lv_iload hx hb dX0_comesTo_168 (lv_at hl 6 rfl) ?_
                obtain ⟨v30, e29, h⟩ := bn1_some h
                refine x_lald hx hb hK.1 hP e29 dX0_comesTo_170 ?_
                refine lv_lmul hx hb dX0_comesTo_171 ?_
                refine lv_lsub hx hb dX0_comesTo_172 ?_
                refine lv_lload_n hx hb dX0_comesTo_173 rfl (lv_at hl 2 rfl) ?_
                obtain ⟨g31, h⟩ := chk_some h
                refine lv_ldiv hx hb dX0_comesTo_174 (ne0L_n g31) ?_
                obtain ⟨S33, e32, h⟩ := bn1_some h
                refine x_last hx hb hK.1 hP hS e32 dX0_comesTo_175 (fun H locs hP hS => ?_)
                obtain ⟨y34, ey34⟩ : ∃ y : Int32, y = x9 + (1 : Int32) := ⟨_, rfl⟩
                refine lv_iinc (v := y34) (lv' := [(9, .int y34), (0, .ref x0), (1, .int x1), (2, .long x2), (4, .long x4), (6, .int x6), (8, .int x8)]) hx hb dX0_comesTo_176 hl (k := 6) rfl (by rw [ey34]; rfl) (by decide) rfl (fun ls hl => ?_)
                have h := nm_at ey34 h
                refine lv_goto (tgt := 115) hx hb dX0_comesTo_179 (by decide) ?_
                exact ih115 x0 x1 x2 x4 x6 x8 y34 S33 _ _ _ hP hS (lv_sub hl [1, 2, 3, 4, 5, 6, 0] rfl) h
          intro x0 x1 x2 x4 x6 x8 S H locs ls hP hS hl h
          replace h : bX0_comesTo_103 (lX0_comesTo_8 n8) (lX0_comesTo_103 (lX0_comesTo_8 n8) n103) x0 x1 x2 x4 x6 x8 S = some out := h
          unfold bX0_comesTo_103 at h
          refine lv_iload hx hb dX0_comesTo_103 (lv_at hl 5 rfl) ?_
          refine lv_iload_n hx hb dX0_comesTo_105 rfl (lv_at hl 1 rfl) ?_
          refine lv_icmp_ge (tgt := 188) hx hb dX0_comesTo_106 (by decide) (fun c35 => ?_) (fun c35 => ?_)
          · have h := ite_t c35 h
            refine lv_aload_n hx hb dX0_comesTo_188 rfl (lv_at hl 0 rfl) ?_
            obtain ⟨a37, e36, h⟩ := bn1_some h
            refine x_get (C := RX0) (T := TX0) (N := 16) (ci := 0) hx hb hts in_X0 hown hK.1 hP rfl 9 (by decide) (hts _ q238) (fun _ h9 => h9) (gR_some e36) dX0_comesTo_189 ?_
            refine lv_iload hx hb dX0_comesTo_192 (lv_at hl 4 rfl) ?_
            obtain ⟨a39, e38, h⟩ := bn1_some h
            refine x_aldr (t := 6) hx hb hK.1 hP (by decide) e38 dX0_comesTo_194 ?_
            refine lv_iload hx hb dX0_comesTo_195 (lv_at hl 4 rfl) ?_
            obtain ⟨v41, e40, h⟩ := bn1_some h
            refine x_lald hx hb hK.1 hP e40 dX0_comesTo_197 ?_
            refine lv_lstore_n (lv' := [(2, .long v41), (0, .ref x0), (1, .int x1), (4, .long x4), (6, .int x6), (8, .int x8)]) hx hb dX0_comesTo_198 rfl hl (by decide) rfl (fun ls hl => ?_)
            obtain ⟨y42, ey42⟩ : ∃ y : Int32, y = x6 + (1 : Int32) := ⟨_, rfl⟩
            refine lv_iinc (v := y42) (lv' := [(6, .int y42), (2, .long v41), (0, .ref x0), (1, .int x1), (4, .long x4), (8, .int x8)]) hx hb dX0_comesTo_199 hl (k := 4) rfl (by rw [ey42]; rfl) (by decide) rfl (fun ls hl => ?_)
            have h := nm_at ey42 h
            refine lv_goto (tgt := 8) hx hb dX0_comesTo_202 (by decide) ?_
            exact ih8 x0 x1 v41 x4 y42 S _ _ _ hP hS (lv_sub hl [2, 3, 1, 4, 0] rfl) h
          · have h := ite_f c35 h
            refine lv_iload hx hb dX0_comesTo_109 (lv_at hl 4 rfl) ?_
            refine lv_iconst (v := (1 : Int32)) hx hb dX0_comesTo_111 (by decide) ?_
            refine lv_iadd hx hb dX0_comesTo_112 ?_
            refine lv_topi (fun y43 ey43 => ?_)
            have h := nm_at ey43 h
            refine lv_istore (lv' := [(9, .int y43), (0, .ref x0), (1, .int x1), (2, .long x2), (4, .long x4), (6, .int x6), (8, .int x8)]) hx hb dX0_comesTo_113 hl (by decide) rfl (fun ls hl => ?_)
            exact L115 FU x0 x1 x2 x4 x6 x8 y43 S _ _ _ hP hS (lv_sub hl [1, 2, 3, 4, 5, 6, 0] rfl) h
      have B97 : ∀ (x0 : Nat) (x1 : Int32) (x2 : Int64) (x4 : Int64) (x6 : Int32) (S : XS) (H : Heap) (locs : List Loc) (ls : Array Slot), xP D cA A S H → va_S A s.heap H locs → lv_has ls 10 [(0, .ref x0), (1, .int x1), (2, .long x2), (4, .long x4), (6, .int x6)] → bX0_comesTo_97 (lX0_comesTo_8 n8) x0 x1 x2 x4 x6 S = some out → W p l e ({ frames := 0, cells := 0, slots := 0, locals := 0 } : Room) s m args below meth c H locs 0 0 Q (F0 m 97 ls []) := by
        intro x0 x1 x2 x4 x6 S H locs ls hP hS hl h
        unfold bX0_comesTo_97 at h
        refine lv_iload hx hb dX0_comesTo_97 (lv_at hl 4 rfl) ?_
        refine lv_iconst (v := (1 : Int32)) hx hb dX0_comesTo_99 (by decide) ?_
        refine lv_iadd hx hb dX0_comesTo_100 ?_
        refine lv_topi (fun y44 ey44 => ?_)
        have h := nm_at ey44 h
        refine lv_istore (lv' := [(8, .int y44), (0, .ref x0), (1, .int x1), (2, .long x2), (4, .long x4), (6, .int x6)]) hx hb dX0_comesTo_101 hl (by decide) rfl (fun ls hl => ?_)
        exact L103 FU x0 x1 x2 x4 x6 y44 S _ _ _ hP hS (lv_sub hl [1, 2, 3, 4, 5, 0] rfl) h
      have B45 : ∀ (x0 : Nat) (x1 : Int32) (x2 : Int64) (x4 : Int64) (x6 : Int32) (x7 : Int32) (S : XS) (H : Heap) (locs : List Loc) (ls : Array Slot), xP D cA A S H → va_S A s.heap H locs → lv_has ls 10 [(0, .ref x0), (1, .int x1), (2, .long x2), (4, .long x4), (6, .int x6), (7, .int x7)] → bX0_comesTo_45 (lX0_comesTo_8 n8) x0 x1 x2 x4 x6 x7 S = some out → W p l e ({ frames := 0, cells := 0, slots := 0, locals := 0 } : Room) s m args below meth c H locs 0 0 Q (F0 m 45 ls []) := by
        intro x0 x1 x2 x4 x6 x7 S H locs ls hP hS hl h
        unfold bX0_comesTo_45 at h
        refine lv_iload hx hb dX0_comesTo_45 (lv_at hl 5 rfl) ?_
        refine lv_iload_n hx hb dX0_comesTo_47 rfl (lv_at hl 1 rfl) ?_
        refine lv_icmp_ne (tgt := 53) hx hb dX0_comesTo_48 (by decide) (fun c45 => ?_) (fun c45 => ?_)
        · have h := ite_f c45 h
          refine lv_iload hx hb dX0_comesTo_53 (lv_at hl 5 rfl) ?_
          refine lv_iload hx hb dX0_comesTo_55 (lv_at hl 4 rfl) ?_
          refine lv_icmp_le (tgt := 97) hx hb dX0_comesTo_57 (by decide) (fun c46 => ?_) (fun c46 => ?_)
          · have h := ite_t c46 h
            exact B97 x0 x1 x2 x4 x6 S _ _ _ hP hS (lv_sub hl [0, 1, 2, 3, 4] rfl) h
          · have h := ite_f c46 h
            refine lv_aload_n hx hb dX0_comesTo_60 rfl (lv_at hl 0 rfl) ?_
            obtain ⟨a48, e47, h⟩ := bn1_some h
            refine x_get (C := RX0) (T := TX0) (N := 16) (ci := 0) hx hb hts in_X0 hown hK.1 hP rfl 9 (by decide) (hts _ q238) (fun _ h9 => h9) (gR_some e47) dX0_comesTo_61 ?_
            refine lv_iload hx hb dX0_comesTo_64 (lv_at hl 5 rfl) ?_
            obtain ⟨a50, e49, h⟩ := bn1_some h
            refine x_aldr (t := 6) hx hb hK.1 hP (by decide) e49 dX0_comesTo_66 ?_
            refine lv_astore (lv' := [(8, .ref a50), (0, .ref x0), (1, .int x1), (2, .long x2), (4, .long x4), (6, .int x6), (7, .int x7)]) hx hb dX0_comesTo_67 hl (by decide) rfl (fun ls hl => ?_)
            refine lv_aload_n hx hb dX0_comesTo_69 rfl (lv_at hl 1 rfl) ?_
            obtain ⟨a52, e51, h⟩ := bn1_some h
            refine x_get (C := RX0) (T := TX0) (N := 16) (ci := 0) hx hb hts in_X0 hown hK.1 hP rfl 9 (by decide) (hts _ q238) (fun _ h9 => h9) (gR_some e51) dX0_comesTo_70 ?_
            refine lv_iload hx hb dX0_comesTo_73 (lv_at hl 6 rfl) ?_
            refine lv_aload_n hx hb dX0_comesTo_75 rfl (lv_at hl 1 rfl) ?_
            obtain ⟨a54, e53, h⟩ := bn1_some h
            refine x_get (C := RX0) (T := TX0) (N := 16) (ci := 0) hx hb hts in_X0 hown hK.1 hP rfl 9 (by decide) (hts _ q238) (fun _ h9 => h9) (gR_some e53) dX0_comesTo_76 ?_
            refine lv_iload hx hb dX0_comesTo_79 (lv_at hl 5 rfl) ?_
            obtain ⟨a56, e55, h⟩ := bn1_some h
            refine x_aldr (t := 6) hx hb hK.1 hP (by decide) e55 dX0_comesTo_81 ?_
            obtain ⟨g65, h⟩ := chk_some h
            obtain ⟨S58, e57, h⟩ := bn1_some h
            refine x_astl hx hb hK hP hS g65 e57 dX0_comesTo_82 (fun H locs hP hS => ?_)
            refine lv_aload_n hx hb dX0_comesTo_83 rfl (lv_at hl 1 rfl) ?_
            obtain ⟨a60, e59, h⟩ := bn1_some h
            refine x_get (C := RX0) (T := TX0) (N := 16) (ci := 0) hx hb hts in_X0 hown hK.1 hP rfl 9 (by decide) (hts _ q238) (fun _ h9 => h9) (gR_some e59) dX0_comesTo_84 ?_
            refine lv_iload hx hb dX0_comesTo_87 (lv_at hl 5 rfl) ?_
            refine lv_aload hx hb dX0_comesTo_89 (lv_at hl 0 rfl) ?_
            obtain ⟨g64, h⟩ := chk_some h
            obtain ⟨S62, e61, h⟩ := bn1_some h
            refine x_astl hx hb hK hP hS g64 e61 dX0_comesTo_91 (fun H locs hP hS => ?_)
            refine lv_lload hx hb dX0_comesTo_92 (lv_at hl 4 rfl) ?_
            refine lv_lneg hx hb dX0_comesTo_94 ?_
            refine lv_topl (fun y63 ey63 => ?_)
            have h := nm_at ey63 h
            refine lv_lstore (lv' := [(4, .long y63), (8, .ref a50), (0, .ref x0), (1, .int x1), (2, .long x2), (6, .int x6), (7, .int x7)]) hx hb dX0_comesTo_95 hl (by decide) rfl (fun ls hl => ?_)
            exact B97 x0 x1 x2 y63 x6 S62 _ _ _ hP hS (lv_sub hl [2, 3, 4, 0, 5] rfl) h
        · have h := ite_t c45 h
          refine lv_lconst (v := (0 : Int64)) hx hb dX0_comesTo_51 (by decide) ?_
          exact ret _ _ _ _ _ _ dX0_comesTo_52 hP hS h
      have L18 : ∀ (n18 : Nat) (x0 : Nat) (x1 : Int32) (x2 : Int64) (x4 : Int64) (x6 : Int32) (x7 : Int32) (S : XS) (H : Heap) (locs : List Loc) (ls : Array Slot), xP D cA A S H → va_S A s.heap H locs → lv_has ls 10 [(0, .ref x0), (1, .int x1), (2, .long x2), (4, .long x4), (6, .int x6), (7, .int x7)] → lX0_comesTo_18 (lX0_comesTo_8 n8) n18 x0 x1 x2 x4 x6 x7 S = some out → W p l e ({ frames := 0, cells := 0, slots := 0, locals := 0 } : Room) s m args below meth c H locs 0 0 Q (F0 m 18 ls []) := by
        intro n18
        induction n18 with
        | zero =>
          intro x0 x1 x2 x4 x6 x7 S H locs ls hP hS hl h
          cases h
        | succ n18 ih18 =>
          intro x0 x1 x2 x4 x6 x7 S H locs ls hP hS hl h
          replace h : bX0_comesTo_18 (lX0_comesTo_8 n8) (lX0_comesTo_18 (lX0_comesTo_8 n8) n18) x0 x1 x2 x4 x6 x7 S = some out := h
          unfold bX0_comesTo_18 at h
          refine lv_iload hx hb dX0_comesTo_18 (lv_at hl 5 rfl) ?_
          refine lv_iload_n hx hb dX0_comesTo_20 rfl (lv_at hl 1 rfl) ?_
          refine lv_icmp_ge (tgt := 45) hx hb dX0_comesTo_21 (by decide) (fun c66 => ?_) (fun c66 => ?_)
          · have h := ite_t c66 h
            exact B45 x0 x1 x2 x4 x6 x7 S _ _ _ hP hS hl h
          · have h := ite_f c66 h
            refine lv_aload_n hx hb dX0_comesTo_24 rfl (lv_at hl 0 rfl) ?_
            obtain ⟨a68, e67, h⟩ := bn1_some h
            refine x_get (C := RX0) (T := TX0) (N := 16) (ci := 0) hx hb hts in_X0 hown hK.1 hP rfl 9 (by decide) (hts _ q238) (fun _ h9 => h9) (gR_some e67) dX0_comesTo_25 ?_
            refine lv_iload hx hb dX0_comesTo_28 (lv_at hl 5 rfl) ?_
            obtain ⟨a70, e69, h⟩ := bn1_some h
            refine x_aldr (t := 6) hx hb hK.1 hP (by decide) e69 dX0_comesTo_30 ?_
            refine lv_iload hx hb dX0_comesTo_31 (lv_at hl 4 rfl) ?_
            obtain ⟨v72, e71, h⟩ := bn1_some h
            refine x_lald hx hb hK.1 hP e71 dX0_comesTo_33 ?_
            refine lv_lconst (v := (0 : Int64)) hx hb dX0_comesTo_34 (by decide) ?_
            refine W.lcmp hx hb dX0_comesTo_35 ?_
            refine lv_if_ne (tgt := 45) hx hb dX0_comesTo_36 (by decide) (fun c73 => ?_) (fun c73 => ?_)
            · have h := ite_f c73 h
              exact B45 x0 x1 x2 x4 x6 x7 S _ _ _ hP hS hl h
            · have h := ite_t c73 h
              obtain ⟨y74, ey74⟩ : ∃ y : Int32, y = x7 + (1 : Int32) := ⟨_, rfl⟩
              refine lv_iinc (v := y74) (lv' := [(7, .int y74), (0, .ref x0), (1, .int x1), (2, .long x2), (4, .long x4), (6, .int x6)]) hx hb dX0_comesTo_39 hl (k := 5) rfl (by rw [ey74]; rfl) (by decide) rfl (fun ls hl => ?_)
              have h := nm_at ey74 h
              refine lv_goto (tgt := 18) hx hb dX0_comesTo_42 (by decide) ?_
              exact ih18 x0 x1 x2 x4 x6 y74 S _ _ _ hP hS (lv_sub hl [1, 2, 3, 4, 5, 0] rfl) h
      intro x0 x1 x2 x4 x6 S H locs ls hP hS hl h
      replace h : bX0_comesTo_8 (lX0_comesTo_8 n8) x0 x1 x2 x4 x6 S = some out := h
      unfold bX0_comesTo_8 at h
      refine lv_iload hx hb dX0_comesTo_8 (lv_at hl 4 rfl) ?_
      refine lv_iload_n hx hb dX0_comesTo_10 rfl (lv_at hl 1 rfl) ?_
      refine lv_icmp_ge (tgt := 205) hx hb dX0_comesTo_11 (by decide) (fun c75 => ?_) (fun c75 => ?_)
      · have h := ite_t c75 h
        refine lv_lload hx hb dX0_comesTo_205 (lv_at hl 3 rfl) ?_
        refine lv_lload_n hx hb dX0_comesTo_207 rfl (lv_at hl 2 rfl) ?_
        refine lv_lmul hx hb dX0_comesTo_208 ?_
        exact ret _ _ _ _ _ _ dX0_comesTo_209 hP hS h
      · have h := ite_f c75 h
        refine lv_iload hx hb dX0_comesTo_14 (lv_at hl 4 rfl) ?_
        refine lv_istore (lv' := [(7, .int x6), (0, .ref x0), (1, .int x1), (2, .long x2), (4, .long x4), (6, .int x6)]) hx hb dX0_comesTo_16 hl (by decide) rfl (fun ls hl => ?_)
        exact L18 FU x0 x1 x2 x4 x6 x6 S _ _ _ hP hS (lv_sub hl [1, 2, 3, 4, 5, 0] rfl) h
  unfold fX0_comesTo at h
  refine lv_lconst (v := (1 : Int64)) hx hb dX0_comesTo_0 (by decide) ?_
  refine lv_lstore_n (lv' := [(2, .long (1 : Int64)), (0, .ref x0), (1, .int x1)]) hx hb dX0_comesTo_1 rfl hl (by decide) rfl (fun ls hl => ?_)
  refine lv_lconst (v := (1 : Int64)) hx hb dX0_comesTo_2 (by decide) ?_
  refine lv_lstore (lv' := [(4, .long (1 : Int64)), (2, .long (1 : Int64)), (0, .ref x0), (1, .int x1)]) hx hb dX0_comesTo_3 hl (by decide) rfl (fun ls hl => ?_)
  refine lv_iconst (v := (0 : Int32)) hx hb dX0_comesTo_5 (by decide) ?_
  refine lv_istore (lv' := [(6, .int (0 : Int32)), (4, .long (1 : Int64)), (2, .long (1 : Int64)), (0, .ref x0), (1, .int x1)]) hx hb dX0_comesTo_6 hl (by decide) rfl (fun ls hl => ?_)
  exact L8 FU x0 x1 (1 : Int64) (1 : Int64) (0 : Int32) S _ _ _ hP hS (lv_sub hl [3, 4, 2, 1, 0] rfl) h

def bX0_isSolved_359 (k268 : Nat → Int32 → Int32 → XS → Option (Int32 × XS)) (x0 : Nat) (x1 : Int32) (x2 : Int32) (S : XS) : Option (Int32 × XS) :=
nm (x2 + (1 : Int32)) fun y1 =>
k268 x0 x1 y1 S
def bX0_isSolved_321 (k268 : Nat → Int32 → Int32 → XS → Option (Int32 × XS)) (k275 : Nat → Int32 → Int32 → Int32 → XS → Option (Int32 × XS)) (k283 : Nat → Int32 → Int32 → Int32 → Int32 → XS → Option (Int32 × XS)) (x0 : Nat) (x1 : Int32) (x2 : Int32) (x3 : Int32) (x4 : Int32) (t0 : Nat) (t1 : Int32) (t2 : Int64) (S : XS) : Option (Int32 × XS) :=
bn1 (sL S t0 t1 t2) fun S3 =>
nm (x4 + (1 : Int32)) fun y4 =>
k283 x0 x1 x2 x3 y4 S3
def bX0_isSolved_283 (k268 : Nat → Int32 → Int32 → XS → Option (Int32 × XS)) (k275 : Nat → Int32 → Int32 → Int32 → XS → Option (Int32 × XS)) (k283 : Nat → Int32 → Int32 → Int32 → Int32 → XS → Option (Int32 × XS)) (x0 : Nat) (x1 : Int32) (x2 : Int32) (x3 : Int32) (x4 : Int32) (S : XS) : Option (Int32 × XS) :=
(if x1 ≤ x4 then
nm (x3 + (1 : Int32)) fun y6 =>
k275 x0 x1 x2 y6 S
else
bn1 (gR S x0 0 9) fun a8 =>
bn1 (aR S a8 6 x3) fun a10 =>
(if x4 = x2 then
bn1 (gR S x0 0 10) fun a19 =>
bn1 (aL S a19 x3) fun v21 =>
bX0_isSolved_321 k268 k275 k283 x0 x1 x2 x3 x4 a10 x4 v21 S
else
bn1 (gR S x0 0 8) fun a13 =>
bn1 (aR S a13 6 x3) fun a15 =>
bn1 (aL S a15 x4) fun v17 =>
bX0_isSolved_321 k268 k275 k283 x0 x1 x2 x3 x4 a10 x4 v17 S))
def lX0_isSolved_283 (k268 : Nat → Int32 → Int32 → XS → Option (Int32 × XS)) (k275 : Nat → Int32 → Int32 → Int32 → XS → Option (Int32 × XS)) : Nat → (Nat → Int32 → Int32 → Int32 → Int32 → XS → Option (Int32 × XS))
  | 0 => fun _ _ _ _ _ _ => none
  | n + 1 => bX0_isSolved_283 k268 k275 (lX0_isSolved_283 k268 k275 n)
def bX0_isSolved_275 (k268 : Nat → Int32 → Int32 → XS → Option (Int32 × XS)) (k275 : Nat → Int32 → Int32 → Int32 → XS → Option (Int32 × XS)) (x0 : Nat) (x1 : Int32) (x2 : Int32) (x3 : Int32) (S : XS) : Option (Int32 × XS) :=
(if x1 ≤ x3 then
chk (isC S x0 0) (bnd (fX0_comesTo x0 x1 S) fun v26 S24 =>
(if 0 ≤ x2 then
bn1 (gR S24 x0 0 11) fun a29 =>
bn1 (sL S24 a29 x2 v26) fun S31 =>
bX0_isSolved_359 k268 x0 x1 x2 S31
else
bn1 (pF S24 x0 0 14 (.long v26)) fun S33 =>
bX0_isSolved_359 k268 x0 x1 x2 S33))
else
lX0_isSolved_283 k268 k275 FU x0 x1 x2 x3 (0 : Int32) S)
def lX0_isSolved_275 (k268 : Nat → Int32 → Int32 → XS → Option (Int32 × XS)) : Nat → (Nat → Int32 → Int32 → Int32 → XS → Option (Int32 × XS))
  | 0 => fun _ _ _ _ _ => none
  | n + 1 => bX0_isSolved_275 k268 (lX0_isSolved_275 k268 n)
def bX0_isSolved_268 (k268 : Nat → Int32 → Int32 → XS → Option (Int32 × XS)) (x0 : Nat) (x1 : Int32) (x2 : Int32) (S : XS) : Option (Int32 × XS) :=
(if x1 ≤ x2 then
some ((1 : Int32), S)
else
lX0_isSolved_275 k268 FU x0 x1 x2 (0 : Int32) S)
def lX0_isSolved_268 : Nat → (Nat → Int32 → Int32 → XS → Option (Int32 × XS))
  | 0 => fun _ _ _ _ => none
  | n + 1 => bX0_isSolved_268 (lX0_isSolved_268 n)
def bX0_isSolved_260 (k61 : Nat → Int32 → Int32 → XS → Option (Int32 × XS)) (x0 : Nat) (x1 : Int32) (x2 : Int32) (S : XS) : Option (Int32 × XS) :=
nm (x2 + (1 : Int32)) fun y35 =>
k61 x0 x1 y35 S
def bX0_isSolved_61 (k61 : Nat → Int32 → Int32 → XS → Option (Int32 × XS)) (x0 : Nat) (x1 : Int32) (x2 : Int32) (S : XS) : Option (Int32 × XS) :=
bn1 (gR S x0 0 2) fun a37 =>
bn1 (gI S a37 1 0) fun v39 =>
(if v39 ≤ x2 then
lX0_isSolved_268 FU x0 x1 (-1 : Int32) S
else
bn1 (gR S x0 0 12) fun a42 =>
chk (isC S x0 0) (bnd (fX0_weightOf x0 x2 S) fun v46 S44 =>
bn1 (sI S44 a42 0 x2 v46) fun S48 =>
bn1 (gR S48 x0 0 13) fun a50 =>
chk (isC S48 x0 0) (bnd (fX0_saidBy x0 x2 S48) fun v54 S52 =>
bn1 (sI S52 a50 0 x2 v54) fun S56 =>
bn1 (gR S56 x0 0 2) fun a58 =>
bn1 (gR S56 a58 1 12) fun a60 =>
bn1 (aI S56 a60 0 x2) fun v62 =>
(if v62 = 0 then
bX0_isSolved_260 k61 x0 x1 x2 S56
else
bn1 (gR S56 x0 0 2) fun a65 =>
bn1 (gR S56 a65 1 9) fun a67 =>
bn1 (aI S56 a67 0 x2) fun v69 =>
bn1 (gR S56 x0 0 2) fun a71 =>
bn1 (gR S56 a71 1 10) fun a73 =>
bn1 (aI S56 a73 0 x2) fun v75 =>
bn1 (gR S56 x0 0 8) fun a77 =>
bn1 (aR S56 a77 6 v75) fun a79 =>
bn1 (aL S56 a79 v75) fun v81 =>
bn1 (gR S56 x0 0 12) fun a83 =>
bn1 (aI S56 a83 0 x2) fun v85 =>
bn1 (sL S56 a79 v75 (v81 + ((v85).toInt64))) fun S87 =>
bn1 (gR S87 x0 0 10) fun a89 =>
bn1 (aL S87 a89 v75) fun v91 =>
bn1 (gR S87 x0 0 12) fun a93 =>
bn1 (aI S87 a93 0 x2) fun v95 =>
bn1 (gR S87 x0 0 13) fun a97 =>
bn1 (aI S87 a97 0 x2) fun v99 =>
bn1 (sL S87 a89 v75 (v91 + (((v95 * v99)).toInt64))) fun S101 =>
(if 0 ≤ v69 then
bn1 (gR S101 x0 0 8) fun a104 =>
bn1 (aR S101 a104 6 v69) fun a106 =>
bn1 (aL S101 a106 v69) fun v108 =>
bn1 (gR S101 x0 0 12) fun a110 =>
bn1 (aI S101 a110 0 x2) fun v112 =>
bn1 (sL S101 a106 v69 (v108 + ((v112).toInt64))) fun S114 =>
bn1 (gR S114 x0 0 8) fun a116 =>
bn1 (aR S114 a116 6 v69) fun a118 =>
bn1 (aL S114 a118 v75) fun v120 =>
bn1 (gR S114 x0 0 12) fun a122 =>
bn1 (aI S114 a122 0 x2) fun v124 =>
bn1 (sL S114 a118 v75 (v120 - ((v124).toInt64))) fun S126 =>
bn1 (gR S126 x0 0 8) fun a128 =>
bn1 (aR S126 a128 6 v75) fun a130 =>
bn1 (aL S126 a130 v69) fun v132 =>
bn1 (gR S126 x0 0 12) fun a134 =>
bn1 (aI S126 a134 0 x2) fun v136 =>
bn1 (sL S126 a130 v69 (v132 - ((v136).toInt64))) fun S138 =>
bn1 (gR S138 x0 0 10) fun a140 =>
bn1 (aL S138 a140 v69) fun v142 =>
bn1 (gR S138 x0 0 12) fun a144 =>
bn1 (aI S138 a144 0 x2) fun v146 =>
bn1 (gR S138 x0 0 13) fun a148 =>
bn1 (aI S138 a148 0 x2) fun v150 =>
bn1 (sL S138 a140 v69 (v142 - (((v146 * v150)).toInt64))) fun S152 =>
bX0_isSolved_260 k61 x0 x1 x2 S152
else
bX0_isSolved_260 k61 x0 x1 x2 S101)))))
def lX0_isSolved_61 : Nat → (Nat → Int32 → Int32 → XS → Option (Int32 × XS))
  | 0 => fun _ _ _ _ => none
  | n + 1 => bX0_isSolved_61 (lX0_isSolved_61 n)
def bX0_isSolved_33 (k19 : Nat → Int32 → Int32 → XS → Option (Int32 × XS)) (k33 : Nat → Int32 → Int32 → Int32 → XS → Option (Int32 × XS)) (x0 : Nat) (x1 : Int32) (x2 : Int32) (x3 : Int32) (S : XS) : Option (Int32 × XS) :=
(if x1 ≤ x3 then
nm (x2 + (1 : Int32)) fun y154 =>
k19 x0 x1 y154 S
else
bn1 (gR S x0 0 8) fun a156 =>
bn1 (aR S a156 6 x2) fun a158 =>
bn1 (sL S a158 x3 (0 : Int64)) fun S160 =>
nm (x3 + (1 : Int32)) fun y161 =>
k33 x0 x1 x2 y161 S160)
def lX0_isSolved_33 (k19 : Nat → Int32 → Int32 → XS → Option (Int32 × XS)) : Nat → (Nat → Int32 → Int32 → Int32 → XS → Option (Int32 × XS))
  | 0 => fun _ _ _ _ _ => none
  | n + 1 => bX0_isSolved_33 k19 (lX0_isSolved_33 k19 n)
def bX0_isSolved_19 (k19 : Nat → Int32 → Int32 → XS → Option (Int32 × XS)) (x0 : Nat) (x1 : Int32) (x2 : Int32) (S : XS) : Option (Int32 × XS) :=
(if x1 ≤ x2 then
lX0_isSolved_61 FU x0 x1 (0 : Int32) S
else
bn1 (gR S x0 0 10) fun a164 =>
bn1 (sL S a164 x2 (0 : Int64)) fun S166 =>
lX0_isSolved_33 k19 FU x0 x1 x2 (0 : Int32) S166)
def lX0_isSolved_19 : Nat → (Nat → Int32 → Int32 → XS → Option (Int32 × XS))
  | 0 => fun _ _ _ _ => none
  | n + 1 => bX0_isSolved_19 (lX0_isSolved_19 n)
def fX0_isSolved (x0 : Nat) (S : XS) : Option (Int32 × XS) :=
chk (isC S x0 0) (bnd (fX0_isHeld x0 S) fun v170 S168 =>
(if v170 = 0 then
some ((0 : Int32), S168)
else
bn1 (gR S168 x0 0 2) fun a173 =>
bn1 (gI S168 a173 1 1) fun v175 =>
lX0_isSolved_19 FU x0 v175 (0 : Int32) S168))
set_option maxHeartbeats 4000000 in
set_option maxRecDepth 100000 in
theorem mX0_isSolved {l : Launch} {D : va_G} {cA : Nat → ClassId} {A : Nat → Prop} (x0 : Nat) (S : XS) {out : (Int32 × XS)} (h : fX0_isSolved x0 S = some out) : Met l yX0_isSolved (ws_ yX0_isSolved cX0_isSolved 5 (some .boolean)) ({ frames := 4, cells := 0, slots := 0, locals := 129 } : Room) (gPc (xK D cA A) (xP D cA A) A [.ref x0] S) (gQi (xK D cA A) (xP D cA A) A out) 0 0 A := by
  refine gMet_z (by decide) (Nat.le_of_ble_eq_true rfl) ?_ xKst
  intro p e s m below meth c Q ls args H locs hC hP hS hl ret
  obtain ⟨hx, hb, hml, hown, hts, hA, hK⟩ := hC
  have hown : s.vm.findClass RX0 = some m.cls := hown
  have hl : lv_has ls 5 [(0, .ref x0)] := hl
  have L268 : ∀ (n268 : Nat) (x0 : Nat) (x1 : Int32) (x2 : Int32) (S : XS) (H : Heap) (locs : List Loc) (ls : Array Slot), xP D cA A S H → va_S A s.heap H locs → lv_has ls 5 [(0, .ref x0), (1, .int x1), (2, .int x2)] → lX0_isSolved_268 n268 x0 x1 x2 S = some out → W p l e ({ frames := 4, cells := 0, slots := 0, locals := 129 } : Room) s m args below meth c H locs 0 0 Q (F0 m 268 ls []) := by
    intro n268
    induction n268 with
    | zero =>
      intro x0 x1 x2 S H locs ls hP hS hl h
      cases h
    | succ n268 ih268 =>
      have B359 : ∀ (x0 : Nat) (x1 : Int32) (x2 : Int32) (S : XS) (H : Heap) (locs : List Loc) (ls : Array Slot), xP D cA A S H → va_S A s.heap H locs → lv_has ls 5 [(0, .ref x0), (1, .int x1), (2, .int x2)] → bX0_isSolved_359 (lX0_isSolved_268 n268) x0 x1 x2 S = some out → W p l e ({ frames := 4, cells := 0, slots := 0, locals := 129 } : Room) s m args below meth c H locs 0 0 Q (F0 m 359 ls []) := by
        intro x0 x1 x2 S H locs ls hP hS hl h
        unfold bX0_isSolved_359 at h
        obtain ⟨y1, ey1⟩ : ∃ y : Int32, y = x2 + (1 : Int32) := ⟨_, rfl⟩
        refine lv_iinc (v := y1) (lv' := [(2, .int y1), (0, .ref x0), (1, .int x1)]) hx hb dX0_isSolved_359 hl (k := 2) rfl (by rw [ey1]; rfl) (by decide) rfl (fun ls hl => ?_)
        have h := nm_at ey1 h
        refine lv_goto (tgt := 268) hx hb dX0_isSolved_362 (by decide) ?_
        exact ih268 x0 x1 y1 S _ _ _ hP hS (lv_sub hl [1, 2, 0] rfl) h
      have L275 : ∀ (n275 : Nat) (x0 : Nat) (x1 : Int32) (x2 : Int32) (x3 : Int32) (S : XS) (H : Heap) (locs : List Loc) (ls : Array Slot), xP D cA A S H → va_S A s.heap H locs → lv_has ls 5 [(0, .ref x0), (1, .int x1), (2, .int x2), (3, .int x3)] → lX0_isSolved_275 (lX0_isSolved_268 n268) n275 x0 x1 x2 x3 S = some out → W p l e ({ frames := 4, cells := 0, slots := 0, locals := 129 } : Room) s m args below meth c H locs 0 0 Q (F0 m 275 ls []) := by
        intro n275
        induction n275 with
        | zero =>
          intro x0 x1 x2 x3 S H locs ls hP hS hl h
          cases h
        | succ n275 ih275 =>
          have L283 : ∀ (n283 : Nat) (x0 : Nat) (x1 : Int32) (x2 : Int32) (x3 : Int32) (x4 : Int32) (S : XS) (H : Heap) (locs : List Loc) (ls : Array Slot), xP D cA A S H → va_S A s.heap H locs → lv_has ls 5 [(0, .ref x0), (1, .int x1), (2, .int x2), (3, .int x3), (4, .int x4)] → lX0_isSolved_283 (lX0_isSolved_268 n268) (lX0_isSolved_275 (lX0_isSolved_268 n268) n275) n283 x0 x1 x2 x3 x4 S = some out → W p l e ({ frames := 4, cells := 0, slots := 0, locals := 129 } : Room) s m args below meth c H locs 0 0 Q (F0 m 283 ls []) := by
            intro n283
            induction n283 with
            | zero =>
              intro x0 x1 x2 x3 x4 S H locs ls hP hS hl h
              cases h
            | succ n283 ih283 =>
              have B321 : ∀ (x0 : Nat) (x1 : Int32) (x2 : Int32) (x3 : Int32) (x4 : Int32) (t0 : Nat) (t1 : Int32) (t2 : Int64) (S : XS) (H : Heap) (locs : List Loc) (ls : Array Slot), xP D cA A S H → va_S A s.heap H locs → lv_has ls 5 [(0, .ref x0), (1, .int x1), (2, .int x2), (3, .int x3), (4, .int x4)] → bX0_isSolved_321 (lX0_isSolved_268 n268) (lX0_isSolved_275 (lX0_isSolved_268 n268) n275) (lX0_isSolved_283 (lX0_isSolved_268 n268) (lX0_isSolved_275 (lX0_isSolved_268 n268) n275) n283) x0 x1 x2 x3 x4 t0 t1 t2 S = some out → W p l e ({ frames := 4, cells := 0, slots := 0, locals := 129 } : Room) s m args below meth c H locs 0 0 Q (F0 m 321 ls [.long t2, .int t1, .ref t0]) := by
                intro x0 x1 x2 x3 x4 t0 t1 t2 S H locs ls hP hS hl h
                unfold bX0_isSolved_321 at h
                obtain ⟨S3, e2, h⟩ := bn1_some h
                refine x_last hx hb hK.1 hP hS e2 dX0_isSolved_321 (fun H locs hP hS => ?_)
                obtain ⟨y4, ey4⟩ : ∃ y : Int32, y = x4 + (1 : Int32) := ⟨_, rfl⟩
                refine lv_iinc (v := y4) (lv' := [(4, .int y4), (0, .ref x0), (1, .int x1), (2, .int x2), (3, .int x3)]) hx hb dX0_isSolved_322 hl (k := 4) rfl (by rw [ey4]; rfl) (by decide) rfl (fun ls hl => ?_)
                have h := nm_at ey4 h
                refine lv_goto (tgt := 283) hx hb dX0_isSolved_325 (by decide) ?_
                exact ih283 x0 x1 x2 x3 y4 S3 _ _ _ hP hS (lv_sub hl [1, 2, 3, 4, 0] rfl) h
              intro x0 x1 x2 x3 x4 S H locs ls hP hS hl h
              replace h : bX0_isSolved_283 (lX0_isSolved_268 n268) (lX0_isSolved_275 (lX0_isSolved_268 n268) n275) (lX0_isSolved_283 (lX0_isSolved_268 n268) (lX0_isSolved_275 (lX0_isSolved_268 n268) n275) n283) x0 x1 x2 x3 x4 S = some out := h
              unfold bX0_isSolved_283 at h
              refine lv_iload hx hb dX0_isSolved_283 (lv_at hl 4 rfl) ?_
              refine lv_iload_n hx hb dX0_isSolved_285 rfl (lv_at hl 1 rfl) ?_
              refine lv_icmp_ge (tgt := 328) hx hb dX0_isSolved_286 (by decide) (fun c5 => ?_) (fun c5 => ?_)
              · have h := ite_t c5 h
                obtain ⟨y6, ey6⟩ : ∃ y : Int32, y = x3 + (1 : Int32) := ⟨_, rfl⟩
                refine lv_iinc (v := y6) (lv' := [(3, .int y6), (0, .ref x0), (1, .int x1), (2, .int x2), (4, .int x4)]) hx hb dX0_isSolved_328 hl (k := 3) rfl (by rw [ey6]; rfl) (by decide) rfl (fun ls hl => ?_)
                have h := nm_at ey6 h
                refine lv_goto (tgt := 275) hx hb dX0_isSolved_331 (by decide) ?_
                exact ih275 x0 x1 x2 y6 S _ _ _ hP hS (lv_sub hl [1, 2, 3, 0] rfl) h
              · have h := ite_f c5 h
                refine lv_aload_n hx hb dX0_isSolved_289 rfl (lv_at hl 0 rfl) ?_
                obtain ⟨a8, e7, h⟩ := bn1_some h
                refine x_get (C := RX0) (T := TX0) (N := 16) (ci := 0) hx hb hts in_X0 hown hK.1 hP rfl 9 (by decide) (hts _ q238) (fun _ h9 => h9) (gR_some e7) dX0_isSolved_290 ?_
                refine lv_iload_n hx hb dX0_isSolved_293 rfl (lv_at hl 3 rfl) ?_
                obtain ⟨a10, e9, h⟩ := bn1_some h
                refine x_aldr (t := 6) hx hb hK.1 hP (by decide) e9 dX0_isSolved_294 ?_
                refine lv_iload hx hb dX0_isSolved_295 (lv_at hl 4 rfl) ?_
                refine lv_iload hx hb dX0_isSolved_297 (lv_at hl 4 rfl) ?_
                refine lv_iload_n hx hb dX0_isSolved_299 rfl (lv_at hl 2 rfl) ?_
                refine lv_icmp_ne (tgt := 312) hx hb dX0_isSolved_300 (by decide) (fun c11 => ?_) (fun c11 => ?_)
                · have h := ite_f c11 h
                  refine lv_aload_n hx hb dX0_isSolved_312 rfl (lv_at hl 0 rfl) ?_
                  obtain ⟨a13, e12, h⟩ := bn1_some h
                  refine x_get (C := RX0) (T := TX0) (N := 16) (ci := 0) hx hb hts in_X0 hown hK.1 hP rfl 8 (by decide) (hts _ q237) (fun _ h9 => h9) (gR_some e12) dX0_isSolved_313 ?_
                  refine lv_iload_n hx hb dX0_isSolved_316 rfl (lv_at hl 3 rfl) ?_
                  obtain ⟨a15, e14, h⟩ := bn1_some h
                  refine x_aldr (t := 6) hx hb hK.1 hP (by decide) e14 dX0_isSolved_317 ?_
                  refine lv_iload hx hb dX0_isSolved_318 (lv_at hl 4 rfl) ?_
                  obtain ⟨v17, e16, h⟩ := bn1_some h
                  refine x_lald hx hb hK.1 hP e16 dX0_isSolved_320 ?_
                  exact B321 x0 x1 x2 x3 x4 a10 x4 v17 S _ _ _ hP hS hl h
                · have h := ite_t c11 h
                  refine lv_aload_n hx hb dX0_isSolved_303 rfl (lv_at hl 0 rfl) ?_
                  obtain ⟨a19, e18, h⟩ := bn1_some h
                  refine x_get (C := RX0) (T := TX0) (N := 16) (ci := 0) hx hb hts in_X0 hown hK.1 hP rfl 10 (by decide) (hts _ q239) (fun _ h9 => h9) (gR_some e18) dX0_isSolved_304 ?_
                  refine lv_iload_n hx hb dX0_isSolved_307 rfl (lv_at hl 3 rfl) ?_
                  obtain ⟨v21, e20, h⟩ := bn1_some h
                  refine x_lald hx hb hK.1 hP e20 dX0_isSolved_308 ?_
                  refine lv_goto (tgt := 321) hx hb dX0_isSolved_309 (by decide) ?_
                  exact B321 x0 x1 x2 x3 x4 a10 x4 v21 S _ _ _ hP hS hl h
          intro x0 x1 x2 x3 S H locs ls hP hS hl h
          replace h : bX0_isSolved_275 (lX0_isSolved_268 n268) (lX0_isSolved_275 (lX0_isSolved_268 n268) n275) x0 x1 x2 x3 S = some out := h
          unfold bX0_isSolved_275 at h
          refine lv_iload_n hx hb dX0_isSolved_275 rfl (lv_at hl 3 rfl) ?_
          refine lv_iload_n hx hb dX0_isSolved_276 rfl (lv_at hl 1 rfl) ?_
          refine lv_icmp_ge (tgt := 334) hx hb dX0_isSolved_277 (by decide) (fun c22 => ?_) (fun c22 => ?_)
          · have h := ite_t c22 h
            refine lv_aload_n hx hb dX0_isSolved_334 rfl (lv_at hl 0 rfl) ?_
            refine lv_iload_n hx hb dX0_isSolved_335 rfl (lv_at hl 1 rfl) ?_
            obtain ⟨g25, h⟩ := chk_some h
            obtain ⟨fg25, g25⟩ := isC_some g25
            obtain ⟨v26, S24, e23, h⟩ := bnd_some h
            refine gcl (va_runV (As := [.int x1]) (rest := []) ⟨hx, hb, hml, hown, hts⟩ (mX0_comesTo (l := l) (D := D) (cA := cA) (A := A) x0 x1 S e23) (cwV 1 hts (lw_V q904 q906 qs24 q86 q907) rfl rfl rfl (by decide +kernel) ⟨Nat.le_of_ble_eq_true rfl, Nat.le_of_ble_eq_true rfl⟩) (gPreV xKst hK hA hS hP (x_recv (q := (RX0, TX0, 16)) hK.1 hP rfl g25)) rfl rfl hl.1 rfl (lv_room (Nat.le_of_ble_eq_true rfl)) dX0_isSolved_336 ⟨by first | omega | (dsimp only; omega), by first | omega | (dsimp only; omega)⟩) hS (fun H locs hP hS => ?_)
            refine lv_lstore_n (lv' := [(3, .long v26), (0, .ref x0), (1, .int x1), (2, .int x2)]) hx hb dX0_isSolved_339 rfl hl (by decide) rfl (fun ls hl => ?_)
            refine lv_iload_n hx hb dX0_isSolved_340 rfl (lv_at hl 3 rfl) ?_
            refine lv_if_ge (tgt := 352) hx hb dX0_isSolved_341 (by decide) (fun c27 => ?_) (fun c27 => ?_)
            · have h := ite_t c27 h
              refine lv_aload_n hx hb dX0_isSolved_352 rfl (lv_at hl 1 rfl) ?_
              obtain ⟨a29, e28, h⟩ := bn1_some h
              refine x_get (C := RX0) (T := TX0) (N := 16) (ci := 0) hx hb hts in_X0 hown hK.1 hP rfl 11 (by decide) (hts _ q240) (fun _ h9 => h9) (gR_some e28) dX0_isSolved_353 ?_
              refine lv_iload_n hx hb dX0_isSolved_356 rfl (lv_at hl 3 rfl) ?_
              refine lv_lload_n hx hb dX0_isSolved_357 rfl (lv_at hl 0 rfl) ?_
              obtain ⟨S31, e30, h⟩ := bn1_some h
              refine x_last hx hb hK.1 hP hS e30 dX0_isSolved_358 (fun H locs hP hS => ?_)
              exact B359 x0 x1 x2 S31 _ _ _ hP hS (lv_sub hl [1, 2, 3] rfl) h
            · have h := ite_f c27 h
              refine lv_aload_n hx hb dX0_isSolved_344 rfl (lv_at hl 1 rfl) ?_
              refine lv_lload_n hx hb dX0_isSolved_345 rfl (lv_at hl 0 rfl) ?_
              obtain ⟨S33, e32, h⟩ := bn1_some h
              refine x_put (v := .long v26) (ty := .long) (C := RX0) (T := TX0) (N := 16) (ci := 0) hx hb hts in_X0 tyX0 tyX0_ok nmX0 hown hK.1 hP hS rfl 14 (by decide) (hts _ q243) (fun _ h9 => h9) rfl (by decide +kernel) rfl rfl e32 dX0_isSolved_346 (fun H locs hP hS => ?_)
              refine lv_goto (tgt := 359) hx hb dX0_isSolved_349 (by decide) ?_
              exact B359 x0 x1 x2 S33 _ _ _ hP hS (lv_sub hl [1, 2, 3] rfl) h
          · have h := ite_f c22 h
            refine lv_iconst (v := (0 : Int32)) hx hb dX0_isSolved_280 (by decide) ?_
            refine lv_istore (lv' := [(4, .int (0 : Int32)), (0, .ref x0), (1, .int x1), (2, .int x2), (3, .int x3)]) hx hb dX0_isSolved_281 hl (by decide) rfl (fun ls hl => ?_)
            exact L283 FU x0 x1 x2 x3 (0 : Int32) S _ _ _ hP hS (lv_sub hl [1, 2, 3, 4, 0] rfl) h
      intro x0 x1 x2 S H locs ls hP hS hl h
      replace h : bX0_isSolved_268 (lX0_isSolved_268 n268) x0 x1 x2 S = some out := h
      unfold bX0_isSolved_268 at h
      refine lv_iload_n hx hb dX0_isSolved_268 rfl (lv_at hl 2 rfl) ?_
      refine lv_iload_n hx hb dX0_isSolved_269 rfl (lv_at hl 1 rfl) ?_
      refine lv_icmp_ge (tgt := 365) hx hb dX0_isSolved_270 (by decide) (fun c34 => ?_) (fun c34 => ?_)
      · have h := ite_t c34 h
        refine lv_iconst (v := (1 : Int32)) hx hb dX0_isSolved_365 (by decide) ?_
        exact ret _ _ _ _ _ _ dX0_isSolved_366 rfl hP hS h
      · have h := ite_f c34 h
        refine lv_iconst (v := (0 : Int32)) hx hb dX0_isSolved_273 (by decide) ?_
        refine lv_istore_n (lv' := [(3, .int (0 : Int32)), (0, .ref x0), (1, .int x1), (2, .int x2)]) hx hb dX0_isSolved_274 rfl hl (by decide) rfl (fun ls hl => ?_)
        exact L275 FU x0 x1 x2 (0 : Int32) S _ _ _ hP hS (lv_sub hl [1, 2, 3, 0] rfl) h
  have L61 : ∀ (n61 : Nat) (x0 : Nat) (x1 : Int32) (x2 : Int32) (S : XS) (H : Heap) (locs : List Loc) (ls : Array Slot), xP D cA A S H → va_S A s.heap H locs → lv_has ls 5 [(0, .ref x0), (1, .int x1), (2, .int x2)] → lX0_isSolved_61 n61 x0 x1 x2 S = some out → W p l e ({ frames := 4, cells := 0, slots := 0, locals := 129 } : Room) s m args below meth c H locs 0 0 Q (F0 m 61 ls []) := by
    intro n61
    induction n61 with
    | zero =>
      intro x0 x1 x2 S H locs ls hP hS hl h
      cases h
    | succ n61 ih61 =>
      have B260 : ∀ (x0 : Nat) (x1 : Int32) (x2 : Int32) (S : XS) (H : Heap) (locs : List Loc) (ls : Array Slot), xP D cA A S H → va_S A s.heap H locs → lv_has ls 5 [(0, .ref x0), (1, .int x1), (2, .int x2)] → bX0_isSolved_260 (lX0_isSolved_61 n61) x0 x1 x2 S = some out → W p l e ({ frames := 4, cells := 0, slots := 0, locals := 129 } : Room) s m args below meth c H locs 0 0 Q (F0 m 260 ls []) := by
        intro x0 x1 x2 S H locs ls hP hS hl h
        unfold bX0_isSolved_260 at h
        obtain ⟨y35, ey35⟩ : ∃ y : Int32, y = x2 + (1 : Int32) := ⟨_, rfl⟩
        refine lv_iinc (v := y35) (lv' := [(2, .int y35), (0, .ref x0), (1, .int x1)]) hx hb dX0_isSolved_260 hl (k := 2) rfl (by rw [ey35]; rfl) (by decide) rfl (fun ls hl => ?_)
        have h := nm_at ey35 h
        refine lv_goto (tgt := 61) hx hb dX0_isSolved_263 (by decide) ?_
        exact ih61 x0 x1 y35 S _ _ _ hP hS (lv_sub hl [1, 2, 0] rfl) h
      intro x0 x1 x2 S H locs ls hP hS hl h
      replace h : bX0_isSolved_61 (lX0_isSolved_61 n61) x0 x1 x2 S = some out := h
      unfold bX0_isSolved_61 at h
      refine lv_iload_n hx hb dX0_isSolved_61 rfl (lv_at hl 2 rfl) ?_
      refine lv_aload_n hx hb dX0_isSolved_62 rfl (lv_at hl 0 rfl) ?_
      obtain ⟨a37, e36, h⟩ := bn1_some h
      refine x_get (C := RX0) (T := TX0) (N := 16) (ci := 0) hx hb hts in_X0 hown hK.1 hP rfl 2 (by decide) (hts _ q231) (fun _ h9 => h9) (gR_some e36) dX0_isSolved_63 ?_
      obtain ⟨v39, e38, h⟩ := bn1_some h
      refine x_getN (C := RX1) (T := TX1) (N := 16) (ci := 1) hx hb hts in_X1 hown hK.1 hP rfl 0 (by decide) (hK.2.1 _ q146 rfl) (fun _ h9 => h9) (gI_some e38) dX0_isSolved_66 ?_
      refine lv_icmp_ge (tgt := 266) hx hb dX0_isSolved_69 (by decide) (fun c40 => ?_) (fun c40 => ?_)
      · have h := ite_t c40 h
        refine lv_iconst (v := (-1 : Int32)) hx hb dX0_isSolved_266 (by decide) ?_
        refine lv_istore_n (lv' := [(2, .int (-1 : Int32)), (0, .ref x0), (1, .int x1)]) hx hb dX0_isSolved_267 rfl hl (by decide) rfl (fun ls hl => ?_)
        exact L268 FU x0 x1 (-1 : Int32) S _ _ _ hP hS (lv_sub hl [1, 2, 0] rfl) h
      · have h := ite_f c40 h
        refine lv_aload_n hx hb dX0_isSolved_72 rfl (lv_at hl 0 rfl) ?_
        obtain ⟨a42, e41, h⟩ := bn1_some h
        refine x_get (C := RX0) (T := TX0) (N := 16) (ci := 0) hx hb hts in_X0 hown hK.1 hP rfl 12 (by decide) (hts _ q241) (fun _ h9 => h9) (gR_some e41) dX0_isSolved_73 ?_
        refine lv_iload_n hx hb dX0_isSolved_76 rfl (lv_at hl 2 rfl) ?_
        refine lv_aload_n hx hb dX0_isSolved_77 rfl (lv_at hl 0 rfl) ?_
        refine lv_iload_n hx hb dX0_isSolved_78 rfl (lv_at hl 2 rfl) ?_
        obtain ⟨g45, h⟩ := chk_some h
        obtain ⟨fg45, g45⟩ := isC_some g45
        obtain ⟨v46, S44, e43, h⟩ := bnd_some h
        refine gci (va_runV (As := [.int x2]) (rest := [.int x2, .ref a42]) ⟨hx, hb, hml, hown, hts⟩ (mX0_weightOf (l := l) (D := D) (cA := cA) (A := A) x0 x2 S e43) (cwV 1 hts (lw_V q418 q420 qs3 q86 q421) rfl rfl rfl (by decide +kernel) ⟨Nat.le_of_ble_eq_true rfl, Nat.le_of_ble_eq_true rfl⟩) (gPreV xKst hK hA hS hP (x_recv (q := (RX0, TX0, 16)) hK.1 hP rfl g45)) rfl rfl hl.1 rfl (lv_room (Nat.le_of_ble_eq_true rfl)) dX0_isSolved_79 ⟨by first | omega | (dsimp only; omega), by first | omega | (dsimp only; omega)⟩) hS (fun H locs hP hS => ?_)
        obtain ⟨S48, e47, h⟩ := bn1_some h
        refine x_iast hx hb hK.1 hP hS e47 dX0_isSolved_82 (fun H locs hP hS => ?_)
        refine lv_aload_n hx hb dX0_isSolved_83 rfl (lv_at hl 0 rfl) ?_
        obtain ⟨a50, e49, h⟩ := bn1_some h
        refine x_get (C := RX0) (T := TX0) (N := 16) (ci := 0) hx hb hts in_X0 hown hK.1 hP rfl 13 (by decide) (hts _ q242) (fun _ h9 => h9) (gR_some e49) dX0_isSolved_84 ?_
        refine lv_iload_n hx hb dX0_isSolved_87 rfl (lv_at hl 2 rfl) ?_
        refine lv_aload_n hx hb dX0_isSolved_88 rfl (lv_at hl 0 rfl) ?_
        refine lv_iload_n hx hb dX0_isSolved_89 rfl (lv_at hl 2 rfl) ?_
        obtain ⟨g53, h⟩ := chk_some h
        obtain ⟨fg53, g53⟩ := isC_some g53
        obtain ⟨v54, S52, e51, h⟩ := bnd_some h
        refine gci (va_runV (As := [.int x2]) (rest := [.int x2, .ref a50]) ⟨hx, hb, hml, hown, hts⟩ (mX0_saidBy (l := l) (D := D) (cA := cA) (A := A) x0 x2 S48 e51) (cwV 1 hts (lw_V q514 q516 qs6 q86 q517) rfl rfl rfl (by decide +kernel) ⟨Nat.le_of_ble_eq_true rfl, Nat.le_of_ble_eq_true rfl⟩) (gPreV xKst hK hA hS hP (x_recv (q := (RX0, TX0, 16)) hK.1 hP rfl g53)) rfl rfl hl.1 rfl (lv_room (Nat.le_of_ble_eq_true rfl)) dX0_isSolved_90 ⟨by first | omega | (dsimp only; omega), by first | omega | (dsimp only; omega)⟩) hS (fun H locs hP hS => ?_)
        obtain ⟨S56, e55, h⟩ := bn1_some h
        refine x_iast hx hb hK.1 hP hS e55 dX0_isSolved_93 (fun H locs hP hS => ?_)
        refine lv_aload_n hx hb dX0_isSolved_94 rfl (lv_at hl 0 rfl) ?_
        obtain ⟨a58, e57, h⟩ := bn1_some h
        refine x_get (C := RX0) (T := TX0) (N := 16) (ci := 0) hx hb hts in_X0 hown hK.1 hP rfl 2 (by decide) (hts _ q231) (fun _ h9 => h9) (gR_some e57) dX0_isSolved_95 ?_
        obtain ⟨a60, e59, h⟩ := bn1_some h
        refine x_getN (C := RX1) (T := TX1) (N := 16) (ci := 1) hx hb hts in_X1 hown hK.1 hP rfl 12 (by decide) (hK.2.1 _ q170 rfl) (fun _ h9 => h9) (gR_some e59) dX0_isSolved_98 ?_
        refine lv_iload_n hx hb dX0_isSolved_101 rfl (lv_at hl 2 rfl) ?_
        obtain ⟨v62, e61, h⟩ := bn1_some h
        refine x_iald hx hb hK.1 hP e61 dX0_isSolved_102 ?_
        refine lv_if_ne (tgt := 109) hx hb dX0_isSolved_103 (by decide) (fun c63 => ?_) (fun c63 => ?_)
        · have h := ite_f c63 h
          refine lv_aload_n hx hb dX0_isSolved_109 rfl (lv_at hl 0 rfl) ?_
          obtain ⟨a65, e64, h⟩ := bn1_some h
          refine x_get (C := RX0) (T := TX0) (N := 16) (ci := 0) hx hb hts in_X0 hown hK.1 hP rfl 2 (by decide) (hts _ q231) (fun _ h9 => h9) (gR_some e64) dX0_isSolved_110 ?_
          obtain ⟨a67, e66, h⟩ := bn1_some h
          refine x_getN (C := RX1) (T := TX1) (N := 16) (ci := 1) hx hb hts in_X1 hown hK.1 hP rfl 9 (by decide) (hK.2.1 _ q164 rfl) (fun _ h9 => h9) (gR_some e66) dX0_isSolved_113 ?_
          refine lv_iload_n hx hb dX0_isSolved_116 rfl (lv_at hl 2 rfl) ?_
          obtain ⟨v69, e68, h⟩ := bn1_some h
          refine x_iald hx hb hK.1 hP e68 dX0_isSolved_117 ?_
          refine lv_istore_n (lv' := [(3, .int v69), (0, .ref x0), (1, .int x1), (2, .int x2)]) hx hb dX0_isSolved_118 rfl hl (by decide) rfl (fun ls hl => ?_)
          refine lv_aload_n hx hb dX0_isSolved_119 rfl (lv_at hl 1 rfl) ?_
          obtain ⟨a71, e70, h⟩ := bn1_some h
          refine x_get (C := RX0) (T := TX0) (N := 16) (ci := 0) hx hb hts in_X0 hown hK.1 hP rfl 2 (by decide) (hts _ q231) (fun _ h9 => h9) (gR_some e70) dX0_isSolved_120 ?_
          obtain ⟨a73, e72, h⟩ := bn1_some h
          refine x_getN (C := RX1) (T := TX1) (N := 16) (ci := 1) hx hb hts in_X1 hown hK.1 hP rfl 10 (by decide) (hK.2.1 _ q166 rfl) (fun _ h9 => h9) (gR_some e72) dX0_isSolved_123 ?_
          refine lv_iload_n hx hb dX0_isSolved_126 rfl (lv_at hl 3 rfl) ?_
          obtain ⟨v75, e74, h⟩ := bn1_some h
          refine x_iald hx hb hK.1 hP e74 dX0_isSolved_127 ?_
          refine lv_istore (lv' := [(4, .int v75), (3, .int v69), (0, .ref x0), (1, .int x1), (2, .int x2)]) hx hb dX0_isSolved_128 hl (by decide) rfl (fun ls hl => ?_)
          refine lv_aload_n hx hb dX0_isSolved_130 rfl (lv_at hl 2 rfl) ?_
          obtain ⟨a77, e76, h⟩ := bn1_some h
          refine x_get (C := RX0) (T := TX0) (N := 16) (ci := 0) hx hb hts in_X0 hown hK.1 hP rfl 8 (by decide) (hts _ q237) (fun _ h9 => h9) (gR_some e76) dX0_isSolved_131 ?_
          refine lv_iload hx hb dX0_isSolved_134 (lv_at hl 0 rfl) ?_
          obtain ⟨a79, e78, h⟩ := bn1_some h
          refine x_aldr (t := 6) hx hb hK.1 hP (by decide) e78 dX0_isSolved_136 ?_
          refine lv_iload hx hb dX0_isSolved_137 (lv_at hl 0 rfl) ?_
          refine lv_dup2_11 hx hb dX0_isSolved_139 rfl rfl ?_
          obtain ⟨v81, e80, h⟩ := bn1_some h
          refine x_lald hx hb hK.1 hP e80 dX0_isSolved_140 ?_
          refine lv_aload_n hx hb dX0_isSolved_141 rfl (lv_at hl 2 rfl) ?_
          obtain ⟨a83, e82, h⟩ := bn1_some h
          refine x_get (C := RX0) (T := TX0) (N := 16) (ci := 0) hx hb hts in_X0 hown hK.1 hP rfl 12 (by decide) (hts _ q241) (fun _ h9 => h9) (gR_some e82) dX0_isSolved_142 ?_
          refine lv_iload_n hx hb dX0_isSolved_145 rfl (lv_at hl 4 rfl) ?_
          obtain ⟨v85, e84, h⟩ := bn1_some h
          refine x_iald hx hb hK.1 hP e84 dX0_isSolved_146 ?_
          refine lv_i2l hx hb dX0_isSolved_147 rfl ?_
          refine lv_ladd hx hb dX0_isSolved_148 ?_
          obtain ⟨S87, e86, h⟩ := bn1_some h
          refine x_last hx hb hK.1 hP hS e86 dX0_isSolved_149 (fun H locs hP hS => ?_)
          refine lv_aload_n hx hb dX0_isSolved_150 rfl (lv_at hl 2 rfl) ?_
          obtain ⟨a89, e88, h⟩ := bn1_some h
          refine x_get (C := RX0) (T := TX0) (N := 16) (ci := 0) hx hb hts in_X0 hown hK.1 hP rfl 10 (by decide) (hts _ q239) (fun _ h9 => h9) (gR_some e88) dX0_isSolved_151 ?_
          refine lv_iload hx hb dX0_isSolved_154 (lv_at hl 0 rfl) ?_
          refine lv_dup2_11 hx hb dX0_isSolved_156 rfl rfl ?_
          obtain ⟨v91, e90, h⟩ := bn1_some h
          refine x_lald hx hb hK.1 hP e90 dX0_isSolved_157 ?_
          refine lv_aload_n hx hb dX0_isSolved_158 rfl (lv_at hl 2 rfl) ?_
          obtain ⟨a93, e92, h⟩ := bn1_some h
          refine x_get (C := RX0) (T := TX0) (N := 16) (ci := 0) hx hb hts in_X0 hown hK.1 hP rfl 12 (by decide) (hts _ q241) (fun _ h9 => h9) (gR_some e92) dX0_isSolved_159 ?_
          refine lv_iload_n hx hb dX0_isSolved_162 rfl (lv_at hl 4 rfl) ?_
          obtain ⟨v95, e94, h⟩ := bn1_some h
          refine x_iald hx hb hK.1 hP e94 dX0_isSolved_163 ?_
          refine lv_aload_n hx hb dX0_isSolved_164 rfl (lv_at hl 2 rfl) ?_
          obtain ⟨a97, e96, h⟩ := bn1_some h
          refine x_get (C := RX0) (T := TX0) (N := 16) (ci := 0) hx hb hts in_X0 hown hK.1 hP rfl 13 (by decide) (hts _ q242) (fun _ h9 => h9) (gR_some e96) dX0_isSolved_165 ?_
          refine lv_iload_n hx hb dX0_isSolved_168 rfl (lv_at hl 4 rfl) ?_
          obtain ⟨v99, e98, h⟩ := bn1_some h
          refine x_iald hx hb hK.1 hP e98 dX0_isSolved_169 ?_
          refine lv_imul hx hb dX0_isSolved_170 ?_
          refine lv_i2l hx hb dX0_isSolved_171 rfl ?_
          refine lv_ladd hx hb dX0_isSolved_172 ?_
          obtain ⟨S101, e100, h⟩ := bn1_some h
          refine x_last hx hb hK.1 hP hS e100 dX0_isSolved_173 (fun H locs hP hS => ?_)
          refine lv_iload_n hx hb dX0_isSolved_174 rfl (lv_at hl 1 rfl) ?_
          refine lv_if_ge (tgt := 181) hx hb dX0_isSolved_175 (by decide) (fun c102 => ?_) (fun c102 => ?_)
          · have h := ite_t c102 h
            refine lv_aload_n hx hb dX0_isSolved_181 rfl (lv_at hl 2 rfl) ?_
            obtain ⟨a104, e103, h⟩ := bn1_some h
            refine x_get (C := RX0) (T := TX0) (N := 16) (ci := 0) hx hb hts in_X0 hown hK.1 hP rfl 8 (by decide) (hts _ q237) (fun _ h9 => h9) (gR_some e103) dX0_isSolved_182 ?_
            refine lv_iload_n hx hb dX0_isSolved_185 rfl (lv_at hl 1 rfl) ?_
            obtain ⟨a106, e105, h⟩ := bn1_some h
            refine x_aldr (t := 6) hx hb hK.1 hP (by decide) e105 dX0_isSolved_186 ?_
            refine lv_iload_n hx hb dX0_isSolved_187 rfl (lv_at hl 1 rfl) ?_
            refine lv_dup2_11 hx hb dX0_isSolved_188 rfl rfl ?_
            obtain ⟨v108, e107, h⟩ := bn1_some h
            refine x_lald hx hb hK.1 hP e107 dX0_isSolved_189 ?_
            refine lv_aload_n hx hb dX0_isSolved_190 rfl (lv_at hl 2 rfl) ?_
            obtain ⟨a110, e109, h⟩ := bn1_some h
            refine x_get (C := RX0) (T := TX0) (N := 16) (ci := 0) hx hb hts in_X0 hown hK.1 hP rfl 12 (by decide) (hts _ q241) (fun _ h9 => h9) (gR_some e109) dX0_isSolved_191 ?_
            refine lv_iload_n hx hb dX0_isSolved_194 rfl (lv_at hl 4 rfl) ?_
            obtain ⟨v112, e111, h⟩ := bn1_some h
            refine x_iald hx hb hK.1 hP e111 dX0_isSolved_195 ?_
            refine lv_i2l hx hb dX0_isSolved_196 rfl ?_
            refine lv_ladd hx hb dX0_isSolved_197 ?_
            obtain ⟨S114, e113, h⟩ := bn1_some h
            refine x_last hx hb hK.1 hP hS e113 dX0_isSolved_198 (fun H locs hP hS => ?_)
            refine lv_aload_n hx hb dX0_isSolved_199 rfl (lv_at hl 2 rfl) ?_
            obtain ⟨a116, e115, h⟩ := bn1_some h
            refine x_get (C := RX0) (T := TX0) (N := 16) (ci := 0) hx hb hts in_X0 hown hK.1 hP rfl 8 (by decide) (hts _ q237) (fun _ h9 => h9) (gR_some e115) dX0_isSolved_200 ?_
            refine lv_iload_n hx hb dX0_isSolved_203 rfl (lv_at hl 1 rfl) ?_
            obtain ⟨a118, e117, h⟩ := bn1_some h
            refine x_aldr (t := 6) hx hb hK.1 hP (by decide) e117 dX0_isSolved_204 ?_
            refine lv_iload hx hb dX0_isSolved_205 (lv_at hl 0 rfl) ?_
            refine lv_dup2_11 hx hb dX0_isSolved_207 rfl rfl ?_
            obtain ⟨v120, e119, h⟩ := bn1_some h
            refine x_lald hx hb hK.1 hP e119 dX0_isSolved_208 ?_
            refine lv_aload_n hx hb dX0_isSolved_209 rfl (lv_at hl 2 rfl) ?_
            obtain ⟨a122, e121, h⟩ := bn1_some h
            refine x_get (C := RX0) (T := TX0) (N := 16) (ci := 0) hx hb hts in_X0 hown hK.1 hP rfl 12 (by decide) (hts _ q241) (fun _ h9 => h9) (gR_some e121) dX0_isSolved_210 ?_
            refine lv_iload_n hx hb dX0_isSolved_213 rfl (lv_at hl 4 rfl) ?_
            obtain ⟨v124, e123, h⟩ := bn1_some h
            refine x_iald hx hb hK.1 hP e123 dX0_isSolved_214 ?_
            refine lv_i2l hx hb dX0_isSolved_215 rfl ?_
            refine lv_lsub hx hb dX0_isSolved_216 ?_
            obtain ⟨S126, e125, h⟩ := bn1_some h
            refine x_last hx hb hK.1 hP hS e125 dX0_isSolved_217 (fun H locs hP hS => ?_)
            refine lv_aload_n hx hb dX0_isSolved_218 rfl (lv_at hl 2 rfl) ?_
            obtain ⟨a128, e127, h⟩ := bn1_some h
            refine x_get (C := RX0) (T := TX0) (N := 16) (ci := 0) hx hb hts in_X0 hown hK.1 hP rfl 8 (by decide) (hts _ q237) (fun _ h9 => h9) (gR_some e127) dX0_isSolved_219 ?_
            refine lv_iload hx hb dX0_isSolved_222 (lv_at hl 0 rfl) ?_
            obtain ⟨a130, e129, h⟩ := bn1_some h
            refine x_aldr (t := 6) hx hb hK.1 hP (by decide) e129 dX0_isSolved_224 ?_
            refine lv_iload_n hx hb dX0_isSolved_225 rfl (lv_at hl 1 rfl) ?_
            refine lv_dup2_11 hx hb dX0_isSolved_226 rfl rfl ?_
            obtain ⟨v132, e131, h⟩ := bn1_some h
            refine x_lald hx hb hK.1 hP e131 dX0_isSolved_227 ?_
            refine lv_aload_n hx hb dX0_isSolved_228 rfl (lv_at hl 2 rfl) ?_
            obtain ⟨a134, e133, h⟩ := bn1_some h
            refine x_get (C := RX0) (T := TX0) (N := 16) (ci := 0) hx hb hts in_X0 hown hK.1 hP rfl 12 (by decide) (hts _ q241) (fun _ h9 => h9) (gR_some e133) dX0_isSolved_229 ?_
            refine lv_iload_n hx hb dX0_isSolved_232 rfl (lv_at hl 4 rfl) ?_
            obtain ⟨v136, e135, h⟩ := bn1_some h
            refine x_iald hx hb hK.1 hP e135 dX0_isSolved_233 ?_
            refine lv_i2l hx hb dX0_isSolved_234 rfl ?_
            refine lv_lsub hx hb dX0_isSolved_235 ?_
            obtain ⟨S138, e137, h⟩ := bn1_some h
            refine x_last hx hb hK.1 hP hS e137 dX0_isSolved_236 (fun H locs hP hS => ?_)
            refine lv_aload_n hx hb dX0_isSolved_237 rfl (lv_at hl 2 rfl) ?_
            obtain ⟨a140, e139, h⟩ := bn1_some h
            refine x_get (C := RX0) (T := TX0) (N := 16) (ci := 0) hx hb hts in_X0 hown hK.1 hP rfl 10 (by decide) (hts _ q239) (fun _ h9 => h9) (gR_some e139) dX0_isSolved_238 ?_
            refine lv_iload_n hx hb dX0_isSolved_241 rfl (lv_at hl 1 rfl) ?_
            refine lv_dup2_11 hx hb dX0_isSolved_242 rfl rfl ?_
            obtain ⟨v142, e141, h⟩ := bn1_some h
            refine x_lald hx hb hK.1 hP e141 dX0_isSolved_243 ?_
            refine lv_aload_n hx hb dX0_isSolved_244 rfl (lv_at hl 2 rfl) ?_
            obtain ⟨a144, e143, h⟩ := bn1_some h
            refine x_get (C := RX0) (T := TX0) (N := 16) (ci := 0) hx hb hts in_X0 hown hK.1 hP rfl 12 (by decide) (hts _ q241) (fun _ h9 => h9) (gR_some e143) dX0_isSolved_245 ?_
            refine lv_iload_n hx hb dX0_isSolved_248 rfl (lv_at hl 4 rfl) ?_
            obtain ⟨v146, e145, h⟩ := bn1_some h
            refine x_iald hx hb hK.1 hP e145 dX0_isSolved_249 ?_
            refine lv_aload_n hx hb dX0_isSolved_250 rfl (lv_at hl 2 rfl) ?_
            obtain ⟨a148, e147, h⟩ := bn1_some h
            refine x_get (C := RX0) (T := TX0) (N := 16) (ci := 0) hx hb hts in_X0 hown hK.1 hP rfl 13 (by decide) (hts _ q242) (fun _ h9 => h9) (gR_some e147) dX0_isSolved_251 ?_
            refine lv_iload_n hx hb dX0_isSolved_254 rfl (lv_at hl 4 rfl) ?_
            obtain ⟨v150, e149, h⟩ := bn1_some h
            refine x_iald hx hb hK.1 hP e149 dX0_isSolved_255 ?_
            refine lv_imul hx hb dX0_isSolved_256 ?_
            refine lv_i2l hx hb dX0_isSolved_257 rfl ?_
            refine lv_lsub hx hb dX0_isSolved_258 ?_
            obtain ⟨S152, e151, h⟩ := bn1_some h
            refine x_last hx hb hK.1 hP hS e151 dX0_isSolved_259 (fun H locs hP hS => ?_)
            exact B260 x0 x1 x2 S152 _ _ _ hP hS (lv_sub hl [2, 3, 4] rfl) h
          · have h := ite_f c102 h
            refine lv_goto (tgt := 260) hx hb dX0_isSolved_178 (by decide) ?_
            exact B260 x0 x1 x2 S101 _ _ _ hP hS (lv_sub hl [2, 3, 4] rfl) h
        · have h := ite_t c63 h
          refine lv_goto (tgt := 260) hx hb dX0_isSolved_106 (by decide) ?_
          exact B260 x0 x1 x2 S56 _ _ _ hP hS hl h
  have L19 : ∀ (n19 : Nat) (x0 : Nat) (x1 : Int32) (x2 : Int32) (S : XS) (H : Heap) (locs : List Loc) (ls : Array Slot), xP D cA A S H → va_S A s.heap H locs → lv_has ls 5 [(0, .ref x0), (1, .int x1), (2, .int x2)] → lX0_isSolved_19 n19 x0 x1 x2 S = some out → W p l e ({ frames := 4, cells := 0, slots := 0, locals := 129 } : Room) s m args below meth c H locs 0 0 Q (F0 m 19 ls []) := by
    intro n19
    induction n19 with
    | zero =>
      intro x0 x1 x2 S H locs ls hP hS hl h
      cases h
    | succ n19 ih19 =>
      have L33 : ∀ (n33 : Nat) (x0 : Nat) (x1 : Int32) (x2 : Int32) (x3 : Int32) (S : XS) (H : Heap) (locs : List Loc) (ls : Array Slot), xP D cA A S H → va_S A s.heap H locs → lv_has ls 5 [(0, .ref x0), (1, .int x1), (2, .int x2), (3, .int x3)] → lX0_isSolved_33 (lX0_isSolved_19 n19) n33 x0 x1 x2 x3 S = some out → W p l e ({ frames := 4, cells := 0, slots := 0, locals := 129 } : Room) s m args below meth c H locs 0 0 Q (F0 m 33 ls []) := by
        intro n33
        induction n33 with
        | zero =>
          intro x0 x1 x2 x3 S H locs ls hP hS hl h
          cases h
        | succ n33 ih33 =>
          intro x0 x1 x2 x3 S H locs ls hP hS hl h
          replace h : bX0_isSolved_33 (lX0_isSolved_19 n19) (lX0_isSolved_33 (lX0_isSolved_19 n19) n33) x0 x1 x2 x3 S = some out := h
          unfold bX0_isSolved_33 at h
          refine lv_iload_n hx hb dX0_isSolved_33 rfl (lv_at hl 3 rfl) ?_
          refine lv_iload_n hx hb dX0_isSolved_34 rfl (lv_at hl 1 rfl) ?_
          refine lv_icmp_ge (tgt := 53) hx hb dX0_isSolved_35 (by decide) (fun c153 => ?_) (fun c153 => ?_)
          · have h := ite_t c153 h
            obtain ⟨y154, ey154⟩ : ∃ y : Int32, y = x2 + (1 : Int32) := ⟨_, rfl⟩
            refine lv_iinc (v := y154) (lv' := [(2, .int y154), (0, .ref x0), (1, .int x1), (3, .int x3)]) hx hb dX0_isSolved_53 hl (k := 2) rfl (by rw [ey154]; rfl) (by decide) rfl (fun ls hl => ?_)
            have h := nm_at ey154 h
            refine lv_goto (tgt := 19) hx hb dX0_isSolved_56 (by decide) ?_
            exact ih19 x0 x1 y154 S _ _ _ hP hS (lv_sub hl [1, 2, 0] rfl) h
          · have h := ite_f c153 h
            refine lv_aload_n hx hb dX0_isSolved_38 rfl (lv_at hl 0 rfl) ?_
            obtain ⟨a156, e155, h⟩ := bn1_some h
            refine x_get (C := RX0) (T := TX0) (N := 16) (ci := 0) hx hb hts in_X0 hown hK.1 hP rfl 8 (by decide) (hts _ q237) (fun _ h9 => h9) (gR_some e155) dX0_isSolved_39 ?_
            refine lv_iload_n hx hb dX0_isSolved_42 rfl (lv_at hl 2 rfl) ?_
            obtain ⟨a158, e157, h⟩ := bn1_some h
            refine x_aldr (t := 6) hx hb hK.1 hP (by decide) e157 dX0_isSolved_43 ?_
            refine lv_iload_n hx hb dX0_isSolved_44 rfl (lv_at hl 3 rfl) ?_
            refine lv_lconst (v := (0 : Int64)) hx hb dX0_isSolved_45 (by decide) ?_
            obtain ⟨S160, e159, h⟩ := bn1_some h
            refine x_last hx hb hK.1 hP hS e159 dX0_isSolved_46 (fun H locs hP hS => ?_)
            obtain ⟨y161, ey161⟩ : ∃ y : Int32, y = x3 + (1 : Int32) := ⟨_, rfl⟩
            refine lv_iinc (v := y161) (lv' := [(3, .int y161), (0, .ref x0), (1, .int x1), (2, .int x2)]) hx hb dX0_isSolved_47 hl (k := 3) rfl (by rw [ey161]; rfl) (by decide) rfl (fun ls hl => ?_)
            have h := nm_at ey161 h
            refine lv_goto (tgt := 33) hx hb dX0_isSolved_50 (by decide) ?_
            exact ih33 x0 x1 x2 y161 S160 _ _ _ hP hS (lv_sub hl [1, 2, 3, 0] rfl) h
      intro x0 x1 x2 S H locs ls hP hS hl h
      replace h : bX0_isSolved_19 (lX0_isSolved_19 n19) x0 x1 x2 S = some out := h
      unfold bX0_isSolved_19 at h
      refine lv_iload_n hx hb dX0_isSolved_19 rfl (lv_at hl 2 rfl) ?_
      refine lv_iload_n hx hb dX0_isSolved_20 rfl (lv_at hl 1 rfl) ?_
      refine lv_icmp_ge (tgt := 59) hx hb dX0_isSolved_21 (by decide) (fun c162 => ?_) (fun c162 => ?_)
      · have h := ite_t c162 h
        refine lv_iconst (v := (0 : Int32)) hx hb dX0_isSolved_59 (by decide) ?_
        refine lv_istore_n (lv' := [(2, .int (0 : Int32)), (0, .ref x0), (1, .int x1)]) hx hb dX0_isSolved_60 rfl hl (by decide) rfl (fun ls hl => ?_)
        exact L61 FU x0 x1 (0 : Int32) S _ _ _ hP hS (lv_sub hl [1, 2, 0] rfl) h
      · have h := ite_f c162 h
        refine lv_aload_n hx hb dX0_isSolved_24 rfl (lv_at hl 0 rfl) ?_
        obtain ⟨a164, e163, h⟩ := bn1_some h
        refine x_get (C := RX0) (T := TX0) (N := 16) (ci := 0) hx hb hts in_X0 hown hK.1 hP rfl 10 (by decide) (hts _ q239) (fun _ h9 => h9) (gR_some e163) dX0_isSolved_25 ?_
        refine lv_iload_n hx hb dX0_isSolved_28 rfl (lv_at hl 2 rfl) ?_
        refine lv_lconst (v := (0 : Int64)) hx hb dX0_isSolved_29 (by decide) ?_
        obtain ⟨S166, e165, h⟩ := bn1_some h
        refine x_last hx hb hK.1 hP hS e165 dX0_isSolved_30 (fun H locs hP hS => ?_)
        refine lv_iconst (v := (0 : Int32)) hx hb dX0_isSolved_31 (by decide) ?_
        refine lv_istore_n (lv' := [(3, .int (0 : Int32)), (0, .ref x0), (1, .int x1), (2, .int x2)]) hx hb dX0_isSolved_32 rfl hl (by decide) rfl (fun ls hl => ?_)
        exact L33 FU x0 x1 x2 (0 : Int32) S166 _ _ _ hP hS (lv_sub hl [1, 2, 3, 0] rfl) h
  unfold fX0_isSolved at h
  refine lv_aload_n hx hb dX0_isSolved_0 rfl (lv_at hl 0 rfl) ?_
  obtain ⟨g169, h⟩ := chk_some h
  obtain ⟨fg169, g169⟩ := isC_some g169
  obtain ⟨v170, S168, e167, h⟩ := bnd_some h
  refine gci (va_runV (As := []) (rest := []) ⟨hx, hb, hml, hown, hts⟩ (mX0_isHeld (l := l) (D := D) (cA := cA) (A := A) x0 S e167) (cwV 0 hts (lw_V q889 q891 qs23 q86 q892) rfl rfl rfl (by decide +kernel) ⟨Nat.le_of_ble_eq_true rfl, Nat.le_of_ble_eq_true rfl⟩) (gPreV xKst hK hA hS hP (x_recv (q := (RX0, TX0, 16)) hK.1 hP rfl g169)) rfl rfl hl.1 rfl (lv_room (Nat.le_of_ble_eq_true rfl)) dX0_isSolved_1 ⟨by first | omega | (dsimp only; omega), by first | omega | (dsimp only; omega)⟩) hS (fun H locs hP hS => ?_)
  refine lv_if_ne (tgt := 9) hx hb dX0_isSolved_4 (by decide) (fun c171 => ?_) (fun c171 => ?_)
  · have h := ite_f c171 h
    refine lv_aload_n hx hb dX0_isSolved_9 rfl (lv_at hl 0 rfl) ?_
    obtain ⟨a173, e172, h⟩ := bn1_some h
    refine x_get (C := RX0) (T := TX0) (N := 16) (ci := 0) hx hb hts in_X0 hown hK.1 hP rfl 2 (by decide) (hts _ q231) (fun _ h9 => h9) (gR_some e172) dX0_isSolved_10 ?_
    obtain ⟨v175, e174, h⟩ := bn1_some h
    refine x_getN (C := RX1) (T := TX1) (N := 16) (ci := 1) hx hb hts in_X1 hown hK.1 hP rfl 1 (by decide) (hK.2.1 _ q148 rfl) (fun _ h9 => h9) (gI_some e174) dX0_isSolved_13 ?_
    refine lv_istore_n (lv' := [(1, .int v175), (0, .ref x0)]) hx hb dX0_isSolved_16 rfl hl (by decide) rfl (fun ls hl => ?_)
    refine lv_iconst (v := (0 : Int32)) hx hb dX0_isSolved_17 (by decide) ?_
    refine lv_istore_n (lv' := [(2, .int (0 : Int32)), (1, .int v175), (0, .ref x0)]) hx hb dX0_isSolved_18 rfl hl (by decide) rfl (fun ls hl => ?_)
    exact L19 FU x0 v175 (0 : Int32) S168 _ _ _ hP hS (lv_sub hl [2, 1, 0] rfl) h
  · have h := ite_t c171 h
    refine lv_iconst (v := (0 : Int32)) hx hb dX0_isSolved_7 (by decide) ?_
    exact ret _ _ _ _ _ _ dX0_isSolved_8 rfl hP hS h

def bX0_missOf_57 (x0 : Nat) (t0 : Int64) (t1 : Int64) (S : XS) : Option (Int64 × XS) :=
some ((t0 + t1), S)
def fX0_missOf (x0 : Nat) (x1 : Int32) (S : XS) : Option (Int64 × XS) :=
bn1 (gR S x0 0 13) fun a2 =>
bn1 (aI S a2 0 x1) fun v4 =>
bn1 (gL S x0 0 14) fun v6 =>
bn1 (gR S x0 0 11) fun a8 =>
bn1 (gR S x0 0 2) fun a10 =>
bn1 (gR S a10 1 10) fun a12 =>
bn1 (aI S a12 0 x1) fun v14 =>
bn1 (aL S a8 v14) fun v16 =>
bn1 (gR S x0 0 2) fun a18 =>
bn1 (gR S a18 1 9) fun a20 =>
bn1 (aI S a20 0 x1) fun v22 =>
(if 0 ≤ v22 then
bn1 (gR S x0 0 11) fun a25 =>
bn1 (gR S x0 0 2) fun a27 =>
bn1 (gR S a27 1 9) fun a29 =>
bn1 (aI S a29 0 x1) fun v31 =>
bn1 (aL S a25 v31) fun v33 =>
bX0_missOf_57 x0 ((((v4).toInt64) * v6) - v16) v33 S
else
bX0_missOf_57 x0 ((((v4).toInt64) * v6) - v16) (0 : Int64) S)
set_option maxHeartbeats 4000000 in
set_option maxRecDepth 100000 in
theorem mX0_missOf {l : Launch} {D : va_G} {cA : Nat → ClassId} {A : Nat → Prop} (x0 : Nat) (x1 : Int32) (S : XS) {out : (Int64 × XS)} (h : fX0_missOf x0 x1 S = some out) : Met l yX0_missOf (ws_ yX0_missOf cX0_missOf 2 (some .long)) ({ frames := 0, cells := 0, slots := 0, locals := 0 } : Room) (gPc (xK D cA A) (xP D cA A) A [.ref x0, .int x1] S) (gQl (xK D cA A) (xP D cA A) A out) 0 0 A := by
  refine gMet_l (by decide) (Nat.le_of_ble_eq_true rfl) ?_ xKst
  intro p e s m below meth c Q ls args H locs hC hP hS hl ret
  obtain ⟨hx, hb, hml, hown, hts, hA, hK⟩ := hC
  have hown : s.vm.findClass RX0 = some m.cls := hown
  have hl : lv_has ls 2 [(0, .ref x0), (1, .int x1)] := hl
  have B57 : ∀ (x0 : Nat) (t0 : Int64) (t1 : Int64) (S : XS) (H : Heap) (locs : List Loc) (ls : Array Slot), xP D cA A S H → va_S A s.heap H locs → lv_has ls 2 [(0, .ref x0)] → bX0_missOf_57  x0 t0 t1 S = some out → W p l e ({ frames := 0, cells := 0, slots := 0, locals := 0 } : Room) s m args below meth c H locs 0 0 Q (F0 m 57 ls [.long t1, .long t0]) := by
    intro x0 t0 t1 S H locs ls hP hS hl h
    unfold bX0_missOf_57 at h
    refine lv_ladd hx hb dX0_missOf_57 ?_
    exact ret _ _ _ _ _ _ dX0_missOf_58 hP hS h
  unfold fX0_missOf at h
  refine lv_aload_n hx hb dX0_missOf_0 rfl (lv_at hl 0 rfl) ?_
  obtain ⟨a2, e1, h⟩ := bn1_some h
  refine x_get (C := RX0) (T := TX0) (N := 16) (ci := 0) hx hb hts in_X0 hown hK.1 hP rfl 13 (by decide) (hts _ q242) (fun _ h9 => h9) (gR_some e1) dX0_missOf_1 ?_
  refine lv_iload_n hx hb dX0_missOf_4 rfl (lv_at hl 1 rfl) ?_
  obtain ⟨v4, e3, h⟩ := bn1_some h
  refine x_iald hx hb hK.1 hP e3 dX0_missOf_5 ?_
  refine lv_i2l hx hb dX0_missOf_6 rfl ?_
  refine lv_aload_n hx hb dX0_missOf_7 rfl (lv_at hl 0 rfl) ?_
  obtain ⟨v6, e5, h⟩ := bn1_some h
  refine x_get (C := RX0) (T := TX0) (N := 16) (ci := 0) hx hb hts in_X0 hown hK.1 hP rfl 14 (by decide) (hts _ q243) (fun _ h9 => h9) (gL_some e5) dX0_missOf_8 ?_
  refine lv_lmul hx hb dX0_missOf_11 ?_
  refine lv_aload_n hx hb dX0_missOf_12 rfl (lv_at hl 0 rfl) ?_
  obtain ⟨a8, e7, h⟩ := bn1_some h
  refine x_get (C := RX0) (T := TX0) (N := 16) (ci := 0) hx hb hts in_X0 hown hK.1 hP rfl 11 (by decide) (hts _ q240) (fun _ h9 => h9) (gR_some e7) dX0_missOf_13 ?_
  refine lv_aload_n hx hb dX0_missOf_16 rfl (lv_at hl 0 rfl) ?_
  obtain ⟨a10, e9, h⟩ := bn1_some h
  refine x_get (C := RX0) (T := TX0) (N := 16) (ci := 0) hx hb hts in_X0 hown hK.1 hP rfl 2 (by decide) (hts _ q231) (fun _ h9 => h9) (gR_some e9) dX0_missOf_17 ?_
  obtain ⟨a12, e11, h⟩ := bn1_some h
  refine x_getN (C := RX1) (T := TX1) (N := 16) (ci := 1) hx hb hts in_X1 hown hK.1 hP rfl 10 (by decide) (hK.2.1 _ q166 rfl) (fun _ h9 => h9) (gR_some e11) dX0_missOf_20 ?_
  refine lv_iload_n hx hb dX0_missOf_23 rfl (lv_at hl 1 rfl) ?_
  obtain ⟨v14, e13, h⟩ := bn1_some h
  refine x_iald hx hb hK.1 hP e13 dX0_missOf_24 ?_
  obtain ⟨v16, e15, h⟩ := bn1_some h
  refine x_lald hx hb hK.1 hP e15 dX0_missOf_25 ?_
  refine lv_lsub hx hb dX0_missOf_26 ?_
  refine lv_aload_n hx hb dX0_missOf_27 rfl (lv_at hl 0 rfl) ?_
  obtain ⟨a18, e17, h⟩ := bn1_some h
  refine x_get (C := RX0) (T := TX0) (N := 16) (ci := 0) hx hb hts in_X0 hown hK.1 hP rfl 2 (by decide) (hts _ q231) (fun _ h9 => h9) (gR_some e17) dX0_missOf_28 ?_
  obtain ⟨a20, e19, h⟩ := bn1_some h
  refine x_getN (C := RX1) (T := TX1) (N := 16) (ci := 1) hx hb hts in_X1 hown hK.1 hP rfl 9 (by decide) (hK.2.1 _ q164 rfl) (fun _ h9 => h9) (gR_some e19) dX0_missOf_31 ?_
  refine lv_iload_n hx hb dX0_missOf_34 rfl (lv_at hl 1 rfl) ?_
  obtain ⟨v22, e21, h⟩ := bn1_some h
  refine x_iald hx hb hK.1 hP e21 dX0_missOf_35 ?_
  refine lv_if_ge (tgt := 43) hx hb dX0_missOf_36 (by decide) (fun c23 => ?_) (fun c23 => ?_)
  · have h := ite_t c23 h
    refine lv_aload_n hx hb dX0_missOf_43 rfl (lv_at hl 0 rfl) ?_
    obtain ⟨a25, e24, h⟩ := bn1_some h
    refine x_get (C := RX0) (T := TX0) (N := 16) (ci := 0) hx hb hts in_X0 hown hK.1 hP rfl 11 (by decide) (hts _ q240) (fun _ h9 => h9) (gR_some e24) dX0_missOf_44 ?_
    refine lv_aload_n hx hb dX0_missOf_47 rfl (lv_at hl 0 rfl) ?_
    obtain ⟨a27, e26, h⟩ := bn1_some h
    refine x_get (C := RX0) (T := TX0) (N := 16) (ci := 0) hx hb hts in_X0 hown hK.1 hP rfl 2 (by decide) (hts _ q231) (fun _ h9 => h9) (gR_some e26) dX0_missOf_48 ?_
    obtain ⟨a29, e28, h⟩ := bn1_some h
    refine x_getN (C := RX1) (T := TX1) (N := 16) (ci := 1) hx hb hts in_X1 hown hK.1 hP rfl 9 (by decide) (hK.2.1 _ q164 rfl) (fun _ h9 => h9) (gR_some e28) dX0_missOf_51 ?_
    refine lv_iload_n hx hb dX0_missOf_54 rfl (lv_at hl 1 rfl) ?_
    obtain ⟨v31, e30, h⟩ := bn1_some h
    refine x_iald hx hb hK.1 hP e30 dX0_missOf_55 ?_
    obtain ⟨v33, e32, h⟩ := bn1_some h
    refine x_lald hx hb hK.1 hP e32 dX0_missOf_56 ?_
    exact B57 x0 ((((v4).toInt64) * v6) - v16) v33 S _ _ _ hP hS (lv_sub hl [0] rfl) h
  · have h := ite_f c23 h
    refine lv_lconst (v := (0 : Int64)) hx hb dX0_missOf_39 (by decide) ?_
    refine lv_goto (tgt := 57) hx hb dX0_missOf_40 (by decide) ?_
    exact B57 x0 ((((v4).toInt64) * v6) - v16) (0 : Int64) S _ _ _ hP hS (lv_sub hl [0] rfl) h

def fX0_doubtOf (x0 : Nat) (x1 : Int32) (S : XS) : Option (Int64 × XS) :=
bn1 (gR S x0 0 12) fun a2 =>
bn1 (aI S a2 0 x1) fun v4 =>
chk (isC S x0 0) (bnd (fX0_missOf x0 x1 S) fun v8 S6 =>
some ((((v4).toInt64) * (if 0 < v8 then v8 else (-v8))), S6))
set_option maxHeartbeats 4000000 in
set_option maxRecDepth 100000 in
theorem mX0_doubtOf {l : Launch} {D : va_G} {cA : Nat → ClassId} {A : Nat → Prop} (x0 : Nat) (x1 : Int32) (S : XS) {out : (Int64 × XS)} (h : fX0_doubtOf x0 x1 S = some out) : Met l yX0_doubtOf (ws_ yX0_doubtOf cX0_doubtOf 2 (some .long)) ({ frames := 1, cells := 0, slots := 0, locals := 60 } : Room) (gPc (xK D cA A) (xP D cA A) A [.ref x0, .int x1] S) (gQl (xK D cA A) (xP D cA A) A out) 0 0 A := by
  refine gMet_l (by decide) (Nat.le_of_ble_eq_true rfl) ?_ xKst
  intro p e s m below meth c Q ls args H locs hC hP hS hl ret
  obtain ⟨hx, hb, hml, hown, hts, hA, hK⟩ := hC
  have hown : s.vm.findClass RX0 = some m.cls := hown
  have hl : lv_has ls 2 [(0, .ref x0), (1, .int x1)] := hl
  unfold fX0_doubtOf at h
  refine lv_aload_n hx hb dX0_doubtOf_0 rfl (lv_at hl 0 rfl) ?_
  obtain ⟨a2, e1, h⟩ := bn1_some h
  refine x_get (C := RX0) (T := TX0) (N := 16) (ci := 0) hx hb hts in_X0 hown hK.1 hP rfl 12 (by decide) (hts _ q241) (fun _ h9 => h9) (gR_some e1) dX0_doubtOf_1 ?_
  refine lv_iload_n hx hb dX0_doubtOf_4 rfl (lv_at hl 1 rfl) ?_
  obtain ⟨v4, e3, h⟩ := bn1_some h
  refine x_iald hx hb hK.1 hP e3 dX0_doubtOf_5 ?_
  refine lv_i2l hx hb dX0_doubtOf_6 rfl ?_
  refine lv_aload_n hx hb dX0_doubtOf_7 rfl (lv_at hl 0 rfl) ?_
  refine lv_iload_n hx hb dX0_doubtOf_8 rfl (lv_at hl 1 rfl) ?_
  obtain ⟨g7, h⟩ := chk_some h
  obtain ⟨fg7, g7⟩ := isC_some g7
  obtain ⟨v8, S6, e5, h⟩ := bnd_some h
  refine gcl (va_runV (As := [.int x1]) (rest := [.long ((v4).toInt64)]) ⟨hx, hb, hml, hown, hts⟩ (mX0_missOf (l := l) (D := D) (cA := cA) (A := A) x0 x1 S e5) (cwV 1 hts (lw_V q916 q918 qs27 q86 q919) rfl rfl rfl (by decide +kernel) ⟨Nat.le_of_ble_eq_true rfl, Nat.le_of_ble_eq_true rfl⟩) (gPreV xKst hK hA hS hP (x_recv (q := (RX0, TX0, 16)) hK.1 hP rfl g7)) rfl rfl hl.1 rfl (lv_room (Nat.le_of_ble_eq_true rfl)) dX0_doubtOf_9 ⟨by first | omega | (dsimp only; omega), by first | omega | (dsimp only; omega)⟩) hS (fun H locs hP hS => ?_)
  refine va_mabs_long hx hb (hml.trans hl.1.symm) hown (hts _ q920) (hts _ q921) (hts _ q98) (hts _ q922) (Nat.le_of_ble_eq_true rfl) (Nat.le_of_ble_eq_true rfl) (by first | exact Nat.zero_le _ | (dsimp only; omega)) (by first | exact Nat.zero_le _ | (dsimp only; omega)) dX0_doubtOf_12 ?_
  refine lv_lmul hx hb dX0_doubtOf_15 ?_
  exact ret _ _ _ _ _ _ dX0_doubtOf_16 hP hS h

def bX0_mostDoubted_49 (k4 : Nat → Int32 → Int32 → XS → Option (Int32 × XS)) (x0 : Nat) (x1 : Int32) (x2 : Int32) (S : XS) : Option (Int32 × XS) :=
nm (x2 + (1 : Int32)) fun y1 =>
k4 x0 x1 y1 S
def bX0_mostDoubted_47 (k4 : Nat → Int32 → Int32 → XS → Option (Int32 × XS)) (x0 : Nat) (x2 : Int32) (S : XS) : Option (Int32 × XS) :=
bX0_mostDoubted_49 k4 x0 x2 x2 S
def bX0_mostDoubted_4 (k4 : Nat → Int32 → Int32 → XS → Option (Int32 × XS)) (x0 : Nat) (x1 : Int32) (x2 : Int32) (S : XS) : Option (Int32 × XS) :=
bn1 (gR S x0 0 2) fun a3 =>
bn1 (gI S a3 1 0) fun v5 =>
(if v5 ≤ x2 then
some (x1, S)
else
bn1 (gR S x0 0 2) fun a8 =>
bn1 (gR S a8 1 12) fun a10 =>
bn1 (aI S a10 0 x2) fun v12 =>
(if v12 = (1 : Int32) then
(if x1 = (-1 : Int32) then
bX0_mostDoubted_47 k4 x0 x2 S
else
chk (isC S x0 0) (bnd (fX0_doubtOf x0 x2 S) fun v18 S16 =>
chk (isC S16 x0 0) (bnd (fX0_doubtOf x0 x1 S16) fun v22 S20 =>
(if (lg_cmp v18 v22) ≤ 0 then
bX0_mostDoubted_49 k4 x0 x1 x2 S20
else
bX0_mostDoubted_47 k4 x0 x2 S20))))
else
bX0_mostDoubted_49 k4 x0 x1 x2 S))
def lX0_mostDoubted_4 : Nat → (Nat → Int32 → Int32 → XS → Option (Int32 × XS))
  | 0 => fun _ _ _ _ => none
  | n + 1 => bX0_mostDoubted_4 (lX0_mostDoubted_4 n)
def fX0_mostDoubted (x0 : Nat) (S : XS) : Option (Int32 × XS) :=
lX0_mostDoubted_4 FU x0 (-1 : Int32) (0 : Int32) S
set_option maxHeartbeats 4000000 in
set_option maxRecDepth 100000 in
theorem mX0_mostDoubted {l : Launch} {D : va_G} {cA : Nat → ClassId} {A : Nat → Prop} (x0 : Nat) (S : XS) {out : (Int32 × XS)} (h : fX0_mostDoubted x0 S = some out) : Met l yX0_mostDoubted (ws_ yX0_mostDoubted cX0_mostDoubted 3 (some .int)) ({ frames := 2, cells := 0, slots := 0, locals := 81 } : Room) (gPc (xK D cA A) (xP D cA A) A [.ref x0] S) (gQi (xK D cA A) (xP D cA A) A out) 0 0 A := by
  refine gMet_z (by decide) (Nat.le_of_ble_eq_true rfl) ?_ xKst
  intro p e s m below meth c Q ls args H locs hC hP hS hl ret
  obtain ⟨hx, hb, hml, hown, hts, hA, hK⟩ := hC
  have hown : s.vm.findClass RX0 = some m.cls := hown
  have hl : lv_has ls 3 [(0, .ref x0)] := hl
  have L4 : ∀ (n4 : Nat) (x0 : Nat) (x1 : Int32) (x2 : Int32) (S : XS) (H : Heap) (locs : List Loc) (ls : Array Slot), xP D cA A S H → va_S A s.heap H locs → lv_has ls 3 [(0, .ref x0), (1, .int x1), (2, .int x2)] → lX0_mostDoubted_4 n4 x0 x1 x2 S = some out → W p l e ({ frames := 2, cells := 0, slots := 0, locals := 81 } : Room) s m args below meth c H locs 0 0 Q (F0 m 4 ls []) := by
    intro n4
    induction n4 with
    | zero =>
      intro x0 x1 x2 S H locs ls hP hS hl h
      cases h
    | succ n4 ih4 =>
      have B49 : ∀ (x0 : Nat) (x1 : Int32) (x2 : Int32) (S : XS) (H : Heap) (locs : List Loc) (ls : Array Slot), xP D cA A S H → va_S A s.heap H locs → lv_has ls 3 [(0, .ref x0), (1, .int x1), (2, .int x2)] → bX0_mostDoubted_49 (lX0_mostDoubted_4 n4) x0 x1 x2 S = some out → W p l e ({ frames := 2, cells := 0, slots := 0, locals := 81 } : Room) s m args below meth c H locs 0 0 Q (F0 m 49 ls []) := by
        intro x0 x1 x2 S H locs ls hP hS hl h
        unfold bX0_mostDoubted_49 at h
        obtain ⟨y1, ey1⟩ : ∃ y : Int32, y = x2 + (1 : Int32) := ⟨_, rfl⟩
        refine lv_iinc (v := y1) (lv' := [(2, .int y1), (0, .ref x0), (1, .int x1)]) hx hb dX0_mostDoubted_49 hl (k := 2) rfl (by rw [ey1]; rfl) (by decide) rfl (fun ls hl => ?_)
        have h := nm_at ey1 h
        refine lv_goto (tgt := 4) hx hb dX0_mostDoubted_52 (by decide) ?_
        exact ih4 x0 x1 y1 S _ _ _ hP hS (lv_sub hl [1, 2, 0] rfl) h
      have B47 : ∀ (x0 : Nat) (x2 : Int32) (S : XS) (H : Heap) (locs : List Loc) (ls : Array Slot), xP D cA A S H → va_S A s.heap H locs → lv_has ls 3 [(0, .ref x0), (2, .int x2)] → bX0_mostDoubted_47 (lX0_mostDoubted_4 n4) x0 x2 S = some out → W p l e ({ frames := 2, cells := 0, slots := 0, locals := 81 } : Room) s m args below meth c H locs 0 0 Q (F0 m 47 ls []) := by
        intro x0 x2 S H locs ls hP hS hl h
        unfold bX0_mostDoubted_47 at h
        refine lv_iload_n hx hb dX0_mostDoubted_47 rfl (lv_at hl 1 rfl) ?_
        refine lv_istore_n (lv' := [(1, .int x2), (0, .ref x0), (2, .int x2)]) hx hb dX0_mostDoubted_48 rfl hl (by decide) rfl (fun ls hl => ?_)
        exact B49 x0 x2 x2 S _ _ _ hP hS (lv_sub hl [1, 0, 2] rfl) h
      intro x0 x1 x2 S H locs ls hP hS hl h
      replace h : bX0_mostDoubted_4 (lX0_mostDoubted_4 n4) x0 x1 x2 S = some out := h
      unfold bX0_mostDoubted_4 at h
      refine lv_iload_n hx hb dX0_mostDoubted_4 rfl (lv_at hl 2 rfl) ?_
      refine lv_aload_n hx hb dX0_mostDoubted_5 rfl (lv_at hl 0 rfl) ?_
      obtain ⟨a3, e2, h⟩ := bn1_some h
      refine x_get (C := RX0) (T := TX0) (N := 16) (ci := 0) hx hb hts in_X0 hown hK.1 hP rfl 2 (by decide) (hts _ q231) (fun _ h9 => h9) (gR_some e2) dX0_mostDoubted_6 ?_
      obtain ⟨v5, e4, h⟩ := bn1_some h
      refine x_getN (C := RX1) (T := TX1) (N := 16) (ci := 1) hx hb hts in_X1 hown hK.1 hP rfl 0 (by decide) (hK.2.1 _ q146 rfl) (fun _ h9 => h9) (gI_some e4) dX0_mostDoubted_9 ?_
      refine lv_icmp_ge (tgt := 55) hx hb dX0_mostDoubted_12 (by decide) (fun c6 => ?_) (fun c6 => ?_)
      · have h := ite_t c6 h
        refine lv_iload_n hx hb dX0_mostDoubted_55 rfl (lv_at hl 1 rfl) ?_
        exact ret _ _ _ _ _ _ dX0_mostDoubted_56 rfl hP hS h
      · have h := ite_f c6 h
        refine lv_aload_n hx hb dX0_mostDoubted_15 rfl (lv_at hl 0 rfl) ?_
        obtain ⟨a8, e7, h⟩ := bn1_some h
        refine x_get (C := RX0) (T := TX0) (N := 16) (ci := 0) hx hb hts in_X0 hown hK.1 hP rfl 2 (by decide) (hts _ q231) (fun _ h9 => h9) (gR_some e7) dX0_mostDoubted_16 ?_
        obtain ⟨a10, e9, h⟩ := bn1_some h
        refine x_getN (C := RX1) (T := TX1) (N := 16) (ci := 1) hx hb hts in_X1 hown hK.1 hP rfl 12 (by decide) (hK.2.1 _ q170 rfl) (fun _ h9 => h9) (gR_some e9) dX0_mostDoubted_19 ?_
        refine lv_iload_n hx hb dX0_mostDoubted_22 rfl (lv_at hl 2 rfl) ?_
        obtain ⟨v12, e11, h⟩ := bn1_some h
        refine x_iald hx hb hK.1 hP e11 dX0_mostDoubted_23 ?_
        refine lv_iconst (v := (1 : Int32)) hx hb dX0_mostDoubted_24 (by decide) ?_
        refine lv_icmp_ne (tgt := 49) hx hb dX0_mostDoubted_25 (by decide) (fun c13 => ?_) (fun c13 => ?_)
        · have h := ite_f c13 h
          exact B49 x0 x1 x2 S _ _ _ hP hS hl h
        · have h := ite_t c13 h
          refine lv_iload_n hx hb dX0_mostDoubted_28 rfl (lv_at hl 1 rfl) ?_
          refine lv_iconst (v := (-1 : Int32)) hx hb dX0_mostDoubted_29 (by decide) ?_
          refine lv_icmp_eq (tgt := 47) hx hb dX0_mostDoubted_30 (by decide) (fun c14 => ?_) (fun c14 => ?_)
          · have h := ite_t c14 h
            exact B47 x0 x2 S _ _ _ hP hS (lv_sub hl [0, 2] rfl) h
          · have h := ite_f c14 h
            refine lv_aload_n hx hb dX0_mostDoubted_33 rfl (lv_at hl 0 rfl) ?_
            refine lv_iload_n hx hb dX0_mostDoubted_34 rfl (lv_at hl 2 rfl) ?_
            obtain ⟨g17, h⟩ := chk_some h
            obtain ⟨fg17, g17⟩ := isC_some g17
            obtain ⟨v18, S16, e15, h⟩ := bnd_some h
            refine gcl (va_runV (As := [.int x2]) (rest := []) ⟨hx, hb, hml, hown, hts⟩ (mX0_doubtOf (l := l) (D := D) (cA := cA) (A := A) x0 x2 S e15) (cwV 1 hts (lw_V q912 q914 qs26 q86 q915) rfl rfl rfl (by decide +kernel) ⟨Nat.le_of_ble_eq_true rfl, Nat.le_of_ble_eq_true rfl⟩) (gPreV xKst hK hA hS hP (x_recv (q := (RX0, TX0, 16)) hK.1 hP rfl g17)) rfl rfl hl.1 rfl (lv_room (Nat.le_of_ble_eq_true rfl)) dX0_mostDoubted_35 ⟨by first | omega | (dsimp only; omega), by first | omega | (dsimp only; omega)⟩) hS (fun H locs hP hS => ?_)
            refine lv_aload_n hx hb dX0_mostDoubted_38 rfl (lv_at hl 0 rfl) ?_
            refine lv_iload_n hx hb dX0_mostDoubted_39 rfl (lv_at hl 1 rfl) ?_
            obtain ⟨g21, h⟩ := chk_some h
            obtain ⟨fg21, g21⟩ := isC_some g21
            obtain ⟨v22, S20, e19, h⟩ := bnd_some h
            refine gcl (va_runV (As := [.int x1]) (rest := [.long v18]) ⟨hx, hb, hml, hown, hts⟩ (mX0_doubtOf (l := l) (D := D) (cA := cA) (A := A) x0 x1 S16 e19) (cwV 1 hts (lw_V q912 q914 qs26 q86 q915) rfl rfl rfl (by decide +kernel) ⟨Nat.le_of_ble_eq_true rfl, Nat.le_of_ble_eq_true rfl⟩) (gPreV xKst hK hA hS hP (x_recv (q := (RX0, TX0, 16)) hK.1 hP rfl g21)) rfl rfl hl.1 rfl (lv_room (Nat.le_of_ble_eq_true rfl)) dX0_mostDoubted_40 ⟨by first | omega | (dsimp only; omega), by first | omega | (dsimp only; omega)⟩) hS (fun H locs hP hS => ?_)
            refine W.lcmp hx hb dX0_mostDoubted_43 ?_
            refine lv_if_le (tgt := 49) hx hb dX0_mostDoubted_44 (by decide) (fun c23 => ?_) (fun c23 => ?_)
            · have h := ite_t c23 h
              exact B49 x0 x1 x2 S20 _ _ _ hP hS hl h
            · have h := ite_f c23 h
              exact B47 x0 x2 S20 _ _ _ hP hS (lv_sub hl [0, 2] rfl) h
  unfold fX0_mostDoubted at h
  refine lv_iconst (v := (-1 : Int32)) hx hb dX0_mostDoubted_0 (by decide) ?_
  refine lv_istore_n (lv' := [(1, .int (-1 : Int32)), (0, .ref x0)]) hx hb dX0_mostDoubted_1 rfl hl (by decide) rfl (fun ls hl => ?_)
  refine lv_iconst (v := (0 : Int32)) hx hb dX0_mostDoubted_2 (by decide) ?_
  refine lv_istore_n (lv' := [(2, .int (0 : Int32)), (1, .int (-1 : Int32)), (0, .ref x0)]) hx hb dX0_mostDoubted_3 rfl hl (by decide) rfl (fun ls hl => ?_)
  exact L4 FU x0 (-1 : Int32) (0 : Int32) S _ _ _ hP hS (lv_sub hl [2, 1, 0] rfl) h
