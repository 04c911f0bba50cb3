/-! new Fault(at): its constructors -/
theorem xset_xset (u : XS) (a : Nat) (x y : AE) : xset (xset u a x) a y = xset u a y := by
  unfold xset
  rw [bx_uu]
theorem xset_id {u : XS} {a : Nat} {x : AE} (h : u.1 a = some x) : xset u a x = u := by
  unfold xset
  refine Prod.ext (funext fun b => ?_) rfl
  show va_up u.1 a (some x) b = u.1 b
  by_cases hb : b = a
  · subst hb; rw [va_up_self, h]
  · rw [va_up_ne _ _ hb]
theorem xset_at (u : XS) (a : Nat) (x : AE) : (xset u a x).1 a = some x := va_up_self _ _ _
theorem xset_ne (u : XS) {a b : Nat} (x : AE) (h : b ≠ a) : (xset u a x).1 b = u.1 b := va_up_ne _ _ h
theorem xObj_of {u : XS} {a ci : Nat} {fs : List Value} (h : u.1 a = some (aeO ci fs)) : xObj u a = some (ci, fs) := by
  unfold xObj
  rw [h]
theorem pF_of {u : XS} {a ci k : Nat} {fs : List Value} {v : Value} (h : u.1 a = some (aeO ci fs)) (hk : k < fs.length) : pF u a ci k v = some (xset u a (aeO ci (fs.set k v))) := by
  unfold pF
  rw [xObj_of h]
  exact if_pos ⟨rfl, hk⟩
/-- a further field of the object at a -/
theorem pF_on {u : XS} {a ci k : Nat} {fs : List Value} {v : Value} (hk : k < fs.length) : pF (xset u a (aeO ci fs)) a ci k v = some (xset u a (aeO ci (fs.set k v))) := by
  rw [pF_of (xset_at u a _) hk, xset_xset]
theorem rf_narA {t : FieldType} (r : Option Nat) : narrow (.array t) (va_rf r) = va_rf r := by cases r <;> rfl
theorem rf_fitA {t : FieldType} (r : Option Nat) : fits (.array t) (va_rf r) = true := by cases r <;> rfl
abbrev ftL (v : Int32) : List Value := [.null, .null, .null, .null, .null, .int 0, .int v]
section GFv
variable {S : Type}
theorem gMetF_v {l : Launch} {y : MethodName} {cc : ByteArray} {maxL : Nat} {rm : Room} {K : State → Prop} {P : S → Heap → Prop} {A : Nat → Prop} {as : List Value} {u : S} {out : S} {mc ms : Nat} (hy : plainFor y = true) (hnl : (lg_sl as).length ≤ maxL)
    (body : ∀ (p : Program) (e : Env) (s : State) (m : MethodId) (below : List Frame) (meth : Method) (c : Code) (Q : State → Prop) (ls : Array Slot) (args : Array Value) (H : Heap) (locs : List Loc), gCx p m c cc maxL s args y.cls K A → P u H → va_S A s.heap H locs → lv_has ls maxL (lv_args 0 as) → (y.name = "<init>" → meth.name = "<init>") →
      (∀ (pc : Nat) (H : Heap) (locs : List Loc) (ls : Array Slot) (v : S), decode cc pc = .ok (.return_, 1) → P v H → va_S A s.heap H locs → some v = some out → W p l e rm s m args below meth c H locs mc ms Q (F0 m pc ls [])) →
      W p l e rm s m args below meth c H locs 0 0 Q (F0 m 0 ls [])) (hK : Kst K A) : Met l y (ws_ y cc maxL none) rm (gPc K P A as u) (gQv K P A out) mc ms A := by
  refine va_MetF (cc := cc) (maxL := maxL) (ret := none) hy rfl ?_
  intro p e s m args below meth c s₁ B hml hv
  obtain ⟨rfl, hA, hP, hKs⟩ := hv
  have hts := atoms_spec (ws := ws_ y cc maxL none) B.pre
  have hts : ∀ w ∈ lw_all, w.before _ s = true := fun w h => hts w (List.mem_cons_of_mem _ h)
  have hown : s.vm.findClass y.cls = some m.cls := findClass_of_methodNamed B.named
  have hl := lv_entry as (n := maxL) hnl
  rw [lg_entry_eq]
  have hx := B.exec
  have hb := B.bytes
  have hr := B.returns
  have hlocks := B.notSynchronized
  refine body p e s m below meth c _ _ _ _ _ ⟨hx, hb, hml, hown, hts, hA, hKs⟩ hP va_S.rf hl (fun h => (name_of_methodNamed B.named B.method).1.trans h) ?_
  intro pc H locs ls v hd hPv hS ho
  exact W.vret hx hb hr (fun t ht hW => ⟨⟨v, rfl, Option.some.inj ho, by rw [gB, ht]; exact ⟨hPv, hK _ _ hW (by rw [ht]; exact hS.2.1) hKs⟩⟩, hS.F ht⟩) hS.2.2 hd
end GFv
set_option maxHeartbeats 4000000 in
set_option maxRecDepth 100000 in
theorem mJ1_init_2 {l : Launch} {D : va_G} {cA : Nat → ClassId} {A : Nat → Prop} {a : Nat} {S : XS} (h0 : S.1 a = some (aeO 14 (ftL 0))) : Met l yJ1_init_2 (ws_ yJ1_init_2 cJ1_init_2 5 none) ({ frames := 1, cells := 0, slots := 0, locals := 24 } : Room) (gPc (xK D cA A) (xP D cA A) A [.ref a, .null, .null, .int 0, .int 0] S) (gQv (xK D cA A) (xP D cA A) A (S)) 0 0 A := by
  refine gMetF_v (by decide) (Nat.le_of_ble_eq_true rfl) ?_ xKst
  intro p e s m below meth c Q ls args H locs hC hP hS hl hmi ret
  have hmi := hmi rfl
  obtain ⟨hx, hb, hml, hown, hts, hA, hK⟩ := hC
  have hown : s.vm.findClass RJ1 = some m.cls := hown
  have hl : lv_has ls 5 [(0, .ref a), (1, .null), (2, .null), (3, .int 0), (4, .int 0)] := hl
  have hs := hK.2.2.2.2.2.2.2.1
  refine lv_aload_n hx hb dJ1_init_2_0 rfl (lv_at hl 0 rfl) ?_
  refine W.objInit hx hb hown (hts _ q720) (hts _ q121) (hts _ q122) rfl (by rw [hml]; exact hl.1) rfl dJ1_init_2_1 (Nat.le_of_ble_eq_true rfl) (Nat.le_of_ble_eq_true rfl) ?_
  refine W.eq (g2 := F0 m 4 ls []) rfl ?_
  refine lv_aload_n hx hb dJ1_init_2_4 rfl (lv_at hl 0 rfl) ?_
  refine lv_aload_n hx hb dJ1_init_2_5 rfl (lv_at hl 0 rfl) ?_
  refine x_put (v := .ref a) (ty := (.object "java/lang/Throwable")) (C := RX14) (T := TX14) (N := 7) (ci := 14) hx hb hts in_X14 tyX14 tyX14_ok nmX14 hown hK.1 hP hS rfl 0 (by decide) (hts _ q750) (fun _ h9 => h9) rfl (by decide +kernel) rfl rfl (pF_of h0 (by decide)) dJ1_init_2_6 (fun H locs hP hS => ?_)
  refine lv_aload_n hx hb dJ1_init_2_9 rfl (lv_at hl 0 rfl) ?_
  refine va_gets hx hb hs.2.2.2.2.2.2.2.1 hS hown (hts _ q721) (fun _ h => h) dJ1_init_2_10 ?_
  refine x_put (v := va_rf (sOpt (cA 30))) (ty := (.array (.object "java/lang/StackTraceElement"))) (C := RX14) (T := TX14) (N := 7) (ci := 14) hx hb hts in_X14 tyX14 tyX14_ok nmX14 hown hK.1 hP hS rfl 1 (by decide) (hts _ q751) (fun _ h9 => h9) rfl (by decide +kernel) (rf_narA _) (rf_fitA _) (pF_on (fs := [.ref a, .null, .null, .null, .null, .int 0, .int 0]) (Nat.le_of_ble_eq_true rfl)) dJ1_init_2_13 (fun H locs hP hS => ?_)
  refine lv_aload_n hx hb dJ1_init_2_16 rfl (lv_at hl 0 rfl) ?_
  refine va_gets hx hb hs.2.2.2.2.2.2.2.2 hS hown (hts _ q723) (fun _ h => h) dJ1_init_2_17 ?_
  refine x_put (v := va_rf (sOpt (cA 31))) (ty := (.object "java/util/List")) (C := RX14) (T := TX14) (N := 7) (ci := 14) hx hb hts in_X14 tyX14 tyX14_ok nmX14 hown hK.1 hP hS rfl 2 (by decide) (hts _ q752) (fun _ h9 => h9) rfl (by decide +kernel) (rf_nar _) (rf_fit _) (pF_on (fs := [.ref a, va_rf (sOpt (cA 30)), .null, .null, .null, .int 0, .int 0]) (Nat.le_of_ble_eq_true rfl)) dJ1_init_2_20 (fun H locs hP hS => ?_)
  refine lv_iload hx hb dJ1_init_2_23 (lv_at hl 4 rfl) ?_
  refine lv_if_eq (tgt := 36) hx hb dJ1_init_2_25 (by decide) (fun _ => ?_) (fun c1 => absurd rfl c1)
  refine lv_aload_n hx hb dJ1_init_2_36 rfl (lv_at hl 0 rfl) ?_
  refine lv_null hx hb dJ1_init_2_37 ?_
  refine x_put (v := .null) (ty := (.array (.object "java/lang/StackTraceElement"))) (C := RX14) (T := TX14) (N := 7) (ci := 14) hx hb hts in_X14 tyX14 tyX14_ok nmX14 hown hK.1 hP hS rfl 1 (by decide) (hts _ q751) (fun _ h9 => h9) rfl (by decide +kernel) rfl rfl (pF_on (fs := [.ref a, va_rf (sOpt (cA 30)), va_rf (sOpt (cA 31)), .null, .null, .int 0, .int 0]) (Nat.le_of_ble_eq_true rfl)) dJ1_init_2_38 (fun H locs hP hS => ?_)
  refine lv_aload_n hx hb dJ1_init_2_41 rfl (lv_at hl 0 rfl) ?_
  refine lv_aload_nN hx hb dJ1_init_2_42 rfl (lv_at hl 1 rfl) ?_
  refine x_put (v := .null) (ty := (.object "java/lang/String")) (C := RX14) (T := TX14) (N := 7) (ci := 14) hx hb hts in_X14 tyX14 tyX14_ok nmX14 hown hK.1 hP hS rfl 3 (by decide) (hts _ q749) (fun _ h9 => h9) rfl (by decide +kernel) rfl rfl (pF_on (fs := [.ref a, .null, va_rf (sOpt (cA 31)), .null, .null, .int 0, .int 0]) (Nat.le_of_ble_eq_true rfl)) dJ1_init_2_43 (fun H locs hP hS => ?_)
  refine lv_aload_n hx hb dJ1_init_2_46 rfl (lv_at hl 0 rfl) ?_
  refine lv_aload_nN hx hb dJ1_init_2_47 rfl (lv_at hl 2 rfl) ?_
  refine x_put (v := .null) (ty := (.object "java/lang/Throwable")) (C := RX14) (T := TX14) (N := 7) (ci := 14) hx hb hts in_X14 tyX14 tyX14_ok nmX14 hown hK.1 hP hS rfl 0 (by decide) (hts _ q750) (fun _ h9 => h9) rfl (by decide +kernel) rfl rfl (pF_on (fs := [.ref a, .null, va_rf (sOpt (cA 31)), .null, .null, .int 0, .int 0]) (Nat.le_of_ble_eq_true rfl)) dJ1_init_2_48 (fun H locs hP hS => ?_)
  refine lv_iload_n hx hb dJ1_init_2_51 rfl (lv_at hl 3 rfl) ?_
  refine lv_if_ne (tgt := 60) hx hb dJ1_init_2_52 (by decide) (fun c1 => absurd rfl c1) (fun _ => ?_)
  refine lv_aload_n hx hb dJ1_init_2_55 rfl (lv_at hl 0 rfl) ?_
  refine lv_null hx hb dJ1_init_2_56 ?_
  refine x_put (v := .null) (ty := (.object "java/util/List")) (C := RX14) (T := TX14) (N := 7) (ci := 14) hx hb hts in_X14 tyX14 tyX14_ok nmX14 hown hK.1 hP hS rfl 2 (by decide) (hts _ q752) (fun _ h9 => h9) rfl (by decide +kernel) rfl rfl (pF_on (fs := [.null, .null, va_rf (sOpt (cA 31)), .null, .null, .int 0, .int 0]) (Nat.le_of_ble_eq_true rfl)) dJ1_init_2_57 (fun H locs hP hS => ?_)
  have hP : xP D cA A (xset S a (aeO 14 (ftL 0))) H := hP
  rw [xset_id h0] at hP
  exact ret _ _ _ _ _ dJ1_init_2_60 hP hS rfl
set_option maxHeartbeats 4000000 in
set_option maxRecDepth 100000 in
theorem mJ2_init {l : Launch} {D : va_G} {cA : Nat → ClassId} {A : Nat → Prop} {a : Nat} {S : XS} (h0 : S.1 a = some (aeO 14 (ftL 0))) : Met l yJ2_init (ws_ yJ2_init cJ2_init 5 none) ({ frames := 2, cells := 0, slots := 0, locals := 60 } : Room) (gPc (xK D cA A) (xP D cA A) A [.ref a, .null, .null, .int 0, .int 0] S) (gQv (xK D cA A) (xP D cA A) A (S)) 0 0 A := by
  refine gMetF_v (by decide) (Nat.le_of_ble_eq_true rfl) ?_ xKst
  intro p e s m below meth c Q ls args H locs hC hP hS hl hmi ret
  have hmi := hmi rfl
  obtain ⟨hx, hb, hml, hown, hts, hA, hK⟩ := hC
  have hown : s.vm.findClass RJ2 = some m.cls := hown
  have hl : lv_has ls 5 [(0, .ref a), (1, .null), (2, .null), (3, .int 0), (4, .int 0)] := hl
  have hs := hK.2.2.2.2.2.2.2.1
  refine lv_aload_n hx hb dJ2_init_0 rfl (lv_at hl 0 rfl) ?_
  refine lv_aload_nN hx hb dJ2_init_1 rfl (lv_at hl 1 rfl) ?_
  refine lv_aload_nN hx hb dJ2_init_2 rfl (lv_at hl 2 rfl) ?_
  refine lv_iload_n hx hb dJ2_init_3 rfl (lv_at hl 3 rfl) ?_
  refine lv_iload hx hb dJ2_init_4 (lv_at hl 4 rfl) ?_
  refine gc0_v (va_runI (As := [.null, .null, .int 0, .int 0]) (rest := []) ⟨hx, hb, hml, hown, hts⟩ (mJ1_init_2 (l := l) (D := D) (cA := cA) (A := A) h0) (cwI 4 hts (lw_meth q745) rfl rfl rfl (hts _ q101) (hts _ q743) (hts _ q744) rfl (by decide +kernel) ⟨Nat.le_of_ble_eq_true rfl, Nat.le_of_ble_eq_true rfl⟩) (gPreS xKst hK hA hS hP) rfl rfl hl.1 rfl (lv_room (Nat.le_of_ble_eq_true rfl)) dJ2_init_6 ⟨Nat.zero_le _, Nat.zero_le _⟩) hS (fun H locs hP hS => ?_)
  exact ret _ _ _ _ _ dJ2_init_9 hP hS rfl
set_option maxHeartbeats 4000000 in
set_option maxRecDepth 100000 in
theorem mF_init {l : Launch} {D : va_G} {cA : Nat → ClassId} {A : Nat → Prop} {a : Nat} {S : XS} (h0 : S.1 a = some (aeO 14 (ftL 0))) (x1 : Int32) : Met l yX14_init (ws_ yX14_init cX14_init 2 none) ({ frames := 3, cells := 0, slots := 0, locals := 100 } : Room) (gPc (xK D cA A) (xP D cA A) A [.ref a, .int x1] S) (gQv (xK D cA A) (xP D cA A) A (xset S a (aeO 14 (ftL x1)))) 0 0 A := by
  refine gMetF_v (by decide) (Nat.le_of_ble_eq_true rfl) ?_ xKst
  intro p e s m below meth c Q ls args H locs hC hP hS hl hmi ret
  have hmi := hmi rfl
  obtain ⟨hx, hb, hml, hown, hts, hA, hK⟩ := hC
  have hown : s.vm.findClass RX14 = some m.cls := hown
  have hl : lv_has ls 2 [(0, .ref a), (1, .int x1)] := hl
  have hs := hK.2.2.2.2.2.2.2.1
  refine lv_aload_n hx hb dX14_init_0 rfl (lv_at hl 0 rfl) ?_
  refine lv_null hx hb dX14_init_1 ?_
  refine lv_null hx hb dX14_init_2 ?_
  refine lv_iconst (v := (0 : Int32)) hx hb dX14_init_3 (by decide) ?_
  refine lv_iconst (v := (0 : Int32)) hx hb dX14_init_4 (by decide) ?_
  refine gc0_v (va_runI (As := [.null, .null, .int 0, .int 0]) (rest := []) ⟨hx, hb, hml, hown, hts⟩ (mJ2_init (l := l) (D := D) (cA := cA) (A := A) h0) (cwI 4 hts (lw_meth q742) rfl rfl rfl (hts _ q102) (hts _ q740) (hts _ q741) rfl (by decide +kernel) ⟨Nat.le_of_ble_eq_true rfl, Nat.le_of_ble_eq_true rfl⟩) (gPreS xKst hK hA hS hP) rfl rfl hl.1 rfl (lv_room (Nat.le_of_ble_eq_true rfl)) dX14_init_5 ⟨Nat.zero_le _, Nat.zero_le _⟩) hS (fun H locs hP hS => ?_)
  refine lv_aload_n hx hb dX14_init_8 rfl (lv_at hl 0 rfl) ?_
  refine lv_iload_n hx hb dX14_init_9 rfl (lv_at hl 1 rfl) ?_
  refine x_putF (v := .int x1) (ty := .int) (C := RX14) (T := TX14) (N := 7) (ci := 14) hx hb hts in_X14 tyX14 tyX14_ok nmX14 hown hK.1 hP hS rfl 6 (by decide) (hts _ q746) (fun _ h9 => h9) rfl hmi rfl (by decide +kernel) rfl rfl (pF_of h0 (by decide)) dX14_init_10 (fun H locs hP hS => ?_)
  exact ret _ _ _ _ _ dX14_init_13 hP hS rfl
