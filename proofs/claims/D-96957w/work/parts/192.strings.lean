/-! String.indexOf(int) on the five String constants -/
def sLen (i : Nat) : Nat := [3, 3, 3, 2, 3].getD i 0
def sByt (i j : Nat) : Int32 := (([[119, 107, 110], [115, 116, 110], [60, 61, 62], [43, 45], [42, 47, 37]] : List (List Int32)).getD i []).getD j 0
def ixG (f : Nat → Int32) (b : Int32) : Nat → Nat → Int32
  | 0, _ => -1
  | k + 1, j => if f j = b then nI j else ixG f b k (j + 1)
/-- what String.indexOf answers -/
def ixS (i : Nat) (c : Int32) : Int32 := if 0 ≤ c ∧ c ≤ 255 then ixG (sByt i) c.toInt8.toInt32 (sLen i) 0 else -1
theorem sLen_pos : ∀ i, i < 5 → 0 < sLen i ∧ sLen i ≤ 3 := by decide
section GF
variable {S : Type}
theorem gMetF_z {l : Launch} {y : MethodName} {cc : ByteArray} {maxL : Nat} {rm : Room} {K : State → Prop} {P : S → Heap → Prop} {A : Nat → Prop} {as : List Value} {u : S} {out : Int32 × S} {mc ms : Nat} {ty : FieldType} (hy : plainFor y = true) (hnl : (lg_sl as).length ≤ maxL)
    (body : ∀ (p : Program) (e : Env) (s : State) (m : MethodId) (below : List Frame) (meth : Method) (c : Code) (Q : State → Prop) (ls : Array Slot) (args : Array Value) (H : Heap) (locs : List Loc), gCx p m c cc maxL s args y.cls K A → P u H → va_S A s.heap H locs → lv_has ls maxL (lv_args 0 as) →
      (∀ (pc : Nat) (H : Heap) (locs : List Loc) (ls : Array Slot) (r : Int32) (v : S), decode cc pc = .ok (.ireturn, 1) → narrow ty (.int r) = .int r → P v H → va_S A s.heap H locs → some (r, v) = some out → W p l e rm s m args below meth c H locs mc ms Q (F0 m pc ls [.int r])) →
      W p l e rm s m args below meth c H locs 0 0 Q (F0 m 0 ls [])) (hK : Kst K A) : Met l y (ws_ y cc maxL (some ty)) rm (gPc K P A as u) (gQi K P A out) mc ms A := by
  refine va_MetF (cc := cc) (maxL := maxL) (ret := some ty) hy rfl ?_
  intro p e s m args below meth c s₁ B hml hv
  obtain ⟨rfl, hA, hP, hKs⟩ := hv
  have hts := atoms_spec (ws := ws_ y cc maxL (some ty)) B.pre
  have hts : ∀ w ∈ lw_all, w.before _ s = true := fun w h => hts w (List.mem_cons_of_mem _ h)
  have hown : s.vm.findClass y.cls = some m.cls := findClass_of_methodNamed B.named
  have hl := lv_entry as (n := maxL) hnl
  rw [lg_entry_eq]
  have hx := B.exec
  have hb := B.bytes
  have hr := B.returns
  have hlocks := B.notSynchronized
  refine body p e s m below meth c _ _ _ _ _ ⟨hx, hb, hml, hown, hts, hA, hKs⟩ hP va_S.rf hl ?_
  intro pc H locs ls r v hd hn hPv hS ho
  exact W.zret (v := r) hx hb hr hn (fun t ht hW => ⟨⟨r, v, rfl, Option.some.inj ho, by rw [gB, ht]; exact ⟨hPv, hK _ _ hW (by rw [ht]; exact hS.2.1) hKs⟩⟩, hS.F ht⟩) hS.2.2 hd
end GF
set_option maxHeartbeats 4000000 in
set_option maxRecDepth 100000 in
theorem mJ3_isLatin1 {l : Launch} {D : va_G} {cA : Nat → ClassId} {A : Nat → Prop} {i : Nat} (hi : i < 5) (S : XS) : Met l yJ3_isLatin1 (ws_ yJ3_isLatin1 cJ3_isLatin1 1 (some .boolean)) ({ frames := 0, cells := 0, slots := 0, locals := 0 } : Room) (gPc (xK D cA A) (xP D cA A) A [.ref (cA (10 + i))] S) (gQi (xK D cA A) (xP D cA A) A (1, S)) 0 0 A := by
  refine gMetF_z (by decide) (Nat.le_of_ble_eq_true rfl) ?_ xKst
  intro p e s m below meth c Q ls args H locs hC hP hS hl ret
  obtain ⟨hx, hb, hml, hown, hts, hA, hK⟩ := hC
  have hown : s.vm.findClass RJ3 = some m.cls := hown
  have hl : lv_has ls 1 [(0, .ref (cA (10 + i)))] := hl
  have hs := hK.2.2.2.2.2.2.2.1
  have hv := hs.1.1 i hi
  refine va_gets hx hb hs.2.2.2.2.2.2.1 hS hown (hts _ q787) (fun _ h => h) dJ3_isLatin1_0 ?_
  refine lv_if_eq (tgt := 17) hx hb dJ3_isLatin1_3 (by decide) (fun c1 => absurd c1 (by decide)) (fun _ => ?_)
  refine lv_aload_n hx hb dJ3_isLatin1_6 rfl (lv_at hl 0 rfl) ?_
  refine vk_getf hx hb hv.2.1 hS hown (hts _ q1767) (fun _ h => h) dJ3_isLatin1_7 ?_
  refine lv_if_ne (tgt := 17) hx hb dJ3_isLatin1_10 (by decide) (fun c1 => absurd rfl c1) (fun _ => ?_)
  refine lv_iconst (v := (1 : Int32)) hx hb dJ3_isLatin1_13 (by decide) ?_
  refine lv_goto (tgt := 18) hx hb dJ3_isLatin1_14 (by decide) ?_
  exact ret _ _ _ _ _ _ dJ3_isLatin1_18 rfl hP hS rfl
set_option maxHeartbeats 4000000 in
set_option maxRecDepth 100000 in
theorem mJ3_coder {l : Launch} {D : va_G} {cA : Nat → ClassId} {A : Nat → Prop} {i : Nat} (hi : i < 5) (S : XS) : Met l yJ3_coder (ws_ yJ3_coder cJ3_coder 1 (some .byte)) ({ frames := 0, cells := 0, slots := 0, locals := 0 } : Room) (gPc (xK D cA A) (xP D cA A) A [.ref (cA (10 + i))] S) (gQi (xK D cA A) (xP D cA A) A (0, S)) 0 0 A := by
  refine gMetF_z (by decide) (Nat.le_of_ble_eq_true rfl) ?_ xKst
  intro p e s m below meth c Q ls args H locs hC hP hS hl ret
  obtain ⟨hx, hb, hml, hown, hts, hA, hK⟩ := hC
  have hown : s.vm.findClass RJ3 = some m.cls := hown
  have hl : lv_has ls 1 [(0, .ref (cA (10 + i)))] := hl
  have hs := hK.2.2.2.2.2.2.2.1
  have hv := hs.1.1 i hi
  refine va_gets hx hb hs.2.2.2.2.2.2.1 hS hown (hts _ q787) (fun _ h => h) dJ3_coder_0 ?_
  refine lv_if_eq (tgt := 13) hx hb dJ3_coder_3 (by decide) (fun c1 => absurd c1 (by decide)) (fun _ => ?_)
  refine lv_aload_n hx hb dJ3_coder_6 rfl (lv_at hl 0 rfl) ?_
  refine vk_getf hx hb hv.2.1 hS hown (hts _ q1767) (fun _ h => h) dJ3_coder_7 ?_
  refine lv_goto (tgt := 14) hx hb dJ3_coder_10 (by decide) ?_
  exact ret _ _ _ _ _ _ dJ3_coder_14 rfl hP hS rfl
set_option maxHeartbeats 4000000 in
set_option maxRecDepth 100000 in
theorem mJ3_length {l : Launch} {D : va_G} {cA : Nat → ClassId} {A : Nat → Prop} {i : Nat} (hi : i < 5) (S : XS) : Met l yJ3_length (ws_ yJ3_length cJ3_length 1 (some .int)) ({ frames := 1, cells := 0, slots := 0, locals := 20 } : Room) (gPc (xK D cA A) (xP D cA A) A [.ref (cA (10 + i))] S) (gQi (xK D cA A) (xP D cA A) A (Int32.ofNat (sLen i), S)) 0 0 A := by
  refine gMetF_z (by decide) (Nat.le_of_ble_eq_true rfl) ?_ xKst
  intro p e s m below meth c Q ls args H locs hC hP hS hl ret
  obtain ⟨hx, hb, hml, hown, hts, hA, hK⟩ := hC
  have hown : s.vm.findClass RJ3 = some m.cls := hown
  have hl : lv_has ls 1 [(0, .ref (cA (10 + i)))] := hl
  have hs := hK.2.2.2.2.2.2.2.1
  have hv := hs.1.1 i hi
  refine lv_aload_n hx hb dJ3_length_0 rfl (lv_at hl 0 rfl) ?_
  refine vk_getf hx hb hv.2.2.1 hS hown (hts _ q1768) (fun _ h => h) dJ3_length_1 ?_
  refine va_tlen (v := Int32.ofNat (sLen i)) hx hb hv.2.2.2 hS rfl dJ3_length_4 ?_
  refine lv_aload_n hx hb dJ3_length_5 rfl (lv_at hl 0 rfl) ?_
  refine gc0_i (va_runV (As := []) (rest := [.int (Int32.ofNat (sLen i))]) ⟨hx, hb, hml, hown, hts⟩ (mJ3_coder (l := l) (D := D) (cA := cA) (A := A) hi S) (cwV 0 hts (lw_V q793 q794 q795 q104 q796) rfl rfl rfl (by decide +kernel) ⟨Nat.le_of_ble_eq_true rfl, Nat.le_of_ble_eq_true rfl⟩) (gPreV xKst hK hA hS hP (vk_recv (adK := fun i => cA (10 + i)) (i := i) hs.1 hi hS)) rfl rfl hl.1 rfl (lv_room (Nat.le_of_ble_eq_true rfl)) dJ3_length_6 ⟨Nat.zero_le _, Nat.zero_le _⟩) hS (fun H locs hP hS => ?_)
  refine lv_ishr hx hb dJ3_length_9 ?_
  refine lv_topi (fun z ez => ?_)
  rw [sb_shr0] at ez
  subst ez
  exact ret _ _ _ _ _ _ dJ3_length_10 rfl hP hS rfl
def fCan (c : Int32) : Int32 := if 0 ≤ c ∧ c ≤ 255 then 1 else 0
set_option maxHeartbeats 4000000 in
set_option maxRecDepth 100000 in
theorem mJ4_canEncode {l : Launch} {D : va_G} {cA : Nat → ClassId} {A : Nat → Prop} (x0 : Int32) (S : XS) : Met l yJ4_canEncode (ws_ yJ4_canEncode cJ4_canEncode 1 (some .boolean)) ({ frames := 0, cells := 0, slots := 0, locals := 0 } : Room) (gPc (xK D cA A) (xP D cA A) A [.int x0] S) (gQi (xK D cA A) (xP D cA A) A (fCan x0, S)) 0 0 A := by
  refine gMetF_z (by decide) (Nat.le_of_ble_eq_true rfl) ?_ xKst
  intro p e s m below meth c Q ls args H locs hC hP hS hl ret
  obtain ⟨hx, hb, hml, hown, hts, hA, hK⟩ := hC
  have hown : s.vm.findClass RJ4 = some m.cls := hown
  have hl : lv_has ls 1 [(0, .int x0)] := hl
  refine lv_iload_n hx hb dJ4_canEncode_0 rfl (lv_at hl 0 rfl) ?_
  refine lv_if_lt (tgt := 15) hx hb dJ4_canEncode_1 (by decide) (fun c1 => ?_) (fun c1 => ?_)
  · refine lv_iconst (v := (0 : Int32)) hx hb dJ4_canEncode_15 (by decide) ?_
    exact ret _ _ _ _ _ _ dJ4_canEncode_16 rfl hP hS (by rw [fCan, if_neg (fun q => absurd q.1 (Int32.not_le.mpr c1))])
  · refine lv_iload_n hx hb dJ4_canEncode_4 rfl (lv_at hl 0 rfl) ?_
    refine lv_sipush (v := (255 : Int32)) hx hb dJ4_canEncode_5 (by decide) ?_
    refine lv_icmp_gt (tgt := 15) hx hb dJ4_canEncode_8 (by decide) (fun c2 => ?_) (fun c2 => ?_)
    · refine lv_iconst (v := (0 : Int32)) hx hb dJ4_canEncode_15 (by decide) ?_
      exact ret _ _ _ _ _ _ dJ4_canEncode_16 rfl hP hS (by rw [fCan, if_neg (fun q => absurd q.2 (Int32.not_le.mpr c2))])
    · refine lv_iconst (v := (1 : Int32)) hx hb dJ4_canEncode_11 (by decide) ?_
      refine lv_goto (tgt := 16) hx hb dJ4_canEncode_12 (by decide) ?_
      exact ret _ _ _ _ _ _ dJ4_canEncode_16 rfl hP hS (by rw [fCan, if_pos ⟨Int32.not_lt.mp c1, Int32.not_lt.mp c2⟩])
set_option maxHeartbeats 4000000 in
set_option maxRecDepth 100000 in
theorem mJ4_indexOfChar {l : Launch} {D : va_G} {cA : Nat → ClassId} {A : Nat → Prop} {i : Nat} (hi : i < 5) (c0 : Int32) (S : XS) : Met l yJ4_indexOfChar (ws_ yJ4_indexOfChar cJ4_indexOfChar 6 (some .int)) ({ frames := 0, cells := 0, slots := 0, locals := 0 } : Room) (gPc (xK D cA A) (xP D cA A) A [.ref (cA (20 + i)), .int c0, .int (0 : Int32), .int (Int32.ofNat (sLen i))] S) (gQi (xK D cA A) (xP D cA A) A (ixG (sByt i) c0.toInt8.toInt32 (sLen i) 0, S)) 0 0 A := by
  refine gMetF_z (by decide) (Nat.le_of_ble_eq_true rfl) ?_ xKst
  intro p e s m below meth c Q ls args H locs hC hP hS hl ret
  obtain ⟨hx, hb, hml, hown, hts, hA, hK⟩ := hC
  have hown : s.vm.findClass RJ4 = some m.cls := hown
  have hl : lv_has ls 6 [(0, .ref (cA (20 + i))), (1, .int c0), (2, .int (0 : Int32)), (3, .int (Int32.ofNat (sLen i)))] := hl
  have hs := hK.2.2.2.2.2.2.2.1
  have hv := hs.1.1 i hi
  have h3 := sLen_pos i hi
  have L7 : ∀ (k j : Nat), j + k = sLen i → ixG (sByt i) c0.toInt8.toInt32 (sLen i) 0 = ixG (sByt i) c0.toInt8.toInt32 k j → ∀ (ls : Array Slot), lv_has ls 6 [(0, .ref (cA (20 + i))), (3, .int (Int32.ofNat (sLen i))), (4, .int c0.toInt8.toInt32), (5, .int (nI j))] → W p l e ({ frames := 0, cells := 0, slots := 0, locals := 0 } : Room) s m args below meth c H locs 0 0 Q (F0 m 7 ls []) := by
    intro k
    induction k with
    | zero =>
      intro j hj he ls hl
      refine lv_iload hx hb dJ4_indexOfChar_7 (lv_at hl 3 rfl) ?_
      refine lv_iload_n hx hb dJ4_indexOfChar_9 rfl (lv_at hl 1 rfl) ?_
      refine lv_icmp_ge (tgt := 31) hx hb dJ4_indexOfChar_10 (by decide) (fun c1 => ?_) (fun c1 => absurd (nI_le (show sLen i ≤ j by omega) (by omega)) c1)
      refine lv_iconst (v := (-1 : Int32)) hx hb dJ4_indexOfChar_31 (by decide) ?_
      exact ret _ _ _ _ _ _ dJ4_indexOfChar_32 rfl hP hS (by rw [he]; rfl)
    | succ k ih =>
      intro j hj he ls hl
      refine lv_iload hx hb dJ4_indexOfChar_7 (lv_at hl 3 rfl) ?_
      refine lv_iload_n hx hb dJ4_indexOfChar_9 rfl (lv_at hl 1 rfl) ?_
      refine lv_icmp_ge (tgt := 31) hx hb dJ4_indexOfChar_10 (by decide) (fun c1 => absurd c1 (nI_ge (show j < sLen i by omega) (by omega))) (fun c1 => ?_)
      refine lv_aload_n hx hb dJ4_indexOfChar_13 rfl (lv_at hl 0 rfl) ?_
      refine lv_iload hx hb dJ4_indexOfChar_14 (lv_at hl 3 rfl) ?_
      refine va_tb (N := sLen i) (v := .int (sByt i j)) hx hb hv.2.2.2 hS (vp_in_nI (show j < sLen i by omega) (by omega)) (by rw [nI_clamp (by omega)]; rfl) dJ4_indexOfChar_16 ?_
      refine lv_iload hx hb dJ4_indexOfChar_17 (lv_at hl 2 rfl) ?_
      refine lv_icmp_ne (tgt := 25) hx hb dJ4_indexOfChar_19 (by decide) (fun c2 => ?_) (fun c2 => ?_)
      · refine lv_iinc (v := nI (j + 1)) (lv' := [(5, .int (nI (j + 1))), (0, .ref (cA (20 + i))), (3, .int (Int32.ofNat (sLen i))), (4, .int c0.toInt8.toInt32)]) hx hb dJ4_indexOfChar_25 hl (k := 3) rfl (nI_1 j) (by decide) rfl (fun ls hl => ?_)
        refine lv_goto (tgt := 7) hx hb dJ4_indexOfChar_28 (by decide) ?_
        exact ih (j + 1) (by omega) (by rw [he, ixG, if_neg c2]) _ (lv_sub hl [1, 2, 3, 0] rfl)
      · refine lv_iload hx hb dJ4_indexOfChar_22 (lv_at hl 3 rfl) ?_
        exact ret _ _ _ _ _ _ dJ4_indexOfChar_24 rfl hP hS (by rw [he, ixG, if_pos c2])
  refine lv_iload_n hx hb dJ4_indexOfChar_0 rfl (lv_at hl 1 rfl) ?_
  refine lv_i2b hx hb dJ4_indexOfChar_1 rfl ?_
  refine lv_istore (lv' := [(4, .int c0.toInt8.toInt32), (0, .ref (cA (20 + i))), (1, .int c0), (2, .int (0 : Int32)), (3, .int (Int32.ofNat (sLen i)))]) hx hb dJ4_indexOfChar_2 hl (by decide) rfl (fun ls hl => ?_)
  refine lv_iload_n hx hb dJ4_indexOfChar_4 rfl (lv_at hl 3 rfl) ?_
  refine lv_istore (lv' := [(5, .int (0 : Int32)), (4, .int c0.toInt8.toInt32), (0, .ref (cA (20 + i))), (1, .int c0), (2, .int (0 : Int32)), (3, .int (Int32.ofNat (sLen i)))]) hx hb dJ4_indexOfChar_5 hl (by decide) rfl (fun ls hl => ?_)
  exact L7 (sLen i) 0 (by omega) rfl _ (lv_sub hl [2, 5, 1, 0] rfl)
set_option maxHeartbeats 4000000 in
set_option maxRecDepth 100000 in
theorem mJ4_indexOf {l : Launch} {D : va_G} {cA : Nat → ClassId} {A : Nat → Prop} {i : Nat} (hi : i < 5) (c0 : Int32) (S : XS) : Met l yJ4_indexOf (ws_ yJ4_indexOf cJ4_indexOf 4 (some .int)) ({ frames := 1, cells := 0, slots := 0, locals := 60 } : Room) (gPc (xK D cA A) (xP D cA A) A [.ref (cA (20 + i)), .int c0, .int (0 : Int32), .int (Int32.ofNat (sLen i))] S) (gQi (xK D cA A) (xP D cA A) A (ixS i c0, S)) 0 0 A := by
  refine gMetF_z (by decide) (Nat.le_of_ble_eq_true rfl) ?_ xKst
  intro p e s m below meth c Q ls args H locs hC hP hS hl ret
  obtain ⟨hx, hb, hml, hown, hts, hA, hK⟩ := hC
  have hown : s.vm.findClass RJ4 = some m.cls := hown
  have hl : lv_has ls 4 [(0, .ref (cA (20 + i))), (1, .int c0), (2, .int (0 : Int32)), (3, .int (Int32.ofNat (sLen i)))] := hl
  have hs := hK.2.2.2.2.2.2.2.1
  have hv := hs.1.1 i hi
  have h3 := sLen_pos i hi
  refine lv_iload_n hx hb dJ4_indexOf_0 rfl (lv_at hl 1 rfl) ?_
  refine gc0_i (va_runS (As := [.int c0]) (rest := []) ⟨hx, hb, hml, hown, hts⟩ (mJ4_canEncode (l := l) (D := D) (cA := cA) (A := A) c0 S) (va_cwS 1 hts (lw_S q800 q801 q105 q802) rfl rfl rfl (by decide +kernel) ⟨Nat.le_of_ble_eq_true rfl, Nat.le_of_ble_eq_true rfl⟩) (gPreS xKst hK hA hS hP) rfl rfl hl.1 rfl (lv_room (Nat.le_of_ble_eq_true rfl)) dJ4_indexOf_1 ⟨Nat.zero_le _, Nat.zero_le _⟩) hS (fun H locs hP hS => ?_)
  refine lv_if_ne (tgt := 9) hx hb dJ4_indexOf_4 (by decide) (fun c1 => ?_) (fun c1 => ?_)
  · have hc : 0 ≤ c0 ∧ c0 ≤ 255 := Classical.byContradiction fun q => c1 (by rw [fCan, if_neg q])
    refine lv_iload_n hx hb dJ4_indexOf_9 rfl (lv_at hl 2 rfl) ?_
    refine lv_iconst (v := (0 : Int32)) hx hb dJ4_indexOf_10 (by decide) ?_
    refine va_mmax hx hb (hml.trans hl.1.symm) hown (hts _ q803) (hts _ q512) (hts _ q98) (hts _ q513) (Nat.le_of_ble_eq_true rfl) (Nat.le_of_ble_eq_true rfl) (Nat.zero_le _) (Nat.zero_le _) dJ4_indexOf_11 ?_
    refine lv_istore_n (lv' := [(2, .int (0 : Int32)), (0, .ref (cA (20 + i))), (1, .int c0), (3, .int (Int32.ofNat (sLen i)))]) hx hb dJ4_indexOf_14 rfl hl (by decide) rfl (fun ls hl => ?_)
    refine lv_iload_n hx hb dJ4_indexOf_15 rfl (lv_at hl 3 rfl) ?_
    refine lv_aload_n hx hb dJ4_indexOf_16 rfl (lv_at hl 1 rfl) ?_
    refine va_tlen (v := Int32.ofNat (sLen i)) hx hb hv.2.2.2 hS rfl dJ4_indexOf_17 ?_
    refine va_mmin hx hb (hml.trans hl.1.symm) hown (hts _ q804) (hts _ q509) (hts _ q98) (hts _ q510) (Nat.le_of_ble_eq_true rfl) (Nat.le_of_ble_eq_true rfl) (Nat.zero_le _) (Nat.zero_le _) dJ4_indexOf_18 ?_
    refine lv_topi (fun z ez => ?_)
    rw [ite_self] at ez
    subst ez
    refine lv_istore_n (lv' := [(3, .int (Int32.ofNat (sLen i))), (2, .int (0 : Int32)), (0, .ref (cA (20 + i))), (1, .int c0)]) hx hb dJ4_indexOf_21 rfl hl (by decide) rfl (fun ls hl => ?_)
    refine lv_iload_n hx hb dJ4_indexOf_22 rfl (lv_at hl 1 rfl) ?_
    refine lv_iload_n hx hb dJ4_indexOf_23 rfl (lv_at hl 0 rfl) ?_
    refine lv_icmp_lt (tgt := 29) hx hb dJ4_indexOf_24 (by decide) (fun c2 => ?_) (fun c2 => absurd (nI_lt (show 0 < sLen i by omega) (by omega)) c2)
    refine lv_aload_n hx hb dJ4_indexOf_29 rfl (lv_at hl 2 rfl) ?_
    refine lv_iload_n hx hb dJ4_indexOf_30 rfl (lv_at hl 3 rfl) ?_
    refine lv_iload_n hx hb dJ4_indexOf_31 rfl (lv_at hl 1 rfl) ?_
    refine lv_iload_n hx hb dJ4_indexOf_32 rfl (lv_at hl 0 rfl) ?_
    refine gc0_i (va_runS (As := [.ref (cA (20 + i)), .int c0, .int (0 : Int32), .int (Int32.ofNat (sLen i))]) (rest := []) ⟨hx, hb, hml, hown, hts⟩ (mJ4_indexOfChar (l := l) (D := D) (cA := cA) (A := A) hi c0 S) (va_cwS 4 hts (lw_S q805 q806 q105 q807) rfl rfl rfl (by decide +kernel) ⟨Nat.le_of_ble_eq_true rfl, Nat.le_of_ble_eq_true rfl⟩) (gPreS xKst hK hA hS hP) rfl rfl hl.1 rfl (lv_room (Nat.le_of_ble_eq_true rfl)) dJ4_indexOf_33 ⟨Nat.zero_le _, Nat.zero_le _⟩) hS (fun H locs hP hS => ?_)
    exact ret _ _ _ _ _ _ dJ4_indexOf_36 rfl hP hS (by rw [ixS, if_pos hc])
  · have hc : ¬ (0 ≤ c0 ∧ c0 ≤ 255) := fun q => absurd c1 (by rw [fCan, if_pos q]; decide)
    refine lv_iconst (v := (-1 : Int32)) hx hb dJ4_indexOf_7 (by decide) ?_
    exact ret _ _ _ _ _ _ dJ4_indexOf_8 rfl hP hS (by rw [ixS, if_neg hc])
set_option maxHeartbeats 4000000 in
set_option maxRecDepth 100000 in
theorem mJ3_indexOf_2 {l : Launch} {D : va_G} {cA : Nat → ClassId} {A : Nat → Prop} {i : Nat} (hi : i < 5) (c0 : Int32) (S : XS) : Met l yJ3_indexOf_2 (ws_ yJ3_indexOf_2 cJ3_indexOf_2 3 (some .int)) ({ frames := 2, cells := 0, slots := 0, locals := 90 } : Room) (gPc (xK D cA A) (xP D cA A) A [.ref (cA (10 + i)), .int c0, .int (0 : Int32)] S) (gQi (xK D cA A) (xP D cA A) A (ixS i c0, S)) 0 0 A := by
  refine gMetF_z (by decide) (Nat.le_of_ble_eq_true rfl) ?_ xKst
  intro p e s m below meth c Q ls args H locs hC hP hS hl ret
  obtain ⟨hx, hb, hml, hown, hts, hA, hK⟩ := hC
  have hown : s.vm.findClass RJ3 = some m.cls := hown
  have hl : lv_has ls 3 [(0, .ref (cA (10 + i))), (1, .int c0), (2, .int (0 : Int32))] := hl
  have hs := hK.2.2.2.2.2.2.2.1
  have hv := hs.1.1 i hi
  refine lv_aload_n hx hb dJ3_indexOf_2_0 rfl (lv_at hl 0 rfl) ?_
  refine gc0_i (va_runV (As := []) (rest := []) ⟨hx, hb, hml, hown, hts⟩ (mJ3_isLatin1 (l := l) (D := D) (cA := cA) (A := A) hi S) (cwV 0 hts (lw_V q783 q784 q785 q104 q786) rfl rfl rfl (by decide +kernel) ⟨Nat.le_of_ble_eq_true rfl, Nat.le_of_ble_eq_true rfl⟩) (gPreV xKst hK hA hS hP (vk_recv (adK := fun i => cA (10 + i)) (i := i) hs.1 hi hS)) rfl rfl hl.1 rfl (lv_room (Nat.le_of_ble_eq_true rfl)) dJ3_indexOf_2_1 ⟨Nat.zero_le _, Nat.zero_le _⟩) hS (fun H locs hP hS => ?_)
  refine lv_if_eq (tgt := 23) hx hb dJ3_indexOf_2_4 (by decide) (fun c1 => absurd c1 (by decide)) (fun _ => ?_)
  refine lv_aload_n hx hb dJ3_indexOf_2_7 rfl (lv_at hl 0 rfl) ?_
  refine vk_getf hx hb hv.2.2.1 hS hown (hts _ q1768) (fun _ h => h) dJ3_indexOf_2_8 ?_
  refine lv_iload_n hx hb dJ3_indexOf_2_11 rfl (lv_at hl 1 rfl) ?_
  refine lv_iload_n hx hb dJ3_indexOf_2_12 rfl (lv_at hl 2 rfl) ?_
  refine lv_aload_n hx hb dJ3_indexOf_2_13 rfl (lv_at hl 0 rfl) ?_
  refine gc0_i (va_runV (As := []) (rest := [.int (0 : Int32), .int c0, .ref (cA (20 + i))]) ⟨hx, hb, hml, hown, hts⟩ (mJ3_length (l := l) (D := D) (cA := cA) (A := A) hi S) (cwV 0 hts (lw_V q789 q790 q791 q104 q792) rfl rfl rfl (by decide +kernel) ⟨Nat.le_of_ble_eq_true rfl, Nat.le_of_ble_eq_true rfl⟩) (gPreV xKst hK hA hS hP (vk_recv (adK := fun i => cA (10 + i)) (i := i) hs.1 hi hS)) rfl rfl hl.1 rfl (lv_room (Nat.le_of_ble_eq_true rfl)) dJ3_indexOf_2_14 ⟨Nat.zero_le _, Nat.zero_le _⟩) hS (fun H locs hP hS => ?_)
  refine gc0_i (va_runS (As := [.ref (cA (20 + i)), .int c0, .int (0 : Int32), .int (Int32.ofNat (sLen i))]) (rest := []) ⟨hx, hb, hml, hown, hts⟩ (mJ4_indexOf (l := l) (D := D) (cA := cA) (A := A) hi c0 S) (va_cwS 4 hts (lw_S q797 q798 q105 q799) rfl rfl rfl (by decide +kernel) ⟨Nat.le_of_ble_eq_true rfl, Nat.le_of_ble_eq_true rfl⟩) (gPreS xKst hK hA hS hP) rfl rfl hl.1 rfl (lv_room (Nat.le_of_ble_eq_true rfl)) dJ3_indexOf_2_17 ⟨Nat.zero_le _, Nat.zero_le _⟩) hS (fun H locs hP hS => ?_)
  refine lv_goto (tgt := 36) hx hb dJ3_indexOf_2_20 (by decide) ?_
  exact ret _ _ _ _ _ _ dJ3_indexOf_2_36 rfl hP hS rfl
set_option maxHeartbeats 4000000 in
set_option maxRecDepth 100000 in
theorem mJ3_indexOf {l : Launch} {D : va_G} {cA : Nat → ClassId} {A : Nat → Prop} {i : Nat} (hi : i < 5) (c0 : Int32) (S : XS) : Met l yJ3_indexOf (ws_ yJ3_indexOf cJ3_indexOf 2 (some .int)) ({ frames := 3, cells := 0, slots := 0, locals := 120 } : Room) (gPc (xK D cA A) (xP D cA A) A [.ref (cA (10 + i)), .int c0] S) (gQi (xK D cA A) (xP D cA A) A (ixS i c0, S)) 0 0 A := by
  refine gMetF_z (by decide) (Nat.le_of_ble_eq_true rfl) ?_ xKst
  intro p e s m below meth c Q ls args H locs hC hP hS hl ret
  obtain ⟨hx, hb, hml, hown, hts, hA, hK⟩ := hC
  have hown : s.vm.findClass RJ3 = some m.cls := hown
  have hl : lv_has ls 2 [(0, .ref (cA (10 + i))), (1, .int c0)] := hl
  have hs := hK.2.2.2.2.2.2.2.1
  have hv := hs.1.1 i hi
  refine lv_aload_n hx hb dJ3_indexOf_0 rfl (lv_at hl 0 rfl) ?_
  refine lv_iload_n hx hb dJ3_indexOf_1 rfl (lv_at hl 1 rfl) ?_
  refine lv_iconst (v := (0 : Int32)) hx hb dJ3_indexOf_2 (by decide) ?_
  refine gc0_i (va_runV (As := [.int c0, .int (0 : Int32)]) (rest := []) ⟨hx, hb, hml, hown, hts⟩ (mJ3_indexOf_2 (l := l) (D := D) (cA := cA) (A := A) hi c0 S) (cwV 2 hts (lw_V q779 q780 q781 q104 q782) rfl rfl rfl (by decide +kernel) ⟨Nat.le_of_ble_eq_true rfl, Nat.le_of_ble_eq_true rfl⟩) (gPreV xKst hK hA hS hP (vk_recv (adK := fun i => cA (10 + i)) (i := i) hs.1 hi hS)) rfl rfl hl.1 rfl (lv_room (Nat.le_of_ble_eq_true rfl)) dJ3_indexOf_3 ⟨Nat.zero_le _, Nat.zero_le _⟩) hS (fun H locs hP hS => ?_)
  exact ret _ _ _ _ _ _ dJ3_indexOf_6 rfl hP hS rfl
