/-! WHAT IS KNOWN OF THE CLASSES in the world of PictureBlock -/
def nwOk (w : Cond) : Bool := match w with
  | .fieldLinkNest .. => true
  | .methodLinkNest .. => true
  | .castable .. => true
  | .declares .. => true
  | _ => false
abbrev fwT : Type := String × MethodName × MethodName
def fwL : List fwT := [("PictureBlock$House", ⟨"PictureBlock$Block", "round", "()I"⟩, ⟨"PictureBlock$House", "round", "()I"⟩), ("PictureBlock$House", ⟨"PictureBlock$Block", "marks", "(I)I"⟩, ⟨"PictureBlock$House", "marks", "(I)I"⟩), ("PictureBlock$House", ⟨"PictureBlock$Block", "told", "(I)I"⟩, ⟨"PictureBlock$House", "told", "(I)I"⟩), ("PictureBlock$Faint", ⟨"PictureBlock$Seen", "weight", "(LPictureBlock$Block;)I"⟩, ⟨"PictureBlock$Faint", "weight", "(LPictureBlock$Block;)I"⟩), ("PictureBlock$Faint", ⟨"PictureBlock$Seen", "value", "(LPictureBlock$Block;)I"⟩, ⟨"PictureBlock$Faint", "value", "(LPictureBlock$Block;)I"⟩), ("PictureBlock$Faint", ⟨"PictureBlock$Weighs", "weighs", "(ILPictureBlock$Trace;)I"⟩, ⟨"PictureBlock$Mark", "weighs", "(ILPictureBlock$Trace;)I"⟩), ("PictureBlock$Shore", ⟨"PictureBlock$Seen", "weight", "(LPictureBlock$Block;)I"⟩, ⟨"PictureBlock$Shore", "weight", "(LPictureBlock$Block;)I"⟩), ("PictureBlock$Shore", ⟨"PictureBlock$Seen", "value", "(LPictureBlock$Block;)I"⟩, ⟨"PictureBlock$Shore", "value", "(LPictureBlock$Block;)I"⟩), ("PictureBlock$Shore", ⟨"PictureBlock$Weighs", "weighs", "(ILPictureBlock$Trace;)I"⟩, ⟨"PictureBlock$Shore", "weighs", "(ILPictureBlock$Trace;)I"⟩), ("PictureBlock$Mark", ⟨"PictureBlock$Seen", "weight", "(LPictureBlock$Block;)I"⟩, ⟨"PictureBlock$Mark", "weight", "(LPictureBlock$Block;)I"⟩), ("PictureBlock$Mark", ⟨"PictureBlock$Seen", "value", "(LPictureBlock$Block;)I"⟩, ⟨"PictureBlock$Mark", "value", "(LPictureBlock$Block;)I"⟩), ("PictureBlock$Mark", ⟨"PictureBlock$Weighs", "weighs", "(ILPictureBlock$Trace;)I"⟩, ⟨"PictureBlock$Mark", "weighs", "(ILPictureBlock$Trace;)I"⟩), ("PictureBlock$Flat", ⟨"PictureBlock$Seen", "weight", "(LPictureBlock$Block;)I"⟩, ⟨"PictureBlock$Flat", "weight", "(LPictureBlock$Block;)I"⟩), ("PictureBlock$Flat", ⟨"PictureBlock$Seen", "value", "(LPictureBlock$Block;)I"⟩, ⟨"PictureBlock$Mark", "value", "(LPictureBlock$Block;)I"⟩), ("PictureBlock$Flat", ⟨"PictureBlock$Weighs", "weighs", "(ILPictureBlock$Trace;)I"⟩, ⟨"PictureBlock$Flat", "weighs", "(ILPictureBlock$Trace;)I"⟩), ("PictureBlock$Star", ⟨"PictureBlock$Seen", "weight", "(LPictureBlock$Block;)I"⟩, ⟨"PictureBlock$Star", "weight", "(LPictureBlock$Block;)I"⟩), ("PictureBlock$Star", ⟨"PictureBlock$Seen", "value", "(LPictureBlock$Block;)I"⟩, ⟨"PictureBlock$Mark", "value", "(LPictureBlock$Block;)I"⟩), ("PictureBlock$Star", ⟨"PictureBlock$Weighs", "weighs", "(ILPictureBlock$Trace;)I"⟩, ⟨"PictureBlock$Mark", "weighs", "(ILPictureBlock$Trace;)I"⟩), ("PictureBlock$Peak", ⟨"PictureBlock$Seen", "weight", "(LPictureBlock$Block;)I"⟩, ⟨"PictureBlock$Peak", "weight", "(LPictureBlock$Block;)I"⟩), ("PictureBlock$Peak", ⟨"PictureBlock$Seen", "value", "(LPictureBlock$Block;)I"⟩, ⟨"PictureBlock$Peak", "value", "(LPictureBlock$Block;)I"⟩), ("PictureBlock$Peak", ⟨"PictureBlock$Weighs", "weighs", "(ILPictureBlock$Trace;)I"⟩, ⟨"PictureBlock$Mark", "weighs", "(ILPictureBlock$Trace;)I"⟩), ("PictureBlock$Air", ⟨"PictureBlock$Seen", "weight", "(LPictureBlock$Block;)I"⟩, ⟨"PictureBlock$Air", "weight", "(LPictureBlock$Block;)I"⟩), ("PictureBlock$Air", ⟨"PictureBlock$Seen", "value", "(LPictureBlock$Block;)I"⟩, ⟨"PictureBlock$Air", "value", "(LPictureBlock$Block;)I"⟩), ("PictureBlock$Air", ⟨"PictureBlock$Weighs", "weighs", "(ILPictureBlock$Trace;)I"⟩, ⟨"PictureBlock$Air", "weighs", "(ILPictureBlock$Trace;)I"⟩)]
def ncL : List (String × String) := [("PictureBlock$Mark", "PictureBlock$Flat"), ("PictureBlock$Mark", "PictureBlock$Star"), ("PictureBlock$Mark", "PictureBlock$Peak"), ("PictureBlock$Mark", "PictureBlock$Air"), ("PictureBlock$Mark", "PictureBlock$Faint"), ("PictureBlock$Mark", "PictureBlock$Shore"), ("PictureBlock$Flat", "PictureBlock$Star"), ("PictureBlock$Flat", "PictureBlock$Peak"), ("PictureBlock$Flat", "PictureBlock$Air"), ("PictureBlock$Flat", "PictureBlock$Faint"), ("PictureBlock$Flat", "PictureBlock$Shore"), ("PictureBlock$Star", "PictureBlock$Flat"), ("PictureBlock$Star", "PictureBlock$Peak"), ("PictureBlock$Star", "PictureBlock$Air"), ("PictureBlock$Star", "PictureBlock$Faint"), ("PictureBlock$Star", "PictureBlock$Shore"), ("PictureBlock$Peak", "PictureBlock$Flat"), ("PictureBlock$Peak", "PictureBlock$Star"), ("PictureBlock$Peak", "PictureBlock$Air"), ("PictureBlock$Peak", "PictureBlock$Faint"), ("PictureBlock$Peak", "PictureBlock$Shore"), ("PictureBlock$Air", "PictureBlock$Star"), ("PictureBlock$Air", "PictureBlock$Peak"), ("PictureBlock$Air", "PictureBlock$Faint"), ("PictureBlock$Air", "PictureBlock$Shore"), ("PictureBlock$Faint", "PictureBlock$Flat"), ("PictureBlock$Faint", "PictureBlock$Peak"), ("PictureBlock$Faint", "PictureBlock$Air"), ("PictureBlock$Faint", "PictureBlock$Shore"), ("PictureBlock$Shore", "PictureBlock$Flat"), ("PictureBlock$Shore", "PictureBlock$Star"), ("PictureBlock$Shore", "PictureBlock$Peak"), ("PictureBlock$Shore", "PictureBlock$Air"), ("PictureBlock$Shore", "PictureBlock$Faint"), ("[I", "[B"), ("[I", "[S"), ("[S", "[B"), ("[B", "[S")]
theorem fwL_ok : ∀ t ∈ fwL, t.2.1.cls ≠ "java/lang/invoke/MethodHandle" ∧ t.2.1.cls ≠ "java/lang/invoke/VarHandle" := by decide
/-- the class of long[][] is over that of long[] -/
def xLL (cA : Nat → ClassId) (s : State) : Prop := ∃ k : Class, s.vm.classes[cA 6]? = some k ∧ k.kind = .array (cA 3) (.array .long)
theorem xLL.moved {cA : Nat → ClassId} {u U : State} (hvm : u.vm.Alike U.vm) (h : xLL cA u) : xLL cA U := by
  obtain ⟨k, h1, h2⟩ := h
  obtain ⟨k', hk', he⟩ := hvm.2.2 _ _ h1
  exact ⟨k', hk', by rw [he]; exact h2⟩
/-- the String constants: their cells are cA 10 .. 14, their bytes' cA 20 .. 24; statics of Throwable: cA 30, 31 (0: null) -/
def sOpt (n : Nat) : Option Nat := if n = 0 then none else some (n - 1)
def xStr (cA : Nat → ClassId) (A : Nat → Prop) (s : State) : Prop := vk_S 5 [3, 3, 3, 2, 3] [[119, 107, 110], [115, 116, 110], [60, 61, 62], [43, 45], [42, 47, 37]] (fun i => cA (10 + i)) (fun i => cA (20 + i)) A s s.heap ∧ vk_R "PictureBlock" 25 "wkn" (cA 10) s ∧ vk_R "PictureBlock" 27 "stn" (cA 11) s ∧ vk_R "PictureBlock$Reader" 72 "<=>" (cA 12) s ∧ vk_R "PictureBlock$Reader" 81 "+-" (cA 13) s ∧ vk_R "PictureBlock$Reader" 86 "*/%" (cA 14) s ∧ va_Z "java/lang/String" "COMPACT_STRINGS" "Z" (.int 1) A s s.heap ∧ va_Z "java/lang/Throwable" "UNASSIGNED_STACK" "[Ljava/lang/StackTraceElement;" (va_rf (sOpt (cA 30))) A s s.heap ∧ va_Z "java/lang/Throwable" "SUPPRESSED_SENTINEL" "Ljava/util/List;" (va_rf (sOpt (cA 31))) A s s.heap
theorem xStr.moved {cA : Nat → ClassId} {A : Nat → Prop} {s U : State} (hW : s.WarmedH U.vm) (hh : ∀ q : Nat, q < s.heap.size → ¬ A q → U.heap[q]? = s.heap[q]?) (h : xStr cA A s) : xStr cA A U := by
  obtain ⟨h1, h2, h3, h4, h5, h6, h7, h8, h9⟩ := h
  exact ⟨(h1.moved hW.alike).kept hh, h2.warm hW, h3.warm hW, h4.warm hW, h5.warm hW, h6.warm hW, (h7.moved hW.alike).kept hh, (h8.moved hW.alike).kept hh, (h9.moved hW.alike).kept hh⟩
/-- default methods: the links that lead to one, the classes whose objects land in it -/
def dfL : List String := ["PictureBlock$Mark", "PictureBlock$Flat", "PictureBlock$Peak", "PictureBlock$Air"]
def xDf (s : State) : Prop := (∀ w ∈ defaultWords_1, va_Nw w s) ∧ ∀ C ∈ dfL, dfP C yX15_says s
theorem dw_ok : ∀ w ∈ defaultWords_1, (w.onTables && w.keeps) = true := by decide +kernel
theorem xDf.moved {s U : State} (hW : s.WarmedH U.vm) (h : xDf s) : xDf U := ⟨fun w hw => word_at hW (Or.inl (dw_ok w hw)) (h.1 w hw), fun C hC => (h.2 C hC).moved hW.alike⟩
/-- the statics of Throwable -/
def xLs (s : State) : Prop := (Cond.laysStatic "java/lang/Throwable" "UNASSIGNED_STACK" "[Ljava/lang/StackTraceElement;").before #[] s = true ∧ (Cond.laysStatic "java/lang/Throwable" "SUPPRESSED_SENTINEL" "Ljava/util/List;").before #[] s = true
theorem ls_args {args args' : Array Value} {C n d : String} {s : State} (h : (Cond.laysStatic C n d).before args s = true) : (Cond.laysStatic C n d).before args' s = true := h
theorem ls_moved {C n d : String} {v : Value} {A : Nat → Prop} {s U : State} (hW : s.WarmedH U.vm) (hh : ∀ q : Nat, q < s.heap.size → ¬ A q → U.heap[q]? = s.heap[q]?) (hz : va_Z C n d v A s s.heap) (h : (Cond.laysStatic C n d).before #[] s = true) : (Cond.laysStatic C n d).before #[] U = true := by
  have h1 : (Cond.laysStatic C n d).before #[] (s.setVm U.vm) = true := Cond.laysStatic_setVm hW.alike h
  have hz' : va_Z C n d v A (s.setVm U.vm) s.heap := hz.moved (U := s.setVm U.vm) hW.alike
  obtain ⟨cf, kf, fi, f, a, cell, g1, g2, g3, g4, g5, g6, g7, g8⟩ := hz'
  have e1 : U.fieldFound? C n d = some (cf, kf, fi, f) := g1
  have e2 : U.heap[a]? = some cell := (hh a (Array.getElem?_eq_some_iff.mp g5).1 g8).trans g5
  have e3 : (s.setVm U.vm).heap[a]? = some cell := g5
  have e4 : (s.setVm U.vm).vm.findClass C = U.vm.findClass C := rfl
  simp only [Cond.before, Cond.holds, Cond.value, g1, e4] at h1
  simp only [Cond.before, Cond.holds, Cond.value, e1]
  cases hfc : U.vm.findClass C with
  | none => simp [hfc] at h1
  | some c0 =>
    simp only [hfc, g4, Option.bind_some, e3] at h1
    simp only [g4, Option.bind_some, e2]
    exact h1
def xK (D : va_G) (cA : Nat → ClassId) (A : Nat → Prop) (s : State) : Prop := mK D cA s ∧ (∀ w, w ∈ lw_tbl → nwOk w = true → va_Nw w s) ∧ (∀ t ∈ ncL, va_Nc t.1 t.2 s) ∧ (∀ t ∈ fwL, va_Fw t.1 t.2.1 t.2.2 s) ∧ va_AO "PictureBlock$Slot" s ∧ va_AO "PictureBlock$Text" s ∧ xLL cA s ∧ xStr cA A s ∧ xDf s ∧ xLs s
theorem nwOk_warm {w : Cond} (h : nwOk w = true) {s U : State} (hW : s.WarmedH U.vm) (hZ : va_Nw w s) : va_Nw w U := by
  cases w <;> first | (cases h; done) | exact va_Nw.warmF hW hZ | exact va_Nw.warmM hW hZ | exact va_Nw.warmC hW hZ | exact va_Nw.warmD hW hZ
theorem xKst {D : va_G} {cA : Nat → ClassId} {A : Nat → Prop} : Kst (xK D cA A) A := by
  intro s U hW hh h
  obtain ⟨h1, h2, h3, h4, h5, h6, h7, h8, h9, l1, l2⟩ := h
  obtain ⟨-, -, -, -, -, -, -, z1, z2⟩ := id h8
  exact ⟨mKst (A := A) s U hW hh h1, fun w hw hn => nwOk_warm hn hW (h2 w hw hn), fun t ht => (h3 t ht).moved hW.alike, fun t ht => (h4 t ht).moved (fwL_ok t ht) hW.alike, h5.moved hW.alike, h6.moved hW.alike, h7.moved hW.alike, h8.moved hW hh, h9.moved hW, ls_moved hW hh z1 l1, ls_moved hW hh z2 l2⟩
/-- the object at a is of the class ci -/
def isC (u : XS) (a ci : Nat) : Bool := match xObj u a with
  | some (c, _) => decide (c = ci)
  | none => false
theorem isC_some {u : XS} {a ci : Nat} (h : isC u a ci = true) : ∃ fs, u.1 a = some (aeO ci fs) := by
  unfold isC at h
  split at h
  · next c fs e => have h2 := of_decide_eq_true h; subst h2; exact ⟨fs, xObj_some e⟩
  · cases h
/-- .. of one of the marks' classes -/
def mkB (u : XS) (a : Nat) : Bool := match xObj u a with
  | some (c, _) => decide (5 ≤ c) && decide (c ≤ 11)
  | none => false
theorem mkB_some {u : XS} {a : Nat} (h : mkB u a = true) : ∃ ci fs, u.1 a = some (aeO ci fs) ∧ (ci = 5 ∨ ci = 6 ∨ ci = 7 ∨ ci = 8 ∨ ci = 9 ∨ ci = 10 ∨ ci = 11) := by
  unfold mkB at h
  split at h
  · next c fs e =>
    simp only [Bool.and_eq_true, decide_eq_true_eq] at h
    exact ⟨c, fs, xObj_some e, by omega⟩
  · cases h
def gIM (u : XS) (a k : Nat) : Option Int32 := match xObj u a with
  | some (c, fs) => if 5 ≤ c ∧ c ≤ 11 then (match fs[k]? with
    | some (.int v) => some v
    | _ => none) else none
  | none => none
theorem gIM_some {u : XS} {a k : Nat} {v : Int32} (h : gIM u a k = some v) : ∃ ci fs, u.1 a = some (aeO ci fs) ∧ fs[k]? = some (.int v) ∧ (ci = 5 ∨ ci = 6 ∨ ci = 7 ∨ ci = 8 ∨ ci = 9 ∨ ci = 10 ∨ ci = 11) := by
  unfold gIM at h
  split at h
  · next c fs e =>
    split at h
    · next hc =>
      split at h
      · next e2 => cases h; exact ⟨c, fs, xObj_some e, e2, by omega⟩
      · cases h
    · cases h
  · cases h
/-- instanceof, of a mark: t the number of the class asked for -/
def subM (c t : Nat) : Bool := t == 5 || c == t || (c == 9 && t == 6) || (c == 10 && t == 7)
def insM (u : XS) (a t : Nat) : Option Int32 := match xObj u a with
  | some (c, _) => if 5 ≤ c ∧ c ≤ 11 then some (if subM c t = true then 1 else 0) else none
  | none => none
theorem insM_some {u : XS} {a t : Nat} {v : Int32} (h : insM u a t = some v) : ∃ ci fs, u.1 a = some (aeO ci fs) ∧ v = (if subM ci t = true then 1 else 0) ∧ (ci = 5 ∨ ci = 6 ∨ ci = 7 ∨ ci = 8 ∨ ci = 9 ∨ ci = 10 ∨ ci = 11) := by
  unfold insM at h
  split at h
  · next c fs e =>
    split at h
    · next hc => cases h; exact ⟨c, fs, xObj_some e, rfl, by omega⟩
    · cases h
  · cases h
/-- instanceof, of an array of ints: t the tag asked for -/
def insA (u : XS) (a t : Nat) : Option Int32 := match u.1 a with
  | some (.inl (t', _, _)) => if t' ≤ 2 then some (if t' = t then 1 else 0) else none
  | _ => none
theorem insA_some {u : XS} {a t : Nat} {v : Int32} (h : insA u a t = some v) : ∃ t' n f, u.1 a = some (aeI t' n f) ∧ v = (if t' = t then 1 else 0) ∧ t' ≤ 2 := by
  unfold insA at h
  split at h
  · next t' n f e =>
    split at h
    · next hc => cases h; exact ⟨t', n, f, e, rfl, hc⟩
    · cases h
  · cases h
def isA (u : XS) (a t : Nat) : Bool := match u.1 a with
  | some (.inl (t', _, _)) => decide (t' = t)
  | _ => false
theorem isA_some {u : XS} {a t : Nat} (h : isA u a t = true) : ∃ n f, u.1 a = some (aeI t n f) := by
  unfold isA at h
  split at h
  · next t' n f e => have h2 := of_decide_eq_true h; subst h2; exact ⟨n, f, e⟩
  · cases h
section XK
variable {p : Program} {l : Launch} {e : Env} {R : Room} {s : State} {m : MethodId} {args : Array Value} {below : List Frame} {meth : Method} {c : Code} {H : Heap} {locs : List Loc} {cells slots : Nat} {Q : State → Prop}
variable {cc : ByteArray} {pc : Nat} {ls : Array Slot} {rest : List Value} {D : va_G} {cA : Nat → ClassId} {A : Nat → Prop} {u u1 : XS} {a : Nat}
theorem x_getM (hexec : p.tables.exec = Jvm.exec) (hb : c.code = cc) {own ref : String} {index : Nat} (hts : ∀ w ∈ lw_all, w.before args s = true) (hown : s.vm.findClass own = some m.cls) (hK : xK D cA A s) (hP : xP D cA A u H) (k : Nat) (hk : k < 2) (hlink : (Cond.fieldLink own index ref (TX5 k).2.1 (TX5 k).2.2.1).before args s = true) (hsame : ∀ x, s.fieldFound? (TX5 k).1 (TX5 k).2.1 (TX5 k).2.2.1 = some x → s.fieldFound? ref (TX5 k).2.1 (TX5 k).2.2.1 = some x) {v : Int32} (hv : gIM u a k = some v) (hdg : decode cc pc = .ok (.getfield index, 3))
    (kk : W p l e R s m args below meth c H locs cells slots Q (F0 m (pc + 3) ls (.int v :: rest))) : W p l e R s m args below meth c H locs cells slots Q (F0 m pc ls (.ref a :: rest)) := by
  obtain ⟨ci, fs, ha, hf, hci⟩ := gIM_some hv
  rcases (show k = 0 ∨ k = 1 by omega) with ek | ek <;> subst ek <;> rcases hci with e | e | e | e | e | e | e <;> subst e
  · exact x_get (C := RX5) (T := TX5) (N := 2) (ci := 5) hexec hb hts in_X5 hown hK.1 hP rfl 0 (by decide) hlink hsame ⟨fs, ha, hf⟩ hdg kk
  · exact x_get (C := RX6) (T := TX6) (N := 2) (ci := 6) hexec hb hts in_X6 hown hK.1 hP rfl 0 (by decide) hlink hsame ⟨fs, ha, hf⟩ hdg kk
  · exact x_get (C := RX7) (T := TX7) (N := 2) (ci := 7) hexec hb hts in_X7 hown hK.1 hP rfl 0 (by decide) hlink hsame ⟨fs, ha, hf⟩ hdg kk
  · exact x_get (C := RX8) (T := TX8) (N := 2) (ci := 8) hexec hb hts in_X8 hown hK.1 hP rfl 0 (by decide) hlink hsame ⟨fs, ha, hf⟩ hdg kk
  · exact x_get (C := RX9) (T := TX9) (N := 2) (ci := 9) hexec hb hts in_X9 hown hK.1 hP rfl 0 (by decide) hlink hsame ⟨fs, ha, hf⟩ hdg kk
  · exact x_get (C := RX10) (T := TX10) (N := 2) (ci := 10) hexec hb hts in_X10 hown hK.1 hP rfl 0 (by decide) hlink hsame ⟨fs, ha, hf⟩ hdg kk
  · exact x_get (C := RX11) (T := TX11) (N := 2) (ci := 11) hexec hb hts in_X11 hown hK.1 hP rfl 0 (by decide) hlink hsame ⟨fs, ha, hf⟩ hdg kk
  · exact x_get (C := RX5) (T := TX5) (N := 2) (ci := 5) hexec hb hts in_X5 hown hK.1 hP rfl 1 (by decide) hlink hsame ⟨fs, ha, hf⟩ hdg kk
  · exact x_get (C := RX6) (T := TX6) (N := 2) (ci := 6) hexec hb hts in_X6 hown hK.1 hP rfl 1 (by decide) hlink hsame ⟨fs, ha, hf⟩ hdg kk
  · exact x_get (C := RX7) (T := TX7) (N := 2) (ci := 7) hexec hb hts in_X7 hown hK.1 hP rfl 1 (by decide) hlink hsame ⟨fs, ha, hf⟩ hdg kk
  · exact x_get (C := RX8) (T := TX8) (N := 2) (ci := 8) hexec hb hts in_X8 hown hK.1 hP rfl 1 (by decide) hlink hsame ⟨fs, ha, hf⟩ hdg kk
  · exact x_get (C := RX9) (T := TX9) (N := 2) (ci := 9) hexec hb hts in_X9 hown hK.1 hP rfl 1 (by decide) hlink hsame ⟨fs, ha, hf⟩ hdg kk
  · exact x_get (C := RX10) (T := TX10) (N := 2) (ci := 10) hexec hb hts in_X10 hown hK.1 hP rfl 1 (by decide) hlink hsame ⟨fs, ha, hf⟩ hdg kk
  · exact x_get (C := RX11) (T := TX11) (N := 2) (ci := 11) hexec hb hts in_X11 hown hK.1 hP rfl 1 (by decide) hlink hsame ⟨fs, ha, hf⟩ hdg kk
theorem x_castM (hexec : p.tables.exec = Jvm.exec) (hb : c.code = cc) {own : String} {index : Nat} (hown : s.vm.findClass own = some m.cls) (hlink : (Cond.classLink own index RX5).before args s = true) (hK : xK D cA A s) (hP : xP D cA A u H) (hv : mkB u a = true) (hdg : decode cc pc = .ok (.checkcast index, 3))
    (kk : W p l e R s m args below meth c H locs cells slots Q (F0 m (pc + 3) ls (.ref a :: rest))) : W p l e R s m args below meth c H locs cells slots Q (F0 m pc ls (.ref a :: rest)) := by
  obtain ⟨ci, fs, ha, hci⟩ := mkB_some hv
  rcases hci with e | e | e | e | e | e | e <;> subst e
  · exact va_castS hexec hb hown hlink (hK.1.1 5 _ rfl).2 (x_recv (q := (RX5, TX5, 2)) hK.1 hP rfl ha) hdg kk
  · exact va_castY (C := RX6) hexec hb hown hlink (hK.2.1 _ q1761 rfl) (x_recv (q := (RX6, TX6, 2)) hK.1 hP rfl ha) hdg kk
  · exact va_castY (C := RX7) hexec hb hown hlink (hK.2.1 _ q1764 rfl) (x_recv (q := (RX7, TX7, 2)) hK.1 hP rfl ha) hdg kk
  · exact va_castY (C := RX8) hexec hb hown hlink (hK.2.1 _ q1762 rfl) (x_recv (q := (RX8, TX8, 2)) hK.1 hP rfl ha) hdg kk
  · exact va_castY (C := RX9) hexec hb hown hlink (hK.2.1 _ q1759 rfl) (x_recv (q := (RX9, TX9, 2)) hK.1 hP rfl ha) hdg kk
  · exact va_castY (C := RX10) hexec hb hown hlink (hK.2.1 _ q1760 rfl) (x_recv (q := (RX10, TX10, 2)) hK.1 hP rfl ha) hdg kk
  · exact va_castY (C := RX11) hexec hb hown hlink (hK.2.1 _ q1763 rfl) (x_recv (q := (RX11, TX11, 2)) hK.1 hP rfl ha) hdg kk
theorem x_inst5 (hexec : p.tables.exec = Jvm.exec) (hb : c.code = cc) {own : String} {index : Nat} (hown : s.vm.findClass own = some m.cls) (hlink : (Cond.classLink own index RX5).before args s = true) (hK : xK D cA A s) (hP : xP D cA A u H) {v : Int32} (hv : insM u a 5 = some v) (hdg : decode cc pc = .ok (.instanceof index, 3))
    (kk : W p l e R s m args below meth c H locs cells slots Q (F0 m (pc + 3) ls (.int v :: rest))) : W p l e R s m args below meth c H locs cells slots Q (F0 m pc ls (.ref a :: rest)) := by
  obtain ⟨ci, fs, ha, rfl, hci⟩ := insM_some hv
  rcases hci with e | e | e | e | e | e | e <;> subst e
  · exact va_instS hexec hb hown hlink (hK.1.1 5 _ rfl).2 (x_recv (q := (RX5, TX5, 2)) hK.1 hP rfl ha) hdg kk
  · exact va_instY (C := RX6) hexec hb hown hlink (hK.2.1 _ q1761 rfl) (x_recv (q := (RX6, TX6, 2)) hK.1 hP rfl ha) hdg kk
  · exact va_instY (C := RX7) hexec hb hown hlink (hK.2.1 _ q1764 rfl) (x_recv (q := (RX7, TX7, 2)) hK.1 hP rfl ha) hdg kk
  · exact va_instY (C := RX8) hexec hb hown hlink (hK.2.1 _ q1762 rfl) (x_recv (q := (RX8, TX8, 2)) hK.1 hP rfl ha) hdg kk
  · exact va_instY (C := RX9) hexec hb hown hlink (hK.2.1 _ q1759 rfl) (x_recv (q := (RX9, TX9, 2)) hK.1 hP rfl ha) hdg kk
  · exact va_instY (C := RX10) hexec hb hown hlink (hK.2.1 _ q1760 rfl) (x_recv (q := (RX10, TX10, 2)) hK.1 hP rfl ha) hdg kk
  · exact va_instY (C := RX11) hexec hb hown hlink (hK.2.1 _ q1763 rfl) (x_recv (q := (RX11, TX11, 2)) hK.1 hP rfl ha) hdg kk
theorem x_inst6 (hexec : p.tables.exec = Jvm.exec) (hb : c.code = cc) {own : String} {index : Nat} (hown : s.vm.findClass own = some m.cls) (hlink : (Cond.classLink own index RX6).before args s = true) (hK : xK D cA A s) (hP : xP D cA A u H) {v : Int32} (hv : insM u a 6 = some v) (hdg : decode cc pc = .ok (.instanceof index, 3))
    (kk : W p l e R s m args below meth c H locs cells slots Q (F0 m (pc + 3) ls (.int v :: rest))) : W p l e R s m args below meth c H locs cells slots Q (F0 m pc ls (.ref a :: rest)) := by
  obtain ⟨ci, fs, ha, rfl, hci⟩ := insM_some hv
  rcases hci with e | e | e | e | e | e | e <;> subst e
  · exact va_instNo (C := RX5) hexec hb hown hlink (hK.2.2.1 (RX5, RX6) (by decide)) (x_recv (q := (RX5, TX5, 2)) hK.1 hP rfl ha) hdg kk
  · exact va_instS hexec hb hown hlink (hK.1.1 6 _ rfl).2 (x_recv (q := (RX6, TX6, 2)) hK.1 hP rfl ha) hdg kk
  · exact va_instNo (C := RX7) hexec hb hown hlink (hK.2.2.1 (RX7, RX6) (by decide)) (x_recv (q := (RX7, TX7, 2)) hK.1 hP rfl ha) hdg kk
  · exact va_instNo (C := RX8) hexec hb hown hlink (hK.2.2.1 (RX8, RX6) (by decide)) (x_recv (q := (RX8, TX8, 2)) hK.1 hP rfl ha) hdg kk
  · exact va_instY (C := RX9) hexec hb hown hlink (hK.2.1 _ q1765 rfl) (x_recv (q := (RX9, TX9, 2)) hK.1 hP rfl ha) hdg kk
  · exact va_instNo (C := RX10) hexec hb hown hlink (hK.2.2.1 (RX10, RX6) (by decide)) (x_recv (q := (RX10, TX10, 2)) hK.1 hP rfl ha) hdg kk
  · exact va_instNo (C := RX11) hexec hb hown hlink (hK.2.2.1 (RX11, RX6) (by decide)) (x_recv (q := (RX11, TX11, 2)) hK.1 hP rfl ha) hdg kk
theorem x_inst7 (hexec : p.tables.exec = Jvm.exec) (hb : c.code = cc) {own : String} {index : Nat} (hown : s.vm.findClass own = some m.cls) (hlink : (Cond.classLink own index RX7).before args s = true) (hK : xK D cA A s) (hP : xP D cA A u H) {v : Int32} (hv : insM u a 7 = some v) (hdg : decode cc pc = .ok (.instanceof index, 3))
    (kk : W p l e R s m args below meth c H locs cells slots Q (F0 m (pc + 3) ls (.int v :: rest))) : W p l e R s m args below meth c H locs cells slots Q (F0 m pc ls (.ref a :: rest)) := by
  obtain ⟨ci, fs, ha, rfl, hci⟩ := insM_some hv
  rcases hci with e | e | e | e | e | e | e <;> subst e
  · exact va_instNo (C := RX5) hexec hb hown hlink (hK.2.2.1 (RX5, RX7) (by decide)) (x_recv (q := (RX5, TX5, 2)) hK.1 hP rfl ha) hdg kk
  · exact va_instNo (C := RX6) hexec hb hown hlink (hK.2.2.1 (RX6, RX7) (by decide)) (x_recv (q := (RX6, TX6, 2)) hK.1 hP rfl ha) hdg kk
  · exact va_instS hexec hb hown hlink (hK.1.1 7 _ rfl).2 (x_recv (q := (RX7, TX7, 2)) hK.1 hP rfl ha) hdg kk
  · exact va_instNo (C := RX8) hexec hb hown hlink (hK.2.2.1 (RX8, RX7) (by decide)) (x_recv (q := (RX8, TX8, 2)) hK.1 hP rfl ha) hdg kk
  · exact va_instNo (C := RX9) hexec hb hown hlink (hK.2.2.1 (RX9, RX7) (by decide)) (x_recv (q := (RX9, TX9, 2)) hK.1 hP rfl ha) hdg kk
  · exact va_instY (C := RX10) hexec hb hown hlink (hK.2.1 _ q1766 rfl) (x_recv (q := (RX10, TX10, 2)) hK.1 hP rfl ha) hdg kk
  · exact va_instNo (C := RX11) hexec hb hown hlink (hK.2.2.1 (RX11, RX7) (by decide)) (x_recv (q := (RX11, TX11, 2)) hK.1 hP rfl ha) hdg kk
theorem x_inst8 (hexec : p.tables.exec = Jvm.exec) (hb : c.code = cc) {own : String} {index : Nat} (hown : s.vm.findClass own = some m.cls) (hlink : (Cond.classLink own index RX8).before args s = true) (hK : xK D cA A s) (hP : xP D cA A u H) {v : Int32} (hv : insM u a 8 = some v) (hdg : decode cc pc = .ok (.instanceof index, 3))
    (kk : W p l e R s m args below meth c H locs cells slots Q (F0 m (pc + 3) ls (.int v :: rest))) : W p l e R s m args below meth c H locs cells slots Q (F0 m pc ls (.ref a :: rest)) := by
  obtain ⟨ci, fs, ha, rfl, hci⟩ := insM_some hv
  rcases hci with e | e | e | e | e | e | e <;> subst e
  · exact va_instNo (C := RX5) hexec hb hown hlink (hK.2.2.1 (RX5, RX8) (by decide)) (x_recv (q := (RX5, TX5, 2)) hK.1 hP rfl ha) hdg kk
  · exact va_instNo (C := RX6) hexec hb hown hlink (hK.2.2.1 (RX6, RX8) (by decide)) (x_recv (q := (RX6, TX6, 2)) hK.1 hP rfl ha) hdg kk
  · exact va_instNo (C := RX7) hexec hb hown hlink (hK.2.2.1 (RX7, RX8) (by decide)) (x_recv (q := (RX7, TX7, 2)) hK.1 hP rfl ha) hdg kk
  · exact va_instS hexec hb hown hlink (hK.1.1 8 _ rfl).2 (x_recv (q := (RX8, TX8, 2)) hK.1 hP rfl ha) hdg kk
  · exact va_instNo (C := RX9) hexec hb hown hlink (hK.2.2.1 (RX9, RX8) (by decide)) (x_recv (q := (RX9, TX9, 2)) hK.1 hP rfl ha) hdg kk
  · exact va_instNo (C := RX10) hexec hb hown hlink (hK.2.2.1 (RX10, RX8) (by decide)) (x_recv (q := (RX10, TX10, 2)) hK.1 hP rfl ha) hdg kk
  · exact va_instNo (C := RX11) hexec hb hown hlink (hK.2.2.1 (RX11, RX8) (by decide)) (x_recv (q := (RX11, TX11, 2)) hK.1 hP rfl ha) hdg kk
theorem x_inst9 (hexec : p.tables.exec = Jvm.exec) (hb : c.code = cc) {own : String} {index : Nat} (hown : s.vm.findClass own = some m.cls) (hlink : (Cond.classLink own index RX9).before args s = true) (hK : xK D cA A s) (hP : xP D cA A u H) {v : Int32} (hv : insM u a 9 = some v) (hdg : decode cc pc = .ok (.instanceof index, 3))
    (kk : W p l e R s m args below meth c H locs cells slots Q (F0 m (pc + 3) ls (.int v :: rest))) : W p l e R s m args below meth c H locs cells slots Q (F0 m pc ls (.ref a :: rest)) := by
  obtain ⟨ci, fs, ha, rfl, hci⟩ := insM_some hv
  rcases hci with e | e | e | e | e | e | e <;> subst e
  · exact va_instNo (C := RX5) hexec hb hown hlink (hK.2.2.1 (RX5, RX9) (by decide)) (x_recv (q := (RX5, TX5, 2)) hK.1 hP rfl ha) hdg kk
  · exact va_instNo (C := RX6) hexec hb hown hlink (hK.2.2.1 (RX6, RX9) (by decide)) (x_recv (q := (RX6, TX6, 2)) hK.1 hP rfl ha) hdg kk
  · exact va_instNo (C := RX7) hexec hb hown hlink (hK.2.2.1 (RX7, RX9) (by decide)) (x_recv (q := (RX7, TX7, 2)) hK.1 hP rfl ha) hdg kk
  · exact va_instNo (C := RX8) hexec hb hown hlink (hK.2.2.1 (RX8, RX9) (by decide)) (x_recv (q := (RX8, TX8, 2)) hK.1 hP rfl ha) hdg kk
  · exact va_instS hexec hb hown hlink (hK.1.1 9 _ rfl).2 (x_recv (q := (RX9, TX9, 2)) hK.1 hP rfl ha) hdg kk
  · exact va_instNo (C := RX10) hexec hb hown hlink (hK.2.2.1 (RX10, RX9) (by decide)) (x_recv (q := (RX10, TX10, 2)) hK.1 hP rfl ha) hdg kk
  · exact va_instNo (C := RX11) hexec hb hown hlink (hK.2.2.1 (RX11, RX9) (by decide)) (x_recv (q := (RX11, TX11, 2)) hK.1 hP rfl ha) hdg kk
theorem x_inst10 (hexec : p.tables.exec = Jvm.exec) (hb : c.code = cc) {own : String} {index : Nat} (hown : s.vm.findClass own = some m.cls) (hlink : (Cond.classLink own index RX10).before args s = true) (hK : xK D cA A s) (hP : xP D cA A u H) {v : Int32} (hv : insM u a 10 = some v) (hdg : decode cc pc = .ok (.instanceof index, 3))
    (kk : W p l e R s m args below meth c H locs cells slots Q (F0 m (pc + 3) ls (.int v :: rest))) : W p l e R s m args below meth c H locs cells slots Q (F0 m pc ls (.ref a :: rest)) := by
  obtain ⟨ci, fs, ha, rfl, hci⟩ := insM_some hv
  rcases hci with e | e | e | e | e | e | e <;> subst e
  · exact va_instNo (C := RX5) hexec hb hown hlink (hK.2.2.1 (RX5, RX10) (by decide)) (x_recv (q := (RX5, TX5, 2)) hK.1 hP rfl ha) hdg kk
  · exact va_instNo (C := RX6) hexec hb hown hlink (hK.2.2.1 (RX6, RX10) (by decide)) (x_recv (q := (RX6, TX6, 2)) hK.1 hP rfl ha) hdg kk
  · exact va_instNo (C := RX7) hexec hb hown hlink (hK.2.2.1 (RX7, RX10) (by decide)) (x_recv (q := (RX7, TX7, 2)) hK.1 hP rfl ha) hdg kk
  · exact va_instNo (C := RX8) hexec hb hown hlink (hK.2.2.1 (RX8, RX10) (by decide)) (x_recv (q := (RX8, TX8, 2)) hK.1 hP rfl ha) hdg kk
  · exact va_instNo (C := RX9) hexec hb hown hlink (hK.2.2.1 (RX9, RX10) (by decide)) (x_recv (q := (RX9, TX9, 2)) hK.1 hP rfl ha) hdg kk
  · exact va_instS hexec hb hown hlink (hK.1.1 10 _ rfl).2 (x_recv (q := (RX10, TX10, 2)) hK.1 hP rfl ha) hdg kk
  · exact va_instNo (C := RX11) hexec hb hown hlink (hK.2.2.1 (RX11, RX10) (by decide)) (x_recv (q := (RX11, TX11, 2)) hK.1 hP rfl ha) hdg kk
theorem x_inst11 (hexec : p.tables.exec = Jvm.exec) (hb : c.code = cc) {own : String} {index : Nat} (hown : s.vm.findClass own = some m.cls) (hlink : (Cond.classLink own index RX11).before args s = true) (hK : xK D cA A s) (hP : xP D cA A u H) {v : Int32} (hv : insM u a 11 = some v) (hdg : decode cc pc = .ok (.instanceof index, 3))
    (kk : W p l e R s m args below meth c H locs cells slots Q (F0 m (pc + 3) ls (.int v :: rest))) : W p l e R s m args below meth c H locs cells slots Q (F0 m pc ls (.ref a :: rest)) := by
  obtain ⟨ci, fs, ha, rfl, hci⟩ := insM_some hv
  rcases hci with e | e | e | e | e | e | e <;> subst e
  · exact va_instNo (C := RX5) hexec hb hown hlink (hK.2.2.1 (RX5, RX11) (by decide)) (x_recv (q := (RX5, TX5, 2)) hK.1 hP rfl ha) hdg kk
  · exact va_instNo (C := RX6) hexec hb hown hlink (hK.2.2.1 (RX6, RX11) (by decide)) (x_recv (q := (RX6, TX6, 2)) hK.1 hP rfl ha) hdg kk
  · exact va_instNo (C := RX7) hexec hb hown hlink (hK.2.2.1 (RX7, RX11) (by decide)) (x_recv (q := (RX7, TX7, 2)) hK.1 hP rfl ha) hdg kk
  · exact va_instNo (C := RX8) hexec hb hown hlink (hK.2.2.1 (RX8, RX11) (by decide)) (x_recv (q := (RX8, TX8, 2)) hK.1 hP rfl ha) hdg kk
  · exact va_instNo (C := RX9) hexec hb hown hlink (hK.2.2.1 (RX9, RX11) (by decide)) (x_recv (q := (RX9, TX9, 2)) hK.1 hP rfl ha) hdg kk
  · exact va_instNo (C := RX10) hexec hb hown hlink (hK.2.2.1 (RX10, RX11) (by decide)) (x_recv (q := (RX10, TX10, 2)) hK.1 hP rfl ha) hdg kk
  · exact va_instS hexec hb hown hlink (hK.1.1 11 _ rfl).2 (x_recv (q := (RX11, TX11, 2)) hK.1 hP rfl ha) hdg kk
theorem x_arrv {t n : Nat} {f : Nat → Int32} (ht : t ≤ 2) (hP : xP D cA A u H) (ha : u.1 a = some (aeI t n f)) : H[a]? = some (arrV (cA t) n (fun j => .int (f j))) := (hP.2 a _ ha).2
theorem x_insA1 (hexec : p.tables.exec = Jvm.exec) (hb : c.code = cc) {own : String} {index : Nat} (hown : s.vm.findClass own = some m.cls) (hlink : (Cond.classLink own index "[B").before args s = true) (hK : xK D cA A s) (hP : xP D cA A u H) {v : Int32} (hv : insA u a 1 = some v) (hdg : decode cc pc = .ok (.instanceof index, 3))
    (kk : W p l e R s m args below meth c H locs cells slots Q (F0 m (pc + 3) ls (.int v :: rest))) : W p l e R s m args below meth c H locs cells slots Q (F0 m pc ls (.ref a :: rest)) := by
  obtain ⟨t', n, f, ha, rfl, ht'⟩ := insA_some hv
  have hc := x_arrv ht' hP ha
  rcases (show t' = 0 ∨ t' = 1 ∨ t' = 2 by omega) with e | e | e <;> subst e
  · exact va_instNo (C := "[I") hexec hb hown hlink (hK.2.2.1 ("[I", "[B") (by decide)) ⟨_, hc, rfl, (hK.1.2 0 _ rfl).2⟩ hdg kk
  · intro T hT X
    obtain ⟨-, kx, hkx, cm, hkk⟩ := (hK.1.2 1 _ rfl).1 n (fun j => .int (f j))
    have hfc : s.vm.findClass "[B" = some (cA 1) := (hK.1.2 1 _ rfl).2
    obtain ⟨vm', X', st⟩ := X.instanceofYes hexec hown hlink (by rw [hT]; exact hc) rfl hfc (va_asg _ _) (g := F0 m pc ls (.ref a :: rest)) rfl rfl (by rw [hb]; exact hdg)
    obtain ⟨tt, a1, b1⟩ := kk (T.setVm vm') hT X'
    exact ⟨tt, st tt a1, b1⟩
  · exact va_instNo (C := "[S") hexec hb hown hlink (hK.2.2.1 ("[S", "[B") (by decide)) ⟨_, hc, rfl, (hK.1.2 2 _ rfl).2⟩ hdg kk
theorem x_insA2 (hexec : p.tables.exec = Jvm.exec) (hb : c.code = cc) {own : String} {index : Nat} (hown : s.vm.findClass own = some m.cls) (hlink : (Cond.classLink own index "[S").before args s = true) (hK : xK D cA A s) (hP : xP D cA A u H) {v : Int32} (hv : insA u a 2 = some v) (hdg : decode cc pc = .ok (.instanceof index, 3))
    (kk : W p l e R s m args below meth c H locs cells slots Q (F0 m (pc + 3) ls (.int v :: rest))) : W p l e R s m args below meth c H locs cells slots Q (F0 m pc ls (.ref a :: rest)) := by
  obtain ⟨t', n, f, ha, rfl, ht'⟩ := insA_some hv
  have hc := x_arrv ht' hP ha
  rcases (show t' = 0 ∨ t' = 1 ∨ t' = 2 by omega) with e | e | e <;> subst e
  · exact va_instNo (C := "[I") hexec hb hown hlink (hK.2.2.1 ("[I", "[S") (by decide)) ⟨_, hc, rfl, (hK.1.2 0 _ rfl).2⟩ hdg kk
  · exact va_instNo (C := "[B") hexec hb hown hlink (hK.2.2.1 ("[B", "[S") (by decide)) ⟨_, hc, rfl, (hK.1.2 1 _ rfl).2⟩ hdg kk
  · intro T hT X
    obtain ⟨-, kx, hkx, cm, hkk⟩ := (hK.1.2 2 _ rfl).1 n (fun j => .int (f j))
    have hfc : s.vm.findClass "[S" = some (cA 2) := (hK.1.2 2 _ rfl).2
    obtain ⟨vm', X', st⟩ := X.instanceofYes hexec hown hlink (by rw [hT]; exact hc) rfl hfc (va_asg _ _) (g := F0 m pc ls (.ref a :: rest)) rfl rfl (by rw [hb]; exact hdg)
    obtain ⟨tt, a1, b1⟩ := kk (T.setVm vm') hT X'
    exact ⟨tt, st tt a1, b1⟩
theorem x_castA0 (hexec : p.tables.exec = Jvm.exec) (hb : c.code = cc) {own : String} {index : Nat} (hown : s.vm.findClass own = some m.cls) (hlink : (Cond.classLink own index "[I").before args s = true) (hK : xK D cA A s) (hP : xP D cA A u H) (hv : isA u a 0 = true) (hdg : decode cc pc = .ok (.checkcast index, 3))
    (kk : W p l e R s m args below meth c H locs cells slots Q (F0 m (pc + 3) ls (.ref a :: rest))) : W p l e R s m args below meth c H locs cells slots Q (F0 m pc ls (.ref a :: rest)) := by
  obtain ⟨n, f, ha⟩ := isA_some hv
  exact va_castA hexec hb hown hlink (hP.one ha) 0 rfl (hK.1.2 0 _ rfl).2 hdg kk
theorem x_castA1 (hexec : p.tables.exec = Jvm.exec) (hb : c.code = cc) {own : String} {index : Nat} (hown : s.vm.findClass own = some m.cls) (hlink : (Cond.classLink own index "[B").before args s = true) (hK : xK D cA A s) (hP : xP D cA A u H) (hv : isA u a 1 = true) (hdg : decode cc pc = .ok (.checkcast index, 3))
    (kk : W p l e R s m args below meth c H locs cells slots Q (F0 m (pc + 3) ls (.ref a :: rest))) : W p l e R s m args below meth c H locs cells slots Q (F0 m pc ls (.ref a :: rest)) := by
  obtain ⟨n, f, ha⟩ := isA_some hv
  exact va_castA hexec hb hown hlink (hP.one ha) 0 rfl (hK.1.2 1 _ rfl).2 hdg kk
theorem x_castA2 (hexec : p.tables.exec = Jvm.exec) (hb : c.code = cc) {own : String} {index : Nat} (hown : s.vm.findClass own = some m.cls) (hlink : (Cond.classLink own index "[S").before args s = true) (hK : xK D cA A s) (hP : xP D cA A u H) (hv : isA u a 2 = true) (hdg : decode cc pc = .ok (.checkcast index, 3))
    (kk : W p l e R s m args below meth c H locs cells slots Q (F0 m (pc + 3) ls (.ref a :: rest))) : W p l e R s m args below meth c H locs cells slots Q (F0 m pc ls (.ref a :: rest)) := by
  obtain ⟨n, f, ha⟩ := isA_some hv
  exact va_castA hexec hb hown hlink (hP.one ha) 0 rfl (hK.1.2 2 _ rfl).2 hdg kk
end XK
