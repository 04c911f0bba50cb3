/-! ROWS over the world of PictureBlock: new long[4][4] (multianewarray), four rows of four, written out -/
section XMN
def mnI (cR : ClassId) : Cell := { cls := cR, slots := Array.replicate 4 (.long 0), vm := .none }
theorem mn_row {E : CtlPost} {e : Env} {d : Bool} {acts : List Action} {S : State} {cR cc cO : ClassId} {kR kO : Class} {h i : Nat} {cell : Cell} {Q : ForInStep PUnit → Pre}
    (hR : S.vm.classes[cR]? = some kR) (hRk : kR.kind = .array cc .long) (hO : S.vm.classes[cO]? = some kO) (hOk : kO.kind = .array cR (.array .long))
    (hcell : S.heap[h]? = some cell) (hcls : cell.cls = cO) (hvm : cell.vm = .none) (hsz : cell.slots.size = 4) (hi : i < 4)
    (hl : ¬ 4 > e.platform.arrayLengthLimit) (hb : ¬ 4 * componentBytes .long > e.platform.maxHeapBytes)
    (h1 : S.heap.size < e.platform.maxCells) (h2 : S.slotsUsed + 4 ≤ e.platform.maxSlots)
    (hq : ∀ d' acts', Q (.yield PUnit.unit) d' acts' ((S.pushCell (mnI cR)).setCell h (cell.setSlot i (.ref S.heap.size)))) :
    wp (do writeLoc h i (.ref (← multianewarray.make cR [4])); Pure.pure (ForInStep.yield PUnit.unit)) Q E e d acts S := by
  have hlt : h < S.heap.size := (Array.getElem?_eq_some_iff.mp hcell).1
  rw [multianewarray.make]
  simp only [wp_bind', W.ite, show ¬ ((4 : Int32) < 0) by decide, if_false, wp_pure', W.theClass, hR, hRk, Option.some.injEq, exists_eq_left']
  refine W.newArray_of hR hRk hl hb h1 h2 rfl fun acts' => ?_
  simp only [wp_bind', W.writeLoc, wp_pure']
  refine ⟨cell, by rw [State.heap_pushCell_of_lt (h := hlt)]; exact hcell, by rw [hvm]; simp, by rw [hsz]; exact hi, ?_, hq _ _⟩
  rw [hcls, hvm]
  simp [State.fitsSlot, State.slotType?, hO, hOk, fits]
/-- one row more: the state and the outer array's cell -/
def mnT (cR : ClassId) (h i : Nat) (q : State × Cell) : State × Cell := ((q.1.pushCell (mnI cR)).setCell h (q.2.setSlot i (.ref q.1.heap.size)), q.2.setSlot i (.ref q.1.heap.size))
def mnZ (cO : ClassId) (S : State) : State × Cell := (S.pushCell { cls := cO, slots := Array.replicate 4 .null, vm := .none }, { cls := cO, slots := Array.replicate 4 .null, vm := .none })
def mnG (S : State) (cO : ClassId) (i : Nat) (q : State × Cell) : Prop := q.1.heap[S.heap.size]? = some q.2 ∧ q.2.cls = cO ∧ q.2.vm = .none ∧ q.2.slots.size = 4 ∧ q.1.vm = S.vm ∧ q.1.heap.size = S.heap.size + 1 + i ∧ q.1.slotsUsed = S.slotsUsed + 4 + 4 * i
theorem mnG_z (S : State) (cO : ClassId) : mnG S cO 0 (mnZ cO S) := ⟨by simp [mnZ], rfl, rfl, by simp [mnZ], rfl, by simp [mnZ], by simp [mnZ, State.pushCell]⟩
theorem mnG_s {S : State} {cO cR : ClassId} {i : Nat} {q : State × Cell} (g : mnG S cO i q) : mnG S cO (i + 1) (mnT cR S.heap.size i q) := by
  obtain ⟨g1, g2, g3, g4, g5, g6, g7⟩ := g
  have hlt : S.heap.size < q.1.heap.size := by omega
  refine ⟨?_, g2, g3, ?_, g5, ?_, ?_⟩
  · exact State.heap_setCell_self (by rw [State.heap_pushCell_of_lt (h := hlt)]; exact g1)
  · simp [mnT, Cell.setSlot, g4]
  · simp [mnT, State.setCell, g6]; omega
  · simp [mnT, State.setCell, State.pushCell, g7, mnI]; omega
theorem mn_rowG {E : CtlPost} {e : Env} {d : Bool} {acts : List Action} {S : State} {q : State × Cell} {cR cc cO : ClassId} {kR kO : Class} {i : Nat} {Q : ForInStep PUnit → Pre} (g : mnG S cO i q)
    (hR : S.vm.classes[cR]? = some kR) (hRk : kR.kind = .array cc .long) (hO : S.vm.classes[cO]? = some kO) (hOk : kO.kind = .array cR (.array .long)) (hi : i < 4)
    (hl : ¬ 4 > e.platform.arrayLengthLimit) (hb : ¬ 4 * componentBytes .long > e.platform.maxHeapBytes)
    (h1 : S.heap.size + 1 + i < e.platform.maxCells) (h2 : S.slotsUsed + 4 + 4 * i + 4 ≤ e.platform.maxSlots)
    (hq : ∀ d' acts', Q (.yield PUnit.unit) d' acts' (mnT cR S.heap.size i q).1) :
    wp (do writeLoc S.heap.size i (.ref (← multianewarray.make cR [4])); Pure.pure (ForInStep.yield PUnit.unit)) Q E e d acts q.1 :=
  mn_row (by rw [g.2.2.2.2.1]; exact hR) hRk (by rw [g.2.2.2.2.1]; exact hO) hOk g.1 g.2.1 g.2.2.1 g.2.2.2.1 hi hl hb (by rw [g.2.2.2.2.2.1]; exact h1) (by rw [g.2.2.2.2.2.2]; exact h2) hq
def mn4 (cO cR : ClassId) (S : State) : State × Cell := mnT cR S.heap.size 3 (mnT cR S.heap.size 2 (mnT cR S.heap.size 1 (mnT cR S.heap.size 0 (mnZ cO S))))
theorem mn_make {E : CtlPost} {e : Env} {d : Bool} {acts : List Action} {S : State} {cR cc cO : ClassId} {kR kO : Class} {Q : Addr → Pre}
    (hR : S.vm.classes[cR]? = some kR) (hRk : kR.kind = .array cc .long) (hO : S.vm.classes[cO]? = some kO) (hOk : kO.kind = .array cR (.array .long))
    (hl : ¬ 4 > e.platform.arrayLengthLimit) (hb : ¬ 4 * componentBytes .long > e.platform.maxHeapBytes) (hb2 : ¬ 4 * componentBytes (.array .long) > e.platform.maxHeapBytes)
    (h1 : S.heap.size + 5 ≤ e.platform.maxCells) (h2 : S.slotsUsed + 20 ≤ e.platform.maxSlots)
    (hq : ∀ d' acts', Q S.heap.size d' acts' (mn4 cO cR S).1) :
    wp (multianewarray.make cO [4, 4]) Q E e d acts S := by
  have g0 := mnG_z S cO
  have g1 := mnG_s (cR := cR) g0
  have g2 := mnG_s (cR := cR) g1
  have g3 := mnG_s (cR := cR) g2
  rw [multianewarray.make]
  simp only [wp_bind', W.ite, show ¬ ((4 : Int32) < 0) by decide, if_false, wp_pure', W.theClass, hO, hOk, Option.some.injEq, exists_eq_left']
  refine W.newArray_of hO hOk hl hb2 (by omega) (by show S.slotsUsed + 4 ≤ _; omega) rfl fun acts' => ?_
  rw [if_neg (by decide), wp_bind', Std.Legacy.Range.forIn_eq_forIn_range']
  show wp (forIn [0, 1, 2, 3] PUnit.unit _) _ E e d acts' (mnZ cO S).1
  simp only [List.forIn_cons, List.forIn_nil]
  rw [wp_bind']
  refine mn_rowG g0 hR hRk hO hOk (by decide) hl hb (by omega) (by omega) fun d0 a0 => ?_
  dsimp only
  rw [wp_bind']
  refine mn_rowG g1 hR hRk hO hOk (by decide) hl hb (by omega) (by omega) fun d1 a1 => ?_
  dsimp only
  rw [wp_bind']
  refine mn_rowG g2 hR hRk hO hOk (by decide) hl hb (by omega) (by omega) fun d2 a2 => ?_
  dsimp only
  rw [wp_bind']
  refine mn_rowG g3 hR hRk hO hOk (by decide) hl hb (by omega) (by omega) fun d3 a3 => ?_
  dsimp only
  simp only [wp_pure']
  exact hq _ _
theorem mnT_top (cR : ClassId) (h i : Nat) (q : State × Cell) (f : JFrame) : mnT cR h i (q.1.setTop f, q.2) = ((mnT cR h i q).1.setTop f, (mnT cR h i q).2) := by
  simp only [mnT, State.heap_setTop, State.pushCell_setTop, State.setCell_setTop]
theorem mnZ_top (cO : ClassId) (S : State) (f : JFrame) : mnZ cO (S.setTop f) = ((mnZ cO S).1.setTop f, (mnZ cO S).2) := by
  simp only [mnZ, State.pushCell_setTop]
theorem mn4_top (cO cR : ClassId) (S : State) (f : JFrame) : (mn4 cO cR (S.setTop f)).1 = (mn4 cO cR S).1.setTop f := by
  simp only [mn4, State.heap_setTop, mnZ_top, mnT_top]
section
variable {p : Program} {l : Launch} {e : Env} {R : Room} {s : State} {m : MethodId} {args : Array Value} {below : List Frame} {meth : Method} {c : Code} {T : State} {H : Heap} {locs : List Loc} {cells slots : Nat} {Q : State → Prop}
theorem mnT_X {S : State} {cO cR : ClassId} {i : Nat} {q : State × Cell} (g : mnG S cO i q) (X : Stand p l e R s m args below meth c q.1 locs cells slots) : Stand p l e R s m args below meth c (mnT cR S.heap.size i q).1 (locs ++ [⟨S.heap.size, i⟩]) (cells + 1) (slots + 4) := by
  have hlt : S.heap.size < q.1.heap.size := by rw [g.2.2.2.2.2.1]; omega
  have h := (X.pushed (mnI cR)).stored (a := S.heap.size) (cell := q.2) (by rw [State.heap_pushCell_of_lt (h := hlt)]; exact g.1) i (.ref q.1.heap.size)
  exact h
theorem mn4_X {cO cR : ClassId} (X : Stand p l e R s m args below meth c T locs cells slots) : Stand p l e R s m args below meth c (mn4 cO cR T).1 (locs ++ [⟨T.heap.size, 0⟩] ++ [⟨T.heap.size, 1⟩] ++ [⟨T.heap.size, 2⟩] ++ [⟨T.heap.size, 3⟩]) (cells + 5) (slots + 20) := by
  have g0 := mnG_z T cO
  have g1 := mnG_s (cR := cR) g0
  have g2 := mnG_s (cR := cR) g1
  have g3 := mnG_s (cR := cR) g2
  have X0 : Stand p l e R s m args below meth c (mnZ cO T).1 locs (cells + 1) (slots + 4) := X.pushed _
  exact mnT_X g3 (mnT_X g2 (mnT_X g1 (mnT_X g0 X0)))
theorem W.mna {cc : ByteArray} (hexec : p.tables.exec = Jvm.exec) (hb : c.code = cc) {own : String} {index : Nat} {cO cR cE : ClassId} {kO kR : Class} (hown : s.vm.findClass own = some m.cls) (hclink : (Cond.classLink own index "[[J").before args s = true)
    (hfO : s.vm.findClass "[[J" = some cO) (hR : s.vm.classes[cR]? = some kR) (hRk : kR.kind = .array cE .long) (hO : s.vm.classes[cO]? = some kO) (hOk : kO.kind = .array cR (.array .long))
    {g : JFrame} (hg : g.method = m) (hdg : decode cc g.pc = .ok (.multianewarray index 2, 4)) {rest : List Value} (hstack : g.stack = .int 4 :: .int 4 :: rest) (hcells : cells + 5 ≤ R.cells) (hslots : slots + 20 ≤ R.slots)
    (kk : ∀ S : State, S.heap = H → W p l e R s m args below meth c (mn4 cO cR S).1.heap (locs ++ [⟨H.size, 0⟩] ++ [⟨H.size, 1⟩] ++ [⟨H.size, 2⟩] ++ [⟨H.size, 3⟩]) (cells + 5) (slots + 20) Q { g with pc := g.pc + 4, stack := .ref H.size :: rest }) : W p l e R s m args below meth c H locs cells slots Q g := by
  intro T hT X
  subst hT; subst hb; subst hg
  have hpl : e.platform.magicAccessors = ({} : Platform).magicAccessors := by rw [X.admits.platform]
  obtain ⟨c0, hfc0, hcl⟩ := Cond.classLink_spec hown hclink e.platform hpl
  cases hfO.symm.trans hfc0
  obtain ⟨hg₁, hwarm₁, hready₁⟩ := State.classEntry (e := e) X.warmed hcl
  generalize T.vm.noted g.method.cls index (.cls cO) = vm₁ at hg₁ hwarm₁ hready₁
  have hal : s.vm.Alike vm₁ := hwarm₁.alike
  obtain ⟨kO₁, hO₁, heO⟩ := hal.2.2 _ _ hO
  obtain ⟨kR₁, hR₁, heR⟩ := hal.2.2 _ _ hR
  have hOk₁ : kO₁.kind = .array cR (.array .long) := by rw [heO]; exact hOk
  have hRk₁ : kR₁.kind = .array cE .long := by rw [heR]; exact hRk
  have X₁ := X.noted hwarm₁
  have X4 := mn4_X (cO := cO) (cR := cR) X₁
  obtain ⟨hr1, hr2⟩ := X.roomAbove hcells hslots
  obtain ⟨t, a1, b1⟩ := kk (T.setVm vm₁) rfl (mn4 cO cR (T.setVm vm₁)).1 rfl X4
  refine ⟨t, ?_, b1⟩
  have hl : ¬ 4 > e.platform.arrayLengthLimit := by rw [Launch.admits_arrayLengthLimit X.admits]; omega
  have hb1 : ¬ 4 * componentBytes .long > e.platform.maxHeapBytes := by rw [Launch.admits_maxHeapBytes X.admits]; decide
  have hb2 : ¬ 4 * componentBytes (.array .long) > e.platform.maxHeapBytes := by rw [Launch.admits_maxHeapBytes X.admits]; decide
  jvm_step X.here [hexec, hdg]
  simp only [multianewarray.sem, wp_bind', W.resolveClassAt_links (State.method?_setTop g X.here.top) hg₁]
  rw [W.popN, if_neg (by decide)]
  refine ⟨g, State.topJava?_setTop' (s := T.setVm vm₁) g X.here.top, [.int 4, .int 4], rest, rfl, hstack, ?_⟩
  simp only [List.mapM_cons, List.mapM_nil, wp_bind', wp_pure']
  refine mn_make (kR := kR₁) (kO := kO₁) hR₁ hRk₁ hO₁ hOk₁ hl hb1 hb2 (by show T.heap.size + 5 ≤ _; omega) (by show T.slotsUsed + 20 ≤ _; omega) fun d' acts' => ?_
  have eS : ((T.setTop g).setVm vm₁).setTop { g with stack := rest } = (T.setVm vm₁).setTop { g with stack := rest } := by
    show ((T.setVm vm₁).setTop g).setTop _ = _
    rw [State.setTop_setTop]
  rw [eS, mn4_top]
  simp only [wp_bind', W.mark, W.pushRef, State.topJava?_setTop' _ X4.here.top, Option.some.injEq, exists_eq_left', State.setTop_setTop, State.heap_setTop]
  intro acts
  simp [jvm, X4.here.top]
  exact a1
end
/-- over XS: one row more -/
def xm1 (h i : Nat) (r : XS × (Nat → Option Nat)) : XS × (Nat → Option Nat) := (xset (xnew r.1 (aeL 4 (fun _ => 0))) h (aeQ 6 4 (va_up r.2 i (some r.1.2))), va_up r.2 i (some r.1.2))
def xm0 (u : XS) : XS × (Nat → Option Nat) := (xnew u (aeQ 6 4 (fun _ => none)), fun _ => none)
def xmn (u : XS) : XS := (xm1 u.2 3 (xm1 u.2 2 (xm1 u.2 1 (xm1 u.2 0 (xm0 u))))).1
def xmG (D : va_G) (cA : Nat → ClassId) (A : Nat → Prop) (h : Nat) (r : XS × (Nat → Option Nat)) (q : State × Cell) : Prop := xP D cA A r.1 q.1.heap ∧ r.1.1 h = some (aeQ 6 4 r.2) ∧ q.2 = arrV (cA 6) 4 (fun j => va_rf (r.2 j))
theorem xmG_s {D : va_G} {cA : Nat → ClassId} {A : Nat → Prop} {S : State} {i : Nat} {r : XS × (Nat → Option Nat)} {q : State × Cell} (g : mnG S (cA 6) i q) (hA : ∀ x, S.heap.size ≤ x → A x) (G : xmG D cA A S.heap.size r q) : xmG D cA A S.heap.size (xm1 S.heap.size i r) (mnT (cA 3) S.heap.size i q) := by
  obtain ⟨hP, hr, hq⟩ := G
  have hlt : S.heap.size < q.1.heap.size := by rw [g.2.2.2.2.2.1]; omega
  have hne : S.heap.size ≠ r.1.2 := by rw [← hP.1]; omega
  have P1 : xP D cA A (xnew r.1 (aeL 4 (fun _ => 0))) (q.1.pushCell (mnI (cA 3))).heap := by
    refine hP.new (fun x hx => hA x (by omega)) (by simp) (fun x hx => State.heap_pushCell_of_lt _ _ hx) ?_
    show (q.1.pushCell (mnI (cA 3))).heap[r.1.2]? = some (vp_cell _ _)
    rw [← hP.1, State.heap_pushCell_size, vp_cell_l, ← arrV_new]
    rfl
  have e : q.2.setSlot i (.ref q.1.heap.size) = arrV (cA 6) 4 (fun j => va_rf (va_up r.2 i (some r.1.2) j)) := by
    rw [hq, arrV_store, hP.1]
    congr 1
    funext x
    by_cases hx : x = i
    · subst hx
      simp [updV, va_up, va_rf]
    · simp [updV, va_up, hx]
  have hh : (q.1.pushCell (mnI (cA 3))).heap[S.heap.size]? = some q.2 := by rw [State.heap_pushCell_of_lt (h := hlt)]; exact g.1
  refine ⟨P1.set (a := S.heap.size) (x := aeQ 6 4 r.2) ?_ ?_ ?_ ?_, ?_, e⟩
  · show va_up r.1.1 r.1.2 _ S.heap.size = _
    rw [va_up_ne _ _ hne]
    exact hr
  · simp [mnT, State.setCell]
  · exact fun x hx => State.heap_setCell_other (Ne.symm hx)
  · show (mnT (cA 3) S.heap.size i q).1.heap[S.heap.size]? = some (vp_cell _ _)
    rw [vp_cell_q, ← e]
    exact State.heap_setCell_self hh
  · show va_up _ S.heap.size _ S.heap.size = _
    rw [va_up_self]
    rfl
theorem mnT_old {S : State} {cR : ClassId} {i x : Nat} {q : State × Cell} (hx : x < S.heap.size) (hl : S.heap.size ≤ q.1.heap.size) (h : q.1.heap[x]? = S.heap[x]?) : (mnT cR S.heap.size i q).1.heap[x]? = S.heap[x]? := by
  show ((q.1.pushCell (mnI cR)).setCell S.heap.size _).heap[x]? = _
  rw [State.heap_setCell_other (Nat.ne_of_gt hx), State.heap_pushCell_of_lt (h := Nat.lt_of_lt_of_le hx hl)]
  exact h
section
variable {p : Program} {l : Launch} {e : Env} {R : Room} {s : State} {m : MethodId} {args : Array Value} {below : List Frame} {meth : Method} {c : Code} {H : Heap} {locs : List Loc} {cells slots : Nat} {Q : State → Prop}
variable {cc : ByteArray} {pc : Nat} {ls : Array Slot} {rest : List Value} {D : va_G} {cA : Nat → ClassId} {A : Nat → Prop} {u : XS}
theorem x_mna (hexec : p.tables.exec = Jvm.exec) (hb : c.code = cc) {own : String} {index : Nat} (hown : s.vm.findClass own = some m.cls) (hclink : (Cond.classLink own index "[[J").before args s = true) (hLL : xLL cA s) (hK : mK D cA s) (hP : xP D cA A u H) (hS : va_S A s.heap H locs) (hA : ∀ q, s.heap.size ≤ q → A q)
    (hcells : cells + 5 ≤ R.cells) (hslots : slots + 20 ≤ R.slots) (hdg : decode cc pc = .ok (.multianewarray index 2, 4))
    (kk : ∀ (H1 : Heap) (locs1 : List Loc), xP D cA A (xmn u) H1 → va_S A s.heap H1 locs1 → W p l e R s m args below meth c H1 locs1 (cells + 5) (slots + 20) Q (F0 m (pc + 4) ls (.ref u.2 :: rest))) : W p l e R s m args below meth c H locs cells slots Q (F0 m pc ls (.int 4 :: .int 4 :: rest)) := by
  obtain ⟨kO, hO, hOk⟩ := hLL
  obtain ⟨har, hf3⟩ := hK.2 3 _ (show (aTy cA)[3]? = some (cA 3, .long) from rfl)
  obtain ⟨-, kR, hR, cE, hRk⟩ := har 0 (fun _ => .null)
  have hR : s.vm.classes[cA 3]? = some kR := hR
  have hf6 : s.vm.findClass "[[J" = some (cA 6) := (hK.2 6 _ (show (aTy cA)[6]? = some (cA 6, .array .long) from rfl)).2
  refine W.mna hexec hb hown hclink hf6 hR hRk hO hOk rfl hdg rfl hcells hslots fun S hSH => ?_
  subst hSH
  have g0 := mnG_z S (cA 6)
  have g1 := mnG_s (cR := cA 3) g0
  have g2 := mnG_s (cR := cA 3) g1
  have g3 := mnG_s (cR := cA 3) g2
  have g4 := mnG_s (cR := cA 3) g3
  have hA' : ∀ x, S.heap.size ≤ x → A x := fun x h => hA x (Nat.le_trans hS.1 h)
  have G0 : xmG D cA A S.heap.size (xm0 u) (mnZ (cA 6) S) := by
    refine ⟨hP.new hA' (by simp [mnZ]) (fun x hx => State.heap_pushCell_of_lt _ _ hx) ?_, ?_, arrV_new _ _ _⟩
    · show (mnZ (cA 6) S).1.heap[u.2]? = some (vp_cell _ _)
      rw [← hP.1, vp_cell_q]
      exact g0.1.trans (congrArg some (arrV_new _ _ _))
    · show va_up u.1 u.2 _ S.heap.size = _
      rw [hP.1, va_up_self]
      rfl
  have G4 := xmG_s g3 hA' (xmG_s g2 hA' (xmG_s g1 hA' (xmG_s g0 hA' G0)))
  have ho : ∀ x, x < S.heap.size → (mn4 (cA 6) (cA 3) S).1.heap[x]? = S.heap[x]? := fun x hx =>
    mnT_old hx (by rw [g3.2.2.2.2.2.1]; omega) (mnT_old hx (by rw [g2.2.2.2.2.2.1]; omega) (mnT_old hx (by rw [g1.2.2.2.2.2.1]; omega) (mnT_old hx (by rw [g0.2.2.2.2.2.1]; omega) (State.heap_pushCell_of_lt _ _ hx))))
  have hz : (mn4 (cA 6) (cA 3) S).1.heap.size = S.heap.size + 5 := g4.2.2.2.2.2.1
  refine W.eq (g2 := F0 m (pc + 4) ls (.ref u.2 :: rest)) (by rw [hP.1]) ?_
  refine kk _ _ ?_ ⟨by rw [hz]; exact Nat.le_trans hS.1 (Nat.le_add_right _ _), fun x h1 h2 => (ho x (Nat.lt_of_lt_of_le h1 hS.1)).trans (hS.2.1 x h1 h2), ?_⟩
  · have h := G4.1
    rw [hP.1] at h
    unfold xmn mn4
    rw [hP.1]
    exact h
  · intro x hx
    simp only [List.mem_append, List.mem_singleton] at hx
    rcases hx with (((h | h) | h) | h) | h
    · exact hS.2.2 x h
    all_goals (subst h; exact hA' _ (Nat.le_refl _))
end
end XMN
