/-! AN EXCEPTION THAT THE MACHINE MAKES (its text given): it is thrown in the frame g; three cells are new: the text's bytes, the text, the exception -/
section XVM
variable {p : Program} {l : Launch} {e : Env} {R : Room} {s : State} {m : MethodId} {args : Array Value} {below : List Frame} {meth : Method} {c : Code} {T' : State} {locs : List Loc} {cells slots : Nat}
theorem x_vmT (X : Stand p l e R s m args below meth c T' locs cells slots) (hexec : p.tables.exec = Jvm.exec) {g : JFrame} (hg : g.method = m) (hsize : g.locals.size = c.maxLocals)
    (T : ThrowableC) (L : T.Links e.platform s) (Z : Init0T) (LZ : Z.LaidS T.toThrowableT) (M : MsgC) (LM : M.Links T e.platform s) (Zs : StringT) (LZs : Zs.Laid s.vm)
    (P1 : PassC) (L1 : P1.LinksS e.platform s) (Ps : List PassC) (hL : ∀ P, P ∈ Ps → P.LinksS e.platform s) (hlink1 : P1.sup = firstOf (Z.m T.toThrowableT) (Ps.map (·.toPassT))) (hlink : PassesOn (Z.m T.toThrowableT) (Ps.map (·.toPassT)))
    {cls tx : String} {kX : Class} (hsoe : (cls == "java/lang/StackOverflowError") = false) (hoom : (cls == "java/lang/OutOfMemoryError") = false)
    (hfound : s.vm.findClass cls = some P1.m.cls) (hk : s.vm.classes[P1.m.cls]? = some kX) (hinit : kX.init = .initialized) (hord : kX.kind = .ordinary)
    (hctor : kX.findMethod "<init>" "(Ljava/lang/String;)V" = some P1.m.idx) (hm : (tx == notModelled) = false)
    (hlimit : ¬ (stringBytes (stringToUtf16 tx)).size > e.platform.arrayLengthLimit) (hheap : ¬ (stringBytes (stringToUtf16 tx)).size * componentBytes .byte > e.platform.maxHeapBytes)
    (hfitv : s.fitsSlot Zs.cS .none Zs.fv.slot (.ref T'.heap.size) = true) (hfitc : s.fitsSlot Zs.cS .none Zs.fc.slot (.int (stringCoder (stringToUtf16 tx))) = true)
    {u0 sen : RefV} {cellS : Cell}
    (hsel0 : selectMethod e.platform s.vm P1.m.cls T.fill0 = .method T.fill0) (hselF : selectMethod e.platform s.vm P1.m.cls T.fill = .method T.fill)
    (hcellS : T'.heap[T.aS]? = some cellS) (hknownS : cellS.vm ≠ .unknown) (hvU : cellS.slots[T.fUnassigned.slot]? = some u0.v) (hvSen : cellS.slots[T.fSentinel.slot]? = some sen.v)
    (htC : Takes s (freshCell P1.m.cls kX) T.fCause (.ref (T'.heap.size + 2))) (htS : Takes s (freshCell P1.m.cls kX) T.fStack u0.v) (htP : Takes s (freshCell P1.m.cls kX) T.fSupp sen.v) (htM : Takes s (freshCell P1.m.cls kX) T.fMsg (.ref (T'.heap.size + 1))) (hobjLocals : T.codeObj.maxLocals = 1)
    (hskip : SkipFacts T e.platform s (fun u => u) u0 ((preparedCellV T.toThrowableT (freshCell P1.m.cls kX) (T'.heap.size + 2) u0 sen).withEntry T'.cur))
    (htr : e.platform.stackTraces = false)
    (hRframes : Ps.length + 4 < R.frames) (hRlocals : 2 * g.monitorRoom + (g.stack.map fun v => v.category).sum + 10240 ≤ R.locals) (hshort : 13 * Ps.length + 55 ≤ 10240)
    (hRcells : cells + 3 ≤ R.cells) (hRslots : slots + ((stringBytes (stringToUtf16 tx)).size + Zs.kS.instanceTypes.size + kX.instanceTypes.size) ≤ R.slots) :
    ∃ (vm' : Vm) (Ls : List Loc), (∀ q ∈ Ls, q.base = T'.heap.size + 2) ∧ Stand p l e R s m args below meth c (((withThrown T' Zs tx P1.m.cls kX).setVm vm').setCell (T'.heap.size + 2) (plainBareV T.toThrowableT (freshCell P1.m.cls kX) (T'.heap.size + 2) u0 sen (.ref (T'.heap.size + 1)))) (locs ++ Ls)
        (cells + 3) (slots + (bytesOf Zs.cB (stringToUtf16 tx)).slots.size + (stringAt Zs.cS Zs.kS Zs.fv Zs.fc (stringToUtf16 tx) T'.heap.size).slots.size + (freshCell P1.m.cls kX).slots.size) ∧
      ∀ target, Steps p.tables e below (((((withThrown T' Zs tx P1.m.cls kX).setVm vm').setCell (T'.heap.size + 2) (plainBareV T.toThrowableT (freshCell P1.m.cls kX) (T'.heap.size + 2) u0 sen (.ref (T'.heap.size + 1)))).setTop g).pushFrame (.throwing (T'.heap.size + 2))) target →
        Steps p.tables e below ((T'.setTop g).pushFrame (.throwNew cls (some tx) none)) target := by
  have h : At T' g.method c below := by rw [hg]; exact X.here
  obtain ⟨hbeyond, hfreeW⟩ := X.vmMayThrow hsize (.throwNew cls (some tx) none) (fun f hf => by cases hf) rfl hRlocals
  have hfr' : T'.frames.length + Ps.length + 4 < (e.platform.stackLimits T'.me).1 := by have := X.framesAbove hRframes; omega
  have hwd' : (stackUse (.java g :: T'.frames.tail)).2 + 13 * Ps.length + 55 ≤ (e.platform.stackLimits T'.me).2 := by have := X.stackAbove hsize (K := 13 * Ps.length + 55) (by omega); omega
  have hslots : T'.slotsUsed + (stringBytes (stringToUtf16 tx)).size + Zs.kS.instanceTypes.size + kX.instanceTypes.size ≤ e.platform.maxSlots := by have := X.slotsAbove hRslots; omega
  obtain ⟨vm', hW', st⟩ := Steps.vmThrowsMessageColdByV p (s₀ := s) (S := T') (g := g) h hexec T L Z LZ M LM X.warmed (t := T'.cur) rfl Zs LZs P1 L1 Ps hL hlink1 hlink hsoe hoom hfound hk hinit hord hctor
    (Launch.admits_hotImplicitExceptions X.admits) hbeyond hfreeW hm hlimit hheap (X.cellsAbove hRcells) hslots hfitv hfitc
    (Nn := fun u => u) heapOnly_id (fun _ _ => rfl) (fun _ => rfl) (fun u x y => setCell_twice _ _ _ _) (fun _ => Nat.le_refl _) (cN := ((preparedCellV T.toThrowableT (freshCell P1.m.cls kX) (T'.heap.size + 2) u0 sen).withEntry T'.cur))
    hsel0 hcellS hknownS hvU htS (fun _ hu => hu) (fun _ hu => hu) rfl rfl rfl (by simp [preparedCellV, Cell.setSlot, Cell.withEntry]) hskip (fun _ _ hA hW _ hroom _ hrest => L.nativeOff p htr hA hW hroom hrest) hselF hvSen htC htP htM hobjLocals rfl hfr' hwd'
  rw [plainBareV_eq T.toThrowableT (T'.heap.size + 2) u0 sen (.ref (T'.heap.size + 1)) T'.cur rfl rfl] at st
  obtain ⟨-, -, w3, w4, -, -, -⟩ := withThrown_facts e.platform T' Zs tx P1.m.cls kX
  have X3 := ((X.pushed (bytesOf Zs.cB (stringToUtf16 tx))).pushed (stringAt Zs.cS Zs.kS Zs.fv Zs.fc (stringToUtf16 tx) T'.heap.size)).pushed (freshCell P1.m.cls kX)
  rw [← withString_eq] at X3
  have X4 := X3.noted hW'
  have ha : (T'.heap.size + 2) < ((withThrown T' Zs tx P1.m.cls kX).setVm vm').heap.size := by show _ < (withThrown T' Zs tx P1.m.cls kX).heap.size; rw [w3]; omega
  have hcell : ((withThrown T' Zs tx P1.m.cls kX).setVm vm').heap[(T'.heap.size + 2)]? = some (freshCell P1.m.cls kX) := w4
  have X5 := ((((X4.stored hcell T.fCause.slot (.ref (T'.heap.size + 2))).storedAgain ha T.fStack.slot u0.v).storedAgain ha T.fSupp.slot sen.v).storedAgain ha T.fStack.slot u0.v).storedAgain ha T.fMsg.slot (.ref (T'.heap.size + 1))
  simp only [List.append_assoc] at X5
  refine ⟨vm', _, ?_, X5, fun target hgo => st target ?_⟩
  · intro q hq
    simp only [List.cons_append, List.nil_append, List.mem_cons, List.not_mem_nil, or_false] at hq
    rcases hq with rfl | rfl | rfl | rfl | rfl <;> rfl
  · obtain ⟨g₁, hfrM⟩ := X5.frames_eq
    have hU : ((((withThrown T' Zs tx P1.m.cls kX).setVm vm').setCell (T'.heap.size + 2) (plainBareV T.toThrowableT (freshCell P1.m.cls kX) (T'.heap.size + 2) u0 sen (.ref (T'.heap.size + 1)))).setTop g).pushFrame (.throwing (T'.heap.size + 2)) = (((withThrown T' Zs tx P1.m.cls kX).setVm vm').setCell (T'.heap.size + 2) (plainBareV T.toThrowableT (freshCell P1.m.cls kX) (T'.heap.size + 2) u0 sen (.ref (T'.heap.size + 1)))).setFrames (.throwing (T'.heap.size + 2) :: .java g :: below) := by
      rw [State.pushFrame, State.frames_setTop _ hfrM, State.setTop_of_frames _ hfrM, State.setFrames_setFrames]
    rw [X.tail, ← hU]
    exact hgo
end XVM
