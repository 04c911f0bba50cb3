/-! CAUGHT by the first entry of the method's own table, whose class may or may not have been resolved -/
section CA
variable {p : Program} {l : Launch} {e : Env} {R : Room} {s : State} {m : MethodId} {args : Array Value} {below : List Frame} {meth : Method} {c : Code} {H : Heap} {locs : List Loc} {cells slots : Nat} {Q : State → Prop}
/-- the search for a handler: the first entry covers the pc, its class is what the object is -/
theorem ca_find {S : State} {f : JFrame} {a : Addr} {h : ExceptionTableEntry} {t : List ExceptionTableEntry} {cT : ClassId} {cell : Cell} (hm : S.vm.method? f.method = some meth) (hc : meth.code = some c) (htab : c.exceptionTable.toList = h :: t)
    (h1 : h.startPc ≤ f.pc) (h2 : f.pc < h.endPc) (h0 : h.catchType ≠ 0) (hl : S.vm.ClassLinks e.platform f.method.cls h.catchType cT) (hcell : S.heap[a]? = some cell) (hobj : ∀ k, cell.vm ≠ .statics k)
    (hk : ∃ k, S.vm.classes[cell.cls]? = some k) (hkT : ∃ k, S.vm.classes[cT]? = some k) (hfit : S.vm.assignable cell.cls cT = true) (Q : Handler → Pre) (E : CtlPost) (d : Bool) (acts : List Action) :
    wp (findHandler f a) Q E e d acts S ↔ Q (.found h.handlerPc) d acts (S.setVm (S.vm.noted f.method.cls h.catchType (.cls cT))) := by
  obtain ⟨r1, r2⟩ := (resolveClass_links e.toSetting hl).op (op := VmOp.resolveClass f.method.cls h.catchType) rfl
  have hal : S.vm.Alike (S.vm.noted f.method.cls h.catchType (.cls cT)) := (Vm.Alike.refl S.vm).noted _ _ _
  obtain ⟨k1, hk1⟩ := hk
  obtain ⟨k2, hk2⟩ := hkT
  obtain ⟨k3, hk3, -⟩ := hal.2.2 _ _ hk1
  obtain ⟨k4, hk4, -⟩ := hal.2.2 _ _ hk2
  have hf2 : (S.vm.noted f.method.cls h.catchType (.cls cT)).assignable cell.cls cT = true := by rw [hal.assignable]; exact hfit
  rw [W.findHandler_eq hm hc, htab]
  simp [findHandler.go, h1, h2, h0, r1, r2, hcell, hobj, hk3, hk4, hf2, VmOp.dirties, VmOp.acts]
theorem WX.caughtC {pc hpc ct : Nat} {ls : Array Slot} {rest : List Value} {x : Addr} {own name : String} (hown : s.vm.findClass own = some m.cls) (hlink : (Cond.classLink own ct name).before args s = true)
    {h : ExceptionTableEntry} {t : List ExceptionTableEntry} (htab : c.exceptionTable.toList = h :: t) (h1 : h.startPc ≤ pc) (h2 : pc < h.endPc) (h3 : h.handlerPc = hpc) (h4 : h.catchType = ct) (h0 : ct ≠ 0)
    {cT : ClassId} (hcT : s.vm.findClass name = some cT) {cell : Cell} (hcell : H[x]? = some cell) (hobj : cell.vm.isStatics = false) (hks : ∃ k, s.vm.classes[cell.cls]? = some k) (hfit : s.vm.assignable cell.cls cT = true)
    (kk : W p l e R s m args below meth c H locs cells slots Q (F0 m hpc ls [.ref x])) : WX p l e R s m args below meth c H locs cells slots Q (F0 m pc ls rest) x := by
  intro T hT X
  subst h3; subst h4
  have hpl : e.platform.magicAccessors = ({} : Platform).magicAccessors := by rw [X.admits.platform]
  obtain ⟨c', hc', hcl⟩ := Cond.classLink_spec hown hlink e.platform hpl
  cases hcT.symm.trans hc'
  obtain ⟨dk, _, _, kt, hd, _, _, _, _, hkt, _, hopen⟩ := hcl.here
  have hcl₀ := X.warmed.classLinks hcl
  have hW' : s.WarmedH (T.vm.noted m.cls h.catchType (.cls cT)) := X.warmed.noted hd hopen (State.rightAt_cls hcl)
  have hal := X.warmed.alike
  obtain ⟨kt', hkt', -⟩ := hal.2.2 _ _ hkt
  obtain ⟨ks, hks⟩ := hks
  obtain ⟨ks', hks', -⟩ := hal.2.2 _ _ hks
  have hfit' : T.vm.assignable cell.cls cT = true := by rw [hal.assignable]; exact hfit
  obtain ⟨t2, a1, b1⟩ := kk (T.setVm (T.vm.noted m.cls h.catchType (.cls cT))) hT (X.noted hW')
  refine ⟨t2, ?_, b1⟩
  obtain ⟨hgo, hw⟩ := (show At T (F0 m pc ls rest).method c below from X.here).throwing x
  refine Steps.head hgo hw ?_
  have hfr : ((T.setTop (F0 m pc ls rest)).pushFrame (.throwing x)).frames = .throwing x :: .java (F0 m pc ls rest) :: T.frames.tail := frames_entered X.here.top _
  rw [stepThread_throwing hfr]
  have his : (stepThrowing e ((T.setTop (F0 m pc ls rest)).pushFrame (.throwing x)) x (.java (F0 m pc ls rest) :: T.frames.tail)).Is ((((T.setTop (F0 m pc ls rest)).pushFrame (.throwing x)).setVm (T.vm.noted m.cls h.catchType (.cls cT))).setFrames (.java (F0 m h.handlerPc ls [.ref x]) :: T.frames.tail)) [] := by
    simp only [stepThrowing, searchFrame, vmDo]
    generalize hr : Sem.go _ e false [] _ = res
    obtain ⟨as, rfl, ha⟩ := Sem.eq_ok_of hr (a := Handler.found h.handlerPc) (s' := ((T.setTop (F0 m pc ls rest)).pushFrame (.throwing x)).setVm (T.vm.noted m.cls h.catchType (.cls cT))) (acts' := [])
      (by simp [ca_find (e := e) (S := (T.setTop (F0 m pc ls rest)).pushFrame (.throwing x)) (f := F0 m pc ls rest) (a := x) (meth := meth) (c := c) X.method' X.code htab h1 h2 h0 hcl₀ (show T.heap[x]? = some cell by rw [hT]; exact hcell) (VmData.ne_statics_of hobj) ⟨ks', hks'⟩ ⟨kt', hkt'⟩ hfit']; rfl)
    exact ⟨rfl, ha⟩
  rw [his.1]
  obtain ⟨g₀, hg⟩ := Option.isSome_iff_exists.mp X.here.top
  obtain ⟨r, hr⟩ := State.topJava?_eq_some.mp hg
  have hr' : (T.setVm (T.vm.noted m.cls h.catchType (.cls cT))).frames = .java g₀ :: r := hr
  rw [State.setTop_of_frames _ hr'] at a1
  have e1 : (((T.setTop (F0 m pc ls rest)).pushFrame (.throwing x)).setVm (T.vm.noted m.cls h.catchType (.cls cT))).setFrames (.java (F0 m h.handlerPc ls [.ref x]) :: T.frames.tail) = (T.setVm (T.vm.noted m.cls h.catchType (.cls cT))).setFrames (.java (F0 m h.handlerPc ls [.ref x]) :: r) := by
    rw [hr, List.tail_cons, State.pushFrame, State.setTop_of_frames _ hr]
    have q : ∀ (u : State) (vm' : Vm) (F G K : List Frame), ((((u.setFrames F).setFrames G).setVm vm').setFrames K) = (u.setVm vm').setFrames K := by
      intro u vm' F G K
      rw [State.setFrames_setFrames]
      have q1 : (u.setFrames G).setVm vm' = (u.setVm vm').setFrames G := rfl
      rw [q1, State.setFrames_setFrames]
    exact q _ _ _ _ _
  rw [e1]
  exact a1
end CA
section GX
variable {S : Type}
theorem gMetX_z {l : Launch} {y : MethodName} {cc : ByteArray} {maxL : Nat} {rm : Room} {K : State → Prop} {P : S → Heap → Prop} {A : Nat → Prop} {as : List Value} {u : S} {out : Int32 × S} {mc ms : Nat} {ty : FieldType} {hh : List (Nat × Nat × Nat × Nat)} (hy : plainName y.cls = true) (hnl : (lg_sl as).length ≤ maxL)
    (body : ∀ (p : Program) (e : Env) (s : State) (m : MethodId) (below : List Frame) (meth : Method) (c : Code) (Q : State → Prop) (ls : Array Slot) (args : Array Value) (H : Heap) (locs : List Loc), gCx p m c cc maxL s args y.cls K A → P u H → va_S A s.heap H locs → lv_has ls maxL (lv_args 0 as) → c.exceptionTable.toList.map (fun h => (h.startPc, h.endPc, h.handlerPc, h.catchType)) = hh →
      (∀ (pc : Nat) (H : Heap) (locs : List Loc) (ls : Array Slot) (r : Int32) (v : S), decode cc pc = .ok (.ireturn, 1) → narrow ty (.int r) = .int r → P v H → va_S A s.heap H locs → some (r, v) = some out → W p l e rm s m args below meth c H locs mc ms Q (F0 m pc ls [.int r])) →
      W p l e rm s m args below meth c H locs 0 0 Q (F0 m 0 ls [])) (hK : Kst K A) : Met l y (wsW_ y cc maxL (some ty) hh) rm (gPc K P A as u) (gQi K P A out) mc ms A := by
  refine va_MetW (cc := cc) (maxL := maxL) (ret := some ty) (hh := hh) hy rfl ?_
  intro p e s m args below meth c s₁ B hml hv
  obtain ⟨rfl, hA, hP, hKs⟩ := hv
  have hts := atoms_spec (ws := wsW_ y cc maxL (some ty) hh) B.pre
  have htab : c.exceptionTable.toList.map (fun h => (h.startPc, h.endPc, h.handlerPc, h.catchType)) = hh := by
    obtain ⟨m9, meth9, c9, hn9, h1, h2, -, -, h5, -⟩ := Cond.codeWith_spec (hts _ List.mem_cons_self)
    cases B.named.symm.trans hn9
    cases B.method.symm.trans h1
    cases (Stand.of_body B).code.symm.trans h2
    exact h5
  have hts : ∀ w ∈ lw_all, w.before _ s = true := fun w h => hts w (List.mem_cons_of_mem _ h)
  have hown : s.vm.findClass y.cls = some m.cls := findClass_of_methodNamed B.named
  have hl := lv_entry as (n := maxL) hnl
  rw [lg_entry_eq]
  have hx := B.exec
  have hb := B.bytes
  have hr := B.returns
  have hlocks := B.notSynchronized
  refine body p e s m below meth c _ _ _ _ _ ⟨hx, hb, hml, hown, hts, hA, hKs⟩ hP va_S.rf hl htab ?_
  intro pc H locs ls r v hd hn hPv hS ho
  exact W.zret (v := r) hx hb hr hn (fun t ht hW => ⟨⟨r, v, rfl, Option.some.inj ho, by rw [gB, ht]; exact ⟨hPv, hK _ _ hW (by rw [ht]; exact hS.2.1) hKs⟩⟩, hS.F ht⟩) hS.2.2 hd
end GX
section CA2
variable {p : Program} {l : Launch} {e : Env} {R : Room} {s : State} {m : MethodId} {args : Array Value} {below : List Frame} {meth : Method} {c : Code} {H : Heap} {locs : List Loc} {cells slots : Nat} {Q : State → Prop} {D : va_G} {cA : Nat → ClassId} {A : Nat → Prop} {u : XS}
/-- an object of the class ci is caught by the first entry, of that class -/
theorem x_caught {pc hpc ct a1 a2 ci x : Nat} {ls : Array Slot} {rest : List Value} {own : String} {r : vw_C} {fs : List Value} {hs : List (Nat × Nat × Nat × Nat)} (hc : vwCl[ci]? = some r) (hown : s.vm.findClass own = some m.cls) (hlink : (Cond.classLink own ct r.1).before args s = true)
    (htab : c.exceptionTable.toList.map (fun h => (h.startPc, h.endPc, h.handlerPc, h.catchType)) = (a1, a2, hpc, ct) :: hs) (h1 : a1 ≤ pc) (h2 : pc < a2) (h0 : ct ≠ 0) (hK : mK D cA s) (hP : xP D cA A u H) (hx : u.1 x = some (aeO ci fs))
    (kk : W p l e R s m args below meth c H locs cells slots Q (F0 m hpc ls [.ref x])) : WX p l e R s m args below meth c H locs cells slots Q (F0 m pc ls rest) x := by
  obtain ⟨cell, q1, q2, q3⟩ := x_recv hK hP hc hx
  have hat := (hK.1 ci r hc).2
  have e1 : D.1 ci = cell.cls := Option.some.inj (hat.1.symm.trans q3)
  obtain ⟨kC, hkC, -⟩ := hat.2
  cases ht : c.exceptionTable.toList with
  | nil => rw [ht] at htab; cases htab
  | cons h t =>
    rw [ht] at htab
    have e2 := (List.cons.inj htab).1
    simp only [Prod.mk.injEq] at e2
    obtain ⟨f1, f2, f3, f4⟩ := e2
    exact WX.caughtC hown hlink ht (by rw [f1]; exact h1) (by rw [f2]; exact h2) f3 f4 h0 q3 q1 q2 ⟨kC, by rw [← e1]; exact hkC⟩ (va_asg _ _) kk
end CA2
