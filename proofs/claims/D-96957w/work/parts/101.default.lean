/-! DEFAULT METHODS: a call that lands in an interface's default method -/
section XDF
theorem df_any {vm vm' : Vm} (h : vm.Alike vm') (f : Class → Bool) (hf : ∀ k : Class, f k.bare = f k) (c : ClassId) : (vm'.classes[c]?).any f = (vm.classes[c]?).any f := by
  rcases hk : vm.classes[c]? with - | k
  · rw [h.none hk]
  · obtain ⟨k', h1, h2⟩ := h.2.2 _ _ hk
    simp only [h1, Option.any_some]
    exact (hf k').symm.trans ((congrArg f (Class.bare_of h2)).trans (hf k))
theorem df_near {vm vm' : Vm} (h : vm.Alike vm') (c : ClassId) (nm ds : String) : Jvm.nearestHeld vm' c nm ds = Jvm.nearestHeld vm c nm ds := by
  have a1 : superinterfaceMethods vm' = superinterfaceMethods vm := (superinterfaceMethods_bare vm').symm.trans ((congrArg superinterfaceMethods h.bare_eq).trans (superinterfaceMethods_bare vm))
  have a2 : maximallySpecific vm' = maximallySpecific vm := (maximallySpecific_bare vm').symm.trans ((congrArg maximallySpecific h.bare_eq).trans (maximallySpecific_bare vm))
  have a3 := df_any h (fun k => k.isInterface) (fun _ => rfl)
  have a4 := df_any h (fun x => x.methods.any fun m => !m.isAbstract && !m.isStatic) (fun _ => rfl)
  have a5 := fun g : ClassId → Bool => df_any h (fun x => x.interfaces.any g) (fun _ => rfl)
  simp only [Jvm.nearestHeld, Jvm.held, h.superclasses, h.declaredIn, h.superinterfaces, h.method?, a1, a2, a3, a4, a5]
/-- what the table holds is m, or nothing -/
def dfN (vm : Vm) (c : ClassId) (nm ds : String) (m : MethodId) : Prop := match Jvm.nearestHeld vm c nm ds with
  | some (_, .default d) => d = m
  | some (_, .thrower _) => False
  | _ => True
theorem dfN.moved {vm vm' : Vm} (h : vm.Alike vm') {c : ClassId} {nm ds : String} {m : MethodId} (hn : dfN vm c nm ds m) : dfN vm' c nm ds m := by
  unfold dfN
  rw [df_near h]
  exact hn
theorem df_spec {args : Array Value} {s : State} {cls : String} {x y : MethodName} (h : (Cond.landsInDefault cls x y).before args s = true) :
    ∃ c r m rm mk, s.vm.findClass cls = some c ∧ s.methodFound? x.cls x.name x.desc = some r ∧ s.methodNamed? y = some m ∧ s.vm.method? r = some rm ∧ selectMethod {} s.vm c r = .method m ∧ s.vm.classes[m.cls]? = some mk ∧ mk.isInterface = true ∧ dfN s.vm c rm.name rm.desc m ∧ rm.isPrivate = false := by
  simp only [Cond.before, Cond.holds, Cond.value] at h
  rcases e1 : s.vm.findClass cls with - | c
  · simp [e1] at h
  rcases e2 : s.methodFound? x.cls x.name x.desc with - | r
  · simp [e1, e2] at h
  rcases e3 : s.methodNamed? y with - | m
  · simp [e1, e2, e3] at h
  rcases e4 : s.vm.method? r with - | rm
  · simp [e1, e2, e3, e4] at h
  simp only [e1, e2, e3, e4, Option.map_some, beq_iff_eq, Option.some.injEq] at h
  split at h
  · next m' e5 =>
    simp only [Bool.and_eq_true, decide_eq_true_eq, Bool.not_eq_true', Option.any_eq_true] at h
    obtain ⟨⟨⟨⟨rfl, mk, k1, k2⟩, hpr⟩, -⟩, hN⟩ := h
    refine ⟨c, r, m', rm, mk, rfl, rfl, rfl, e4, e5, k1, k2, ?_, hpr⟩
    unfold dfN
    split
    · next e6 => rw [e6] at hN; simpa using hN
    · next e6 => rw [e6] at hN; cases hN
    · trivial
  · cases h
theorem df_sv {E : CtlPost} {e : Env} {d : Bool} {acts : List Action} {s : State} {Q : Selection → Pre} {c : ClassId} {r m : MethodId} {rm mm : Method} {mk : Class} (hsel : selectMethod e.platform s.vm c r = .method m) (hrm : s.vm.method? r = some rm) (hm : s.vm.method? m = some mm)
    (hmk : s.vm.classes[m.cls]? = some mk) (hitf : mk.isInterface = true) (hN : dfN s.vm c rm.name rm.desc m) (hq : ∀ acts', Q (.method m) d acts' s) : wp (Jvm.Op.invokeinterface.selectVirtual c r) Q E e d acts s := by
  unfold dfN at hN
  simp only [Jvm.Op.invokeinterface.selectVirtual, wp_bind', W.theMethod, hrm, Option.some.injEq, exists_eq_left', selectFor_method hsel hm, W.theClass, hmk, hitf, wp_pure', W.ite, W.ask, W.look]
  simp only [Bool.not_true, Bool.false_eq_true, if_false]
  split
  · exact hq _
  · split
    · next e6 => rw [e6] at hN; exact hN.elim
    · next e6 =>
      rw [e6] at hN
      have hN : _ = m := hN
      subst hN
      simp only [wp_bind', W.mark, wp_pure']
      exact hq _
    · simp only [wp_pure']
      exact hq _
theorem df_named {Q : Unit → Pre} {E : CtlPost} {e : Env} {d : Bool} {acts : List Action} {s : State} {f : JFrame} {index a : Nat} {r m : MethodId} {c' : ClassId} {k k' mk : Class} {rm mm : Method} {as rest : List Value} {cell : Cell}
    (hs : s.topJava?.isSome) (hnamed : namesResolved s.vm f.method.cls index c') (hk' : s.vm.classes[c']? = some k') (hclass : k'.isInterface = false) (hr : s.vm.methodReady f.method.cls index r)
    (hk : s.vm.classes[r.cls]? = some k) (hrm : s.vm.method? r = some rm) (hpoly : signaturePolymorphic k rm = false) (hstatic : rm.isStatic = false) (hlen : as.length = rm.sig.parameters.length) (hstack : f.stack = as.reverse ++ .ref a :: rest)
    (hcell : s.heap[a]? = some cell) (hobj : ∀ c, cell.vm ≠ .statics c) (hsel : selectMethod e.platform s.vm cell.cls r = .method m) (hm : s.vm.method? m = some mm) (habs : mm.isAbstract = false)
    (hmk : s.vm.classes[m.cls]? = some mk) (hitf : mk.isInterface = true) (hN : dfN s.vm cell.cls rm.name rm.desc m)
    (hq : ∀ acts', E (.invoke m (.ref a :: as).toArray) acts' (s.setTop { f with stack := rest })) : wp (Jvm.Op.invokevirtual.sem index) Q E e d acts (s.setTop f) := by
  obtain ⟨kc, cf, ci, n, h1, h2, h3, h4⟩ := hnamed
  have hpre : ∀ {Q' : ClassId → Pre}, wp (Jvm.refClassAt index) Q' E e d acts (s.setTop f) ↔ Q' c' d acts (s.setTop f) := by
    intro Q'
    rcases h3 with h3 | h3 <;>
      simp [Jvm.refClassAt, Jvm.constantAt, State.method?_setTop f hs, h1, h2, h3, W.resolveClassAt_ready (State.method?_setTop f hs) h4]
  simp only [Jvm.Op.invokevirtual.sem, wp_bind', hpre, W.theClass, State.vm_setTop, hk', Option.some.injEq, exists_eq_left', W.ite, hclass, Bool.false_eq_true, if_false, wp_pure',
    W.resolveMethodAt_ready (State.method?_setTop f hs) hr]
  simp only [W.theMethod, State.vm_setTop, hrm, Option.some.injEq, exists_eq_left', Seam.isPolymorphic, wp_bind', W.theClass, hk, wp_pure', hpoly,
    W.ite, Bool.false_eq_true, if_false, hstatic, Jvm.popArgs, ← hlen, popN_top hs hstack]
  simp [hs, hcell, hobj]
  refine df_sv hsel hrm hm hmk hitf hN fun acts' => ?_
  simp [hm, habs]
  exact hq _
section
variable {p : Program} {l : Launch} {e : Env} {R : Room} {s : State} {m : MethodId} {args : Array Value} {below : List Frame} {meth : Method} {c : Code} {T : State} {locs : List Loc} {cells slots : Nat}
theorem df_virtual (X : Stand p l e R s m args below meth c T locs cells slots) (hexec : p.tables.exec = Jvm.exec) {own owner : String} {index : Nat} {x : MethodName} (hown : s.vm.findClass own = some m.cls) (hlink : (Cond.methodLink own index x).before args s = true)
    (hsame : (Cond.sameMethod x.cls owner x.name x.desc).before args s = true) (howner : owner ≠ "java/lang/invoke/MethodHandle" ∧ owner ≠ "java/lang/invoke/VarHandle") {r0 : MethodId} {r : Method} (hn : s.methodNamed? ⟨owner, x.name, x.desc⟩ = some r0) (hrm : s.vm.method? r0 = some r) (hstatic : r.isStatic = false)
    {a : Addr} {cell : Cell} (hcell : T.heap[a]? = some cell) (hobj : ∀ c, cell.vm ≠ .statics c) {m' : MethodId} {meth' : Method} {mk : Class} (hsel : selectMethod e.platform s.vm cell.cls r0 = .method m') (hm' : s.vm.method? m' = some meth') (habs : meth'.isAbstract = false)
    (hmk : s.vm.classes[m'.cls]? = some mk) (hitf : mk.isInterface = true) (hN : dfN s.vm cell.cls r.name r.desc m') {g : JFrame} (hg : g.method = m) {argsL rest : List Value} (hlen : argsL.length = r.sig.parameters.length) (hstack : g.stack = argsL.reverse ++ .ref a :: rest)
    (hdg : decode c.code g.pc = .ok (.invokevirtual index, 3)) :
    ∃ vm', Stand p l e R s m args below meth c (T.setVm vm') locs cells slots ∧ ∀ target, (∀ acts, Steps p.tables e below (doInvoke e ((T.setVm vm').setTop { g with stack := rest }) acts m' (.ref a :: argsL).toArray).1 target) → Steps p.tables e below (T.setTop g) target := by
  have hpl : e.platform.magicAccessors = ({} : Platform).magicAccessors := by rw [X.admits.platform]
  obtain ⟨cn, ck, r1, hcn, hck, hni, hf, hn1⟩ := Cond.sameMethod_found hsame
  cases hn.symm.trans hn1
  obtain ⟨ci, hl, hright⟩ := Cond.methodLink_specUp hown hcn hck hni hf hlink e.platform hpl (by rw [X.admits.platform])
  have hE : s.MethodEntryUp e T.vm m.cls index cn r0 ci := State.methodEntryUp X.warmed hl hright
  obtain ⟨kr, hkr, hnr⟩ := className_of_methodNamed hn
  obtain ⟨dk, cfile, nt, _, _, _, _, _, hd, hcf, hcp, -⟩ := hl.here
  have alike := hE.warmed.alike
  obtain ⟨dk₂, hdk₂, hres⟩ := hE.classReady
  obtain ⟨dk₃, hdk₃, hed⟩ := alike.2.2 _ _ hd
  cases hdk₂.symm.trans hdk₃
  obtain ⟨kr₂, hkr₂, her⟩ := alike.2.2 _ _ hkr
  obtain ⟨ck₂, hck₂, hec⟩ := alike.2.2 _ _ hck
  obtain ⟨mk₂, hmk₂, hem⟩ := alike.2.2 _ _ hmk
  refine ⟨T.vm.calledUp m.cls ci index cn r0, X.noted hE.warmed, fun target hrest => ?_⟩
  subst hg
  jvm_step X.here [hexec, hdg, Jvm.Op.invokevirtual.wp_coldUp (e := e) (s := T) (s₀ := s) (f := g) X.here.top X.warmed hE hd hcf (Or.inl hcp) hck hni]
  refine df_named (e := e) (s := T.setVm (T.vm.calledUp g.method.cls ci index cn r0)) (f := g) (r := r0) (m := m') (c' := cn) (k := kr₂) (k' := ck₂) (mk := mk₂) (rm := r) (mm := meth') (a := a) (as := argsL) (rest := rest) (cell := cell)
      X.here.top ⟨dk₂, cfile, ci, nt, hdk₂, by rw [hed]; exact hcf, Or.inl hcp, dk₂, hdk₂, hres⟩ hck₂ (by rw [hec]; exact hni) hE.ready hkr₂
      (by show (T.vm.calledUp g.method.cls ci index cn r0).method? r0 = some r; rw [alike.method?]; exact hrm)
      (by rw [her]; show signaturePolymorphic kr r = false; simp [signaturePolymorphic, hnr, howner.1, howner.2]) hstatic hlen hstack hcell hobj
      (by show selectMethod e.platform (T.vm.calledUp g.method.cls ci index cn r0) cell.cls r0 = .method m'; rw [alike.selectMethod]; exact hsel)
      (by show (T.vm.calledUp g.method.cls ci index cn r0).method? m' = some meth'; rw [alike.method?]; exact hm') habs hmk₂ (by rw [hem]; exact hitf) (dfN.moved alike hN) fun acts' => ?_
  intro acts2
  exact hrest _
end
/-- for an object of the class C a call of y lands in y, a default method -/
def dfP (C : String) (y : MethodName) (s : State) : Prop := ∃ c m rm mk, s.vm.findClass C = some c ∧ s.methodNamed? y = some m ∧ s.vm.method? m = some rm ∧ selectMethod {} s.vm c m = .method m ∧ s.vm.classes[m.cls]? = some mk ∧ mk.isInterface = true ∧ dfN s.vm c rm.name rm.desc m ∧ rm.isPrivate = false
theorem dfP.of {args : Array Value} {s : State} {C : String} {x y : MethodName} (h : (Cond.landsInDefault C x y).before args s = true) (hs : (Cond.sameMethod x.cls y.cls x.name x.desc).before args s = true) (hxy : x.name = y.name ∧ x.desc = y.desc) : dfP C y s := by
  obtain ⟨c2, r2, m2, rm2, ki, l1, l2, l3, l4, l5, l6, l7, l8, l9⟩ := df_spec h
  obtain ⟨cn', ck, r1, -, -, -, hf, hn1⟩ := Cond.sameMethod_found hs
  have hn : s.methodNamed? ⟨y.cls, x.name, x.desc⟩ = some m2 := by rw [hxy.1, hxy.2]; exact l3
  cases hn.symm.trans hn1
  cases hf.symm.trans l2
  exact ⟨c2, _, rm2, ki, l1, l3, l4, l5, l6, l7, l8, l9⟩
theorem dfP.moved {u U : State} (hvm : u.vm.Alike U.vm) {C : String} {y : MethodName} (h : dfP C y u) : dfP C y U := by
  obtain ⟨c, m, rm, mk, l1, l3, l4, l5, l6, l7, l8, l9⟩ := h
  obtain ⟨mk', hk', he⟩ := hvm.2.2 _ _ l6
  refine ⟨c, m, rm, mk', by rw [hvm.findClass]; exact l1, ?_, by rw [hvm.method?]; exact l4, by rw [hvm.selectMethod]; exact l5, hk', by rw [he]; exact l7, l8.moved hvm, l9⟩
  have h1 : (u.setVm U.vm).methodNamed? y = u.methodNamed? y := State.methodNamed?_setVm hvm y
  exact h1.trans l3
end XDF
