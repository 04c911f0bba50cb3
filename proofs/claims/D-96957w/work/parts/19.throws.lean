/-! METHODS THAT MAY THROW: contracts MetT, the judgement WX ('x is being thrown in the frame g'), calls of such methods; virtual calls of methods with handler tables -/
def FrameEndT (st t : State) (L : List Loc) (k n : Nat) : Prop := st.WarmedH t.vm ∧ st.sameButNew ({ t with vm := st.vm } : State) L k n
/-- what is made is counted where it throws: a return makes nothing -/
def tk (n : Nat) (o : Outcome) : Nat := match o with
  | .returned _ => 0
  | .threw _ => n
def MetT (l : Launch) (y : MethodName) (ws : List Cond) (rm : Room) (Pc : Array Value → State → Prop) (Qc : Array Value → State → Outcome → State → Prop) (mc ms : Nat) (free : Addr → Prop) : Prop :=
  MetFree l y (headSpec ws rm) Pc (fun _ _ _ _ _ => True) (fun a st o t => Qc a st o t ∧ ∃ L, FrameEndT st t L (tk mc o) (tk ms o) ∧ ∀ q ∈ L, free q.base)
def MQT (below : List Frame) (Qc : Array Value → State → Outcome → State → Prop) (a : Array Value) (s : State) (mc ms : Nat) (free : Addr → Prop) : State → Prop := fun t =>
  ∃ o, t.status = .running ∧ Ended t below o ∧ Qc a s o t ∧ ∃ L, FrameEndT s t L (tk mc o) (tk ms o) ∧ ∀ q ∈ L, free q.base
theorem MQ.toT {below : List Frame} {Qc : Array Value → State → Outcome → State → Prop} {a : Array Value} {s t : State} {mc ms : Nat} {free : Addr → Prop} (h : MQ below Qc a s 0 0 free t) : MQT below Qc a s mc ms free t := by
  obtain ⟨o, h1, h2, h3, L, ⟨⟨v, rfl⟩, h4, h6⟩, h5⟩ := h
  exact ⟨_, h1, h2, h3, L, ⟨h4, h6⟩, h5⟩
section TW
variable {p : Program} {l : Launch} {e : Env} {R : Room} {s : State} {m : MethodId} {args : Array Value} {below : List Frame} {meth : Method} {c : Code} {H : Heap} {locs : List Loc} {cells slots : Nat} {Q Q' : State → Prop}
theorem W.mono {g : JFrame} (h : ∀ t, Q t → Q' t) (k : W p l e R s m args below meth c H locs cells slots Q g) : W p l e R s m args below meth c H locs cells slots Q' g := by
  intro T hT X
  obtain ⟨t, a, b⟩ := k T hT X
  exact ⟨t, a, h t b⟩
/-- the machine throws x in the frame g -/
def WX (p : Program) (l : Launch) (e : Env) (R : Room) (s : State) (m : MethodId) (args : Array Value) (below : List Frame) (meth : Method) (c : Code) (H : Heap) (locs : List Loc) (cells slots : Nat) (Q : State → Prop) (g : JFrame) (x : Addr) : Prop :=
  ∀ T : State, T.heap = H → Stand p l e R s m args below meth c T locs cells slots → ∃ t, Steps p.tables e below ((T.setTop g).pushFrame (.throwing x)) t ∧ Q t
theorem WX.widen {g : JFrame} {x : Addr} {k n : Nat} (h1 : cells ≤ k) (h2 : slots ≤ n) (kk : WX p l e R s m args below meth c H locs k n Q g x) : WX p l e R s m args below meth c H locs cells slots Q g x := fun T hT X => kk T hT (stand_widen X h1 h2)
/-- athrow -/
theorem W.athrow {cc : ByteArray} (hexec : p.tables.exec = Jvm.exec) (hb : c.code = cc) {pc : Nat} {ls : Array Slot} {a : Addr} {rest : List Value} (hdg : decode cc pc = .ok (.athrow, 1))
    (kk : WX p l e R s m args below meth c H locs cells slots Q (F0 m pc ls rest) a) : W p l e R s m args below meth c H locs cells slots Q (F0 m pc ls (.ref a :: rest)) := by
  intro T hT X
  obtain ⟨t, a1, b1⟩ := kk T hT X
  refine ⟨t, ?_, b1⟩
  subst hb
  jvm_step X.here [hexec, hdg, athrow.wp_sem]
  exact a1
/-- no handler: the method ends -/
theorem WX.leave {Qc : Array Value → State → Outcome → State → Prop} {free : Addr → Prop} {pc : Nat} {ls : Array Slot} {rest : List Value} {x : Addr} (hlocks : meth.locks = false) (hout : ∀ h ∈ c.exceptionTable.toList, covers h pc = false)
    (hq : ∀ t : State, t.heap = H → s.WarmedH t.vm → Qc args s (.threw x) t) (hf : ∀ q ∈ locs, free q.base) : WX p l e R s m args below meth c H locs cells slots (MQT below Qc args s cells slots free) (F0 m pc ls rest) x := by
  intro T hT X
  obtain ⟨h1, h2, h3, h4, h5⟩ := X.leaveThrown x (g := F0 m pc ls rest) rfl rfl rfl hout
  exact ⟨_, h1, .threw x, h2, h3, hq _ hT h4, locs, ⟨h4, h5⟩, hf⟩
/-- a handler -/
theorem WX.caught {pc hpc : Nat} {ls : Array Slot} {rest : List Value} {x : Addr} (hfind : ∀ T : State, T.heap = H → Stand p l e R s m args below meth c T locs cells slots → Finds e ((T.setTop (F0 m pc ls rest)).pushFrame (.throwing x)) (F0 m pc ls rest) x (.found hpc))
    (kk : W p l e R s m args below meth c H locs cells slots Q (F0 m hpc ls [.ref x])) : WX p l e R s m args below meth c H locs cells slots Q (F0 m pc ls rest) x := by
  intro T hT X
  obtain ⟨t, a1, b1⟩ := kk T hT X
  exact ⟨t, Steps.caught (g := F0 m pc ls rest) X.here (hfind T hT X) a1, b1⟩
end TW
/-- a call that returns or throws -/
def va_RunT (p : Program) (l : Launch) (e : Env) (R : Room) (s : State) (m : MethodId) (args : Array Value) (below : List Frame) (meth : Method) (c : Code) (H : Heap) (locs : List Loc) (cells slots mc ms : Nat) (g : JFrame) (rest : List Value) (Qa : State → Outcome → State → Prop) (free : Addr → Prop) : Prop :=
  ∀ T : State, T.heap = H → Stand p l e R s m args below meth c T locs cells slots → ∃ (o : Outcome) (st₀ t T' : State) (L : List Loc), st₀.heap = H ∧ Stand p l e R s m args below meth c T' (locs ++ L) (cells + tk mc o) (slots + tk ms o) ∧ (∀ q ∈ L, free q.base) ∧ T'.heap = t.heap ∧ T'.vm = t.vm ∧ Qa st₀ o t ∧
    ((∃ v, o = .returned v ∧ Goes p e below T g T' { g with pc := g.pc + 3, stack := v.toList ++ rest }) ∨ (∃ x, o = .threw x ∧ ∀ tg, Steps p.tables e below ((T'.setTop { g with stack := rest }).pushFrame (.throwing x)) tg → Steps p.tables e below (T.setTop g) tg))
section TB
variable {l : Launch} {R : Room} {p : Program} {e : Env} {below : List Frame} {s : State} {sargs : Array Value} {y : MethodName} {len : Nat}
/-- the callee's contract, at a point of the walk -/
theorem x_backT {ws : List Cond} {rm : Room} {Pc : Array Value → State → Prop} {Qc : Array Value → State → Outcome → State → Prop} {mc ms : Nat} {free : Addr → Prop} {bytes : ByteArray} {maxL : Nat} {ret : Option FieldType}
    (hM : MetT l y ws rm Pc Qc mc ms free) (hblind : FrameBlind Pc) (hrc : rm.cells = mc) (hrs : rm.slots = ms)
    (hframes : rm.frames + 1 ≤ R.frames) (hlocals : 8 + (maxL + 11) + rm.locals ≤ R.locals)
    (hws : ∀ w ∈ ws, ∀ a' U, s.WarmedH U.vm → w.before a' U = true) (hcode : Cond.code y bytes maxL ret ∈ ws) (hinit : ∀ a' U, s.WarmedH U.vm → (Cond.initialized y.cls).before a' U = true)
    {m : MethodId} {meth : Method} {c : Code} {U : State} {Ls : List Loc} {c0 s0 : Nat} {g : JFrame} {ig : Instr} {mk : MethodId} {a : Array Value}
    (X : Stand p l e R s m sargs below meth c U Ls c0 s0) (hg : g.method = m) (hsize : g.locals.size = c.maxLocals) (hdg : decode c.code g.pc = .ok (ig, len)) (hW : 2 * g.monitorRoom + (g.stack.map fun v => v.category).sum ≤ 8) (hn : U.methodNamed? y = some mk) (hc1 : c0 + mc ≤ R.cells) (hs1 : s0 + ms ≤ R.slots) (hp : Pc a U) :
    ∃ (o : Outcome) (t T' : State) (L : List Loc), Stand p l e R s m sargs below meth c T' (Ls ++ L) (c0 + tk mc o) (s0 + tk ms o) ∧ (∀ q ∈ L, free q.base) ∧ T'.heap = t.heap ∧ T'.vm = t.vm ∧ Qc a (U.calling g mk a) o t ∧
      ((∃ v, o = .returned v ∧ Steps p.tables e below (doInvoke e (U.setTop g) [] mk a).1 (T'.setTop { g with pc := g.pc + len, stack := v.toList ++ g.stack })) ∨ (∃ x, o = .threw x ∧ Steps p.tables e below (doInvoke e (U.setTop g) [] mk a).1 ((T'.setTop g).pushFrame (.throwing x)))) := by
  have h2 := hws _ hcode a U X.warmed
  obtain ⟨methY, cY, hmY, hcY, -, hlY, -⟩ := Cond.code_spec hn h2
  obtain ⟨kY, hkY, -⟩ := className_of_methodNamed hn
  have hinitY : kY.init = .initialized := Cond.initialized_spec (findClass_of_methodNamed hn) hkY (hinit a U X.warmed)
  have h : At U g.method c below := by rw [hg]; exact X.here
  have happ : (headSpec ws rm).appliesLoose y e.platform (U.calling g mk a) = true :=
    Spec.appliesLoose_calling (g := g) h hdg hn hkY hinitY
      (X.room_calling (g := g) (R' := (headSpec ws rm).room) hsize hmY hcY hframes (by rw [hlY]; show _ + _ + rm.locals ≤ _; omega) (by show c0 + rm.cells ≤ _; omega) (by show s0 + rm.slots ≤ _; omega)) (atoms_intro fun w hw => hws w hw _ _ X.warmed)
  obtain ⟨mid, hmid⟩ := h.above
  have hfr : (U.setTop g).frames = (.java g :: mid) ++ below := by rw [State.frames_setTop' g h.top, hmid]; rfl
  obtain ⟨o, s₂, hsteps, -, hend, hq⟩ := Steps.callFree hM p X.admits X.cas X.clock (acts := []) hfr happ (hblind _ _ _ _ hp) trivial
  have hq' : Qc a (U.calling g mk a) o s₂ ∧ ∃ L, FrameEndT (U.calling g mk a) s₂ L (tk mc o) (tk ms o) ∧ ∀ q ∈ L, free q.base := hq
  obtain ⟨hqc, L, hfe, hL⟩ := hq'
  rw [State.frames_setTop' g h.top] at hend
  cases o with
  | threw x =>
    have hend' : Ended s₂ (.java g :: below) (.threw x) := by rw [← X.tail]; exact hend
    obtain ⟨T', hS', hW', hsm, ht⟩ := X.outOfThrown hg (mk := mk) (a := a) hend' hfe.1 hfe.2
    subst hg
    refine ⟨.threw x, s₂, T', L, hS', hL, ?_, ?_, hqc, Or.inr ⟨x, rfl, ?_⟩⟩
    · rw [ht]; rfl
    · rw [ht]; rfl
    · rw [← ht]; exact hsteps
  | returned v =>
    obtain ⟨hW₂, e2, q2, q3, q4, q5, q6⟩ := id hfe
    have e3 : s₂ = ({ (U.calling g mk a).setFrames s₂.frames with heap := s₂.heap, slotsUsed := s₂.slotsUsed } : State).setVm s₂.vm := by
      have : s₂ = ({ s₂ with vm := (U.calling g mk a).vm } : State).setVm s₂.vm := rfl
      rw [e2] at this
      exact this
    obtain ⟨c₂, i₂, len₂, hc₂, hd₂, hf₂⟩ := hend
    have hW' : U.WarmedH s₂.vm := hW₂
    have hcc : c₂ = c := by
      have h1 : s₂.code? g.method = U.code? g.method := by
        rw [State.code?_eq, State.code?_eq, hW'.alike.method?]
      exact Option.some.inj (hc₂.symm.trans (h1.trans h.code))
    subst hcc
    have hlen : len₂ = len := by rw [hdg] at hd₂; cases hd₂; rfl
    subst hlen
    obtain ⟨g₀, hg0⟩ := Option.isSome_iff_exists.mp h.top
    obtain ⟨r, hr⟩ := State.topJava?_eq_some.mp hg0
    have hs₂ : s₂ = (({ U with heap := s₂.heap, slotsUsed := s₂.slotsUsed } : State).setVm s₂.vm).setTop { g with pc := g.pc + len₂, stack := v.toList ++ g.stack } := by
      have hr' : (({ U with heap := s₂.heap, slotsUsed := s₂.slotsUsed } : State).setVm s₂.vm).frames = .java g₀ :: r := hr
      refine e3.trans ?_
      rw [hf₂, State.calling_eq h.top, State.setFrames_setFrames, State.setTop_of_frames _ hr', hr]
      rfl
    have hsame : U.sameButNew ({ U with heap := s₂.heap, slotsUsed := s₂.slotsUsed } : State) L 0 0 := by
      refine ⟨?_, q2, q3, q4, q5, q6⟩
      obtain ⟨t, ht, -⟩ := State.frames_cons hr
      show ({ U with heap := s₂.heap, slotsUsed := s₂.slotsUsed } : State) = { U.setFrames U.frames with heap := s₂.heap, slotsUsed := s₂.slotsUsed }
      rw [State.setFrames_self ht]
    subst hg
    refine ⟨.returned v, s₂, (({ U with heap := s₂.heap, slotsUsed := s₂.slotsUsed } : State).setVm s₂.vm), L,
      ⟨X.admits, X.cas, X.clock, X.frames, X.room, X.hears, X.method, X.code, (X.here.setHeapUsed s₂.heap s₂.slotsUsed).setVm hW'.alike, X.tail, State.WarmedH.trans X.warmed hW', X.limits, X.bytes, X.same.trans (hsame.setVm s.vm)⟩, hL, rfl, rfl, hqc, Or.inl ⟨v, rfl, ?_⟩⟩
    rw [← hs₂]
    exact hsteps
end TB
section TV
variable {p : Program} {l : Launch} {e : Env} {R : Room} {s : State} {m : MethodId} {args : Array Value} {below : List Frame} {meth : Method} {c : Code} {T : State} {H : Heap} {locs : List Loc} {cells slots : Nat}
/-- a virtual call, up to the callee's invocation -/
theorem x_invV (X : Stand p l e R s m args below meth c T locs cells slots) (hexec : p.tables.exec = Jvm.exec) {own C : String} {index : Nat} {y : MethodName}
    (hown : s.vm.findClass own = some m.cls) (hlink : (Cond.methodLink own index y).before args s = true) (hinst : (Cond.instanceMethod y).before args s = true) (hsel : (Cond.selects C y y).before args s = true)
    (hy : y.cls ≠ "java/lang/invoke/MethodHandle" ∧ y.cls ≠ "java/lang/invoke/VarHandle") (hsg : ∀ (mk : MethodId) (mm : Method), s.methodNamed? y = some mk → s.vm.method? mk = some mm → parseMethodDescriptor y.desc = some mm.sig)
    {b : Addr} {cellB : Cell} (hcell : T.heap[b]? = some cellB) (hobj : cellB.vm.isStatics = false) (hcls : s.vm.findClass C = some cellB.cls)
    {g : JFrame} (hg : g.method = m) {argsL rest : List Value} (hlen : ∀ sig, parseMethodDescriptor y.desc = some sig → argsL.length = sig.parameters.length)
    (hstack : g.stack = argsL.reverse ++ .ref b :: rest) (hdg : decode c.code g.pc = .ok (.invokevirtual index, 3)) :
    ∃ (mk : MethodId) (vm₁ : Vm), s.methodNamed? y = some mk ∧ s.WarmedH vm₁ ∧ Stand p l e R s m args below meth c (T.setVm vm₁) locs cells slots ∧ (T.setVm vm₁).methodNamed? y = some mk ∧
      ∀ target, Steps p.tables e below (doInvoke e ((T.setVm vm₁).setTop { g with stack := rest }) [] mk (Value.ref b :: argsL).toArray).1 target → Steps p.tables e below (T.setTop g) target := by
  obtain ⟨mk, methM, hnamed, hmethM, hstM, habM⟩ := Cond.instanceMethod_spec hinst
  have hsigM := hsg mk methM hnamed hmethM
  obtain ⟨c2, r2, m2, q1, q2, q3, q4, kP, hkP, hkPi⟩ := Cond.selects_spec hsel
  cases hcls.symm.trans q1
  cases (State.methodFound?_of_named hnamed hy).symm.trans q2
  cases hnamed.symm.trans q3
  have hselP : selectMethod e.platform s.vm cellB.cls mk = .method mk := by rw [Launch.admits_selectMethod X.admits]; exact q4
  obtain ⟨vm₁, X₁, hstep₁⟩ := X.invokevirtual hexec hown hlink hnamed hmethM hstM hkP hkPi hy (a := b) (cell := cellB) hcell
    (fun z h => by rw [h] at hobj; cases hobj) hselP hmethM habM hkP hkPi (g := g) hg (argsL := argsL) (rest := rest) (hlen _ hsigM) hstack hdg
  exact ⟨mk, vm₁, hnamed, X₁.warmed, X₁, X₁.named hnamed, fun target h => hstep₁ _ fun acts => by rw [doInvoke_state]; exact h⟩
/-- a virtual call of a method that may throw -/
theorem x_runVT {y : MethodName} {bytes cc : ByteArray} {maxL nL mc ms n index : Nat} {ret : Option FieldType} {ws : List Cond} {rm : Room} {Pc : Array Value → State → Prop} {Qc : Array Value → State → Outcome → State → Prop} {free : Addr → Prop} {Ts : List Cond} {own C : String} {b : Addr} {As rest : List Value} {g : JFrame}
    (S : CallFix p m c cc nL s args Ts own) (hM : MetT l y ws rm Pc Qc mc ms free) (cw : CallW R s args own C index y bytes maxL ret ws rm mc ms n) (hp : PreV s H C b Pc As)
    (hg : g.method = m) (hn : As.length = n) (hsize : g.locals.size = nL) (hstack : g.stack = As.reverse ++ .ref b :: rest) (hW : 2 * g.monitorRoom + (rest.map fun v => v.category).sum ≤ 8) (hdg : decode cc g.pc = .ok (.invokevirtual index, 3)) (hf : cells + mc ≤ R.cells ∧ slots + ms ≤ R.slots) :
    va_RunT p l e R s m args below meth c H locs cells slots mc ms g rest (Qc (Value.ref b :: As).toArray) free := by
  obtain ⟨⟨hrc, hrs, hfr, hlo, hws, hcw, hcode, hini, hy, hlen, hl⟩, hin, hse⟩ := cw
  obtain ⟨hx, hb, hml, ho, -⟩ := S
  obtain ⟨hbl, ⟨cellB, hcB, hoB, hclB⟩, hPc⟩ := hp
  intro T hT X
  obtain ⟨mk, vm₁, hnm, hWm, X₁, hn1, st⟩ := x_invV X hx (C := C) ho hl hin hse hy (fun mk mm h1 h2 => by
    obtain ⟨mm2, cM, h3, -, -, -, -, -, -, h4⟩ := Cond.code_spec h1 hcode
    cases h2.symm.trans h3
    exact h4) (by rw [hT]; exact hcB) hoB hclB hg (argsL := As) (rest := rest) (fun sig h => hn.trans (hlen sig h)) hstack (by rw [hb]; exact hdg)
  obtain ⟨o, t, T', L, X', hL, e1, e2, hq, hend⟩ := x_backT (len := 3) (g := { g with stack := rest }) (mk := mk) (a := (Value.ref b :: As).toArray) (bytes := bytes) (maxL := maxL) (ret := ret) hM hbl hrc hrs hfr hlo hws hcw
    (fun a' U hW => word_at hW (Or.inl (by first | rfl | simp [Cond.onTables, Cond.keeps, Cond.steady])) hini) X₁ hg (hsize.trans hml.symm) (by rw [hb]; exact hdg) hW hn1 hf.1 hf.2 (hPc (T.setVm vm₁) hT hWm)
  refine ⟨o, (T.setVm vm₁).calling { g with stack := rest } mk (Value.ref b :: As).toArray, t, T', L, hT, X', hL, e1, e2, hq, ?_⟩
  rcases hend with ⟨v, ho, hst⟩ | ⟨x, ho, hst⟩
  · exact Or.inl ⟨v, ho, fun tg h => st tg (hst.trans h)⟩
  · exact Or.inr ⟨x, ho, fun tg h => st tg (hst.trans h)⟩
/-- a virtual call of a method with a handler table, that returns -/
theorem x_runVW {y : MethodName} {bytes cc : ByteArray} {maxL nL mc ms n index : Nat} {ret : Option FieldType} {hh : List (Nat × Nat × Nat × Nat)} {rm : Room} {Pc : Array Value → State → Prop} {Qc : Array Value → State → Outcome → State → Prop} {free : Addr → Prop} {own C : String} {b : Addr} {As rest : List Value} {g : JFrame}
    (S : CallFix p m c cc nL s args lw_all own) (hM : Met l y (wsW_ y bytes maxL ret hh) rm Pc Qc mc ms free) (hrc : rm.cells = mc) (hrs : rm.slots = ms) (hR : rm.frames + 1 ≤ R.frames ∧ 8 + (maxL + 11) + rm.locals ≤ R.locals)
    (q1 : (Cond.methodLink own index y).before args s = true) (q2 : (Cond.instanceMethod y).before args s = true) (q3 : (Cond.selects C y y).before args s = true) (q4 : (Cond.initialized y.cls).before args s = true) (q5 : Cond.codeWith y bytes maxL ret hh ∈ lw_all)
    (hd : y.cls ≠ "java/lang/invoke/MethodHandle" ∧ y.cls ≠ "java/lang/invoke/VarHandle" ∧ (parseMethodDescriptor y.desc).map (fun d => d.parameters.length) = some n) (hp : PreV s H C b Pc As)
    (hg : g.method = m) (hn : As.length = n) (hsize : g.locals.size = nL) (hstack : g.stack = As.reverse ++ .ref b :: rest) (hW : 2 * g.monitorRoom + (rest.map fun v => v.category).sum ≤ 8) (hdg : decode cc g.pc = .ok (.invokevirtual index, 3)) (hf : cells + mc ≤ R.cells ∧ slots + ms ≤ R.slots) :
    va_Run p l e R s m args below meth c H locs cells slots mc ms g rest (Qc (Value.ref b :: As).toArray) free := by
  obtain ⟨hx, hb, hml, ho, hts⟩ := S
  have hK : Back l R p e below s args y 3 8 (PreOf R mc ms Pc) (PostOf Qc mc ms free) := va_backW (hh := hh) (bytes := bytes) (maxL := maxL) (ret := ret) hM hp.1 hrc hrs hR.1 hR.2 (pay_in hts (lw_methW q5)) List.mem_cons_self (fun a' U hW => word_at hW (Or.inl (by first | rfl | simp [Cond.onTables, Cond.keeps, Cond.steady])) q4)
  obtain ⟨-, ⟨cellB, hcB, hoB, hclB⟩, hPc⟩ := hp
  intro T hT X
  obtain ⟨mk, vm₁, hnm, hWm, X₁, hn1, st⟩ := x_invV X hx (C := C) ho q1 q2 q3 ⟨hd.1, hd.2.1⟩ (fun mk mm h1 h2 => by
    obtain ⟨m9, mm2, cM, h0, h3, -, -, -, -, -, -, h4⟩ := Cond.codeWith_spec (hts _ q5)
    cases h1.symm.trans h0
    cases h2.symm.trans h3
    exact h4) (by rw [hT]; exact hcB) hoB hclB hg (argsL := As) (rest := rest) (fun sig h => hn.trans (by
      have h2 := hd.2.2
      rw [h] at h2
      exact (Option.some.inj h2).symm)) hstack (by rw [hb]; exact hdg)
  obtain ⟨v, ⟨U', l2, c2, s2⟩, X', ⟨g', mk', t, L, e1, e2, hq, h1, hL, h2, h3⟩, hsteps⟩ := hK m meth c ⟨T.setVm vm₁, locs, cells, slots⟩ { g with stack := rest } (.invokevirtual index) mk (Value.ref b :: As).toArray X₁ hg (hsize.trans hml.symm) (by rw [hb]; exact hdg) hW hn1 ⟨hf.1, hf.2, hPc (T.setVm vm₁) hT hWm⟩
  dsimp only [Pt.U, Pt.locs, Pt.cells, Pt.slots] at X' e1 e2 h1 h2 h3 hsteps
  subst h1; subst h2; subst h3
  exact ⟨v, (T.setVm vm₁).calling g' mk' (Value.ref b :: As).toArray, t, U', L, hT, X', hL, e1, e2, hq, fun tg h => st tg (hsteps.trans h)⟩
end TV
