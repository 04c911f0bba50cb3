/-! CALLS THAT LAND IN A DEFAULT METHOD, or in one that overrides it; calls of methods that may throw, by classes above -/
section XDW
variable {s : State} {args : Array Value} {D : va_G} {cA : Nat → ClassId} {A : Nat → Prop}
theorem dw0 (hK : xK D cA A s) : (Jvm.Cond.methodLink "PictureBlock" (333 : Nat) ({ cls := "PictureBlock$Mark", name := "says", desc := "(ILPictureBlock$Trace;)I" } : Jvm.MethodName)).before args s = true := va_Nw.use rfl (hK.2.2.2.2.2.2.2.2.1.1 _ (List.mem_of_getElem? (i := 0) rfl))
theorem dw1 (hK : xK D cA A s) : (Jvm.Cond.sameMethod "PictureBlock$Mark" "PictureBlock$Weighs" "says" "(ILPictureBlock$Trace;)I").before args s = true := va_Nw.use rfl (hK.2.2.2.2.2.2.2.2.1.1 _ (List.mem_of_getElem? (i := 1) rfl))
theorem dw2 (hK : xK D cA A s) : (Jvm.Cond.methodLink "PictureBlock$Star" (35 : Nat) ({ cls := "PictureBlock$Mark", name := "says", desc := "(ILPictureBlock$Trace;)I" } : Jvm.MethodName)).before args s = true := va_Nw.use rfl (hK.2.2.2.2.2.2.2.2.1.1 _ (List.mem_of_getElem? (i := 2) rfl))
theorem dw3 (hK : xK D cA A s) : (Jvm.Cond.methodLink "PictureBlock$Shore" (38 : Nat) ({ cls := "PictureBlock$Mark", name := "says", desc := "(ILPictureBlock$Trace;)I" } : Jvm.MethodName)).before args s = true := va_Nw.use rfl (hK.2.2.2.2.2.2.2.2.1.1 _ (List.mem_of_getElem? (i := 3) rfl))
theorem dw4 (hK : xK D cA A s) : (Jvm.Cond.methodLink "PictureBlock$Mark" (28 : Nat) ({ cls := "PictureBlock$Mark", name := "says", desc := "(ILPictureBlock$Trace;)I" } : Jvm.MethodName)).before args s = true := va_Nw.use rfl (hK.2.2.2.2.2.2.2.2.1.1 _ (List.mem_of_getElem? (i := 4) rfl))
theorem dw5 (hK : xK D cA A s) : (Jvm.Cond.methodLink "PictureBlock$Flat" (30 : Nat) ({ cls := "PictureBlock$Flat", name := "says", desc := "(ILPictureBlock$Trace;)I" } : Jvm.MethodName)).before args s = true := va_Nw.use rfl (hK.2.2.2.2.2.2.2.2.1.1 _ (List.mem_of_getElem? (i := 5) rfl))
theorem dw6 (hK : xK D cA A s) : (Jvm.Cond.sameMethod "PictureBlock$Flat" "PictureBlock$Weighs" "says" "(ILPictureBlock$Trace;)I").before args s = true := va_Nw.use rfl (hK.2.2.2.2.2.2.2.2.1.1 _ (List.mem_of_getElem? (i := 6) rfl))
theorem xdfP (hK : xK D cA A s) {C : String} (h : C ∈ dfL) : dfP C yX15_says s := hK.2.2.2.2.2.2.2.2.1.2 C h
end XDW
section XUO
variable {p : Program} {l : Launch} {e : Env} {R : Room} {s : State} {m : MethodId} {args : Array Value} {below : List Frame} {meth : Method} {c : Code} {T : State} {H : Heap} {locs : List Loc} {cells slots : Nat}
theorem x_invU (X : Stand p l e R s m args below meth c T locs cells slots) (hexec : p.tables.exec = Jvm.exec) {own C owner : String} {index : Nat} {x y : MethodName}
    (hown : s.vm.findClass own = some m.cls) (hlink : (Cond.methodLink own index x).before args s = true) (hsame : (Cond.sameMethod x.cls owner x.name x.desc).before args s = true) (hd0 : va_Decl s ⟨owner, x.name, x.desc⟩) (howner : owner ≠ "java/lang/invoke/MethodHandle" ∧ owner ≠ "java/lang/invoke/VarHandle")
    (hsel : (Cond.selects C ⟨owner, x.name, x.desc⟩ y).before args s = true) (hinst : (Cond.instanceMethod y).before args s = true)
    {b : Addr} {cellB : Cell} (hcell : T.heap[b]? = some cellB) (hobj : cellB.vm.isStatics = false) (hcls : s.vm.findClass C = some cellB.cls)
    {g : JFrame} (hg : g.method = m) {argsL rest : List Value} (hlen : ∀ sig, parseMethodDescriptor x.desc = some sig → argsL.length = sig.parameters.length)
    (hstack : g.stack = argsL.reverse ++ .ref b :: rest) (hdg : decode c.code g.pc = .ok (.invokevirtual index, 3)) :
    ∃ (mk : MethodId) (vm₁ : Vm), s.methodNamed? y = some mk ∧ s.WarmedH vm₁ ∧ Stand p l e R s m args below meth c (T.setVm vm₁) locs cells slots ∧ (T.setVm vm₁).methodNamed? y = some mk ∧
      ∀ target, Steps p.tables e below (doInvoke e ((T.setVm vm₁).setTop { g with stack := rest }) [] mk (Value.ref b :: argsL).toArray).1 target → Steps p.tables e below (T.setTop g) target := by
  obtain ⟨r0, r, hn, hrm, hstR, hsigR⟩ := hd0
  obtain ⟨mk, methM, hnamed, hmethM, -, habM⟩ := Cond.instanceMethod_spec hinst
  obtain ⟨c2, r2, m2, q1, q2, q3, q4, kP, hkP, hkPi⟩ := Cond.selects_spec hsel
  cases hcls.symm.trans q1
  cases (State.methodFound?_of_named hn howner).symm.trans q2
  cases hnamed.symm.trans q3
  have hselP : selectMethod e.platform s.vm cellB.cls r0 = .method mk := by rw [Launch.admits_selectMethod X.admits]; exact q4
  obtain ⟨vm₁, X₁, hstep₁⟩ := X.invokevirtualUp hexec hown hlink hsame howner hn hrm hstR (a := b) (cell := cellB) hcell
    (fun z h => by rw [h] at hobj; cases hobj) hselP hmethM habM hkP hkPi (g := g) hg (argsL := argsL) (rest := rest) (hlen _ hsigR) hstack hdg
  exact ⟨mk, vm₁, hnamed, X₁.warmed, X₁, X₁.named hnamed, fun target h => hstep₁ _ fun acts => by rw [doInvoke_state]; exact h⟩
theorem x_runUO {x y : MethodName} {bytes cc : ByteArray} {maxL nL mc ms n index : Nat} {ret : Option FieldType} {ws ws' : List Cond} {rm : Room} {Pc : Array Value → State → Prop} {Qc : Array Value → State → Outcome → State → Prop} {free : Addr → Prop} {own C owner : String} {b : Addr} {As rest : List Value} {g : JFrame}
    (S : CallFix p m c cc nL s args lw_all own) (hM : Met l y ws rm Pc Qc mc ms free) (hw : ws = Cond.code y bytes maxL ret :: ws') (hG : GoodIn lw_all ws) (hrc : rm.cells = mc) (hrs : rm.slots = ms)
    (q1 : (Cond.methodLink own index x).before args s = true) (q2 : (Cond.sameMethod x.cls owner x.name x.desc).before args s = true) (q3 : va_Decl s ⟨owner, x.name, x.desc⟩) (q4 : (Cond.selects C ⟨owner, x.name, x.desc⟩ y).before args s = true) (hd : owner ≠ "java/lang/invoke/MethodHandle" ∧ owner ≠ "java/lang/invoke/VarHandle" ∧ (parseMethodDescriptor x.desc).map (fun d => d.parameters.length) = some n) (q5 : (Cond.instanceMethod y).before args s = true) (q6 : (Cond.initialized y.cls).before args s = true)
    (hR : rm.frames + 1 ≤ R.frames ∧ 8 + (maxL + 11) + rm.locals ≤ R.locals) (hp : PreV s H C b Pc As)
    (hg : g.method = m) (hn : As.length = n) (hsize : g.locals.size = nL) (hstack : g.stack = As.reverse ++ .ref b :: rest) (hW : 2 * g.monitorRoom + (rest.map fun v => v.category).sum ≤ 8) (hdg : decode cc g.pc = .ok (.invokevirtual index, 3)) (hf : cells + mc ≤ R.cells ∧ slots + ms ≤ R.slots) :
    va_Run p l e R s m args below meth c H locs cells slots mc ms g rest (Qc (Value.ref b :: As).toArray) (free) := by
  have hc : Cond.code y bytes maxL ret ∈ ws := by rw [hw]; exact List.mem_cons_self
  obtain ⟨hx, hb, hml, ho, hts⟩ := S
  have hK : Back l R p e below s args y 3 8 (PreOf R mc ms Pc) (PostOf Qc mc ms free) := back_of (bytes := bytes) (maxL := maxL) (ret := ret) hM hp.1 hrc hrs hR.1 hR.2 (pay_in hts hG) hc (fun a' U hW => word_at hW (Or.inl (by first | rfl | simp [Cond.onTables, Cond.keeps, Cond.steady])) q6)
  obtain ⟨-, ⟨cellB, hcB, hoB, hclB⟩, hPc⟩ := hp
  intro T hT X
  obtain ⟨mk, vm₁, hnm, hWm, X₁, hn1, st⟩ := x_invU X hx (C := C) (owner := owner) ho q1 q2 q3 ⟨hd.1, hd.2.1⟩ q4 q5 (by rw [hT]; exact hcB) hoB hclB hg (argsL := As) (rest := rest) (fun sig h => hn.trans (by
      have h2 := hd.2.2
      rw [h] at h2
      exact (Option.some.inj h2).symm)) hstack (by rw [hb]; exact hdg)
  obtain ⟨v, ⟨U', l2, c2, s2⟩, X', ⟨g', mk', t, L, e1, e2, hq, h1, hL, h2, h3⟩, hsteps⟩ := hK m meth c ⟨T.setVm vm₁, locs, cells, slots⟩ { g with stack := rest } (.invokevirtual index) mk (Value.ref b :: As).toArray X₁ hg (hsize.trans hml.symm) (by rw [hb]; exact hdg) hW hn1 ⟨hf.1, hf.2, hPc (T.setVm vm₁) hT hWm⟩
  dsimp only [Pt.U, Pt.locs, Pt.cells, Pt.slots] at X' e1 e2 h1 h2 h3 hsteps
  subst h1; subst h2; subst h3
  exact ⟨v, (T.setVm vm₁).calling g' mk' (Value.ref b :: As).toArray, t, U', L, hT, X', hL, e1, e2, hq, fun tg h => st tg (hsteps.trans h)⟩
theorem x_runUT {x y : MethodName} {bytes cc : ByteArray} {maxL nL mc ms n index : Nat} {ret : Option FieldType} {ws ws' : List Cond} {rm : Room} {Pc : Array Value → State → Prop} {Qc : Array Value → State → Outcome → State → Prop} {free : Addr → Prop} {own C owner : String} {b : Addr} {As rest : List Value} {g : JFrame}
    (S : CallFix p m c cc nL s args lw_all own) (hM : MetT l y ws rm Pc Qc mc ms free) (hw : ws = Cond.code y bytes maxL ret :: ws') (hG : GoodIn lw_all ws) (hrc : rm.cells = mc) (hrs : rm.slots = ms)
    (q1 : (Cond.methodLink own index x).before args s = true) (q2 : (Cond.sameMethod x.cls owner x.name x.desc).before args s = true) (q3 : va_Decl s ⟨owner, x.name, x.desc⟩) (q4 : (Cond.selects C ⟨owner, x.name, x.desc⟩ y).before args s = true) (hd : owner ≠ "java/lang/invoke/MethodHandle" ∧ owner ≠ "java/lang/invoke/VarHandle" ∧ (parseMethodDescriptor x.desc).map (fun d => d.parameters.length) = some n) (q5 : (Cond.instanceMethod y).before args s = true) (q6 : (Cond.initialized y.cls).before args s = true)
    (hR : rm.frames + 1 ≤ R.frames ∧ 8 + (maxL + 11) + rm.locals ≤ R.locals) (hp : PreV s H C b Pc As)
    (hg : g.method = m) (hn : As.length = n) (hsize : g.locals.size = nL) (hstack : g.stack = As.reverse ++ .ref b :: rest) (hW : 2 * g.monitorRoom + (rest.map fun v => v.category).sum ≤ 8) (hdg : decode cc g.pc = .ok (.invokevirtual index, 3)) (hf : cells + mc ≤ R.cells ∧ slots + ms ≤ R.slots) :
    va_RunT p l e R s m args below meth c H locs cells slots mc ms g rest (Qc (Value.ref b :: As).toArray) free := by
  have hc : Cond.code y bytes maxL ret ∈ ws := by rw [hw]; exact List.mem_cons_self
  obtain ⟨hx, hb, hml, ho, hts⟩ := S
  obtain ⟨hbl, ⟨cellB, hcB, hoB, hclB⟩, hPc⟩ := hp
  intro T hT X
  obtain ⟨mk, vm₁, hnm, hWm, X₁, hn1, st⟩ := x_invU X hx (C := C) (owner := owner) ho q1 q2 q3 ⟨hd.1, hd.2.1⟩ q4 q5 (by rw [hT]; exact hcB) hoB hclB hg (argsL := As) (rest := rest) (fun sig h => hn.trans (by
      have h2 := hd.2.2
      rw [h] at h2
      exact (Option.some.inj h2).symm)) hstack (by rw [hb]; exact hdg)
  obtain ⟨o, t, T', L, X', hL, e1, e2, hq, hend⟩ := x_backT (len := 3) (g := { g with stack := rest }) (mk := mk) (a := (Value.ref b :: As).toArray) (bytes := bytes) (maxL := maxL) (ret := ret) hM hbl hrc hrs hR.1 hR.2 (pay_in hts hG) hc
    (fun a' U hW => word_at hW (Or.inl (by first | rfl | simp [Cond.onTables, Cond.keeps, Cond.steady])) q6) X₁ hg (hsize.trans hml.symm) (by rw [hb]; exact hdg) hW hn1 hf.1 hf.2 (hPc (T.setVm vm₁) hT hWm)
  refine ⟨o, (T.setVm vm₁).calling { g with stack := rest } mk (Value.ref b :: As).toArray, t, T', L, hT, X', hL, e1, e2, hq, ?_⟩
  rcases hend with ⟨v, ho, hst⟩ | ⟨x, ho, hst⟩
  · exact Or.inl ⟨v, ho, fun tg h => st tg (hst.trans h)⟩
  · exact Or.inr ⟨x, ho, fun tg h => st tg (hst.trans h)⟩
/-- super.m(..), m may throw -/
theorem x_runST {x y : MethodName} {bytes cc : ByteArray} {maxL nL mc ms n index : Nat} {ret : Option FieldType} {ws ws' : List Cond} {rm : Room} {Pc : Array Value → State → Prop} {Qc : Array Value → State → Outcome → State → Prop} {free : Addr → Prop} {own C : String} {cC : ClassId} {b : Addr} {As rest : List Value} {g : JFrame}
    (hat : ClassAt s C cC) (S : CallFix p m c cc nL s args lw_all own) (hM : MetT l y ws rm Pc Qc mc ms free) (hw : ws = Cond.code y bytes maxL ret :: ws') (hG : GoodIn lw_all ws) (hrc : rm.cells = mc) (hrs : rm.slots = ms)
    (q1 : (Cond.methodLink own index x).before args s = true) (q2 : (Cond.sameMethod x.cls y.cls x.name x.desc).before args s = true) (q3 : (Cond.superclass own x.cls).before args s = true) (q4 : x.cls = y.cls) (hxy : x.name = y.name ∧ x.desc = y.desc) (q5 : (Cond.instanceMethod y).before args s = true) (q6 : (Cond.initialized y.cls).before args s = true)
    (hd : y.name ≠ "<init>" ∧ (parseMethodDescriptor y.desc).map (fun d => d.parameters.length) = some n) (hR : rm.frames + 1 ≤ R.frames ∧ 8 + (maxL + 11) + rm.locals ≤ R.locals) (hp : PreV s H C b Pc As)
    (hg : g.method = m) (hn : As.length = n) (hsize : g.locals.size = nL) (hstack : g.stack = As.reverse ++ .ref b :: rest) (hW : 2 * g.monitorRoom + (rest.map fun v => v.category).sum ≤ 8) (hdg : decode cc g.pc = .ok (.invokespecial index, 3)) (hf : cells + mc ≤ R.cells ∧ slots + ms ≤ R.slots) :
    va_RunT p l e R s m args below meth c H locs cells slots mc ms g rest (Qc (Value.ref b :: As).toArray) free := by
  have hc : Cond.code y bytes maxL ret ∈ ws := by rw [hw]; exact List.mem_cons_self
  obtain ⟨hx, hb, hml, ho, hts⟩ := S
  have hcode := hts _ (hG _ hc).1
  obtain ⟨hbl, ⟨cellB, hcB, hoB, hclB⟩, hPc⟩ := hp
  obtain ⟨hfc, kB, hkB, -⟩ := hat
  cases hfc.symm.trans hclB
  have hlen : ∀ sig, parseMethodDescriptor y.desc = some sig → n = sig.parameters.length := fun sig h => by
    have h2 := hd.2
    rw [h] at h2
    exact (Option.some.inj h2).symm
  intro T hT X
  obtain ⟨mk, methM, hnamed, hmethM, hstM, habM⟩ := Cond.instanceMethod_spec q5
  obtain ⟨methM', cM, hmethM', -, -, -, -, -, -, hsigM⟩ := Cond.code_spec hnamed hcode
  cases hmethM.symm.trans hmethM'
  obtain ⟨ps, dk, kp, hps, hdk, hkp, hsuper, -, -, hnid⟩ := Cond.superclass_spec ho q3
  have hn0 : s.methodNamed? ⟨y.cls, x.name, x.desc⟩ = some mk := by rw [hxy.1, hxy.2]; exact hnamed
  have hsub : s.vm.isSubclass ps mk.cls = true := by
    have hpm : ps = mk.cls := Option.some.inj (hps.symm.trans (q4 ▸ findClass_of_methodNamed hnamed))
    rw [hpm]; simp [Vm.isSubclass, Vm.isSubclassAux]
  obtain ⟨vm₁, X₁, hstep₁⟩ := X.invokespecialUp hx ho q1 q2 hn0 hmethM hstM habM (by rw [hxy.1]; exact hd.1) hdk hnid hps hsuper hsub (a := b) (cell := cellB) (by rw [hT]; exact hcB)
    (fun z h => by rw [h] at hoB; cases hoB) hkB (g := g) hg (argsL := As) (rest := rest) (hn.trans (hlen _ hsigM)) hstack (by rw [hb]; exact hdg)
  obtain ⟨o, t, T', L, X', hL, e1, e2, hq, hend⟩ := x_backT (len := 3) (g := { g with stack := rest }) (mk := mk) (a := (Value.ref b :: As).toArray) (bytes := bytes) (maxL := maxL) (ret := ret) hM hbl hrc hrs hR.1 hR.2 (pay_in hts hG) hc
    (fun a' U hW => word_at hW (Or.inl (by first | rfl | simp [Cond.onTables, Cond.keeps, Cond.steady])) q6) X₁ hg (hsize.trans hml.symm) (by rw [hb]; exact hdg) hW (X₁.named hnamed) hf.1 hf.2 (hPc (T.setVm vm₁) hT X₁.warmed)
  refine ⟨o, (T.setVm vm₁).calling { g with stack := rest } mk (Value.ref b :: As).toArray, t, T', L, hT, X', hL, e1, e2, hq, ?_⟩
  rcases hend with ⟨v, ho, hst⟩ | ⟨x, ho, hst⟩
  · exact Or.inl ⟨v, ho, fun tg h => hstep₁ tg (hst.trans h)⟩
  · exact Or.inr ⟨x, ho, fun tg h => hstep₁ tg (hst.trans h)⟩
end XUO
