/-! DEFAULT METHODS, 2: invokespecial (super.m) that lands in an interface's default method -/
section XDS
theorem ds_pig : ∀ (n : Nat) (f : Nat → Nat), (∀ i, i ≤ n → f i < n) → ∃ i j, i < j ∧ j ≤ n ∧ f i = f j
  | 0, f, h => absurd (h 0 (Nat.le_refl _)) (Nat.not_lt_zero _)
  | n + 1, f, h => by
    by_cases hx : ∃ i, i ≤ n ∧ f i = f (n + 1)
    · obtain ⟨i, h1, h2⟩ := hx
      exact ⟨i, n + 1, by omega, Nat.le_refl _, h2⟩
    · have hne : ∀ i, i ≤ n → f i ≠ f (n + 1) := fun i hi e => hx ⟨i, hi, e⟩
      obtain ⟨i, j, h1, h2, h3⟩ := ds_pig n (fun i => if f i = n then f (n + 1) else f i) (fun i hi => by
        have a := h i (by omega)
        have b := h (n + 1) (Nat.le_refl _)
        have c := hne i hi
        by_cases e : f i = n
        · simp only [e, if_true]; omega
        · simp only [e, if_false]; omega)
      refine ⟨i, j, h1, by omega, ?_⟩
      have ci := hne i (by omega)
      have cj := hne j h2
      by_cases e1 : f i = n <;> by_cases e2 : f j = n <;> simp only [e1, e2, if_true, if_false] at h3 <;> omega
/-- k classes up -/
def ds_it (vm : Vm) : Nat → ClassId → Option ClassId
  | 0, c => some c
  | k + 1, c => (vm.classes[c]?.bind (fun q => q.super)).bind (ds_it vm k)
theorem ds_it_add (vm : Vm) : ∀ (i k : Nat) (c : ClassId), ds_it vm (i + k) c = (ds_it vm i c).bind (ds_it vm k)
  | 0, k, c => by simp [ds_it]
  | i + 1, k, c => by
    rw [show i + 1 + k = (i + k) + 1 by omega]
    simp only [ds_it]
    cases vm.classes[c]?.bind (fun q => q.super) with
    | none => rfl
    | some d => exact ds_it_add vm i k d
theorem ds_it_lt {vm : Vm} {k : Nat} {c x : ClassId} (h : ds_it vm (k + 1) c = some x) : ∃ y : ClassId, ds_it vm k c = some y ∧ y < vm.classes.size := by
  rw [ds_it_add] at h
  cases hy : ds_it vm k c with
  | none => rw [hy] at h; cases h
  | some y =>
    rw [hy] at h
    refine ⟨y, rfl, ?_⟩
    cases hk : vm.classes[y]? with
    | none => simp [ds_it, hk] at h
    | some q => exact (Array.getElem?_eq_some_iff.mp hk).1
theorem ds_it_le {vm : Vm} {k : Nat} {c x : ClassId} (h : ds_it vm k c = some x) : ∀ i, i ≤ k → ∃ y, ds_it vm i c = some y := by
  intro i hi
  obtain ⟨d, rfl⟩ := Nat.exists_eq_add_of_le hi
  rw [ds_it_add] at h
  cases hy : ds_it vm i c with
  | none => rw [hy] at h; cases h
  | some y => exact ⟨y, rfl⟩
theorem ds_round {vm : Vm} {c x : ClassId} (h : ds_it vm (vm.classes.size + 1) c = some x) : ∃ k, k ≤ vm.classes.size ∧ ds_it vm k c = some x := by
  obtain ⟨i, j, hij, hj, e⟩ := ds_pig vm.classes.size (fun i => ((ds_it vm i c).getD 0)) (fun i hi => by
    obtain ⟨y, hy⟩ := ds_it_le h (i + 1) (by omega)
    obtain ⟨z, hz, hlt⟩ := ds_it_lt hy
    simp only [hz, Option.getD_some]
    exact hlt)
  obtain ⟨yi, hyi⟩ := ds_it_le h i (by omega)
  obtain ⟨yj, hyj⟩ := ds_it_le h j (by omega)
  simp only [hyi, hyj, Option.getD_some] at e
  subst e
  refine ⟨i + (vm.classes.size + 1 - j), by omega, ?_⟩
  rw [show vm.classes.size + 1 = j + (vm.classes.size + 1 - j) by omega, ds_it_add, hyj] at h
  rw [ds_it_add, hyi]
  exact h
theorem ds_up {vm : Vm} {nm ds : String} : ∀ (n : Nat) (c : ClassId), lookupInSuperclasses vm nm ds n c = none → ∀ k, k < n → ∀ x, ds_it vm k c = some x → ownMethod vm nm ds x = none
  | 0, _, _, k, hk, _, _ => absurd hk (Nat.not_lt_zero _)
  | n + 1, c, h, k, hk, x, hx => by
    unfold lookupInSuperclasses at h
    cases hc : vm.classes[c]? with
    | none =>
      cases k with
      | zero => cases hx; simp [ownMethod, hc]
      | succ k => simp [ds_it, hc] at hx
    | some q =>
      simp only [hc, Option.bind_eq_bind, Option.bind_some] at h
      cases hf : q.findMethod nm ds with
      | some i => simp [hf] at h
      | none =>
        simp only [hf] at h
        cases k with
        | zero => cases hx; simp [ownMethod, hc, hf]
        | succ k =>
          cases hs : q.super with
          | none => simp [ds_it, hc, hs] at hx
          | some d =>
            simp only [ds_it, hc, hs, Option.bind_some] at hx
            simp only [hs, Option.bind_some] at h
            exact ds_up n d h k (by omega) x hx
theorem ds_mem {vm : Vm} : ∀ (n : Nat) (c x : ClassId), x ∈ vm.superclassesAux n c → ∃ k, k ≤ n ∧ ds_it vm k c = some x
  | 0, _, _, h => by simp [Vm.superclassesAux] at h
  | n + 1, c, x, h => by
    unfold Vm.superclassesAux at h
    split at h
    · next q e =>
      rcases List.mem_cons.mp h with rfl | h
      · exact ⟨1, by omega, by simp [ds_it, e]⟩
      · obtain ⟨k, h1, h2⟩ := ds_mem n q x h
        exact ⟨k + 1, by omega, by simp only [ds_it, e, Option.bind_some]; exact h2⟩
    · cases h
theorem ds_sel {vm : Vm} {mR : MethodId} {nm ds : String} : ∀ (n : Nat) (c : ClassId), lookupInSuperclasses vm nm ds n c = none → selectInSuperclasses vm mR nm ds n c = none
  | 0, _, _ => rfl
  | n + 1, c, h => by
    unfold lookupInSuperclasses at h
    unfold selectInSuperclasses
    cases hc : vm.classes[c]? with
    | none => rfl
    | some q =>
      simp only [hc, Option.bind_eq_bind, Option.bind_some] at h ⊢
      cases hf : q.findMethod nm ds with
      | some i => simp [hf] at h
      | none =>
        simp only [hf] at h
        cases hs : q.super with
        | none => simp
        | some d =>
          simp only [hs, Option.bind_some] at h
          simp [ds_sel n d h]
theorem ds_special {vm : Vm} {c : ClassId} {k mk : Class} {m : MethodId} {meth : Method} (hk : vm.classes[c]? = some k) (hni : k.isInterface = false) (hl : vm.lookupUp c meth.name meth.desc = some m) (hm : vm.method? m = some meth) (hst : meth.isStatic = false) (hpr : meth.isPrivate = false)
    (hmk : vm.classes[m.cls]? = some mk) (hitf : mk.isInterface = true) (hsel : selectMethod {} vm c m = .method m) : lookupSpecial vm c meth.name meth.desc = .method m := by
  cases hs : lookupInSuperclasses vm meth.name meth.desc (vm.classes.size + 1) c with
  | some x => exact lookupSpecial_of_lookupUp hk hni hl (by rw [hs]; rfl) hm hst
  | none =>
    have hown : ∀ x k, k ≤ vm.classes.size → ds_it vm k c = some x → ownMethod vm meth.name meth.desc x = none := fun x k hk' hx => ds_up _ c hs k (by omega) x hx
    have h0 : ownMethod vm meth.name meth.desc c = none := hown c 0 (Nat.zero_le _) rfl
    have h1 : superclassMethods vm c meth.name meth.desc = [] := by
      unfold superclassMethods
      rw [List.filterMap_eq_nil_iff]
      intro x hx
      obtain ⟨q, hq, hi⟩ := ds_mem _ _ _ hx
      by_cases e : q ≤ vm.classes.size
      · exact hown x q e hi
      · have e : q = vm.classes.size + 1 := by omega
        subst e
        obtain ⟨q2, a, b⟩ := ds_round hi
        exact hown x q2 a b
    have h0' : (vm.classes[c]?.bind (fun q => q.findMethod meth.name meth.desc)).map (fun i => (⟨c, i⟩ : MethodId)) = none := h0
    have hany : (vm.classes[m.cls]?).any (fun q => q.isInterface) = true := by rw [hmk]; exact hitf
    unfold selectMethod at hsel
    simp only [hm, hpr, Bool.false_eq_true, if_false, ds_sel _ c hs, hany, Bool.not_true, Bool.and_false] at hsel
    unfold lookupSpecial
    simp only [h0', h1, List.filter_nil, Option.toList_none, List.append_nil, List.find?_nil]
    split at hsel
    · cases hsel
    · exact hsel
section
variable {p : Program} {l : Launch} {e : Env} {R : Room} {s : State} {m : MethodId} {args : Array Value} {below : List Frame} {meth : Method} {c : Code} {T : State} {locs : List Loc} {cells slots : Nat}
theorem df_special (X : Stand p l e R s m args below meth c T locs cells slots) (hexec : p.tables.exec = Jvm.exec) {own owner : String} {index : Nat} {x : MethodName} (hown : s.vm.findClass own = some m.cls) (hlink : (Cond.methodLink own index x).before args s = true)
    (hsame : (Cond.sameMethod x.cls owner x.name x.desc).before args s = true) {r0 : MethodId} {r : Method} {mk : Class} (hn : s.methodNamed? ⟨owner, x.name, x.desc⟩ = some r0) (hrm : s.vm.method? r0 = some r) (hstatic : r.isStatic = false) (hpr : r.isPrivate = false) (habs : r.isAbstract = false) (hnoinit : x.name ≠ "<init>")
    {dk : Class} {cn : ClassId} (hd : s.vm.classes[m.cls]? = some dk) (hnid : dk.isInterface = false) (hcn : s.vm.findClass x.cls = some cn) (hsuper : dk.super = some cn) (hmk : s.vm.classes[r0.cls]? = some mk) (hitf : mk.isInterface = true) (hsel : selectMethod {} s.vm cn r0 = .method r0)
    {a : Addr} {cell : Cell} {kcell : Class} (hcell : T.heap[a]? = some cell) (hobj : ∀ c, cell.vm ≠ .statics c) (hkcell : s.vm.classes[cell.cls]? = some kcell)
    {g : JFrame} (hg : g.method = m) {argsL rest : List Value} (hlen : argsL.length = r.sig.parameters.length) (hstack : g.stack = argsL.reverse ++ .ref a :: rest) (hdg : decode c.code g.pc = .ok (.invokespecial index, 3)) :
    ∃ vm', Stand p l e R s m args below meth c (T.setVm vm') locs cells slots ∧ ∀ target, Steps p.tables e below (doInvoke e ((T.setVm vm').setTop { g with stack := rest }) [] r0 (.ref a :: argsL).toArray).1 target → Steps p.tables e below (T.setTop g) target := by
  have hpl : e.platform.magicAccessors = ({} : Platform).magicAccessors := by rw [X.admits.platform]
  obtain ⟨cn', ck, r1, hcn', hck, hni, hf, hn1⟩ := Cond.sameMethod_found hsame
  cases hn.symm.trans hn1
  cases hcn.symm.trans hcn'
  obtain ⟨ci, hl, hright⟩ := Cond.methodLink_specUp hown hcn hck hni hf hlink e.platform hpl (by rw [X.admits.platform])
  obtain ⟨hrn, hrd⟩ := name_of_methodNamed hn hrm
  obtain ⟨dk₀, cfile, nt, _, _, ck₀, _, _, hd₀, hcf, hcp, -, -, -, hc₀, -, hpoly, -⟩ := hl.here
  cases hd.symm.trans hd₀
  cases hck.symm.trans hc₀
  have hup : s.vm.lookupUp cn x.name x.desc = some r0 := ((State.methodFound?_class hcn hck hni hpoly r0).mp hf).1
  have hrn' : r.name = x.name := hrn
  have hrd' : r.desc = x.desc := hrd
  have hfound0 : lookupSpecial s.vm cn r.name r.desc = .method r0 := ds_special hck hni (by rw [hrn', hrd']; exact hup) hrm hstatic hpr hmk hitf hsel
  rw [hrn', hrd'] at hfound0
  subst hg
  obtain ⟨vm', hW', st⟩ := Steps.invokeSuperColdArgs (tb := p.tables) (e := e) (s₀ := s) (U := T) (f := g) (args := argsL) (rest := rest) (a := a) (cell := cell) (m := r0) X.here hexec hdg X.warmed hl hright hd hcf hcp hrm hck
    (by rw [hrn]; simp [hnoinit]) hstatic (by rw [hrn, hrd, hsuper]; simpa using hfound0) hnid hmk habs hlen hstack hcell hobj hkcell
  exact ⟨vm', X.noted hW', st⟩
theorem x_callSD (X : Stand p l e R s m args below meth c T locs cells slots) (hexec : p.tables.exec = Jvm.exec) {own : String} {index : Nat} {x y : MethodName} {bytes : ByteArray} {maxL : Nat} {ret : Option FieldType}
    (hown : s.vm.findClass own = some m.cls) (hlink : (Cond.methodLink own index x).before args s = true) (hsame : (Cond.sameMethod x.cls y.cls x.name x.desc).before args s = true) (hsup : (Cond.superclass own x.cls).before args s = true) (hland : dfP x.cls y s) (hxy : x.name = y.name ∧ x.desc = y.desc)
    (hinst : (Cond.instanceMethod y).before args s = true) (hcode : (Cond.code y bytes maxL ret).before args s = true) (hno : y.name ≠ "<init>")
    {W : Nat} {Pre : Pt → Array Value → Prop} {Post : Pt → Array Value → Option Value → Pt → Prop} (hK : Back l R p e below s args y 3 W Pre Post)
    {b : Addr} {cellB : Cell} {kB : Class} (hcell : T.heap[b]? = some cellB) (hobj : cellB.vm.isStatics = false) (hkB : s.vm.classes[cellB.cls]? = some kB)
    {g : JFrame} (hg : g.method = m) (hsize : g.locals.size = c.maxLocals) {argsL rest : List Value} (hlen : ∀ sig, parseMethodDescriptor y.desc = some sig → argsL.length = sig.parameters.length)
    (hstack : g.stack = argsL.reverse ++ .ref b :: rest) (hW : 2 * g.monitorRoom + (rest.map fun v => v.category).sum ≤ W) (hdg : decode c.code g.pc = .ok (.invokespecial index, 3))
    (hpre : ∀ vm₁, s.WarmedH vm₁ → Pre ⟨T.setVm vm₁, locs, cells, slots⟩ (Value.ref b :: argsL).toArray) :
    ∃ (v : Option Value) (vm₁ : Vm) (B : Pt), s.WarmedH vm₁ ∧ Stand p l e R s m args below meth c B.U B.locs B.cells B.slots ∧ Post ⟨T.setVm vm₁, locs, cells, slots⟩ (Value.ref b :: argsL).toArray v B ∧
      ∀ target, Steps p.tables e below (B.U.setTop { g with pc := g.pc + 3, stack := v.toList ++ rest }) target → Steps p.tables e below (T.setTop g) target := by
  obtain ⟨mk, methM, hnamed, hmethM, hstM, habM⟩ := Cond.instanceMethod_spec hinst
  obtain ⟨methM', cM, hmethM', -, -, -, -, -, -, hsigM⟩ := Cond.code_spec hnamed hcode
  cases hmethM.symm.trans hmethM'
  obtain ⟨ps, dk, kp, hps, hdk, hkp, hsuper, -, -, hnid⟩ := Cond.superclass_spec hown hsup
  have hn : s.methodNamed? ⟨y.cls, x.name, x.desc⟩ = some mk := by rw [hxy.1, hxy.2]; exact hnamed
  obtain ⟨c2, m2, rm2, ki, l1, l3, l4, l5, l6, l7, -, l9⟩ := hland
  cases hps.symm.trans l1
  cases hnamed.symm.trans l3
  cases hmethM.symm.trans l4
  obtain ⟨vm₁, X₁, hstep₁⟩ := df_special X hexec hown hlink hsame hn hmethM hstM l9 habM (by rw [hxy.1]; exact hno) hdk hnid hps hsuper l6 l7 l5 (a := b) (cell := cellB) hcell
    (fun z h => by rw [h] at hobj; cases hobj) hkB (g := g) hg (argsL := argsL) (rest := rest) (hlen _ hsigM) hstack hdg
  obtain ⟨v, B, X', hpost, hsteps⟩ := hK m meth c ⟨T.setVm vm₁, locs, cells, slots⟩ { g with stack := rest } (.invokespecial index) mk (Value.ref b :: argsL).toArray X₁ hg hsize hdg hW (X₁.named hnamed) (hpre vm₁ X₁.warmed)
  exact ⟨v, vm₁, B, X₁.warmed, X', hpost, fun target h => hstep₁ _ (by rw [doInvoke_state]; exact hsteps.trans h)⟩
end
section
variable {p : Program} {l : Launch} {e : Env} {R : Room} {s : State} {m : MethodId} {args : Array Value} {below : List Frame} {meth : Method} {c : Code} {H : Heap} {locs : List Loc} {cells slots : Nat}
theorem x_runSD {x y : MethodName} {bytes cc : ByteArray} {maxL nL mc ms n index : Nat} {ret : Option FieldType} {ws ws' : List Cond} {rm : Room} {Pc : Array Value → State → Prop} {Qc : Array Value → State → Outcome → State → Prop} {free : Addr → Prop} {own C : String} {cC : ClassId} {b : Addr} {As rest : List Value} {g : JFrame}
    (hat : ClassAt s C cC) (S : CallFix p m c cc nL s args lw_all own) (hM : MetI l y ws rm Pc Qc mc ms free) (hw : ws = Cond.code y bytes maxL ret :: ws') (hG : GoodIn lw_all ws) (hrc : rm.cells = mc) (hrs : rm.slots = ms)
    (q1 : (Cond.methodLink own index x).before args s = true) (q2 : (Cond.sameMethod x.cls y.cls x.name x.desc).before args s = true) (q3 : (Cond.superclass own x.cls).before args s = true) (q4 : dfP x.cls y s) (hxy : x.name = y.name ∧ x.desc = y.desc) (q5 : (Cond.instanceMethod y).before args s = true)
    (hd : y.name ≠ "<init>" ∧ (parseMethodDescriptor y.desc).map (fun d => d.parameters.length) = some n) (hR : rm.frames + 1 ≤ R.frames ∧ 8 + (maxL + 11) + rm.locals ≤ R.locals) (hp : PreV s H C b Pc As)
    (hg : g.method = m) (hn : As.length = n) (hsize : g.locals.size = nL) (hstack : g.stack = As.reverse ++ .ref b :: rest) (hW : 2 * g.monitorRoom + (rest.map fun v => v.category).sum ≤ 8) (hdg : decode cc g.pc = .ok (.invokespecial index, 3)) (hf : cells + mc ≤ R.cells ∧ slots + ms ≤ R.slots) :
    va_Run p l e R s m args below meth c H locs cells slots mc ms g rest (Qc (Value.ref b :: As).toArray) (free) := by
  have hc : Cond.code y bytes maxL ret ∈ ws := by rw [hw]; exact List.mem_cons_self
  obtain ⟨hx, hb, hml, ho, hts⟩ := S
  have hcode := hts _ (hG _ hc).1
  have hK : Back l R p e below s args y 3 8 (PreOf R mc ms Pc) (PostOf Qc mc ms free) := backI_of (bytes := bytes) (maxL := maxL) (ret := ret) hM hp.1 hrc hrs hR.1 hR.2 (pay_in hts hG) hc
  obtain ⟨-, ⟨cellB, hcB, hoB, hclB⟩, hPc⟩ := hp
  obtain ⟨hfc, kB, hkB, -⟩ := hat
  cases hfc.symm.trans hclB
  have hlen : ∀ sig, parseMethodDescriptor y.desc = some sig → n = sig.parameters.length := fun sig h => by
    have h2 := hd.2
    rw [h] at h2
    exact (Option.some.inj h2).symm
  intro T hT X
  obtain ⟨v, vm₁, ⟨U', l2, c2, s2⟩, hW₁, X', ⟨g', mk, t, L, e1, e2, hq, h1, hL, h2, h3⟩, st⟩ := x_callSD X hx (bytes := bytes) (maxL := maxL) (ret := ret) ho q1 q2 q3 q4 hxy q5 hcode hd.1 hK (by rw [hT]; exact hcB) hoB hkB hg (hsize.trans hml.symm) (argsL := As) (rest := rest) (fun sig h => hn.trans (hlen sig h)) hstack hW (by rw [hb]; exact hdg)
    (fun vm₁ hW₁ => ⟨hf.1, hf.2, hPc (T.setVm vm₁) hT hW₁⟩)
  dsimp only [Pt.U, Pt.locs, Pt.cells, Pt.slots] at X' e1 e2 h1 h2 h3 st
  subst h1; subst h2; subst h3
  exact ⟨v, (T.setVm vm₁).calling g' mk (Value.ref b :: As).toArray, t, U', L, hT, X', hL, e1, e2, hq, st⟩
end
section
variable {p : Program} {l : Launch} {e : Env} {R : Room} {s : State} {m : MethodId} {args : Array Value} {below : List Frame} {meth : Method} {c : Code} {T : State} {H : Heap} {locs : List Loc} {cells slots : Nat}
theorem x_callVD (X : Stand p l e R s m args below meth c T locs cells slots) (hexec : p.tables.exec = Jvm.exec) {own : String} {index : Nat} {x y : MethodName} {bytes : ByteArray} {maxL : Nat} {ret : Option FieldType}
    (hown : s.vm.findClass own = some m.cls) (hlink : (Cond.methodLink own index x).before args s = true) (hsame : (Cond.sameMethod x.cls y.cls x.name x.desc).before args s = true) {C : String} (hland : dfP C y s) (hy : y.cls ≠ "java/lang/invoke/MethodHandle" ∧ y.cls ≠ "java/lang/invoke/VarHandle") (hxy : x.name = y.name ∧ x.desc = y.desc)
    (hinst : (Cond.instanceMethod y).before args s = true) (hcode : (Cond.code y bytes maxL ret).before args s = true)
    {W : Nat} {Pre : Pt → Array Value → Prop} {Post : Pt → Array Value → Option Value → Pt → Prop} (hK : Back l R p e below s args y 3 W Pre Post)
    {b : Addr} {cellB : Cell} (hcell : T.heap[b]? = some cellB) (hobj : cellB.vm.isStatics = false) (hcls : s.vm.findClass C = some cellB.cls)
    {g : JFrame} (hg : g.method = m) (hsize : g.locals.size = c.maxLocals) {argsL rest : List Value} (hlen : ∀ sig, parseMethodDescriptor y.desc = some sig → argsL.length = sig.parameters.length)
    (hstack : g.stack = argsL.reverse ++ .ref b :: rest) (hW : 2 * g.monitorRoom + (rest.map fun v => v.category).sum ≤ W) (hdg : decode c.code g.pc = .ok (.invokevirtual index, 3))
    (hpre : ∀ vm₁, s.WarmedH vm₁ → Pre ⟨T.setVm vm₁, locs, cells, slots⟩ (Value.ref b :: argsL).toArray) :
    ∃ (v : Option Value) (vm₁ : Vm) (B : Pt), s.WarmedH vm₁ ∧ Stand p l e R s m args below meth c B.U B.locs B.cells B.slots ∧ Post ⟨T.setVm vm₁, locs, cells, slots⟩ (Value.ref b :: argsL).toArray v B ∧
      ∀ target, Steps p.tables e below (B.U.setTop { g with pc := g.pc + 3, stack := v.toList ++ rest }) target → Steps p.tables e below (T.setTop g) target := by
  obtain ⟨mk, methM, hnamed, hmethM, hstM, habM⟩ := Cond.instanceMethod_spec hinst
  obtain ⟨methM', cM, hmethM', -, -, -, -, -, -, hsigM⟩ := Cond.code_spec hnamed hcode
  cases hmethM.symm.trans hmethM'
  have hn : s.methodNamed? ⟨y.cls, x.name, x.desc⟩ = some mk := by rw [hxy.1, hxy.2]; exact hnamed
  obtain ⟨c2, m2, rm2, ki, l1, l3, l4, l5, l6, l7, l8, l9⟩ := hland
  cases hcls.symm.trans l1
  cases hnamed.symm.trans l3
  cases hmethM.symm.trans l4
  have hselP : selectMethod e.platform s.vm cellB.cls mk = .method mk := by rw [Launch.admits_selectMethod X.admits]; exact l5
  obtain ⟨vm₁, X₁, hstep₁⟩ := df_virtual X hexec hown hlink hsame hy hn hmethM hstM (a := b) (cell := cellB) hcell
    (fun z h => by rw [h] at hobj; cases hobj) hselP hmethM habM l6 l7 l8 (g := g) hg (argsL := argsL) (rest := rest) (hlen _ hsigM) hstack hdg
  obtain ⟨v, B, X', hpost, hsteps⟩ := hK m meth c ⟨T.setVm vm₁, locs, cells, slots⟩ { g with stack := rest } (.invokevirtual index) mk (Value.ref b :: argsL).toArray X₁ hg hsize hdg hW (X₁.named hnamed) (hpre vm₁ X₁.warmed)
  exact ⟨v, vm₁, B, X₁.warmed, X', hpost, fun target h => hstep₁ _ fun acts => by rw [doInvoke_state]; exact hsteps.trans h⟩
theorem x_runVD {x y : MethodName} {bytes cc : ByteArray} {maxL nL mc ms n index : Nat} {ret : Option FieldType} {ws ws' : List Cond} {rm : Room} {Pc : Array Value → State → Prop} {Qc : Array Value → State → Outcome → State → Prop} {free : Addr → Prop} {own C : String} {b : Addr} {As rest : List Value} {g : JFrame}
    (S : CallFix p m c cc nL s args lw_all own) (hM : MetI l y ws rm Pc Qc mc ms free) (hw : ws = Cond.code y bytes maxL ret :: ws') (hG : GoodIn lw_all ws) (hrc : rm.cells = mc) (hrs : rm.slots = ms)
    (q1 : (Cond.methodLink own index x).before args s = true) (q2 : (Cond.sameMethod x.cls y.cls x.name x.desc).before args s = true) (q3 : dfP C y s) (q4 : y.cls ≠ "java/lang/invoke/MethodHandle" ∧ y.cls ≠ "java/lang/invoke/VarHandle") (hxy : x.name = y.name ∧ x.desc = y.desc) (q5 : (Cond.instanceMethod y).before args s = true)
    (hd : (parseMethodDescriptor y.desc).map (fun d => d.parameters.length) = some n) (hR : rm.frames + 1 ≤ R.frames ∧ 8 + (maxL + 11) + rm.locals ≤ R.locals) (hp : PreV s H C b Pc As)
    (hg : g.method = m) (hn : As.length = n) (hsize : g.locals.size = nL) (hstack : g.stack = As.reverse ++ .ref b :: rest) (hW : 2 * g.monitorRoom + (rest.map fun v => v.category).sum ≤ 8) (hdg : decode cc g.pc = .ok (.invokevirtual index, 3)) (hf : cells + mc ≤ R.cells ∧ slots + ms ≤ R.slots) :
    va_Run p l e R s m args below meth c H locs cells slots mc ms g rest (Qc (Value.ref b :: As).toArray) (free) := by
  have hc : Cond.code y bytes maxL ret ∈ ws := by rw [hw]; exact List.mem_cons_self
  obtain ⟨hx, hb, hml, ho, hts⟩ := S
  have hcode := hts _ (hG _ hc).1
  have hK : Back l R p e below s args y 3 8 (PreOf R mc ms Pc) (PostOf Qc mc ms free) := backI_of (bytes := bytes) (maxL := maxL) (ret := ret) hM hp.1 hrc hrs hR.1 hR.2 (pay_in hts hG) hc
  obtain ⟨-, ⟨cellB, hcB, hoB, hclB⟩, hPc⟩ := hp
  have hlen : ∀ sig, parseMethodDescriptor y.desc = some sig → n = sig.parameters.length := fun sig h => by
    have h2 := hd
    rw [h] at h2
    exact (Option.some.inj h2).symm
  intro T hT X
  obtain ⟨v, vm₁, ⟨U', l2, c2, s2⟩, hW₁, X', ⟨g', mk, t, L, e1, e2, hq, h1, hL, h2, h3⟩, st⟩ := x_callVD X hx (bytes := bytes) (maxL := maxL) (ret := ret) ho q1 q2 q3 q4 hxy q5 hcode hK (by rw [hT]; exact hcB) hoB hclB hg (hsize.trans hml.symm) (argsL := As) (rest := rest) (fun sig h => hn.trans (hlen sig h)) hstack hW (by rw [hb]; exact hdg)
    (fun vm₁ hW₁ => ⟨hf.1, hf.2, hPc (T.setVm vm₁) hT hW₁⟩)
  dsimp only [Pt.U, Pt.locs, Pt.cells, Pt.slots] at X' e1 e2 h1 h2 h3 st
  subst h1; subst h2; subst h3
  exact ⟨v, (T.setVm vm₁).calling g' mk (Value.ref b :: As).toArray, t, U', L, hT, X', hL, e1, e2, hq, st⟩
end
end XDS
