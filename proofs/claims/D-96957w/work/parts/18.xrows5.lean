/-! ROWS over the world of PictureBlock, 5: marks: their constructor, super calls -/
def pFM (u : XS) (a k : Nat) (v : Value) : Option XS := match xObj u a with
  | some (c, fs) => if 5 ≤ c ∧ c ≤ 11 then pF u a c k v else none
  | none => none
theorem pFM_some {u u1 : XS} {a k : Nat} {v : Value} (h : pFM u a k v = some u1) : ∃ ci, pF u a ci k v = some u1 ∧ (ci = 5 ∨ ci = 6 ∨ ci = 7 ∨ ci = 8 ∨ ci = 9 ∨ ci = 10 ∨ ci = 11) := by
  unfold pFM at h
  split at h
  · next c fs e =>
    split at h
    · next hc => exact ⟨c, h, by omega⟩
    · cases h
  · cases h
section XR5
variable {p : Program} {l : Launch} {e : Env} {R : Room} {s : State} {m : MethodId} {args : Array Value} {below : List Frame} {meth : Method} {c : Code} {H : Heap} {locs : List Loc} {cells slots : Nat} {Q : State → Prop}
variable {cc : ByteArray} {pc : Nat} {ls : Array Slot} {rest : List Value} {D : va_G} {cA : Nat → ClassId} {A : Nat → Prop} {u u1 : XS} {a : Nat}
theorem x_putFM (hexec : p.tables.exec = Jvm.exec) (hb : c.code = cc) {index : Nat} (hts : ∀ w ∈ lw_all, w.before args s = true) (hown : s.vm.findClass RX5 = some m.cls) (hK : xK D cA A s) (hP : xP D cA A u H) (hS : va_S A s.heap H locs) (k : Nat) (hk : k < 2) (hlink : (Cond.fieldLink RX5 index RX5 (TX5 k).2.1 (TX5 k).2.2.1).before args s = true) (hin2 : meth.name = "<init>") {v : Int32} (hp : pFM u a k (.int v) = some u1) (hdg : decode cc pc = .ok (.putfield index, 3))
    (kk : ∀ (H1 : Heap) (locs1 : List Loc), xP D cA A u1 H1 → va_S A s.heap H1 locs1 → W p l e R s m args below meth c H1 locs1 cells slots Q (F0 m (pc + 3) ls rest)) : W p l e R s m args below meth c H locs cells slots Q (F0 m pc ls (.int v :: .ref a :: rest)) := by
  obtain ⟨ci, hp, hci⟩ := pFM_some hp
  rcases (show k = 0 ∨ k = 1 by omega) with ek | ek <;> subst ek <;> rcases hci with e | e | e | e | e | e | e <;> subst e
  · exact x_putF (ty := .int) (C := RX5) (T := TX5) (N := 2) hexec hb hts in_X5 tyX5 tyX5_ok nmX5 hown hK.1 hP hS rfl 0 (by decide) hlink (fun _ h => h) rfl hin2 rfl (by decide +kernel) rfl rfl hp hdg kk
  · exact x_putF (ty := .int) (C := RX6) (T := TX6) (N := 2) hexec hb hts in_X6 tyX6 tyX6_ok nmX6 hown hK.1 hP hS rfl 0 (by decide) hlink (fun _ h => h) rfl hin2 rfl (by decide +kernel) rfl rfl hp hdg kk
  · exact x_putF (ty := .int) (C := RX7) (T := TX7) (N := 2) hexec hb hts in_X7 tyX7 tyX7_ok nmX7 hown hK.1 hP hS rfl 0 (by decide) hlink (fun _ h => h) rfl hin2 rfl (by decide +kernel) rfl rfl hp hdg kk
  · exact x_putF (ty := .int) (C := RX8) (T := TX8) (N := 2) hexec hb hts in_X8 tyX8 tyX8_ok nmX8 hown hK.1 hP hS rfl 0 (by decide) hlink (fun _ h => h) rfl hin2 rfl (by decide +kernel) rfl rfl hp hdg kk
  · exact x_putF (ty := .int) (C := RX9) (T := TX9) (N := 2) hexec hb hts in_X9 tyX9 tyX9_ok nmX9 hown hK.1 hP hS rfl 0 (by decide) hlink (fun _ h => h) rfl hin2 rfl (by decide +kernel) rfl rfl hp hdg kk
  · exact x_putF (ty := .int) (C := RX10) (T := TX10) (N := 2) hexec hb hts in_X10 tyX10 tyX10_ok nmX10 hown hK.1 hP hS rfl 0 (by decide) hlink (fun _ h => h) rfl hin2 rfl (by decide +kernel) rfl rfl hp hdg kk
  · exact x_putF (ty := .int) (C := RX11) (T := TX11) (N := 2) hexec hb hts in_X11 tyX11 tyX11_ok nmX11 hown hK.1 hP hS rfl 0 (by decide) hlink (fun _ h => h) rfl hin2 rfl (by decide +kernel) rfl rfl hp hdg kk
  · exact x_putF (ty := .int) (C := RX5) (T := TX5) (N := 2) hexec hb hts in_X5 tyX5 tyX5_ok nmX5 hown hK.1 hP hS rfl 1 (by decide) hlink (fun _ h => h) rfl hin2 rfl (by decide +kernel) rfl rfl hp hdg kk
  · exact x_putF (ty := .int) (C := RX6) (T := TX6) (N := 2) hexec hb hts in_X6 tyX6 tyX6_ok nmX6 hown hK.1 hP hS rfl 1 (by decide) hlink (fun _ h => h) rfl hin2 rfl (by decide +kernel) rfl rfl hp hdg kk
  · exact x_putF (ty := .int) (C := RX7) (T := TX7) (N := 2) hexec hb hts in_X7 tyX7 tyX7_ok nmX7 hown hK.1 hP hS rfl 1 (by decide) hlink (fun _ h => h) rfl hin2 rfl (by decide +kernel) rfl rfl hp hdg kk
  · exact x_putF (ty := .int) (C := RX8) (T := TX8) (N := 2) hexec hb hts in_X8 tyX8 tyX8_ok nmX8 hown hK.1 hP hS rfl 1 (by decide) hlink (fun _ h => h) rfl hin2 rfl (by decide +kernel) rfl rfl hp hdg kk
  · exact x_putF (ty := .int) (C := RX9) (T := TX9) (N := 2) hexec hb hts in_X9 tyX9 tyX9_ok nmX9 hown hK.1 hP hS rfl 1 (by decide) hlink (fun _ h => h) rfl hin2 rfl (by decide +kernel) rfl rfl hp hdg kk
  · exact x_putF (ty := .int) (C := RX10) (T := TX10) (N := 2) hexec hb hts in_X10 tyX10 tyX10_ok nmX10 hown hK.1 hP hS rfl 1 (by decide) hlink (fun _ h => h) rfl hin2 rfl (by decide +kernel) rfl rfl hp hdg kk
  · exact x_putF (ty := .int) (C := RX11) (T := TX11) (N := 2) hexec hb hts in_X11 tyX11 tyX11_ok nmX11 hown hK.1 hP hS rfl 1 (by decide) hlink (fun _ h => h) rfl hin2 rfl (by decide +kernel) rfl rfl hp hdg kk
/-- a mark's class, whichever -/
theorem x_recvM (hK : mK D cA s) (hP : xP D cA A u H) (h : mkB u a = true) : ∃ C cC, ClassAt s C cC ∧ ∃ cell : Cell, H[a]? = some cell ∧ cell.vm.isStatics = false ∧ s.vm.findClass C = some cell.cls := by
  obtain ⟨ci, fs, ha, hci⟩ := mkB_some h
  have hlt : ci < vwCl.length := by
    show ci < 18
    omega
  have hc : vwCl[ci]? = some vwCl[ci] := List.getElem?_eq_getElem hlt
  exact ⟨_, _, (hK.1 ci _ hc).2, x_recv hK hP hc ha⟩
theorem x_subc {cn pn : ClassId} {kn : Class} (h1 : s.vm.classes[cn]? = some kn) (h2 : kn.super = some pn) {kp : Class} (h3 : s.vm.classes[pn]? = some kp) : s.vm.isSubclass cn pn = true := by
  have hlt : pn < s.vm.classes.size := (Array.getElem?_eq_some_iff.mp h3).1
  obtain ⟨n, hn⟩ : ∃ n, s.vm.classes.size = n + 1 := Nat.exists_eq_succ_of_ne_zero (Nat.ne_of_gt (Nat.lt_of_le_of_lt (Nat.zero_le _) hlt))
  unfold Vm.isSubclass
  rw [hn]
  simp [Vm.isSubclassAux, h1, h2]
theorem x_callSU {T : State} (X : Stand p l e R s m args below meth c T locs cells slots) (hexec : p.tables.exec = Jvm.exec) {own : String} {index : Nat} {x y : MethodName} {bytes : ByteArray} {maxL : Nat} {ret : Option FieldType}
    (hown : s.vm.findClass own = some m.cls) (hlink : (Cond.methodLink own index x).before args s = true) (hsame : (Cond.sameMethod x.cls y.cls x.name x.desc).before args s = true) (hsup : (Cond.superclass own x.cls).before args s = true) (hsup2 : x.cls = y.cls ∨ (Cond.superclass x.cls y.cls).before args s = true) (hxy : x.name = y.name ∧ x.desc = y.desc)
    (hinst : (Cond.instanceMethod y).before args s = true) (hcode : (Cond.code y bytes maxL ret).before args s = true) (hno : y.name ≠ "<init>")
    {W : Nat} {Pre : Pt → Array Value → Prop} {Post : Pt → Array Value → Option Value → Pt → Prop} (hK : Back l R p e below s args y 3 W Pre Post)
    {b : Addr} {cellB : Cell} {kB : Class} (hcell : T.heap[b]? = some cellB) (hobj : cellB.vm.isStatics = false) (hkB : s.vm.classes[cellB.cls]? = some kB)
    {g : JFrame} (hg : g.method = m) (hsize : g.locals.size = c.maxLocals) {argsL rest : List Value} (hlen : ∀ sig, parseMethodDescriptor y.desc = some sig → argsL.length = sig.parameters.length)
    (hstack : g.stack = argsL.reverse ++ .ref b :: rest) (hW : 2 * g.monitorRoom + (rest.map fun v => v.category).sum ≤ W) (hdg : decode c.code g.pc = .ok (.invokespecial index, 3))
    (hpre : ∀ vm₁, s.WarmedH vm₁ → Pre ⟨T.setVm vm₁, locs, cells, slots⟩ (Value.ref b :: argsL).toArray) :
    ∃ (v : Option Value) (vm₁ : Vm) (B : Pt), s.WarmedH vm₁ ∧ Stand p l e R s m args below meth c B.U B.locs B.cells B.slots ∧ Post ⟨T.setVm vm₁, locs, cells, slots⟩ (Value.ref b :: argsL).toArray v B ∧
      ∀ target, Steps p.tables e below (B.U.setTop { g with pc := g.pc + 3, stack := v.toList ++ rest }) target → Steps p.tables e below (T.setTop g) target := by
  obtain ⟨mk, methM, hnamed, hmethM, hstM, habM⟩ := Cond.instanceMethod_spec hinst
  obtain ⟨methM', cM, hmethM', -, -, -, -, -, -, hsigM⟩ := Cond.code_spec hnamed hcode
  cases hmethM.symm.trans hmethM'
  obtain ⟨ps, dk, kp, hps, hdk, hkp, hsuper, -, -, hnid⟩ := Cond.superclass_spec hown hsup
  have hn : s.methodNamed? ⟨y.cls, x.name, x.desc⟩ = some mk := by rw [hxy.1, hxy.2]; exact hnamed
  have hsub : s.vm.isSubclass ps mk.cls = true := by
    rcases hsup2 with e | e
    · have hpm : ps = mk.cls := Option.some.inj (hps.symm.trans (e ▸ findClass_of_methodNamed hnamed))
      rw [hpm]; simp [Vm.isSubclass, Vm.isSubclassAux]
    · obtain ⟨pt, dk2, kp2, hpt, hdk2, hkp2, hsuper2, -⟩ := Cond.superclass_spec hps e
      have hpm : pt = mk.cls := Option.some.inj (hpt.symm.trans (findClass_of_methodNamed hnamed))
      rw [← hpm]
      exact x_subc hdk2 hsuper2 hkp2
  obtain ⟨vm₁, X₁, hstep₁⟩ := X.invokespecialUp hexec hown hlink hsame hn hmethM hstM habM (by rw [hxy.1]; exact hno) hdk hnid hps hsuper hsub (a := b) (cell := cellB) hcell
    (fun z h => by rw [h] at hobj; cases hobj) hkB (g := g) hg (argsL := argsL) (rest := rest) (hlen _ hsigM) hstack hdg
  obtain ⟨v, B, X', hpost, hsteps⟩ := hK m meth c ⟨T.setVm vm₁, locs, cells, slots⟩ { g with stack := rest } (.invokespecial index) mk (Value.ref b :: argsL).toArray X₁ hg hsize hdg hW (X₁.named hnamed) (hpre vm₁ X₁.warmed)
  exact ⟨v, vm₁, B, X₁.warmed, X', hpost, fun target h => hstep₁ _ (by rw [doInvoke_state]; exact hsteps.trans h)⟩
/-- super.m(..) where the class above may have it from its own class above -/
theorem x_runSU {x y : MethodName} {bytes cc : ByteArray} {maxL nL mc ms n index : Nat} {ret : Option FieldType} {ws ws' : List Cond} {rm : Room} {Pc : Array Value → State → Prop} {Qc : Array Value → State → Outcome → State → Prop} {free : Addr → Prop} {own C : String} {cC : ClassId} {b : Addr} {As rest : List Value} {g : JFrame}
    (hat : ClassAt s C cC) (S : CallFix p m c cc nL s args lw_all own) (hM : Met l y ws rm Pc Qc mc ms free) (hw : ws = Cond.code y bytes maxL ret :: ws') (hG : GoodIn lw_all ws) (hrc : rm.cells = mc) (hrs : rm.slots = ms)
    (q1 : (Cond.methodLink own index x).before args s = true) (q2 : (Cond.sameMethod x.cls y.cls x.name x.desc).before args s = true) (q3 : (Cond.superclass own x.cls).before args s = true) (q4 : x.cls = y.cls ∨ (Cond.superclass x.cls y.cls).before args s = true) (hxy : x.name = y.name ∧ x.desc = y.desc) (q5 : (Cond.instanceMethod y).before args s = true) (q6 : (Cond.initialized y.cls).before args s = true)
    (hd : y.name ≠ "<init>" ∧ (parseMethodDescriptor y.desc).map (fun d => d.parameters.length) = some n) (hR : rm.frames + 1 ≤ R.frames ∧ 8 + (maxL + 11) + rm.locals ≤ R.locals) (hp : PreV s H C b Pc As)
    (hg : g.method = m) (hn : As.length = n) (hsize : g.locals.size = nL) (hstack : g.stack = As.reverse ++ .ref b :: rest) (hW : 2 * g.monitorRoom + (rest.map fun v => v.category).sum ≤ 8) (hdg : decode cc g.pc = .ok (.invokespecial index, 3)) (hf : cells + mc ≤ R.cells ∧ slots + ms ≤ R.slots) :
    va_Run p l e R s m args below meth c H locs cells slots mc ms g rest (Qc (Value.ref b :: As).toArray) (free) := by
  have hc : Cond.code y bytes maxL ret ∈ ws := by rw [hw]; exact List.mem_cons_self
  obtain ⟨hx, hb, hml, ho, hts⟩ := S
  have hcode := hts _ (hG _ hc).1
  have hK : Back l R p e below s args y 3 8 (PreOf R mc ms Pc) (PostOf Qc mc ms free) := back_of (bytes := bytes) (maxL := maxL) (ret := ret) hM hp.1 hrc hrs hR.1 hR.2 (pay_in hts hG) hc (fun a' U hW => word_at hW (Or.inl (by first | rfl | simp [Cond.onTables, Cond.keeps, Cond.steady])) q6)
  obtain ⟨-, ⟨cellB, hcB, hoB, hclB⟩, hPc⟩ := hp
  obtain ⟨hfc, kB, hkB, -⟩ := hat
  cases hfc.symm.trans hclB
  have hlen : ∀ sig, parseMethodDescriptor y.desc = some sig → n = sig.parameters.length := fun sig h => by
    have h2 := hd.2
    rw [h] at h2
    exact (Option.some.inj h2).symm
  intro T hT X
  obtain ⟨v, vm₁, ⟨U', l2, c2, s2⟩, hW₁, X', ⟨g', mk, t, L, e1, e2, hq, h1, hL, h2, h3⟩, st⟩ := x_callSU X hx (bytes := bytes) (maxL := maxL) (ret := ret) ho q1 q2 q3 q4 hxy q5 hcode hd.1 hK (by rw [hT]; exact hcB) hoB hkB hg (hsize.trans hml.symm) (argsL := As) (rest := rest) (fun sig h => hn.trans (hlen sig h)) hstack hW (by rw [hb]; exact hdg)
    (fun vm₁ hW₁ => ⟨hf.1, hf.2, hPc (T.setVm vm₁) hT hW₁⟩)
  dsimp only [Pt.U, Pt.locs, Pt.cells, Pt.slots] at X' e1 e2 h1 h2 h3 st
  subst h1; subst h2; subst h3
  exact ⟨v, (T.setVm vm₁).calling g' mk (Value.ref b :: As).toArray, t, U', L, hT, X', hL, e1, e2, hq, st⟩
end XR5
