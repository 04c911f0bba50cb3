/-! ROWS: the machine throws an exception of its own -/
def xthr (u : XS) (ci : Nat) : XS := (va_up u.1 (u.2 + 2) (some (aeO ci [])), u.2 + 3)
theorem rf_isRef (v : Option Nat) : (va_rf v).isRef = true := by cases v <;> rfl
section XVB
variable {p : Program} {l : Launch} {e : Env} {R : Room} {s : State} {m : MethodId} {args : Array Value} {below : List Frame} {meth : Method} {c : Code} {T' : State} {H : Heap} {locs : List Loc} {cells slots : Nat} {Q : State → Prop} {D : va_G} {cA : Nat → ClassId} {A : Nat → Prop} {u : XS}
set_option maxHeartbeats 1000000 in
theorem x_vmB (X : Stand p l e R s m args below meth c T' locs cells slots) (hexec : p.tables.exec = Jvm.exec) (htr : l.stackTraces = false) {cls tx : String} (hcls : Bundle.fit cls = true) (hsoe : (cls == "java/lang/StackOverflowError") = false) (hoom : (cls == "java/lang/OutOfMemoryError") = false)
    (h : ∀ a ∈ Bundle.messageArmAtoms cls [Bundle.rN, Bundle.eN], a.before args s = true) (hK : xK D cA A s) (hS : va_S A s.heap T'.heap locs) (htext : (tx == notModelled) = false) {nb : Nat} (hnb : (stringBytes (stringToUtf16 tx)).size ≤ nb) (hnb2 : nb ≤ 1000)
    {g : JFrame} (hg : g.method = m) (hsize : g.locals.size = c.maxLocals) (hRframes : 6 < R.frames) (hRlocals : 2 * g.monitorRoom + (g.stack.map fun v => v.category).sum + 10240 ≤ R.locals) (hRcells : cells + 3 ≤ R.cells) (hRslots : slots + (nb + 10) ≤ R.slots) :
    ∃ (U : State) (Ls : List Loc), (∀ q ∈ Ls, q.base = T'.heap.size + 2) ∧ Stand p l e R s m args below meth c U (locs ++ Ls) (cells + 3) (slots + (nb + 10)) ∧ U.heap.size = T'.heap.size + 3 ∧ (∀ q, q < T'.heap.size → U.heap[q]? = T'.heap[q]?) ∧ (∃ ce : Cell, U.heap[T'.heap.size + 2]? = some ce ∧ s.vm.findClass cls = some ce.cls ∧ ce.vm = .none) ∧
      ∀ target, Steps p.tables e below ((U.setTop g).pushFrame (.throwing (T'.heap.size + 2))) target → Steps p.tables e below ((T'.setTop g).pushFrame (.throwNew cls (some tx) none)) target := by
  have howns : e.platform.frameOwnsMonitors = true := by rw [X.admits.platform]
  have hfin : e.platform.finalization = false := by rw [X.admits.platform]
  have hpl : e.platform.magicAccessors = ({} : Platform).magicAccessors := by rw [X.admits.platform]
  have htr' : e.platform.stackTraces = false := by rw [X.admits.platform]; exact htr
  have hl1 : ¬ (stringBytes (stringToUtf16 tx)).size > e.platform.arrayLengthLimit := by
    have e1 : e.platform.arrayLengthLimit = ({} : Platform).arrayLengthLimit := by rw [X.admits.platform]
    rw [e1]
    have e2 : 1000 ≤ ({} : Platform).arrayLengthLimit := by decide
    omega
  have hl2 : ¬ (stringBytes (stringToUtf16 tx)).size * componentBytes .byte > e.platform.maxHeapBytes := by
    have e1 : e.platform.maxHeapBytes = ({} : Platform).maxHeapBytes := by rw [X.admits.platform]
    rw [e1]
    have e2 : 1000 ≤ ({} : Platform).maxHeapBytes := by decide
    have e3 : componentBytes .byte = 1 := rfl
    rw [e3]
    omega
  have a : ∀ x, x ∈ Bundle.messageArmAtoms cls [Bundle.rN, Bundle.eN] → x.holds args s none s [] = true := fun x hx => h x hx
  obtain ⟨T, Z0, L, -, Y⟩ := ThrowableC.of_atoms (args := args) howns hfin hpl (fun x hx => h x (by simp [Bundle.messageArmAtoms, hx]))
  obtain ⟨Z, M, LZ, LM, hnZ⟩ := Init0T.ofS_atoms (args := args) hpl L Y (fun x hx => h x (by simp [Bundle.messageArmAtoms, hx]))
  obtain ⟨P1, Ps, hlen, L1, hL, hP1m, hlink1, hlink⟩ := Bundle.chainS (args := args) hpl hnZ [Bundle.rN, Bundle.eN] cls hcls (by decide) (fun x hx => h x (by simp [Bundle.messageArmAtoms, hx]))
  obtain ⟨Zs, LZs, hn4, hfitv, hfitc⟩ := StringT.of_atoms (args := args) (fun x hx => h x (by simp [Bundle.messageArmAtoms, hx]))
  have hfound : s.vm.findClass cls = some P1.m.cls := findClass_of_methodNamed hP1m
  obtain ⟨c1, kX, hc1, hk, hord, -, -, hn6⟩ := Cond.instantiable_spec (a (.instantiable cls 6) (by simp [Bundle.messageArmAtoms]))
  cases Option.some.inj (hc1.symm.trans hfound)
  have hinit := Cond.initialized_spec hfound hk (a (.initialized cls) (by simp [Bundle.messageArmAtoms]))
  have hctor : kX.findMethod "<init>" "(Ljava/lang/String;)V" = some P1.m.idx := findMethod_of_methodNamed hP1m hk
  have hsel0 : selectMethod e.platform s.vm P1.m.cls T.fill0 = .method T.fill0 := by
    obtain ⟨c2, r2, m2, q1, q2, q3, q4, -⟩ := Cond.selects_spec (a (.selects cls Bundle.tFill0 Bundle.tFill0) (by simp [Bundle.messageArmAtoms]))
    cases Option.some.inj (q1.symm.trans hfound)
    cases Option.some.inj (q2.symm.trans (State.methodFound?_of_named Y.fill0 (by decide)))
    cases Option.some.inj (q3.symm.trans Y.fill0)
    rw [Launch.admits_selectMethod X.admits]; exact q4
  have hselF : selectMethod e.platform s.vm P1.m.cls T.fill = .method T.fill := by
    obtain ⟨c2, r2, m2, q1, q2, q3, q4, -⟩ := Cond.selects_spec (a (.selects cls Bundle.tFill Bundle.tFill) (by simp [Bundle.messageArmAtoms]))
    cases Option.some.inj (q1.symm.trans hfound)
    cases Option.some.inj (q2.symm.trans (State.methodFound?_of_named Y.fill (by decide)))
    cases Option.some.inj (q3.symm.trans Y.fill)
    rw [Launch.admits_selectMethod X.admits]; exact q4
  obtain ⟨-, -, -, -, -, -, -, z1, z2⟩ := hK.2.2.2.2.2.2.2.1
  obtain ⟨cf, kf, fi, f, aZ, cellS, g1, g2, g3, g4, g5, g6, g7, g8⟩ := z1
  obtain ⟨cf2, kf2, fi2, f2, aZ2, cellS2, y1, y2, y3, y4, y5, y6, y7, y8⟩ := z2
  cases Option.some.inj (g1.symm.trans Y.unassigned)
  cases Option.some.inj (y1.symm.trans Y.sentinel)
  cases Option.some.inj (g4.symm.trans L.statics)
  cases Option.some.inj (y4.symm.trans L.statics)
  cases Option.some.inj (g5.symm.trans y5)
  have hcellS : T'.heap[T.aS]? = some cellS := (hS.2.1 _ (Array.getElem?_eq_some_iff.mp g5).1 g8).trans g5
  have hknownS : cellS.vm ≠ .unknown := by
    intro hu
    rw [hu] at g6
    cases g6
  obtain ⟨ci198, i198, fB, hk198, hg198, ha198, hsB, -, hnB, htB, hffB⟩ := Cond.ownField (t := .object "java/lang/Object") Y.found L.cls (by decide +kernel) (a (.fieldLink Bundle.tN 198 Bundle.tN "backtrace" "Ljava/lang/Object;") (by simp [Bundle.messageArmAtoms])) (a (.lays Bundle.tN Bundle.tN "backtrace" "Ljava/lang/Object;") (by simp [Bundle.messageArmAtoms])) e.platform hpl
  obtain ⟨iM, hffM⟩ := Y.msg
  obtain ⟨tyC, dC, hdC, hdnC⟩ := Cond.laysAt hfound hk Y.cause (a (.lays cls Bundle.tN "cause" "Ljava/lang/Throwable;") (by simp [Bundle.messageArmAtoms]))
  obtain ⟨tyS, dS, hdS, hdnS⟩ := Cond.laysAt hfound hk Y.stack (a (.lays cls Bundle.tN "stackTrace" Bundle.steD) (by simp [Bundle.messageArmAtoms]))
  obtain ⟨tyP, dP, hdP, hdnP⟩ := Cond.laysAt hfound hk Y.supp (a (.lays cls Bundle.tN "suppressedExceptions" Bundle.listD) (by simp [Bundle.messageArmAtoms]))
  obtain ⟨tyM, dM, hdM, hdnM⟩ := Cond.laysAt hfound hk hffM (a (.lays cls Bundle.tN "detailMessage" "Ljava/lang/String;") (by simp [Bundle.messageArmAtoms]))
  obtain ⟨tyB, dB, hdB, hdnB⟩ := Cond.laysAt hfound hk hffB (a (.lays cls Bundle.tN "backtrace" "Ljava/lang/Object;") (by simp [Bundle.messageArmAtoms]))
  have bC := Cond.laysApart hdB hdC hdnB hdnC (by rw [hnB, Y.causeName]; decide)
  have bS := Cond.laysApart hdB hdS hdnB hdnS (by rw [hnB, Y.stackName]; decide)
  have bP := Cond.laysApart hdB hdP hdnB hdnP (by rw [hnB, Y.suppName]; decide)
  have hskip : SkipFacts T e.platform s (fun u => u) ⟨va_rf (sOpt (cA 30)), rf_isRef _⟩ ((preparedCellV T.toThrowableT (freshCell P1.m.cls kX) (T'.heap.size + 2) ⟨va_rf (sOpt (cA 30)), rf_isRef _⟩ ⟨va_rf (sOpt (cA 31)), rf_isRef _⟩).withEntry T'.cur) :=
    ⟨{ ci198 := ci198, i198 := i198, fBack := fB }, ⟨hk198, hg198, ha198, hsB⟩, by
      have := fresh_default (c := P1.m.cls) tyB
      rw [htB] at this
      simpa [preparedCellV, Cell.setSlot, Cell.withEntry, Array.getElem?_setIfInBounds, bC, bS, bP, bC.symm, bS.symm, bP.symm, defaultValue] using this, fun _ _ => rfl⟩
  obtain ⟨vm', Ls, k1, k2, k3⟩ := x_vmT X hexec hg hsize T L Z LZ M LM Zs LZs P1 L1 Ps hL hlink1 hlink hsoe hoom hfound hk hinit hord hctor htext hl1 hl2
    (hfitv _) (hfitc _) (u0 := ⟨va_rf (sOpt (cA 30)), rf_isRef _⟩) (sen := ⟨va_rf (sOpt (cA 31)), rf_isRef _⟩) hsel0 hselF hcellS hknownS g7 y7
    (Takes.of_laid hk hord tyC (by rw [Y.causeType]; rfl)) (Takes.of_laid hk hord tyS (by rw [Y.stackType]; exact fits_refV_array _ ⟨va_rf (sOpt (cA 30)), rf_isRef _⟩)) (Takes.of_laid hk hord tyP (by rw [Y.suppType]; exact fits_refV_object _ ⟨va_rf (sOpt (cA 31)), rf_isRef _⟩)) (Takes.of_laid hk hord tyM (by rw [Y.msgType]; rfl))
    Y.objLocals hskip htr' (by rw [hlen]; exact hRframes) hRlocals (by rw [hlen]; decide) hRcells (by rw [hn4, hn6]; omega)
  have b1 : (bytesOf Zs.cB (stringToUtf16 tx)).slots.size = (stringBytes (stringToUtf16 tx)).size := by
    rw [(Cell.writeAll_facts _ _).2.2]; simp [bytes0]
  have b2 : (stringAt Zs.cS Zs.kS Zs.fv Zs.fc (stringToUtf16 tx) T'.heap.size).slots.size = 4 := by simp [string0, Cell.setSlot, hn4]
  have b3 : (freshCell P1.m.cls kX).slots.size = 6 := by simp [hn6]
  rw [b1, b2, b3] at k2
  obtain ⟨-, -, w3, -, w5, -, -⟩ := withThrown_facts e.platform T' Zs tx P1.m.cls kX
  have hlt : T'.heap.size + 2 < ((withThrown T' Zs tx P1.m.cls kX).setVm vm').heap.size := by
    show T'.heap.size + 2 < (withThrown T' Zs tx P1.m.cls kX).heap.size
    rw [w3]; omega
  refine ⟨_, Ls, k1, stand_widen k2 (Nat.le_refl _) (by omega), ?_, ?_, ⟨_, heapAt_setCell_self _ hlt, ?_, ?_⟩, k3⟩
  · have : ((withThrown T' Zs tx P1.m.cls kX).setVm vm').heap.size = T'.heap.size + 3 := w3
    simpa [State.setCell] using this
  · intro q hq
    have hne : T'.heap.size + 2 ≠ q := by omega
    rw [heapAt_setCell_ne _ hne]
    exact w5 q hq
  · exact hfound
  · rfl
theorem x_vmW {cls tx : String} {ci nb : Nat} {T0 : u_T} {g0 : JFrame} {pc : Nat} {ls : Array Slot} {rest : List Value} (hexec : p.tables.exec = Jvm.exec) (htr : l.stackTraces = false) (hcls : Bundle.fit cls = true) (hsoe : (cls == "java/lang/StackOverflowError") = false) (hoom : (cls == "java/lang/OutOfMemoryError") = false)
    (h : ∀ a ∈ Bundle.messageArmAtoms cls [Bundle.rN, Bundle.eN], a.before args s = true) (hK : xK D cA A s) (hP : xP D cA A u H) (hS : va_S A s.heap H locs) (hA : ∀ q, s.heap.size ≤ q → A q) (hc : vwCl[ci]? = some (cls, T0, 0)) (htext : (tx == notModelled) = false) (hnb : (stringBytes (stringToUtf16 tx)).size ≤ nb) (hnb2 : nb ≤ 1000)
    (hsize : ls.size = c.maxLocals) (hRframes : 6 < R.frames) (hRlocals : 10248 ≤ R.locals) (hroom : 2 * (F0 m pc ls rest).monitorRoom + (rest.map fun v => v.category).sum ≤ 8) (hRcells : cells + 3 ≤ R.cells) (hRslots : slots + (nb + 10) ≤ R.slots)
    (hstep : ∀ T : State, T.heap = H → Stand p l e R s m args below meth c T locs cells slots → ∀ target, Steps p.tables e below ((T.setTop (F0 m pc ls rest)).pushFrame (.throwNew cls (some tx) none)) target → Steps p.tables e below (T.setTop g0) target)
    (kk : ∀ (H1 : Heap) (locs1 : List Loc), xP D cA A (xthr u ci) H1 → va_S A s.heap H1 locs1 → WX p l e R s m args below meth c H1 locs1 (cells + 3) (slots + (nb + 10)) Q (F0 m pc ls rest) (u.2 + 2)) : W p l e R s m args below meth c H locs cells slots Q g0 := by
  intro T hT X
  obtain ⟨U, Ls, k1, k2, k3, k4, ⟨ce, k5, k6, k7⟩, k8⟩ := x_vmB X hexec htr hcls hsoe hoom h hK (by rw [hT]; exact hS) htext hnb hnb2 (g := F0 m pc ls rest) rfl hsize hRframes (by have e1 : (F0 m pc ls rest).stack = rest := rfl; rw [e1]; omega) hRcells hRslots
  have hz : T.heap.size = u.2 := by rw [hT]; exact hP.1
  rw [hz] at k1 k3 k4 k5 k8
  have hsz : s.heap.size ≤ u.2 := by rw [← hP.1]; exact hS.1
  have hP1 : xP D cA A (xthr u ci) U.heap := by
    refine ⟨k3, fun b x hb => ?_⟩
    have hb : va_up u.1 (u.2 + 2) (some (aeO ci [])) b = some x := hb
    by_cases hbe : b = u.2 + 2
    · subst hbe
      rw [va_up_self] at hb
      cases hb
      have hat := (hK.1.1 ci _ hc).2.1
      exact ⟨hA _ (by omega), (cls, T0, 0), hc, ce, k5, (Option.some.inj (hat.symm.trans k6)).symm, k7, fun k hk => by cases hk⟩
    · rw [va_up_ne _ _ hbe] at hb
      have h1 := hP.2 b x hb
      have h2 := h1.2.lt
      rw [hP.1] at h2
      exact ⟨h1.1, h1.2.kept ((k4 b h2).trans (by rw [hT]))⟩
  have hS1 : va_S A s.heap U.heap (locs ++ Ls) := by
    refine ⟨by rw [k3]; omega, fun q h1 h2 => ?_, fun q hq => ?_⟩
    · rw [k4 q (by omega), hT]
      exact hS.2.1 q h1 h2
    · rcases List.mem_append.mp hq with h1 | h1
      · exact hS.2.2 q h1
      · rw [k1 q h1]; exact hA _ (by omega)
  obtain ⟨t, a1, b1⟩ := kk U.heap (locs ++ Ls) hP1 hS1 U rfl k2
  exact ⟨t, hstep T hT X t (k8 t a1), b1⟩
theorem x_idiv0 {cc : ByteArray} {x y : Int32} {pc : Nat} {ls : Array Slot} {rest : List Value} (hexec : p.tables.exec = Jvm.exec) (hb : c.code = cc) (htr : l.stackTraces = false) (hts : ∀ w ∈ lw_all, w.before args s = true) (hK : xK D cA A s) (hP : xP D cA A u H) (hS : va_S A s.heap H locs) (hA : ∀ q, s.heap.size ≤ q → A q) (hy : y = 0)
    (hsize : ls.size = c.maxLocals) (hRframes : 6 < R.frames) (hRlocals : 10248 ≤ R.locals) (hroom : 2 * (F0 m pc ls rest).monitorRoom + (rest.map fun v => v.category).sum ≤ 8) (hRcells : cells + 3 ≤ R.cells) (hRslots : slots + 19 ≤ R.slots) (hdg : decode cc pc = .ok (.idiv, 1))
    (kk : ∀ (H1 : Heap) (locs1 : List Loc), xP D cA A (xthr u 15) H1 → va_S A s.heap H1 locs1 → WX p l e R s m args below meth c H1 locs1 (cells + 3) (slots + 19) Q (F0 m pc ls rest) (u.2 + 2)) : W p l e R s m args below meth c H locs cells slots Q (F0 m pc ls (.int y :: .int x :: rest)) := by
  subst hy
  refine x_vmW (cls := "java/lang/ArithmeticException") (tx := "/ by zero") (ci := 15) (T0 := TJ10) (nb := 9) (pc := pc) (ls := ls) (rest := rest) hexec htr (by decide) (by decide) (by decide) (xA_msg hts hK) hK hP hS hA rfl (by decide +kernel) (by decide +kernel) (by decide) hsize hRframes hRlocals hroom hRcells hRslots (fun T hT X => ?_) kk
  exact X.idivZero hexec (g := F0 m pc ls (.int 0 :: .int x :: rest)) rfl (a := x) (rest := rest) rfl (by rw [hb]; exact hdg)
end XVB
