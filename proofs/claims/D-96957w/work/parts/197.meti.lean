/-! CONTRACTS OF A METHOD WHOSE CLASS NEED NOT HAVE BEEN INITIALISED (an interface's default method: the tables have no word that its interface is) -/
def MetI (l : Launch) (y : MethodName) (ws : List Cond) (rm : Room) (Pc : Array Value → State → Prop) (Qc : Array Value → State → Outcome → State → Prop) (mc ms : Nat) (free : Addr → Prop) : Prop :=
  ∀ (p : Program) (e : Env), l.admits e → FairCas e.choices → FairClock e.choices → ∀ (s : State) (m : MethodId) (args : Array Value) (below : List Frame),
    s.frames = .invoking m args :: below → s.status = .running → s.curStatus? = some .runnable → s.alone = true → s.methodNamed? y = some m → s.hears m below = true → s.hasRoom e.platform rm = true → (headSpec ws rm).pre.before args s = true → Pc args s →
    ∃ n o, (∀ k, k < n → Within (stepsAlone p.tables e k s) below) ∧ (stepsAlone p.tables e n s).status = .running ∧ Ended (stepsAlone p.tables e n s) below o ∧ (Qc args s o (stepsAlone p.tables e n s) ∧ ∃ L, FrameEnd s o (stepsAlone p.tables e n s) L mc ms ∧ ∀ q ∈ L, free q.base)
theorem MetI.ofW {l : Launch} {y : MethodName} {ws ws' : List Cond} {rm : Room} {Pc : Array Value → State → Prop} {Qc : Array Value → State → Outcome → State → Prop} {mc ms : Nat} {free : Addr → Prop} {cc : ByteArray} {maxL : Nat} {ret : Option FieldType}
    (hy : plainName y.cls = true) (hw : ws = Cond.code y cc maxL ret :: ws')
    (body : ∀ (p : Program) (e : Env) (s : State) (m : MethodId) (args : Array Value) (below : List Frame) (meth : Method) (c : Code), p.tables.exec = Jvm.exec → c.code = cc → meth.sig.returnType = ret → meth.locks = false → c.maxLocals = maxL → s.methodNamed? y = some m → (headSpec ws rm).pre.before args s = true → Pc args s →
      W p l e rm s m args below meth c s.heap [] 0 0 (MQ below Qc args s mc ms free) (entryFrame m args maxL)) : MetI l y ws rm Pc Qc mc ms free := by
  intro p e ha hc hk s m args below hf hrun hable halone hname hhears hroom hpre hP
  obtain ⟨meth, c, hmeth, hcode, hbytes, hlocals, hret, hlocks, -, -⟩ := Cond.code_spec hname (atoms_spec (ws := ws) hpre _ (by rw [hw]; exact List.mem_cons_self))
  have hcur := State.cur_lt_of_frames hf
  have hf1 : (s.setFrames (.java (entryFrame m args maxL) :: below)).frames = .java (entryFrame m args maxL) :: below := State.frames_setFrames _ hcur
  have ht1 := State.topJava?_of_frames hf1
  have hplain : (s.setFrames (.java (entryFrame m args maxL) :: below)).plainMethod m := State.plainMethod.of_named (s := s) (plainFor_of_name hy) hname hmeth
  have hAt : At (s.setFrames (.java (entryFrame m args maxL) :: below)) m c below :=
    ⟨by rw [ht1]; rfl, ⟨[], by rw [hf1]; rfl⟩, hrun, by simpa using hable, by simpa using halone, by rw [State.code?_eq]; simp [State.setFrames, hmeth, hcode], hplain⟩
  have hstep : (stepThread p.tables e s).1 = (s.setFrames (.java (entryFrame m args maxL) :: below)).setTop (entryFrame m args maxL) := by
    have hfull : e.platform.stackFull (s.setFrames below).me (s.setFrames below).frames c.maxLocals = false := by
      obtain ⟨-, h1, -, h2⟩ := State.hasRoom_stack hroom
      rw [hf, List.length_cons] at h1
      rw [State.localsInUse_invoking hf hmeth hcode] at h2
      have hw := stackUse_le_stackWeight below
      rw [State.frames_setFrames _ hcur]
      exact Platform.stackFull_eq_false (by rw [State.stackLimits_setFrames]; omega) (by rw [State.stackLimits_setFrames]; omega)
    rw [stepThread_invoking hf, (doInvoke_java (s := s.setFrames below) (e := e) (meth := meth) (code := c) hmeth hcode hlocks hfull).1, State.setTop_self ht1]
    simp only [State.pushFrame, State.frames_setFrames _ hcur, State.setFrames_setFrames, hlocals, entryFrame]
  obtain ⟨th, hth, -⟩ := State.frames_cons hf
  have hsame := (State.sameButNew.refl s hth).setFrames (.java (entryFrame m args maxL) :: below) hcur
  have X0 : Stand p l e rm s m args below meth c (s.setFrames (.java (entryFrame m args maxL) :: below)) [] 0 0 :=
    ⟨ha, hc, hk, hf, hroom, hhears, hmeth, hcode, hAt, by rw [hf1]; rfl, State.WarmedH.refl s, by rw [State.stackLimits_setFrames], by rw [State.stackBytes_setFrames], hsame⟩
  obtain ⟨t, hs, o, hr, he, hp⟩ := body p e s m args below meth c (by cases p <;> rfl) hbytes hret hlocks hlocals hname hpre hP (s.setFrames (.java (entryFrame m args maxL) :: below)) rfl X0
  obtain ⟨n, hn, hw⟩ := Steps.head (tb := p.tables) (e := e) ⟨hrun, hable, halone⟩ ⟨[.invoking m args], hf, by simp, by simp⟩ (hstep ▸ hs)
  exact ⟨n, o, hw, hn ▸ hr, hn ▸ he, hn ▸ hp⟩
theorem MetI.call {l : Launch} {y : MethodName} {ws : List Cond} {rm : Room} {Pc : Array Value → State → Prop} {Qc : Array Value → State → Outcome → State → Prop} {mc ms : Nat} {free : Addr → Prop} {e : Env}
    (hM : MetI l y ws rm Pc Qc mc ms free) (p : Program) (ha : l.admits e) (hc : FairCas e.choices) (hk : FairClock e.choices) {s : State} {m : MethodId} {args : Array Value} {acts : List Action} {mid below : List Frame} (hfr : s.frames = mid ++ below)
    (hlt : s.cur < s.threads.size) (hrun : (s.pushFrame (.invoking m args)).status = .running) (hable : (s.pushFrame (.invoking m args)).curStatus? = some .runnable) (halone : (s.pushFrame (.invoking m args)).alone = true) (hname : (s.pushFrame (.invoking m args)).methodNamed? y = some m)
    (hhears : (s.pushFrame (.invoking m args)).hears m s.frames = true) (hroom : (s.pushFrame (.invoking m args)).hasRoom e.platform rm = true) (hpre : (headSpec ws rm).pre.before args (s.pushFrame (.invoking m args)) = true) (hP : Pc args (s.pushFrame (.invoking m args))) :
    ∃ o s₂, Steps p.tables e below (doInvoke e s acts m args).1 s₂ ∧ s₂.status = .running ∧ Ended s₂ s.frames o ∧ (Qc args (s.pushFrame (.invoking m args)) o s₂ ∧ ∃ L, FrameEnd (s.pushFrame (.invoking m args)) o s₂ L mc ms ∧ ∀ q ∈ L, free q.base) := by
  have hf' : (s.pushFrame (.invoking m args)).frames = .invoking m args :: s.frames := State.frames_setFrames _ hlt
  have hgo : (s.pushFrame (.invoking m args)).goesOn := ⟨hrun, hable, halone⟩
  obtain ⟨n, o, hw, hr, he, hp⟩ := hM p e ha hc hk (s.pushFrame (.invoking m args)) m args s.frames hf' hrun hable halone hname hhears hroom hpre hP
  obtain ⟨t, ht⟩ : ∃ t, s.threads[s.cur]? = some t := ⟨_, Array.getElem?_eq_getElem hlt⟩
  have hstep : (stepThread p.tables e (s.pushFrame (.invoking m args))).1 = (doInvoke e s acts m args).1 := by
    rw [stepThread_invoking hf', doInvoke_state e s acts, State.pushFrame, State.setFrames_setFrames, State.setFrames_self ht]
  cases n with
  | zero => exact absurd ⟨[.invoking m args], hf', by simp, by simp⟩ he.not_within
  | succ k =>
    rw [stepsAlone_succ _ hgo, hstep] at hr he hp
    refine ⟨o, _, ⟨k, rfl, fun j hj => ?_⟩, hr, he, hp⟩
    have := hw (j + 1) (by omega)
    rw [stepsAlone_succ _ hgo, hstep, hfr] at this
    exact this.weaken
section MI
variable {l : Launch} {R : Room} {p : Program} {e : Env} {below : List Frame} {s : State} {sargs : Array Value} {y : MethodName} {len : Nat}
theorem backI_of {ws : List Cond} {rm : Room} {Pc : Array Value → State → Prop} {Qc : Array Value → State → Outcome → State → Prop} {mc ms : Nat} {free : Addr → Prop} {bytes : ByteArray} {maxL : Nat} {ret : Option FieldType}
    (hM : MetI l y ws rm Pc Qc mc ms free) (hblind : FrameBlind Pc) (hrc : rm.cells = mc) (hrs : rm.slots = ms)
    (hframes : rm.frames + 1 ≤ R.frames) (hlocals : 8 + (maxL + 11) + rm.locals ≤ R.locals)
    (hws : ∀ w ∈ ws, ∀ a' U, s.WarmedH U.vm → w.before a' U = true) (hcode : Cond.code y bytes maxL ret ∈ ws) :
    Back l R p e below s sargs y len 8 (PreOf R mc ms Pc) (PostOf Qc mc ms free) := by
  intro m meth c ⟨U, Ls, c0, s0⟩ g ig mk a X hg hsize hdg hW hn hp
  obtain ⟨hc1, hs1, hp⟩ := hp
  dsimp only [Pt.U, Pt.locs, Pt.cells, Pt.slots] at X hn hc1 hs1 hp
  have h2 := hws _ hcode a U X.warmed
  obtain ⟨methY, cY, hmY, hcY, -, hlY, -⟩ := Cond.code_spec hn h2
  have h : At U g.method c below := by rw [hg]; exact X.here
  obtain ⟨mid, hmid⟩ := h.above
  have hfr : (U.setTop g).frames = (.java g :: mid) ++ below := by rw [State.frames_setTop' g h.top, hmid]; rfl
  have hcodeC : (U.calling g mk a).code? g.method = some c := by
    have := h.code
    rw [State.code?_eq] at this ⊢
    simpa [State.calling, State.pushFrame, State.setFrames] using this
  obtain ⟨o, s₂, hsteps, -, hend, hq⟩ := MetI.call hM p X.admits X.cas X.clock (s := U.setTop g) (m := mk) (args := a) (acts := []) hfr (State.cur_lt_of_frames hfr) h.running (by simpa [State.calling] using h.runnable) (by simpa [State.calling] using h.alone) hn
    (by
      rw [State.frames_setTop' g h.top]
      show (U.calling g mk a).hears mk (.java g :: U.frames.tail) = true
      simp [State.hears, hcodeC, hdg, Except.toOption])
    (X.room_calling (g := g) (R' := rm) hsize hmY hcY hframes (by rw [hlY]; omega) (by omega) (by omega))
    (by
      show (headSpec ws rm).pre.before a (U.calling g mk a) = true
      rw [State.calling_eq h.top, Cond.before_setFrames]
      exact atoms_intro fun w hw => hws w hw _ _ X.warmed)
    (hblind _ _ _ _ hp)
  have hq' : Qc a (U.calling g mk a) o s₂ ∧ ∃ L, FrameEnd (U.calling g mk a) o s₂ L mc ms ∧ ∀ q ∈ L, free q.base := hq
  obtain ⟨hqc, L, hfe, hL⟩ := hq'
  rw [State.frames_setTop' g h.top] at hend
  obtain ⟨⟨v, rfl⟩, hW₂, e2, q2, q3, q4, q5, q6⟩ := hfe
  have e3 : s₂ = ({ (U.calling g mk a).setFrames s₂.frames with heap := s₂.heap, slotsUsed := s₂.slotsUsed } : State).setVm s₂.vm := by
    have : s₂ = ({ s₂ with vm := (U.calling g mk a).vm } : State).setVm s₂.vm := rfl
    rw [e2] at this
    exact this
  obtain ⟨c₂, i₂, len₂, hc₂, hd₂, hf₂⟩ := hend
  have hW' : U.WarmedH s₂.vm := hW₂
  have hcc : c₂ = c := by
    have h1 : s₂.code? g.method = U.code? g.method := by
      rw [State.code?_eq, State.code?_eq, hW'.alike.method?]
    exact Option.some.inj (hc₂.symm.trans (h1.trans h.code))
  subst hcc
  have hlen : len₂ = len := by rw [hdg] at hd₂; cases hd₂; rfl
  subst hlen
  obtain ⟨g₀, hg0⟩ := Option.isSome_iff_exists.mp h.top
  obtain ⟨r, hr⟩ := State.topJava?_eq_some.mp hg0
  have hs₂ : s₂ = (({ U with heap := s₂.heap, slotsUsed := s₂.slotsUsed } : State).setVm s₂.vm).setTop { g with pc := g.pc + len₂, stack := v.toList ++ g.stack } := by
    have hr' : (({ U with heap := s₂.heap, slotsUsed := s₂.slotsUsed } : State).setVm s₂.vm).frames = .java g₀ :: r := hr
    refine e3.trans ?_
    rw [hf₂, State.calling_eq h.top, State.setFrames_setFrames, State.setTop_of_frames _ hr', hr]
    rfl
  have hsame : U.sameButNew ({ U with heap := s₂.heap, slotsUsed := s₂.slotsUsed } : State) L mc ms := by
    refine ⟨?_, q2, q3, q4, q5, q6⟩
    obtain ⟨t, ht, -⟩ := State.frames_cons hr
    show ({ U with heap := s₂.heap, slotsUsed := s₂.slotsUsed } : State) = { U.setFrames U.frames with heap := s₂.heap, slotsUsed := s₂.slotsUsed }
    rw [State.setFrames_self ht]
  subst hg
  refine ⟨v, ⟨(({ U with heap := s₂.heap, slotsUsed := s₂.slotsUsed } : State).setVm s₂.vm), Ls ++ L, c0 + mc, s0 + ms⟩,
    ⟨X.admits, X.cas, X.clock, X.frames, X.room, X.hears, X.method, X.code, (X.here.setHeapUsed s₂.heap s₂.slotsUsed).setVm hW'.alike, X.tail, State.WarmedH.trans X.warmed hW', X.limits, X.bytes, X.same.trans (hsame.setVm s.vm)⟩, ⟨g, mk, s₂, L, rfl, rfl, hqc, rfl, hL, rfl, rfl⟩, ?_⟩
  show Steps p.tables e below _ ((({ U with heap := s₂.heap, slotsUsed := s₂.slotsUsed } : State).setVm s₂.vm).setTop { g with pc := g.pc + len₂, stack := v.toList ++ g.stack })
  rw [← hs₂]
  exact hsteps
end MI
section GMI
variable {S : Type}
theorem gMetI_z {l : Launch} {y : MethodName} {cc : ByteArray} {maxL : Nat} {rm : Room} {K : State → Prop} {P : S → Heap → Prop} {A : Nat → Prop} {as : List Value} {u : S} {out : Int32 × S} {mc ms : Nat} {ty : FieldType} (hy : plainName y.cls = true) (hnl : (lg_sl as).length ≤ maxL)
    (body : ∀ (p : Program) (e : Env) (s : State) (m : MethodId) (below : List Frame) (meth : Method) (c : Code) (Q : State → Prop) (ls : Array Slot) (args : Array Value) (H : Heap) (locs : List Loc), gCx p m c cc maxL s args y.cls K A → P u H → va_S A s.heap H locs → lv_has ls maxL (lv_args 0 as) →
      (∀ (pc : Nat) (H : Heap) (locs : List Loc) (ls : Array Slot) (r : Int32) (v : S), decode cc pc = .ok (.ireturn, 1) → narrow ty (.int r) = .int r → P v H → va_S A s.heap H locs → some (r, v) = some out → W p l e rm s m args below meth c H locs mc ms Q (F0 m pc ls [.int r])) →
      W p l e rm s m args below meth c H locs 0 0 Q (F0 m 0 ls [])) (hK : Kst K A) : MetI l y (ws_ y cc maxL (some ty)) rm (gPc K P A as u) (gQi K P A out) mc ms A := by
  refine MetI.ofW (cc := cc) (maxL := maxL) (ret := some ty) hy rfl ?_
  intro p e s m args below meth c hx hb hr hlocks hml hname hpre hv
  obtain ⟨rfl, hA, hP, hKs⟩ := hv
  have hts := atoms_spec (ws := ws_ y cc maxL (some ty)) hpre
  have hts : ∀ w ∈ lw_all, w.before _ s = true := fun w h => hts w (List.mem_cons_of_mem _ h)
  have hown : s.vm.findClass y.cls = some m.cls := findClass_of_methodNamed hname
  have hl := lv_entry as (n := maxL) hnl
  rw [lg_entry_eq]
  refine body p e s m below meth c _ _ _ _ _ ⟨hx, hb, hml, hown, hts, hA, hKs⟩ hP va_S.rf hl ?_
  intro pc H locs ls r v hd hn hPv hS ho
  exact W.zret (v := r) hx hb hr hn (fun t ht hW => ⟨⟨r, v, rfl, Option.some.inj ho, by rw [gB, ht]; exact ⟨hPv, hK _ _ hW (by rw [ht]; exact hS.2.1) hKs⟩⟩, hS.F ht⟩) hS.2.2 hd
end GMI
