/-! GENERIC CONTRACTS of methods that may throw: out.1 = .inl answer | .inr thrown -/
def tcr {α β γ : Type} (r : α ⊕ Nat) (u : β) (kR : α → β → Option γ) (kT : Nat → β → Option γ) : Option γ := match r with
  | .inl v => kR v u
  | .inr x => kT x u
theorem tc_l {α β γ : Type} {v : α} {u : β} {kR : α → β → Option γ} {kT : Nat → β → Option γ} {o : Option γ} (h : tcr (.inl v) u kR kT = o) : kR v u = o := h
theorem tc_r {α β γ : Type} {x : Nat} {u : β} {kR : α → β → Option γ} {kT : Nat → β → Option γ} {o : Option γ} (h : tcr (α := α) (.inr x) u kR kT = o) : kT x u = o := h
def tcl {α β γ : Type} (x : Option ((α ⊕ Nat) × β)) (kR : α → β → Option γ) (kT : Nat → β → Option γ) : Option γ := match x with
  | some (r, u) => tcr r u kR kT
  | none => none
theorem tcl_some {α β γ : Type} {x : Option ((α ⊕ Nat) × β)} {kR : α → β → Option γ} {kT : Nat → β → Option γ} {o : γ} (h : tcl x kR kT = some o) : ∃ r u, x = some (r, u) ∧ tcr r u kR kT = some o := by
  cases x with
  | none => cases h
  | some q => exact ⟨q.1, q.2, rfl, h⟩
section GT
variable {S α : Type}
def gQT (K : State → Prop) (P : S → Heap → Prop) (A : Nat → Prop) (mkv : α → Option Value) (out : (α ⊕ Nat) × S) : Array Value → State → Outcome → State → Prop := fun _ st oc t => (match out.1 with
  | .inl v => oc = .returned (mkv v)
  | .inr x => oc = .threw x) ∧ gB K P out.2 t ∧ va_F A st t
abbrev tvV : Unit → Option Value := fun _ => none
abbrev tvI : Int32 → Option Value := fun v => some (.int v)
abbrev tvR : Nat → Option Value := fun v => some (.ref v)
theorem MetT.ofW {l : Launch} {y : MethodName} {ws ws' : List Cond} {rm : Room} {Pc : Array Value → State → Prop} {Qc : Array Value → State → Outcome → State → Prop} {mc ms : Nat} {free : Addr → Prop} {cc : ByteArray} {maxL : Nat} {ret : Option FieldType}
    (hy : plainName y.cls = true) (hw : ws = Cond.code y cc maxL ret :: ws')
    (body : ∀ p e s m args below meth c s₁, BodyLoose p l y (headSpec ws rm) cc maxL ret e s m args below meth c s₁ → c.maxLocals = maxL → c.exceptionTable.isEmpty = true → Pc args s →
      W p l e (headSpec ws rm).room s m args below meth c s.heap [] 0 0 (MQT below Qc args s mc ms free) (entryFrame m args maxL)) : MetT l y ws rm Pc Qc mc ms free := by
  refine MetFree.of_bodyS (code := cc) (maxLocals := maxL) (ret := ret) hy ?_ ?_
  · intro args s m h hn
    obtain ⟨meth, c, h1, h2, h3, h4, h5, h6, -, -⟩ := Cond.code_spec hn (atoms_spec (ws := ws) h _ (by rw [hw]; exact List.mem_cons_self))
    exact ⟨meth, c, h1, h2, h3, h4, h5, h6⟩
  · intro p e s m args below meth c s₁ B hml hP _
    have hh0 : s₁.heap = s.heap := by rw [B.state]; rfl
    have hemp := B.noHandlers (atoms_spec (ws := ws) B.pre _ (by rw [hw]; exact List.mem_cons_self))
    obtain ⟨t, a1, o, b1, b2, b3⟩ := body p e s m args below meth c s₁ B hml hemp hP s₁ hh0 (Stand.of_body B)
    exact ⟨t, o, a1, b1, b2, ⟨b3.1, b3.2⟩⟩
theorem noh {c : Code} (h : c.exceptionTable.isEmpty = true) (pc : Nat) : ∀ x ∈ c.exceptionTable.toList, covers x pc = false := by
  have h0 : c.exceptionTable.size = 0 := by simpa [Array.isEmpty] using h
  have h1 : c.exceptionTable.toList = [] := List.eq_nil_of_length_eq_zero (by simpa using h0)
  intro y hy
  rw [h1] at hy
  cases hy
/-- what the end rows of a throwing method give -/
abbrev gLea (p : Program) (l : Launch) (e : Env) (rm : Room) (s : State) (m : MethodId) (args : Array Value) (below : List Frame) (meth : Method) (c : Code) (P : S → Heap → Prop) (A : Nat → Prop) (Q : State → Prop) (out : (α ⊕ Nat) × S) (mc ms : Nat) : Prop := ∀ (pc : Nat) (H : Heap) (locs : List Loc) (ls : Array Slot) (rest : List Value) (x : Nat) (v : S), P v H → va_S A s.heap H locs → some (Sum.inr x, v) = some out → WX p l e rm s m args below meth c H locs mc ms Q (F0 m pc ls rest) x
theorem gMetT_v {l : Launch} {y : MethodName} {cc : ByteArray} {maxL : Nat} {rm : Room} {K : State → Prop} {P : S → Heap → Prop} {A : Nat → Prop} {as : List Value} {u : S} {out : (Unit ⊕ Nat) × S} {mc ms : Nat} (hy : plainName y.cls = true) (hnl : (lg_sl as).length ≤ maxL)
    (body : ∀ (p : Program) (e : Env) (s : State) (m : MethodId) (below : List Frame) (meth : Method) (c : Code) (Q : State → Prop) (ls : Array Slot) (args : Array Value) (H : Heap) (locs : List Loc), gCx p m c cc maxL s args y.cls K A → P u H → va_S A s.heap H locs → lv_has ls maxL (lv_args 0 as) →
      (∀ (pc : Nat) (H : Heap) (locs : List Loc) (ls : Array Slot) (v : S), decode cc pc = .ok (.return_, 1) → P v H → va_S A s.heap H locs → some (Sum.inl (), v) = some out → W p l e rm s m args below meth c H locs 0 0 Q (F0 m pc ls [])) →
      gLea p l e rm s m args below meth c P A Q out mc ms →
      W p l e rm s m args below meth c H locs 0 0 Q (F0 m 0 ls [])) (hK : Kst K A) : MetT l y (ws_ y cc maxL none) rm (gPc K P A as u) (gQT K P A tvV out) mc ms A := by
  refine MetT.ofW (cc := cc) (maxL := maxL) (ret := none) hy rfl ?_
  intro p e s m args below meth c s₁ B hml hemp hv
  obtain ⟨rfl, hA, hP, hKs⟩ := hv
  have hts := atoms_spec (ws := ws_ y cc maxL none) B.pre
  have hts : ∀ w ∈ lw_all, w.before _ s = true := fun w h => hts w (List.mem_cons_of_mem _ h)
  have hown : s.vm.findClass y.cls = some m.cls := findClass_of_methodNamed B.named
  have hl := lv_entry as (n := maxL) hnl
  rw [lg_entry_eq]
  have hx := B.exec
  have hb := B.bytes
  have hr := B.returns
  have hlocks := B.notSynchronized
  refine body p e s m below meth c _ _ _ _ _ ⟨hx, hb, hml, hown, hts, hA, hKs⟩ hP va_S.rf hl ?_ ?_
  · intro pc H locs ls v hd hPv hS ho
    have ho := Option.some.inj ho
    subst ho
    exact W.mono (fun t h => MQ.toT h) (W.vret hx hb hr (fun t ht hW => ⟨rfl, by rw [gB, ht]; exact ⟨hPv, hK _ _ hW (by rw [ht]; exact hS.2.1) hKs⟩, hS.F ht⟩) hS.2.2 hd)
  · intro pc H locs ls rest x v hPv hS ho
    have ho := Option.some.inj ho
    subst ho
    exact WX.leave hlocks (noh hemp pc) (fun t ht hW => ⟨rfl, by rw [gB, ht]; exact ⟨hPv, hK _ _ hW (by rw [ht]; exact hS.2.1) hKs⟩, hS.F ht⟩) hS.2.2
theorem gMetT_z {l : Launch} {y : MethodName} {cc : ByteArray} {maxL : Nat} {rm : Room} {K : State → Prop} {P : S → Heap → Prop} {A : Nat → Prop} {as : List Value} {u : S} {out : (Int32 ⊕ Nat) × S} {mc ms : Nat} {ty : FieldType} (hy : plainName y.cls = true) (hnl : (lg_sl as).length ≤ maxL)
    (body : ∀ (p : Program) (e : Env) (s : State) (m : MethodId) (below : List Frame) (meth : Method) (c : Code) (Q : State → Prop) (ls : Array Slot) (args : Array Value) (H : Heap) (locs : List Loc), gCx p m c cc maxL s args y.cls K A → P u H → va_S A s.heap H locs → lv_has ls maxL (lv_args 0 as) →
      (∀ (pc : Nat) (H : Heap) (locs : List Loc) (ls : Array Slot) (r : Int32) (v : S), decode cc pc = .ok (.ireturn, 1) → narrow ty (.int r) = .int r → P v H → va_S A s.heap H locs → some (Sum.inl r, v) = some out → W p l e rm s m args below meth c H locs 0 0 Q (F0 m pc ls [.int r])) →
      gLea p l e rm s m args below meth c P A Q out mc ms →
      W p l e rm s m args below meth c H locs 0 0 Q (F0 m 0 ls [])) (hK : Kst K A) : MetT l y (ws_ y cc maxL (some ty)) rm (gPc K P A as u) (gQT K P A tvI out) mc ms A := by
  refine MetT.ofW (cc := cc) (maxL := maxL) (ret := some ty) hy rfl ?_
  intro p e s m args below meth c s₁ B hml hemp hv
  obtain ⟨rfl, hA, hP, hKs⟩ := hv
  have hts := atoms_spec (ws := ws_ y cc maxL (some ty)) B.pre
  have hts : ∀ w ∈ lw_all, w.before _ s = true := fun w h => hts w (List.mem_cons_of_mem _ h)
  have hown : s.vm.findClass y.cls = some m.cls := findClass_of_methodNamed B.named
  have hl := lv_entry as (n := maxL) hnl
  rw [lg_entry_eq]
  have hx := B.exec
  have hb := B.bytes
  have hr := B.returns
  have hlocks := B.notSynchronized
  refine body p e s m below meth c _ _ _ _ _ ⟨hx, hb, hml, hown, hts, hA, hKs⟩ hP va_S.rf hl ?_ ?_
  · intro pc H locs ls r v hd hn hPv hS ho
    have ho := Option.some.inj ho
    subst ho
    exact W.mono (fun t h => MQ.toT h) (W.zret (v := r) hx hb hr hn (fun t ht hW => ⟨rfl, by rw [gB, ht]; exact ⟨hPv, hK _ _ hW (by rw [ht]; exact hS.2.1) hKs⟩, hS.F ht⟩) hS.2.2 hd)
  · intro pc H locs ls rest x v hPv hS ho
    have ho := Option.some.inj ho
    subst ho
    exact WX.leave hlocks (noh hemp pc) (fun t ht hW => ⟨rfl, by rw [gB, ht]; exact ⟨hPv, hK _ _ hW (by rw [ht]; exact hS.2.1) hKs⟩, hS.F ht⟩) hS.2.2
theorem gMetT_r {l : Launch} {y : MethodName} {cc : ByteArray} {maxL : Nat} {rm : Room} {K : State → Prop} {P : S → Heap → Prop} {A : Nat → Prop} {as : List Value} {u : S} {out : (Nat ⊕ Nat) × S} {mc ms : Nat} {rt : FieldType} (hrt : (∃ n, rt = .object n) ∨ ∃ t, rt = .array t) (hy : plainName y.cls = true) (hnl : (lg_sl as).length ≤ maxL)
    (body : ∀ (p : Program) (e : Env) (s : State) (m : MethodId) (below : List Frame) (meth : Method) (c : Code) (Q : State → Prop) (ls : Array Slot) (args : Array Value) (H : Heap) (locs : List Loc), gCx p m c cc maxL s args y.cls K A → P u H → va_S A s.heap H locs → lv_has ls maxL (lv_args 0 as) →
      (∀ (pc : Nat) (H : Heap) (locs : List Loc) (ls : Array Slot) (r : Nat) (v : S), decode cc pc = .ok (.areturn, 1) → P v H → va_S A s.heap H locs → some (Sum.inl r, v) = some out → W p l e rm s m args below meth c H locs 0 0 Q (F0 m pc ls [.ref r])) →
      gLea p l e rm s m args below meth c P A Q out mc ms →
      W p l e rm s m args below meth c H locs 0 0 Q (F0 m 0 ls [])) (hK : Kst K A) : MetT l y (ws_ y cc maxL (some rt)) rm (gPc K P A as u) (gQT K P A tvR out) mc ms A := by
  refine MetT.ofW (cc := cc) (maxL := maxL) (ret := some rt) hy rfl ?_
  intro p e s m args below meth c s₁ B hml hemp hv
  obtain ⟨rfl, hA, hP, hKs⟩ := hv
  have hts := atoms_spec (ws := ws_ y cc maxL (some rt)) B.pre
  have hts : ∀ w ∈ lw_all, w.before _ s = true := fun w h => hts w (List.mem_cons_of_mem _ h)
  have hown : s.vm.findClass y.cls = some m.cls := findClass_of_methodNamed B.named
  have hl := lv_entry as (n := maxL) hnl
  rw [lg_entry_eq]
  have hx := B.exec
  have hb := B.bytes
  have hr := B.returns
  have hlocks := B.notSynchronized
  refine body p e s m below meth c _ _ _ _ _ ⟨hx, hb, hml, hown, hts, hA, hKs⟩ hP va_S.rf hl ?_ ?_
  · intro pc H locs ls r v hd hPv hS ho
    have ho := Option.some.inj ho
    subst ho
    exact W.mono (fun t h => MQ.toT h) (W.aret (v := .ref r) hx hb hr hrt (Or.inr ⟨_, rfl⟩) (fun t ht hW => ⟨rfl, by rw [gB, ht]; exact ⟨hPv, hK _ _ hW (by rw [ht]; exact hS.2.1) hKs⟩, hS.F ht⟩) hS.2.2 hd)
  · intro pc H locs ls rest x v hPv hS ho
    have ho := Option.some.inj ho
    subst ho
    exact WX.leave hlocks (noh hemp pc) (fun t ht hW => ⟨rfl, by rw [gB, ht]; exact ⟨hPv, hK _ _ hW (by rw [ht]; exact hS.2.1) hKs⟩, hS.F ht⟩) hS.2.2
variable {p : Program} {l : Launch} {e : Env} {R : Room} {s : State} {m : MethodId} {args : Array Value} {below : List Frame} {meth : Method} {c : Code} {H : Heap} {locs : List Loc} {cells slots : Nat} {Q : State → Prop}
variable {pc : Nat} {ls : Array Slot} {rest st0 : List Value} {a : Array Value} {A : Nat → Prop} {mc ms : Nat} {K : State → Prop} {P : S → Heap → Prop}
theorem gcT {mkv : α → Option Value} {r : α ⊕ Nat} {u : S} (hr : va_RunT p l e R s m args below meth c H locs cells slots mc ms (F0 m pc ls st0) rest (gQT K P A mkv (r, u) a) A) (hS : va_S A s.heap H locs)
    (kR : ∀ (v : α) (H1 : Heap) (locs1 : List Loc), r = .inl v → P u H1 → va_S A s.heap H1 locs1 → W p l e R s m args below meth c H1 locs1 cells slots Q (F0 m (pc + 3) ls ((mkv v).toList ++ rest)))
    (kT : ∀ (x : Nat) (H1 : Heap) (locs1 : List Loc), r = .inr x → P u H1 → va_S A s.heap H1 locs1 → WX p l e R s m args below meth c H1 locs1 (cells + mc) (slots + ms) Q (F0 m pc ls rest) x) : W p l e R s m args below meth c H locs cells slots Q (F0 m pc ls st0) := by
  intro T hT X
  obtain ⟨o, st₀, t, T', L, h0, X', hL, e1, e2, ⟨hq1, hq2, hz, hk⟩, hend⟩ := hr T hT X
  rw [h0] at hz hk
  have hS' : va_S A s.heap T'.heap (locs ++ L) := ⟨Nat.le_trans hS.1 (by rw [e1]; exact hz), fun q h1 h2 => by rw [e1, hk q (Nat.lt_of_lt_of_le h1 hS.1) h2]; exact hS.2.1 q h1 h2, fun q hq => by
      rcases List.mem_append.mp hq with h | h
      · exact hS.2.2 q h
      · exact hL q h⟩
  have hPu : P u T'.heap := by rw [e1]; exact hq2.1
  cases r with
  | inl v =>
    have hq1 : o = .returned (mkv v) := hq1
    subst hq1
    rcases hend with ⟨w, ho, hst⟩ | ⟨x, ho, hst⟩
    · cases ho
      obtain ⟨t2, a1, b1⟩ := kR v T'.heap (locs ++ L) rfl hPu hS' T' rfl X'
      exact ⟨t2, hst t2 a1, b1⟩
    · cases ho
  | inr x =>
    have hq1 : o = .threw x := hq1
    subst hq1
    rcases hend with ⟨w, ho, hst⟩ | ⟨x', ho, hst⟩
    · cases ho
    · cases ho
      obtain ⟨t2, a1, b1⟩ := kT x T'.heap (locs ++ L) rfl hPu hS' T' rfl X'
      exact ⟨t2, hst t2 a1, b1⟩
end GT
