/-! GENERIC CONTRACTS. K: what is known of the classes (kept under Alike), P u H: the heap H holds the state u, A: the cells that may be written. -/
def bnd {α β γ : Type} (x : Option (α × β)) (k : α → β → Option γ) : Option γ := match x with
  | some (a, b) => k a b
  | none => none
theorem bnd_some {α β γ : Type} {x : Option (α × β)} {k : α → β → Option γ} {o : γ} (h : bnd x k = some o) : ∃ a b, x = some (a, b) ∧ k a b = some o := by
  cases x with
  | none => cases h
  | some q => exact ⟨q.1, q.2, rfl, h⟩
def bn1 {β γ : Type} (x : Option β) (k : β → Option γ) : Option γ := match x with
  | some b => k b
  | none => none
theorem bn1_some {β γ : Type} {x : Option β} {k : β → Option γ} {o : γ} (h : bn1 x k = some o) : ∃ b, x = some b ∧ k b = some o := by
  cases x with
  | none => cases h
  | some q => exact ⟨q, rfl, h⟩
def chk {γ : Type} (c : Bool) (x : Option γ) : Option γ := if c = true then x else none
theorem chk_some {γ : Type} {c : Bool} {x : Option γ} {o : γ} (h : chk c x = some o) : c = true ∧ x = some o := by
  unfold chk at h
  by_cases hc : c = true
  · rw [if_pos hc] at h; exact ⟨hc, h⟩
  · rw [if_neg hc] at h; cases h
theorem chk_t {γ : Type} {c : Bool} (h : c = true) (x : Option γ) : chk c x = x := if_pos h
/-- an index in range -/
def inB (i : Int32) (n : Nat) : Bool := !(decide (i < 0) || decide (n ≤ i.toNatClampNeg))
theorem inB_in {i : Int32} {n : Nat} (h : inB i n = true) : vp_in i n := by
  intro q
  unfold inB at h
  simp only [Bool.not_eq_true', Bool.or_eq_false_iff, decide_eq_false_iff_not] at h
  exact q.elim h.1 h.2
theorem inB_of {i : Int32} {n : Nat} (h : vp_in i n) : inB i n = true := by
  unfold inB
  simp only [Bool.not_eq_true', Bool.or_eq_false_iff, decide_eq_false_iff_not]
  exact ⟨fun q => h (Or.inl q), fun q => h (Or.inr q)⟩
/-- a boolean's number -/
def isB (v : Int32) : Bool := decide (v = 0) || decide (v = 1)
theorem isB_or {v : Int32} (h : isB v = true) : v = 0 ∨ v = 1 := by
  unfold isB at h
  simpa using h
theorem isB_nar {v : Int32} (h : isB v = true) : narrow .boolean (.int v) = .int v := by
  rcases isB_or h with e | e <;> (subst e; rfl)
theorem isB_fit {v : Int32} (h : isB v = true) : fits .boolean (.int v) = true := by
  rcases isB_or h with e | e <;> (subst e; rfl)
def ne0 (v : Int32) : Bool := !decide (v = 0)
theorem ne0_n {v : Int32} (h : ne0 v = true) : ¬ v = 0 := by
  unfold ne0 at h
  simpa using h
def ne0L (v : Int64) : Bool := !decide (v = 0)
theorem ne0L_n {v : Int64} (h : ne0L v = true) : ¬ v = 0 := by
  unfold ne0L at h
  simpa using h
theorem ite_t {α : Type} {c : Prop} {d : Decidable c} {A B : α} {o : α} (hc : c) (h : (if c then A else B) = o) : A = o := by rwa [if_pos hc] at h
theorem ite_f {α : Type} {c : Prop} {d : Decidable c} {A B : α} {o : α} (hc : ¬ c) (h : (if c then A else B) = o) : B = o := by rwa [if_neg hc] at h
section GB
variable {S : Type}
def gPc (K : State → Prop) (P : S → Heap → Prop) (A : Nat → Prop) (as : List Value) (u : S) : Array Value → State → Prop := va_Pc as (fun U => (∀ q, U.heap.size ≤ q → A q) ∧ P u U.heap ∧ K U)
def gB (K : State → Prop) (P : S → Heap → Prop) (u : S) (t : State) : Prop := P u t.heap ∧ K t
abbrev gQi (K : State → Prop) (P : S → Heap → Prop) (A : Nat → Prop) (out : Int32 × S) : Array Value → State → Outcome → State → Prop := va_Qi (fun r u => (r, u) = out) (gB K P) A
abbrev gQl (K : State → Prop) (P : S → Heap → Prop) (A : Nat → Prop) (out : Int64 × S) : Array Value → State → Outcome → State → Prop := va_Ql (fun r u => (r, u) = out) (gB K P) A
abbrev gQv (K : State → Prop) (P : S → Heap → Prop) (A : Nat → Prop) (out : S) : Array Value → State → Outcome → State → Prop := va_Qv (fun u => u = out) (gB K P) A
abbrev gQq (K : State → Prop) (P : S → Heap → Prop) (A : Nat → Prop) (out : Option Nat × S) : Array Value → State → Outcome → State → Prop := va_Qq (fun r u => (r, u) = out) (gB K P) A
/-- K is kept: by warmer tables, and where nothing has changed outside A -/
abbrev Kst (K : State → Prop) (A : Nat → Prop) : Prop := ∀ s U : State, s.WarmedH U.vm → (∀ q : Nat, q < s.heap.size → ¬ A q → U.heap[q]? = s.heap[q]?) → K s → K U
theorem gPc_blind {K : State → Prop} {P : S → Heap → Prop} {A : Nat → Prop} {as : List Value} {u : S} (hK : Kst K A) : FrameBlind (gPc K P A as u) := by
  intro a U g mk h
  obtain ⟨h1, h2, h3, h4⟩ := h
  exact ⟨h1, h2, h3, hK U (U.calling g mk a) (State.WarmedH.refl U) (fun _ _ _ => rfl) h4⟩
/-- what holds in a body -/
def gCx (p : Program) (m : MethodId) (c : Code) (cc : ByteArray) (maxL : Nat) (s : State) (args : Array Value) (own : String) (K : State → Prop) (A : Nat → Prop) : Prop :=
  p.tables.exec = Jvm.exec ∧ c.code = cc ∧ c.maxLocals = maxL ∧ s.vm.findClass own = some m.cls ∧ (∀ w ∈ lw_all, w.before args s = true) ∧ (∀ q, s.heap.size ≤ q → A q) ∧ K s
theorem gMet_z {l : Launch} {y : MethodName} {cc : ByteArray} {maxL : Nat} {rm : Room} {K : State → Prop} {P : S → Heap → Prop} {A : Nat → Prop} {as : List Value} {u : S} {out : Int32 × S} {mc ms : Nat} {ty : FieldType} (hy : plainName y.cls = true) (hnl : (lg_sl as).length ≤ maxL)
    (body : ∀ (p : Program) (e : Env) (s : State) (m : MethodId) (below : List Frame) (meth : Method) (c : Code) (Q : State → Prop) (ls : Array Slot) (args : Array Value) (H : Heap) (locs : List Loc), gCx p m c cc maxL s args y.cls K A → P u H → va_S A s.heap H locs → lv_has ls maxL (lv_args 0 as) →
      (∀ (pc : Nat) (H : Heap) (locs : List Loc) (ls : Array Slot) (r : Int32) (v : S), decode cc pc = .ok (.ireturn, 1) → narrow ty (.int r) = .int r → P v H → va_S A s.heap H locs → some (r, v) = some out → W p l e rm s m args below meth c H locs mc ms Q (F0 m pc ls [.int r])) →
      W p l e rm s m args below meth c H locs 0 0 Q (F0 m 0 ls [])) (hK : Kst K A) : Met l y (ws_ y cc maxL (some ty)) rm (gPc K P A as u) (gQi K P A out) mc ms A := by
  refine Met.ofW (cc := cc) (maxL := maxL) (ret := some ty) hy rfl ?_
  intro p e s m args below meth c s₁ B hml hv
  obtain ⟨rfl, hA, hP, hKs⟩ := hv
  have hts := atoms_spec (ws := ws_ y cc maxL (some ty)) B.pre
  have hts : ∀ w ∈ lw_all, w.before _ s = true := fun w h => hts w (List.mem_cons_of_mem _ h)
  have hown : s.vm.findClass y.cls = some m.cls := findClass_of_methodNamed B.named
  have hl := lv_entry as (n := maxL) hnl
  rw [lg_entry_eq]
  have hx := B.exec
  have hb := B.bytes
  have hr := B.returns
  have hlocks := B.notSynchronized
  refine body p e s m below meth c _ _ _ _ _ ⟨hx, hb, hml, hown, hts, hA, hKs⟩ hP va_S.rf hl ?_
  intro pc H locs ls r v hd hn hPv hS ho
  exact W.zret (v := r) hx hb hr hn (fun t ht hW => ⟨⟨r, v, rfl, Option.some.inj ho, by rw [gB, ht]; exact ⟨hPv, hK _ _ hW (by rw [ht]; exact hS.2.1) hKs⟩⟩, hS.F ht⟩) hS.2.2 hd
theorem gMet_l {l : Launch} {y : MethodName} {cc : ByteArray} {maxL : Nat} {rm : Room} {K : State → Prop} {P : S → Heap → Prop} {A : Nat → Prop} {as : List Value} {u : S} {out : Int64 × S} {mc ms : Nat} (hy : plainName y.cls = true) (hnl : (lg_sl as).length ≤ maxL)
    (body : ∀ (p : Program) (e : Env) (s : State) (m : MethodId) (below : List Frame) (meth : Method) (c : Code) (Q : State → Prop) (ls : Array Slot) (args : Array Value) (H : Heap) (locs : List Loc), gCx p m c cc maxL s args y.cls K A → P u H → va_S A s.heap H locs → lv_has ls maxL (lv_args 0 as) →
      (∀ (pc : Nat) (H : Heap) (locs : List Loc) (ls : Array Slot) (r : Int64) (v : S), decode cc pc = .ok (.lreturn, 1) → P v H → va_S A s.heap H locs → some (r, v) = some out → W p l e rm s m args below meth c H locs mc ms Q (F0 m pc ls [.long r])) →
      W p l e rm s m args below meth c H locs 0 0 Q (F0 m 0 ls [])) (hK : Kst K A) : Met l y (ws_ y cc maxL (some .long)) rm (gPc K P A as u) (gQl K P A out) mc ms A := by
  refine Met.ofW (cc := cc) (maxL := maxL) (ret := some .long) hy rfl ?_
  intro p e s m args below meth c s₁ B hml hv
  obtain ⟨rfl, hA, hP, hKs⟩ := hv
  have hts := atoms_spec (ws := ws_ y cc maxL (some .long)) B.pre
  have hts : ∀ w ∈ lw_all, w.before _ s = true := fun w h => hts w (List.mem_cons_of_mem _ h)
  have hown : s.vm.findClass y.cls = some m.cls := findClass_of_methodNamed B.named
  have hl := lv_entry as (n := maxL) hnl
  rw [lg_entry_eq]
  have hx := B.exec
  have hb := B.bytes
  have hr := B.returns
  have hlocks := B.notSynchronized
  refine body p e s m below meth c _ _ _ _ _ ⟨hx, hb, hml, hown, hts, hA, hKs⟩ hP va_S.rf hl ?_
  intro pc H locs ls r v hd hPv hS ho
  exact W.lret (v := r) hx hb hr (fun t ht hW => ⟨⟨r, v, rfl, Option.some.inj ho, by rw [gB, ht]; exact ⟨hPv, hK _ _ hW (by rw [ht]; exact hS.2.1) hKs⟩⟩, hS.F ht⟩) hS.2.2 hd
theorem gMet_v {l : Launch} {y : MethodName} {cc : ByteArray} {maxL : Nat} {rm : Room} {K : State → Prop} {P : S → Heap → Prop} {A : Nat → Prop} {as : List Value} {u : S} {out : S} {mc ms : Nat} (hy : plainName y.cls = true) (hnl : (lg_sl as).length ≤ maxL)
    (body : ∀ (p : Program) (e : Env) (s : State) (m : MethodId) (below : List Frame) (meth : Method) (c : Code) (Q : State → Prop) (ls : Array Slot) (args : Array Value) (H : Heap) (locs : List Loc), gCx p m c cc maxL s args y.cls K A → P u H → va_S A s.heap H locs → lv_has ls maxL (lv_args 0 as) → (y.name = "<init>" → meth.name = "<init>") →
      (∀ (pc : Nat) (H : Heap) (locs : List Loc) (ls : Array Slot) (v : S), decode cc pc = .ok (.return_, 1) → P v H → va_S A s.heap H locs → some v = some out → W p l e rm s m args below meth c H locs mc ms Q (F0 m pc ls [])) →
      W p l e rm s m args below meth c H locs 0 0 Q (F0 m 0 ls [])) (hK : Kst K A) : Met l y (ws_ y cc maxL none) rm (gPc K P A as u) (gQv K P A out) mc ms A := by
  refine Met.ofW (cc := cc) (maxL := maxL) (ret := none) hy rfl ?_
  intro p e s m args below meth c s₁ B hml hv
  obtain ⟨rfl, hA, hP, hKs⟩ := hv
  have hts := atoms_spec (ws := ws_ y cc maxL none) B.pre
  have hts : ∀ w ∈ lw_all, w.before _ s = true := fun w h => hts w (List.mem_cons_of_mem _ h)
  have hown : s.vm.findClass y.cls = some m.cls := findClass_of_methodNamed B.named
  have hl := lv_entry as (n := maxL) hnl
  rw [lg_entry_eq]
  have hx := B.exec
  have hb := B.bytes
  have hr := B.returns
  have hlocks := B.notSynchronized
  refine body p e s m below meth c _ _ _ _ _ ⟨hx, hb, hml, hown, hts, hA, hKs⟩ hP va_S.rf hl (fun h => (name_of_methodNamed B.named B.method).1.trans h) ?_
  intro pc H locs ls v hd hPv hS ho
  exact W.vret hx hb hr (fun t ht hW => ⟨⟨v, rfl, Option.some.inj ho, by rw [gB, ht]; exact ⟨hPv, hK _ _ hW (by rw [ht]; exact hS.2.1) hKs⟩⟩, hS.F ht⟩) hS.2.2 hd
section GCalls
variable {p : Program} {l : Launch} {e : Env} {R : Room} {s : State} {m : MethodId} {args : Array Value} {below : List Frame} {meth : Method} {c : Code} {H : Heap} {locs : List Loc} {cells slots : Nat} {Q : State → Prop}
variable {pc : Nat} {ls : Array Slot} {rest st0 : List Value} {a : Array Value} {A : Nat → Prop} {mc ms : Nat} {K : State → Prop} {P : S → Heap → Prop}
theorem gc_i {out : Int32 × S} (hr : va_Run p l e R s m args below meth c H locs cells slots mc ms (F0 m pc ls st0) rest (gQi K P A out a) A) (hS : va_S A s.heap H locs)
    (kk : ∀ (H1 : Heap) (locs1 : List Loc), P out.2 H1 → va_S A s.heap H1 locs1 → W p l e R s m args below meth c H1 locs1 (cells + mc) (slots + ms) Q (F0 m (pc + 3) ls (.int out.1 :: rest))) : W p l e R s m args below meth c H locs cells slots Q (F0 m pc ls st0) := by
  refine va_calli hr hS (fun _ _ h => h) (fun _ h => h) (fun r u t H1 locs1 ht hvm hp hB hz hk hS => ?_)
  subst hp
  obtain ⟨hB1, -⟩ := hB
  rw [ht] at hB1
  exact kk H1 locs1 hB1 hS
theorem gc_l {out : Int64 × S} (hr : va_Run p l e R s m args below meth c H locs cells slots mc ms (F0 m pc ls st0) rest (gQl K P A out a) A) (hS : va_S A s.heap H locs)
    (kk : ∀ (H1 : Heap) (locs1 : List Loc), P out.2 H1 → va_S A s.heap H1 locs1 → W p l e R s m args below meth c H1 locs1 (cells + mc) (slots + ms) Q (F0 m (pc + 3) ls (.long out.1 :: rest))) : W p l e R s m args below meth c H locs cells slots Q (F0 m pc ls st0) := by
  refine va_calll hr hS (fun _ _ h => h) (fun _ h => h) (fun r u t H1 locs1 ht hvm hp hB hz hk hS => ?_)
  subst hp
  obtain ⟨hB1, -⟩ := hB
  rw [ht] at hB1
  exact kk H1 locs1 hB1 hS
theorem gc_v {out : S} (hr : va_Run p l e R s m args below meth c H locs cells slots mc ms (F0 m pc ls st0) rest (gQv K P A out a) A) (hS : va_S A s.heap H locs)
    (kk : ∀ (H1 : Heap) (locs1 : List Loc), P out H1 → va_S A s.heap H1 locs1 → W p l e R s m args below meth c H1 locs1 (cells + mc) (slots + ms) Q (F0 m (pc + 3) ls rest)) : W p l e R s m args below meth c H locs cells slots Q (F0 m pc ls st0) := by
  refine va_callv hr hS (fun _ _ h => h) (fun _ h => h) (fun u t H1 locs1 ht hvm hp hB hz hk hS => ?_)
  subst hp
  obtain ⟨hB1, -⟩ := hB
  rw [ht] at hB1
  exact kk H1 locs1 hB1 hS
variable {as As : List Value} {u : S}
theorem gPreS (hK : Kst K A) (hKs : K s) (hA : ∀ q, s.heap.size ≤ q → A q) (hS : va_S A s.heap H locs) (hP : P u H) : PreS s H (gPc K P A As u) As :=
  ⟨gPc_blind hK, fun U hU hW => ⟨rfl, by rw [hU]; exact fun q h => hA q (Nat.le_trans hS.1 h), by rw [hU]; exact hP, hK _ _ hW (by rw [hU]; exact hS.2.1) hKs⟩⟩
theorem gPreV {C : String} {b : Nat} (hK : Kst K A) (hKs : K s) (hA : ∀ q, s.heap.size ≤ q → A q) (hS : va_S A s.heap H locs) (hP : P u H) (hr : ∃ cellB : Cell, H[b]? = some cellB ∧ cellB.vm.isStatics = false ∧ s.vm.findClass C = some cellB.cls) : PreV s H C b (gPc K P A (.ref b :: As) u) As :=
  ⟨gPc_blind hK, hr, fun U hU hW => ⟨rfl, by rw [hU]; exact fun q h => hA q (Nat.le_trans hS.1 h), by rw [hU]; exact hP, hK _ _ hW (by rw [hU]; exact hS.2.1) hKs⟩⟩
end GCalls
end GB
