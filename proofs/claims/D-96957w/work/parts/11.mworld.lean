/-! THE WORLD OF PictureBlockModel: S = (int arrays by field number, long arrays, int and boolean fields, the long field) -/
abbrev vwCl : List vw_C := [(RX0, TX0, 16), (RX1, TX1, 16), (RX2, TX2, 1), (RX3, TX3, 2), (RX4, TX4, 24), (RX5, TX5, 2), (RX6, TX6, 2), (RX7, TX7, 2), (RX8, TX8, 2), (RX9, TX9, 2), (RX10, TX10, 2), (RX11, TX11, 2), (RX12, TX12, 6), (RX13, TX13, 3), (RX14, TX14, 7), (RJ10, TJ10, 0), (RJ11, TJ11, 0), (RJ12, TJ12, 0)]
abbrev MS : Type := (Nat → Nat → Int32) × (Nat → Nat → Int64) × (Nat → Int32) × Int64
def mIA (S : MS) (k : Nat) : Nat → Int32 := S.1 k
def mLA (S : MS) (k : Nat) : Nat → Int64 := S.2.1 k
def mIF (S : MS) (k : Nat) : Int32 := S.2.2.1 k
def mLF (S : MS) : Int64 := S.2.2.2
def sIA (S : MS) (k : Nat) (f : Nat → Int32) : MS := (va_up S.1 k f, S.2)
def sLA (S : MS) (k : Nat) (f : Nat → Int64) : MS := (S.1, va_up S.2.1 k f, S.2.2)
def sIF (S : MS) (k : Nat) (v : Int32) : MS := (S.1, S.2.1, va_up S.2.2.1 k v, S.2.2.2)
def sLF (S : MS) (v : Int64) : MS := (S.1, S.2.1, S.2.2.1, v)
/-- fuel of every loop -/
def FU : Nat := 1000
/-- depth of the recursive ones -/
def DEP : Nat := 8
def nm {α β : Type} (x : α) (k : α → β) : β := k x
theorem nm_at {α β : Type} {x v : α} {k : α → β} {o : β} (e : v = x) (h : nm x k = o) : k v = o := by subst e; exact h
def aTy (cA : Nat → ClassId) : List (ClassId × FieldType) := [(cA 0, .int), (cA 1, .byte), (cA 2, .short), (cA 3, .long), (cA 4, .object "PictureBlock$Slot"), (cA 5, .object "PictureBlock$Text"), (cA 6, .array .long)]
def mK (D : va_G) (cA : Nat → ClassId) : State → Prop := va_K D vwCl (aTy cA)
theorem mKst {D : va_G} {cA : Nat → ClassId} {A : Nat → Prop} : Kst (mK D cA) A := fun _ _ h _ k => va_K.moved h.alike k
def mW (cA : Nat → ClassId) (o : Nat → Nat) (S : MS) : va_W := [(o 24, .inr (4, [.ref (o 0), .ref (o 1), .ref (o 2), .int (mIF S 3), .ref (o 4), .ref (o 5), .ref (o 6), .ref (o 7), .ref (o 8), .ref (o 9), .ref (o 10), .long (mLF S), .ref (o 12), .ref (o 13), .ref (o 14), .ref (o 15), .int (mIF S 16), .int (mIF S 17), .int (mIF S 18), .int (mIF S 19), .int (mIF S 20), .ref (o 21), .int (mIF S 22), .int (mIF S 23)])), (o 0, .inl (cA 0, 382, .inl (mIA S 0))), (o 1, .inl (cA 0, 382, .inl (mIA S 1))), (o 2, .inl (cA 0, 382, .inl (mIA S 2))), (o 4, .inl (cA 0, 7, .inl (mIA S 4))), (o 5, .inl (cA 0, 4, .inl (mIA S 5))), (o 6, .inl (cA 0, 4, .inl (mIA S 6))), (o 7, .inl (cA 0, 96, .inl (mIA S 7))), (o 8, .inl (cA 3, 16, .inr (.inl (mLA S 8)))), (o 9, .inl (cA 3, 4, .inr (.inl (mLA S 9)))), (o 10, .inl (cA 3, 4, .inr (.inl (mLA S 10)))), (o 12, .inl (cA 0, 60, .inl (mIA S 12))), (o 13, .inl (cA 0, 60, .inl (mIA S 13))), (o 14, .inl (cA 0, 3, .inl (mIA S 14))), (o 15, .inl (cA 0, 60, .inl (mIA S 15))), (o 21, .inl (cA 0, 30, .inl (mIA S 21)))]
def mP (D : va_G) (cA : Nat → ClassId) (o : Nat → Nat) (A : Nat → Prop) (S : MS) (H : Heap) : Prop := va_P D vwCl (mW cA o S) H ∧ va_D A (mW cA o S)
theorem mRecv {s : State} {H : Heap} {D : va_G} {cA : Nat → ClassId} {o : Nat → Nat} {A : Nat → Prop} {S : MS} (hK : mK D cA s) (hP : mP D cA o A S H) : ∃ cell : Cell, H[o 24]? = some cell ∧ cell.vm.isStatics = false ∧ s.vm.findClass RX4 = some cell.cls := va_recv (q := (RX4, TX4, 24)) hK hP.1 (ci := 4) (q0 := 0) rfl rfl
section GCalls0
variable {S : Type} {p : Program} {l : Launch} {e : Env} {R : Room} {s : State} {m : MethodId} {args : Array Value} {below : List Frame} {meth : Method} {c : Code} {H : Heap} {locs : List Loc} {cells slots : Nat} {Q : State → Prop}
variable {pc : Nat} {ls : Array Slot} {rest st0 : List Value} {a : Array Value} {A : Nat → Prop} {K : State → Prop} {P : S → Heap → Prop}
theorem gc0_i {v : Int32} {u : S} (hr : va_Run p l e R s m args below meth c H locs cells slots 0 0 (F0 m pc ls st0) rest (gQi K P A (v, u) a) A) (hS : va_S A s.heap H locs)
    (kk : ∀ (H1 : Heap) (locs1 : List Loc), P u H1 → va_S A s.heap H1 locs1 → W p l e R s m args below meth c H1 locs1 cells slots Q (F0 m (pc + 3) ls (.int v :: rest))) : W p l e R s m args below meth c H locs cells slots Q (F0 m pc ls st0) := gc_i hr hS kk
theorem gc0_l {v : Int64} {u : S} (hr : va_Run p l e R s m args below meth c H locs cells slots 0 0 (F0 m pc ls st0) rest (gQl K P A (v, u) a) A) (hS : va_S A s.heap H locs)
    (kk : ∀ (H1 : Heap) (locs1 : List Loc), P u H1 → va_S A s.heap H1 locs1 → W p l e R s m args below meth c H1 locs1 cells slots Q (F0 m (pc + 3) ls (.long v :: rest))) : W p l e R s m args below meth c H locs cells slots Q (F0 m pc ls st0) := gc_l hr hS kk
theorem gc0_v {u : S} (hr : va_Run p l e R s m args below meth c H locs cells slots 0 0 (F0 m pc ls st0) rest (gQv K P A u a) A) (hS : va_S A s.heap H locs)
    (kk : ∀ (H1 : Heap) (locs1 : List Loc), P u H1 → va_S A s.heap H1 locs1 → W p l e R s m args below meth c H1 locs1 cells slots Q (F0 m (pc + 3) ls rest)) : W p l e R s m args below meth c H locs cells slots Q (F0 m pc ls st0) := gc_v hr hS kk
end GCalls0
