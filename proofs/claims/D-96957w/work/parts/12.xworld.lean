/-! THE WORLD OF PictureBlock: u = (cells by address, the heap's size). A cell: an array of ints (tag 0 int, 1 byte, 2 short), of longs, of references (tag 4 Slot, 5 Text, 6 long[]), or an object (its class's number, its fields). -/
abbrev AE : Type := (Nat × Nat × (Nat → Int32)) ⊕ (Nat × (Nat → Int64)) ⊕ (Nat × Nat × (Nat → Option Nat)) ⊕ (Nat × List Value)
abbrev aeI (t n : Nat) (f : Nat → Int32) : AE := .inl (t, n, f)
abbrev aeL (n : Nat) (f : Nat → Int64) : AE := .inr (.inl (n, f))
abbrev aeQ (t n : Nat) (f : Nat → Option Nat) : AE := .inr (.inr (.inl (t, n, f)))
abbrev aeO (ci : Nat) (fs : List Value) : AE := .inr (.inr (.inr (ci, fs)))
def ae (cA : Nat → ClassId) (x : AE) : va_E := match x with
  | .inl (t, n, f) => .inl (cA t, n, .inl f)
  | .inr (.inl (n, f)) => .inl (cA 3, n, .inr (.inl f))
  | .inr (.inr (.inl (t, n, f))) => .inl (cA t, n, .inr (.inr (.inr (.inr f))))
  | .inr (.inr (.inr (ci, fs))) => .inr (ci, fs)
abbrev XS : Type := (Nat → Option AE) × Nat
def xset (u : XS) (a : Nat) (x : AE) : XS := (va_up u.1 a (some x), u.2)
def xnew (u : XS) (x : AE) : XS := (va_up u.1 u.2 (some x), u.2 + 1)
def xP (D : va_G) (cA : Nat → ClassId) (A : Nat → Prop) (u : XS) (H : Heap) : Prop := H.size = u.2 ∧ ∀ a x, u.1 a = some x → A a ∧ va_at D vwCl (a, ae cA x) H
theorem xP.one {D : va_G} {cA : Nat → ClassId} {A : Nat → Prop} {u : XS} {H : Heap} (hP : xP D cA A u H) {a : Nat} {x : AE} (ha : u.1 a = some x) : va_P D vwCl [(a, ae cA x)] H := by
  intro k q hk
  cases k with
  | zero => cases hk; exact (hP.2 a x ha).2
  | succ k => simp at hk
theorem xP.set {D : va_G} {cA : Nat → ClassId} {A : Nat → Prop} {u : XS} {H H1 : Heap} (hP : xP D cA A u H) {a : Nat} {x y : AE} (ha : u.1 a = some x) (hz : H1.size = H.size) (oq : ∀ q : Nat, q ≠ a → H1[q]? = H[q]?) (hy : va_at D vwCl (a, ae cA y) H1) : xP D cA A (xset u a y) H1 := by
  refine ⟨hz.trans hP.1, fun b z hb => ?_⟩
  by_cases hba : b = a
  · subst hba
    have hb : va_up u.1 b (some y) b = some z := hb
    rw [va_up_self] at hb
    cases hb
    exact ⟨(hP.2 b x ha).1, hy⟩
  · have hb : va_up u.1 a (some y) b = some z := hb
    rw [va_up_ne _ _ hba] at hb
    exact ⟨(hP.2 b z hb).1, (hP.2 b z hb).2.kept (oq b hba)⟩
theorem xP.new {D : va_G} {cA : Nat → ClassId} {A : Nat → Prop} {u : XS} {H H1 : Heap} (hP : xP D cA A u H) {y : AE} (hA : ∀ q, H.size ≤ q → A q) (hz : H1.size = H.size + 1) (oq : ∀ q : Nat, q < H.size → H1[q]? = H[q]?) (hy : va_at D vwCl (u.2, ae cA y) H1) : xP D cA A (xnew u y) H1 := by
  refine ⟨by rw [hz, hP.1]; rfl, fun b z hb => ?_⟩
  by_cases hba : b = u.2
  · subst hba
    have hb : va_up u.1 u.2 (some y) u.2 = some z := hb
    rw [va_up_self] at hb
    cases hb
    exact ⟨hA _ (Nat.le_of_eq hP.1), hy⟩
  · have hb : va_up u.1 u.2 (some y) b = some z := hb
    rw [va_up_ne _ _ hba] at hb
    exact ⟨(hP.2 b z hb).1, (hP.2 b z hb).2.kept (oq b (hP.2 b z hb).2.lt)⟩
/-! reading -/
def xObj (u : XS) (a : Nat) : Option (Nat × List Value) := match u.1 a with
  | some (.inr (.inr (.inr o))) => some o
  | _ => none
theorem xObj_some {u : XS} {a : Nat} {o : Nat × List Value} (h : xObj u a = some o) : u.1 a = some (aeO o.1 o.2) := by
  unfold xObj at h
  split at h
  · next q e => cases h; exact e
  · cases h
def gV (u : XS) (a ci k : Nat) : Option Value := match xObj u a with
  | some (c, fs) => if c = ci then fs[k]? else none
  | none => none
def xHasF (u : XS) (a ci k : Nat) (v : Value) : Prop := ∃ fs, u.1 a = some (aeO ci fs) ∧ fs[k]? = some v
theorem gV_some {u : XS} {a ci k : Nat} {v : Value} (h : gV u a ci k = some v) : xHasF u a ci k v := by
  unfold gV at h
  split at h
  · next c fs e =>
    split at h
    · next hc => subst hc; exact ⟨fs, xObj_some e, h⟩
    · cases h
  · cases h
def gI (u : XS) (a ci k : Nat) : Option Int32 := match gV u a ci k with
  | some (.int v) => some v
  | _ => none
def gL (u : XS) (a ci k : Nat) : Option Int64 := match gV u a ci k with
  | some (.long v) => some v
  | _ => none
def gR (u : XS) (a ci k : Nat) : Option Nat := match gV u a ci k with
  | some (.ref v) => some v
  | _ => none
def gQ (u : XS) (a ci k : Nat) : Option (Option Nat) := match gV u a ci k with
  | some (.ref v) => some (some v)
  | some .null => some none
  | _ => none
theorem gI_some {u : XS} {a ci k : Nat} {v : Int32} (h : gI u a ci k = some v) : xHasF u a ci k (.int v) := by
  unfold gI at h
  split at h
  · next e => cases h; exact gV_some e
  · cases h
theorem gL_some {u : XS} {a ci k : Nat} {v : Int64} (h : gL u a ci k = some v) : xHasF u a ci k (.long v) := by
  unfold gL at h
  split at h
  · next e => cases h; exact gV_some e
  · cases h
theorem gR_some {u : XS} {a ci k v : Nat} (h : gR u a ci k = some v) : xHasF u a ci k (.ref v) := by
  unfold gR at h
  split at h
  · next e => cases h; exact gV_some e
  · cases h
theorem gQ_some {u : XS} {a ci k : Nat} {v : Option Nat} (h : gQ u a ci k = some v) : xHasF u a ci k (va_rf v) := by
  unfold gQ at h
  split at h
  · next e => cases h; exact gV_some e
  · next e => cases h; exact gV_some e
  · cases h
/-- writing a field -/
def pF (u : XS) (a ci k : Nat) (v : Value) : Option XS := match xObj u a with
  | some (c, fs) => if c = ci ∧ k < fs.length then some (xset u a (aeO ci (fs.set k v))) else none
  | none => none
theorem pF_some {u u1 : XS} {a ci k : Nat} {v : Value} (h : pF u a ci k v = some u1) : ∃ fs, u.1 a = some (aeO ci fs) ∧ k < fs.length ∧ u1 = xset u a (aeO ci (fs.set k v)) := by
  unfold pF at h
  split at h
  · next c fs e =>
    split at h
    · next hc => obtain ⟨rfl, hk⟩ := hc; cases h; exact ⟨fs, xObj_some e, hk, rfl⟩
    · cases h
  · cases h
/-- arrays: what an array of ints (tag t) holds at i -/
def xArr (u : XS) (a t : Nat) : Option (Nat × (Nat → Int32)) := match u.1 a with
  | some (.inl (t', n, f)) => if t' = t then some (n, f) else none
  | _ => none
theorem xArr_some {u : XS} {a t n : Nat} {f : Nat → Int32} (h : xArr u a t = some (n, f)) : u.1 a = some (aeI t n f) := by
  unfold xArr at h
  split at h
  · next e =>
    split at h
    · next hc => subst hc; cases h; exact e
    · cases h
  · cases h
def aI (u : XS) (a t : Nat) (i : Int32) : Option Int32 := match xArr u a t with
  | some (n, f) => if inB i n = true then some (f i.toNatClampNeg) else none
  | none => none
theorem aI_some {u : XS} {a t : Nat} {i v : Int32} (h : aI u a t i = some v) : ∃ n f, u.1 a = some (aeI t n f) ∧ vp_in i n ∧ v = f i.toNatClampNeg := by
  unfold aI at h
  split at h
  · next n f e =>
    split at h
    · next hc => cases h; exact ⟨n, f, xArr_some e, inB_in hc, rfl⟩
    · cases h
  · cases h
/-- what is kept of x in an array with tag t -/
def nar (t : Nat) (x : Int32) : Int32 := if t = 1 then vp_nar .byte x else if t = 2 then vp_nar .short x else x
def sI (u : XS) (a t : Nat) (i x : Int32) : Option XS := match xArr u a t with
  | some (n, f) => if inB i n = true then some (xset u a (aeI t n (upd f i.toNatClampNeg (nar t x)))) else none
  | none => none
theorem sI_some {u u1 : XS} {a t : Nat} {i x : Int32} (h : sI u a t i x = some u1) : ∃ n f, u.1 a = some (aeI t n f) ∧ vp_in i n ∧ u1 = xset u a (aeI t n (upd f i.toNatClampNeg (nar t x))) := by
  unfold sI at h
  split at h
  · next n f e =>
    split at h
    · next hc => cases h; exact ⟨n, f, xArr_some e, inB_in hc, rfl⟩
    · cases h
  · cases h
def xArrL (u : XS) (a : Nat) : Option (Nat × (Nat → Int64)) := match u.1 a with
  | some (.inr (.inl q)) => some q
  | _ => none
theorem xArrL_some {u : XS} {a : Nat} {q : Nat × (Nat → Int64)} (h : xArrL u a = some q) : u.1 a = some (aeL q.1 q.2) := by
  unfold xArrL at h
  split at h
  · next e => cases h; exact e
  · cases h
def aL (u : XS) (a : Nat) (i : Int32) : Option Int64 := match xArrL u a with
  | some (n, f) => if inB i n = true then some (f i.toNatClampNeg) else none
  | none => none
theorem aL_some {u : XS} {a : Nat} {i : Int32} {v : Int64} (h : aL u a i = some v) : ∃ n f, u.1 a = some (aeL n f) ∧ vp_in i n ∧ v = f i.toNatClampNeg := by
  unfold aL at h
  split at h
  · next n f e =>
    split at h
    · next hc => cases h; exact ⟨n, f, xArrL_some e, inB_in hc, rfl⟩
    · cases h
  · cases h
def sL (u : XS) (a : Nat) (i : Int32) (x : Int64) : Option XS := match xArrL u a with
  | some (n, f) => if inB i n = true then some (xset u a (aeL n (vp_updL f i.toNatClampNeg x))) else none
  | none => none
theorem sL_some {u u1 : XS} {a : Nat} {i : Int32} {x : Int64} (h : sL u a i x = some u1) : ∃ n f, u.1 a = some (aeL n f) ∧ vp_in i n ∧ u1 = xset u a (aeL n (vp_updL f i.toNatClampNeg x)) := by
  unfold sL at h
  split at h
  · next n f e =>
    split at h
    · next hc => cases h; exact ⟨n, f, xArrL_some e, inB_in hc, rfl⟩
    · cases h
  · cases h
def xArrQ (u : XS) (a t : Nat) : Option (Nat × (Nat → Option Nat)) := match u.1 a with
  | some (.inr (.inr (.inl (t', n, f)))) => if t' = t then some (n, f) else none
  | _ => none
theorem xArrQ_some {u : XS} {a t n : Nat} {f : Nat → Option Nat} (h : xArrQ u a t = some (n, f)) : u.1 a = some (aeQ t n f) := by
  unfold xArrQ at h
  split at h
  · next e =>
    split at h
    · next hc => subst hc; cases h; exact e
    · cases h
  · cases h
def aQ (u : XS) (a t : Nat) (i : Int32) : Option (Option Nat) := match xArrQ u a t with
  | some (n, f) => if inB i n = true then some (f i.toNatClampNeg) else none
  | none => none
theorem aQ_some {u : XS} {a t : Nat} {i : Int32} {v : Option Nat} (h : aQ u a t i = some v) : ∃ n f, u.1 a = some (aeQ t n f) ∧ vp_in i n ∧ v = f i.toNatClampNeg := by
  unfold aQ at h
  split at h
  · next n f e =>
    split at h
    · next hc => cases h; exact ⟨n, f, xArrQ_some e, inB_in hc, rfl⟩
    · cases h
  · cases h
/-- a reference that isn't null, out of such an array -/
def aR (u : XS) (a t : Nat) (i : Int32) : Option Nat := match aQ u a t i with
  | some (some b) => some b
  | _ => none
theorem aR_some {u : XS} {a t : Nat} {i : Int32} {v : Nat} (h : aR u a t i = some v) : ∃ n f, u.1 a = some (aeQ t n f) ∧ vp_in i n ∧ some v = f i.toNatClampNeg := by
  unfold aR at h
  split at h
  · next e => cases h; exact aQ_some e
  · cases h
def sQ (u : XS) (a t : Nat) (i : Int32) (x : Option Nat) : Option XS := match xArrQ u a t with
  | some (n, f) => if inB i n = true then some (xset u a (aeQ t n (va_up f i.toNatClampNeg x))) else none
  | none => none
theorem sQ_some {u u1 : XS} {a t : Nat} {i : Int32} {x : Option Nat} (h : sQ u a t i x = some u1) : ∃ n f, u.1 a = some (aeQ t n f) ∧ vp_in i n ∧ u1 = xset u a (aeQ t n (va_up f i.toNatClampNeg x)) := by
  unfold sQ at h
  split at h
  · next n f e =>
    split at h
    · next hc => cases h; exact ⟨n, f, xArrQ_some e, inB_in hc, rfl⟩
    · cases h
  · cases h
