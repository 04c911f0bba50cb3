/-! For the reader: String.indexOf by the constant's address (sk), new Fault(at) -/
def sIx (sk : Nat → Nat) (a : Nat) (c : Int32) : Option Int32 := if a = sk 0 then some (ixS 0 c) else if a = sk 1 then some (ixS 1 c) else if a = sk 2 then some (ixS 2 c) else if a = sk 3 then some (ixS 3 c) else if a = sk 4 then some (ixS 4 c) else none
theorem sIx_some {sk : Nat → Nat} {a : Nat} {c v : Int32} (h : sIx sk a c = some v) : ∃ i, i < 5 ∧ a = sk i ∧ v = ixS i c := by
  unfold sIx at h
  split at h
  · next e => cases h; exact ⟨0, by decide, e, rfl⟩
  · split at h
    · next e => cases h; exact ⟨1, by decide, e, rfl⟩
    · split at h
      · next e => cases h; exact ⟨2, by decide, e, rfl⟩
      · split at h
        · next e => cases h; exact ⟨3, by decide, e, rfl⟩
        · split at h
          · next e => cases h; exact ⟨4, by decide, e, rfl⟩
          · cases h
section XIX
variable {p : Program} {l : Launch} {e : Env} {R : Room} {s : State} {m : MethodId} {args : Array Value} {below : List Frame} {meth : Method} {c : Code} {H : Heap} {locs : List Loc} {cells slots : Nat} {Q : State → Prop}
variable {cc : ByteArray} {pc nL : Nat} {ls : Array Slot} {rest : List Value} {D : va_G} {cA : Nat → ClassId} {A : Nat → Prop} {u : XS}
theorem x_indexOf {own : String} {index : Nat} (S0 : CallFix p m c cc nL s args lw_all own) (q1 : Cond.methodLink own index yJ3_indexOf ∈ lw_all) (hK : xK D cA A s) (hA : ∀ q, s.heap.size ≤ q → A q) (hP : xP D cA A u H) (hS : va_S A s.heap H locs) {sk : Nat → Nat} (hsk : ∀ i, sk i = cA (10 + i)) {a : Nat} {c0 v : Int32} (h : sIx sk a c0 = some v)
    (hsize : ls.size = nL) (hW : 2 * (F0 m pc ls (.int c0 :: .ref a :: rest)).monitorRoom + (rest.map fun v => v.category).sum ≤ 8) (hR : 3 + 1 ≤ R.frames ∧ 8 + (2 + 11) + 120 ≤ R.locals) (hf : cells + 0 ≤ R.cells ∧ slots + 0 ≤ R.slots) (hdg : decode cc pc = .ok (.invokevirtual index, 3))
    (kk : ∀ (H1 : Heap) (locs1 : List Loc), xP D cA A u H1 → va_S A s.heap H1 locs1 → W p l e R s m args below meth c H1 locs1 cells slots Q (F0 m (pc + 3) ls (.int v :: rest))) : W p l e R s m args below meth c H locs cells slots Q (F0 m pc ls (.int c0 :: .ref a :: rest)) := by
  obtain ⟨i, hi, ea, ev⟩ := sIx_some h
  rw [hsk] at ea
  subst ea; subst ev
  have hts := S0.2.2.2.2
  have hs := hK.2.2.2.2.2.2.2.1
  exact gc0_i (va_runV (As := [.int c0]) (rest := rest) S0 (mJ3_indexOf (l := l) (D := D) (cA := cA) (A := A) hi c0 u) (cwV 1 hts (lw_V q1 q776 q777 q104 q778) rfl rfl rfl (by decide +kernel) hR) (gPreV xKst hK hA hS hP (vk_recv (adK := fun i => cA (10 + i)) (i := i) hs.1 hi hS)) rfl rfl hsize rfl hW hdg hf) hS kk
end XIX
def fX14_init (x0 : Nat) (x1 : Int32) (S : XS) : Option XS := match S.1 x0 with
  | some (.inr (.inr (.inr (c, [.null, .null, .null, .null, .null, .int a, .int b])))) => if c = 14 ∧ a = 0 ∧ b = 0 then some (xset S x0 (aeO 14 (ftL x1))) else none
  | _ => none
theorem mX14_init {l : Launch} {D : va_G} {cA : Nat → ClassId} {A : Nat → Prop} (x0 : Nat) (x1 : Int32) (S : XS) {out : XS} (h : fX14_init x0 x1 S = some out) : Met l yX14_init (ws_ yX14_init cX14_init 2 none) ({ frames := 3, cells := 0, slots := 0, locals := 100 } : Room) (gPc (xK D cA A) (xP D cA A) A [.ref x0, .int x1] S) (gQv (xK D cA A) (xP D cA A) A out) 0 0 A := by
  unfold fX14_init at h
  split at h
  · next c a b e =>
    split at h
    · next hc =>
      obtain ⟨rfl, rfl, rfl⟩ := hc
      cases h
      exact mF_init e x1
    · cases h
  · cases h
