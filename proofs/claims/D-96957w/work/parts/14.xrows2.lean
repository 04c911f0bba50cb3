/-! ROWS over the world of PictureBlock, 2: arraycopy, new arrays, what is known of the classes -/
def tyT (t : Nat) : FieldType := if t = 0 then .int else if t = 1 then .byte else .short
def cpOk (t : Nat) (f : Nat → Int32) (n0 n1 : Nat) (sp dp n : Int32) : Bool := !(decide (sp < 0)) && !(decide (dp < 0)) && !(decide (n < 0)) && decide (sp.toNatClampNeg + n.toNatClampNeg ≤ n0) && decide (dp.toNatClampNeg + n.toNatClampNeg ≤ n1) && (List.range n.toNatClampNeg).all fun i => fits (tyT t) (.int (f (sp.toNatClampNeg + i)))
def cpI (u : XS) (t a0 : Nat) (sp : Int32) (a : Nat) (dp n : Int32) : Option XS := match xArr u a0 t with
  | some (n0, f) => match xArr u a t with
    | some (n1, g) => if cpOk t f n0 n1 sp dp n = true then some (xset u a (aeI t n1 (va_cpy f g sp.toNatClampNeg dp.toNatClampNeg n.toNatClampNeg))) else none
    | none => none
  | none => none
theorem cpI_some {u u1 : XS} {t a0 a : Nat} {sp dp n : Int32} (h : cpI u t a0 sp a dp n = some u1) : ∃ n0 f n1 g, u.1 a0 = some (aeI t n0 f) ∧ u.1 a = some (aeI t n1 g) ∧ ¬ sp < 0 ∧ ¬ dp < 0 ∧ ¬ n < 0 ∧ sp.toNatClampNeg + n.toNatClampNeg ≤ n0 ∧ dp.toNatClampNeg + n.toNatClampNeg ≤ n1 ∧ (∀ i, i < n.toNatClampNeg → fits (tyT t) (.int (f (sp.toNatClampNeg + i))) = true) ∧ u1 = xset u a (aeI t n1 (va_cpy f g sp.toNatClampNeg dp.toNatClampNeg n.toNatClampNeg)) := by
  unfold cpI at h
  split at h
  · next n0 f e0 =>
    split at h
    · next n1 g e1 =>
      split at h
      · next hc =>
        cases h
        unfold cpOk at hc
        simp only [Bool.and_eq_true, Bool.not_eq_true', decide_eq_false_iff_not, decide_eq_true_eq, List.all_eq_true, List.mem_range] at hc
        exact ⟨n0, f, n1, g, xArr_some e0, xArr_some e1, hc.1.1.1.1.1, hc.1.1.1.1.2, hc.1.1.1.2, hc.1.1.2, hc.1.2, hc.2, rfl⟩
      · cases h
    · cases h
  · cases h
def cpOkQ (u : XS) (ci : Nat) (f : Nat → Option Nat) (n0 n1 : Nat) (sp dp n : Int32) : Bool := !(decide (sp < 0)) && !(decide (dp < 0)) && !(decide (n < 0)) && decide (sp.toNatClampNeg + n.toNatClampNeg ≤ n0) && decide (dp.toNatClampNeg + n.toNatClampNeg ≤ n1) && (List.range n.toNatClampNeg).all fun i => match f (sp.toNatClampNeg + i) with
  | none => true
  | some y => match xObj u y with
    | some (c, _) => decide (c = ci)
    | none => false
/-- a copy of references to objects of the class ci -/
def cpQ (u : XS) (t ci a0 : Nat) (sp : Int32) (a : Nat) (dp n : Int32) : Option XS := match xArrQ u a0 t with
  | some (n0, f) => match xArrQ u a t with
    | some (n1, g) => if cpOkQ u ci f n0 n1 sp dp n = true then some (xset u a (aeQ t n1 (va_cpy f g sp.toNatClampNeg dp.toNatClampNeg n.toNatClampNeg))) else none
    | none => none
  | none => none
theorem cpQ_some {u u1 : XS} {t ci a0 a : Nat} {sp dp n : Int32} (h : cpQ u t ci a0 sp a dp n = some u1) : ∃ n0 f n1 g, u.1 a0 = some (aeQ t n0 f) ∧ u.1 a = some (aeQ t n1 g) ∧ ¬ sp < 0 ∧ ¬ dp < 0 ∧ ¬ n < 0 ∧ sp.toNatClampNeg + n.toNatClampNeg ≤ n0 ∧ dp.toNatClampNeg + n.toNatClampNeg ≤ n1 ∧ (∀ i, i < n.toNatClampNeg → ∀ y, f (sp.toNatClampNeg + i) = some y → ∃ fs, u.1 y = some (aeO ci fs)) ∧ u1 = xset u a (aeQ t n1 (va_cpy f g sp.toNatClampNeg dp.toNatClampNeg n.toNatClampNeg)) := by
  unfold cpQ at h
  split at h
  · next n0 f e0 =>
    split at h
    · next n1 g e1 =>
      split at h
      · next hc =>
        cases h
        unfold cpOkQ at hc
        simp only [Bool.and_eq_true, Bool.not_eq_true', decide_eq_false_iff_not, decide_eq_true_eq, List.all_eq_true, List.mem_range] at hc
        refine ⟨n0, f, n1, g, xArrQ_some e0, xArrQ_some e1, hc.1.1.1.1.1, hc.1.1.1.1.2, hc.1.1.1.2, hc.1.1.2, hc.1.2, fun i hi y hy => ?_, rfl⟩
        have h2 := hc.2 i hi
        rw [hy] at h2
        dsimp only at h2
        split at h2
        · next cc fs eo =>
          have h3 := of_decide_eq_true h2
          subst h3
          exact ⟨fs, xObj_some eo⟩
        · cases h2
      · cases h
    · cases h
  · cases h
section XR2
variable {p : Program} {l : Launch} {e : Env} {R : Room} {s : State} {m : MethodId} {args : Array Value} {below : List Frame} {meth : Method} {c : Code} {H : Heap} {locs : List Loc} {cells slots : Nat} {Q : State → Prop}
variable {cc : ByteArray} {pc : Nat} {ls : Array Slot} {rest : List Value} {D : va_G} {cA : Nat → ClassId} {A : Nat → Prop} {u u1 : XS} {a : Nat}
theorem x_nn : ∀ z : Int32, ¬ z < 0 → z.toInt = (z.toNatClampNeg : Int) := by
  intro z hz
  have hz0 : (0 : Int) ≤ z.toInt := by
    have := Int32.not_lt.mp hz
    simpa using Int32.le_iff_toInt_le.mp this
  show z.toInt = ((z.toInt.toNat : Nat) : Int)
  omega
/-- behind a copy: the cell at a is y -/
theorem x_behind {T : State} {vm' : Vm} {y : AE} {x : AE} {L : List Loc} {g g2 : JFrame} (hP : xP D cA A u H) (hS : va_S A s.heap H locs) (ha : u.1 a = some x) {cell : Cell} (hcell : ∀ K : Heap, K[a]? = some cell → va_at D vwCl (a, ae cA y) K) (hT : T.heap = H) (hL : ∀ q ∈ L, q.base = a)
    (X' : Stand p l e R s m args below meth c ((T.setVm vm').setCell a cell) (locs ++ L) cells slots) (step : ∀ tg, Steps p.tables e below (((T.setVm vm').setCell a cell).setTop g2) tg → Steps p.tables e below (T.setTop g) tg)
    (kk : ∀ (H1 : Heap) (locs1 : List Loc), xP D cA A (xset u a y) H1 → va_S A s.heap H1 locs1 → W p l e R s m args below meth c H1 locs1 cells slots Q g2) : ∃ t, Steps p.tables e below (T.setTop g) t ∧ Q t := by
  have hl : a < H.size := (hP.2 a _ ha).2.lt
  have hheap : ((T.setVm vm').setCell a cell).heap = H.setIfInBounds a cell := by rw [← hT]; rfl
  have oq : ∀ q : Nat, q ≠ a → (H.setIfInBounds a cell)[q]? = H[q]? := fun q hq => by simp [Array.getElem?_setIfInBounds, Ne.symm hq]
  have hAa := (hP.2 a _ ha).1
  obtain ⟨t, a1, b1⟩ := kk _ _ (hP.set ha (by simp) oq (hcell _ (by simp [Array.getElem?_setIfInBounds, hl]))) ⟨by simp; exact hS.1, fun q g1 g2 => by
      rw [oq q (fun e => g2 (by rw [e]; exact hAa))]
      exact hS.2.1 q g1 g2, fun q hq => by
      rcases List.mem_append.mp hq with h | h
      · exact hS.2.2 q h
      · rw [hL q h]; exact hAa⟩ _ hheap X'
  exact ⟨t, step t a1, b1⟩
theorem x_copyi (hexec : p.tables.exec = Jvm.exec) (hb : c.code = cc) (hml : c.maxLocals = ls.size) {own : String} {index : Nat} (hown : s.vm.findClass own = some m.cls) (hlink : (Cond.methodLink own index arraycopyName).before args s = true) (hnat : (Cond.native arraycopyName).before args s = true) (hstat : (Cond.static arraycopyName).before args s = true) (hini : (Cond.initialized "java/lang/System").before args s = true)
    (hK : mK D cA s) (hP : xP D cA A u H) (hS : va_S A s.heap H locs) {t a0 : Nat} (ht : t ≤ 2) {sp dp n : Int32} (h : cpI u t a0 sp a dp n = some u1)
    (hframes : 1 ≤ R.frames) (hlocals : (rest.map fun v => v.category).sum + (nativeFrameWords "java/lang/System" "arraycopy" 5 + 11) ≤ R.locals) (hdg : decode cc pc = .ok (.invokestatic index, 3))
    (kk : ∀ (H1 : Heap) (locs1 : List Loc), xP D cA A u1 H1 → va_S A s.heap H1 locs1 → W p l e R s m args below meth c H1 locs1 cells slots Q (F0 m (pc + 3) ls rest)) : W p l e R s m args below meth c H locs cells slots Q (F0 m pc ls (.int n :: .int dp :: .ref a :: .int sp :: .ref a0 :: rest)) := by
  obtain ⟨n0, f, n1, g, ha0, ha1, h1, h2, h3, h4, h5, hfit, rfl⟩ := cpI_some h
  have hty : (aTy cA)[t]? = some (cA t, tyT t) := by
    rcases (show t = 0 ∨ t = 1 ∨ t = 2 by omega) with e | e | e <;> subst e <;> rfl
  have hprim : refKind (tyT t) = false := by
    rcases (show t = 0 ∨ t = 1 ∨ t = 2 by omega) with e | e | e <;> subst e <;> rfl
  intro T hT X
  have hc0 : H[a0]? = some (vp_cell (cA t) (n0, .inl f)) := (hP.2 a0 _ ha0).2
  have hc1 : H[a]? = some (vp_cell (cA t) (n1, .inl g)) := (hP.2 a _ ha1).2
  obtain ⟨-, k0, hk0, cm0, hkk0⟩ := (hK.2 t _ hty).1 n0 (fun j => .int (f j))
  obtain ⟨-, k1, hk1, cm1, hkk1⟩ := (hK.2 t _ hty).1 n1 (fun j => .int (g j))
  obtain ⟨vm', X', step⟩ := X.arraycopy hexec hown hlink hnat hstat hini (src := a0) (dst := a) (cs := vp_cell (cA t) (n0, .inl f)) (cd := vp_cell (cA t) (n1, .inl g)) (srcPos := sp) (destPos := dp) (n := n) (by rw [hT]; exact hc0) (by rw [hT]; exact hc1)
    (fun _ h => by cases h) (fun _ h => by cases h) (fun h => by cases h) (fun h => by cases h) hk0 hk1 hkk0 hkk1 (by simp [hprim]) h1 h2 h3
    (by rw [x_nn sp h1, x_nn n h3]; show ¬ _ > ((arrV (cA t) n0 (fun j => .int (f j))).slots.size : Int); rw [arrV_size]; omega)
    (by rw [x_nn dp h2, x_nn n h3]; show ¬ _ > ((arrV (cA t) n1 (fun j => .int (g j))).slots.size : Int); rw [arrV_size]; omega)
    (fun vm₁ _ i hi => by
      have e : (vp_cell (cA t) (n0, .inl f)).slots.getD (sp.toNatClampNeg + i) .null = .int (f (sp.toNatClampNeg + i)) := by
        show (arrV (cA t) n0 (fun j => .int (f j))).slots.getD _ _ = _
        rw [Array.getD_eq_getD_getElem?, arrV_read _ _ (by omega)]
        rfl
      refine ⟨?_, ?_⟩
      · rw [e]
        exact hfit i hi
      · rw [e]
        exact trivial)
    (g := F0 m pc ls (.int n :: .int dp :: .ref a :: .int sp :: .ref a0 :: rest)) rfl (by rw [hml]) (rest := rest) rfl (by rw [hb]; exact hdg) hframes (by show 2 * 0 + _ + _ ≤ _; omega)
  have e1 : copied (vp_cell (cA t) (n0, .inl f)) (vp_cell (cA t) (n1, .inl g)) sp dp n = vp_cell (cA t) (n1, .inl (va_cpy f g sp.toNatClampNeg dp.toNatClampNeg n.toNatClampNeg)) := va_copied (fun z => .int z) (cA t) (cA t) f g h4
  rw [e1] at X' step
  exact x_behind (y := aeI t n1 (va_cpy f g sp.toNatClampNeg dp.toNatClampNeg n.toNatClampNeg)) hP hS ha1 (fun K hk => hk) hT (fun q hq => by obtain ⟨z, -, hz⟩ := List.mem_map.mp hq; rw [← hz]) X' step kk
theorem x_copyq (hexec : p.tables.exec = Jvm.exec) (hb : c.code = cc) (hml : c.maxLocals = ls.size) {own : String} {index : Nat} (hown : s.vm.findClass own = some m.cls) (hlink : (Cond.methodLink own index arraycopyName).before args s = true) (hnat : (Cond.native arraycopyName).before args s = true) (hstat : (Cond.static arraycopyName).before args s = true) (hini : (Cond.initialized "java/lang/System").before args s = true)
    (hK : mK D cA s) (hP : xP D cA A u H) (hS : va_S A s.heap H locs) {t ci a0 : Nat} {r : vw_C} (hty : (aTy cA)[t]? = some (cA t, .object r.1)) (hc : vwCl[ci]? = some r) {sp dp n : Int32} (h : cpQ u t ci a0 sp a dp n = some u1)
    (hframes : 1 ≤ R.frames) (hlocals : (rest.map fun v => v.category).sum + (nativeFrameWords "java/lang/System" "arraycopy" 5 + 11) ≤ R.locals) (hdg : decode cc pc = .ok (.invokestatic index, 3))
    (kk : ∀ (H1 : Heap) (locs1 : List Loc), xP D cA A u1 H1 → va_S A s.heap H1 locs1 → W p l e R s m args below meth c H1 locs1 cells slots Q (F0 m (pc + 3) ls rest)) : W p l e R s m args below meth c H locs cells slots Q (F0 m pc ls (.int n :: .int dp :: .ref a :: .int sp :: .ref a0 :: rest)) := by
  obtain ⟨n0, f, n1, g, ha0, ha1, h1, h2, h3, h4, h5, hel, rfl⟩ := cpQ_some h
  intro T hT X
  have hc0 : H[a0]? = some (vp_cell (cA t) (n0, .inr (.inr (.inr (.inr f))))) := (hP.2 a0 _ ha0).2
  have hc1 : H[a]? = some (vp_cell (cA t) (n1, .inr (.inr (.inr (.inr g))))) := (hP.2 a _ ha1).2
  obtain ⟨-, k0, hk0, cm0, hkk0⟩ := (hK.2 t _ hty).1 n0 (fun j => va_rf (f j))
  obtain ⟨-, k1, hk1, cm1, hkk1⟩ := (hK.2 t _ hty).1 n1 (fun j => va_rf (g j))
  obtain ⟨vm', X', step⟩ := X.arraycopy hexec hown hlink hnat hstat hini (src := a0) (dst := a) (cs := vp_cell (cA t) (n0, .inr (.inr (.inr (.inr f))))) (cd := vp_cell (cA t) (n1, .inr (.inr (.inr (.inr g))))) (srcPos := sp) (destPos := dp) (n := n) (by rw [hT]; exact hc0) (by rw [hT]; exact hc1)
    (fun _ h => by cases h) (fun _ h => by cases h) (fun h => by cases h) (fun h => by cases h) hk0 hk1 hkk0 hkk1 rfl h1 h2 h3
    (by rw [x_nn sp h1, x_nn n h3]; show ¬ _ > ((arrV (cA t) n0 (fun j => va_rf (f j))).slots.size : Int); rw [arrV_size]; omega)
    (by rw [x_nn dp h2, x_nn n h3]; show ¬ _ > ((arrV (cA t) n1 (fun j => va_rf (g j))).slots.size : Int); rw [arrV_size]; omega)
    (fun vm₁ hal i hi => by
      have e : (vp_cell (cA t) (n0, .inr (.inr (.inr (.inr f))))).slots.getD (sp.toNatClampNeg + i) .null = va_rf (f (sp.toNatClampNeg + i)) := by
        show (arrV (cA t) n0 (fun j => va_rf (f j))).slots.getD _ _ = _
        rw [Array.getD_eq_getD_getElem?, arrV_read _ _ (by omega)]
        rfl
      rw [e]
      cases hy : f (sp.toNatClampNeg + i) with
      | none => exact ⟨rfl, trivial⟩
      | some y =>
        obtain ⟨fs, hfy⟩ := hel i hi y hy
        obtain ⟨cellV, g1, g2, g3⟩ := x_recv hK hP hc hfy
        obtain ⟨kA, comp, r1, r2, r3, -⟩ := (hK.2 t _ hty).2
        cases hk1.symm.trans r1
        cases hkk1.symm.trans r2
        obtain ⟨kC, hkC, -⟩ := Vm.findClass_spec g3
        obtain ⟨kE, hkE, -⟩ := Vm.findClass_spec r3
        obtain ⟨kC', hkC', -⟩ := hal.2.2 _ _ hkC
        obtain ⟨kE', hkE', -⟩ := hal.2.2 _ _ hkE
        refine ⟨rfl, cellV, (show T.heap[y]? = some cellV by rw [hT]; exact g1), (fun q h => by rw [h] at g2; cases g2), ⟨kC', hkC'⟩, ?_, ?_⟩
        · exact ⟨kE', hkE'⟩
        · show vm₁.assignable _ _ = true
          rw [hal.assignable]
          have hat := (hK.1 ci r hc).2
          have e1 : cellV.cls = D.1 ci := Option.some.inj (g3.symm.trans hat.1)
          have e2 : cm1 = D.1 ci := Option.some.inj (r3.symm.trans hat.1)
          rw [e1, e2]
          exact va_assign hat)
    (g := F0 m pc ls (.int n :: .int dp :: .ref a :: .int sp :: .ref a0 :: rest)) rfl (by rw [hml]) (rest := rest) rfl (by rw [hb]; exact hdg) hframes (by show 2 * 0 + _ + _ ≤ _; omega)
  have e1 : copied (vp_cell (cA t) (n0, .inr (.inr (.inr (.inr f))))) (vp_cell (cA t) (n1, .inr (.inr (.inr (.inr g))))) sp dp n = vp_cell (cA t) (n1, .inr (.inr (.inr (.inr (va_cpy f g sp.toNatClampNeg dp.toNatClampNeg n.toNatClampNeg))))) := by
    rw [vp_cell_q, vp_cell_q, vp_cell_q]
    exact va_copied (fun z => va_rf z) (cA t) (cA t) f g h4
  rw [e1] at X' step
  exact x_behind (y := aeQ t n1 (va_cpy f g sp.toNatClampNeg dp.toNatClampNeg n.toNatClampNeg)) hP hS ha1 (fun K hk => hk) hT (fun q hq => by obtain ⟨z, -, hz⟩ := List.mem_map.mp hq; rw [← hz]) X' step kk
end XR2
