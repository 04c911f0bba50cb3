/-! ROWS over the world of PictureBlock, 3: new arrays, stores of references, answers that are references, interface calls -/
section XR3
variable {p : Program} {l : Launch} {e : Env} {R : Room} {s : State} {m : MethodId} {args : Array Value} {below : List Frame} {meth : Method} {c : Code} {H : Heap} {locs : List Loc} {cells slots : Nat} {Q : State → Prop}
variable {cc : ByteArray} {pc : Nat} {ls : Array Slot} {rest : List Value} {D : va_G} {cA : Nat → ClassId} {A : Nat → Prop} {u u1 : XS} {a : Nat}
theorem x_newG (hexec : p.tables.exec = Jvm.exec) (hb : c.code = cc) {atype : ArrayType} (harr : (Cond.arrayClass (newarray.typeOf atype)).before args s = true) (hK : mK D cA s) (hP : xP D cA A u H) (hS : va_S A s.heap H locs) (hA : ∀ q, s.heap.size ≤ q → A q)
    (t : Nat) (ht : (aTy cA)[t]? = some (cA t, newarray.typeOf atype)) (hra : va_RA s (cA t) (newarray.typeOf atype) → s.vm.findClass ("[" ++ (newarray.typeOf atype).toString) = some (cA t)) {n : Int32} {N' : Nat} {x : AE} (hx : ∀ K : Heap, K[u.2]? = some (arrV (cA t) N' (fun _ => defaultValue (newarray.typeOf atype))) → va_at D vwCl (u.2, ae cA x) K)
    (hn : ¬ n < 0) (hN : n.toNatClampNeg = N') (hbytes : N' * componentBytes (newarray.typeOf atype) ≤ 536870912) (hcells : cells + 1 ≤ R.cells) (hslots : slots + N' ≤ R.slots) (hdg : decode cc pc = .ok (.newarray atype, 2))
    (kk : ∀ (H1 : Heap), xP D cA A (xnew u x) H1 → va_S A s.heap H1 locs → W p l e R s m args below meth c H1 locs (cells + 1) (slots + N') Q (F0 m (pc + 2) ls (.ref u.2 :: rest))) : W p l e R s m args below meth c H locs cells slots Q (F0 m pc ls (.int n :: rest)) := by
  refine va_newaK hexec hb harr rfl hdg rfl hn hN hbytes hcells hslots hP.1 fun H1 cB e1 z1 o1 hAr hNm => ?_
  have hcB : cB = cA t := Option.some.inj (hNm.symm.trans (hra (hK.2 t _ ht).2))
  subst hcB
  have o1 : ∀ q, q < H.size → H1[q]? = H[q]? := by rw [hP.1]; exact o1
  exact kk H1 (hP.new (fun q h => hA q (Nat.le_trans hS.1 h)) (by rw [z1, hP.1]) o1 (hx H1 e1)) ⟨Nat.le_trans hS.1 (by rw [z1, hP.1]; exact Nat.le_succ _), fun x h1 h2 => (o1 x (Nat.lt_of_lt_of_le h1 hS.1)).trans (hS.2.1 x h1 h2), hS.2.2⟩
theorem x_new0 (hexec : p.tables.exec = Jvm.exec) (hb : c.code = cc) (harr : (Cond.arrayClass FieldType.int).before args s = true) (hK : mK D cA s) (hP : xP D cA A u H) (hS : va_S A s.heap H locs) (hA : ∀ q, s.heap.size ≤ q → A q) {n : Int32} {N' : Nat}
    (hn : ¬ n < 0) (hN : n.toNatClampNeg = N') (hbytes : N' * 4 ≤ 536870912) (hcells : cells + 1 ≤ R.cells) (hslots : slots + N' ≤ R.slots) (hdg : decode cc pc = .ok (.newarray .int, 2))
    (kk : ∀ (H1 : Heap), xP D cA A (xnew u (aeI 0 N' (fun _ => 0))) H1 → va_S A s.heap H1 locs → W p l e R s m args below meth c H1 locs (cells + 1) (slots + N') Q (F0 m (pc + 2) ls (.ref u.2 :: rest))) : W p l e R s m args below meth c H locs cells slots Q (F0 m pc ls (.int n :: rest)) :=
  x_newG (atype := .int) (x := aeI 0 N' (fun _ => 0)) (N' := N') hexec hb harr hK hP hS hA 0 rfl (fun h => h) (fun K h => h) hn hN hbytes hcells hslots hdg kk
theorem x_new1 (hexec : p.tables.exec = Jvm.exec) (hb : c.code = cc) (harr : (Cond.arrayClass FieldType.byte).before args s = true) (hK : mK D cA s) (hP : xP D cA A u H) (hS : va_S A s.heap H locs) (hA : ∀ q, s.heap.size ≤ q → A q) {n : Int32} {N' : Nat}
    (hn : ¬ n < 0) (hN : n.toNatClampNeg = N') (hbytes : N' * 1 ≤ 536870912) (hcells : cells + 1 ≤ R.cells) (hslots : slots + N' ≤ R.slots) (hdg : decode cc pc = .ok (.newarray .byte, 2))
    (kk : ∀ (H1 : Heap), xP D cA A (xnew u (aeI 1 N' (fun _ => 0))) H1 → va_S A s.heap H1 locs → W p l e R s m args below meth c H1 locs (cells + 1) (slots + N') Q (F0 m (pc + 2) ls (.ref u.2 :: rest))) : W p l e R s m args below meth c H locs cells slots Q (F0 m pc ls (.int n :: rest)) :=
  x_newG (atype := .byte) (x := aeI 1 N' (fun _ => 0)) (N' := N') hexec hb harr hK hP hS hA 1 rfl (fun h => h) (fun K h => h) hn hN hbytes hcells hslots hdg kk
theorem x_new2 (hexec : p.tables.exec = Jvm.exec) (hb : c.code = cc) (harr : (Cond.arrayClass FieldType.short).before args s = true) (hK : mK D cA s) (hP : xP D cA A u H) (hS : va_S A s.heap H locs) (hA : ∀ q, s.heap.size ≤ q → A q) {n : Int32} {N' : Nat}
    (hn : ¬ n < 0) (hN : n.toNatClampNeg = N') (hbytes : N' * 2 ≤ 536870912) (hcells : cells + 1 ≤ R.cells) (hslots : slots + N' ≤ R.slots) (hdg : decode cc pc = .ok (.newarray .short, 2))
    (kk : ∀ (H1 : Heap), xP D cA A (xnew u (aeI 2 N' (fun _ => 0))) H1 → va_S A s.heap H1 locs → W p l e R s m args below meth c H1 locs (cells + 1) (slots + N') Q (F0 m (pc + 2) ls (.ref u.2 :: rest))) : W p l e R s m args below meth c H locs cells slots Q (F0 m pc ls (.int n :: rest)) :=
  x_newG (atype := .short) (x := aeI 2 N' (fun _ => 0)) (N' := N') hexec hb harr hK hP hS hA 2 rfl (fun h => h) (fun K h => h) hn hN hbytes hcells hslots hdg kk
theorem x_new3 (hexec : p.tables.exec = Jvm.exec) (hb : c.code = cc) (harr : (Cond.arrayClass FieldType.long).before args s = true) (hK : mK D cA s) (hP : xP D cA A u H) (hS : va_S A s.heap H locs) (hA : ∀ q, s.heap.size ≤ q → A q) {n : Int32} {N' : Nat}
    (hn : ¬ n < 0) (hN : n.toNatClampNeg = N') (hbytes : N' * 8 ≤ 536870912) (hcells : cells + 1 ≤ R.cells) (hslots : slots + N' ≤ R.slots) (hdg : decode cc pc = .ok (.newarray .long, 2))
    (kk : ∀ (H1 : Heap), xP D cA A (xnew u (aeL N' (fun _ => 0))) H1 → va_S A s.heap H1 locs → W p l e R s m args below meth c H1 locs (cells + 1) (slots + N') Q (F0 m (pc + 2) ls (.ref u.2 :: rest))) : W p l e R s m args below meth c H locs cells slots Q (F0 m pc ls (.int n :: rest)) :=
  x_newG (atype := .long) (x := aeL N' (fun _ => 0)) (N' := N') hexec hb harr hK hP hS hA 3 rfl (fun h => h) (fun K h => h) hn hN hbytes hcells hslots hdg kk
theorem x_newq (hexec : p.tables.exec = Jvm.exec) (hb : c.code = cc) {own C : String} {index : Nat} (hown : s.vm.findClass own = some m.cls) (hclink : (Cond.classLink own index C).before args s = true) (hover : va_AO C s) (hK : mK D cA s) (hP : xP D cA A u H) (hS : va_S A s.heap H locs) (hA : ∀ q, s.heap.size ≤ q → A q)
    (t : Nat) (ht : (aTy cA)[t]? = some (cA t, .object C)) {n : Int32} {N' : Nat} (hn : ¬ n < 0) (hN : n.toNatClampNeg = N') (hbytes : N' * 4 ≤ 536870912) (hcells : cells + 1 ≤ R.cells) (hslots : slots + N' ≤ R.slots) (hdg : decode cc pc = .ok (.anewarray index, 3))
    (kk : ∀ (H1 : Heap), xP D cA A (xnew u (aeQ t N' (fun _ => none))) H1 → va_S A s.heap H1 locs → W p l e R s m args below meth c H1 locs (cells + 1) (slots + N') Q (F0 m (pc + 3) ls (.ref u.2 :: rest))) : W p l e R s m args below meth c H locs cells slots Q (F0 m pc ls (.int n :: rest)) := by
  subst hN
  refine W.anew hexec hb hown hclink (va_AO.use hover) rfl hdg rfl hn hbytes hcells hslots fun cB kA comp f1 f2 f3 f4 => ?_
  obtain ⟨kA2, comp2, r1, r2, r3, r4⟩ := (hK.2 t _ ht).2
  have hcB : cB = cA t := Option.some.inj (f1.symm.trans r4)
  subst hcB
  generalize hH1 : H.push ({ cls := cA t, slots := Array.replicate n.toNatClampNeg .null, vm := .none } : Cell) = H1
  have z1 : H1.size = H.size + 1 := by rw [← hH1, Array.size_push]
  have e1 : H1[H.size]? = some (arrV (cA t) n.toNatClampNeg (fun _ => .null)) := by rw [← hH1, Array.getElem?_push_size, ← arrV_new]
  have o1 : ∀ q : Nat, q < H.size → H1[q]? = H[q]? := fun q hq => by rw [← hH1, Array.getElem?_push, if_neg (Nat.ne_of_lt hq)]
  rw [hP.1] at e1
  refine W.eq (g2 := F0 m (pc + 3) ls (.ref u.2 :: rest)) (by rw [hP.1]) ?_
  refine kk H1 (hP.new (fun q h => hA q (Nat.le_trans hS.1 h)) z1 o1 ?_) ⟨Nat.le_trans hS.1 (by rw [z1]; exact Nat.le_succ _), fun x h1 h2 => (o1 x (Nat.lt_of_lt_of_le h1 hS.1)).trans (hS.2.1 x h1 h2), hS.2.2⟩
  show H1[u.2]? = some (vp_cell _ _)
  rw [vp_cell_q]
  exact e1
theorem x_astq (hexec : p.tables.exec = Jvm.exec) (hb : c.code = cc) (hK : mK D cA s) (hP : xP D cA A u H) (hS : va_S A s.heap H locs) {t ci : Nat} {r : vw_C} {v : Nat} (hty : (aTy cA)[t]? = some (cA t, .object r.1)) (hc : vwCl[ci]? = some r) {vs : List Value} (hv : u.1 v = some (aeO ci vs)) {i : Int32} (h : sQ u a t i (some v) = some u1) (hdg : decode cc pc = .ok (.aastore, 1))
    (kk : ∀ (H1 : Heap) (locs1 : List Loc), xP D cA A u1 H1 → va_S A s.heap H1 locs1 → W p l e R s m args below meth c H1 locs1 cells slots Q (F0 m (pc + 1) ls rest)) : W p l e R s m args below meth c H locs cells slots Q (F0 m pc ls (.ref v :: .int i :: .ref a :: rest)) := by
  obtain ⟨n, f, ha, hin, rfl⟩ := sQ_some h
  have hlt : i.toNatClampNeg < n := Nat.not_le.mp fun q => hin (Or.inr q)
  have h0 : ¬ i < 0 := fun q => hin (Or.inl q)
  have hca : H[a]? = some (vp_cell (cA t) (n, .inr (.inr (.inr (.inr f))))) := (hP.2 a _ ha).2
  obtain ⟨-, r', hr', cellV, g1, g2, g3, -⟩ := hP.2 v _ hv
  have hcls := (hK.1 ci r hc).2
  obtain ⟨kA, comp, k1, k2, k3, -⟩ := (hK.2 t _ hty).2
  have hcomp : comp = D.1 ci := Option.some.inj (k3.symm.trans hcls.1)
  subst hcomp
  obtain ⟨kC, hkC, -⟩ := hcls.2
  refine W.aast hexec hb hca (fun q h => by cases h) (fun h => by cases h) k1 k2 rfl hkC ⟨h0, by show _ < (arrV _ _ _).slots.size; rw [arrV_size]; exact hlt⟩ g1 (fun q h => by rw [g3] at h; cases h) (by rw [g2]; exact hkC) (by rw [g2]; exact va_assign hcls) rfl rfl hdg fun H1 e z oq => ?_
  refine kk H1 _ (hP.set ha z oq ?_) (hS.put z oq (hP.2 a _ ha).1)
  show H1[a]? = some (vp_cell _ _)
  rw [e]
  rw [vp_cell_q, vp_cell_q, arrV_store]
  congr 2
  funext q
  by_cases hq : q = i.toNatClampNeg
  · subst hq
    simp [updV, va_up, va_rf]
  · simp [updV, va_up, hq]
theorem x_astqN (hexec : p.tables.exec = Jvm.exec) (hb : c.code = cc) (hK : mK D cA s) (hP : xP D cA A u H) (hS : va_S A s.heap H locs) {t : Nat} {C : String} (hty : (aTy cA)[t]? = some (cA t, .object C)) {i : Int32} (h : sQ u a t i none = some u1) (hdg : decode cc pc = .ok (.aastore, 1))
    (kk : ∀ (H1 : Heap) (locs1 : List Loc), xP D cA A u1 H1 → va_S A s.heap H1 locs1 → W p l e R s m args below meth c H1 locs1 cells slots Q (F0 m (pc + 1) ls rest)) : W p l e R s m args below meth c H locs cells slots Q (F0 m pc ls (.null :: .int i :: .ref a :: rest)) := by
  obtain ⟨n, f, ha, hin, rfl⟩ := sQ_some h
  have hca : H[a]? = some (vp_cell (cA t) (n, .inr (.inr (.inr (.inr f))))) := (hP.2 a _ ha).2
  refine va_WaastN (C := C) hexec hb hca ((hK.2 t _ hty).1 n (fun j => va_rf (f j))) (fun h => by cases h) (by show ¬ (i < 0 ∨ (arrV _ _ _).slots.size ≤ _); rw [arrV_size]; exact hin) rfl rfl hdg fun H1 e z oq => ?_
  refine kk H1 _ (hP.set ha z oq ?_) (hS.put z oq (hP.2 a _ ha).1)
  show H1[a]? = some (vp_cell _ _)
  rw [e]
  rw [vp_cell_q, vp_cell_q, arrV_store]
  congr 2
  funext q
  by_cases hq : q = i.toNatClampNeg
  · subst hq
    simp [updV, va_up, va_rf]
  · simp [updV, va_up, hq]
def isL (u : XS) (a : Nat) : Bool := match u.1 a with
  | some (.inr (.inl _)) => true
  | _ => false
theorem isL_some {u : XS} {a : Nat} (h : isL u a = true) : ∃ n f, u.1 a = some (aeL n f) := by
  unfold isL at h
  split at h
  · next q e => exact ⟨q.1, q.2, e⟩
  · cases h
theorem x_astl (hexec : p.tables.exec = Jvm.exec) (hb : c.code = cc) (hK : xK D cA A s) (hP : xP D cA A u H) (hS : va_S A s.heap H locs) {v : Nat} (hv : isL u v = true) {i : Int32} (h : sQ u a 6 i (some v) = some u1) (hdg : decode cc pc = .ok (.aastore, 1))
    (kk : ∀ (H1 : Heap) (locs1 : List Loc), xP D cA A u1 H1 → va_S A s.heap H1 locs1 → W p l e R s m args below meth c H1 locs1 cells slots Q (F0 m (pc + 1) ls rest)) : W p l e R s m args below meth c H locs cells slots Q (F0 m pc ls (.ref v :: .int i :: .ref a :: rest)) := by
  obtain ⟨n, f, ha, hin, rfl⟩ := sQ_some h
  obtain ⟨nv, fv, hv⟩ := isL_some hv
  have hlt : i.toNatClampNeg < n := Nat.not_le.mp fun q => hin (Or.inr q)
  have h0 : ¬ i < 0 := fun q => hin (Or.inl q)
  have hca : H[a]? = some (vp_cell (cA 6) (n, .inr (.inr (.inr (.inr f))))) := (hP.2 a _ ha).2
  have hcv : H[v]? = some (vp_cell (cA 3) (nv, .inr (.inl fv))) := (hP.2 v _ hv).2
  obtain ⟨kA, k1, k2⟩ := hK.2.2.2.2.2.2.1
  obtain ⟨-, kV, hkV, -⟩ := (hK.1.2 3 _ rfl).1 nv (fun j => .long (fv j))
  refine W.aast hexec hb hca (fun q h => by cases h) (fun h => by cases h) k1 k2 rfl hkV ⟨h0, by show _ < (arrV _ _ _).slots.size; rw [arrV_size]; exact hlt⟩ hcv (fun q h => by cases h) hkV (va_asg _ _) rfl rfl hdg fun H1 e z oq => ?_
  refine kk H1 _ (hP.set ha z oq ?_) (hS.put z oq (hP.2 a _ ha).1)
  show H1[a]? = some (vp_cell _ _)
  rw [e]
  rw [vp_cell_q, vp_cell_q, arrV_store]
  congr 2
  funext q
  by_cases hq : q = i.toNatClampNeg
  · subst hq
    simp [updV, va_up, va_rf]
  · simp [updV, va_up, hq]
theorem rf_nar {C : String} (r : Option Nat) : narrow (.object C) (va_rf r) = va_rf r := by cases r <;> rfl
theorem rf_fit {C : String} (r : Option Nat) : fits (.object C) (va_rf r) = true := by cases r <;> rfl
end XR3
section GR
variable {S : Type}
abbrev gQr (K : State → Prop) (P : S → Heap → Prop) (A : Nat → Prop) (out : Nat × S) : Array Value → State → Outcome → State → Prop := va_Qq (fun r u => r = some out.1 ∧ u = out.2) (gB K P) A
theorem gMet_r {l : Launch} {y : MethodName} {cc : ByteArray} {maxL : Nat} {rm : Room} {K : State → Prop} {P : S → Heap → Prop} {A : Nat → Prop} {as : List Value} {u : S} {out : Nat × S} {mc ms : Nat} {rt : FieldType} (hrt : (∃ n, rt = .object n) ∨ ∃ t, rt = .array t) (hy : plainName y.cls = true) (hnl : (lg_sl as).length ≤ maxL)
    (body : ∀ (p : Program) (e : Env) (s : State) (m : MethodId) (below : List Frame) (meth : Method) (c : Code) (Q : State → Prop) (ls : Array Slot) (args : Array Value) (H : Heap) (locs : List Loc), gCx p m c cc maxL s args y.cls K A → P u H → va_S A s.heap H locs → lv_has ls maxL (lv_args 0 as) →
      (∀ (pc : Nat) (H : Heap) (locs : List Loc) (ls : Array Slot) (r : Nat) (v : S), decode cc pc = .ok (.areturn, 1) → P v H → va_S A s.heap H locs → some (r, v) = some out → W p l e rm s m args below meth c H locs mc ms Q (F0 m pc ls [.ref r])) →
      W p l e rm s m args below meth c H locs 0 0 Q (F0 m 0 ls [])) (hK : Kst K A) : Met l y (ws_ y cc maxL (some rt)) rm (gPc K P A as u) (gQr K P A out) mc ms A := by
  refine Met.ofW (cc := cc) (maxL := maxL) (ret := some rt) hy rfl ?_
  intro p e s m args below meth c s₁ B hml hv
  obtain ⟨rfl, hA, hP, hKs⟩ := hv
  have hts := atoms_spec (ws := ws_ y cc maxL (some rt)) B.pre
  have hts : ∀ w ∈ lw_all, w.before _ s = true := fun w h => hts w (List.mem_cons_of_mem _ h)
  have hown : s.vm.findClass y.cls = some m.cls := findClass_of_methodNamed B.named
  have hl := lv_entry as (n := maxL) hnl
  rw [lg_entry_eq]
  have hx := B.exec
  have hb := B.bytes
  have hr := B.returns
  have hlocks := B.notSynchronized
  refine body p e s m below meth c _ _ _ _ _ ⟨hx, hb, hml, hown, hts, hA, hKs⟩ hP va_S.rf hl ?_
  intro pc H locs ls r v hd hPv hS ho
  have ho : (r, v) = out := Option.some.inj ho
  subst ho
  exact W.aret (v := .ref r) hx hb hr hrt (Or.inr ⟨_, rfl⟩) (fun t ht hW => ⟨⟨some r, v, rfl, ⟨rfl, rfl⟩, by rw [gB, ht]; exact ⟨hPv, hK _ _ hW (by rw [ht]; exact hS.2.1) hKs⟩⟩, hS.F ht⟩) hS.2.2 hd
theorem gMetW_z {l : Launch} {y : MethodName} {cc : ByteArray} {maxL : Nat} {rm : Room} {K : State → Prop} {P : S → Heap → Prop} {A : Nat → Prop} {as : List Value} {u : S} {out : Int32 × S} {mc ms : Nat} {ty : FieldType} {hh : List (Nat × Nat × Nat × Nat)} (hy : plainName y.cls = true) (hnl : (lg_sl as).length ≤ maxL)
    (body : ∀ (p : Program) (e : Env) (s : State) (m : MethodId) (below : List Frame) (meth : Method) (c : Code) (Q : State → Prop) (ls : Array Slot) (args : Array Value) (H : Heap) (locs : List Loc), gCx p m c cc maxL s args y.cls K A → P u H → va_S A s.heap H locs → lv_has ls maxL (lv_args 0 as) →
      (∀ (pc : Nat) (H : Heap) (locs : List Loc) (ls : Array Slot) (r : Int32) (v : S), decode cc pc = .ok (.ireturn, 1) → narrow ty (.int r) = .int r → P v H → va_S A s.heap H locs → some (r, v) = some out → W p l e rm s m args below meth c H locs mc ms Q (F0 m pc ls [.int r])) →
      W p l e rm s m args below meth c H locs 0 0 Q (F0 m 0 ls [])) (hK : Kst K A) : Met l y (wsW_ y cc maxL (some ty) hh) rm (gPc K P A as u) (gQi K P A out) mc ms A := by
  refine va_MetW (cc := cc) (maxL := maxL) (ret := some ty) (hh := hh) hy rfl ?_
  intro p e s m args below meth c s₁ B hml hv
  obtain ⟨rfl, hA, hP, hKs⟩ := hv
  have hts := atoms_spec (ws := wsW_ y cc maxL (some ty) hh) B.pre
  have hts : ∀ w ∈ lw_all, w.before _ s = true := fun w h => hts w (List.mem_cons_of_mem _ h)
  have hown : s.vm.findClass y.cls = some m.cls := findClass_of_methodNamed B.named
  have hl := lv_entry as (n := maxL) hnl
  rw [lg_entry_eq]
  have hx := B.exec
  have hb := B.bytes
  have hr := B.returns
  have hlocks := B.notSynchronized
  refine body p e s m below meth c _ _ _ _ _ ⟨hx, hb, hml, hown, hts, hA, hKs⟩ hP va_S.rf hl ?_
  intro pc H locs ls r v hd hn hPv hS ho
  exact W.zret (v := r) hx hb hr hn (fun t ht hW => ⟨⟨r, v, rfl, Option.some.inj ho, by rw [gB, ht]; exact ⟨hPv, hK _ _ hW (by rw [ht]; exact hS.2.1) hKs⟩⟩, hS.F ht⟩) hS.2.2 hd
variable {p : Program} {l : Launch} {e : Env} {R : Room} {s : State} {m : MethodId} {args : Array Value} {below : List Frame} {meth : Method} {c : Code} {H : Heap} {locs : List Loc} {cells slots : Nat} {Q : State → Prop}
variable {pc : Nat} {ls : Array Slot} {rest st0 : List Value} {a : Array Value} {A : Nat → Prop} {mc ms : Nat} {K : State → Prop} {P : S → Heap → Prop}
theorem gcr {v : Nat} {u : S} (hr : va_Run p l e R s m args below meth c H locs cells slots mc ms (F0 m pc ls st0) rest (gQr K P A (v, u) a) A) (hS : va_S A s.heap H locs)
    (kk : ∀ (H1 : Heap) (locs1 : List Loc), P u H1 → va_S A s.heap H1 locs1 → W p l e R s m args below meth c H1 locs1 (cells + mc) (slots + ms) Q (F0 m (pc + 3) ls (.ref v :: rest))) : W p l e R s m args below meth c H locs cells slots Q (F0 m pc ls st0) := by
  refine va_callq hr hS (fun _ _ h => h) (fun _ h => h) (fun r u1 t H1 locs1 ht hvm hp hB hz hk hS => ?_)
  obtain ⟨hp1, hp2⟩ := hp
  subst hp1; subst hp2
  obtain ⟨hB1, -⟩ := hB
  rw [ht] at hB1
  exact kk H1 locs1 hB1 hS
theorem gci {v : Int32} {u : S} (hr : va_Run p l e R s m args below meth c H locs cells slots mc ms (F0 m pc ls st0) rest (gQi K P A (v, u) a) A) (hS : va_S A s.heap H locs)
    (kk : ∀ (H1 : Heap) (locs1 : List Loc), P u H1 → va_S A s.heap H1 locs1 → W p l e R s m args below meth c H1 locs1 (cells + mc) (slots + ms) Q (F0 m (pc + 3) ls (.int v :: rest))) : W p l e R s m args below meth c H locs cells slots Q (F0 m pc ls st0) := gc_i hr hS kk
theorem gci0 {v : Int32} {u : S} (hr : va_Run p l e R s m args below meth c H locs cells slots 0 0 (F0 m pc ls st0) rest (gQi K P A (v, u) a) A) (hS : va_S A s.heap H locs)
    (kk : ∀ (H1 : Heap) (locs1 : List Loc), P u H1 → va_S A s.heap H1 locs1 → W p l e R s m args below meth c H1 locs1 cells slots Q (F0 m (pc + 3) ls (.int v :: rest))) : W p l e R s m args below meth c H locs cells slots Q (F0 m pc ls st0) := gc_i hr hS kk
theorem gcl {v : Int64} {u : S} (hr : va_Run p l e R s m args below meth c H locs cells slots mc ms (F0 m pc ls st0) rest (gQl K P A (v, u) a) A) (hS : va_S A s.heap H locs)
    (kk : ∀ (H1 : Heap) (locs1 : List Loc), P u H1 → va_S A s.heap H1 locs1 → W p l e R s m args below meth c H1 locs1 (cells + mc) (slots + ms) Q (F0 m (pc + 3) ls (.long v :: rest))) : W p l e R s m args below meth c H locs cells slots Q (F0 m pc ls st0) := gc_l hr hS kk
theorem gc5 {v : Int32} {u : S} (hr : va_Run5 p l e R s m args below meth c H locs cells slots 0 0 (F0 m pc ls st0) rest (gQi K P A (v, u) a) A) (hS : va_S A s.heap H locs)
    (kk : ∀ (H1 : Heap) (locs1 : List Loc), P u H1 → va_S A s.heap H1 locs1 → W p l e R s m args below meth c H1 locs1 cells slots Q (F0 m (pc + 5) ls (.int v :: rest))) : W p l e R s m args below meth c H locs cells slots Q (F0 m pc ls st0) := by
  refine va_callFi hr hS (fun _ _ h => h) (fun _ h => h) (fun r u1 t H1 locs1 ht hvm hp hB hz hk hS => ?_)
  cases hp
  obtain ⟨hB1, -⟩ := hB
  rw [ht] at hB1
  exact kk H1 locs1 hB1 hS
end GR
