/-! ROWS over the world of PictureBlock -/
section XR
variable {p : Program} {l : Launch} {e : Env} {R : Room} {s : State} {m : MethodId} {args : Array Value} {below : List Frame} {meth : Method} {c : Code} {H : Heap} {locs : List Loc} {cells slots : Nat} {Q : State → Prop}
variable {cc : ByteArray} {pc : Nat} {ls : Array Slot} {rest : List Value} {D : va_G} {cA : Nat → ClassId} {A : Nat → Prop} {u u1 : XS} {a : Nat}
theorem x_get (hexec : p.tables.exec = Jvm.exec) (hb : c.code = cc) {own ref C : String} {T : u_T} {N ci index : Nat} (hts : ∀ w ∈ lw_all, w.before args s = true) (hin : ∀ w ∈ u_ws C T N, w ∈ lw_all) (hown : s.vm.findClass own = some m.cls) (hK : mK D cA s) (hP : xP D cA A u H) (hc : vwCl[ci]? = some (C, T, N)) (k : Nat) (hk : k < N) (hlink : (Cond.fieldLink own index ref (T k).2.1 (T k).2.2.1).before args s = true) (hsame : ∀ x, s.fieldFound? (T k).1 (T k).2.1 (T k).2.2.1 = some x → s.fieldFound? ref (T k).2.1 (T k).2.2.1 = some x) {v : Value} (hv : xHasF u a ci k v) (hdg : decode cc pc = .ok (.getfield index, 3))
    (kk : W p l e R s m args below meth c H locs cells slots Q (F0 m (pc + 3) ls (v :: rest))) : W p l e R s m args below meth c H locs cells slots Q (F0 m pc ls (.ref a :: rest)) := by
  obtain ⟨fs, ha, hf⟩ := hv
  exact va_get (ws := [(a, .inr (ci, fs))]) hexec hb hts hin hown hK (hP.one ha) 0 rfl hc k hk hlink hsame hf hdg kk
theorem x_getN (hexec : p.tables.exec = Jvm.exec) (hb : c.code = cc) {own ref C host : String} {T : u_T} {N ci index : Nat} (hts : ∀ w ∈ lw_all, w.before args s = true) (hin : ∀ w ∈ u_ws C T N, w ∈ lw_all) (hown : s.vm.findClass own = some m.cls) (hK : mK D cA s) (hP : xP D cA A u H) (hc : vwCl[ci]? = some (C, T, N)) (k : Nat) (hk : k < N) (hlink : va_Nw (Cond.fieldLinkNest own index ref (T k).2.1 (T k).2.2.1 host) s) (hsame : ∀ x, s.fieldFound? (T k).1 (T k).2.1 (T k).2.2.1 = some x → s.fieldFound? ref (T k).2.1 (T k).2.2.1 = some x) {v : Value} (hv : xHasF u a ci k v) (hdg : decode cc pc = .ok (.getfield index, 3))
    (kk : W p l e R s m args below meth c H locs cells slots Q (F0 m (pc + 3) ls (v :: rest))) : W p l e R s m args below meth c H locs cells slots Q (F0 m pc ls (.ref a :: rest)) := by
  obtain ⟨fs, ha, hf⟩ := hv
  exact va_getN (ws := [(a, .inr (ci, fs))]) hexec hb hts hin hown hK (hP.one ha) 0 rfl hc k hk (va_Nw.use rfl hlink) hsame hf hdg kk
theorem x_put (hexec : p.tables.exec = Jvm.exec) (hb : c.code = cc) {own ref C : String} {T : u_T} {N ci index : Nat} (hts : ∀ w ∈ lw_all, w.before args s = true) (hin : ∀ w ∈ u_ws C T N, w ∈ lw_all) (ty0 : Nat → FieldType) (hty : ∀ k, k < N → parseFieldDescriptor (T k).2.2.1 = some (ty0 k)) (hnm : ∀ a, a < N → ∀ b, b < N → a ≠ b → (T a).2.1 ≠ (T b).2.1) (hown : s.vm.findClass own = some m.cls) (hK : mK D cA s) (hP : xP D cA A u H) (hS0 : va_S A s.heap H locs) (hc : vwCl[ci]? = some (C, T, N)) (k : Nat) (hk : k < N) (hlink : (Cond.fieldLink own index ref (T k).2.1 (T k).2.2.1).before args s = true) (hsame : ∀ x, s.fieldFound? (T k).1 (T k).2.1 (T k).2.2.1 = some x → s.fieldFound? ref (T k).2.1 (T k).2.2.1 = some x) (hfin : (T k).2.2.2 = false) {ty : FieldType} {v : Value} (hd : parseFieldDescriptor (T k).2.2.1 = some ty) (hn : narrow ty v = v) (hfit : fits ty v = true) (hp : pF u a ci k v = some u1)
    (hdg : decode cc pc = .ok (.putfield index, 3)) (kk : ∀ (H1 : Heap) (locs1 : List Loc), xP D cA A u1 H1 → va_S A s.heap H1 locs1 → W p l e R s m args below meth c H1 locs1 cells slots Q (F0 m (pc + 3) ls rest)) : W p l e R s m args below meth c H locs cells slots Q (F0 m pc ls (v :: .ref a :: rest)) := by
  obtain ⟨fs, ha, hl, rfl⟩ := pF_some hp
  have hap := va_apart (own := own) hts hin ty0 hty hnm hK hc
  obtain ⟨hAa, r, h1, cell, q1, q2, q3, q4⟩ := hP.2 a _ ha
  have hr : r = (C, T, N) := Option.some.inj (h1.symm.trans hc)
  subst hr
  obtain ⟨hS, hfc, kC, hkC, hkind⟩ := hK.1 ci _ hc
  obtain ⟨cf, kf, fi, f, hi, hsl⟩ := hS k hk
  have hlay := hts _ (hin _ (u_in_lay hk))
  unfold u_lay at hlay
  rw [if_neg (by rw [hfin]; decide)] at hlay
  have hst := (u_facts hfc hkC (u_lays hts hin hk) hi).1
  have h6 := u_store hfc hkC hkind hlay hi hd hn hfit
  refine W.putK hexec hb (f := f) ⟨hown, hlink, ⟨_, _, _, hsame _ hi⟩, hst⟩ (by rw [q2]; exact h6) q1 q3 (by rw [hsl]; exact k2_hasslot (q4 k hk)) rfl rfl hdg fun H' e1 e2 e3 => ?_
  rw [hsl] at e1 ⊢
  exact kk H' _ (hP.set ha e2 e3 ⟨_, hc, t_OB.to (V := updV (vp_V fs) k v) ⟨_, e1, q2, q3, t_set q4 hap hk v⟩ (fun j _ => vp_updV_set hl v j)⟩) (hS0.put e2 e3 hAa)
theorem x_putN (hexec : p.tables.exec = Jvm.exec) (hb : c.code = cc) {own ref C host : String} {T : u_T} {N ci index : Nat} (hts : ∀ w ∈ lw_all, w.before args s = true) (hin : ∀ w ∈ u_ws C T N, w ∈ lw_all) (ty0 : Nat → FieldType) (hty : ∀ k, k < N → parseFieldDescriptor (T k).2.2.1 = some (ty0 k)) (hnm : ∀ a, a < N → ∀ b, b < N → a ≠ b → (T a).2.1 ≠ (T b).2.1) (hown : s.vm.findClass own = some m.cls) (hK : mK D cA s) (hP : xP D cA A u H) (hS0 : va_S A s.heap H locs) (hc : vwCl[ci]? = some (C, T, N)) (k : Nat) (hk : k < N) (hlink : va_Nw (Cond.fieldLinkNest own index ref (T k).2.1 (T k).2.2.1 host) s) (hsame : ∀ x, s.fieldFound? (T k).1 (T k).2.1 (T k).2.2.1 = some x → s.fieldFound? ref (T k).2.1 (T k).2.2.1 = some x) (hfin : (T k).2.2.2 = false) {ty : FieldType} {v : Value} (hd : parseFieldDescriptor (T k).2.2.1 = some ty) (hn : narrow ty v = v) (hfit : fits ty v = true) (hp : pF u a ci k v = some u1)
    (hdg : decode cc pc = .ok (.putfield index, 3)) (kk : ∀ (H1 : Heap) (locs1 : List Loc), xP D cA A u1 H1 → va_S A s.heap H1 locs1 → W p l e R s m args below meth c H1 locs1 cells slots Q (F0 m (pc + 3) ls rest)) : W p l e R s m args below meth c H locs cells slots Q (F0 m pc ls (v :: .ref a :: rest)) := by
  obtain ⟨fs, ha, hl, rfl⟩ := pF_some hp
  have hap := va_apart (own := own) hts hin ty0 hty hnm hK hc
  obtain ⟨hAa, r, h1, cell, q1, q2, q3, q4⟩ := hP.2 a _ ha
  have hr : r = (C, T, N) := Option.some.inj (h1.symm.trans hc)
  subst hr
  obtain ⟨hS, hfc, kC, hkC, hkind⟩ := hK.1 ci _ hc
  obtain ⟨cf, kf, fi, f, hi, hsl⟩ := hS k hk
  have hlay := hts _ (hin _ (u_in_lay hk))
  unfold u_lay at hlay
  rw [if_neg (by rw [hfin]; decide)] at hlay
  have hst := (u_facts hfc hkC (u_lays hts hin hk) hi).1
  have h6 := u_store hfc hkC hkind hlay hi hd hn hfit
  refine va_WputK hexec hb (f := f) hown (va_Nw.use rfl hlink) (hsame _ hi) hst (by rw [q2]; exact h6) q1 q3 (by rw [hsl]; exact k2_hasslot (q4 k hk)) rfl rfl hdg fun H' e1 e2 e3 => ?_
  rw [hsl] at e1 ⊢
  exact kk H' _ (hP.set ha e2 e3 ⟨_, hc, t_OB.to (V := updV (vp_V fs) k v) ⟨_, e1, q2, q3, t_set q4 hap hk v⟩ (fun j _ => vp_updV_set hl v j)⟩) (hS0.put e2 e3 hAa)
theorem x_putF (hexec : p.tables.exec = Jvm.exec) (hb : c.code = cc) {own ref C : String} {T : u_T} {N ci index : Nat} (hts : ∀ w ∈ lw_all, w.before args s = true) (hin : ∀ w ∈ u_ws C T N, w ∈ lw_all) (ty0 : Nat → FieldType) (hty : ∀ k, k < N → parseFieldDescriptor (T k).2.2.1 = some (ty0 k)) (hnm : ∀ a, a < N → ∀ b, b < N → a ≠ b → (T a).2.1 ≠ (T b).2.1) (hown : s.vm.findClass own = some m.cls) (hK : mK D cA s) (hP : xP D cA A u H) (hS0 : va_S A s.heap H locs) (hc : vwCl[ci]? = some (C, T, N)) (k : Nat) (hk : k < N) (hlink : (Cond.fieldLink own index ref (T k).2.1 (T k).2.2.1).before args s = true) (hsame : ∀ x, s.fieldFound? (T k).1 (T k).2.1 (T k).2.2.1 = some x → s.fieldFound? ref (T k).2.1 (T k).2.2.1 = some x) (hfin : (T k).2.2.2 = true) (hin2 : meth.name = "<init>") (hdecl : (T k).1 = own) {ty : FieldType} {v : Value} (hd : parseFieldDescriptor (T k).2.2.1 = some ty) (hn : narrow ty v = v) (hfit : fits ty v = true) (hp : pF u a ci k v = some u1)
    (hdg : decode cc pc = .ok (.putfield index, 3)) (kk : ∀ (H1 : Heap) (locs1 : List Loc), xP D cA A u1 H1 → va_S A s.heap H1 locs1 → W p l e R s m args below meth c H1 locs1 cells slots Q (F0 m (pc + 3) ls rest)) : W p l e R s m args below meth c H locs cells slots Q (F0 m pc ls (v :: .ref a :: rest)) := by
  obtain ⟨fs, ha, hl, rfl⟩ := pF_some hp
  have hap := va_apart (own := own) hts hin ty0 hty hnm hK hc
  obtain ⟨hAa, r, h1, cell, q1, q2, q3, q4⟩ := hP.2 a _ ha
  have hr : r = (C, T, N) := Option.some.inj (h1.symm.trans hc)
  subst hr
  obtain ⟨hS, hfc, kC, hkC, hkind⟩ := hK.1 ci _ hc
  obtain ⟨cf, kf, fi, f, hi, hsl⟩ := hS k hk
  have hlay := hts _ (hin _ (u_in_lay hk))
  unfold u_lay at hlay
  rw [if_pos hfin] at hlay
  have hst := (u_facts hfc hkC (u_lays hts hin hk) hi).1
  have hcf : m.cls = cf := by
    obtain ⟨_, _, c', _, _, _, -, -, hf', -, -, -, hown2, -⟩ := Cond.laysFinal_spec hlay
    have e1 : c' = cf := by have := hi.symm.trans hf'; simp at this; exact this.1.symm
    rw [hdecl] at hown2
    rw [← e1]; exact Option.some.inj (hown.symm.trans hown2)
  have h6 := u_fits hfc hkC hkind (Or.inr hlay) hi hd hn hfit
  refine W.putFinK hexec hb hown hlink (hsame _ hi) hst hcf hin2 (by rw [q2]; exact h6) q1 q3 (by rw [hsl]; exact k2_hasslot (q4 k hk)) rfl rfl hdg fun H' e1 e2 e3 => ?_
  rw [hsl] at e1 ⊢
  exact kk H' _ (hP.set ha e2 e3 ⟨_, hc, t_OB.to (V := updV (vp_V fs) k v) ⟨_, e1, q2, q3, t_set q4 hap hk v⟩ (fun j _ => vp_updV_set hl v j)⟩) (hS0.put e2 e3 hAa)
/-! arrays -/
theorem x_iald (hexec : p.tables.exec = Jvm.exec) (hb : c.code = cc) (hK : mK D cA s) (hP : xP D cA A u H) {i v : Int32} (h : aI u a 0 i = some v) (hdg : decode cc pc = .ok (.iaload, 1))
    (kk : W p l e R s m args below meth c H locs cells slots Q (F0 m (pc + 1) ls (.int v :: rest))) : W p l e R s m args below meth c H locs cells slots Q (F0 m pc ls (.int i :: .ref a :: rest)) := by
  obtain ⟨n, f, ha, hin, rfl⟩ := aI_some h
  exact va_iald hexec hb hK (hP.one ha) 0 0 rfl rfl hin hdg kk
theorem x_bald (hexec : p.tables.exec = Jvm.exec) (hb : c.code = cc) (hK : mK D cA s) (hP : xP D cA A u H) {i v : Int32} (h : aI u a 1 i = some v) (hdg : decode cc pc = .ok (.baload, 1))
    (kk : W p l e R s m args below meth c H locs cells slots Q (F0 m (pc + 1) ls (.int v :: rest))) : W p l e R s m args below meth c H locs cells slots Q (F0 m pc ls (.int i :: .ref a :: rest)) := by
  obtain ⟨n, f, ha, hin, rfl⟩ := aI_some h
  exact va_bald hexec hb hK (hP.one ha) 0 1 rfl rfl hin hdg kk
theorem x_sald (hexec : p.tables.exec = Jvm.exec) (hb : c.code = cc) (hK : mK D cA s) (hP : xP D cA A u H) {i v : Int32} (h : aI u a 2 i = some v) (hdg : decode cc pc = .ok (.saload, 1))
    (kk : W p l e R s m args below meth c H locs cells slots Q (F0 m (pc + 1) ls (.int v :: rest))) : W p l e R s m args below meth c H locs cells slots Q (F0 m pc ls (.int i :: .ref a :: rest)) := by
  obtain ⟨n, f, ha, hin, rfl⟩ := aI_some h
  exact va_sald hexec hb hK (hP.one ha) 0 2 rfl rfl hin hdg kk
theorem x_lald (hexec : p.tables.exec = Jvm.exec) (hb : c.code = cc) (hK : mK D cA s) (hP : xP D cA A u H) {i : Int32} {v : Int64} (h : aL u a i = some v) (hdg : decode cc pc = .ok (.laload, 1))
    (kk : W p l e R s m args below meth c H locs cells slots Q (F0 m (pc + 1) ls (.long v :: rest))) : W p l e R s m args below meth c H locs cells slots Q (F0 m pc ls (.int i :: .ref a :: rest)) := by
  obtain ⟨n, f, ha, hin, rfl⟩ := aL_some h
  exact va_lald hexec hb hK (hP.one ha) 0 3 rfl rfl hin hdg kk
theorem x_isaQ {t : Nat} {ty : FieldType} (hK : mK D cA s) (ht : (aTy cA)[t]? = some (cA t, ty)) (n : Nat) (f : Nat → Value) : s.isArrayOf (arrV (cA t) n f) ty := (hK.2 t _ ht).1 n f
theorem x_aldq (hexec : p.tables.exec = Jvm.exec) (hb : c.code = cc) (hK : mK D cA s) (hP : xP D cA A u H) {t : Nat} (ht : 4 ≤ t ∧ t ≤ 6) {i : Int32} {v : Option Nat} (h : aQ u a t i = some v) (hdg : decode cc pc = .ok (.aaload, 1))
    (kk : W p l e R s m args below meth c H locs cells slots Q (F0 m (pc + 1) ls (va_rf v :: rest))) : W p l e R s m args below meth c H locs cells slots Q (F0 m pc ls (.int i :: .ref a :: rest)) := by
  obtain ⟨n, f, ha, hin, rfl⟩ := aQ_some h
  have hc : H[a]? = some (vp_cell (cA t) (n, .inr (.inr (.inr (.inr f))))) := (hP.2 a _ ha).2
  have hlt : i.toNatClampNeg < n := Nat.not_le.mp fun q => hin (Or.inr q)
  have key : ∀ (ty : FieldType), ty.isReference = true → (aTy cA)[t]? = some (cA t, ty) → W p l e R s m args below meth c H locs cells slots Q (F0 m pc ls (.int i :: .ref a :: rest)) := by
    intro ty hr hty
    exact W.aald (v := va_rf (f i.toNatClampNeg)) (ty := ty) hexec hb hc ((hK.2 t _ hty).1 n (fun j => va_rf (f j))) hr (fun q => by cases q) (by show ¬ (i < 0 ∨ (arrV _ _ _).slots.size ≤ _); rw [arrV_size]; exact hin) (by show (arrV _ _ _).slots[_]? = _; rw [arrV_read _ _ hlt]) rfl rfl hdg kk
  rcases (show t = 4 ∨ t = 5 ∨ t = 6 by omega) with e | e | e <;> subst e
  · exact key _ rfl rfl
  · exact key _ rfl rfl
  · exact key _ rfl rfl
theorem x_aldr (hexec : p.tables.exec = Jvm.exec) (hb : c.code = cc) (hK : mK D cA s) (hP : xP D cA A u H) {t : Nat} (ht : 4 ≤ t ∧ t ≤ 6) {i : Int32} {v : Nat} (h : aR u a t i = some v) (hdg : decode cc pc = .ok (.aaload, 1))
    (kk : W p l e R s m args below meth c H locs cells slots Q (F0 m (pc + 1) ls (.ref v :: rest))) : W p l e R s m args below meth c H locs cells slots Q (F0 m pc ls (.int i :: .ref a :: rest)) := by
  have h2 : aQ u a t i = some (some v) := by
    unfold aR at h
    split at h
    · next e => cases h; exact e
    · cases h
  exact x_aldq hexec hb hK hP ht h2 hdg kk
theorem x_iast (hexec : p.tables.exec = Jvm.exec) (hb : c.code = cc) (hK : mK D cA s) (hP : xP D cA A u H) (hS : va_S A s.heap H locs) {i x : Int32} (h : sI u a 0 i x = some u1) (hdg : decode cc pc = .ok (.iastore, 1))
    (kk : ∀ (H1 : Heap) (locs1 : List Loc), xP D cA A u1 H1 → va_S A s.heap H1 locs1 → W p l e R s m args below meth c H1 locs1 cells slots Q (F0 m (pc + 1) ls rest)) : W p l e R s m args below meth c H locs cells slots Q (F0 m pc ls (.int x :: .int i :: .ref a :: rest)) := by
  obtain ⟨n, f, ha, hin, rfl⟩ := sI_some h
  have hc : H[a]? = some (vp_cell (cA 0) (n, .inl f)) := (hP.2 a _ ha).2
  refine W.iast hexec hb hc ((hK.2 0 _ rfl).1 n (fun j => .int (f j))) (fun q => by cases q) (by show ¬ (i < 0 ∨ (arrV _ _ _).slots.size ≤ _); rw [arrV_size]; exact hin) rfl rfl hdg fun H1 e z oq => ?_
  refine kk H1 _ (hP.set ha z oq ?_) (hS.put z oq (hP.2 a _ ha).1)
  show H1[a]? = some (vp_cell _ _)
  rw [e]
  rw [vp_cell_i, vp_cell_i, arrV_store]
  congr 2
  funext q
  by_cases hq : q = i.toNatClampNeg
  · subst hq
    simp [updV, upd, nar]
  · simp [updV, upd, hq]
theorem x_bast (hexec : p.tables.exec = Jvm.exec) (hb : c.code = cc) (hK : mK D cA s) (hP : xP D cA A u H) (hS : va_S A s.heap H locs) {i x : Int32} (h : sI u a 1 i x = some u1) (hdg : decode cc pc = .ok (.bastore, 1))
    (kk : ∀ (H1 : Heap) (locs1 : List Loc), xP D cA A u1 H1 → va_S A s.heap H1 locs1 → W p l e R s m args below meth c H1 locs1 cells slots Q (F0 m (pc + 1) ls rest)) : W p l e R s m args below meth c H locs cells slots Q (F0 m pc ls (.int x :: .int i :: .ref a :: rest)) := by
  obtain ⟨n, f, ha, hin, rfl⟩ := sI_some h
  have hc : H[a]? = some (vp_cell (cA 1) (n, .inl f)) := (hP.2 a _ ha).2
  refine W.bast hexec hb hc ((hK.2 1 _ rfl).1 n (fun j => .int (f j))) (fun q => by cases q) (by show ¬ (i < 0 ∨ (arrV _ _ _).slots.size ≤ _); rw [arrV_size]; exact hin) rfl rfl hdg fun H1 e z oq => ?_
  refine kk H1 _ (hP.set ha z oq ?_) (hS.put z oq (hP.2 a _ ha).1)
  show H1[a]? = some (vp_cell _ _)
  rw [e]
  rw [vp_cell_i, vp_cell_i, arrV_store]
  congr 2
  funext q
  by_cases hq : q = i.toNatClampNeg
  · subst hq
    simp [updV, upd, nar]
    rfl
  · simp [updV, upd, hq]
theorem x_sast (hexec : p.tables.exec = Jvm.exec) (hb : c.code = cc) (hK : mK D cA s) (hP : xP D cA A u H) (hS : va_S A s.heap H locs) {i x : Int32} (h : sI u a 2 i x = some u1) (hdg : decode cc pc = .ok (.sastore, 1))
    (kk : ∀ (H1 : Heap) (locs1 : List Loc), xP D cA A u1 H1 → va_S A s.heap H1 locs1 → W p l e R s m args below meth c H1 locs1 cells slots Q (F0 m (pc + 1) ls rest)) : W p l e R s m args below meth c H locs cells slots Q (F0 m pc ls (.int x :: .int i :: .ref a :: rest)) := by
  obtain ⟨n, f, ha, hin, rfl⟩ := sI_some h
  have hc : H[a]? = some (vp_cell (cA 2) (n, .inl f)) := (hP.2 a _ ha).2
  refine W.sast hexec hb hc ((hK.2 2 _ rfl).1 n (fun j => .int (f j))) (fun q => by cases q) (by show ¬ (i < 0 ∨ (arrV _ _ _).slots.size ≤ _); rw [arrV_size]; exact hin) rfl rfl hdg fun H1 e z oq => ?_
  refine kk H1 _ (hP.set ha z oq ?_) (hS.put z oq (hP.2 a _ ha).1)
  show H1[a]? = some (vp_cell _ _)
  rw [e]
  rw [vp_cell_i, vp_cell_i, arrV_store]
  congr 2
  funext q
  by_cases hq : q = i.toNatClampNeg
  · subst hq
    simp [updV, upd, nar]
    rfl
  · simp [updV, upd, hq]
theorem x_last (hexec : p.tables.exec = Jvm.exec) (hb : c.code = cc) (hK : mK D cA s) (hP : xP D cA A u H) (hS : va_S A s.heap H locs) {i : Int32} {x : Int64} (h : sL u a i x = some u1) (hdg : decode cc pc = .ok (.lastore, 1))
    (kk : ∀ (H1 : Heap) (locs1 : List Loc), xP D cA A u1 H1 → va_S A s.heap H1 locs1 → W p l e R s m args below meth c H1 locs1 cells slots Q (F0 m (pc + 1) ls rest)) : W p l e R s m args below meth c H locs cells slots Q (F0 m pc ls (.long x :: .int i :: .ref a :: rest)) := by
  obtain ⟨n, f, ha, hin, rfl⟩ := sL_some h
  have hc : H[a]? = some (vp_cell (cA 3) (n, .inr (.inl f))) := (hP.2 a _ ha).2
  refine W.last hexec hb hc ((hK.2 3 _ rfl).1 n (fun j => .long (f j))) (fun q => by cases q) (by show ¬ (i < 0 ∨ (arrV _ _ _).slots.size ≤ _); rw [arrV_size]; exact hin) rfl rfl hdg fun H1 e z oq => ?_
  refine kk H1 _ (hP.set ha z oq ?_) (hS.put z oq (hP.2 a _ ha).1)
  show H1[a]? = some (vp_cell _ _)
  rw [e]
  rw [vp_cell_l, vp_cell_l, arrV_store]
  congr 2
  funext q
  by_cases hq : q = i.toNatClampNeg
  · subst hq
    simp [updV, vp_updL]
  · simp [updV, vp_updL, hq]
/-- length of any array -/
def xLen (u : XS) (a : Nat) : Option Nat := match u.1 a with
  | some (.inl (t, n, _)) => if t ≤ 2 then some n else none
  | some (.inr (.inl (n, _))) => some n
  | some (.inr (.inr (.inl (t, n, _)))) => if 4 ≤ t ∧ t ≤ 6 then some n else none
  | _ => none
theorem x_alen (hexec : p.tables.exec = Jvm.exec) (hb : c.code = cc) (hK : mK D cA s) (hP : xP D cA A u H) {n : Nat} (h : xLen u a = some n) (hdg : decode cc pc = .ok (.arraylength, 1))
    (kk : W p l e R s m args below meth c H locs cells slots Q (F0 m (pc + 1) ls (.int (Int32.ofNat n) :: rest))) : W p l e R s m args below meth c H locs cells slots Q (F0 m pc ls (.ref a :: rest)) := by
  unfold xLen at h
  split at h
  · next t n' f e1 =>
    split at h
    · next ht =>
      cases h
      rcases (show t = 0 ∨ t = 1 ∨ t = 2 by omega) with e | e | e <;> subst e
      · exact va_alen hexec hb hK (hP.one e1) 0 0 rfl rfl rfl hdg kk
      · exact va_alen hexec hb hK (hP.one e1) 0 1 rfl rfl rfl hdg kk
      · exact va_alen hexec hb hK (hP.one e1) 0 2 rfl rfl rfl hdg kk
    · cases h
  · next n' f e1 => cases h; exact va_alen hexec hb hK (hP.one e1) 0 3 rfl rfl rfl hdg kk
  · next t n' f e1 =>
    split at h
    · next ht =>
      cases h
      rcases (show t = 4 ∨ t = 5 ∨ t = 6 by omega) with e | e | e <;> subst e
      · exact va_alen hexec hb hK (hP.one e1) 0 4 rfl rfl rfl hdg kk
      · exact va_alen hexec hb hK (hP.one e1) 0 5 rfl rfl rfl hdg kk
      · exact va_alen hexec hb hK (hP.one e1) 0 6 rfl rfl rfl hdg kk
    · cases h
  · cases h
/-! new -/
theorem x_new (hexec : p.tables.exec = Jvm.exec) (hb : c.code = cc) {own C : String} {T : u_T} {N ci index : Nat} (hts : ∀ w ∈ lw_all, w.before args s = true) (hin : ∀ w ∈ u_ws C T N, w ∈ lw_all) (ty : Nat → FieldType) (hty : ∀ k, k < N → parseFieldDescriptor (T k).2.2.1 = some (ty k)) (hown : s.vm.findClass own = some m.cls) (hcl : (Cond.classLink own index C).before args s = true) (hinst : (Cond.instantiable C N).before args s = true) (hini : (Cond.initialized C).before args s = true)
    (hK : mK D cA s) (hP : xP D cA A u H) (hS : va_S A s.heap H locs) (hA : ∀ q, s.heap.size ≤ q → A q) (hc : vwCl[ci]? = some (C, T, N)) {fs : List Value} (hfs : ∀ j, j < N → defaultValue (ty j) = vp_V fs j) (hcells : cells + 1 ≤ R.cells) (hslots : slots + N ≤ R.slots) (hdg : decode cc pc = .ok (.new index, 3))
    (kk : ∀ (H1 : Heap), xP D cA A (xnew u (aeO ci fs)) H1 → va_S A s.heap H1 locs → W p l e R s m args below meth c H1 locs (cells + 1) (slots + N) Q (F0 m (pc + 3) ls (.ref u.2 :: rest))) : W p l e R s m args below meth c H locs cells slots Q (F0 m pc ls rest) := by
  have hKn := hK.1 ci _ hc
  refine W.newcK hexec hb hown hcl hinst hini rfl hdg hcells hslots hKn.2.1 hP.1 fun H1 kC hkC e1 z1 o1 => ?_
  have o1 : ∀ q, q < H.size → H1[q]? = H[q]? := by rw [hP.1]; exact o1
  refine kk H1 (hP.new (fun q h => hA q (Nat.le_trans hS.1 h)) (by rw [z1, hP.1]) o1 ⟨_, hc, (u_born ty hts hin hKn hkC e1 hty).to hfs⟩) ⟨Nat.le_trans hS.1 (by rw [z1, hP.1]; exact Nat.le_succ _), fun x h1 h2 => (o1 x (Nat.lt_of_lt_of_le h1 hS.1)).trans (hS.2.1 x h1 h2), hS.2.2⟩
/-- the receiver of a call -/
theorem x_recv {ci : Nat} {q : vw_C} {fs : List Value} (hK : mK D cA s) (hP : xP D cA A u H) (hc : vwCl[ci]? = some q) (ha : u.1 a = some (aeO ci fs)) : ∃ cell : Cell, H[a]? = some cell ∧ cell.vm.isStatics = false ∧ s.vm.findClass q.1 = some cell.cls := va_recv (ws := [(a, .inr (ci, fs))]) hK (hP.one ha) hc (q0 := 0) rfl
end XR
