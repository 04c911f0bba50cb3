/-! ROWS over the world of PictureBlock, 4: references that may be null; words of interface calls -/
def nlc {γ : Type} (r : Option Nat) (A : Option γ) (B : Nat → Option γ) : Option γ := match r with
  | none => A
  | some a => B a
theorem nlc_n {γ : Type} {A : Option γ} {B : Nat → Option γ} {o : Option γ} (h : nlc none A B = o) : A = o := h
theorem nlc_s {γ : Type} {A : Option γ} {B : Nat → Option γ} {a : Nat} {o : Option γ} (h : nlc (some a) A B = o) : B a = o := h
theorem xw4 {w1 w2 w3 w4 : Cond} (h1 : w1 ∈ lw_all) (h2 : w2 ∈ lw_all) (h3 : w3 ∈ lw_all) (h4 : w4 ∈ lw_all) : ∀ w ∈ ([w1, w2, w3, w4] : List Cond), w ∈ lw_all := by
  intro w hw
  simp only [List.mem_cons, List.not_mem_nil, or_false] at hw
  rcases hw with e | e | e | e <;> (rw [e]; assumption)
theorem xw5 {w1 w2 w3 w4 w5 : Cond} (h1 : w1 ∈ lw_all) (h2 : w2 ∈ lw_all) (h3 : w3 ∈ lw_all) (h4 : w4 ∈ lw_all) (h5 : w5 ∈ lw_all) : ∀ w ∈ ([w1, w2, w3, w4, w5] : List Cond), w ∈ lw_all := by
  intro w hw
  simp only [List.mem_cons, List.not_mem_nil, or_false] at hw
  rcases hw with e | e | e | e | e <;> (rw [e]; assumption)
theorem xw6 {w1 w2 w3 w4 w5 w6 : Cond} (h1 : w1 ∈ lw_all) (h2 : w2 ∈ lw_all) (h3 : w3 ∈ lw_all) (h4 : w4 ∈ lw_all) (h5 : w5 ∈ lw_all) (h6 : w6 ∈ lw_all) : ∀ w ∈ ([w1, w2, w3, w4, w5, w6] : List Cond), w ∈ lw_all := by
  intro w hw
  simp only [List.mem_cons, List.not_mem_nil, or_false] at hw
  rcases hw with e | e | e | e | e | e <;> (rw [e]; assumption)
section XR4
variable {p : Program} {l : Launch} {e : Env} {R : Room} {s : State} {m : MethodId} {args : Array Value} {below : List Frame} {meth : Method} {c : Code} {H : Heap} {locs : List Loc} {cells slots : Nat} {Q : State → Prop}
variable {cc : ByteArray} {pc : Nat} {ls : Array Slot} {rest : List Value}
theorem x_aload_n (hexec : p.tables.exec = Jvm.exec) (hb : c.code = cc) {k : Fin 4} {i : Nat} {x : Option Nat} (hdg : decode cc pc = .ok (.aload_n k, 1)) (hi : (k : Nat) = i) (hl : ls[i]? = some (.val (va_rf x)))
    (kk : W p l e R s m args below meth c H locs cells slots Q (F0 m (pc + 1) ls (va_rf x :: rest))) : W p l e R s m args below meth c H locs cells slots Q (F0 m pc ls rest) := by
  cases x with
  | none => exact lv_aload_nN hexec hb hdg hi hl kk
  | some a => exact lv_aload_n hexec hb hdg hi hl kk
theorem x_aload (hexec : p.tables.exec = Jvm.exec) (hb : c.code = cc) {i : Nat} {x : Option Nat} (hdg : decode cc pc = .ok (.aload i, 2)) (hl : ls[i]? = some (.val (va_rf x)))
    (kk : W p l e R s m args below meth c H locs cells slots Q (F0 m (pc + 2) ls (va_rf x :: rest))) : W p l e R s m args below meth c H locs cells slots Q (F0 m pc ls rest) := by
  cases x with
  | none => exact lv_aloadN hexec hb hdg hl kk
  | some a => exact lv_aload hexec hb hdg hl kk
theorem x_astore_n (hexec : p.tables.exec = Jvm.exec) (hb : c.code = cc) {k : Fin 4} {i nL : Nat} {x : Option Nat} {lv lv' : List (Nat × Value)} (hdg : decode cc pc = .ok (.astore_n k, 1)) (hi : (k : Nat) = i) (h : lv_has ls nL lv) (hn : i < nL) (hl : (i, va_rf x) :: lv.filter (fun q => !(q.1 == i) && !(q.1 + 1 == i && q.2.category == 2)) = lv')
    (kk : ∀ ls' : Array Slot, lv_has ls' nL lv' → W p l e R s m args below meth c H locs cells slots Q (F0 m (pc + 1) ls' rest)) : W p l e R s m args below meth c H locs cells slots Q (F0 m pc ls (va_rf x :: rest)) := by
  cases x with
  | none => exact lv_astore_nN hexec hb hdg hi h hn hl kk
  | some a => exact lv_astore_n hexec hb hdg hi h hn hl kk
theorem x_astore (hexec : p.tables.exec = Jvm.exec) (hb : c.code = cc) {i nL : Nat} {x : Option Nat} {lv lv' : List (Nat × Value)} (hdg : decode cc pc = .ok (.astore i, 2)) (h : lv_has ls nL lv) (hn : i < nL) (hl : (i, va_rf x) :: lv.filter (fun q => !(q.1 == i) && !(q.1 + 1 == i && q.2.category == 2)) = lv')
    (kk : ∀ ls' : Array Slot, lv_has ls' nL lv' → W p l e R s m args below meth c H locs cells slots Q (F0 m (pc + 2) ls' rest)) : W p l e R s m args below meth c H locs cells slots Q (F0 m pc ls (va_rf x :: rest)) := by
  cases x with
  | none => exact lv_astoreN hexec hb hdg h hn hl kk
  | some a => exact lv_astore hexec hb hdg h hn hl kk
end XR4
