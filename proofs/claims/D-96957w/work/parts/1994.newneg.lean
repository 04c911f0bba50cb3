/-! new byte[n], n < 0: NegativeArraySizeException -/
section XNN
variable {p : Program} {l : Launch} {e : Env} {R : Room} {s : State} {m : MethodId} {args : Array Value} {below : List Frame} {meth : Method} {c : Code} {H : Heap} {locs : List Loc} {cells slots : Nat} {Q : State → Prop} {D : va_G} {cA : Nat → ClassId} {A : Nat → Prop} {u : XS}
theorem x_newNeg {cc : ByteArray} {n : Int32} {pc : Nat} {ls : Array Slot} {rest : List Value} {aty : ArrayType} (hexec : p.tables.exec = Jvm.exec) (hb : c.code = cc) (htr : l.stackTraces = false) (hts : ∀ w ∈ lw_all, w.before args s = true) (hK : xK D cA A s) (hP : xP D cA A u H) (hS : va_S A s.heap H locs) (hA : ∀ q, s.heap.size ≤ q → A q) (hn : n < 0)
    (hsize : ls.size = c.maxLocals) (hRframes : 6 < R.frames) (hRlocals : 10248 ≤ R.locals) (hroom : 2 * (F0 m pc ls rest).monitorRoom + (rest.map fun v => v.category).sum ≤ 8) (hRcells : cells + 3 ≤ R.cells) (hRslots : slots + 54 ≤ R.slots) (hdg : decode cc pc = .ok (.newarray aty, 2))
    (kk : ∀ (H1 : Heap) (locs1 : List Loc), xP D cA A (xthr u 16) H1 → va_S A s.heap H1 locs1 → WX p l e R s m args below meth c H1 locs1 (cells + 3) (slots + 54) Q (F0 m pc ls rest) (u.2 + 2)) : W p l e R s m args below meth c H locs cells slots Q (F0 m pc ls (.int n :: rest)) := by
  have hb1 := int32_print n
  have hb2 := utf16_size_le (toString n)
  have hb3 := stringBytes_size_le (stringToUtf16 (toString n))
  refine x_vmW (cls := "java/lang/NegativeArraySizeException") (tx := toString n) (ci := 16) (T0 := TJ11) (nb := 44) (pc := pc) (ls := ls) (rest := rest) hexec htr (by decide) (by decide) (by decide) (xN_msg hts hK) hK hP hS hA rfl (negative_text_modelled hn) (by omega) (by decide) hsize hRframes hRlocals hroom hRcells hRslots (fun T hT X => ?_) kk
  exact X.newarrayNegative hexec (g := F0 m pc ls (.int n :: rest)) rfl hn (rest := rest) rfl (by rw [hb]; exact hdg)
end XNN
