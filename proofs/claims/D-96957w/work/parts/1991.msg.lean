/-! THE WORDS that an exception made by the machine wants (Bundle.messageArmAtoms), for the three classes -/
theorem fa_cons {α : Type} {P : α → Prop} {x : α} {l : List α} (h : P x) (k : ∀ a ∈ l, P a) : ∀ a ∈ x :: l, P a := fun a ha => (List.mem_cons.mp ha).elim (fun e => e ▸ h) (k a)
theorem fa_nil {α : Type} {P : α → Prop} : ∀ a ∈ ([] : List α), P a := fun a h => by cases h
theorem z_ref {args : Array Value} {C n d : String} {v : Option Nat} {A : Nat → Prop} {s : State} (h : va_Z C n d (va_rf v) A s s.heap) : (Cond.isRef (.static C n d)).before args s = true := by
  obtain ⟨cf, kf, fi, f, a, cell, h1, h2, h3, h4, h5, h6, h7, h8⟩ := h
  cases v <;> simp [Cond.before, Cond.holds, Cond.value, Term.eval, State.fieldNamed?, h1, h2, h4, h5, h6, h7, va_rf]
section XMA
variable {s : State} {args : Array Value} {D : va_G} {cA : Nat → ClassId} {A : Nat → Prop}
theorem xA_msg (hts : ∀ w ∈ lw_all, w.before args s = true) (hK : xK D cA A s) : ∀ a ∈ Bundle.messageArmAtoms "java/lang/ArithmeticException" [Bundle.rN, Bundle.eN], a.before args s = true := by
  obtain ⟨-, -, -, -, -, -, -, z1, z2⟩ := hK.2.2.2.2.2.2.2.1
  refine fa_cons (hts _ q101) ?_
  refine fa_cons (hts _ q717) ?_
  refine fa_cons (hts _ q726) ?_
  refine fa_cons (hts _ q731) ?_
  refine fa_cons (hts _ q734) ?_
  refine fa_cons (hts _ q736) ?_
  refine fa_cons (hts _ q718) ?_
  refine fa_cons (hts _ q719) ?_
  refine fa_cons (hts _ q121) ?_
  refine fa_cons (hts _ q122) ?_
  refine fa_cons (hts _ q720) ?_
  refine fa_cons (hts _ q725) ?_
  refine fa_cons (hts _ q732) ?_
  refine fa_cons (hts _ q750) ?_
  refine fa_cons (hts _ q707) ?_
  refine fa_cons (hts _ q751) ?_
  refine fa_cons (hts _ q709) ?_
  refine fa_cons (hts _ q752) ?_
  refine fa_cons (hts _ q711) ?_
  refine fa_cons (hts _ q721) ?_
  refine fa_cons (ls_args hK.2.2.2.2.2.2.2.2.2.1) ?_
  refine fa_cons (hts _ q723) ?_
  refine fa_cons (ls_args hK.2.2.2.2.2.2.2.2.2.2) ?_
  refine fa_cons (hts _ q713) ?_
  refine fa_cons (hts _ q1038) ?_
  refine fa_cons (hts _ q1039) ?_
  refine fa_cons (hts _ q749) ?_
  refine fa_cons (hts _ q713) ?_
  refine fa_cons (hts _ q1029) ?_
  refine fa_cons (hts _ q1030) ?_
  refine fa_cons (hts _ q1031) ?_
  refine fa_cons (hts _ q1032) ?_
  refine fa_cons (va_Nw.use rfl (hK.2.1 _ q1049 rfl)) ?_
  refine fa_cons (hts _ q1032) ?_
  refine fa_cons (hts _ q1033) ?_
  refine fa_cons (hts _ q1034) ?_
  refine fa_cons (hts _ q1035) ?_
  refine fa_cons (va_Nw.use rfl (hK.2.1 _ q701 rfl)) ?_
  refine fa_cons (hts _ q1035) ?_
  refine fa_cons (hts _ q1036) ?_
  refine fa_cons (hts _ q1037) ?_
  refine fa_cons (hts _ q1038) ?_
  refine fa_cons (va_Nw.use rfl (hK.2.1 _ q703 rfl)) ?_
  refine fa_cons (hts _ q104) ?_
  refine fa_cons (hts _ q1051) ?_
  refine fa_cons (hts _ q144) ?_
  refine fa_cons (hts _ q1052) ?_
  refine fa_cons (hts _ q1054) ?_
  refine fa_cons (hts _ q1053) ?_
  refine fa_cons (hts _ q1055) ?_
  refine fa_cons (hts _ q112) ?_
  refine fa_cons (hts _ q1028) ?_
  refine fa_cons (va_Nw.use rfl (hK.2.1 _ q1047 rfl)) ?_
  refine fa_cons (hts _ q1050) ?_
  refine fa_cons (hts _ q728) ?_
  refine fa_cons (hts _ q1042) ?_
  refine fa_cons (hts _ q1043) ?_
  refine fa_cons (hts _ q1045) ?_
  refine fa_cons (hts _ q1041) ?_
  refine fa_cons (z_ref z1) ?_
  refine fa_cons (z_ref z2) ?_
  refine fa_cons (hts _ q748) ?_
  refine fa_cons (hts _ q715) ?_
  refine fa_cons (hts _ q1040) ?_
  exact fa_nil
theorem xN_msg (hts : ∀ w ∈ lw_all, w.before args s = true) (hK : xK D cA A s) : ∀ a ∈ Bundle.messageArmAtoms "java/lang/NegativeArraySizeException" [Bundle.rN, Bundle.eN], a.before args s = true := by
  obtain ⟨-, -, -, -, -, -, -, z1, z2⟩ := hK.2.2.2.2.2.2.2.1
  refine fa_cons (hts _ q101) ?_
  refine fa_cons (hts _ q717) ?_
  refine fa_cons (hts _ q726) ?_
  refine fa_cons (hts _ q731) ?_
  refine fa_cons (hts _ q734) ?_
  refine fa_cons (hts _ q736) ?_
  refine fa_cons (hts _ q718) ?_
  refine fa_cons (hts _ q719) ?_
  refine fa_cons (hts _ q121) ?_
  refine fa_cons (hts _ q122) ?_
  refine fa_cons (hts _ q720) ?_
  refine fa_cons (hts _ q725) ?_
  refine fa_cons (hts _ q732) ?_
  refine fa_cons (hts _ q750) ?_
  refine fa_cons (hts _ q707) ?_
  refine fa_cons (hts _ q751) ?_
  refine fa_cons (hts _ q709) ?_
  refine fa_cons (hts _ q752) ?_
  refine fa_cons (hts _ q711) ?_
  refine fa_cons (hts _ q721) ?_
  refine fa_cons (ls_args hK.2.2.2.2.2.2.2.2.2.1) ?_
  refine fa_cons (hts _ q723) ?_
  refine fa_cons (ls_args hK.2.2.2.2.2.2.2.2.2.2) ?_
  refine fa_cons (hts _ q713) ?_
  refine fa_cons (hts _ q1038) ?_
  refine fa_cons (hts _ q1039) ?_
  refine fa_cons (hts _ q749) ?_
  refine fa_cons (hts _ q713) ?_
  refine fa_cons (hts _ q1176) ?_
  refine fa_cons (hts _ q1177) ?_
  refine fa_cons (hts _ q1178) ?_
  refine fa_cons (hts _ q1032) ?_
  refine fa_cons (va_Nw.use rfl (hK.2.1 _ q1049 rfl)) ?_
  refine fa_cons (hts _ q1032) ?_
  refine fa_cons (hts _ q1033) ?_
  refine fa_cons (hts _ q1034) ?_
  refine fa_cons (hts _ q1035) ?_
  refine fa_cons (va_Nw.use rfl (hK.2.1 _ q701 rfl)) ?_
  refine fa_cons (hts _ q1035) ?_
  refine fa_cons (hts _ q1036) ?_
  refine fa_cons (hts _ q1037) ?_
  refine fa_cons (hts _ q1038) ?_
  refine fa_cons (va_Nw.use rfl (hK.2.1 _ q703 rfl)) ?_
  refine fa_cons (hts _ q104) ?_
  refine fa_cons (hts _ q1051) ?_
  refine fa_cons (hts _ q144) ?_
  refine fa_cons (hts _ q1052) ?_
  refine fa_cons (hts _ q1054) ?_
  refine fa_cons (hts _ q1053) ?_
  refine fa_cons (hts _ q1055) ?_
  refine fa_cons (hts _ q113) ?_
  refine fa_cons (hts _ q1175) ?_
  refine fa_cons (va_Nw.use rfl (hK.2.1 _ q1186 rfl)) ?_
  refine fa_cons (hts _ q1187) ?_
  refine fa_cons (hts _ q730) ?_
  refine fa_cons (hts _ q1181) ?_
  refine fa_cons (hts _ q1182) ?_
  refine fa_cons (hts _ q1184) ?_
  refine fa_cons (hts _ q1180) ?_
  refine fa_cons (z_ref z1) ?_
  refine fa_cons (z_ref z2) ?_
  refine fa_cons (hts _ q748) ?_
  refine fa_cons (hts _ q715) ?_
  refine fa_cons (hts _ q1179) ?_
  exact fa_nil
theorem xS_msg (hts : ∀ w ∈ lw_all, w.before args s = true) (hK : xK D cA A s) : ∀ a ∈ Bundle.messageArmAtoms "java/lang/ArrayStoreException" [Bundle.rN, Bundle.eN], a.before args s = true := by
  obtain ⟨-, -, -, -, -, -, -, z1, z2⟩ := hK.2.2.2.2.2.2.2.1
  refine fa_cons (hts _ q101) ?_
  refine fa_cons (hts _ q717) ?_
  refine fa_cons (hts _ q726) ?_
  refine fa_cons (hts _ q731) ?_
  refine fa_cons (hts _ q734) ?_
  refine fa_cons (hts _ q736) ?_
  refine fa_cons (hts _ q718) ?_
  refine fa_cons (hts _ q719) ?_
  refine fa_cons (hts _ q121) ?_
  refine fa_cons (hts _ q122) ?_
  refine fa_cons (hts _ q720) ?_
  refine fa_cons (hts _ q725) ?_
  refine fa_cons (hts _ q732) ?_
  refine fa_cons (hts _ q750) ?_
  refine fa_cons (hts _ q707) ?_
  refine fa_cons (hts _ q751) ?_
  refine fa_cons (hts _ q709) ?_
  refine fa_cons (hts _ q752) ?_
  refine fa_cons (hts _ q711) ?_
  refine fa_cons (hts _ q721) ?_
  refine fa_cons (ls_args hK.2.2.2.2.2.2.2.2.2.1) ?_
  refine fa_cons (hts _ q723) ?_
  refine fa_cons (ls_args hK.2.2.2.2.2.2.2.2.2.2) ?_
  refine fa_cons (hts _ q713) ?_
  refine fa_cons (hts _ q1038) ?_
  refine fa_cons (hts _ q1039) ?_
  refine fa_cons (hts _ q749) ?_
  refine fa_cons (hts _ q713) ?_
  refine fa_cons (hts _ q1198) ?_
  refine fa_cons (hts _ q1199) ?_
  refine fa_cons (hts _ q1200) ?_
  refine fa_cons (hts _ q1032) ?_
  refine fa_cons (va_Nw.use rfl (hK.2.1 _ q1049 rfl)) ?_
  refine fa_cons (hts _ q1032) ?_
  refine fa_cons (hts _ q1033) ?_
  refine fa_cons (hts _ q1034) ?_
  refine fa_cons (hts _ q1035) ?_
  refine fa_cons (va_Nw.use rfl (hK.2.1 _ q701 rfl)) ?_
  refine fa_cons (hts _ q1035) ?_
  refine fa_cons (hts _ q1036) ?_
  refine fa_cons (hts _ q1037) ?_
  refine fa_cons (hts _ q1038) ?_
  refine fa_cons (va_Nw.use rfl (hK.2.1 _ q703 rfl)) ?_
  refine fa_cons (hts _ q104) ?_
  refine fa_cons (hts _ q1051) ?_
  refine fa_cons (hts _ q144) ?_
  refine fa_cons (hts _ q1052) ?_
  refine fa_cons (hts _ q1054) ?_
  refine fa_cons (hts _ q1053) ?_
  refine fa_cons (hts _ q1055) ?_
  refine fa_cons (hts _ q114) ?_
  refine fa_cons (hts _ q1197) ?_
  refine fa_cons (va_Nw.use rfl (hK.2.1 _ q1208 rfl)) ?_
  refine fa_cons (hts _ q1209) ?_
  refine fa_cons (hts _ q729) ?_
  refine fa_cons (hts _ q1203) ?_
  refine fa_cons (hts _ q1204) ?_
  refine fa_cons (hts _ q1206) ?_
  refine fa_cons (hts _ q1202) ?_
  refine fa_cons (z_ref z1) ?_
  refine fa_cons (z_ref z2) ?_
  refine fa_cons (hts _ q748) ?_
  refine fa_cons (hts _ q715) ?_
  refine fa_cons (hts _ q1201) ?_
  exact fa_nil
end XMA
