/-! MARKS told -/
set_option maxRecDepth 100000
def g_X10_told (a0 : Nat) : GF :=
  getI 29 a0 0 fun x1 =>
  retG (rI x1)
abbrev md_X10_told : MD := (yX10_told, cX10_told, 1, (some (Jvm.ClassFile.FieldType.int)), RX10, 10, 0, 0)
theorem hm_X10_told : (md_X10_told).y.cls ≠ "java/lang/invoke/MethodHandle" ∧ (md_X10_told).y.cls ≠ "java/lang/invoke/VarHandle" ∧ (parseMethodDescriptor (md_X10_told).y.desc).map (fun d => d.parameters.length) = some 0 := by decide +kernel
theorem m_X10_told (a0 : Nat) : CMF md_X10_told [cR a0] (g_X10_told a0) := by
  refine cm_of (by decide +kernel) rfl (Nat.le_of_ble_eq_true rfl) ?_
  show CWF _ 0 0 0 [(0, cR a0)] [] _
  unfold g_X10_told
  refine cw_aload_n dX10_told_0 rfl 0 rfl ?_
  refine cw_getI (ci := 9) (j := 0) (C := RX10) (T := TX10) (N := 2) rfl (by decide) rfl rfl (Or.inl q1386) fSame_rfl dX10_told_1 (fun x1 => ?_)
  exact cw_iret rfl dX10_told_4
def g_X11_told (a0 : Nat) : GF :=
  getI 30 a0 0 fun x1 =>
  retG (rI x1)
abbrev md_X11_told : MD := (yX11_told, cX11_told, 1, (some (Jvm.ClassFile.FieldType.int)), RX11, 10, 0, 0)
theorem hm_X11_told : (md_X11_told).y.cls ≠ "java/lang/invoke/MethodHandle" ∧ (md_X11_told).y.cls ≠ "java/lang/invoke/VarHandle" ∧ (parseMethodDescriptor (md_X11_told).y.desc).map (fun d => d.parameters.length) = some 0 := by decide +kernel
theorem m_X11_told (a0 : Nat) : CMF md_X11_told [cR a0] (g_X11_told a0) := by
  refine cm_of (by decide +kernel) rfl (Nat.le_of_ble_eq_true rfl) ?_
  show CWF _ 0 0 0 [(0, cR a0)] [] _
  unfold g_X11_told
  refine cw_aload_n dX11_told_0 rfl 0 rfl ?_
  refine cw_getI (ci := 10) (j := 0) (C := RX11) (T := TX11) (N := 1) rfl (by decide) rfl rfl (Or.inl q1416) fSame_rfl dX11_told_1 (fun x1 => ?_)
  exact cw_iret rfl dX11_told_4
def toldG (a : Nat) (f : Int32 → GF) : GF := fun h => if h.t a = 29 then invI (some (a, 29)) (g_X10_told a) f h else if h.t a = 30 then invI (some (a, 30)) (g_X11_told a) f h else none
theorem cw_told {d : MD} {c q pc a index count : Nat} {ls : List (Nat × CV)} {st : List CV} {f : Int32 → GF} (hl : Cond.methodLink d.own index ⟨"Scrutineery$Marks", "told", "()I"⟩ ∈ lw_all) (hd : decode d.cc pc = .ok (.invokeinterface index count, 5)) (hdep : 11 ≤ d.dep) (hs : (st.map cat).sum ≤ 8) (k : ∀ x, CWF d c q (pc + 5) ls (cI x :: st) (f x)) : CWF d c q pc ls (cR a :: st) (toldG a f) := by
  refine cw_ite ?_ (cw_ite ?_ cw_none)
  · exact cw_invI (d2 := md_X10_told) (c := c) (q := q) (as := [cR a]) (mc := 0) (ms := 0) rfl rfl (okF (x := ⟨"Scrutineery$Marks", "told", "()I"⟩) (ci := 9) (C := RX10) (T0 := TX10) (N := 2) (n := 0) rfl (Or.inl rfl) rfl hd (lw_F hl q2046 q2044 q144 q2048) (List.mem_iff_getElem?.mpr ⟨14, rfl⟩) (show ("Scrutineery$Marks" : String) ≠ _ ∧ ("Scrutineery$Marks" : String) ≠ _ ∧ (parseMethodDescriptor (md_X10_told).y.desc).map (fun d => d.parameters.length) = some 0 from ⟨by decide, by decide, (hm_X10_told).2.2⟩) hdep (by decide) hs) (m_X10_told a) rfl k
  · exact cw_invI (d2 := md_X11_told) (c := c) (q := q) (as := [cR a]) (mc := 0) (ms := 0) rfl rfl (okF (x := ⟨"Scrutineery$Marks", "told", "()I"⟩) (ci := 10) (C := RX11) (T0 := TX11) (N := 1) (n := 0) rfl (Or.inl rfl) rfl hd (lw_F hl q447 q2040 q145 q449) (List.mem_iff_getElem?.mpr ⟨15, rfl⟩) (show ("Scrutineery$Marks" : String) ≠ _ ∧ ("Scrutineery$Marks" : String) ≠ _ ∧ (parseMethodDescriptor (md_X11_told).y.desc).map (fun d => d.parameters.length) = some 0 from ⟨by decide, by decide, (hm_X11_told).2.2⟩) hdep (by decide) hs) (m_X11_told a) rfl k
