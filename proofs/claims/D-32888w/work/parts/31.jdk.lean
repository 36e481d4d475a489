/-! THE JDK: methods of ArrayList and of Integer, on the open list -/
set_option maxRecDepth 100000
def g_J25_equals (a0 : Nat) (a1 : Nat) : GF :=
  acG a0 a1
    (retZ 1)
    (retZ 0)
abbrev md_J25_equals : MD := (yJ25_equals, cJ25_equals, 2, (some (Jvm.ClassFile.FieldType.boolean)), RJ25, 10, 0, 0)
theorem hm_J25_equals : (md_J25_equals).y.cls ≠ "java/lang/invoke/MethodHandle" ∧ (md_J25_equals).y.cls ≠ "java/lang/invoke/VarHandle" ∧ (parseMethodDescriptor (md_J25_equals).y.desc).map (fun d => d.parameters.length) = some 1 := by decide +kernel
theorem m_J25_equals (a0 : Nat) (a1 : Nat) : CMF md_J25_equals [cR a0, cR a1] (g_J25_equals a0 a1) := by
  refine cm_ofF (by decide +kernel) rfl (Nat.le_of_ble_eq_true rfl) ?_
  show CWF _ 0 0 0 [(0, cR a0), (1, cR a1)] [] _
  unfold g_J25_equals
  refine cw_aload_n dJ25_equals_0 rfl 0 rfl ?_
  refine cw_aload_n dJ25_equals_1 rfl 1 rfl ?_
  refine cw_acmp_ne (tgt := 9) dJ25_equals_2 (by decide) ?_ ?_
  · refine cw_iconst (v := 0) dJ25_equals_9 (by decide) ?_
    exact cw_zret rfl dJ25_equals_10
  · refine cw_iconst (v := 1) dJ25_equals_5 (by decide) ?_
    refine cw_goto (tgt := 10) dJ25_equals_6 (by decide) ?_
    exact cw_zret rfl dJ25_equals_10
def eqvG (a b : Nat) (f : Int32 → GF) : GF := fun h => if h.t a = 22 then invI (some (a, 22)) (g_J25_equals a b) f h else if h.t a = 27 then invI (some (a, 27)) (g_J25_equals a b) f h else none
theorem cw_eqv {d : MD} {c q pc a b index : Nat} {ls : List (Nat × CV)} {st : List CV} {f : Int32 → GF} (hl : Cond.methodLink d.own index yJ25_equals ∈ lw_all) (hd : decode d.cc pc = .ok (.invokevirtual index, 3)) (hdep : 11 ≤ d.dep) (hs : (st.map cat).sum ≤ 8) (k : ∀ x, CWF d c q (pc + 3) ls (cI x :: st) (f x)) : CWF d c q pc ls (cR b :: cR a :: st) (eqvG a b f) := by
  refine cw_ite ?_ (cw_ite ?_ cw_none)
  · exact cw_invI (d2 := md_J25_equals) (c := c) (q := q) (as := [cR a, cR b]) (mc := 0) (ms := 0) rfl rfl (okVX (ci := 2) (C := RX3) (T0 := TX3) (N := 9) (n := 1) rfl rfl rfl hd hl q465 q503 q2860 (lw_meth q516) hm_J25_equals hdep (by decide) hs) (m_J25_equals a b) rfl k
  · exact cw_invI (d2 := md_J25_equals) (c := c) (q := q) (as := [cR a, cR b]) (mc := 0) (ms := 0) rfl rfl (okVX (ci := 7) (C := RX8) (T0 := TX8) (N := 10) (n := 1) rfl rfl rfl hd hl q465 q499 q2860 (lw_meth q516) hm_J25_equals hdep (by decide) hs) (m_J25_equals a b) rfl k
def g_J0_init (a0 : Nat) : GF :=
  objG a0 <|
  retG rV
abbrev md_J0_init : MD := (yJ0_init, cJ0_init, 1, none, RJ0, 10, 0, 0)
theorem hm_J0_init : (md_J0_init).y.cls ≠ "java/lang/invoke/MethodHandle" ∧ (md_J0_init).y.cls ≠ "java/lang/invoke/VarHandle" ∧ (parseMethodDescriptor (md_J0_init).y.desc).map (fun d => d.parameters.length) = some 0 := by decide +kernel
theorem m_J0_init (a0 : Nat) : CMF md_J0_init [cR a0] (g_J0_init a0) := by
  refine cm_of (by decide +kernel) rfl (Nat.le_of_ble_eq_true rfl) ?_
  show CWF _ 0 0 0 [(0, cR a0)] [] _
  unfold g_J0_init
  refine cw_aload_n dJ0_init_0 rfl 0 rfl ?_
  refine cw_objInit q172 q159 q160 dJ0_init_1 (by decide) (Nat.le_of_ble_eq_true rfl) ?_
  exact cw_vret rfl dJ0_init_4
def g_J1_init (a0 : Nat) : GF :=
  invV (some (a0, 34)) (g_J0_init a0) <|
  putI 34 a0 0 0 <|
  retG rV
abbrev md_J1_init : MD := (yJ1_init, cJ1_init, 1, none, RJ1, 11, 0, 0)
theorem hm_J1_init : (md_J1_init).y.cls ≠ "java/lang/invoke/MethodHandle" ∧ (md_J1_init).y.cls ≠ "java/lang/invoke/VarHandle" ∧ (parseMethodDescriptor (md_J1_init).y.desc).map (fun d => d.parameters.length) = some 0 := by decide +kernel
theorem m_J1_init (a0 : Nat) : CMF md_J1_init [cR a0] (g_J1_init a0) := by
  refine cm_of (by decide +kernel) rfl (Nat.le_of_ble_eq_true rfl) ?_
  show CWF _ 0 0 0 [(0, cR a0)] [] _
  unfold g_J1_init
  refine cw_aload_n dJ1_init_0 rfl 0 rfl ?_
  refine cw_invV (d2 := md_J0_init) (c := 0) (q := 0) (as := [cR a0]) (mc := 0) (ms := 0) rfl rfl (okI (n := 0) rfl rfl dJ1_init_1 (lw_meth q171) q112 q169 q170 rfl hm_J0_init (by decide) (by decide) (Nat.le_of_ble_eq_true rfl) (by decide)) (m_J0_init a0) rfl ?_
  refine cw_aload_n dJ1_init_4 rfl 0 rfl ?_
  refine cw_iconst (v := 0) dJ1_init_5 (by decide) ?_
  refine cw_putI (ci := 14) (j := 0) (C := RJ2) (T := TJ2) (N := 3) rfl (by decide) rfl rfl (Or.inl q179) fSame_rfl (Or.inl rfl) dJ1_init_6 ?_
  exact cw_vret rfl dJ1_init_9
def g_J2_init (a0 : Nat) : GF :=
  invV (some (a0, 34)) (g_J1_init a0) <|
  gsG 1 10 fun p1 =>
  putP 34 a0 1 p1 <|
  retG rV
abbrev md_J2_init : MD := (yJ2_init, cJ2_init, 1, none, RJ2, 12, 0, 0)
theorem hm_J2_init : (md_J2_init).y.cls ≠ "java/lang/invoke/MethodHandle" ∧ (md_J2_init).y.cls ≠ "java/lang/invoke/VarHandle" ∧ (parseMethodDescriptor (md_J2_init).y.desc).map (fun d => d.parameters.length) = some 0 := by decide +kernel
theorem m_J2_init (a0 : Nat) : CMF md_J2_init [cR a0] (g_J2_init a0) := by
  refine cm_of (by decide +kernel) rfl (Nat.le_of_ble_eq_true rfl) ?_
  show CWF _ 0 0 0 [(0, cR a0)] [] _
  unfold g_J2_init
  refine cw_aload_n dJ2_init_0 rfl 0 rfl ?_
  refine cw_invV (d2 := md_J1_init) (c := 0) (q := 0) (as := [cR a0]) (mc := 0) (ms := 0) rfl rfl (okI (n := 0) rfl rfl dJ2_init_1 (lw_meth q168) q113 q166 q167 rfl hm_J1_init (by decide) (by decide) (Nat.le_of_ble_eq_true rfl) (by decide)) (m_J1_init a0) rfl ?_
  refine cw_aload_n dJ2_init_4 rfl 0 rfl ?_
  refine cw_gs (a := 1) (t := 10) (by decide) (fun γ U H h => h.2.2.1.1) q173 dJ2_init_5 (fun p1 => ?_)
  refine cw_putP (ci := 14) (j := 1) (C := RJ2) (T := TJ2) (N := 3) rfl (by decide) rfl rfl (Or.inl q175) fSame_rfl (Or.inl rfl) dJ2_init_8 ?_
  exact cw_vret rfl dJ2_init_11
def g_J2_size (a0 : Nat) : GF :=
  getI 34 a0 2 fun x1 =>
  retG (rI x1)
abbrev md_J2_size : MD := (yJ2_size, cJ2_size, 1, (some (Jvm.ClassFile.FieldType.int)), RJ2, 10, 0, 0)
theorem hm_J2_size : (md_J2_size).y.cls ≠ "java/lang/invoke/MethodHandle" ∧ (md_J2_size).y.cls ≠ "java/lang/invoke/VarHandle" ∧ (parseMethodDescriptor (md_J2_size).y.desc).map (fun d => d.parameters.length) = some 0 := by decide +kernel
theorem m_J2_size (a0 : Nat) : CMF md_J2_size [cR a0] (g_J2_size a0) := by
  refine cm_of (by decide +kernel) rfl (Nat.le_of_ble_eq_true rfl) ?_
  show CWF _ 0 0 0 [(0, cR a0)] [] _
  unfold g_J2_size
  refine cw_aload_n dJ2_size_0 rfl 0 rfl ?_
  refine cw_getI (ci := 14) (j := 2) (C := RJ2) (T := TJ2) (N := 3) rfl (by decide) rfl rfl (Or.inl q178) fSame_rfl dJ2_size_1 (fun x1 => ?_)
  exact cw_iret rfl dJ2_size_4
def g_J2_isEmpty (a0 : Nat) : GF :=
  getI 34 a0 2 fun x1 =>
  if x1 = 0 then
    retZ 1
  else
    retZ 0
abbrev md_J2_isEmpty : MD := (yJ2_isEmpty, cJ2_isEmpty, 1, (some (Jvm.ClassFile.FieldType.boolean)), RJ2, 10, 0, 0)
theorem hm_J2_isEmpty : (md_J2_isEmpty).y.cls ≠ "java/lang/invoke/MethodHandle" ∧ (md_J2_isEmpty).y.cls ≠ "java/lang/invoke/VarHandle" ∧ (parseMethodDescriptor (md_J2_isEmpty).y.desc).map (fun d => d.parameters.length) = some 0 := by decide +kernel
theorem m_J2_isEmpty (a0 : Nat) : CMF md_J2_isEmpty [cR a0] (g_J2_isEmpty a0) := by
  refine cm_of (by decide +kernel) rfl (Nat.le_of_ble_eq_true rfl) ?_
  show CWF _ 0 0 0 [(0, cR a0)] [] _
  unfold g_J2_isEmpty
  refine cw_aload_n dJ2_isEmpty_0 rfl 0 rfl ?_
  refine cw_getI (ci := 14) (j := 2) (C := RJ2) (T := TJ2) (N := 3) rfl (by decide) rfl rfl (Or.inl q178) fSame_rfl dJ2_isEmpty_1 (fun x1 => ?_)
  refine cw_if_ne (tgt := 11) dJ2_isEmpty_4 (by decide) ?_ ?_
  · refine cw_iconst (v := 0) dJ2_isEmpty_11 (by decide) ?_
    exact cw_zret rfl dJ2_isEmpty_12
  · refine cw_iconst (v := 1) dJ2_isEmpty_7 (by decide) ?_
    refine cw_goto (tgt := 12) dJ2_isEmpty_8 (by decide) ?_
    exact cw_zret rfl dJ2_isEmpty_12
def g_J15_checkIndex (a0 : Int32) (a1 : Int32) (a2 : Nat) : GF :=
  if a0 < 0 then
    noneG
  else if a0 < a1 then
    retG (rI a0)
  else
    noneG
abbrev md_J15_checkIndex : MD := (yJ15_checkIndex, cJ15_checkIndex, 3, (some (Jvm.ClassFile.FieldType.int)), RJ15, 10, 0, 0)
theorem hm_J15_checkIndex : (md_J15_checkIndex).y.cls ≠ "java/lang/invoke/MethodHandle" ∧ (md_J15_checkIndex).y.cls ≠ "java/lang/invoke/VarHandle" ∧ (parseMethodDescriptor (md_J15_checkIndex).y.desc).map (fun d => d.parameters.length) = some 3 := by decide +kernel
theorem m_J15_checkIndex (a0 : Int32) (a1 : Int32) (a2 : Nat) : CMF md_J15_checkIndex [cI a0, cI a1, cR a2] (g_J15_checkIndex a0 a1 a2) := by
  refine cm_of (by decide +kernel) rfl (Nat.le_of_ble_eq_true rfl) ?_
  show CWF _ 0 0 0 [(0, cI a0), (1, cI a1), (2, cR a2)] [] _
  unfold g_J15_checkIndex
  refine cw_iload_n dJ15_checkIndex_0 rfl 0 rfl ?_
  refine cw_if_lt (tgt := 9) dJ15_checkIndex_1 (by decide) ?_ ?_
  · exact cw_none
  · refine cw_iload_n dJ15_checkIndex_4 rfl 0 rfl ?_
    refine cw_iload_n dJ15_checkIndex_5 rfl 1 rfl ?_
    refine cw_icmp_lt (tgt := 16) dJ15_checkIndex_6 (by decide) ?_ ?_
    · refine cw_iload_n dJ15_checkIndex_16 rfl 0 rfl ?_
      exact cw_iret rfl dJ15_checkIndex_17
    · exact cw_none
def g_J14_checkIndex (a0 : Int32) (a1 : Int32) : GF :=
  invI none (g_J15_checkIndex a0 a1 0) fun x1 =>
  retG (rI x1)
abbrev md_J14_checkIndex : MD := (yJ14_checkIndex, cJ14_checkIndex, 2, (some (Jvm.ClassFile.FieldType.int)), RJ14, 11, 0, 0)
theorem hm_J14_checkIndex : (md_J14_checkIndex).y.cls ≠ "java/lang/invoke/MethodHandle" ∧ (md_J14_checkIndex).y.cls ≠ "java/lang/invoke/VarHandle" ∧ (parseMethodDescriptor (md_J14_checkIndex).y.desc).map (fun d => d.parameters.length) = some 2 := by decide +kernel
theorem m_J14_checkIndex (a0 : Int32) (a1 : Int32) : CMF md_J14_checkIndex [cI a0, cI a1] (g_J14_checkIndex a0 a1) := by
  refine cm_of (by decide +kernel) rfl (Nat.le_of_ble_eq_true rfl) ?_
  show CWF _ 0 0 0 [(0, cI a0), (1, cI a1)] [] _
  unfold g_J14_checkIndex
  refine cw_iload_n dJ14_checkIndex_0 rfl 0 rfl ?_
  refine cw_iload_n dJ14_checkIndex_1 rfl 1 rfl ?_
  refine cw_null dJ14_checkIndex_2 ?_
  refine cw_invI (d2 := md_J15_checkIndex) (c := 0) (q := 0) (as := [cI a0, cI a1, cR 0]) (mc := 0) (ms := 0) rfl rfl (okS (n := 3) rfl dJ14_checkIndex_3 (lw_S q273 q274 q130 q275) hm_J15_checkIndex (by decide) (by decide) (Nat.le_of_ble_eq_true rfl)) (m_J15_checkIndex a0 a1 0) rfl (fun x1 => ?_)
  exact cw_iret rfl dJ14_checkIndex_6
def g_J2_elementData (a0 : Nat) (a1 : Int32) : GF :=
  getP 34 a0 1 fun p1 =>
  aaldG 4 p1 a1 fun x2 =>
  retG (rR x2)
abbrev md_J2_elementData : MD := (yJ2_elementData, cJ2_elementData, 2, (some ((Jvm.ClassFile.FieldType.object "java/lang/Object"))), RJ2, 10, 0, 0)
theorem hm_J2_elementData : (md_J2_elementData).y.cls ≠ "java/lang/invoke/MethodHandle" ∧ (md_J2_elementData).y.cls ≠ "java/lang/invoke/VarHandle" ∧ (parseMethodDescriptor (md_J2_elementData).y.desc).map (fun d => d.parameters.length) = some 1 := by decide +kernel
theorem m_J2_elementData (a0 : Nat) (a1 : Int32) : CMF md_J2_elementData [cR a0, cI a1] (g_J2_elementData a0 a1) := by
  refine cm_of (by decide +kernel) rfl (Nat.le_of_ble_eq_true rfl) ?_
  show CWF _ 0 0 0 [(0, cR a0), (1, cI a1)] [] _
  unfold g_J2_elementData
  refine cw_aload_n dJ2_elementData_0 rfl 0 rfl ?_
  refine cw_getP (ci := 14) (j := 1) (C := RJ2) (T := TJ2) (N := 3) rfl (by decide) rfl rfl (Or.inl q175) fSame_rfl dJ2_elementData_1 (fun p1 => ?_)
  refine cw_iload_n dJ2_elementData_4 rfl 1 rfl ?_
  refine cw_aald (t := 4) (by decide) dJ2_elementData_5 (fun x2 => ?_)
  exact cw_aret rfl rfl dJ2_elementData_6
def g_J2_get (a0 : Nat) (a1 : Int32) : GF :=
  getI 34 a0 2 fun x1 =>
  invI none (g_J14_checkIndex a1 x1) fun x2 =>
  invP (some (a0, 34)) (g_J2_elementData a0 a1) fun p3 =>
  retG (rR p3)
abbrev md_J2_get : MD := (yJ2_get, cJ2_get, 2, (some ((Jvm.ClassFile.FieldType.object "java/lang/Object"))), RJ2, 12, 0, 0)
theorem hm_J2_get : (md_J2_get).y.cls ≠ "java/lang/invoke/MethodHandle" ∧ (md_J2_get).y.cls ≠ "java/lang/invoke/VarHandle" ∧ (parseMethodDescriptor (md_J2_get).y.desc).map (fun d => d.parameters.length) = some 1 := by decide +kernel
theorem m_J2_get (a0 : Nat) (a1 : Int32) : CMF md_J2_get [cR a0, cI a1] (g_J2_get a0 a1) := by
  refine cm_of (by decide +kernel) rfl (Nat.le_of_ble_eq_true rfl) ?_
  show CWF _ 0 0 0 [(0, cR a0), (1, cI a1)] [] _
  unfold g_J2_get
  refine cw_iload_n dJ2_get_0 rfl 1 rfl ?_
  refine cw_aload_n dJ2_get_1 rfl 0 rfl ?_
  refine cw_getI (ci := 14) (j := 2) (C := RJ2) (T := TJ2) (N := 3) rfl (by decide) rfl rfl (Or.inl q178) fSame_rfl dJ2_get_2 (fun x1 => ?_)
  refine cw_invI (d2 := md_J14_checkIndex) (c := 0) (q := 0) (as := [cI a1, cI x1]) (mc := 0) (ms := 0) rfl rfl (okS (n := 2) rfl dJ2_get_5 (lw_S q270 q271 q129 q272) hm_J14_checkIndex (by decide) (by decide) (Nat.le_of_ble_eq_true rfl)) (m_J14_checkIndex a1 x1) rfl (fun x2 => ?_)
  refine cw_pop dJ2_get_8 rfl ?_
  refine cw_aload_n dJ2_get_9 rfl 0 rfl ?_
  refine cw_iload_n dJ2_get_10 rfl 1 rfl ?_
  refine cw_invP (d2 := md_J2_elementData) (c := 0) (q := 0) (as := [cR a0, cI a1]) (mc := 0) (ms := 0) rfl rfl (okV (ci := 14) (C := RJ2) (T0 := TJ2) (N := 3) (n := 1) rfl rfl rfl dJ2_get_11 (lw_V q276 q277 q278 q114 q279) ⟨rfl, hm_J2_elementData⟩ (by decide) (by decide) (Nat.le_of_ble_eq_true rfl)) (m_J2_elementData a0 a1) rfl (fun p3 => ?_)
  exact cw_aret rfl rfl dJ2_get_14
def b_J2_clear_27 (p2 : Nat) (x3 : Int32) (rec5 : Int32 → GF) : Int32 → GF := fun (l4 : Int32) =>
  if l4 < x3 then
    aastG p2 l4 0 <|
    rec5 (l4 + 1)
  else
    retG rV
def g_J2_clear (a0 : Nat) : GF :=
  getI 34 a0 0 fun x1 =>
  putI 34 a0 0 (x1 + 1) <|
  getP 34 a0 1 fun p2 =>
  getI 34 a0 2 fun x3 =>
  putI 34 a0 2 0 <|
  loopG (b_J2_clear_27 p2 x3) FU 0
abbrev md_J2_clear : MD := (yJ2_clear, cJ2_clear, 4, none, RJ2, 10, 0, 0)
theorem hm_J2_clear : (md_J2_clear).y.cls ≠ "java/lang/invoke/MethodHandle" ∧ (md_J2_clear).y.cls ≠ "java/lang/invoke/VarHandle" ∧ (parseMethodDescriptor (md_J2_clear).y.desc).map (fun d => d.parameters.length) = some 0 := by decide +kernel
theorem m_J2_clear (a0 : Nat) : CMF md_J2_clear [cR a0] (g_J2_clear a0) := by
  refine cm_of (by decide +kernel) rfl (Nat.le_of_ble_eq_true rfl) ?_
  show CWF _ 0 0 0 [(0, cR a0)] [] _
  unfold g_J2_clear
  refine cw_aload_n dJ2_clear_0 rfl 0 rfl ?_
  refine cw_dup dJ2_clear_1 rfl ?_
  refine cw_getI (ci := 14) (j := 0) (C := RJ2) (T := TJ2) (N := 3) rfl (by decide) rfl rfl (Or.inl q182) same_modCount dJ2_clear_2 (fun x1 => ?_)
  refine cw_iconst (v := 1) dJ2_clear_5 (by decide) ?_
  refine cw_iadd dJ2_clear_6 ?_
  refine cw_putI (ci := 14) (j := 0) (C := RJ2) (T := TJ2) (N := 3) rfl (by decide) rfl rfl (Or.inl q182) same_modCount (Or.inl rfl) dJ2_clear_7 ?_
  refine cw_aload_n dJ2_clear_10 rfl 0 rfl ?_
  refine cw_getP (ci := 14) (j := 1) (C := RJ2) (T := TJ2) (N := 3) rfl (by decide) rfl rfl (Or.inl q175) fSame_rfl dJ2_clear_11 (fun p2 => ?_)
  refine cw_astore_n (ls' := [(1, cR p2), (0, cR a0)]) dJ2_clear_14 rfl (by decide) rfl ?_
  refine cw_aload_n dJ2_clear_15 rfl 1 rfl ?_
  refine cw_getI (ci := 14) (j := 2) (C := RJ2) (T := TJ2) (N := 3) rfl (by decide) rfl rfl (Or.inl q178) fSame_rfl dJ2_clear_16 (fun x3 => ?_)
  refine cw_istore_n (ls' := [(2, cI x3), (1, cR p2), (0, cR a0)]) dJ2_clear_19 rfl (by decide) rfl ?_
  refine cw_aload_n dJ2_clear_20 rfl 2 rfl ?_
  refine cw_iconst (v := 0) dJ2_clear_21 (by decide) ?_
  refine cw_dup_x1 dJ2_clear_22 rfl rfl ?_
  refine cw_putI (ci := 14) (j := 2) (C := RJ2) (T := TJ2) (N := 3) rfl (by decide) rfl rfl (Or.inl q178) fSame_rfl (Or.inl rfl) dJ2_clear_23 ?_
  refine cw_istore_n (ls' := [(3, cI 0), (2, cI x3), (1, cR p2), (0, cR a0)]) dJ2_clear_26 rfl (by decide) rfl ?_
  refine cw_sub (ls' := [(2, cI x3), (1, cR p2), (3, cI 0)]) [1, 2, 0] rfl ?_
  refine cw_loop0 (lsf := fun (s : Int32) => [(2, cI x3), (1, cR p2), (3, cI s)]) (fun rec5 hrec5 s => ?_) FU 0
  obtain ⟨l4, e⟩ : ∃ z, z = s := ⟨_, rfl⟩
  subst e
  show CWF _ _ _ 27 [(2, cI x3), (1, cR p2), (3, cI l4)] [] _
  dsimp only [b_J2_clear_27]
  refine cw_iload_n dJ2_clear_27 rfl 2 rfl ?_
  refine cw_iload_n dJ2_clear_28 rfl 0 rfl ?_
  refine cw_icmp_ge (tgt := 42) dJ2_clear_29 (by decide) ?_ ?_
  · exact cw_vret rfl dJ2_clear_42
  · refine cw_aload_n dJ2_clear_32 rfl 1 rfl ?_
    refine cw_iload_n dJ2_clear_33 rfl 2 rfl ?_
    refine cw_null dJ2_clear_34 ?_
    refine cw_aast dJ2_clear_35 ?_
    refine cw_iinc (v := (l4 + 1)) (ls' := [(3, cI (l4 + 1)), (2, cI x3), (1, cR p2)]) dJ2_clear_36 2 rfl rfl (by decide) rfl ?_
    refine cw_goto (tgt := 27) dJ2_clear_39 (by decide) ?_
    refine cw_sub (ls' := [(2, cI x3), (1, cR p2), (3, cI (l4 + 1))]) [1, 2, 0] rfl ?_
    exact hrec5 (l4 + 1)
def g_J8_newLength (a0 : Int32) (a1 : Int32) (a2 : Int32) : GF :=
  if 0 < (a0 + (imax a1 a2)) then
    if (a0 + (imax a1 a2)) ≤ 2147483639 then
      retG (rI (a0 + (imax a1 a2)))
    else
      noneG
  else
    noneG
abbrev md_J8_newLength : MD := (yJ8_newLength, cJ8_newLength, 4, (some (Jvm.ClassFile.FieldType.int)), RJ8, 10, 0, 0)
theorem hm_J8_newLength : (md_J8_newLength).y.cls ≠ "java/lang/invoke/MethodHandle" ∧ (md_J8_newLength).y.cls ≠ "java/lang/invoke/VarHandle" ∧ (parseMethodDescriptor (md_J8_newLength).y.desc).map (fun d => d.parameters.length) = some 3 := by decide +kernel
theorem m_J8_newLength (a0 : Int32) (a1 : Int32) (a2 : Int32) : CMF md_J8_newLength [cI a0, cI a1, cI a2] (g_J8_newLength a0 a1 a2) := by
  refine cm_of (by decide +kernel) rfl (Nat.le_of_ble_eq_true rfl) ?_
  show CWF _ 0 0 0 [(0, cI a0), (1, cI a1), (2, cI a2)] [] _
  unfold g_J8_newLength
  refine cw_iload_n dJ8_newLength_0 rfl 0 rfl ?_
  refine cw_iload_n dJ8_newLength_1 rfl 1 rfl ?_
  refine cw_iload_n dJ8_newLength_2 rfl 2 rfl ?_
  refine cw_mmax q605 (by decide) (Nat.le_of_ble_eq_true rfl) dJ8_newLength_3 ?_
  refine cw_iadd dJ8_newLength_6 ?_
  refine cw_istore_n (ls' := [(3, cI (a0 + (imax a1 a2))), (0, cI a0), (1, cI a1), (2, cI a2)]) dJ8_newLength_7 rfl (by decide) rfl ?_
  refine cw_iconst (v := 0) dJ8_newLength_8 (by decide) ?_
  refine cw_iload_n dJ8_newLength_9 rfl 0 rfl ?_
  refine cw_icmp_ge (tgt := 21) dJ8_newLength_10 (by decide) ?_ ?_
  · exact cw_none
  · refine cw_iload_n dJ8_newLength_13 rfl 0 rfl ?_
    refine cw_ldc (v := 2147483639) dJ8_newLength_14 q608 ?_
    refine cw_icmp_gt (tgt := 21) dJ8_newLength_16 (by decide) ?_ ?_
    · exact cw_none
    · refine cw_iload_n dJ8_newLength_19 rfl 0 rfl ?_
      exact cw_iret rfl dJ8_newLength_20
def g_J10_copyOf_2 (a0 : Nat) (a1 : Int32) (a2 : Nat) : GF :=
  mirG 3 fun p1 =>
  acG a2 p1
    (newaG 4 64 a1 fun p2 =>
      alenKG a0 fun x3 =>
      acpG a0 0 p2 0 (imin x3 a1) <|
      retG (rR p2))
    (noneG)
abbrev md_J10_copyOf_2 : MD := (yJ10_copyOf_2, cJ10_copyOf_2, 4, (some ((Jvm.ClassFile.FieldType.array (Jvm.ClassFile.FieldType.object "java/lang/Object")))), RJ10, 10, 1, 64)
theorem hm_J10_copyOf_2 : (md_J10_copyOf_2).y.cls ≠ "java/lang/invoke/MethodHandle" ∧ (md_J10_copyOf_2).y.cls ≠ "java/lang/invoke/VarHandle" ∧ (parseMethodDescriptor (md_J10_copyOf_2).y.desc).map (fun d => d.parameters.length) = some 3 := by decide +kernel
theorem m_J10_copyOf_2 (a0 : Nat) (a1 : Int32) (a2 : Nat) : CMF md_J10_copyOf_2 [cR a0, cI a1, cR a2] (g_J10_copyOf_2 a0 a1 a2) := by
  refine cm_of (by decide +kernel) rfl (Nat.le_of_ble_eq_true rfl) ?_
  show CWF _ 1 64 0 [(0, cR a0), (1, cI a1), (2, cR a2)] [] _
  unfold g_J10_copyOf_2
  refine cw_aload_n dJ10_copyOf_2_0 rfl 2 rfl ?_
  refine cw_ldcM (a := 3) (fun γ U H h => h.1.2.2.2.2.1) q647 dJ10_copyOf_2_1 (fun p1 => ?_)
  refine cw_acmp_ne (tgt := 13) dJ10_copyOf_2_3 (by decide) ?_ ?_
  · refine cw_weak (c' := 0) (q' := 0) (by omega) (by omega) ?_
    exact cw_none
  · refine cw_iload_n dJ10_copyOf_2_6 rfl 1 rfl ?_
    refine cw_anew (c := 0) (q := 0) (B := 64) (by decide) q649 dJ10_copyOf_2_7 (fun p2 => ?_)
    refine cw_goto (tgt := 24) dJ10_copyOf_2_10 (by decide) ?_
    refine cw_astore_n (ls' := [(3, cR p2), (0, cR a0), (1, cI a1), (2, cR a2)]) dJ10_copyOf_2_24 rfl (by decide) rfl ?_
    refine cw_aload_n dJ10_copyOf_2_25 rfl 1 rfl ?_
    refine cw_iconst (v := 0) dJ10_copyOf_2_26 (by decide) ?_
    refine cw_aload_n dJ10_copyOf_2_27 rfl 0 rfl ?_
    refine cw_iconst (v := 0) dJ10_copyOf_2_28 (by decide) ?_
    refine cw_aload_n dJ10_copyOf_2_29 rfl 1 rfl ?_
    refine cw_alenK dJ10_copyOf_2_30 (fun x3 => ?_)
    refine cw_iload_n dJ10_copyOf_2_31 rfl 2 rfl ?_
    refine cw_mmin q650 (by decide) (Nat.le_of_ble_eq_true rfl) dJ10_copyOf_2_32 ?_
    refine cw_acp q653 (by decide) (Nat.le_of_ble_eq_true rfl) dJ10_copyOf_2_35 ?_
    refine cw_aload_n dJ10_copyOf_2_38 rfl 0 rfl ?_
    exact cw_aret rfl rfl dJ10_copyOf_2_39
def g_J10_copyOf (a0 : Nat) (a1 : Int32) : GF :=
  gcAG a0 fun p1 =>
  invP none (g_J10_copyOf_2 a0 a1 p1) fun p2 =>
  retG (rR p2)
abbrev md_J10_copyOf : MD := (yJ10_copyOf, cJ10_copyOf, 2, (some ((Jvm.ClassFile.FieldType.array (Jvm.ClassFile.FieldType.object "java/lang/Object")))), RJ10, 11, 1, 64)
theorem hm_J10_copyOf : (md_J10_copyOf).y.cls ≠ "java/lang/invoke/MethodHandle" ∧ (md_J10_copyOf).y.cls ≠ "java/lang/invoke/VarHandle" ∧ (parseMethodDescriptor (md_J10_copyOf).y.desc).map (fun d => d.parameters.length) = some 2 := by decide +kernel
theorem m_J10_copyOf (a0 : Nat) (a1 : Int32) : CMF md_J10_copyOf [cR a0, cI a1] (g_J10_copyOf a0 a1) := by
  refine cm_of (by decide +kernel) rfl (Nat.le_of_ble_eq_true rfl) ?_
  show CWF _ 1 64 0 [(0, cR a0), (1, cI a1)] [] _
  unfold g_J10_copyOf
  refine cw_aload_n dJ10_copyOf_0 rfl 0 rfl ?_
  refine cw_iload_n dJ10_copyOf_1 rfl 1 rfl ?_
  refine cw_aload_n dJ10_copyOf_2 rfl 0 rfl ?_
  refine cw_gcA q615 (by decide) (Nat.le_of_ble_eq_true rfl) dJ10_copyOf_3 (fun p1 => ?_)
  refine cw_invP (d2 := md_J10_copyOf_2) (c := 0) (q := 0) (as := [cR a0, cI a1, cR p1]) (mc := 1) (ms := 64) rfl rfl (okS (n := 3) rfl dJ10_copyOf_6 (lw_S q644 q645 q124 q646) hm_J10_copyOf_2 (by decide) (by decide) (Nat.le_of_ble_eq_true rfl)) (m_J10_copyOf_2 a0 a1 p1) rfl (fun p2 => ?_)
  exact cw_aret rfl rfl dJ10_copyOf_9
def g_J2_grow_2 (a0 : Nat) (a1 : Int32) : GF :=
  getP 34 a0 1 fun p1 =>
  alenKG p1 fun x2 =>
  jnG (fun (_ : Unit) =>
    invI none (g_J8_newLength x2 (a1 - x2) (x2 >>> (1 &&& 31))) fun x3 =>
    getP 34 a0 1 fun p4 =>
    invP none (g_J10_copyOf p4 x3) fun p5 =>
    putP 34 a0 1 p5 <|
    retG (rR p5)) fun J6 =>
  if x2 ≤ 0 then
    getP 34 a0 1 fun p7 =>
    gsG 1 10 fun p8 =>
    acG p7 p8
      (newaG 4 10 (imax 10 a1) fun p9 =>
        putP 34 a0 1 p9 <|
        retG (rR p9))
      (J6 ())
  else
    J6 ()
abbrev md_J2_grow_2 : MD := (yJ2_grow_2, cJ2_grow_2, 4, (some ((Jvm.ClassFile.FieldType.array (Jvm.ClassFile.FieldType.object "java/lang/Object")))), RJ2, 12, 1, 64)
theorem hm_J2_grow_2 : (md_J2_grow_2).y.cls ≠ "java/lang/invoke/MethodHandle" ∧ (md_J2_grow_2).y.cls ≠ "java/lang/invoke/VarHandle" ∧ (parseMethodDescriptor (md_J2_grow_2).y.desc).map (fun d => d.parameters.length) = some 1 := by decide +kernel
theorem m_J2_grow_2 (a0 : Nat) (a1 : Int32) : CMF md_J2_grow_2 [cR a0, cI a1] (g_J2_grow_2 a0 a1) := by
  refine cm_of (by decide +kernel) rfl (Nat.le_of_ble_eq_true rfl) ?_
  show CWF _ 1 64 0 [(0, cR a0), (1, cI a1)] [] _
  unfold g_J2_grow_2
  refine cw_aload_n dJ2_grow_2_0 rfl 0 rfl ?_
  refine cw_getP (ci := 14) (j := 1) (C := RJ2) (T := TJ2) (N := 3) rfl (by decide) rfl rfl (Or.inl q175) fSame_rfl dJ2_grow_2_1 (fun p1 => ?_)
  refine cw_alenK dJ2_grow_2_4 (fun x2 => ?_)
  refine cw_istore_n (ls' := [(2, cI x2), (0, cR a0), (1, cI a1)]) dJ2_grow_2_5 rfl (by decide) rfl ?_
  refine cw_iload_n dJ2_grow_2_6 rfl 0 rfl ?_
  refine cw_jn (cj := 1) (kj := 64) (pcj := 20) (lsf := fun (s : Unit) => [(2, cI x2), (0, cR a0), (1, cI a1)]) (stf := fun (s : Unit) => []) (fun s => ?_) (fun J6 hJ6 => ?_)
  · show CWF _ _ _ 20 [(2, cI x2), (0, cR a0), (1, cI a1)] [] _
    refine cw_iload_n dJ2_grow_2_20 rfl 0 rfl ?_
    refine cw_iload_n dJ2_grow_2_21 rfl 2 rfl ?_
    refine cw_iload_n dJ2_grow_2_22 rfl 0 rfl ?_
    refine cw_isub dJ2_grow_2_23 ?_
    refine cw_iload_n dJ2_grow_2_24 rfl 0 rfl ?_
    refine cw_iconst (v := 1) dJ2_grow_2_25 (by decide) ?_
    refine cw_ishr dJ2_grow_2_26 ?_
    refine cw_invI (d2 := md_J8_newLength) (c := 1) (q := 64) (as := [cI x2, cI (a1 - x2), cI (x2 >>> (1 &&& 31))]) (mc := 0) (ms := 0) rfl rfl (okS (n := 3) rfl dJ2_grow_2_27 (lw_S q602 q603 q122 q604) hm_J8_newLength (by decide) (by decide) (Nat.le_of_ble_eq_true rfl)) (m_J8_newLength x2 (a1 - x2) (x2 >>> (1 &&& 31))) rfl (fun x3 => ?_)
    refine cw_istore_n (ls' := [(3, cI x3), (2, cI x2), (0, cR a0), (1, cI a1)]) dJ2_grow_2_30 rfl (by decide) rfl ?_
    refine cw_aload_n dJ2_grow_2_31 rfl 2 rfl ?_
    refine cw_aload_n dJ2_grow_2_32 rfl 2 rfl ?_
    refine cw_getP (ci := 14) (j := 1) (C := RJ2) (T := TJ2) (N := 3) rfl (by decide) rfl rfl (Or.inl q175) fSame_rfl dJ2_grow_2_33 (fun p4 => ?_)
    refine cw_iload_n dJ2_grow_2_36 rfl 0 rfl ?_
    refine cw_invP (d2 := md_J10_copyOf) (c := 0) (q := 0) (as := [cR p4, cI x3]) (mc := 1) (ms := 64) rfl rfl (okS (n := 2) rfl dJ2_grow_2_37 (lw_S q612 q613 q124 q614) hm_J10_copyOf (by decide) (by decide) (Nat.le_of_ble_eq_true rfl)) (m_J10_copyOf p4 x3) rfl (fun p5 => ?_)
    refine cw_dup_x1 dJ2_grow_2_40 rfl rfl ?_
    refine cw_putP (ci := 14) (j := 1) (C := RJ2) (T := TJ2) (N := 3) rfl (by decide) rfl rfl (Or.inl q175) fSame_rfl (Or.inl rfl) dJ2_grow_2_41 ?_
    exact cw_aret rfl rfl dJ2_grow_2_44
  · refine cw_if_gt (tgt := 20) dJ2_grow_2_7 (by decide) ?_ ?_
    · exact hJ6 ()
    · refine cw_aload_n dJ2_grow_2_10 rfl 1 rfl ?_
      refine cw_getP (ci := 14) (j := 1) (C := RJ2) (T := TJ2) (N := 3) rfl (by decide) rfl rfl (Or.inl q175) fSame_rfl dJ2_grow_2_11 (fun p7 => ?_)
      refine cw_gs (a := 1) (t := 10) (by decide) (fun γ U H h => h.2.2.1.1) q173 dJ2_grow_2_14 (fun p8 => ?_)
      refine cw_acmp_eq (tgt := 45) dJ2_grow_2_17 (by decide) ?_ ?_
      · refine cw_weak (c' := 1) (q' := 10) (by omega) (by omega) ?_
        refine cw_aload_n dJ2_grow_2_45 rfl 1 rfl ?_
        refine cw_bipush (v := 10) dJ2_grow_2_46 (by decide) ?_
        refine cw_iload_n dJ2_grow_2_48 rfl 2 rfl ?_
        refine cw_mmax q654 (by decide) (Nat.le_of_ble_eq_true rfl) dJ2_grow_2_49 ?_
        refine cw_anew (c := 0) (q := 0) (B := 10) (by decide) q655 dJ2_grow_2_52 (fun p9 => ?_)
        refine cw_dup_x1 dJ2_grow_2_55 rfl rfl ?_
        refine cw_putP (ci := 14) (j := 1) (C := RJ2) (T := TJ2) (N := 3) rfl (by decide) rfl rfl (Or.inl q175) fSame_rfl (Or.inl rfl) dJ2_grow_2_56 ?_
        exact cw_aret rfl rfl dJ2_grow_2_59
      · exact hJ6 ()
def g_J2_grow (a0 : Nat) : GF :=
  getI 34 a0 2 fun x1 =>
  invP (some (a0, 34)) (g_J2_grow_2 a0 (x1 + 1)) fun p2 =>
  retG (rR p2)
abbrev md_J2_grow : MD := (yJ2_grow, cJ2_grow, 1, (some ((Jvm.ClassFile.FieldType.array (Jvm.ClassFile.FieldType.object "java/lang/Object")))), RJ2, 13, 1, 64)
theorem hm_J2_grow : (md_J2_grow).y.cls ≠ "java/lang/invoke/MethodHandle" ∧ (md_J2_grow).y.cls ≠ "java/lang/invoke/VarHandle" ∧ (parseMethodDescriptor (md_J2_grow).y.desc).map (fun d => d.parameters.length) = some 0 := by decide +kernel
theorem m_J2_grow (a0 : Nat) : CMF md_J2_grow [cR a0] (g_J2_grow a0) := by
  refine cm_of (by decide +kernel) rfl (Nat.le_of_ble_eq_true rfl) ?_
  show CWF _ 1 64 0 [(0, cR a0)] [] _
  unfold g_J2_grow
  refine cw_aload_n dJ2_grow_0 rfl 0 rfl ?_
  refine cw_aload_n dJ2_grow_1 rfl 0 rfl ?_
  refine cw_getI (ci := 14) (j := 2) (C := RJ2) (T := TJ2) (N := 3) rfl (by decide) rfl rfl (Or.inl q178) fSame_rfl dJ2_grow_2 (fun x1 => ?_)
  refine cw_iconst (v := 1) dJ2_grow_5 (by decide) ?_
  refine cw_iadd dJ2_grow_6 ?_
  refine cw_invP (d2 := md_J2_grow_2) (c := 0) (q := 0) (as := [cR a0, cI (x1 + 1)]) (mc := 1) (ms := 64) rfl rfl (okV (ci := 14) (C := RJ2) (T0 := TJ2) (N := 3) (n := 1) rfl rfl rfl dJ2_grow_7 (lw_V q598 q600 qs5 q114 q601) ⟨rfl, hm_J2_grow_2⟩ (by decide) (by decide) (Nat.le_of_ble_eq_true rfl)) (m_J2_grow_2 a0 (x1 + 1)) rfl (fun p2 => ?_)
  exact cw_aret rfl rfl dJ2_grow_10
def g_J2_add_2 (a0 : Nat) (a1 : Nat) (a2 : Nat) (a3 : Int32) : GF :=
  alenKG a2 fun x1 =>
  jnG (fun (v2 : Nat) =>
    aastG v2 a3 a1 <|
    putI 34 a0 2 (a3 + 1) <|
    retG rV) fun J3 =>
  if a3 = x1 then
    invP (some (a0, 34)) (g_J2_grow a0) fun p4 =>
    J3 p4
  else
    J3 a2
abbrev md_J2_add_2 : MD := (yJ2_add_2, cJ2_add_2, 4, none, RJ2, 14, 1, 64)
theorem hm_J2_add_2 : (md_J2_add_2).y.cls ≠ "java/lang/invoke/MethodHandle" ∧ (md_J2_add_2).y.cls ≠ "java/lang/invoke/VarHandle" ∧ (parseMethodDescriptor (md_J2_add_2).y.desc).map (fun d => d.parameters.length) = some 3 := by decide +kernel
theorem m_J2_add_2 (a0 : Nat) (a1 : Nat) (a2 : Nat) (a3 : Int32) : CMF md_J2_add_2 [cR a0, cR a1, cR a2, cI a3] (g_J2_add_2 a0 a1 a2 a3) := by
  refine cm_of (by decide +kernel) rfl (Nat.le_of_ble_eq_true rfl) ?_
  show CWF _ 1 64 0 [(0, cR a0), (1, cR a1), (2, cR a2), (3, cI a3)] [] _
  unfold g_J2_add_2
  refine cw_iload_n dJ2_add_2_0 rfl 3 rfl ?_
  refine cw_aload_n dJ2_add_2_1 rfl 2 rfl ?_
  refine cw_alenK dJ2_add_2_2 (fun x1 => ?_)
  refine cw_jn (cj := 0) (kj := 0) (pcj := 11) (lsf := fun (s : Nat) => [(0, cR a0), (1, cR a1), (3, cI a3), (2, cR s)]) (stf := fun (s : Nat) => []) (fun s => ?_) (fun J3 hJ3 => ?_)
  · obtain ⟨v2, e⟩ : ∃ z, z = s := ⟨_, rfl⟩
    subst e
    show CWF _ _ _ 11 [(0, cR a0), (1, cR a1), (3, cI a3), (2, cR v2)] [] _
    refine cw_aload_n dJ2_add_2_11 rfl 3 rfl ?_
    refine cw_iload_n dJ2_add_2_12 rfl 2 rfl ?_
    refine cw_aload_n dJ2_add_2_13 rfl 1 rfl ?_
    refine cw_aast dJ2_add_2_14 ?_
    refine cw_aload_n dJ2_add_2_15 rfl 0 rfl ?_
    refine cw_iload_n dJ2_add_2_16 rfl 2 rfl ?_
    refine cw_iconst (v := 1) dJ2_add_2_17 (by decide) ?_
    refine cw_iadd dJ2_add_2_18 ?_
    refine cw_putI (ci := 14) (j := 2) (C := RJ2) (T := TJ2) (N := 3) rfl (by decide) rfl rfl (Or.inl q178) fSame_rfl (Or.inl rfl) dJ2_add_2_19 ?_
    exact cw_vret rfl dJ2_add_2_22
  · refine cw_icmp_ne (tgt := 11) dJ2_add_2_3 (by decide) ?_ ?_
    · refine cw_weak (c' := 0) (q' := 0) (by omega) (by omega) ?_
      refine cw_sub (ls' := [(0, cR a0), (1, cR a1), (3, cI a3), (2, cR a2)]) [0, 1, 3, 2] rfl ?_
      exact hJ3 a2
    · refine cw_aload_n dJ2_add_2_6 rfl 0 rfl ?_
      refine cw_invP (d2 := md_J2_grow) (c := 0) (q := 0) (as := [cR a0]) (mc := 1) (ms := 64) rfl rfl (okV (ci := 14) (C := RJ2) (T0 := TJ2) (N := 3) (n := 0) rfl rfl rfl dJ2_add_2_7 (lw_V q594 q596 qs4 q114 q597) ⟨rfl, hm_J2_grow⟩ (by decide) (by decide) (Nat.le_of_ble_eq_true rfl)) (m_J2_grow a0) rfl (fun p4 => ?_)
      refine cw_astore_n (ls' := [(2, cR p4), (0, cR a0), (1, cR a1), (3, cI a3)]) dJ2_add_2_10 rfl (by decide) rfl ?_
      refine cw_sub (ls' := [(0, cR a0), (1, cR a1), (3, cI a3), (2, cR p4)]) [1, 2, 3, 0] rfl ?_
      exact hJ3 p4
def g_J2_add (a0 : Nat) (a1 : Nat) : GF :=
  getI 34 a0 0 fun x1 =>
  putI 34 a0 0 (x1 + 1) <|
  getP 34 a0 1 fun p2 =>
  getI 34 a0 2 fun x3 =>
  invV (some (a0, 34)) (g_J2_add_2 a0 a1 p2 x3) <|
  retZ 1
abbrev md_J2_add : MD := (yJ2_add, cJ2_add, 2, (some (Jvm.ClassFile.FieldType.boolean)), RJ2, 15, 1, 64)
theorem hm_J2_add : (md_J2_add).y.cls ≠ "java/lang/invoke/MethodHandle" ∧ (md_J2_add).y.cls ≠ "java/lang/invoke/VarHandle" ∧ (parseMethodDescriptor (md_J2_add).y.desc).map (fun d => d.parameters.length) = some 1 := by decide +kernel
theorem m_J2_add (a0 : Nat) (a1 : Nat) : CMF md_J2_add [cR a0, cR a1] (g_J2_add a0 a1) := by
  refine cm_of (by decide +kernel) rfl (Nat.le_of_ble_eq_true rfl) ?_
  show CWF _ 1 64 0 [(0, cR a0), (1, cR a1)] [] _
  unfold g_J2_add
  refine cw_aload_n dJ2_add_0 rfl 0 rfl ?_
  refine cw_dup dJ2_add_1 rfl ?_
  refine cw_getI (ci := 14) (j := 0) (C := RJ2) (T := TJ2) (N := 3) rfl (by decide) rfl rfl (Or.inl q182) same_modCount dJ2_add_2 (fun x1 => ?_)
  refine cw_iconst (v := 1) dJ2_add_5 (by decide) ?_
  refine cw_iadd dJ2_add_6 ?_
  refine cw_putI (ci := 14) (j := 0) (C := RJ2) (T := TJ2) (N := 3) rfl (by decide) rfl rfl (Or.inl q182) same_modCount (Or.inl rfl) dJ2_add_7 ?_
  refine cw_aload_n dJ2_add_10 rfl 0 rfl ?_
  refine cw_aload_n dJ2_add_11 rfl 1 rfl ?_
  refine cw_aload_n dJ2_add_12 rfl 0 rfl ?_
  refine cw_getP (ci := 14) (j := 1) (C := RJ2) (T := TJ2) (N := 3) rfl (by decide) rfl rfl (Or.inl q175) fSame_rfl dJ2_add_13 (fun p2 => ?_)
  refine cw_aload_n dJ2_add_16 rfl 0 rfl ?_
  refine cw_getI (ci := 14) (j := 2) (C := RJ2) (T := TJ2) (N := 3) rfl (by decide) rfl rfl (Or.inl q178) fSame_rfl dJ2_add_17 (fun x3 => ?_)
  refine cw_invV (d2 := md_J2_add_2) (c := 0) (q := 0) (as := [cR a0, cR a1, cR p2, cI x3]) (mc := 1) (ms := 64) rfl rfl (okV (ci := 14) (C := RJ2) (T0 := TJ2) (N := 3) (n := 3) rfl rfl rfl dJ2_add_20 (lw_V q590 q592 qs3 q114 q593) ⟨rfl, hm_J2_add_2⟩ (by decide) (by decide) (Nat.le_of_ble_eq_true rfl)) (m_J2_add_2 a0 a1 p2 x3) rfl ?_
  refine cw_iconst (v := 1) dJ2_add_23 (by decide) ?_
  exact cw_zret rfl dJ2_add_24
def b_J2_indexOfRange_42 (a1 : Nat) (a3 : Int32) (p1 : Nat) (rec3 : Int32 → GF) : Int32 → GF := fun (l2 : Int32) =>
  if l2 < a3 then
    aaldG 4 p1 l2 fun x4 =>
    eqvG a1 x4 fun x5 =>
    if x5 = 0 then
      rec3 (l2 + 1)
    else
      retG (rI l2)
  else
    retG (rI (-1 : Int32))
def b_J2_indexOfRange_13 (a3 : Int32) (p1 : Nat) (rec7 : Int32 → GF) : Int32 → GF := fun (l6 : Int32) =>
  if l6 < a3 then
    aaldG 4 p1 l6 fun x8 =>
    if x8 = 0 then
      retG (rI l6)
    else
      rec7 (l6 + 1)
  else
    retG (rI (-1 : Int32))
def g_J2_indexOfRange (a0 : Nat) (a1 : Nat) (a2 : Int32) (a3 : Int32) : GF :=
  getP 34 a0 1 fun p1 =>
  if a1 = 0 then
    loopG (b_J2_indexOfRange_13 a3 p1) FU a2
  else
    loopG (b_J2_indexOfRange_42 a1 a3 p1) FU a2
abbrev md_J2_indexOfRange : MD := (yJ2_indexOfRange, cJ2_indexOfRange, 6, (some (Jvm.ClassFile.FieldType.int)), RJ2, 13, 0, 0)
theorem hm_J2_indexOfRange : (md_J2_indexOfRange).y.cls ≠ "java/lang/invoke/MethodHandle" ∧ (md_J2_indexOfRange).y.cls ≠ "java/lang/invoke/VarHandle" ∧ (parseMethodDescriptor (md_J2_indexOfRange).y.desc).map (fun d => d.parameters.length) = some 3 := by decide +kernel
theorem m_J2_indexOfRange (a0 : Nat) (a1 : Nat) (a2 : Int32) (a3 : Int32) : CMF md_J2_indexOfRange [cR a0, cR a1, cI a2, cI a3] (g_J2_indexOfRange a0 a1 a2 a3) := by
  refine cm_of (by decide +kernel) rfl (Nat.le_of_ble_eq_true rfl) ?_
  show CWF _ 0 0 0 [(0, cR a0), (1, cR a1), (2, cI a2), (3, cI a3)] [] _
  unfold g_J2_indexOfRange
  refine cw_aload_n dJ2_indexOfRange_0 rfl 0 rfl ?_
  refine cw_getP (ci := 14) (j := 1) (C := RJ2) (T := TJ2) (N := 3) rfl (by decide) rfl rfl (Or.inl q175) fSame_rfl dJ2_indexOfRange_1 (fun p1 => ?_)
  refine cw_astore (ls' := [(4, cR p1), (0, cR a0), (1, cR a1), (2, cI a2), (3, cI a3)]) dJ2_indexOfRange_4 (by decide) rfl ?_
  refine cw_aload_n dJ2_indexOfRange_6 rfl 2 rfl ?_
  refine cw_ifnonnull (tgt := 39) dJ2_indexOfRange_7 (by decide) ?_ ?_
  · refine cw_iload_n dJ2_indexOfRange_39 rfl 3 rfl ?_
    refine cw_istore (ls' := [(5, cI a2), (4, cR p1), (0, cR a0), (1, cR a1), (2, cI a2), (3, cI a3)]) dJ2_indexOfRange_40 (by decide) rfl ?_
    refine cw_sub (ls' := [(4, cR p1), (1, cR a1), (3, cI a3), (5, cI a2)]) [1, 3, 5, 0] rfl ?_
    refine cw_loop0 (lsf := fun (s : Int32) => [(4, cR p1), (1, cR a1), (3, cI a3), (5, cI s)]) (fun rec3 hrec3 s => ?_) FU a2
    obtain ⟨l2, e⟩ : ∃ z, z = s := ⟨_, rfl⟩
    subst e
    show CWF _ _ _ 42 [(4, cR p1), (1, cR a1), (3, cI a3), (5, cI l2)] [] _
    dsimp only [b_J2_indexOfRange_42]
    refine cw_iload dJ2_indexOfRange_42 3 rfl ?_
    refine cw_iload_n dJ2_indexOfRange_44 rfl 2 rfl ?_
    refine cw_icmp_ge (tgt := 69) dJ2_indexOfRange_45 (by decide) ?_ ?_
    · refine cw_iconst (v := -1) dJ2_indexOfRange_69 (by decide) ?_
      exact cw_iret rfl dJ2_indexOfRange_70
    · refine cw_aload_n dJ2_indexOfRange_48 rfl 1 rfl ?_
      refine cw_aload dJ2_indexOfRange_49 0 rfl ?_
      refine cw_iload dJ2_indexOfRange_51 3 rfl ?_
      refine cw_aald (t := 4) (by decide) dJ2_indexOfRange_53 (fun x4 => ?_)
      refine cw_eqv (ls := _) q464 dJ2_indexOfRange_54 (by decide) (Nat.le_of_ble_eq_true rfl) (fun x5 => ?_)
      refine cw_if_eq (tgt := 63) dJ2_indexOfRange_57 (by decide) ?_ ?_
      · refine cw_iinc (v := (l2 + 1)) (ls' := [(5, cI (l2 + 1)), (4, cR p1), (1, cR a1), (3, cI a3)]) dJ2_indexOfRange_63 3 rfl rfl (by decide) rfl ?_
        refine cw_goto (tgt := 42) dJ2_indexOfRange_66 (by decide) ?_
        refine cw_sub (ls' := [(4, cR p1), (1, cR a1), (3, cI a3), (5, cI (l2 + 1))]) [1, 2, 3, 0] rfl ?_
        exact hrec3 (l2 + 1)
      · refine cw_iload dJ2_indexOfRange_60 3 rfl ?_
        exact cw_iret rfl dJ2_indexOfRange_62
  · refine cw_iload_n dJ2_indexOfRange_10 rfl 3 rfl ?_
    refine cw_istore (ls' := [(5, cI a2), (4, cR p1), (0, cR a0), (1, cR a1), (2, cI a2), (3, cI a3)]) dJ2_indexOfRange_11 (by decide) rfl ?_
    refine cw_sub (ls' := [(4, cR p1), (3, cI a3), (5, cI a2)]) [1, 5, 0] rfl ?_
    refine cw_loop0 (lsf := fun (s : Int32) => [(4, cR p1), (3, cI a3), (5, cI s)]) (fun rec7 hrec7 s => ?_) FU a2
    obtain ⟨l6, e⟩ : ∃ z, z = s := ⟨_, rfl⟩
    subst e
    show CWF _ _ _ 13 [(4, cR p1), (3, cI a3), (5, cI l6)] [] _
    dsimp only [b_J2_indexOfRange_13]
    refine cw_iload dJ2_indexOfRange_13 2 rfl ?_
    refine cw_iload_n dJ2_indexOfRange_15 rfl 1 rfl ?_
    refine cw_icmp_ge (tgt := 36) dJ2_indexOfRange_16 (by decide) ?_ ?_
    · refine cw_goto (tgt := 69) dJ2_indexOfRange_36 (by decide) ?_
      refine cw_iconst (v := -1) dJ2_indexOfRange_69 (by decide) ?_
      exact cw_iret rfl dJ2_indexOfRange_70
    · refine cw_aload dJ2_indexOfRange_19 0 rfl ?_
      refine cw_iload dJ2_indexOfRange_21 2 rfl ?_
      refine cw_aald (t := 4) (by decide) dJ2_indexOfRange_23 (fun x8 => ?_)
      refine cw_ifnonnull (tgt := 30) dJ2_indexOfRange_24 (by decide) ?_ ?_
      · refine cw_iinc (v := (l6 + 1)) (ls' := [(5, cI (l6 + 1)), (4, cR p1), (3, cI a3)]) dJ2_indexOfRange_30 2 rfl rfl (by decide) rfl ?_
        refine cw_goto (tgt := 13) dJ2_indexOfRange_33 (by decide) ?_
        refine cw_sub (ls' := [(4, cR p1), (3, cI a3), (5, cI (l6 + 1))]) [1, 2, 0] rfl ?_
        exact hrec7 (l6 + 1)
      · refine cw_iload dJ2_indexOfRange_27 2 rfl ?_
        exact cw_iret rfl dJ2_indexOfRange_29
def g_J2_indexOf (a0 : Nat) (a1 : Nat) : GF :=
  getI 34 a0 2 fun x1 =>
  invI (some (a0, 34)) (g_J2_indexOfRange a0 a1 0 x1) fun x2 =>
  retG (rI x2)
abbrev md_J2_indexOf : MD := (yJ2_indexOf, cJ2_indexOf, 2, (some (Jvm.ClassFile.FieldType.int)), RJ2, 14, 0, 0)
theorem hm_J2_indexOf : (md_J2_indexOf).y.cls ≠ "java/lang/invoke/MethodHandle" ∧ (md_J2_indexOf).y.cls ≠ "java/lang/invoke/VarHandle" ∧ (parseMethodDescriptor (md_J2_indexOf).y.desc).map (fun d => d.parameters.length) = some 1 := by decide +kernel
theorem m_J2_indexOf (a0 : Nat) (a1 : Nat) : CMF md_J2_indexOf [cR a0, cR a1] (g_J2_indexOf a0 a1) := by
  refine cm_of (by decide +kernel) rfl (Nat.le_of_ble_eq_true rfl) ?_
  show CWF _ 0 0 0 [(0, cR a0), (1, cR a1)] [] _
  unfold g_J2_indexOf
  refine cw_aload_n dJ2_indexOf_0 rfl 0 rfl ?_
  refine cw_aload_n dJ2_indexOf_1 rfl 1 rfl ?_
  refine cw_iconst (v := 0) dJ2_indexOf_2 (by decide) ?_
  refine cw_aload_n dJ2_indexOf_3 rfl 0 rfl ?_
  refine cw_getI (ci := 14) (j := 2) (C := RJ2) (T := TJ2) (N := 3) rfl (by decide) rfl rfl (Or.inl q178) fSame_rfl dJ2_indexOf_4 (fun x1 => ?_)
  refine cw_invI (d2 := md_J2_indexOfRange) (c := 0) (q := 0) (as := [cR a0, cR a1, cI 0, cI x1]) (mc := 0) (ms := 0) rfl rfl (okV (ci := 14) (C := RJ2) (T0 := TJ2) (N := 3) (n := 3) rfl rfl rfl dJ2_indexOf_7 (lw_V q573 q574 q575 q114 q576) ⟨rfl, hm_J2_indexOfRange⟩ (by decide) (by decide) (Nat.le_of_ble_eq_true rfl)) (m_J2_indexOfRange a0 a1 0 x1) rfl (fun x2 => ?_)
  exact cw_iret rfl dJ2_indexOf_10
def g_J2_contains (a0 : Nat) (a1 : Nat) : GF :=
  invI (some (a0, 34)) (g_J2_indexOf a0 a1) fun x1 =>
  if x1 < 0 then
    retZ 0
  else
    retZ 1
abbrev md_J2_contains : MD := (yJ2_contains, cJ2_contains, 2, (some (Jvm.ClassFile.FieldType.boolean)), RJ2, 15, 0, 0)
theorem hm_J2_contains : (md_J2_contains).y.cls ≠ "java/lang/invoke/MethodHandle" ∧ (md_J2_contains).y.cls ≠ "java/lang/invoke/VarHandle" ∧ (parseMethodDescriptor (md_J2_contains).y.desc).map (fun d => d.parameters.length) = some 1 := by decide +kernel
theorem m_J2_contains (a0 : Nat) (a1 : Nat) : CMF md_J2_contains [cR a0, cR a1] (g_J2_contains a0 a1) := by
  refine cm_of (by decide +kernel) rfl (Nat.le_of_ble_eq_true rfl) ?_
  show CWF _ 0 0 0 [(0, cR a0), (1, cR a1)] [] _
  unfold g_J2_contains
  refine cw_aload_n dJ2_contains_0 rfl 0 rfl ?_
  refine cw_aload_n dJ2_contains_1 rfl 1 rfl ?_
  refine cw_invI (d2 := md_J2_indexOf) (c := 0) (q := 0) (as := [cR a0, cR a1]) (mc := 0) (ms := 0) rfl rfl (okV (ci := 14) (C := RJ2) (T0 := TJ2) (N := 3) (n := 1) rfl rfl rfl dJ2_contains_2 (lw_V q689 q570 q2851 q114 q572) ⟨rfl, hm_J2_indexOf⟩ (by decide) (by decide) (Nat.le_of_ble_eq_true rfl)) (m_J2_indexOf a0 a1) rfl (fun x1 => ?_)
  refine cw_if_lt (tgt := 12) dJ2_contains_5 (by decide) ?_ ?_
  · refine cw_iconst (v := 0) dJ2_contains_12 (by decide) ?_
    exact cw_zret rfl dJ2_contains_13
  · refine cw_iconst (v := 1) dJ2_contains_8 (by decide) ?_
    refine cw_goto (tgt := 13) dJ2_contains_9 (by decide) ?_
    exact cw_zret rfl dJ2_contains_13
def g_J2_fastRemove (a0 : Nat) (a1 : Nat) (a2 : Int32) : GF :=
  getI 34 a0 0 fun x1 =>
  putI 34 a0 0 (x1 + 1) <|
  getI 34 a0 2 fun x2 =>
  jnG (fun (_ : Unit) =>
    putI 34 a0 2 (x2 - 1) <|
    aastG a1 (x2 - 1) 0 <|
    retG rV) fun J3 =>
  if (x2 - 1) ≤ a2 then
    J3 ()
  else
    acpG a1 (a2 + 1) a1 a2 ((x2 - 1) - a2) <|
    J3 ()
abbrev md_J2_fastRemove : MD := (yJ2_fastRemove, cJ2_fastRemove, 4, none, RJ2, 10, 0, 0)
theorem hm_J2_fastRemove : (md_J2_fastRemove).y.cls ≠ "java/lang/invoke/MethodHandle" ∧ (md_J2_fastRemove).y.cls ≠ "java/lang/invoke/VarHandle" ∧ (parseMethodDescriptor (md_J2_fastRemove).y.desc).map (fun d => d.parameters.length) = some 2 := by decide +kernel
theorem m_J2_fastRemove (a0 : Nat) (a1 : Nat) (a2 : Int32) : CMF md_J2_fastRemove [cR a0, cR a1, cI a2] (g_J2_fastRemove a0 a1 a2) := by
  refine cm_of (by decide +kernel) rfl (Nat.le_of_ble_eq_true rfl) ?_
  show CWF _ 0 0 0 [(0, cR a0), (1, cR a1), (2, cI a2)] [] _
  unfold g_J2_fastRemove
  refine cw_aload_n dJ2_fastRemove_0 rfl 0 rfl ?_
  refine cw_dup dJ2_fastRemove_1 rfl ?_
  refine cw_getI (ci := 14) (j := 0) (C := RJ2) (T := TJ2) (N := 3) rfl (by decide) rfl rfl (Or.inl q182) same_modCount dJ2_fastRemove_2 (fun x1 => ?_)
  refine cw_iconst (v := 1) dJ2_fastRemove_5 (by decide) ?_
  refine cw_iadd dJ2_fastRemove_6 ?_
  refine cw_putI (ci := 14) (j := 0) (C := RJ2) (T := TJ2) (N := 3) rfl (by decide) rfl rfl (Or.inl q182) same_modCount (Or.inl rfl) dJ2_fastRemove_7 ?_
  refine cw_aload_n dJ2_fastRemove_10 rfl 0 rfl ?_
  refine cw_getI (ci := 14) (j := 2) (C := RJ2) (T := TJ2) (N := 3) rfl (by decide) rfl rfl (Or.inl q178) fSame_rfl dJ2_fastRemove_11 (fun x2 => ?_)
  refine cw_iconst (v := 1) dJ2_fastRemove_14 (by decide) ?_
  refine cw_isub dJ2_fastRemove_15 ?_
  refine cw_dup dJ2_fastRemove_16 rfl ?_
  refine cw_istore_n (ls' := [(3, cI (x2 - 1)), (0, cR a0), (1, cR a1), (2, cI a2)]) dJ2_fastRemove_17 rfl (by decide) rfl ?_
  refine cw_iload_n dJ2_fastRemove_18 rfl 3 rfl ?_
  refine cw_jn (cj := 0) (kj := 0) (pcj := 34) (lsf := fun (s : Unit) => [(3, cI (x2 - 1)), (0, cR a0), (1, cR a1)]) (stf := fun (s : Unit) => []) (fun s => ?_) (fun J3 hJ3 => ?_)
  · show CWF _ _ _ 34 [(3, cI (x2 - 1)), (0, cR a0), (1, cR a1)] [] _
    refine cw_aload_n dJ2_fastRemove_34 rfl 2 rfl ?_
    refine cw_aload_n dJ2_fastRemove_35 rfl 1 rfl ?_
    refine cw_iload_n dJ2_fastRemove_36 rfl 0 rfl ?_
    refine cw_dup_x1 dJ2_fastRemove_37 rfl rfl ?_
    refine cw_putI (ci := 14) (j := 2) (C := RJ2) (T := TJ2) (N := 3) rfl (by decide) rfl rfl (Or.inl q178) fSame_rfl (Or.inl rfl) dJ2_fastRemove_38 ?_
    refine cw_null dJ2_fastRemove_41 ?_
    refine cw_aast dJ2_fastRemove_42 ?_
    exact cw_vret rfl dJ2_fastRemove_43
  · refine cw_icmp_le (tgt := 34) dJ2_fastRemove_19 (by decide) ?_ ?_
    · refine cw_sub (ls' := [(3, cI (x2 - 1)), (0, cR a0), (1, cR a1)]) [0, 1, 2] rfl ?_
      exact hJ3 ()
    · refine cw_aload_n dJ2_fastRemove_22 rfl 2 rfl ?_
      refine cw_iload_n dJ2_fastRemove_23 rfl 3 rfl ?_
      refine cw_iconst (v := 1) dJ2_fastRemove_24 (by decide) ?_
      refine cw_iadd dJ2_fastRemove_25 ?_
      refine cw_aload_n dJ2_fastRemove_26 rfl 2 rfl ?_
      refine cw_iload_n dJ2_fastRemove_27 rfl 3 rfl ?_
      refine cw_iload_n dJ2_fastRemove_28 rfl 0 rfl ?_
      refine cw_iload_n dJ2_fastRemove_29 rfl 3 rfl ?_
      refine cw_isub dJ2_fastRemove_30 ?_
      refine cw_acp q521 (by decide) (Nat.le_of_ble_eq_true rfl) dJ2_fastRemove_31 ?_
      refine cw_sub (ls' := [(3, cI (x2 - 1)), (0, cR a0), (1, cR a1)]) [0, 1, 2] rfl ?_
      exact hJ3 ()
def b_J2_remove_39 (a1 : Nat) (p1 : Nat) (x2 : Int32) (J6 : Int32 → GF) (rec8 : Int32 → GF) : Int32 → GF := fun (l7 : Int32) =>
  if l7 < x2 then
    aaldG 4 p1 l7 fun x9 =>
    eqvG a1 x9 fun x10 =>
    if x10 = 0 then
      rec8 (l7 + 1)
    else
      J6 l7
  else
    retZ 0
def b_J2_remove_17 (p1 : Nat) (x2 : Int32) (J12 : Int32 → GF) (rec14 : Int32 → GF) : Int32 → GF := fun (l13 : Int32) =>
  if l13 < x2 then
    aaldG 4 p1 l13 fun x15 =>
    if x15 = 0 then
      J12 l13
    else
      rec14 (l13 + 1)
  else
    retZ 0
def g_J2_remove (a0 : Nat) (a1 : Nat) : GF :=
  getP 34 a0 1 fun p1 =>
  getI 34 a0 2 fun x2 =>
  jnG (fun (v3 : Int32) =>
    invV (some (a0, 34)) (g_J2_fastRemove a0 p1 v3) <|
    retZ 1) fun J4 =>
  if a1 = 0 then
    jnG (fun (v11 : Int32) =>
      J4 v11) fun J12 =>
    loopG (b_J2_remove_17 p1 x2 J12) FU 0
  else
    jnG (fun (v5 : Int32) =>
      J4 v5) fun J6 =>
    loopG (b_J2_remove_39 a1 p1 x2 J6) FU 0
abbrev md_J2_remove : MD := (yJ2_remove, cJ2_remove, 5, (some (Jvm.ClassFile.FieldType.boolean)), RJ2, 13, 0, 0)
theorem hm_J2_remove : (md_J2_remove).y.cls ≠ "java/lang/invoke/MethodHandle" ∧ (md_J2_remove).y.cls ≠ "java/lang/invoke/VarHandle" ∧ (parseMethodDescriptor (md_J2_remove).y.desc).map (fun d => d.parameters.length) = some 1 := by decide +kernel
theorem m_J2_remove (a0 : Nat) (a1 : Nat) : CMF md_J2_remove [cR a0, cR a1] (g_J2_remove a0 a1) := by
  refine cm_of (by decide +kernel) rfl (Nat.le_of_ble_eq_true rfl) ?_
  show CWF _ 0 0 0 [(0, cR a0), (1, cR a1)] [] _
  unfold g_J2_remove
  refine cw_aload_n dJ2_remove_0 rfl 0 rfl ?_
  refine cw_getP (ci := 14) (j := 1) (C := RJ2) (T := TJ2) (N := 3) rfl (by decide) rfl rfl (Or.inl q175) fSame_rfl dJ2_remove_1 (fun p1 => ?_)
  refine cw_astore_n (ls' := [(2, cR p1), (0, cR a0), (1, cR a1)]) dJ2_remove_4 rfl (by decide) rfl ?_
  refine cw_aload_n dJ2_remove_5 rfl 1 rfl ?_
  refine cw_getI (ci := 14) (j := 2) (C := RJ2) (T := TJ2) (N := 3) rfl (by decide) rfl rfl (Or.inl q178) fSame_rfl dJ2_remove_6 (fun x2 => ?_)
  refine cw_istore_n (ls' := [(3, cI x2), (2, cR p1), (0, cR a0), (1, cR a1)]) dJ2_remove_9 rfl (by decide) rfl ?_
  refine cw_iconst (v := 0) dJ2_remove_10 (by decide) ?_
  refine cw_istore (ls' := [(4, cI 0), (3, cI x2), (2, cR p1), (0, cR a0), (1, cR a1)]) dJ2_remove_11 (by decide) rfl ?_
  refine cw_aload_n dJ2_remove_13 rfl 4 rfl ?_
  refine cw_jn (cj := 0) (kj := 0) (pcj := 67) (lsf := fun (s : Int32) => [(2, cR p1), (0, cR a0), (4, cI s)]) (stf := fun (s : Int32) => []) (fun s => ?_) (fun J4 hJ4 => ?_)
  · obtain ⟨v3, e⟩ : ∃ z, z = s := ⟨_, rfl⟩
    subst e
    show CWF _ _ _ 67 [(2, cR p1), (0, cR a0), (4, cI v3)] [] _
    refine cw_aload_n dJ2_remove_67 rfl 1 rfl ?_
    refine cw_aload_n dJ2_remove_68 rfl 0 rfl ?_
    refine cw_iload dJ2_remove_69 2 rfl ?_
    refine cw_invV (d2 := md_J2_fastRemove) (c := 0) (q := 0) (as := [cR a0, cR p1, cI v3]) (mc := 0) (ms := 0) rfl rfl (okV (ci := 14) (C := RJ2) (T0 := TJ2) (N := 3) (n := 2) rfl rfl rfl dJ2_remove_71 (lw_V q517 q519 qs2 q114 q520) ⟨rfl, hm_J2_fastRemove⟩ (by decide) (by decide) (Nat.le_of_ble_eq_true rfl)) (m_J2_fastRemove a0 p1 v3) rfl ?_
    refine cw_iconst (v := 1) dJ2_remove_74 (by decide) ?_
    exact cw_zret rfl dJ2_remove_75
  · refine cw_ifnonnull (tgt := 39) dJ2_remove_14 (by decide) ?_ ?_
    · refine cw_jn (cj := 0) (kj := 0) (pcj := 56) (lsf := fun (s : Int32) => [(2, cR p1), (0, cR a0), (4, cI s)]) (stf := fun (s : Int32) => []) (fun s => ?_) (fun J6 hJ6 => ?_)
      · obtain ⟨v5, e⟩ : ∃ z, z = s := ⟨_, rfl⟩
        subst e
        show CWF _ _ _ 56 [(2, cR p1), (0, cR a0), (4, cI v5)] [] _
        refine cw_goto (tgt := 67) dJ2_remove_56 (by decide) ?_
        exact hJ4 v5
      · refine cw_sub (ls' := [(3, cI x2), (2, cR p1), (0, cR a0), (1, cR a1), (4, cI 0)]) [1, 2, 3, 4, 0] rfl ?_
        refine cw_loop0 (lsf := fun (s : Int32) => [(3, cI x2), (2, cR p1), (0, cR a0), (1, cR a1), (4, cI s)]) (fun rec8 hrec8 s => ?_) FU 0
        obtain ⟨l7, e⟩ : ∃ z, z = s := ⟨_, rfl⟩
        subst e
        show CWF _ _ _ 39 [(3, cI x2), (2, cR p1), (0, cR a0), (1, cR a1), (4, cI l7)] [] _
        dsimp only [b_J2_remove_39]
        refine cw_iload dJ2_remove_39 4 rfl ?_
        refine cw_iload_n dJ2_remove_41 rfl 0 rfl ?_
        refine cw_icmp_ge (tgt := 65) dJ2_remove_42 (by decide) ?_ ?_
        · refine cw_iconst (v := 0) dJ2_remove_65 (by decide) ?_
          exact cw_zret rfl dJ2_remove_66
        · refine cw_aload_n dJ2_remove_45 rfl 3 rfl ?_
          refine cw_aload_n dJ2_remove_46 rfl 1 rfl ?_
          refine cw_iload dJ2_remove_47 4 rfl ?_
          refine cw_aald (t := 4) (by decide) dJ2_remove_49 (fun x9 => ?_)
          refine cw_eqv (ls := _) q464 dJ2_remove_50 (by decide) (Nat.le_of_ble_eq_true rfl) (fun x10 => ?_)
          refine cw_if_eq (tgt := 59) dJ2_remove_53 (by decide) ?_ ?_
          · refine cw_iinc (v := (l7 + 1)) (ls' := [(4, cI (l7 + 1)), (3, cI x2), (2, cR p1), (0, cR a0), (1, cR a1)]) dJ2_remove_59 4 rfl rfl (by decide) rfl ?_
            refine cw_goto (tgt := 39) dJ2_remove_62 (by decide) ?_
            refine cw_sub (ls' := [(3, cI x2), (2, cR p1), (0, cR a0), (1, cR a1), (4, cI (l7 + 1))]) [1, 2, 3, 4, 0] rfl ?_
            exact hrec8 (l7 + 1)
          · refine cw_sub (ls' := [(2, cR p1), (0, cR a0), (4, cI l7)]) [1, 2, 4] rfl ?_
            exact hJ6 l7
    · refine cw_jn (cj := 0) (kj := 0) (pcj := 30) (lsf := fun (s : Int32) => [(2, cR p1), (0, cR a0), (4, cI s)]) (stf := fun (s : Int32) => []) (fun s => ?_) (fun J12 hJ12 => ?_)
      · obtain ⟨v11, e⟩ : ∃ z, z = s := ⟨_, rfl⟩
        subst e
        show CWF _ _ _ 30 [(2, cR p1), (0, cR a0), (4, cI v11)] [] _
        refine cw_goto (tgt := 67) dJ2_remove_30 (by decide) ?_
        exact hJ4 v11
      · refine cw_sub (ls' := [(3, cI x2), (2, cR p1), (0, cR a0), (4, cI 0)]) [1, 2, 3, 0] rfl ?_
        refine cw_loop0 (lsf := fun (s : Int32) => [(3, cI x2), (2, cR p1), (0, cR a0), (4, cI s)]) (fun rec14 hrec14 s => ?_) FU 0
        obtain ⟨l13, e⟩ : ∃ z, z = s := ⟨_, rfl⟩
        subst e
        show CWF _ _ _ 17 [(3, cI x2), (2, cR p1), (0, cR a0), (4, cI l13)] [] _
        dsimp only [b_J2_remove_17]
        refine cw_iload dJ2_remove_17 3 rfl ?_
        refine cw_iload_n dJ2_remove_19 rfl 0 rfl ?_
        refine cw_icmp_ge (tgt := 65) dJ2_remove_20 (by decide) ?_ ?_
        · refine cw_iconst (v := 0) dJ2_remove_65 (by decide) ?_
          exact cw_zret rfl dJ2_remove_66
        · refine cw_aload_n dJ2_remove_23 rfl 1 rfl ?_
          refine cw_iload dJ2_remove_24 3 rfl ?_
          refine cw_aald (t := 4) (by decide) dJ2_remove_26 (fun x15 => ?_)
          refine cw_ifnonnull (tgt := 33) dJ2_remove_27 (by decide) ?_ ?_
          · refine cw_iinc (v := (l13 + 1)) (ls' := [(4, cI (l13 + 1)), (3, cI x2), (2, cR p1), (0, cR a0)]) dJ2_remove_33 3 rfl rfl (by decide) rfl ?_
            refine cw_goto (tgt := 17) dJ2_remove_36 (by decide) ?_
            refine cw_sub (ls' := [(3, cI x2), (2, cR p1), (0, cR a0), (4, cI (l13 + 1))]) [1, 2, 3, 0] rfl ?_
            exact hrec14 (l13 + 1)
          · refine cw_sub (ls' := [(2, cR p1), (0, cR a0), (4, cI l13)]) [1, 2, 3] rfl ?_
            exact hJ12 l13
def g_J2_remove_2 (a0 : Nat) (a1 : Int32) : GF :=
  getI 34 a0 2 fun x1 =>
  invI none (g_J14_checkIndex a1 x1) fun x2 =>
  getP 34 a0 1 fun p3 =>
  aaldG 4 p3 a1 fun x4 =>
  invV (some (a0, 34)) (g_J2_fastRemove a0 p3 a1) <|
  retG (rR x4)
abbrev md_J2_remove_2 : MD := (yJ2_remove_2, cJ2_remove_2, 4, (some ((Jvm.ClassFile.FieldType.object "java/lang/Object"))), RJ2, 12, 0, 0)
theorem hm_J2_remove_2 : (md_J2_remove_2).y.cls ≠ "java/lang/invoke/MethodHandle" ∧ (md_J2_remove_2).y.cls ≠ "java/lang/invoke/VarHandle" ∧ (parseMethodDescriptor (md_J2_remove_2).y.desc).map (fun d => d.parameters.length) = some 1 := by decide +kernel
theorem m_J2_remove_2 (a0 : Nat) (a1 : Int32) : CMF md_J2_remove_2 [cR a0, cI a1] (g_J2_remove_2 a0 a1) := by
  refine cm_of (by decide +kernel) rfl (Nat.le_of_ble_eq_true rfl) ?_
  show CWF _ 0 0 0 [(0, cR a0), (1, cI a1)] [] _
  unfold g_J2_remove_2
  refine cw_iload_n dJ2_remove_2_0 rfl 1 rfl ?_
  refine cw_aload_n dJ2_remove_2_1 rfl 0 rfl ?_
  refine cw_getI (ci := 14) (j := 2) (C := RJ2) (T := TJ2) (N := 3) rfl (by decide) rfl rfl (Or.inl q178) fSame_rfl dJ2_remove_2_2 (fun x1 => ?_)
  refine cw_invI (d2 := md_J14_checkIndex) (c := 0) (q := 0) (as := [cI a1, cI x1]) (mc := 0) (ms := 0) rfl rfl (okS (n := 2) rfl dJ2_remove_2_5 (lw_S q270 q271 q129 q272) hm_J14_checkIndex (by decide) (by decide) (Nat.le_of_ble_eq_true rfl)) (m_J14_checkIndex a1 x1) rfl (fun x2 => ?_)
  refine cw_pop dJ2_remove_2_8 rfl ?_
  refine cw_aload_n dJ2_remove_2_9 rfl 0 rfl ?_
  refine cw_getP (ci := 14) (j := 1) (C := RJ2) (T := TJ2) (N := 3) rfl (by decide) rfl rfl (Or.inl q175) fSame_rfl dJ2_remove_2_10 (fun p3 => ?_)
  refine cw_astore_n (ls' := [(2, cR p3), (0, cR a0), (1, cI a1)]) dJ2_remove_2_13 rfl (by decide) rfl ?_
  refine cw_aload_n dJ2_remove_2_14 rfl 0 rfl ?_
  refine cw_iload_n dJ2_remove_2_15 rfl 2 rfl ?_
  refine cw_aald (t := 4) (by decide) dJ2_remove_2_16 (fun x4 => ?_)
  refine cw_astore_n (ls' := [(3, cR x4), (2, cR p3), (0, cR a0), (1, cI a1)]) dJ2_remove_2_17 rfl (by decide) rfl ?_
  refine cw_aload_n dJ2_remove_2_18 rfl 2 rfl ?_
  refine cw_aload_n dJ2_remove_2_19 rfl 1 rfl ?_
  refine cw_iload_n dJ2_remove_2_20 rfl 3 rfl ?_
  refine cw_invV (d2 := md_J2_fastRemove) (c := 0) (q := 0) (as := [cR a0, cR p3, cI a1]) (mc := 0) (ms := 0) rfl rfl (okV (ci := 14) (C := RJ2) (T0 := TJ2) (N := 3) (n := 2) rfl rfl rfl dJ2_remove_2_21 (lw_V q517 q519 qs2 q114 q520) ⟨rfl, hm_J2_fastRemove⟩ (by decide) (by decide) (Nat.le_of_ble_eq_true rfl)) (m_J2_fastRemove a0 p3 a1) rfl ?_
  refine cw_aload_n dJ2_remove_2_24 rfl 0 rfl ?_
  exact cw_aret rfl rfl dJ2_remove_2_25
def g_J2_rangeCheckForAdd (a0 : Nat) (a1 : Int32) : GF :=
  getI 34 a0 2 fun x1 =>
  if a1 ≤ x1 then
    if a1 < 0 then
      noneG
    else
      retG rV
  else
    noneG
abbrev md_J2_rangeCheckForAdd : MD := (yJ2_rangeCheckForAdd, cJ2_rangeCheckForAdd, 2, none, RJ2, 10, 0, 0)
theorem hm_J2_rangeCheckForAdd : (md_J2_rangeCheckForAdd).y.cls ≠ "java/lang/invoke/MethodHandle" ∧ (md_J2_rangeCheckForAdd).y.cls ≠ "java/lang/invoke/VarHandle" ∧ (parseMethodDescriptor (md_J2_rangeCheckForAdd).y.desc).map (fun d => d.parameters.length) = some 1 := by decide +kernel
theorem m_J2_rangeCheckForAdd (a0 : Nat) (a1 : Int32) : CMF md_J2_rangeCheckForAdd [cR a0, cI a1] (g_J2_rangeCheckForAdd a0 a1) := by
  refine cm_of (by decide +kernel) rfl (Nat.le_of_ble_eq_true rfl) ?_
  show CWF _ 0 0 0 [(0, cR a0), (1, cI a1)] [] _
  unfold g_J2_rangeCheckForAdd
  refine cw_iload_n dJ2_rangeCheckForAdd_0 rfl 1 rfl ?_
  refine cw_aload_n dJ2_rangeCheckForAdd_1 rfl 0 rfl ?_
  refine cw_getI (ci := 14) (j := 2) (C := RJ2) (T := TJ2) (N := 3) rfl (by decide) rfl rfl (Or.inl q178) fSame_rfl dJ2_rangeCheckForAdd_2 (fun x1 => ?_)
  refine cw_icmp_gt (tgt := 12) dJ2_rangeCheckForAdd_5 (by decide) ?_ ?_
  · exact cw_none
  · refine cw_iload_n dJ2_rangeCheckForAdd_8 rfl 1 rfl ?_
    refine cw_if_ge (tgt := 25) dJ2_rangeCheckForAdd_9 (by decide) ?_ ?_
    · exact cw_vret rfl dJ2_rangeCheckForAdd_25
    · exact cw_none
def g_J2_add_3 (a0 : Nat) (a1 : Int32) (a2 : Nat) : GF :=
  invV (some (a0, 34)) (g_J2_rangeCheckForAdd a0 a1) <|
  getI 34 a0 0 fun x1 =>
  putI 34 a0 0 (x1 + 1) <|
  getI 34 a0 2 fun x2 =>
  getP 34 a0 1 fun p3 =>
  alenKG p3 fun x4 =>
  jnG (fun (v5 : Nat) =>
    acpG v5 a1 v5 (a1 + 1) (x2 - a1) <|
    aastG v5 a1 a2 <|
    putI 34 a0 2 (x2 + 1) <|
    retG rV) fun J6 =>
  if x2 = x4 then
    invP (some (a0, 34)) (g_J2_grow a0) fun p7 =>
    J6 p7
  else
    J6 p3
abbrev md_J2_add_3 : MD := (yJ2_add_3, cJ2_add_3, 5, none, RJ2, 14, 1, 64)
theorem hm_J2_add_3 : (md_J2_add_3).y.cls ≠ "java/lang/invoke/MethodHandle" ∧ (md_J2_add_3).y.cls ≠ "java/lang/invoke/VarHandle" ∧ (parseMethodDescriptor (md_J2_add_3).y.desc).map (fun d => d.parameters.length) = some 2 := by decide +kernel
theorem m_J2_add_3 (a0 : Nat) (a1 : Int32) (a2 : Nat) : CMF md_J2_add_3 [cR a0, cI a1, cR a2] (g_J2_add_3 a0 a1 a2) := by
  refine cm_of (by decide +kernel) rfl (Nat.le_of_ble_eq_true rfl) ?_
  show CWF _ 1 64 0 [(0, cR a0), (1, cI a1), (2, cR a2)] [] _
  unfold g_J2_add_3
  refine cw_aload_n dJ2_add_3_0 rfl 0 rfl ?_
  refine cw_iload_n dJ2_add_3_1 rfl 1 rfl ?_
  refine cw_invV (d2 := md_J2_rangeCheckForAdd) (c := 1) (q := 64) (as := [cR a0, cI a1]) (mc := 0) (ms := 0) rfl rfl (okV (ci := 14) (C := RJ2) (T0 := TJ2) (N := 3) (n := 1) rfl rfl rfl dJ2_add_3_2 (lw_V q1465 q1467 qs14 q114 q1468) ⟨rfl, hm_J2_rangeCheckForAdd⟩ (by decide) (by decide) (Nat.le_of_ble_eq_true rfl)) (m_J2_rangeCheckForAdd a0 a1) rfl ?_
  refine cw_aload_n dJ2_add_3_5 rfl 0 rfl ?_
  refine cw_dup dJ2_add_3_6 rfl ?_
  refine cw_getI (ci := 14) (j := 0) (C := RJ2) (T := TJ2) (N := 3) rfl (by decide) rfl rfl (Or.inl q182) same_modCount dJ2_add_3_7 (fun x1 => ?_)
  refine cw_iconst (v := 1) dJ2_add_3_10 (by decide) ?_
  refine cw_iadd dJ2_add_3_11 ?_
  refine cw_putI (ci := 14) (j := 0) (C := RJ2) (T := TJ2) (N := 3) rfl (by decide) rfl rfl (Or.inl q182) same_modCount (Or.inl rfl) dJ2_add_3_12 ?_
  refine cw_aload_n dJ2_add_3_15 rfl 0 rfl ?_
  refine cw_getI (ci := 14) (j := 2) (C := RJ2) (T := TJ2) (N := 3) rfl (by decide) rfl rfl (Or.inl q178) fSame_rfl dJ2_add_3_16 (fun x2 => ?_)
  refine cw_dup dJ2_add_3_19 rfl ?_
  refine cw_istore_n (ls' := [(3, cI x2), (0, cR a0), (1, cI a1), (2, cR a2)]) dJ2_add_3_20 rfl (by decide) rfl ?_
  refine cw_aload_n dJ2_add_3_21 rfl 1 rfl ?_
  refine cw_getP (ci := 14) (j := 1) (C := RJ2) (T := TJ2) (N := 3) rfl (by decide) rfl rfl (Or.inl q175) fSame_rfl dJ2_add_3_22 (fun p3 => ?_)
  refine cw_dup dJ2_add_3_25 rfl ?_
  refine cw_astore (ls' := [(4, cR p3), (3, cI x2), (0, cR a0), (1, cI a1), (2, cR a2)]) dJ2_add_3_26 (by decide) rfl ?_
  refine cw_alenK dJ2_add_3_28 (fun x4 => ?_)
  refine cw_jn (cj := 0) (kj := 0) (pcj := 38) (lsf := fun (s : Nat) => [(3, cI x2), (0, cR a0), (1, cI a1), (2, cR a2), (4, cR s)]) (stf := fun (s : Nat) => []) (fun s => ?_) (fun J6 hJ6 => ?_)
  · obtain ⟨v5, e⟩ : ∃ z, z = s := ⟨_, rfl⟩
    subst e
    show CWF _ _ _ 38 [(3, cI x2), (0, cR a0), (1, cI a1), (2, cR a2), (4, cR v5)] [] _
    refine cw_aload dJ2_add_3_38 4 rfl ?_
    refine cw_iload_n dJ2_add_3_40 rfl 2 rfl ?_
    refine cw_aload dJ2_add_3_41 4 rfl ?_
    refine cw_iload_n dJ2_add_3_43 rfl 2 rfl ?_
    refine cw_iconst (v := 1) dJ2_add_3_44 (by decide) ?_
    refine cw_iadd dJ2_add_3_45 ?_
    refine cw_iload_n dJ2_add_3_46 rfl 0 rfl ?_
    refine cw_iload_n dJ2_add_3_47 rfl 2 rfl ?_
    refine cw_isub dJ2_add_3_48 ?_
    refine cw_acp q521 (by decide) (Nat.le_of_ble_eq_true rfl) dJ2_add_3_49 ?_
    refine cw_aload dJ2_add_3_52 4 rfl ?_
    refine cw_iload_n dJ2_add_3_54 rfl 2 rfl ?_
    refine cw_aload_n dJ2_add_3_55 rfl 3 rfl ?_
    refine cw_aast dJ2_add_3_56 ?_
    refine cw_aload_n dJ2_add_3_57 rfl 1 rfl ?_
    refine cw_iload_n dJ2_add_3_58 rfl 0 rfl ?_
    refine cw_iconst (v := 1) dJ2_add_3_59 (by decide) ?_
    refine cw_iadd dJ2_add_3_60 ?_
    refine cw_putI (ci := 14) (j := 2) (C := RJ2) (T := TJ2) (N := 3) rfl (by decide) rfl rfl (Or.inl q178) fSame_rfl (Or.inl rfl) dJ2_add_3_61 ?_
    exact cw_vret rfl dJ2_add_3_64
  · refine cw_icmp_ne (tgt := 38) dJ2_add_3_29 (by decide) ?_ ?_
    · refine cw_weak (c' := 0) (q' := 0) (by omega) (by omega) ?_
      refine cw_sub (ls' := [(3, cI x2), (0, cR a0), (1, cI a1), (2, cR a2), (4, cR p3)]) [1, 2, 3, 4, 0] rfl ?_
      exact hJ6 p3
    · refine cw_aload_n dJ2_add_3_32 rfl 2 rfl ?_
      refine cw_invP (d2 := md_J2_grow) (c := 0) (q := 0) (as := [cR a0]) (mc := 1) (ms := 64) rfl rfl (okV (ci := 14) (C := RJ2) (T0 := TJ2) (N := 3) (n := 0) rfl rfl rfl dJ2_add_3_33 (lw_V q594 q596 qs4 q114 q597) ⟨rfl, hm_J2_grow⟩ (by decide) (by decide) (Nat.le_of_ble_eq_true rfl)) (m_J2_grow a0) rfl (fun p7 => ?_)
      refine cw_astore (ls' := [(4, cR p7), (3, cI x2), (0, cR a0), (1, cI a1), (2, cR a2)]) dJ2_add_3_36 (by decide) rfl ?_
      refine cw_sub (ls' := [(3, cI x2), (0, cR a0), (1, cI a1), (2, cR a2), (4, cR p7)]) [1, 2, 3, 4, 0] rfl ?_
      exact hJ6 p7
def g_J2_toArray (a0 : Nat) : GF :=
  getP 34 a0 1 fun p1 =>
  getI 34 a0 2 fun x2 =>
  invP none (g_J10_copyOf p1 x2) fun p3 =>
  retG (rR p3)
abbrev md_J2_toArray : MD := (yJ2_toArray, cJ2_toArray, 1, (some ((Jvm.ClassFile.FieldType.array (Jvm.ClassFile.FieldType.object "java/lang/Object")))), RJ2, 12, 1, 64)
theorem hm_J2_toArray : (md_J2_toArray).y.cls ≠ "java/lang/invoke/MethodHandle" ∧ (md_J2_toArray).y.cls ≠ "java/lang/invoke/VarHandle" ∧ (parseMethodDescriptor (md_J2_toArray).y.desc).map (fun d => d.parameters.length) = some 0 := by decide +kernel
theorem m_J2_toArray (a0 : Nat) : CMF md_J2_toArray [cR a0] (g_J2_toArray a0) := by
  refine cm_of (by decide +kernel) rfl (Nat.le_of_ble_eq_true rfl) ?_
  show CWF _ 1 64 0 [(0, cR a0)] [] _
  unfold g_J2_toArray
  refine cw_aload_n dJ2_toArray_0 rfl 0 rfl ?_
  refine cw_getP (ci := 14) (j := 1) (C := RJ2) (T := TJ2) (N := 3) rfl (by decide) rfl rfl (Or.inl q175) fSame_rfl dJ2_toArray_1 (fun p1 => ?_)
  refine cw_aload_n dJ2_toArray_4 rfl 0 rfl ?_
  refine cw_getI (ci := 14) (j := 2) (C := RJ2) (T := TJ2) (N := 3) rfl (by decide) rfl rfl (Or.inl q178) fSame_rfl dJ2_toArray_5 (fun x2 => ?_)
  refine cw_invP (d2 := md_J10_copyOf) (c := 0) (q := 0) (as := [cR p1, cI x2]) (mc := 1) (ms := 64) rfl rfl (okS (n := 2) rfl dJ2_toArray_8 (lw_S q612 q613 q124 q614) hm_J10_copyOf (by decide) (by decide) (Nat.le_of_ble_eq_true rfl)) (m_J10_copyOf p1 x2) rfl (fun p3 => ?_)
  exact cw_aret rfl rfl dJ2_toArray_11
def g_J18_init (a0 : Nat) (a1 : Nat) : GF :=
  putP 35 a0 3 a1 <|
  objG a0 <|
  putI 35 a0 1 (-1 : Int32) <|
  getP 35 a0 3 fun p1 =>
  getI 34 p1 0 fun x2 =>
  putI 35 a0 2 x2 <|
  retG rV
abbrev md_J18_init : MD := (yJ18_init, cJ18_init, 2, none, RJ18, 10, 0, 0)
theorem hm_J18_init : (md_J18_init).y.cls ≠ "java/lang/invoke/MethodHandle" ∧ (md_J18_init).y.cls ≠ "java/lang/invoke/VarHandle" ∧ (parseMethodDescriptor (md_J18_init).y.desc).map (fun d => d.parameters.length) = some 1 := by decide +kernel
theorem m_J18_init (a0 : Nat) (a1 : Nat) : CMF md_J18_init [cR a0, cR a1] (g_J18_init a0 a1) := by
  refine cm_of (by decide +kernel) rfl (Nat.le_of_ble_eq_true rfl) ?_
  show CWF _ 0 0 0 [(0, cR a0), (1, cR a1)] [] _
  unfold g_J18_init
  refine cw_aload_n dJ18_init_0 rfl 0 rfl ?_
  refine cw_aload_n dJ18_init_1 rfl 1 rfl ?_
  refine cw_putP (ci := 15) (j := 3) (C := RJ18) (T := TJ18) (N := 4) rfl (by decide) rfl rfl (Or.inl q307) fSame_rfl (Or.inr ⟨rfl, rfl, rfl⟩) dJ18_init_2 ?_
  refine cw_aload_n dJ18_init_5 rfl 0 rfl ?_
  refine cw_objInit q303 q159 q160 dJ18_init_6 (by decide) (Nat.le_of_ble_eq_true rfl) ?_
  refine cw_aload_n dJ18_init_9 rfl 0 rfl ?_
  refine cw_iconst (v := -1) dJ18_init_10 (by decide) ?_
  refine cw_putI (ci := 15) (j := 1) (C := RJ18) (T := TJ18) (N := 4) rfl (by decide) rfl rfl (Or.inl q305) fSame_rfl (Or.inl rfl) dJ18_init_11 ?_
  refine cw_aload_n dJ18_init_14 rfl 0 rfl ?_
  refine cw_aload_n dJ18_init_15 rfl 0 rfl ?_
  refine cw_getP (ci := 15) (j := 3) (C := RJ18) (T := TJ18) (N := 4) rfl (by decide) rfl rfl (Or.inl q307) fSame_rfl dJ18_init_16 (fun p1 => ?_)
  refine cw_getI (ci := 14) (j := 0) (C := RJ2) (T := TJ2) (N := 3) rfl (by decide) rfl rfl (Or.inl q180) same_modCount dJ18_init_19 (fun x2 => ?_)
  refine cw_putI (ci := 15) (j := 2) (C := RJ18) (T := TJ18) (N := 4) rfl (by decide) rfl rfl (Or.inl q306) fSame_rfl (Or.inl rfl) dJ18_init_22 ?_
  exact cw_vret rfl dJ18_init_25
def g_J2_iterator (a0 : Nat) : GF :=
  newG 35 fun p1 =>
  invV (some (p1, 35)) (g_J18_init p1 a0) <|
  retG (rR p1)
abbrev md_J2_iterator : MD := (yJ2_iterator, cJ2_iterator, 1, (some ((Jvm.ClassFile.FieldType.object "java/util/Iterator"))), RJ2, 11, 1, 4)
theorem hm_J2_iterator : (md_J2_iterator).y.cls ≠ "java/lang/invoke/MethodHandle" ∧ (md_J2_iterator).y.cls ≠ "java/lang/invoke/VarHandle" ∧ (parseMethodDescriptor (md_J2_iterator).y.desc).map (fun d => d.parameters.length) = some 0 := by decide +kernel
theorem m_J2_iterator (a0 : Nat) : CMF md_J2_iterator [cR a0] (g_J2_iterator a0) := by
  refine cm_of (by decide +kernel) rfl (Nat.le_of_ble_eq_true rfl) ?_
  show CWF _ 1 4 0 [(0, cR a0)] [] _
  unfold g_J2_iterator
  refine cw_new (c := 0) (q := 0) (ci := 15) (C := RJ18) (T := TJ18) (N := 4) rfl rfl q298 q299 q134 dJ2_iterator_0 (fun p1 => ?_)
  refine cw_dup dJ2_iterator_3 rfl ?_
  refine cw_aload_n dJ2_iterator_4 rfl 0 rfl ?_
  refine cw_invV (d2 := md_J18_init) (c := 0) (q := 0) (as := [cR p1, cR a0]) (mc := 0) (ms := 0) rfl rfl (okI (n := 1) rfl rfl dJ2_iterator_5 (lw_meth q302) q134 q300 q301 rfl hm_J18_init (by decide) (by decide) (Nat.le_of_ble_eq_true rfl) (by decide)) (m_J18_init p1 a0) rfl ?_
  exact cw_aret rfl rfl dJ2_iterator_8
def g_J18_hasNext (a0 : Nat) : GF :=
  getI 35 a0 0 fun x1 =>
  getP 35 a0 3 fun p2 =>
  getI 34 p2 2 fun x3 =>
  if x1 = x3 then
    retZ 0
  else
    retZ 1
abbrev md_J18_hasNext : MD := (yJ18_hasNext, cJ18_hasNext, 1, (some (Jvm.ClassFile.FieldType.boolean)), RJ18, 10, 0, 0)
theorem hm_J18_hasNext : (md_J18_hasNext).y.cls ≠ "java/lang/invoke/MethodHandle" ∧ (md_J18_hasNext).y.cls ≠ "java/lang/invoke/VarHandle" ∧ (parseMethodDescriptor (md_J18_hasNext).y.desc).map (fun d => d.parameters.length) = some 0 := by decide +kernel
theorem m_J18_hasNext (a0 : Nat) : CMF md_J18_hasNext [cR a0] (g_J18_hasNext a0) := by
  refine cm_of (by decide +kernel) rfl (Nat.le_of_ble_eq_true rfl) ?_
  show CWF _ 0 0 0 [(0, cR a0)] [] _
  unfold g_J18_hasNext
  refine cw_aload_n dJ18_hasNext_0 rfl 0 rfl ?_
  refine cw_getI (ci := 15) (j := 0) (C := RJ18) (T := TJ18) (N := 4) rfl (by decide) rfl rfl (Or.inl q304) fSame_rfl dJ18_hasNext_1 (fun x1 => ?_)
  refine cw_aload_n dJ18_hasNext_4 rfl 0 rfl ?_
  refine cw_getP (ci := 15) (j := 3) (C := RJ18) (T := TJ18) (N := 4) rfl (by decide) rfl rfl (Or.inl q307) fSame_rfl dJ18_hasNext_5 (fun p2 => ?_)
  refine cw_getI (ci := 14) (j := 2) (C := RJ2) (T := TJ2) (N := 3) rfl (by decide) rfl rfl (Or.inr ⟨_, q177⟩) fSame_rfl dJ18_hasNext_8 (fun x3 => ?_)
  refine cw_icmp_eq (tgt := 18) dJ18_hasNext_11 (by decide) ?_ ?_
  · refine cw_iconst (v := 0) dJ18_hasNext_18 (by decide) ?_
    exact cw_zret rfl dJ18_hasNext_19
  · refine cw_iconst (v := 1) dJ18_hasNext_14 (by decide) ?_
    refine cw_goto (tgt := 19) dJ18_hasNext_15 (by decide) ?_
    exact cw_zret rfl dJ18_hasNext_19
def g_J18_checkForComodification (a0 : Nat) : GF :=
  getP 35 a0 3 fun p1 =>
  getI 34 p1 0 fun x2 =>
  getI 35 a0 2 fun x3 =>
  if x2 = x3 then
    retG rV
  else
    noneG
abbrev md_J18_checkForComodification : MD := (yJ18_checkForComodification, cJ18_checkForComodification, 1, none, RJ18, 10, 0, 0)
theorem hm_J18_checkForComodification : (md_J18_checkForComodification).y.cls ≠ "java/lang/invoke/MethodHandle" ∧ (md_J18_checkForComodification).y.cls ≠ "java/lang/invoke/VarHandle" ∧ (parseMethodDescriptor (md_J18_checkForComodification).y.desc).map (fun d => d.parameters.length) = some 0 := by decide +kernel
theorem m_J18_checkForComodification (a0 : Nat) : CMF md_J18_checkForComodification [cR a0] (g_J18_checkForComodification a0) := by
  refine cm_of (by decide +kernel) rfl (Nat.le_of_ble_eq_true rfl) ?_
  show CWF _ 0 0 0 [(0, cR a0)] [] _
  unfold g_J18_checkForComodification
  refine cw_aload_n dJ18_checkForComodification_0 rfl 0 rfl ?_
  refine cw_getP (ci := 15) (j := 3) (C := RJ18) (T := TJ18) (N := 4) rfl (by decide) rfl rfl (Or.inl q307) fSame_rfl dJ18_checkForComodification_1 (fun p1 => ?_)
  refine cw_getI (ci := 14) (j := 0) (C := RJ2) (T := TJ2) (N := 3) rfl (by decide) rfl rfl (Or.inl q180) same_modCount dJ18_checkForComodification_4 (fun x2 => ?_)
  refine cw_aload_n dJ18_checkForComodification_7 rfl 0 rfl ?_
  refine cw_getI (ci := 15) (j := 2) (C := RJ18) (T := TJ18) (N := 4) rfl (by decide) rfl rfl (Or.inl q306) fSame_rfl dJ18_checkForComodification_8 (fun x3 => ?_)
  refine cw_icmp_eq (tgt := 22) dJ18_checkForComodification_11 (by decide) ?_ ?_
  · exact cw_vret rfl dJ18_checkForComodification_22
  · exact cw_none
def g_J18_next (a0 : Nat) : GF :=
  invV (some (a0, 35)) (g_J18_checkForComodification a0) <|
  getI 35 a0 0 fun x1 =>
  getP 35 a0 3 fun p2 =>
  getI 34 p2 2 fun x3 =>
  if x1 < x3 then
    getP 35 a0 3 fun p4 =>
    getP 34 p4 1 fun p5 =>
    alenKG p5 fun x6 =>
    if x1 < x6 then
      putI 35 a0 0 (x1 + 1) <|
      putI 35 a0 1 x1 <|
      aaldG 4 p5 x1 fun x7 =>
      retG (rR x7)
    else
      noneG
  else
    noneG
abbrev md_J18_next : MD := (yJ18_next, cJ18_next, 3, (some ((Jvm.ClassFile.FieldType.object "java/lang/Object"))), RJ18, 11, 0, 0)
theorem hm_J18_next : (md_J18_next).y.cls ≠ "java/lang/invoke/MethodHandle" ∧ (md_J18_next).y.cls ≠ "java/lang/invoke/VarHandle" ∧ (parseMethodDescriptor (md_J18_next).y.desc).map (fun d => d.parameters.length) = some 0 := by decide +kernel
theorem m_J18_next (a0 : Nat) : CMF md_J18_next [cR a0] (g_J18_next a0) := by
  refine cm_of (by decide +kernel) rfl (Nat.le_of_ble_eq_true rfl) ?_
  show CWF _ 0 0 0 [(0, cR a0)] [] _
  unfold g_J18_next
  refine cw_aload_n dJ18_next_0 rfl 0 rfl ?_
  refine cw_invV (d2 := md_J18_checkForComodification) (c := 0) (q := 0) (as := [cR a0]) (mc := 0) (ms := 0) rfl rfl (okV (ci := 15) (C := RJ18) (T0 := TJ18) (N := 4) (n := 0) rfl rfl rfl dJ18_next_1 (lw_V q435 q436 q437 q134 q438) ⟨rfl, hm_J18_checkForComodification⟩ (by decide) (by decide) (Nat.le_of_ble_eq_true rfl)) (m_J18_checkForComodification a0) rfl ?_
  refine cw_aload_n dJ18_next_4 rfl 0 rfl ?_
  refine cw_getI (ci := 15) (j := 0) (C := RJ18) (T := TJ18) (N := 4) rfl (by decide) rfl rfl (Or.inl q304) fSame_rfl dJ18_next_5 (fun x1 => ?_)
  refine cw_istore_n (ls' := [(1, cI x1), (0, cR a0)]) dJ18_next_8 rfl (by decide) rfl ?_
  refine cw_iload_n dJ18_next_9 rfl 0 rfl ?_
  refine cw_aload_n dJ18_next_10 rfl 1 rfl ?_
  refine cw_getP (ci := 15) (j := 3) (C := RJ18) (T := TJ18) (N := 4) rfl (by decide) rfl rfl (Or.inl q307) fSame_rfl dJ18_next_11 (fun p2 => ?_)
  refine cw_getI (ci := 14) (j := 2) (C := RJ2) (T := TJ2) (N := 3) rfl (by decide) rfl rfl (Or.inr ⟨_, q177⟩) fSame_rfl dJ18_next_14 (fun x3 => ?_)
  refine cw_icmp_lt (tgt := 28) dJ18_next_17 (by decide) ?_ ?_
  · refine cw_aload_n dJ18_next_28 rfl 1 rfl ?_
    refine cw_getP (ci := 15) (j := 3) (C := RJ18) (T := TJ18) (N := 4) rfl (by decide) rfl rfl (Or.inl q307) fSame_rfl dJ18_next_29 (fun p4 => ?_)
    refine cw_getP (ci := 14) (j := 1) (C := RJ2) (T := TJ2) (N := 3) rfl (by decide) rfl rfl (Or.inl q176) fSame_rfl dJ18_next_32 (fun p5 => ?_)
    refine cw_astore_n (ls' := [(2, cR p5), (1, cI x1), (0, cR a0)]) dJ18_next_35 rfl (by decide) rfl ?_
    refine cw_iload_n dJ18_next_36 rfl 1 rfl ?_
    refine cw_aload_n dJ18_next_37 rfl 0 rfl ?_
    refine cw_alenK dJ18_next_38 (fun x6 => ?_)
    refine cw_icmp_lt (tgt := 50) dJ18_next_39 (by decide) ?_ ?_
    · refine cw_aload_n dJ18_next_50 rfl 2 rfl ?_
      refine cw_iload_n dJ18_next_51 rfl 1 rfl ?_
      refine cw_iconst (v := 1) dJ18_next_52 (by decide) ?_
      refine cw_iadd dJ18_next_53 ?_
      refine cw_putI (ci := 15) (j := 0) (C := RJ18) (T := TJ18) (N := 4) rfl (by decide) rfl rfl (Or.inl q304) fSame_rfl (Or.inl rfl) dJ18_next_54 ?_
      refine cw_aload_n dJ18_next_57 rfl 0 rfl ?_
      refine cw_aload_n dJ18_next_58 rfl 2 rfl ?_
      refine cw_iload_n dJ18_next_59 rfl 1 rfl ?_
      refine cw_dup_x1 dJ18_next_60 rfl rfl ?_
      refine cw_putI (ci := 15) (j := 1) (C := RJ18) (T := TJ18) (N := 4) rfl (by decide) rfl rfl (Or.inl q305) fSame_rfl (Or.inl rfl) dJ18_next_61 ?_
      refine cw_aald (t := 4) (by decide) dJ18_next_64 (fun x7 => ?_)
      exact cw_aret rfl rfl dJ18_next_65
    · exact cw_none
  · exact cw_none
def g_J21_valueOf (a0 : Int32) : GF :=
  if a0 < (-128 : Int32) then
    noneG
  else if a0 ≤ 127 then
    gsG 4 11 fun p1 =>
    aaldKG p1 (a0 + 128) fun x2 =>
    retG (rR x2)
  else
    noneG
abbrev md_J21_valueOf : MD := (yJ21_valueOf, cJ21_valueOf, 1, (some ((Jvm.ClassFile.FieldType.object "java/lang/Integer"))), RJ21, 10, 0, 0)
theorem hm_J21_valueOf : (md_J21_valueOf).y.cls ≠ "java/lang/invoke/MethodHandle" ∧ (md_J21_valueOf).y.cls ≠ "java/lang/invoke/VarHandle" ∧ (parseMethodDescriptor (md_J21_valueOf).y.desc).map (fun d => d.parameters.length) = some 1 := by decide +kernel
theorem m_J21_valueOf (a0 : Int32) : CMF md_J21_valueOf [cI a0] (g_J21_valueOf a0) := by
  refine cm_of (by decide +kernel) rfl (Nat.le_of_ble_eq_true rfl) ?_
  show CWF _ 0 0 0 [(0, cI a0)] [] _
  unfold g_J21_valueOf
  refine cw_iload_n dJ21_valueOf_0 rfl 0 rfl ?_
  refine cw_bipush (v := -128) dJ21_valueOf_1 (by decide) ?_
  refine cw_icmp_lt (tgt := 23) dJ21_valueOf_3 (by decide) ?_ ?_
  · exact cw_none
  · refine cw_iload_n dJ21_valueOf_6 rfl 0 rfl ?_
    refine cw_gsI (fun γ U H h => h.2.2.2.1.1) q1228 dJ21_valueOf_7 ?_
    refine cw_icmp_gt (tgt := 23) dJ21_valueOf_10 (by decide) ?_ ?_
    · exact cw_none
    · refine cw_gs (a := 4) (t := 11) (by decide) (fun γ U H h => h.2.2.2.1.2.1) q1230 dJ21_valueOf_13 (fun p1 => ?_)
      refine cw_iload_n dJ21_valueOf_16 rfl 0 rfl ?_
      refine cw_sipush (v := 128) dJ21_valueOf_17 (by decide) ?_
      refine cw_iadd dJ21_valueOf_20 ?_
      refine cw_aaldK dJ21_valueOf_21 (fun x2 => ?_)
      exact cw_aret rfl rfl dJ21_valueOf_22
def g_J21_intValue (a0 : Nat) : GF :=
  getI 36 a0 0 fun x1 =>
  retG (rI x1)
abbrev md_J21_intValue : MD := (yJ21_intValue, cJ21_intValue, 1, (some (Jvm.ClassFile.FieldType.int)), RJ21, 10, 0, 0)
theorem hm_J21_intValue : (md_J21_intValue).y.cls ≠ "java/lang/invoke/MethodHandle" ∧ (md_J21_intValue).y.cls ≠ "java/lang/invoke/VarHandle" ∧ (parseMethodDescriptor (md_J21_intValue).y.desc).map (fun d => d.parameters.length) = some 0 := by decide +kernel
theorem m_J21_intValue (a0 : Nat) : CMF md_J21_intValue [cR a0] (g_J21_intValue a0) := by
  refine cm_of (by decide +kernel) rfl (Nat.le_of_ble_eq_true rfl) ?_
  show CWF _ 0 0 0 [(0, cR a0)] [] _
  unfold g_J21_intValue
  refine cw_aload_n dJ21_intValue_0 rfl 0 rfl ?_
  refine cw_getI (ci := 16) (j := 0) (C := RJ21) (T := TJ21) (N := 1) rfl (by decide) rfl rfl (Or.inl q1240) fSame_rfl dJ21_intValue_1 (fun x1 => ?_)
  exact cw_iret rfl dJ21_intValue_4
def g_J21_compare (a0 : Int32) (a1 : Int32) : GF :=
  if a0 < a1 then
    retG (rI (-1 : Int32))
  else if a0 = a1 then
    retG (rI 0)
  else
    retG (rI 1)
abbrev md_J21_compare : MD := (yJ21_compare, cJ21_compare, 2, (some (Jvm.ClassFile.FieldType.int)), RJ21, 10, 0, 0)
theorem hm_J21_compare : (md_J21_compare).y.cls ≠ "java/lang/invoke/MethodHandle" ∧ (md_J21_compare).y.cls ≠ "java/lang/invoke/VarHandle" ∧ (parseMethodDescriptor (md_J21_compare).y.desc).map (fun d => d.parameters.length) = some 2 := by decide +kernel
theorem m_J21_compare (a0 : Int32) (a1 : Int32) : CMF md_J21_compare [cI a0, cI a1] (g_J21_compare a0 a1) := by
  refine cm_of (by decide +kernel) rfl (Nat.le_of_ble_eq_true rfl) ?_
  show CWF _ 0 0 0 [(0, cI a0), (1, cI a1)] [] _
  unfold g_J21_compare
  refine cw_iload_n dJ21_compare_0 rfl 0 rfl ?_
  refine cw_iload_n dJ21_compare_1 rfl 1 rfl ?_
  refine cw_icmp_ge (tgt := 9) dJ21_compare_2 (by decide) ?_ ?_
  · refine cw_iload_n dJ21_compare_9 rfl 0 rfl ?_
    refine cw_iload_n dJ21_compare_10 rfl 1 rfl ?_
    refine cw_icmp_ne (tgt := 18) dJ21_compare_11 (by decide) ?_ ?_
    · refine cw_iconst (v := 1) dJ21_compare_18 (by decide) ?_
      exact cw_iret rfl dJ21_compare_19
    · refine cw_iconst (v := 0) dJ21_compare_14 (by decide) ?_
      refine cw_goto (tgt := 19) dJ21_compare_15 (by decide) ?_
      exact cw_iret rfl dJ21_compare_19
  · refine cw_iconst (v := -1) dJ21_compare_5 (by decide) ?_
    refine cw_goto (tgt := 19) dJ21_compare_6 (by decide) ?_
    exact cw_iret rfl dJ21_compare_19
def g_J21_bitCount (a0 : Int32) : GF :=
  retG (rI ((((((((a0 - ((((a0 : Int32).toUInt32 >>> ((1 : Int32).toUInt32 &&& Int32.toUInt32 31)).toInt32) &&& 1431655765)) &&& 858993459) + (((((a0 - ((((a0 : Int32).toUInt32 >>> ((1 : Int32).toUInt32 &&& Int32.toUInt32 31)).toInt32) &&& 1431655765)) : Int32).toUInt32 >>> ((2 : Int32).toUInt32 &&& Int32.toUInt32 31)).toInt32) &&& 858993459)) + ((((((a0 - ((((a0 : Int32).toUInt32 >>> ((1 : Int32).toUInt32 &&& Int32.toUInt32 31)).toInt32) &&& 1431655765)) &&& 858993459) + (((((a0 - ((((a0 : Int32).toUInt32 >>> ((1 : Int32).toUInt32 &&& Int32.toUInt32 31)).toInt32) &&& 1431655765)) : Int32).toUInt32 >>> ((2 : Int32).toUInt32 &&& Int32.toUInt32 31)).toInt32) &&& 858993459)) : Int32).toUInt32 >>> ((4 : Int32).toUInt32 &&& Int32.toUInt32 31)).toInt32)) &&& 252645135) + ((((((((a0 - ((((a0 : Int32).toUInt32 >>> ((1 : Int32).toUInt32 &&& Int32.toUInt32 31)).toInt32) &&& 1431655765)) &&& 858993459) + (((((a0 - ((((a0 : Int32).toUInt32 >>> ((1 : Int32).toUInt32 &&& Int32.toUInt32 31)).toInt32) &&& 1431655765)) : Int32).toUInt32 >>> ((2 : Int32).toUInt32 &&& Int32.toUInt32 31)).toInt32) &&& 858993459)) + ((((((a0 - ((((a0 : Int32).toUInt32 >>> ((1 : Int32).toUInt32 &&& Int32.toUInt32 31)).toInt32) &&& 1431655765)) &&& 858993459) + (((((a0 - ((((a0 : Int32).toUInt32 >>> ((1 : Int32).toUInt32 &&& Int32.toUInt32 31)).toInt32) &&& 1431655765)) : Int32).toUInt32 >>> ((2 : Int32).toUInt32 &&& Int32.toUInt32 31)).toInt32) &&& 858993459)) : Int32).toUInt32 >>> ((4 : Int32).toUInt32 &&& Int32.toUInt32 31)).toInt32)) &&& 252645135) : Int32).toUInt32 >>> ((8 : Int32).toUInt32 &&& Int32.toUInt32 31)).toInt32)) + (((((((((a0 - ((((a0 : Int32).toUInt32 >>> ((1 : Int32).toUInt32 &&& Int32.toUInt32 31)).toInt32) &&& 1431655765)) &&& 858993459) + (((((a0 - ((((a0 : Int32).toUInt32 >>> ((1 : Int32).toUInt32 &&& Int32.toUInt32 31)).toInt32) &&& 1431655765)) : Int32).toUInt32 >>> ((2 : Int32).toUInt32 &&& Int32.toUInt32 31)).toInt32) &&& 858993459)) + ((((((a0 - ((((a0 : Int32).toUInt32 >>> ((1 : Int32).toUInt32 &&& Int32.toUInt32 31)).toInt32) &&& 1431655765)) &&& 858993459) + (((((a0 - ((((a0 : Int32).toUInt32 >>> ((1 : Int32).toUInt32 &&& Int32.toUInt32 31)).toInt32) &&& 1431655765)) : Int32).toUInt32 >>> ((2 : Int32).toUInt32 &&& Int32.toUInt32 31)).toInt32) &&& 858993459)) : Int32).toUInt32 >>> ((4 : Int32).toUInt32 &&& Int32.toUInt32 31)).toInt32)) &&& 252645135) + ((((((((a0 - ((((a0 : Int32).toUInt32 >>> ((1 : Int32).toUInt32 &&& Int32.toUInt32 31)).toInt32) &&& 1431655765)) &&& 858993459) + (((((a0 - ((((a0 : Int32).toUInt32 >>> ((1 : Int32).toUInt32 &&& Int32.toUInt32 31)).toInt32) &&& 1431655765)) : Int32).toUInt32 >>> ((2 : Int32).toUInt32 &&& Int32.toUInt32 31)).toInt32) &&& 858993459)) + ((((((a0 - ((((a0 : Int32).toUInt32 >>> ((1 : Int32).toUInt32 &&& Int32.toUInt32 31)).toInt32) &&& 1431655765)) &&& 858993459) + (((((a0 - ((((a0 : Int32).toUInt32 >>> ((1 : Int32).toUInt32 &&& Int32.toUInt32 31)).toInt32) &&& 1431655765)) : Int32).toUInt32 >>> ((2 : Int32).toUInt32 &&& Int32.toUInt32 31)).toInt32) &&& 858993459)) : Int32).toUInt32 >>> ((4 : Int32).toUInt32 &&& Int32.toUInt32 31)).toInt32)) &&& 252645135) : Int32).toUInt32 >>> ((8 : Int32).toUInt32 &&& Int32.toUInt32 31)).toInt32)) : Int32).toUInt32 >>> ((16 : Int32).toUInt32 &&& Int32.toUInt32 31)).toInt32)) &&& 63))
abbrev md_J21_bitCount : MD := (yJ21_bitCount, cJ21_bitCount, 1, (some (Jvm.ClassFile.FieldType.int)), RJ21, 10, 0, 0)
theorem hm_J21_bitCount : (md_J21_bitCount).y.cls ≠ "java/lang/invoke/MethodHandle" ∧ (md_J21_bitCount).y.cls ≠ "java/lang/invoke/VarHandle" ∧ (parseMethodDescriptor (md_J21_bitCount).y.desc).map (fun d => d.parameters.length) = some 1 := by decide +kernel
theorem m_J21_bitCount (a0 : Int32) : CMF md_J21_bitCount [cI a0] (g_J21_bitCount a0) := by
  refine cm_of (by decide +kernel) rfl (Nat.le_of_ble_eq_true rfl) ?_
  show CWF _ 0 0 0 [(0, cI a0)] [] _
  unfold g_J21_bitCount
  refine cw_iload_n dJ21_bitCount_0 rfl 0 rfl ?_
  refine cw_iload_n dJ21_bitCount_1 rfl 0 rfl ?_
  refine cw_iconst (v := 1) dJ21_bitCount_2 (by decide) ?_
  refine cw_iushr dJ21_bitCount_3 ?_
  refine cw_ldcw (v := 1431655765) dJ21_bitCount_4 q1403 ?_
  refine cw_iand dJ21_bitCount_7 ?_
  refine cw_isub dJ21_bitCount_8 ?_
  refine cw_istore_n (ls' := [(0, cI (a0 - ((((a0 : Int32).toUInt32 >>> ((1 : Int32).toUInt32 &&& Int32.toUInt32 31)).toInt32) &&& 1431655765)))]) dJ21_bitCount_9 rfl (by decide) rfl ?_
  refine cw_iload_n dJ21_bitCount_10 rfl 0 rfl ?_
  refine cw_ldcw (v := 858993459) dJ21_bitCount_11 q1404 ?_
  refine cw_iand dJ21_bitCount_14 ?_
  refine cw_iload_n dJ21_bitCount_15 rfl 0 rfl ?_
  refine cw_iconst (v := 2) dJ21_bitCount_16 (by decide) ?_
  refine cw_iushr dJ21_bitCount_17 ?_
  refine cw_ldcw (v := 858993459) dJ21_bitCount_18 q1404 ?_
  refine cw_iand dJ21_bitCount_21 ?_
  refine cw_iadd dJ21_bitCount_22 ?_
  refine cw_istore_n (ls' := [(0, cI (((a0 - ((((a0 : Int32).toUInt32 >>> ((1 : Int32).toUInt32 &&& Int32.toUInt32 31)).toInt32) &&& 1431655765)) &&& 858993459) + (((((a0 - ((((a0 : Int32).toUInt32 >>> ((1 : Int32).toUInt32 &&& Int32.toUInt32 31)).toInt32) &&& 1431655765)) : Int32).toUInt32 >>> ((2 : Int32).toUInt32 &&& Int32.toUInt32 31)).toInt32) &&& 858993459)))]) dJ21_bitCount_23 rfl (by decide) rfl ?_
  refine cw_iload_n dJ21_bitCount_24 rfl 0 rfl ?_
  refine cw_iload_n dJ21_bitCount_25 rfl 0 rfl ?_
  refine cw_iconst (v := 4) dJ21_bitCount_26 (by decide) ?_
  refine cw_iushr dJ21_bitCount_27 ?_
  refine cw_iadd dJ21_bitCount_28 ?_
  refine cw_ldcw (v := 252645135) dJ21_bitCount_29 q1405 ?_
  refine cw_iand dJ21_bitCount_32 ?_
  refine cw_istore_n (ls' := [(0, cI (((((a0 - ((((a0 : Int32).toUInt32 >>> ((1 : Int32).toUInt32 &&& Int32.toUInt32 31)).toInt32) &&& 1431655765)) &&& 858993459) + (((((a0 - ((((a0 : Int32).toUInt32 >>> ((1 : Int32).toUInt32 &&& Int32.toUInt32 31)).toInt32) &&& 1431655765)) : Int32).toUInt32 >>> ((2 : Int32).toUInt32 &&& Int32.toUInt32 31)).toInt32) &&& 858993459)) + ((((((a0 - ((((a0 : Int32).toUInt32 >>> ((1 : Int32).toUInt32 &&& Int32.toUInt32 31)).toInt32) &&& 1431655765)) &&& 858993459) + (((((a0 - ((((a0 : Int32).toUInt32 >>> ((1 : Int32).toUInt32 &&& Int32.toUInt32 31)).toInt32) &&& 1431655765)) : Int32).toUInt32 >>> ((2 : Int32).toUInt32 &&& Int32.toUInt32 31)).toInt32) &&& 858993459)) : Int32).toUInt32 >>> ((4 : Int32).toUInt32 &&& Int32.toUInt32 31)).toInt32)) &&& 252645135))]) dJ21_bitCount_33 rfl (by decide) rfl ?_
  refine cw_iload_n dJ21_bitCount_34 rfl 0 rfl ?_
  refine cw_iload_n dJ21_bitCount_35 rfl 0 rfl ?_
  refine cw_bipush (v := 8) dJ21_bitCount_36 (by decide) ?_
  refine cw_iushr dJ21_bitCount_38 ?_
  refine cw_iadd dJ21_bitCount_39 ?_
  refine cw_istore_n (ls' := [(0, cI ((((((a0 - ((((a0 : Int32).toUInt32 >>> ((1 : Int32).toUInt32 &&& Int32.toUInt32 31)).toInt32) &&& 1431655765)) &&& 858993459) + (((((a0 - ((((a0 : Int32).toUInt32 >>> ((1 : Int32).toUInt32 &&& Int32.toUInt32 31)).toInt32) &&& 1431655765)) : Int32).toUInt32 >>> ((2 : Int32).toUInt32 &&& Int32.toUInt32 31)).toInt32) &&& 858993459)) + ((((((a0 - ((((a0 : Int32).toUInt32 >>> ((1 : Int32).toUInt32 &&& Int32.toUInt32 31)).toInt32) &&& 1431655765)) &&& 858993459) + (((((a0 - ((((a0 : Int32).toUInt32 >>> ((1 : Int32).toUInt32 &&& Int32.toUInt32 31)).toInt32) &&& 1431655765)) : Int32).toUInt32 >>> ((2 : Int32).toUInt32 &&& Int32.toUInt32 31)).toInt32) &&& 858993459)) : Int32).toUInt32 >>> ((4 : Int32).toUInt32 &&& Int32.toUInt32 31)).toInt32)) &&& 252645135) + ((((((((a0 - ((((a0 : Int32).toUInt32 >>> ((1 : Int32).toUInt32 &&& Int32.toUInt32 31)).toInt32) &&& 1431655765)) &&& 858993459) + (((((a0 - ((((a0 : Int32).toUInt32 >>> ((1 : Int32).toUInt32 &&& Int32.toUInt32 31)).toInt32) &&& 1431655765)) : Int32).toUInt32 >>> ((2 : Int32).toUInt32 &&& Int32.toUInt32 31)).toInt32) &&& 858993459)) + ((((((a0 - ((((a0 : Int32).toUInt32 >>> ((1 : Int32).toUInt32 &&& Int32.toUInt32 31)).toInt32) &&& 1431655765)) &&& 858993459) + (((((a0 - ((((a0 : Int32).toUInt32 >>> ((1 : Int32).toUInt32 &&& Int32.toUInt32 31)).toInt32) &&& 1431655765)) : Int32).toUInt32 >>> ((2 : Int32).toUInt32 &&& Int32.toUInt32 31)).toInt32) &&& 858993459)) : Int32).toUInt32 >>> ((4 : Int32).toUInt32 &&& Int32.toUInt32 31)).toInt32)) &&& 252645135) : Int32).toUInt32 >>> ((8 : Int32).toUInt32 &&& Int32.toUInt32 31)).toInt32)))]) dJ21_bitCount_40 rfl (by decide) rfl ?_
  refine cw_iload_n dJ21_bitCount_41 rfl 0 rfl ?_
  refine cw_iload_n dJ21_bitCount_42 rfl 0 rfl ?_
  refine cw_bipush (v := 16) dJ21_bitCount_43 (by decide) ?_
  refine cw_iushr dJ21_bitCount_45 ?_
  refine cw_iadd dJ21_bitCount_46 ?_
  refine cw_istore_n (ls' := [(0, cI (((((((a0 - ((((a0 : Int32).toUInt32 >>> ((1 : Int32).toUInt32 &&& Int32.toUInt32 31)).toInt32) &&& 1431655765)) &&& 858993459) + (((((a0 - ((((a0 : Int32).toUInt32 >>> ((1 : Int32).toUInt32 &&& Int32.toUInt32 31)).toInt32) &&& 1431655765)) : Int32).toUInt32 >>> ((2 : Int32).toUInt32 &&& Int32.toUInt32 31)).toInt32) &&& 858993459)) + ((((((a0 - ((((a0 : Int32).toUInt32 >>> ((1 : Int32).toUInt32 &&& Int32.toUInt32 31)).toInt32) &&& 1431655765)) &&& 858993459) + (((((a0 - ((((a0 : Int32).toUInt32 >>> ((1 : Int32).toUInt32 &&& Int32.toUInt32 31)).toInt32) &&& 1431655765)) : Int32).toUInt32 >>> ((2 : Int32).toUInt32 &&& Int32.toUInt32 31)).toInt32) &&& 858993459)) : Int32).toUInt32 >>> ((4 : Int32).toUInt32 &&& Int32.toUInt32 31)).toInt32)) &&& 252645135) + ((((((((a0 - ((((a0 : Int32).toUInt32 >>> ((1 : Int32).toUInt32 &&& Int32.toUInt32 31)).toInt32) &&& 1431655765)) &&& 858993459) + (((((a0 - ((((a0 : Int32).toUInt32 >>> ((1 : Int32).toUInt32 &&& Int32.toUInt32 31)).toInt32) &&& 1431655765)) : Int32).toUInt32 >>> ((2 : Int32).toUInt32 &&& Int32.toUInt32 31)).toInt32) &&& 858993459)) + ((((((a0 - ((((a0 : Int32).toUInt32 >>> ((1 : Int32).toUInt32 &&& Int32.toUInt32 31)).toInt32) &&& 1431655765)) &&& 858993459) + (((((a0 - ((((a0 : Int32).toUInt32 >>> ((1 : Int32).toUInt32 &&& Int32.toUInt32 31)).toInt32) &&& 1431655765)) : Int32).toUInt32 >>> ((2 : Int32).toUInt32 &&& Int32.toUInt32 31)).toInt32) &&& 858993459)) : Int32).toUInt32 >>> ((4 : Int32).toUInt32 &&& Int32.toUInt32 31)).toInt32)) &&& 252645135) : Int32).toUInt32 >>> ((8 : Int32).toUInt32 &&& Int32.toUInt32 31)).toInt32)) + (((((((((a0 - ((((a0 : Int32).toUInt32 >>> ((1 : Int32).toUInt32 &&& Int32.toUInt32 31)).toInt32) &&& 1431655765)) &&& 858993459) + (((((a0 - ((((a0 : Int32).toUInt32 >>> ((1 : Int32).toUInt32 &&& Int32.toUInt32 31)).toInt32) &&& 1431655765)) : Int32).toUInt32 >>> ((2 : Int32).toUInt32 &&& Int32.toUInt32 31)).toInt32) &&& 858993459)) + ((((((a0 - ((((a0 : Int32).toUInt32 >>> ((1 : Int32).toUInt32 &&& Int32.toUInt32 31)).toInt32) &&& 1431655765)) &&& 858993459) + (((((a0 - ((((a0 : Int32).toUInt32 >>> ((1 : Int32).toUInt32 &&& Int32.toUInt32 31)).toInt32) &&& 1431655765)) : Int32).toUInt32 >>> ((2 : Int32).toUInt32 &&& Int32.toUInt32 31)).toInt32) &&& 858993459)) : Int32).toUInt32 >>> ((4 : Int32).toUInt32 &&& Int32.toUInt32 31)).toInt32)) &&& 252645135) + ((((((((a0 - ((((a0 : Int32).toUInt32 >>> ((1 : Int32).toUInt32 &&& Int32.toUInt32 31)).toInt32) &&& 1431655765)) &&& 858993459) + (((((a0 - ((((a0 : Int32).toUInt32 >>> ((1 : Int32).toUInt32 &&& Int32.toUInt32 31)).toInt32) &&& 1431655765)) : Int32).toUInt32 >>> ((2 : Int32).toUInt32 &&& Int32.toUInt32 31)).toInt32) &&& 858993459)) + ((((((a0 - ((((a0 : Int32).toUInt32 >>> ((1 : Int32).toUInt32 &&& Int32.toUInt32 31)).toInt32) &&& 1431655765)) &&& 858993459) + (((((a0 - ((((a0 : Int32).toUInt32 >>> ((1 : Int32).toUInt32 &&& Int32.toUInt32 31)).toInt32) &&& 1431655765)) : Int32).toUInt32 >>> ((2 : Int32).toUInt32 &&& Int32.toUInt32 31)).toInt32) &&& 858993459)) : Int32).toUInt32 >>> ((4 : Int32).toUInt32 &&& Int32.toUInt32 31)).toInt32)) &&& 252645135) : Int32).toUInt32 >>> ((8 : Int32).toUInt32 &&& Int32.toUInt32 31)).toInt32)) : Int32).toUInt32 >>> ((16 : Int32).toUInt32 &&& Int32.toUInt32 31)).toInt32)))]) dJ21_bitCount_47 rfl (by decide) rfl ?_
  refine cw_iload_n dJ21_bitCount_48 rfl 0 rfl ?_
  refine cw_bipush (v := 63) dJ21_bitCount_49 (by decide) ?_
  refine cw_iand dJ21_bitCount_51 ?_
  exact cw_iret rfl dJ21_bitCount_52
