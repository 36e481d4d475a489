/-! SCRUTINEERY: its methods, part 2 -/
set_option maxRecDepth 100000
def g_X9_are (a0 : Nat) (a1 : Nat) (a2 : Nat) : GF :=
  getP 28 a0 0 fun p1 =>
  jnG (fun (_ : Unit) =>
    getP 28 a0 0 fun p2 =>
    acG p2 a2
      (getP 28 a0 1 fun p3 =>
        acG p3 a1
          (retZ 1)
          (retZ 0))
      (retZ 0)) fun J4 =>
  acG p1 a1
    (getP 28 a0 1 fun p5 =>
      acG p5 a2
        (retZ 1)
        (J4 ()))
    (J4 ())
abbrev md_X9_are : MD := (yX9_are, cX9_are, 3, (some (Jvm.ClassFile.FieldType.boolean)), RX9, 10, 0, 0)
theorem hm_X9_are : (md_X9_are).y.cls ≠ "java/lang/invoke/MethodHandle" ∧ (md_X9_are).y.cls ≠ "java/lang/invoke/VarHandle" ∧ (parseMethodDescriptor (md_X9_are).y.desc).map (fun d => d.parameters.length) = some 2 := by decide +kernel
theorem m_X9_are (a0 : Nat) (a1 : Nat) (a2 : Nat) : CMF md_X9_are [cR a0, cR a1, cR a2] (g_X9_are a0 a1 a2) := by
  refine cm_of (by decide +kernel) rfl (Nat.le_of_ble_eq_true rfl) ?_
  show CWF _ 0 0 0 [(0, cR a0), (1, cR a1), (2, cR a2)] [] _
  unfold g_X9_are
  refine cw_aload_n dX9_are_0 rfl 0 rfl ?_
  refine cw_getP (ci := 8) (j := 0) (C := RX9) (T := TX9) (N := 2) rfl (by decide) rfl rfl (Or.inl q1318) fSame_rfl dX9_are_1 (fun p1 => ?_)
  refine cw_aload_n dX9_are_4 rfl 1 rfl ?_
  refine cw_jn (cj := 0) (kj := 0) (pcj := 16) (lsf := fun (s : Unit) => [(0, cR a0), (1, cR a1), (2, cR a2)]) (stf := fun (s : Unit) => []) (fun s => ?_) (fun J4 hJ4 => ?_)
  · show CWF _ _ _ 16 [(0, cR a0), (1, cR a1), (2, cR a2)] [] _
    refine cw_aload_n dX9_are_16 rfl 0 rfl ?_
    refine cw_getP (ci := 8) (j := 0) (C := RX9) (T := TX9) (N := 2) rfl (by decide) rfl rfl (Or.inl q1318) fSame_rfl dX9_are_17 (fun p2 => ?_)
    refine cw_aload_n dX9_are_20 rfl 2 rfl ?_
    refine cw_acmp_ne (tgt := 36) dX9_are_21 (by decide) ?_ ?_
    · refine cw_iconst (v := 0) dX9_are_36 (by decide) ?_
      exact cw_zret rfl dX9_are_37
    · refine cw_aload_n dX9_are_24 rfl 0 rfl ?_
      refine cw_getP (ci := 8) (j := 1) (C := RX9) (T := TX9) (N := 2) rfl (by decide) rfl rfl (Or.inl q1319) fSame_rfl dX9_are_25 (fun p3 => ?_)
      refine cw_aload_n dX9_are_28 rfl 1 rfl ?_
      refine cw_acmp_ne (tgt := 36) dX9_are_29 (by decide) ?_ ?_
      · refine cw_iconst (v := 0) dX9_are_36 (by decide) ?_
        exact cw_zret rfl dX9_are_37
      · refine cw_iconst (v := 1) dX9_are_32 (by decide) ?_
        refine cw_goto (tgt := 37) dX9_are_33 (by decide) ?_
        exact cw_zret rfl dX9_are_37
  · refine cw_acmp_ne (tgt := 16) dX9_are_5 (by decide) ?_ ?_
    · exact hJ4 ()
    · refine cw_aload_n dX9_are_8 rfl 0 rfl ?_
      refine cw_getP (ci := 8) (j := 1) (C := RX9) (T := TX9) (N := 2) rfl (by decide) rfl rfl (Or.inl q1319) fSame_rfl dX9_are_9 (fun p5 => ?_)
      refine cw_aload_n dX9_are_12 rfl 2 rfl ?_
      refine cw_acmp_eq (tgt := 32) dX9_are_13 (by decide) ?_ ?_
      · refine cw_iconst (v := 1) dX9_are_32 (by decide) ?_
        refine cw_goto (tgt := 37) dX9_are_33 (by decide) ?_
        exact cw_zret rfl dX9_are_37
      · exact hJ4 ()
def b_X6_areApart_5 (a0 : Nat) (a1 : Nat) (a2 : Nat) (rec3 : (Int32 × Int32) → GF) : (Int32 × Int32) → GF := fun (s : Int32 × Int32) => match s with
  | (l1, l2) =>
    getP 25 a0 9 fun p4 =>
    invI (some (p4, 8)) (s_size p4) fun x5 =>
    if l2 < x5 then
      getP 25 a0 9 fun p6 =>
      invP (some (p6, 8)) (s_get p6 l2) fun p7 =>
      castG 28 p7 <|
      invI (some (p7, 28)) (g_X9_are p7 a1 a2) fun x8 =>
      rec3 ((l1 ||| x8), (l2 + 1))
    else
      retZ l1
def g_X6_areApart (a0 : Nat) (a1 : Nat) (a2 : Nat) : GF :=
  loopG (b_X6_areApart_5 a0 a1 a2) FU (0, 0)
abbrev md_X6_areApart : MD := (yX6_areApart, cX6_areApart, 5, (some (Jvm.ClassFile.FieldType.boolean)), RX6, 13, 0, 0)
theorem hm_X6_areApart : (md_X6_areApart).y.cls ≠ "java/lang/invoke/MethodHandle" ∧ (md_X6_areApart).y.cls ≠ "java/lang/invoke/VarHandle" ∧ (parseMethodDescriptor (md_X6_areApart).y.desc).map (fun d => d.parameters.length) = some 2 := by decide +kernel
theorem m_X6_areApart (a0 : Nat) (a1 : Nat) (a2 : Nat) : CMF md_X6_areApart [cR a0, cR a1, cR a2] (g_X6_areApart a0 a1 a2) := by
  refine cm_of (by decide +kernel) rfl (Nat.le_of_ble_eq_true rfl) ?_
  show CWF _ 0 0 0 [(0, cR a0), (1, cR a1), (2, cR a2)] [] _
  unfold g_X6_areApart
  refine cw_iconst (v := 0) dX6_areApart_0 (by decide) ?_
  refine cw_istore_n (ls' := [(3, cI 0), (0, cR a0), (1, cR a1), (2, cR a2)]) dX6_areApart_1 rfl (by decide) rfl ?_
  refine cw_iconst (v := 0) dX6_areApart_2 (by decide) ?_
  refine cw_istore (ls' := [(4, cI 0), (3, cI 0), (0, cR a0), (1, cR a1), (2, cR a2)]) dX6_areApart_3 (by decide) rfl ?_
  refine cw_sub (ls' := [(0, cR a0), (1, cR a1), (2, cR a2), (3, cI 0), (4, cI 0)]) [2, 3, 4, 1, 0] rfl ?_
  refine cw_loop0 (lsf := fun (s : Int32 × Int32) => [(0, cR a0), (1, cR a1), (2, cR a2), (3, cI s.1), (4, cI s.2)]) (fun rec3 hrec3 s => ?_) FU (0, 0)
  obtain ⟨l1, l2⟩ := s
  show CWF _ _ _ 5 [(0, cR a0), (1, cR a1), (2, cR a2), (3, cI l1), (4, cI l2)] [] _
  dsimp only [b_X6_areApart_5]
  refine cw_iload dX6_areApart_5 4 rfl ?_
  refine cw_aload_n dX6_areApart_7 rfl 0 rfl ?_
  refine cw_getP (ci := 5) (j := 9) (C := RX6) (T := TX6) (N := 19) rfl (by decide) rfl rfl (Or.inl q1103) fSame_rfl dX6_areApart_8 (fun p4 => ?_)
  refine cw_invI (d2 := md_J2_size) (c := 0) (q := 0) (as := [cR p4]) (mc := 0) (ms := 0) rfl rfl (okF (x := ⟨"java/util/List", "size", "()I"⟩) (ci := 14) (C := RJ2) (T0 := TJ2) (N := 3) (n := 0) rfl (Or.inr ⟨rfl, rfl⟩) rfl dX6_areApart_11 (lw_F q545 q251 q249 q114 q253) (List.mem_iff_getElem?.mpr ⟨1, rfl⟩) (show ("java/util/List" : String) ≠ _ ∧ ("java/util/List" : String) ≠ _ ∧ (parseMethodDescriptor (md_J2_size).y.desc).map (fun d => d.parameters.length) = some 0 from ⟨by decide, by decide, (hm_J2_size).2.2⟩) (by decide) (by decide) (Nat.le_of_ble_eq_true rfl)) (c_size p4) rfl (fun x5 => ?_)
  refine cw_icmp_ge (tgt := 47) dX6_areApart_16 (by decide) ?_ ?_
  · refine cw_iload_n dX6_areApart_47 rfl 3 rfl ?_
    exact cw_zret rfl dX6_areApart_48
  · refine cw_iload_n dX6_areApart_19 rfl 3 rfl ?_
    refine cw_aload_n dX6_areApart_20 rfl 0 rfl ?_
    refine cw_getP (ci := 5) (j := 9) (C := RX6) (T := TX6) (N := 19) rfl (by decide) rfl rfl (Or.inl q1103) fSame_rfl dX6_areApart_21 (fun p6 => ?_)
    refine cw_iload dX6_areApart_24 4 rfl ?_
    refine cw_invP (d2 := md_J2_get) (c := 0) (q := 0) (as := [cR p6, cI l2]) (mc := 0) (ms := 0) rfl rfl (okF (x := ⟨"java/util/List", "get", "(I)Ljava/lang/Object;"⟩) (ci := 14) (C := RJ2) (T0 := TJ2) (N := 3) (n := 1) rfl (Or.inr ⟨rfl, rfl⟩) rfl dX6_areApart_26 (lw_F q549 q267 q265 q114 q269) (List.mem_iff_getElem?.mpr ⟨2, rfl⟩) (show ("java/util/List" : String) ≠ _ ∧ ("java/util/List" : String) ≠ _ ∧ (parseMethodDescriptor (md_J2_get).y.desc).map (fun d => d.parameters.length) = some 1 from ⟨by decide, by decide, (hm_J2_get).2.2⟩) (by decide) (by decide) (Nat.le_of_ble_eq_true rfl)) (c_get p6 l2) rfl (fun p7 => ?_)
    refine cw_cast (ci := 8) (T := TX9) (N := 2) (C := RX9) rfl rfl q1336 (Or.inl rfl) dX6_areApart_31 ?_
    refine cw_aload_n dX6_areApart_34 rfl 1 rfl ?_
    refine cw_aload_n dX6_areApart_35 rfl 2 rfl ?_
    refine cw_invI (d2 := md_X9_are) (c := 0) (q := 0) (as := [cR p7, cR a1, cR a2]) (mc := 0) (ms := 0) rfl rfl (okV (ci := 8) (C := RX9) (T0 := TX9) (N := 2) (n := 2) rfl rfl rfl dX6_areApart_36 (lw_V q1337 q1338 q1339 q143 q1340) ⟨rfl, hm_X9_are⟩ (by decide) (by decide) (Nat.le_of_ble_eq_true rfl)) (m_X9_are p7 a1 a2) rfl (fun x8 => ?_)
    refine cw_ior dX6_areApart_39 ?_
    refine cw_istore_n (ls' := [(3, cI (l1 ||| x8)), (0, cR a0), (1, cR a1), (2, cR a2), (4, cI l2)]) dX6_areApart_40 rfl (by decide) rfl ?_
    refine cw_iinc (v := (l2 + 1)) (ls' := [(4, cI (l2 + 1)), (3, cI (l1 ||| x8)), (0, cR a0), (1, cR a1), (2, cR a2)]) dX6_areApart_41 4 rfl rfl (by decide) rfl ?_
    refine cw_goto (tgt := 5) dX6_areApart_44 (by decide) ?_
    refine cw_sub (ls' := [(0, cR a0), (1, cR a1), (2, cR a2), (3, cI (l1 ||| x8)), (4, cI (l2 + 1))]) [2, 3, 4, 1, 0] rfl ?_
    exact hrec3 ((l1 ||| x8), (l2 + 1))
def b_X6_heats_169 (a0 : Nat) (p16 : Nat) (J27 : Nat → GF) (l28 : Nat) (rec29 : Nat → GF) (p31 : Nat) (m33 : Int32) (rec35 : Nat → GF) : Nat → GF := fun (l34 : Nat) =>
  hasG p31 l34 fun x36 =>
  if x36 = 0 then
    J27 p31
  else
    nextG p31 m33 l34 fun p37 =>
    castG 27 p37 <|
    invI (some (a0, 25)) (g_X6_areApart a0 p16 p37) fun x38 =>
    if x38 = 0 then
      rec35 (l34 + 1)
    else
      rec29 (l28 + 1)
def b_X6_heats_123 (a0 : Nat) (p1 : Nat) (x7 : Int32) (p16 : Nat) (m17 : Int32) (J24 : Unit → GF) (J27 : Nat → GF) (rec29 : Nat → GF) : Nat → GF := fun (l28 : Nat) =>
  hasG p1 l28 fun x30 =>
  if x30 = 0 then
    J24 ()
  else
    nextG p1 m17 l28 fun p31 =>
    castG 8 p31 <|
    invI (some (p31, 8)) (s_size p31) fun x32 =>
    if x32 < x7 then
      itG p31 fun m33 =>
      loopG (b_X6_heats_169 a0 p16 J27 l28 rec29 p31 m33) FU 0
    else
      rec29 (l28 + 1)
def b_X6_heats_93 (a0 : Nat) (p1 : Nat) (x7 : Int32) (p10 : Nat) (m11 : Int32) (rec14 : (Int32 × Nat) → GF) : (Int32 × Nat) → GF := fun (s : Int32 × Nat) => match s with
  | (l12, l13) =>
    hasG p10 l13 fun x15 =>
    if x15 = 0 then
      retG (rR p1)
    else
      nextG p10 m11 l13 fun p16 =>
      castG 27 p16 <|
      itG p1 fun m17 =>
      jnG (fun (_ : Unit) =>
        newG 34 fun p18 =>
        invV (some (p18, 34)) (s_init p18) <|
        invI (some (p18, 8)) (s_add p18 p16) fun x19 =>
        jnG (fun (v20 : Int32) =>
          rec14 ((l12 &&& v20), (l13 + 1))) fun J21 =>
        jnG (fun (_ : Unit) =>
          J21 0) fun J22 =>
        if x19 = 0 then
          J22 ()
        else
          invI (some (p1, 8)) (s_add p1 p18) fun x23 =>
          if x23 = 0 then
            J22 ()
          else
            J21 1) fun J24 =>
      jnG (fun (v25 : Nat) =>
        invI (some (v25, 8)) (s_add v25 p16) fun x26 =>
        rec14 ((l12 &&& x26), (l13 + 1))) fun J27 =>
      loopG (b_X6_heats_123 a0 p1 x7 p16 m17 J24 J27) 26 0
def b_X6_heats_50 (p1 : Nat) (x6 : Int32) (J39 : Int32 → GF) (rec42 : (Int32 × Int32) → GF) : (Int32 × Int32) → GF := fun (s : Int32 × Int32) => match s with
  | (l40, l41) =>
    if l41 < x6 then
      newG 34 fun p43 =>
      invV (some (p43, 34)) (s_init p43) <|
      invI (some (p1, 8)) (s_add p1 p43) fun x44 =>
      rec42 ((l40 &&& x44), (l41 + 1))
    else
      J39 l40
def g_X6_heats (a0 : Nat) : GF :=
  newG 34 fun p1 =>
  invV (some (p1, 34)) (s_init p1) <|
  getP 25 a0 18 fun p2 =>
  getP 26 p2 2 fun p3 =>
  invI (some (p3, 8)) (s_size p3) fun x4 =>
  if x4 = 0 then
    retG (rR p1)
  else
    getI 25 a0 10 fun x5 =>
    invI none (g_X1_up x4 x5) fun x6 =>
    invI none (g_X1_up x4 x6) fun x7 =>
    jnG (fun (v8 : Int32) =>
      getP 25 a0 18 fun p9 =>
      getP 26 p9 2 fun p10 =>
      itG p10 fun m11 =>
      loopG (b_X6_heats_93 a0 p1 x7 p10 m11) 26 (v8, 0)) fun J39 =>
    loopG (b_X6_heats_50 p1 x6 J39) 26 (1, 0)
abbrev md_X6_heats : MD := (yX6_heats, cX6_heats, 12, (some ((Jvm.ClassFile.FieldType.object "java/util/List"))), RX6, 16, 834, 7963)
theorem hm_X6_heats : (md_X6_heats).y.cls ≠ "java/lang/invoke/MethodHandle" ∧ (md_X6_heats).y.cls ≠ "java/lang/invoke/VarHandle" ∧ (parseMethodDescriptor (md_X6_heats).y.desc).map (fun d => d.parameters.length) = some 0 := by decide +kernel
theorem m_X6_heats (a0 : Nat) : CMF md_X6_heats [cR a0] (g_X6_heats a0) := by
  refine cm_of (by decide +kernel) rfl (Nat.le_of_ble_eq_true rfl) ?_
  show CWF _ 834 7963 0 [(0, cR a0)] [] _
  unfold g_X6_heats
  refine cw_new (c := 833) (q := 7960) (ci := 14) (C := RJ2) (T := TJ2) (N := 3) rfl rfl q546 q162 q114 dX6_heats_0 (fun p1 => ?_)
  refine cw_dup dX6_heats_3 rfl ?_
  refine cw_invV (d2 := md_J2_init) (c := 833) (q := 7960) (as := [cR p1]) (mc := 0) (ms := 0) rfl rfl (okI (n := 0) rfl rfl dX6_heats_4 (lw_meth q165) q114 q547 q164 rfl hm_J2_init (by decide) (by decide) (Nat.le_of_ble_eq_true rfl) (by decide)) (c_init p1) rfl ?_
  refine cw_astore_n (ls' := [(1, cR p1), (0, cR a0)]) dX6_heats_7 rfl (by decide) rfl ?_
  refine cw_iconst (v := 1) dX6_heats_8 (by decide) ?_
  refine cw_istore_n (ls' := [(2, cI 1), (1, cR p1), (0, cR a0)]) dX6_heats_9 rfl (by decide) rfl ?_
  refine cw_aload_n dX6_heats_10 rfl 2 rfl ?_
  refine cw_getP (ci := 5) (j := 18) (C := RX6) (T := TX6) (N := 19) rfl (by decide) rfl rfl (Or.inl q1118) fSame_rfl dX6_heats_11 (fun p2 => ?_)
  refine cw_getP (ci := 6) (j := 2) (C := RX7) (T := TX7) (N := 5) rfl (by decide) rfl rfl (Or.inr ⟨_, q1067⟩) fSame_rfl dX6_heats_14 (fun p3 => ?_)
  refine cw_invI (d2 := md_J2_size) (c := 833) (q := 7960) (as := [cR p3]) (mc := 0) (ms := 0) rfl rfl (okF (x := ⟨"java/util/List", "size", "()I"⟩) (ci := 14) (C := RJ2) (T0 := TJ2) (N := 3) (n := 0) rfl (Or.inr ⟨rfl, rfl⟩) rfl dX6_heats_17 (lw_F q545 q251 q249 q114 q253) (List.mem_iff_getElem?.mpr ⟨1, rfl⟩) (show ("java/util/List" : String) ≠ _ ∧ ("java/util/List" : String) ≠ _ ∧ (parseMethodDescriptor (md_J2_size).y.desc).map (fun d => d.parameters.length) = some 0 from ⟨by decide, by decide, (hm_J2_size).2.2⟩) (by decide) (by decide) (Nat.le_of_ble_eq_true rfl)) (c_size p3) rfl (fun x4 => ?_)
  refine cw_istore_n (ls' := [(3, cI x4), (2, cI 1), (1, cR p1), (0, cR a0)]) dX6_heats_22 rfl (by decide) rfl ?_
  refine cw_iload_n dX6_heats_23 rfl 0 rfl ?_
  refine cw_if_ne (tgt := 29) dX6_heats_24 (by decide) ?_ ?_
  · refine cw_iload_n dX6_heats_29 rfl 0 rfl ?_
    refine cw_aload_n dX6_heats_30 rfl 3 rfl ?_
    refine cw_getI (ci := 5) (j := 10) (C := RX6) (T := TX6) (N := 19) rfl (by decide) rfl rfl (Or.inl q1105) fSame_rfl dX6_heats_31 (fun x5 => ?_)
    refine cw_invI (d2 := md_X1_up) (c := 833) (q := 7960) (as := [cI x4, cI x5]) (mc := 0) (ms := 0) rfl rfl (okSN (n := 2) rfl dX6_heats_34 (lw_meth q1331) q111 q1329 q1330 hm_X1_up (by decide) (by decide) (Nat.le_of_ble_eq_true rfl)) (m_X1_up x4 x5) rfl (fun x6 => ?_)
    refine cw_istore (ls' := [(4, cI x6), (3, cI x4), (2, cI 1), (1, cR p1), (0, cR a0)]) dX6_heats_37 (by decide) rfl ?_
    refine cw_iload_n dX6_heats_39 rfl 1 rfl ?_
    refine cw_iload dX6_heats_40 0 rfl ?_
    refine cw_invI (d2 := md_X1_up) (c := 833) (q := 7960) (as := [cI x4, cI x6]) (mc := 0) (ms := 0) rfl rfl (okSN (n := 2) rfl dX6_heats_42 (lw_meth q1331) q111 q1329 q1330 hm_X1_up (by decide) (by decide) (Nat.le_of_ble_eq_true rfl)) (m_X1_up x4 x6) rfl (fun x7 => ?_)
    refine cw_istore (ls' := [(5, cI x7), (4, cI x6), (3, cI x4), (2, cI 1), (1, cR p1), (0, cR a0)]) dX6_heats_45 (by decide) rfl ?_
    refine cw_iconst (v := 0) dX6_heats_47 (by decide) ?_
    refine cw_istore (ls' := [(6, cI 0), (5, cI x7), (4, cI x6), (3, cI x4), (2, cI 1), (1, cR p1), (0, cR a0)]) dX6_heats_48 (by decide) rfl ?_
    refine cw_jn (cj := 781) (kj := 6218) (pcj := 79) (lsf := fun (s : Int32) => [(5, cI x7), (1, cR p1), (0, cR a0), (2, cI s)]) (stf := fun (s : Int32) => []) (fun s => ?_) (fun J39 hJ39 => ?_)
    · obtain ⟨v8, e⟩ : ∃ z, z = s := ⟨_, rfl⟩
      subst e
      show CWF _ _ _ 79 [(5, cI x7), (1, cR p1), (0, cR a0), (2, cI v8)] [] _
      refine cw_aload_n dX6_heats_79 rfl 2 rfl ?_
      refine cw_getP (ci := 5) (j := 18) (C := RX6) (T := TX6) (N := 19) rfl (by decide) rfl rfl (Or.inl q1118) fSame_rfl dX6_heats_80 (fun p9 => ?_)
      refine cw_getP (ci := 6) (j := 2) (C := RX7) (T := TX7) (N := 5) rfl (by decide) rfl rfl (Or.inr ⟨_, q1067⟩) fSame_rfl dX6_heats_83 (fun p10 => ?_)
      refine cw_iter (c := 780) (q := 6214) (la := 2) (ls' := [(5, cI x7), (1, cR p1), (0, cR a0), (2, cI v8)]) rfl (Or.inr ⟨dX6_heats_91, rfl⟩) (by decide) (okF (x := ⟨"java/util/List", "iterator", "()Ljava/util/Iterator;"⟩) (ci := 14) (C := RJ2) (T0 := TJ2) (N := 3) (n := 0) rfl (Or.inr ⟨rfl, rfl⟩) rfl dX6_heats_86 (lw_F q531 q295 q293 q114 q297) (List.mem_iff_getElem?.mpr ⟨3, rfl⟩) (show ("java/util/List" : String) ≠ _ ∧ ("java/util/List" : String) ≠ _ ∧ (parseMethodDescriptor (md_J2_iterator).y.desc).map (fun d => d.parameters.length) = some 0 from ⟨by decide, by decide, (hm_J2_iterator).2.2⟩) (by decide) (by decide) (Nat.le_of_ble_eq_true rfl)) (fun m11 => ?_)
      refine cw_sub (ls' := [(5, cI x7), (1, cR p1), (0, cR a0), (2, cI v8), (6, cT p10 m11 0)]) [1, 2, 3, 4, 0] rfl ?_
      refine cw_weak (c' := 0 + 26 * 30) (q' := 0 + 26 * 239) (by omega) (by omega) ?_
      refine cw_loop (ce := 0) (ke := 0) (cb := 30) (kb := 239) (lsf := fun (s : Int32 × Nat) => [(5, cI x7), (1, cR p1), (0, cR a0), (2, cI s.1), (6, cT p10 m11 s.2)]) (fun Crec14 Krec14 rec14 hCrec14 hKrec14 hrec14 s => ?_) 26 (v8, 0)
      obtain ⟨l12, l13⟩ := s
      show CWF _ _ _ 93 [(5, cI x7), (1, cR p1), (0, cR a0), (2, cI l12), (6, cT p10 m11 l13)] [] _
      dsimp only [b_X6_heats_93]
      refine cw_sub (ls' := [(6, cT p10 m11 l13), (5, cI x7), (1, cR p1), (0, cR a0), (2, cI l12)]) [4, 0, 1, 2, 3] rfl ?_
      refine cw_hasNext (la := 2) rfl (Or.inr ⟨dX6_heats_93, rfl⟩) (fun x => okF (x := ⟨"java/util/Iterator", "hasNext", "()Z"⟩) (ci := 15) (C := RJ18) (T0 := TJ18) (N := 4) (n := 0) rfl (Or.inl rfl) rfl dX6_heats_95 (lw_F q533 q339 q337 q134 q341) (List.mem_iff_getElem?.mpr ⟨4, rfl⟩) (show ("java/util/Iterator" : String) ≠ _ ∧ ("java/util/Iterator" : String) ≠ _ ∧ (parseMethodDescriptor (md_J18_hasNext).y.desc).map (fun d => d.parameters.length) = some 0 from ⟨by decide, by decide, (hm_J18_hasNext).2.2⟩) (by decide) (by decide) (Nat.le_of_ble_eq_true rfl)) (fun x15 => ?_)
      refine cw_if_eq (tgt := 266) dX6_heats_100 (by decide) ?_ ?_
      · refine cw_weak (c' := Crec14 + 0) (q' := Krec14 + 0) (by omega) (by omega) ?_
        refine cw_aload_n dX6_heats_266 rfl 2 rfl ?_
        exact cw_aret rfl rfl dX6_heats_267
      · refine cw_next (la := 2) rfl (Or.inr ⟨dX6_heats_103, rfl⟩) (fun x => okF (x := ⟨"java/util/Iterator", "next", "()Ljava/lang/Object;"⟩) (ci := 15) (C := RJ18) (T0 := TJ18) (N := 4) (n := 0) rfl (Or.inl rfl) rfl dX6_heats_105 (lw_F q535 q432 q430 q134 q434) (List.mem_iff_getElem?.mpr ⟨6, rfl⟩) (show ("java/util/Iterator" : String) ≠ _ ∧ ("java/util/Iterator" : String) ≠ _ ∧ (parseMethodDescriptor (md_J18_next).y.desc).map (fun d => d.parameters.length) = some 0 from ⟨by decide, by decide, (hm_J18_next).2.2⟩) (by decide) (by decide) (Nat.le_of_ble_eq_true rfl)) (fun p16 => ?_)
        refine cw_cast (ci := 7) (T := TX8) (N := 10) (C := RX8) rfl rfl q536 (Or.inl rfl) dX6_heats_110 ?_
        refine cw_astore (ls' := [(7, cR p16), (6, cT p10 m11 (l13 + 1)), (5, cI x7), (1, cR p1), (0, cR a0), (2, cI l12)]) dX6_heats_113 (by decide) rfl ?_
        refine cw_aload_n dX6_heats_115 rfl 3 rfl ?_
        refine cw_iter (c := Crec14 + 29) (q := Krec14 + 235) (la := 2) (ls' := [(7, cR p16), (6, cT p10 m11 (l13 + 1)), (5, cI x7), (1, cR p1), (0, cR a0), (2, cI l12)]) rfl (Or.inr ⟨dX6_heats_121, rfl⟩) (by decide) (okF (x := ⟨"java/util/List", "iterator", "()Ljava/util/Iterator;"⟩) (ci := 14) (C := RJ2) (T0 := TJ2) (N := 3) (n := 0) rfl (Or.inr ⟨rfl, rfl⟩) rfl dX6_heats_116 (lw_F q531 q295 q293 q114 q297) (List.mem_iff_getElem?.mpr ⟨3, rfl⟩) (show ("java/util/List" : String) ≠ _ ∧ ("java/util/List" : String) ≠ _ ∧ (parseMethodDescriptor (md_J2_iterator).y.desc).map (fun d => d.parameters.length) = some 0 from ⟨by decide, by decide, (hm_J2_iterator).2.2⟩) (by decide) (by decide) (Nat.le_of_ble_eq_true rfl)) (fun m17 => ?_)
        refine cw_jn (cj := Crec14 + 3) (kj := Krec14 + 131) (pcj := 223) (lsf := fun (s : Unit) => [(7, cR p16), (6, cT p10 m11 (l13 + 1)), (5, cI x7), (1, cR p1), (0, cR a0), (2, cI l12)]) (stf := fun (s : Unit) => []) (fun s => ?_) (fun J24 hJ24 => ?_)
        · show CWF _ _ _ 223 [(7, cR p16), (6, cT p10 m11 (l13 + 1)), (5, cI x7), (1, cR p1), (0, cR a0), (2, cI l12)] [] _
          refine cw_new (c := Crec14 + 2) (q := Krec14 + 128) (ci := 14) (C := RJ2) (T := TJ2) (N := 3) rfl rfl q546 q162 q114 dX6_heats_223 (fun p18 => ?_)
          refine cw_dup dX6_heats_226 rfl ?_
          refine cw_invV (d2 := md_J2_init) (c := Crec14 + 2) (q := Krec14 + 128) (as := [cR p18]) (mc := 0) (ms := 0) rfl rfl (okI (n := 0) rfl rfl dX6_heats_227 (lw_meth q165) q114 q547 q164 rfl hm_J2_init (by decide) (by decide) (Nat.le_of_ble_eq_true rfl) (by decide)) (c_init p18) rfl ?_
          refine cw_astore (ls' := [(8, cR p18), (7, cR p16), (6, cT p10 m11 (l13 + 1)), (5, cI x7), (1, cR p1), (0, cR a0), (2, cI l12)]) dX6_heats_230 (by decide) rfl ?_
          refine cw_iload_n dX6_heats_232 rfl 6 rfl ?_
          refine cw_aload dX6_heats_233 0 rfl ?_
          refine cw_aload dX6_heats_235 1 rfl ?_
          refine cw_invI (d2 := md_J2_add) (c := Crec14 + 1) (q := Krec14 + 64) (as := [cR p18, cR p16]) (mc := 1) (ms := 64) rfl rfl (okF (x := ⟨"java/util/List", "add", "(Ljava/lang/Object;)Z"⟩) (ci := 14) (C := RJ2) (T0 := TJ2) (N := 3) (n := 1) rfl (Or.inr ⟨rfl, rfl⟩) rfl dX6_heats_237 (lw_F q582 q587 q585 q114 q589) (List.mem_iff_getElem?.mpr ⟨9, rfl⟩) (show ("java/util/List" : String) ≠ _ ∧ ("java/util/List" : String) ≠ _ ∧ (parseMethodDescriptor (md_J2_add).y.desc).map (fun d => d.parameters.length) = some 1 from ⟨by decide, by decide, (hm_J2_add).2.2⟩) (by decide) (by decide) (Nat.le_of_ble_eq_true rfl)) (c_add p18 p16) rfl (fun x19 => ?_)
          refine cw_jn (cj := Crec14 + 0) (kj := Krec14 + 0) (pcj := 261) (lsf := fun (s : Int32) => [(6, cT p10 m11 (l13 + 1)), (5, cI x7), (1, cR p1), (0, cR a0)]) (stf := fun (s : Int32) => [cI s, cI l12]) (fun s => ?_) (fun J21 hJ21 => ?_)
          · obtain ⟨v20, e⟩ : ∃ z, z = s := ⟨_, rfl⟩
            subst e
            show CWF _ _ _ 261 [(6, cT p10 m11 (l13 + 1)), (5, cI x7), (1, cR p1), (0, cR a0)] [cI v20, cI l12] _
            refine cw_iand dX6_heats_261 ?_
            refine cw_istore_n (ls' := [(2, cI (l12 &&& v20)), (6, cT p10 m11 (l13 + 1)), (5, cI x7), (1, cR p1), (0, cR a0)]) dX6_heats_262 rfl (by decide) rfl ?_
            refine cw_goto (tgt := 93) dX6_heats_263 (by decide) ?_
            refine cw_sub (ls' := [(5, cI x7), (1, cR p1), (0, cR a0), (2, cI (l12 &&& v20)), (6, cT p10 m11 (l13 + 1))]) [2, 3, 4, 0, 1] rfl ?_
            exact hrec14 ((l12 &&& v20), (l13 + 1))
          · refine cw_jn (cj := Crec14 + 0) (kj := Krec14 + 0) (pcj := 260) (lsf := fun (s : Unit) => [(6, cT p10 m11 (l13 + 1)), (5, cI x7), (1, cR p1), (0, cR a0)]) (stf := fun (s : Unit) => [cI l12]) (fun s => ?_) (fun J22 hJ22 => ?_)
            · show CWF _ _ _ 260 [(6, cT p10 m11 (l13 + 1)), (5, cI x7), (1, cR p1), (0, cR a0)] [cI l12] _
              refine cw_iconst (v := 0) dX6_heats_260 (by decide) ?_
              exact hJ21 0
            · refine cw_if_eq (tgt := 260) dX6_heats_242 (by decide) ?_ ?_
              · refine cw_weak (c' := Crec14 + 0) (q' := Krec14 + 0) (by omega) (by omega) ?_
                refine cw_sub (ls' := [(6, cT p10 m11 (l13 + 1)), (5, cI x7), (1, cR p1), (0, cR a0)]) [2, 3, 4, 5] rfl ?_
                exact hJ22 ()
              · refine cw_aload_n dX6_heats_245 rfl 4 rfl ?_
                refine cw_aload dX6_heats_246 0 rfl ?_
                refine cw_invI (d2 := md_J2_add) (c := Crec14 + 0) (q := Krec14 + 0) (as := [cR p1, cR p18]) (mc := 1) (ms := 64) rfl rfl (okF (x := ⟨"java/util/List", "add", "(Ljava/lang/Object;)Z"⟩) (ci := 14) (C := RJ2) (T0 := TJ2) (N := 3) (n := 1) rfl (Or.inr ⟨rfl, rfl⟩) rfl dX6_heats_248 (lw_F q582 q587 q585 q114 q589) (List.mem_iff_getElem?.mpr ⟨9, rfl⟩) (show ("java/util/List" : String) ≠ _ ∧ ("java/util/List" : String) ≠ _ ∧ (parseMethodDescriptor (md_J2_add).y.desc).map (fun d => d.parameters.length) = some 1 from ⟨by decide, by decide, (hm_J2_add).2.2⟩) (by decide) (by decide) (Nat.le_of_ble_eq_true rfl)) (c_add p1 p18) rfl (fun x23 => ?_)
                refine cw_if_eq (tgt := 260) dX6_heats_253 (by decide) ?_ ?_
                · refine cw_sub (ls' := [(6, cT p10 m11 (l13 + 1)), (5, cI x7), (1, cR p1), (0, cR a0)]) [2, 3, 4, 5] rfl ?_
                  exact hJ22 ()
                · refine cw_iconst (v := 1) dX6_heats_256 (by decide) ?_
                  refine cw_goto (tgt := 261) dX6_heats_257 (by decide) ?_
                  refine cw_sub (ls' := [(6, cT p10 m11 (l13 + 1)), (5, cI x7), (1, cR p1), (0, cR a0)]) [2, 3, 4, 5] rfl ?_
                  exact hJ21 1
        · refine cw_jn (cj := Crec14 + 1) (kj := Krec14 + 64) (pcj := 208) (lsf := fun (s : Nat) => [(7, cR p16), (6, cT p10 m11 (l13 + 1)), (5, cI x7), (1, cR p1), (0, cR a0), (2, cI l12), (9, cR s)]) (stf := fun (s : Nat) => []) (fun s => ?_) (fun J27 hJ27 => ?_)
          · obtain ⟨v25, e⟩ : ∃ z, z = s := ⟨_, rfl⟩
            subst e
            show CWF _ _ _ 208 [(7, cR p16), (6, cT p10 m11 (l13 + 1)), (5, cI x7), (1, cR p1), (0, cR a0), (2, cI l12), (9, cR v25)] [] _
            refine cw_iload_n dX6_heats_208 rfl 5 rfl ?_
            refine cw_aload dX6_heats_209 6 rfl ?_
            refine cw_aload dX6_heats_211 0 rfl ?_
            refine cw_invI (d2 := md_J2_add) (c := Crec14 + 0) (q := Krec14 + 0) (as := [cR v25, cR p16]) (mc := 1) (ms := 64) rfl rfl (okF (x := ⟨"java/util/List", "add", "(Ljava/lang/Object;)Z"⟩) (ci := 14) (C := RJ2) (T0 := TJ2) (N := 3) (n := 1) rfl (Or.inr ⟨rfl, rfl⟩) rfl dX6_heats_213 (lw_F q582 q587 q585 q114 q589) (List.mem_iff_getElem?.mpr ⟨9, rfl⟩) (show ("java/util/List" : String) ≠ _ ∧ ("java/util/List" : String) ≠ _ ∧ (parseMethodDescriptor (md_J2_add).y.desc).map (fun d => d.parameters.length) = some 1 from ⟨by decide, by decide, (hm_J2_add).2.2⟩) (by decide) (by decide) (Nat.le_of_ble_eq_true rfl)) (c_add v25 p16) rfl (fun x26 => ?_)
            refine cw_iand dX6_heats_218 ?_
            refine cw_istore_n (ls' := [(2, cI (l12 &&& x26)), (7, cR p16), (6, cT p10 m11 (l13 + 1)), (5, cI x7), (1, cR p1), (0, cR a0), (9, cR v25)]) dX6_heats_219 rfl (by decide) rfl ?_
            refine cw_goto (tgt := 93) dX6_heats_220 (by decide) ?_
            refine cw_sub (ls' := [(5, cI x7), (1, cR p1), (0, cR a0), (2, cI (l12 &&& x26)), (6, cT p10 m11 (l13 + 1))]) [3, 4, 5, 0, 2] rfl ?_
            exact hrec14 ((l12 &&& x26), (l13 + 1))
          · refine cw_sub (ls' := [(7, cR p16), (6, cT p10 m11 (l13 + 1)), (5, cI x7), (1, cR p1), (0, cR a0), (2, cI l12), (8, cT p1 m17 0)]) [1, 2, 3, 4, 5, 6, 0] rfl ?_
            refine cw_weak (c' := Crec14 + 3 + 26 * 1) (q' := Krec14 + 131 + 26 * 4) (by omega) (by omega) ?_
            refine cw_loop (ce := Crec14 + 3) (ke := Krec14 + 131) (cb := 1) (kb := 4) (lsf := fun (s : Nat) => [(7, cR p16), (6, cT p10 m11 (l13 + 1)), (5, cI x7), (1, cR p1), (0, cR a0), (2, cI l12), (8, cT p1 m17 s)]) (fun Crec29 Krec29 rec29 hCrec29 hKrec29 hrec29 s => ?_) 26 0
            obtain ⟨l28, e⟩ : ∃ z, z = s := ⟨_, rfl⟩
            subst e
            show CWF _ _ _ 123 [(7, cR p16), (6, cT p10 m11 (l13 + 1)), (5, cI x7), (1, cR p1), (0, cR a0), (2, cI l12), (8, cT p1 m17 l28)] [] _
            dsimp only [b_X6_heats_123]
            refine cw_sub (ls' := [(8, cT p1 m17 l28), (7, cR p16), (6, cT p10 m11 (l13 + 1)), (5, cI x7), (1, cR p1), (0, cR a0), (2, cI l12)]) [6, 0, 1, 2, 3, 4, 5] rfl ?_
            refine cw_hasNext (la := 2) rfl (Or.inr ⟨dX6_heats_123, rfl⟩) (fun x => okF (x := ⟨"java/util/Iterator", "hasNext", "()Z"⟩) (ci := 15) (C := RJ18) (T0 := TJ18) (N := 4) (n := 0) rfl (Or.inl rfl) rfl dX6_heats_125 (lw_F q533 q339 q337 q134 q341) (List.mem_iff_getElem?.mpr ⟨4, rfl⟩) (show ("java/util/Iterator" : String) ≠ _ ∧ ("java/util/Iterator" : String) ≠ _ ∧ (parseMethodDescriptor (md_J18_hasNext).y.desc).map (fun d => d.parameters.length) = some 0 from ⟨by decide, by decide, (hm_J18_hasNext).2.2⟩) (by decide) (by decide) (Nat.le_of_ble_eq_true rfl)) (fun x30 => ?_)
            refine cw_if_eq (tgt := 223) dX6_heats_130 (by decide) ?_ ?_
            · refine cw_weak (c' := Crec29 + 0) (q' := Krec29 + 0) (by omega) (by omega) ?_
              refine cw_weak (c' := Crec14 + 3) (q' := Krec14 + 131) (by omega) (by omega) ?_
              refine cw_sub (ls' := [(7, cR p16), (6, cT p10 m11 (l13 + 1)), (5, cI x7), (1, cR p1), (0, cR a0), (2, cI l12)]) [1, 2, 3, 4, 5, 6] rfl ?_
              exact hJ24 ()
            · refine cw_next (la := 2) rfl (Or.inr ⟨dX6_heats_133, rfl⟩) (fun x => okF (x := ⟨"java/util/Iterator", "next", "()Ljava/lang/Object;"⟩) (ci := 15) (C := RJ18) (T0 := TJ18) (N := 4) (n := 0) rfl (Or.inl rfl) rfl dX6_heats_135 (lw_F q535 q432 q430 q134 q434) (List.mem_iff_getElem?.mpr ⟨6, rfl⟩) (show ("java/util/Iterator" : String) ≠ _ ∧ ("java/util/Iterator" : String) ≠ _ ∧ (parseMethodDescriptor (md_J18_next).y.desc).map (fun d => d.parameters.length) = some 0 from ⟨by decide, by decide, (hm_J18_next).2.2⟩) (by decide) (by decide) (Nat.le_of_ble_eq_true rfl)) (fun p31 => ?_)
              refine cw_castL q558 (Or.inr q200) dX6_heats_140 ?_
              refine cw_astore (ls' := [(9, cR p31), (8, cT p1 m17 (l28 + 1)), (7, cR p16), (6, cT p10 m11 (l13 + 1)), (5, cI x7), (1, cR p1), (0, cR a0), (2, cI l12)]) dX6_heats_143 (by decide) rfl ?_
              refine cw_aload dX6_heats_145 0 rfl ?_
              refine cw_invI (d2 := md_J2_size) (c := Crec29 + 1) (q := Krec29 + 4) (as := [cR p31]) (mc := 0) (ms := 0) rfl rfl (okF (x := ⟨"java/util/List", "size", "()I"⟩) (ci := 14) (C := RJ2) (T0 := TJ2) (N := 3) (n := 0) rfl (Or.inr ⟨rfl, rfl⟩) rfl dX6_heats_147 (lw_F q545 q251 q249 q114 q253) (List.mem_iff_getElem?.mpr ⟨1, rfl⟩) (show ("java/util/List" : String) ≠ _ ∧ ("java/util/List" : String) ≠ _ ∧ (parseMethodDescriptor (md_J2_size).y.desc).map (fun d => d.parameters.length) = some 0 from ⟨by decide, by decide, (hm_J2_size).2.2⟩) (by decide) (by decide) (Nat.le_of_ble_eq_true rfl)) (c_size p31) rfl (fun x32 => ?_)
              refine cw_iload dX6_heats_152 4 rfl ?_
              refine cw_icmp_lt (tgt := 160) dX6_heats_154 (by decide) ?_ ?_
              · refine cw_aload dX6_heats_160 0 rfl ?_
                refine cw_iter (c := Crec29 + 0) (q := Krec29 + 0) (la := 2) (ls' := [(9, cR p31), (8, cT p1 m17 (l28 + 1)), (7, cR p16), (6, cT p10 m11 (l13 + 1)), (5, cI x7), (1, cR p1), (0, cR a0), (2, cI l12)]) rfl (Or.inr ⟨dX6_heats_167, rfl⟩) (by decide) (okF (x := ⟨"java/util/List", "iterator", "()Ljava/util/Iterator;"⟩) (ci := 14) (C := RJ2) (T0 := TJ2) (N := 3) (n := 0) rfl (Or.inr ⟨rfl, rfl⟩) rfl dX6_heats_162 (lw_F q531 q295 q293 q114 q297) (List.mem_iff_getElem?.mpr ⟨3, rfl⟩) (show ("java/util/List" : String) ≠ _ ∧ ("java/util/List" : String) ≠ _ ∧ (parseMethodDescriptor (md_J2_iterator).y.desc).map (fun d => d.parameters.length) = some 0 from ⟨by decide, by decide, (hm_J2_iterator).2.2⟩) (by decide) (by decide) (Nat.le_of_ble_eq_true rfl)) (fun m33 => ?_)
                refine cw_sub (ls' := [(9, cR p31), (8, cT p1 m17 (l28 + 1)), (7, cR p16), (6, cT p10 m11 (l13 + 1)), (5, cI x7), (1, cR p1), (0, cR a0), (2, cI l12), (10, cT p31 m33 0)]) [1, 2, 3, 4, 5, 6, 7, 8, 0] rfl ?_
                refine cw_loop0 (lsf := fun (s : Nat) => [(9, cR p31), (8, cT p1 m17 (l28 + 1)), (7, cR p16), (6, cT p10 m11 (l13 + 1)), (5, cI x7), (1, cR p1), (0, cR a0), (2, cI l12), (10, cT p31 m33 s)]) (fun rec35 hrec35 s => ?_) FU 0
                obtain ⟨l34, e⟩ : ∃ z, z = s := ⟨_, rfl⟩
                subst e
                show CWF _ _ _ 169 [(9, cR p31), (8, cT p1 m17 (l28 + 1)), (7, cR p16), (6, cT p10 m11 (l13 + 1)), (5, cI x7), (1, cR p1), (0, cR a0), (2, cI l12), (10, cT p31 m33 l34)] [] _
                dsimp only [b_X6_heats_169]
                refine cw_sub (ls' := [(10, cT p31 m33 l34), (9, cR p31), (8, cT p1 m17 (l28 + 1)), (7, cR p16), (6, cT p10 m11 (l13 + 1)), (5, cI x7), (1, cR p1), (0, cR a0), (2, cI l12)]) [8, 0, 1, 2, 3, 4, 5, 6, 7] rfl ?_
                refine cw_hasNext (la := 2) rfl (Or.inr ⟨dX6_heats_169, rfl⟩) (fun x => okF (x := ⟨"java/util/Iterator", "hasNext", "()Z"⟩) (ci := 15) (C := RJ18) (T0 := TJ18) (N := 4) (n := 0) rfl (Or.inl rfl) rfl dX6_heats_171 (lw_F q533 q339 q337 q134 q341) (List.mem_iff_getElem?.mpr ⟨4, rfl⟩) (show ("java/util/Iterator" : String) ≠ _ ∧ ("java/util/Iterator" : String) ≠ _ ∧ (parseMethodDescriptor (md_J18_hasNext).y.desc).map (fun d => d.parameters.length) = some 0 from ⟨by decide, by decide, (hm_J18_hasNext).2.2⟩) (by decide) (by decide) (Nat.le_of_ble_eq_true rfl)) (fun x36 => ?_)
                refine cw_if_eq (tgt := 208) dX6_heats_176 (by decide) ?_ ?_
                · refine cw_weak (c' := Crec14 + 1) (q' := Krec14 + 64) (by omega) (by omega) ?_
                  refine cw_sub (ls' := [(7, cR p16), (6, cT p10 m11 (l13 + 1)), (5, cI x7), (1, cR p1), (0, cR a0), (2, cI l12), (9, cR p31)]) [3, 4, 5, 6, 7, 8, 1] rfl ?_
                  exact hJ27 p31
                · refine cw_next (la := 2) rfl (Or.inr ⟨dX6_heats_179, rfl⟩) (fun x => okF (x := ⟨"java/util/Iterator", "next", "()Ljava/lang/Object;"⟩) (ci := 15) (C := RJ18) (T0 := TJ18) (N := 4) (n := 0) rfl (Or.inl rfl) rfl dX6_heats_181 (lw_F q535 q432 q430 q134 q434) (List.mem_iff_getElem?.mpr ⟨6, rfl⟩) (show ("java/util/Iterator" : String) ≠ _ ∧ ("java/util/Iterator" : String) ≠ _ ∧ (parseMethodDescriptor (md_J18_next).y.desc).map (fun d => d.parameters.length) = some 0 from ⟨by decide, by decide, (hm_J18_next).2.2⟩) (by decide) (by decide) (Nat.le_of_ble_eq_true rfl)) (fun p37 => ?_)
                  refine cw_cast (ci := 7) (T := TX8) (N := 10) (C := RX8) rfl rfl q536 (Or.inl rfl) dX6_heats_186 ?_
                  refine cw_astore (ls' := [(11, cR p37), (10, cT p31 m33 (l34 + 1)), (9, cR p31), (8, cT p1 m17 (l28 + 1)), (7, cR p16), (6, cT p10 m11 (l13 + 1)), (5, cI x7), (1, cR p1), (0, cR a0), (2, cI l12)]) dX6_heats_189 (by decide) rfl ?_
                  refine cw_aload_n dX6_heats_191 rfl 8 rfl ?_
                  refine cw_aload dX6_heats_192 4 rfl ?_
                  refine cw_aload dX6_heats_194 0 rfl ?_
                  refine cw_invI (d2 := md_X6_areApart) (c := Crec29 + 0) (q := Krec29 + 0) (as := [cR a0, cR p16, cR p37]) (mc := 0) (ms := 0) rfl rfl (okV (ci := 5) (C := RX6) (T0 := TX6) (N := 19) (n := 2) rfl rfl rfl dX6_heats_196 (lw_V q1332 q1333 q1334 q137 q1335) ⟨rfl, hm_X6_areApart⟩ (by decide) (by decide) (Nat.le_of_ble_eq_true rfl)) (m_X6_areApart a0 p16 p37) rfl (fun x38 => ?_)
                  refine cw_if_eq (tgt := 205) dX6_heats_199 (by decide) ?_ ?_
                  · refine cw_goto (tgt := 169) dX6_heats_205 (by decide) ?_
                    refine cw_sub (ls' := [(9, cR p31), (8, cT p1 m17 (l28 + 1)), (7, cR p16), (6, cT p10 m11 (l13 + 1)), (5, cI x7), (1, cR p1), (0, cR a0), (2, cI l12), (10, cT p31 m33 (l34 + 1))]) [2, 3, 4, 5, 6, 7, 8, 9, 1] rfl ?_
                    exact hrec35 (l34 + 1)
                  · refine cw_goto (tgt := 123) dX6_heats_202 (by decide) ?_
                    refine cw_sub (ls' := [(7, cR p16), (6, cT p10 m11 (l13 + 1)), (5, cI x7), (1, cR p1), (0, cR a0), (2, cI l12), (8, cT p1 m17 (l28 + 1))]) [4, 5, 6, 7, 8, 9, 3] rfl ?_
                    exact hrec29 (l28 + 1)
              · refine cw_weak (c' := Crec29 + 0) (q' := Krec29 + 0) (by omega) (by omega) ?_
                refine cw_goto (tgt := 123) dX6_heats_157 (by decide) ?_
                refine cw_sub (ls' := [(7, cR p16), (6, cT p10 m11 (l13 + 1)), (5, cI x7), (1, cR p1), (0, cR a0), (2, cI l12), (8, cT p1 m17 (l28 + 1))]) [2, 3, 4, 5, 6, 7, 1] rfl ?_
                exact hrec29 (l28 + 1)
    · refine cw_sub (ls' := [(5, cI x7), (4, cI x6), (1, cR p1), (0, cR a0), (2, cI 1), (6, cI 0)]) [1, 2, 5, 6, 4, 0] rfl ?_
      refine cw_weak (c' := 781 + 26 * 2) (q' := 6218 + 26 * 67) (by omega) (by omega) ?_
      refine cw_loop (ce := 781) (ke := 6218) (cb := 2) (kb := 67) (lsf := fun (s : Int32 × Int32) => [(5, cI x7), (4, cI x6), (1, cR p1), (0, cR a0), (2, cI s.1), (6, cI s.2)]) (fun Crec42 Krec42 rec42 hCrec42 hKrec42 hrec42 s => ?_) 26 (1, 0)
      obtain ⟨l40, l41⟩ := s
      show CWF _ _ _ 50 [(5, cI x7), (4, cI x6), (1, cR p1), (0, cR a0), (2, cI l40), (6, cI l41)] [] _
      dsimp only [b_X6_heats_50]
      refine cw_iload dX6_heats_50 5 rfl ?_
      refine cw_iload dX6_heats_52 1 rfl ?_
      refine cw_icmp_ge (tgt := 79) dX6_heats_54 (by decide) ?_ ?_
      · refine cw_weak (c' := Crec42 + 0) (q' := Krec42 + 0) (by omega) (by omega) ?_
        refine cw_weak (c' := 781) (q' := 6218) (by omega) (by omega) ?_
        refine cw_sub (ls' := [(5, cI x7), (1, cR p1), (0, cR a0), (2, cI l40)]) [0, 2, 3, 4] rfl ?_
        exact hJ39 l40
      · refine cw_iload_n dX6_heats_57 rfl 4 rfl ?_
        refine cw_aload_n dX6_heats_58 rfl 2 rfl ?_
        refine cw_new (c := Crec42 + 1) (q := Krec42 + 64) (ci := 14) (C := RJ2) (T := TJ2) (N := 3) rfl rfl q546 q162 q114 dX6_heats_59 (fun p43 => ?_)
        refine cw_dup dX6_heats_62 rfl ?_
        refine cw_invV (d2 := md_J2_init) (c := Crec42 + 1) (q := Krec42 + 64) (as := [cR p43]) (mc := 0) (ms := 0) rfl rfl (okI (n := 0) rfl rfl dX6_heats_63 (lw_meth q165) q114 q547 q164 rfl hm_J2_init (by decide) (by decide) (Nat.le_of_ble_eq_true rfl) (by decide)) (c_init p43) rfl ?_
        refine cw_invI (d2 := md_J2_add) (c := Crec42 + 0) (q := Krec42 + 0) (as := [cR p1, cR p43]) (mc := 1) (ms := 64) rfl rfl (okF (x := ⟨"java/util/List", "add", "(Ljava/lang/Object;)Z"⟩) (ci := 14) (C := RJ2) (T0 := TJ2) (N := 3) (n := 1) rfl (Or.inr ⟨rfl, rfl⟩) rfl dX6_heats_66 (lw_F q582 q587 q585 q114 q589) (List.mem_iff_getElem?.mpr ⟨9, rfl⟩) (show ("java/util/List" : String) ≠ _ ∧ ("java/util/List" : String) ≠ _ ∧ (parseMethodDescriptor (md_J2_add).y.desc).map (fun d => d.parameters.length) = some 1 from ⟨by decide, by decide, (hm_J2_add).2.2⟩) (by decide) (by decide) (Nat.le_of_ble_eq_true rfl)) (c_add p1 p43) rfl (fun x44 => ?_)
        refine cw_iand dX6_heats_71 ?_
        refine cw_istore_n (ls' := [(2, cI (l40 &&& x44)), (5, cI x7), (4, cI x6), (1, cR p1), (0, cR a0), (6, cI l41)]) dX6_heats_72 rfl (by decide) rfl ?_
        refine cw_iinc (v := (l41 + 1)) (ls' := [(6, cI (l41 + 1)), (2, cI (l40 &&& x44)), (5, cI x7), (4, cI x6), (1, cR p1), (0, cR a0)]) dX6_heats_73 5 rfl rfl (by decide) rfl ?_
        refine cw_goto (tgt := 50) dX6_heats_76 (by decide) ?_
        refine cw_sub (ls' := [(5, cI x7), (4, cI x6), (1, cR p1), (0, cR a0), (2, cI (l40 &&& x44)), (6, cI (l41 + 1))]) [2, 3, 4, 5, 1, 0] rfl ?_
        exact hrec42 ((l40 &&& x44), (l41 + 1))
  · refine cw_weak (c' := 0) (q' := 0) (by omega) (by omega) ?_
    refine cw_aload_n dX6_heats_27 rfl 2 rfl ?_
    exact cw_aret rfl rfl dX6_heats_28
def g_X1_apart (a0 : Nat) (a1 : Int32) (a2 : Int32) (a3 : Int32) : GF :=
  getP 20 a0 3 fun p1 =>
  invP none (g_X1_at p1 a1) fun p2 =>
  castG 25 p2 <|
  invP none (g_X1_entryOf p2 a2) fun p3 =>
  invP none (g_X1_entryOf p2 a3) fun p4 =>
  jnG (fun (v5 : Int32) =>
    invV none (g_X1_requireArgument v5) <|
    getP 25 p2 9 fun p6 =>
    newG 28 fun p7 =>
    invV (some (p7, 28)) (g_X9_init p7 p3 p4) <|
    invI (some (p6, 8)) (s_add p6 p7) fun x8 =>
    invP (some (p2, 25)) (g_X6_heats p2) fun p9 =>
    invI (some (p9, 8)) (s_size p9) fun x10 =>
    retG (rI x10)) fun J11 =>
  acG p3 p4
    (J11 0)
    (J11 1)
abbrev md_X1_apart : MD := (yX1_apart, cX1_apart, 8, (some (Jvm.ClassFile.FieldType.int)), RX1, 17, 840, 8053)
theorem hm_X1_apart : (md_X1_apart).y.cls ≠ "java/lang/invoke/MethodHandle" ∧ (md_X1_apart).y.cls ≠ "java/lang/invoke/VarHandle" ∧ (parseMethodDescriptor (md_X1_apart).y.desc).map (fun d => d.parameters.length) = some 3 := by decide +kernel
theorem m_X1_apart (a0 : Nat) (a1 : Int32) (a2 : Int32) (a3 : Int32) : CMF md_X1_apart [cR a0, cI a1, cI a2, cI a3] (g_X1_apart a0 a1 a2 a3) := by
  refine cm_of (by decide +kernel) rfl (Nat.le_of_ble_eq_true rfl) ?_
  show CWF _ 840 8053 0 [(0, cR a0), (1, cI a1), (2, cI a2), (3, cI a3)] [] _
  unfold g_X1_apart
  refine cw_aload_n dX1_apart_0 rfl 0 rfl ?_
  refine cw_getP (ci := 0) (j := 3) (C := RX1) (T := TX1) (N := 11) rfl (by decide) rfl rfl (Or.inl q209) fSame_rfl dX1_apart_1 (fun p1 => ?_)
  refine cw_iload_n dX1_apart_4 rfl 1 rfl ?_
  refine cw_invP (d2 := md_X1_at) (c := 839) (q := 8047) (as := [cR p1, cI a1]) (mc := 1) (ms := 6) rfl rfl (okS (n := 2) rfl dX1_apart_5 (lw_S q883 q884 q111 q885) hm_X1_at (by decide) (by decide) (Nat.le_of_ble_eq_true rfl)) (m_X1_at p1 a1) rfl (fun p2 => ?_)
  refine cw_cast (ci := 5) (T := TX6) (N := 19) (C := RX6) rfl rfl q524 (Or.inl rfl) dX1_apart_8 ?_
  refine cw_astore (ls' := [(4, cR p2), (0, cR a0), (1, cI a1), (2, cI a2), (3, cI a3)]) dX1_apart_11 (by decide) rfl ?_
  refine cw_aload dX1_apart_13 0 rfl ?_
  refine cw_iload_n dX1_apart_15 rfl 3 rfl ?_
  refine cw_invP (d2 := md_X1_entryOf) (c := 838) (q := 8041) (as := [cR p2, cI a2]) (mc := 1) (ms := 6) rfl rfl (okS (n := 2) rfl dX1_apart_16 (lw_S q1300 q1301 q111 q1302) hm_X1_entryOf (by decide) (by decide) (Nat.le_of_ble_eq_true rfl)) (m_X1_entryOf p2 a2) rfl (fun p3 => ?_)
  refine cw_astore (ls' := [(5, cR p3), (4, cR p2), (0, cR a0), (1, cI a1), (2, cI a2), (3, cI a3)]) dX1_apart_19 (by decide) rfl ?_
  refine cw_aload dX1_apart_21 1 rfl ?_
  refine cw_iload_n dX1_apart_23 rfl 5 rfl ?_
  refine cw_invP (d2 := md_X1_entryOf) (c := 837) (q := 8035) (as := [cR p2, cI a3]) (mc := 1) (ms := 6) rfl rfl (okS (n := 2) rfl dX1_apart_24 (lw_S q1300 q1301 q111 q1302) hm_X1_entryOf (by decide) (by decide) (Nat.le_of_ble_eq_true rfl)) (m_X1_entryOf p2 a3) rfl (fun p4 => ?_)
  refine cw_astore (ls' := [(6, cR p4), (5, cR p3), (4, cR p2), (0, cR a0), (1, cI a1), (2, cI a2), (3, cI a3)]) dX1_apart_27 (by decide) rfl ?_
  refine cw_aload dX1_apart_29 1 rfl ?_
  refine cw_aload dX1_apart_31 0 rfl ?_
  refine cw_jn (cj := 837) (kj := 8035) (pcj := 41) (lsf := fun (s : Int32) => [(6, cR p4), (5, cR p3), (4, cR p2)]) (stf := fun (s : Int32) => [cI s]) (fun s => ?_) (fun J11 hJ11 => ?_)
  · obtain ⟨v5, e⟩ : ∃ z, z = s := ⟨_, rfl⟩
    subst e
    show CWF _ _ _ 41 [(6, cR p4), (5, cR p3), (4, cR p2)] [cI v5] _
    refine cw_invV (d2 := md_X1_requireArgument) (c := 836) (q := 8029) (as := [cI v5]) (mc := 1) (ms := 6) rfl rfl (okS (n := 1) rfl dX1_apart_41 (lw_S q744 q745 q111 q746) hm_X1_requireArgument (by decide) (by decide) (Nat.le_of_ble_eq_true rfl)) (m_X1_requireArgument v5) rfl ?_
    refine cw_aload dX1_apart_44 2 rfl ?_
    refine cw_getP (ci := 5) (j := 9) (C := RX6) (T := TX6) (N := 19) rfl (by decide) rfl rfl (Or.inr ⟨_, q1104⟩) fSame_rfl dX1_apart_46 (fun p6 => ?_)
    refine cw_new (c := 835) (q := 8027) (ci := 8) (C := RX9) (T := TX9) (N := 2) rfl rfl q1312 q1313 q143 dX1_apart_49 (fun p7 => ?_)
    refine cw_dup dX1_apart_52 rfl ?_
    refine cw_aload dX1_apart_53 1 rfl ?_
    refine cw_aload dX1_apart_55 0 rfl ?_
    refine cw_invV (d2 := md_X9_init) (c := 835) (q := 8027) (as := [cR p7, cR p3, cR p4]) (mc := 0) (ms := 0) rfl rfl (okIN (n := 2) rfl rfl dX1_apart_57 (lw_meth q1316) q143 q1314 q1315 rfl hm_X9_init (by decide) (by decide) (Nat.le_of_ble_eq_true rfl) (by decide)) (m_X9_init p7 p3 p4) rfl ?_
    refine cw_invI (d2 := md_J2_add) (c := 834) (q := 7963) (as := [cR p6, cR p7]) (mc := 1) (ms := 64) rfl rfl (okF (x := ⟨"java/util/List", "add", "(Ljava/lang/Object;)Z"⟩) (ci := 14) (C := RJ2) (T0 := TJ2) (N := 3) (n := 1) rfl (Or.inr ⟨rfl, rfl⟩) rfl dX1_apart_60 (lw_F q842 q587 q585 q114 q589) (List.mem_iff_getElem?.mpr ⟨9, rfl⟩) (show ("java/util/List" : String) ≠ _ ∧ ("java/util/List" : String) ≠ _ ∧ (parseMethodDescriptor (md_J2_add).y.desc).map (fun d => d.parameters.length) = some 1 from ⟨by decide, by decide, (hm_J2_add).2.2⟩) (by decide) (by decide) (Nat.le_of_ble_eq_true rfl)) (c_add p6 p7) rfl (fun x8 => ?_)
    refine cw_istore (ls' := [(7, cI x8), (6, cR p4), (5, cR p3), (4, cR p2)]) dX1_apart_65 (by decide) rfl ?_
    refine cw_aload dX1_apart_67 3 rfl ?_
    refine cw_invP (d2 := md_X6_heats) (c := 0) (q := 0) (as := [cR p2]) (mc := 834) (ms := 7963) rfl rfl (okV (ci := 5) (C := RX6) (T0 := TX6) (N := 19) (n := 0) rfl rfl rfl dX1_apart_69 (lw_V q1325 q1326 q1327 q137 q1328) ⟨rfl, hm_X6_heats⟩ (by decide) (by decide) (Nat.le_of_ble_eq_true rfl)) (m_X6_heats p2) rfl (fun p9 => ?_)
    refine cw_invI (d2 := md_J2_size) (c := 0) (q := 0) (as := [cR p9]) (mc := 0) (ms := 0) rfl rfl (okF (x := ⟨"java/util/List", "size", "()I"⟩) (ci := 14) (C := RJ2) (T0 := TJ2) (N := 3) (n := 0) rfl (Or.inr ⟨rfl, rfl⟩) rfl dX1_apart_72 (lw_F q246 q251 q249 q114 q253) (List.mem_iff_getElem?.mpr ⟨1, rfl⟩) (show ("java/util/List" : String) ≠ _ ∧ ("java/util/List" : String) ≠ _ ∧ (parseMethodDescriptor (md_J2_size).y.desc).map (fun d => d.parameters.length) = some 0 from ⟨by decide, by decide, (hm_J2_size).2.2⟩) (by decide) (by decide) (Nat.le_of_ble_eq_true rfl)) (c_size p9) rfl (fun x10 => ?_)
    exact cw_iret rfl dX1_apart_77
  · refine cw_acmp_eq (tgt := 40) dX1_apart_33 (by decide) ?_ ?_
    · refine cw_iconst (v := 0) dX1_apart_40 (by decide) ?_
      refine cw_sub (ls' := [(6, cR p4), (5, cR p3), (4, cR p2)]) [0, 1, 2] rfl ?_
      exact hJ11 0
    · refine cw_iconst (v := 1) dX1_apart_36 (by decide) ?_
      refine cw_goto (tgt := 41) dX1_apart_37 (by decide) ?_
      refine cw_sub (ls' := [(6, cR p4), (5, cR p3), (4, cR p2)]) [0, 1, 2] rfl ?_
      exact hJ11 1
def b_X1_isCandidate_48 (a0 : Nat) (a1 : Nat) (p5 : Nat) (m6 : Int32) (rec9 : (Int32 × Nat) → GF) : (Int32 × Nat) → GF := fun (s : Int32 × Nat) => match s with
  | (l7, l8) =>
    hasG p5 l8 fun x10 =>
    if x10 = 0 then
      retZ l7
    else
      nextG p5 m6 l8 fun p11 =>
      castG 27 p11 <|
      getI 27 p11 5 fun x12 =>
      if x12 = 0 then
        getP 27 p11 1 fun p13 =>
        invI (some (p13, 24)) (g_X5_has p13 a1) fun x14 =>
        jnG (fun (v15 : Int32) =>
          rec9 ((l7 &&& v15), (l8 + 1))) fun J16 =>
        jnG (fun (_ : Unit) =>
          J16 0) fun J17 =>
        if x14 = 0 then
          getP 22 a1 3 fun p18 =>
          getP 24 p13 1 fun p19 =>
          invI (some (p18, 8)) (s_contains p18 p19) fun x20 =>
          if x20 = 0 then
            getP 22 a1 3 fun p21 =>
            getP 24 p13 2 fun p22 =>
            invI (some (p21, 8)) (s_contains p21 p22) fun x23 =>
            if x23 = 0 then
              getP 24 p13 1 fun p24 =>
              invI (some (a0, 20)) (g_X1_isPupil a0 p24 a1) fun x25 =>
              if x25 = 0 then
                getP 24 p13 2 fun p26 =>
                invI (some (a0, 20)) (g_X1_isPupil a0 p26 a1) fun x27 =>
                if x27 = 0 then
                  J16 1
                else
                  J17 ()
              else
                J17 ()
            else
              J17 ()
          else
            J17 ()
        else
          J17 ()
      else
        rec9 (l7, (l8 + 1))
def g_X1_isCandidate (a0 : Nat) (a1 : Nat) (a2 : Nat) : GF :=
  getI 22 a1 5 fun x1 =>
  getI 25 a2 13 fun x2 =>
  jnG (fun (v3 : Int32) =>
    jnG (fun (v4 : Int32) =>
      getP 25 a2 7 fun p5 =>
      itG p5 fun m6 =>
      loopG (b_X1_isCandidate_48 a0 a1 p5 m6) FU (v4, 0)) fun J28 =>
    jnG (fun (_ : Unit) =>
      J28 0) fun J29 =>
    if x1 < v3 then
      J29 ()
    else
      getI 22 a1 6 fun x30 =>
      getI 20 a0 9 fun x31 =>
      if x30 < x31 then
        J28 1
      else
        J29 ()) fun J32 =>
  if x2 < 4 then
    J32 1
  else
    J32 2
abbrev md_X1_isCandidate : MD := (yX1_isCandidate, cX1_isCandidate, 7, (some (Jvm.ClassFile.FieldType.boolean)), RX1, 16, 1, 4)
theorem hm_X1_isCandidate : (md_X1_isCandidate).y.cls ≠ "java/lang/invoke/MethodHandle" ∧ (md_X1_isCandidate).y.cls ≠ "java/lang/invoke/VarHandle" ∧ (parseMethodDescriptor (md_X1_isCandidate).y.desc).map (fun d => d.parameters.length) = some 2 := by decide +kernel
theorem m_X1_isCandidate (a0 : Nat) (a1 : Nat) (a2 : Nat) : CMF md_X1_isCandidate [cR a0, cR a1, cR a2] (g_X1_isCandidate a0 a1 a2) := by
  refine cm_of (by decide +kernel) rfl (Nat.le_of_ble_eq_true rfl) ?_
  show CWF _ 1 4 0 [(0, cR a0), (1, cR a1), (2, cR a2)] [] _
  unfold g_X1_isCandidate
  refine cw_aload_n dX1_isCandidate_0 rfl 1 rfl ?_
  refine cw_getI (ci := 2) (j := 5) (C := RX3) (T := TX3) (N := 9) rfl (by decide) rfl rfl (Or.inr ⟨_, q816⟩) fSame_rfl dX1_isCandidate_1 (fun x1 => ?_)
  refine cw_aload_n dX1_isCandidate_4 rfl 2 rfl ?_
  refine cw_getI (ci := 5) (j := 13) (C := RX6) (T := TX6) (N := 19) rfl (by decide) rfl rfl (Or.inr ⟨_, q1111⟩) fSame_rfl dX1_isCandidate_5 (fun x2 => ?_)
  refine cw_iconst (v := 4) dX1_isCandidate_8 (by decide) ?_
  refine cw_jn (cj := 1) (kj := 4) (pcj := 17) (lsf := fun (s : Int32) => [(0, cR a0), (1, cR a1), (2, cR a2)]) (stf := fun (s : Int32) => [cI s, cI x1]) (fun s => ?_) (fun J32 hJ32 => ?_)
  · obtain ⟨v3, e⟩ : ∃ z, z = s := ⟨_, rfl⟩
    subst e
    show CWF _ _ _ 17 [(0, cR a0), (1, cR a1), (2, cR a2)] [cI v3, cI x1] _
    refine cw_jn (cj := 1) (kj := 4) (pcj := 36) (lsf := fun (s : Int32) => [(0, cR a0), (1, cR a1), (2, cR a2)]) (stf := fun (s : Int32) => [cI s]) (fun s => ?_) (fun J28 hJ28 => ?_)
    · obtain ⟨v4, e⟩ : ∃ z, z = s := ⟨_, rfl⟩
      subst e
      show CWF _ _ _ 36 [(0, cR a0), (1, cR a1), (2, cR a2)] [cI v4] _
      refine cw_istore_n (ls' := [(3, cI v4), (0, cR a0), (1, cR a1), (2, cR a2)]) dX1_isCandidate_36 rfl (by decide) rfl ?_
      refine cw_aload_n dX1_isCandidate_37 rfl 3 rfl ?_
      refine cw_getP (ci := 5) (j := 7) (C := RX6) (T := TX6) (N := 19) rfl (by decide) rfl rfl (Or.inr ⟨_, q1100⟩) fSame_rfl dX1_isCandidate_38 (fun p5 => ?_)
      refine cw_iter (c := 0) (q := 0) (la := 2) (ls' := [(3, cI v4), (0, cR a0), (1, cR a1), (2, cR a2)]) rfl (Or.inr ⟨dX1_isCandidate_46, rfl⟩) (by decide) (okF (x := ⟨"java/util/List", "iterator", "()Ljava/util/Iterator;"⟩) (ci := 14) (C := RJ2) (T0 := TJ2) (N := 3) (n := 0) rfl (Or.inr ⟨rfl, rfl⟩) rfl dX1_isCandidate_41 (lw_F q290 q295 q293 q114 q297) (List.mem_iff_getElem?.mpr ⟨3, rfl⟩) (show ("java/util/List" : String) ≠ _ ∧ ("java/util/List" : String) ≠ _ ∧ (parseMethodDescriptor (md_J2_iterator).y.desc).map (fun d => d.parameters.length) = some 0 from ⟨by decide, by decide, (hm_J2_iterator).2.2⟩) (by decide) (by decide) (Nat.le_of_ble_eq_true rfl)) (fun m6 => ?_)
      refine cw_sub (ls' := [(0, cR a0), (1, cR a1), (3, cI v4), (4, cT p5 m6 0)]) [2, 3, 1, 0] rfl ?_
      refine cw_loop0 (lsf := fun (s : Int32 × Nat) => [(0, cR a0), (1, cR a1), (3, cI s.1), (4, cT p5 m6 s.2)]) (fun rec9 hrec9 s => ?_) FU (v4, 0)
      obtain ⟨l7, l8⟩ := s
      show CWF _ _ _ 48 [(0, cR a0), (1, cR a1), (3, cI l7), (4, cT p5 m6 l8)] [] _
      dsimp only [b_X1_isCandidate_48]
      refine cw_sub (ls' := [(4, cT p5 m6 l8), (0, cR a0), (1, cR a1), (3, cI l7)]) [3, 0, 1, 2] rfl ?_
      refine cw_hasNext (la := 2) rfl (Or.inr ⟨dX1_isCandidate_48, rfl⟩) (fun x => okF (x := ⟨"java/util/Iterator", "hasNext", "()Z"⟩) (ci := 15) (C := RJ18) (T0 := TJ18) (N := 4) (n := 0) rfl (Or.inl rfl) rfl dX1_isCandidate_50 (lw_F q318 q339 q337 q134 q341) (List.mem_iff_getElem?.mpr ⟨4, rfl⟩) (show ("java/util/Iterator" : String) ≠ _ ∧ ("java/util/Iterator" : String) ≠ _ ∧ (parseMethodDescriptor (md_J18_hasNext).y.desc).map (fun d => d.parameters.length) = some 0 from ⟨by decide, by decide, (hm_J18_hasNext).2.2⟩) (by decide) (by decide) (Nat.le_of_ble_eq_true rfl)) (fun x10 => ?_)
      refine cw_if_eq (tgt := 168) dX1_isCandidate_55 (by decide) ?_ ?_
      · refine cw_iload_n dX1_isCandidate_168 rfl 3 rfl ?_
        exact cw_zret rfl dX1_isCandidate_169
      · refine cw_next (la := 2) rfl (Or.inr ⟨dX1_isCandidate_58, rfl⟩) (fun x => okF (x := ⟨"java/util/Iterator", "next", "()Ljava/lang/Object;"⟩) (ci := 15) (C := RJ18) (T0 := TJ18) (N := 4) (n := 0) rfl (Or.inl rfl) rfl dX1_isCandidate_60 (lw_F q343 q432 q430 q134 q434) (List.mem_iff_getElem?.mpr ⟨6, rfl⟩) (show ("java/util/Iterator" : String) ≠ _ ∧ ("java/util/Iterator" : String) ≠ _ ∧ (parseMethodDescriptor (md_J18_next).y.desc).map (fun d => d.parameters.length) = some 0 from ⟨by decide, by decide, (hm_J18_next).2.2⟩) (by decide) (by decide) (Nat.le_of_ble_eq_true rfl)) (fun p11 => ?_)
        refine cw_cast (ci := 7) (T := TX8) (N := 10) (C := RX8) rfl rfl q525 (Or.inl rfl) dX1_isCandidate_65 ?_
        refine cw_astore (ls' := [(5, cR p11), (4, cT p5 m6 (l8 + 1)), (0, cR a0), (1, cR a1), (3, cI l7)]) dX1_isCandidate_68 (by decide) rfl ?_
        refine cw_aload dX1_isCandidate_70 0 rfl ?_
        refine cw_getI (ci := 7) (j := 5) (C := RX8) (T := TX8) (N := 10) rfl (by decide) rfl rfl (Or.inr ⟨_, q1263⟩) fSame_rfl dX1_isCandidate_72 (fun x12 => ?_)
        refine cw_if_eq (tgt := 81) dX1_isCandidate_75 (by decide) ?_ ?_
        · refine cw_aload dX1_isCandidate_81 0 rfl ?_
          refine cw_getP (ci := 7) (j := 1) (C := RX8) (T := TX8) (N := 10) rfl (by decide) rfl rfl (Or.inr ⟨_, q1253⟩) fSame_rfl dX1_isCandidate_83 (fun p13 => ?_)
          refine cw_astore (ls' := [(6, cR p13), (5, cR p11), (4, cT p5 m6 (l8 + 1)), (0, cR a0), (1, cR a1), (3, cI l7)]) dX1_isCandidate_86 (by decide) rfl ?_
          refine cw_iload_n dX1_isCandidate_88 rfl 5 rfl ?_
          refine cw_aload dX1_isCandidate_89 0 rfl ?_
          refine cw_aload_n dX1_isCandidate_91 rfl 4 rfl ?_
          refine cw_invI (d2 := md_X5_has) (c := 0) (q := 0) (as := [cR p13, cR a1]) (mc := 0) (ms := 0) rfl rfl (okV (ci := 4) (C := RX5) (T0 := TX5) (N := 5) (n := 1) rfl rfl rfl dX1_isCandidate_92 (lw_V q995 q996 q997 q136 q998) ⟨rfl, hm_X5_has⟩ (by decide) (by decide) (Nat.le_of_ble_eq_true rfl)) (m_X5_has p13 a1) rfl (fun x14 => ?_)
          refine cw_jn (cj := 0) (kj := 0) (pcj := 163) (lsf := fun (s : Int32) => [(4, cT p5 m6 (l8 + 1)), (0, cR a0), (1, cR a1)]) (stf := fun (s : Int32) => [cI s, cI l7]) (fun s => ?_) (fun J16 hJ16 => ?_)
          · obtain ⟨v15, e⟩ : ∃ z, z = s := ⟨_, rfl⟩
            subst e
            show CWF _ _ _ 163 [(4, cT p5 m6 (l8 + 1)), (0, cR a0), (1, cR a1)] [cI v15, cI l7] _
            refine cw_iand dX1_isCandidate_163 ?_
            refine cw_istore_n (ls' := [(3, cI (l7 &&& v15)), (4, cT p5 m6 (l8 + 1)), (0, cR a0), (1, cR a1)]) dX1_isCandidate_164 rfl (by decide) rfl ?_
            refine cw_goto (tgt := 48) dX1_isCandidate_165 (by decide) ?_
            refine cw_sub (ls' := [(0, cR a0), (1, cR a1), (3, cI (l7 &&& v15)), (4, cT p5 m6 (l8 + 1))]) [2, 3, 0, 1] rfl ?_
            exact hrec9 ((l7 &&& v15), (l8 + 1))
          · refine cw_jn (cj := 0) (kj := 0) (pcj := 162) (lsf := fun (s : Unit) => [(4, cT p5 m6 (l8 + 1)), (0, cR a0), (1, cR a1)]) (stf := fun (s : Unit) => [cI l7]) (fun s => ?_) (fun J17 hJ17 => ?_)
            · show CWF _ _ _ 162 [(4, cT p5 m6 (l8 + 1)), (0, cR a0), (1, cR a1)] [cI l7] _
              refine cw_iconst (v := 0) dX1_isCandidate_162 (by decide) ?_
              exact hJ16 0
            · refine cw_if_ne (tgt := 162) dX1_isCandidate_95 (by decide) ?_ ?_
              · refine cw_sub (ls' := [(4, cT p5 m6 (l8 + 1)), (0, cR a0), (1, cR a1)]) [2, 3, 4] rfl ?_
                exact hJ17 ()
              · refine cw_aload_n dX1_isCandidate_98 rfl 4 rfl ?_
                refine cw_getP (ci := 2) (j := 3) (C := RX3) (T := TX3) (N := 9) rfl (by decide) rfl rfl (Or.inr ⟨_, q813⟩) fSame_rfl dX1_isCandidate_99 (fun p18 => ?_)
                refine cw_aload dX1_isCandidate_102 0 rfl ?_
                refine cw_getP (ci := 4) (j := 1) (C := RX5) (T := TX5) (N := 5) rfl (by decide) rfl rfl (Or.inr ⟨_, q1011⟩) fSame_rfl dX1_isCandidate_104 (fun p19 => ?_)
                refine cw_invI (d2 := md_J2_contains) (c := 0) (q := 0) (as := [cR p18, cR p19]) (mc := 0) (ms := 0) rfl rfl (okF (x := ⟨"java/util/List", "contains", "(Ljava/lang/Object;)Z"⟩) (ci := 14) (C := RJ2) (T0 := TJ2) (N := 3) (n := 1) rfl (Or.inr ⟨rfl, rfl⟩) rfl dX1_isCandidate_107 (lw_F q912 q686 q684 q114 q688) (List.mem_iff_getElem?.mpr ⟨10, rfl⟩) (show ("java/util/List" : String) ≠ _ ∧ ("java/util/List" : String) ≠ _ ∧ (parseMethodDescriptor (md_J2_contains).y.desc).map (fun d => d.parameters.length) = some 1 from ⟨by decide, by decide, (hm_J2_contains).2.2⟩) (by decide) (by decide) (Nat.le_of_ble_eq_true rfl)) (c_contains p18 p19) rfl (fun x20 => ?_)
                refine cw_if_ne (tgt := 162) dX1_isCandidate_112 (by decide) ?_ ?_
                · refine cw_sub (ls' := [(4, cT p5 m6 (l8 + 1)), (0, cR a0), (1, cR a1)]) [2, 3, 4] rfl ?_
                  exact hJ17 ()
                · refine cw_aload_n dX1_isCandidate_115 rfl 4 rfl ?_
                  refine cw_getP (ci := 2) (j := 3) (C := RX3) (T := TX3) (N := 9) rfl (by decide) rfl rfl (Or.inr ⟨_, q813⟩) fSame_rfl dX1_isCandidate_116 (fun p21 => ?_)
                  refine cw_aload dX1_isCandidate_119 0 rfl ?_
                  refine cw_getP (ci := 4) (j := 2) (C := RX5) (T := TX5) (N := 5) rfl (by decide) rfl rfl (Or.inr ⟨_, q1014⟩) fSame_rfl dX1_isCandidate_121 (fun p22 => ?_)
                  refine cw_invI (d2 := md_J2_contains) (c := 0) (q := 0) (as := [cR p21, cR p22]) (mc := 0) (ms := 0) rfl rfl (okF (x := ⟨"java/util/List", "contains", "(Ljava/lang/Object;)Z"⟩) (ci := 14) (C := RJ2) (T0 := TJ2) (N := 3) (n := 1) rfl (Or.inr ⟨rfl, rfl⟩) rfl dX1_isCandidate_124 (lw_F q912 q686 q684 q114 q688) (List.mem_iff_getElem?.mpr ⟨10, rfl⟩) (show ("java/util/List" : String) ≠ _ ∧ ("java/util/List" : String) ≠ _ ∧ (parseMethodDescriptor (md_J2_contains).y.desc).map (fun d => d.parameters.length) = some 1 from ⟨by decide, by decide, (hm_J2_contains).2.2⟩) (by decide) (by decide) (Nat.le_of_ble_eq_true rfl)) (c_contains p21 p22) rfl (fun x23 => ?_)
                  refine cw_if_ne (tgt := 162) dX1_isCandidate_129 (by decide) ?_ ?_
                  · refine cw_sub (ls' := [(4, cT p5 m6 (l8 + 1)), (0, cR a0), (1, cR a1)]) [2, 3, 4] rfl ?_
                    exact hJ17 ()
                  · refine cw_aload_n dX1_isCandidate_132 rfl 3 rfl ?_
                    refine cw_aload dX1_isCandidate_133 0 rfl ?_
                    refine cw_getP (ci := 4) (j := 1) (C := RX5) (T := TX5) (N := 5) rfl (by decide) rfl rfl (Or.inr ⟨_, q1011⟩) fSame_rfl dX1_isCandidate_135 (fun p24 => ?_)
                    refine cw_aload_n dX1_isCandidate_138 rfl 4 rfl ?_
                    refine cw_invI (d2 := md_X1_isPupil) (c := 0) (q := 0) (as := [cR a0, cR p24, cR a1]) (mc := 0) (ms := 0) rfl rfl (okV (ci := 0) (C := RX1) (T0 := TX1) (N := 11) (n := 2) rfl rfl rfl dX1_isCandidate_139 (lw_V q972 q974 qs9 q111 q975) ⟨rfl, hm_X1_isPupil⟩ (by decide) (by decide) (Nat.le_of_ble_eq_true rfl)) (m_X1_isPupil a0 p24 a1) rfl (fun x25 => ?_)
                    refine cw_if_ne (tgt := 162) dX1_isCandidate_142 (by decide) ?_ ?_
                    · refine cw_sub (ls' := [(4, cT p5 m6 (l8 + 1)), (0, cR a0), (1, cR a1)]) [2, 3, 4] rfl ?_
                      exact hJ17 ()
                    · refine cw_aload_n dX1_isCandidate_145 rfl 3 rfl ?_
                      refine cw_aload dX1_isCandidate_146 0 rfl ?_
                      refine cw_getP (ci := 4) (j := 2) (C := RX5) (T := TX5) (N := 5) rfl (by decide) rfl rfl (Or.inr ⟨_, q1014⟩) fSame_rfl dX1_isCandidate_148 (fun p26 => ?_)
                      refine cw_aload_n dX1_isCandidate_151 rfl 4 rfl ?_
                      refine cw_invI (d2 := md_X1_isPupil) (c := 0) (q := 0) (as := [cR a0, cR p26, cR a1]) (mc := 0) (ms := 0) rfl rfl (okV (ci := 0) (C := RX1) (T0 := TX1) (N := 11) (n := 2) rfl rfl rfl dX1_isCandidate_152 (lw_V q972 q974 qs9 q111 q975) ⟨rfl, hm_X1_isPupil⟩ (by decide) (by decide) (Nat.le_of_ble_eq_true rfl)) (m_X1_isPupil a0 p26 a1) rfl (fun x27 => ?_)
                      refine cw_if_ne (tgt := 162) dX1_isCandidate_155 (by decide) ?_ ?_
                      · refine cw_sub (ls' := [(4, cT p5 m6 (l8 + 1)), (0, cR a0), (1, cR a1)]) [2, 3, 4] rfl ?_
                        exact hJ17 ()
                      · refine cw_iconst (v := 1) dX1_isCandidate_158 (by decide) ?_
                        refine cw_goto (tgt := 163) dX1_isCandidate_159 (by decide) ?_
                        refine cw_sub (ls' := [(4, cT p5 m6 (l8 + 1)), (0, cR a0), (1, cR a1)]) [2, 3, 4] rfl ?_
                        exact hJ16 1
        · refine cw_goto (tgt := 48) dX1_isCandidate_78 (by decide) ?_
          refine cw_sub (ls' := [(0, cR a0), (1, cR a1), (3, cI l7), (4, cT p5 m6 (l8 + 1))]) [2, 3, 4, 1] rfl ?_
          exact hrec9 (l7, (l8 + 1))
    · refine cw_jn (cj := 1) (kj := 4) (pcj := 35) (lsf := fun (s : Unit) => [(0, cR a0), (1, cR a1), (2, cR a2)]) (stf := fun (s : Unit) => []) (fun s => ?_) (fun J29 hJ29 => ?_)
      · show CWF _ _ _ 35 [(0, cR a0), (1, cR a1), (2, cR a2)] [] _
        refine cw_iconst (v := 0) dX1_isCandidate_35 (by decide) ?_
        exact hJ28 0
      · refine cw_icmp_lt (tgt := 35) dX1_isCandidate_17 (by decide) ?_ ?_
        · exact hJ29 ()
        · refine cw_aload_n dX1_isCandidate_20 rfl 1 rfl ?_
          refine cw_getI (ci := 2) (j := 6) (C := RX3) (T := TX3) (N := 9) rfl (by decide) rfl rfl (Or.inr ⟨_, q819⟩) fSame_rfl dX1_isCandidate_21 (fun x30 => ?_)
          refine cw_aload_n dX1_isCandidate_24 rfl 0 rfl ?_
          refine cw_getI (ci := 0) (j := 9) (C := RX1) (T := TX1) (N := 11) rfl (by decide) rfl rfl (Or.inl q215) fSame_rfl dX1_isCandidate_25 (fun x31 => ?_)
          refine cw_icmp_ge (tgt := 35) dX1_isCandidate_28 (by decide) ?_ ?_
          · exact hJ29 ()
          · refine cw_iconst (v := 1) dX1_isCandidate_31 (by decide) ?_
            refine cw_goto (tgt := 36) dX1_isCandidate_32 (by decide) ?_
            exact hJ28 1
  · refine cw_icmp_lt (tgt := 16) dX1_isCandidate_9 (by decide) ?_ ?_
    · refine cw_iconst (v := 1) dX1_isCandidate_16 (by decide) ?_
      exact hJ32 1
    · refine cw_iconst (v := 2) dX1_isCandidate_12 (by decide) ?_
      refine cw_goto (tgt := 17) dX1_isCandidate_13 (by decide) ?_
      exact hJ32 2
def b_X1_draw_186 (a3 : Int32) (p5 : Nat) (x9 : Int32) (p13 : Nat) (rec17 : (Int32 × Int64 × Int32) → GF) : (Int32 × Int64 × Int32) → GF := fun (s : Int32 × Int64 × Int32) => match s with
  | (l14, l15, l16) =>
    if l16 < a3 then
      lremG ((l15 * (1103515245 : Int64)) + (12345 : Int64)) (2147483648 : Int64) fun x18 =>
      ldivG x18 (65536 : Int64) fun x19 =>
      invI (some (p5, 8)) (s_size p5) fun x20 =>
      lremG x19 (x20.toInt64) fun x21 =>
      invP (some (p5, 8)) (s_removeI p5 (x21.toInt32)) fun p22 =>
      castG 22 p22 <|
      invI (some (p13, 8)) (s_add p13 p22) fun x23 =>
      rec17 ((l14 &&& x23), x18, (l16 + 1))
    else
      retG (rI x9)
def b_X1_draw_74 (a0 : Nat) (p2 : Nat) (p5 : Nat) (p6 : Nat) (m7 : Int32) (J26 : Int32 → GF) (rec29 : (Int32 × Nat) → GF) : (Int32 × Nat) → GF := fun (s : Int32 × Nat) => match s with
  | (l27, l28) =>
    hasG p6 l28 fun x30 =>
    if x30 = 0 then
      J26 l27
    else
      nextG p6 m7 l28 fun p31 =>
      castG 22 p31 <|
      invI (some (a0, 20)) (g_X1_isCandidate a0 p31 p2) fun x32 =>
      if x32 = 0 then
        rec29 (l27, (l28 + 1))
      else
        invI (some (p5, 8)) (s_add p5 p31) fun x33 =>
        rec29 ((l27 &&& x33), (l28 + 1))
def g_X1_draw (a0 : Nat) (a1 : Int32) (a2 : Int32) (a3 : Int32) (a4 : Int32) : GF :=
  getP 20 a0 3 fun p1 =>
  invP none (g_X1_at p1 a1) fun p2 =>
  castG 25 p2 <|
  invI none (g_X1_isBetween a2 0 1) fun x3 =>
  invV none (g_X1_requireIndex x3) <|
  jnG (fun (v4 : Int32) =>
    invV none (g_X1_requireArgument v4) <|
    newG 34 fun p5 =>
    invV (some (p5, 34)) (s_init p5) <|
    getP 20 a0 0 fun p6 =>
    itG p6 fun m7 =>
    jnG (fun (v8 : Int32) =>
      invI (some (p5, 8)) (s_size p5) fun x9 =>
      invI (some (p2, 25)) (g_X6_state p2) fun x10 =>
      jnG (fun (v11 : Int32) =>
        invV none (g_X1_requireState v11) <|
        getP 25 p2 8 fun p12 =>
        invP (some (p12, 8)) (s_get p12 a2) fun p13 =>
        castG 8 p13 <|
        invV (some (p13, 8)) (s_clear p13) <|
        loopG (b_X1_draw_186 a3 p5 x9 p13) 26 (v8, (a4.toInt64), 0)) fun J24 =>
      jnG (fun (_ : Unit) =>
        J24 0) fun J25 =>
      if x10 = 0 then
        if x9 < a3 then
          J25 ()
        else
          J24 1
      else
        J25 ()) fun J26 =>
    loopG (b_X1_draw_74 a0 p2 p5 p6 m7 J26) 26 (1, 0)) fun J34 =>
  jnG (fun (_ : Unit) =>
    J34 0) fun J35 =>
  jnG (fun (_ : Unit) =>
    if a4 < 0 then
      J35 ()
    else
      J34 1) fun J36 =>
  if a3 = 3 then
    J36 ()
  else if a3 = 5 then
    J36 ()
  else if a3 = 7 then
    J36 ()
  else
    J35 ()
abbrev md_X1_draw : MD := (yX1_draw, cX1_draw, 13, (some (Jvm.ClassFile.FieldType.int)), RX1, 17, 84, 3463)
theorem hm_X1_draw : (md_X1_draw).y.cls ≠ "java/lang/invoke/MethodHandle" ∧ (md_X1_draw).y.cls ≠ "java/lang/invoke/VarHandle" ∧ (parseMethodDescriptor (md_X1_draw).y.desc).map (fun d => d.parameters.length) = some 4 := by decide +kernel
theorem m_X1_draw (a0 : Nat) (a1 : Int32) (a2 : Int32) (a3 : Int32) (a4 : Int32) : CMF md_X1_draw [cR a0, cI a1, cI a2, cI a3, cI a4] (g_X1_draw a0 a1 a2 a3 a4) := by
  refine cm_of (by decide +kernel) rfl (Nat.le_of_ble_eq_true rfl) ?_
  show CWF _ 84 3463 0 [(0, cR a0), (1, cI a1), (2, cI a2), (3, cI a3), (4, cI a4)] [] _
  unfold g_X1_draw
  refine cw_aload_n dX1_draw_0 rfl 0 rfl ?_
  refine cw_getP (ci := 0) (j := 3) (C := RX1) (T := TX1) (N := 11) rfl (by decide) rfl rfl (Or.inl q209) fSame_rfl dX1_draw_1 (fun p1 => ?_)
  refine cw_iload_n dX1_draw_4 rfl 1 rfl ?_
  refine cw_invP (d2 := md_X1_at) (c := 83) (q := 3457) (as := [cR p1, cI a1]) (mc := 1) (ms := 6) rfl rfl (okS (n := 2) rfl dX1_draw_5 (lw_S q883 q884 q111 q885) hm_X1_at (by decide) (by decide) (Nat.le_of_ble_eq_true rfl)) (m_X1_at p1 a1) rfl (fun p2 => ?_)
  refine cw_cast (ci := 5) (T := TX6) (N := 19) (C := RX6) rfl rfl q524 (Or.inl rfl) dX1_draw_8 ?_
  refine cw_astore (ls' := [(5, cR p2), (0, cR a0), (1, cI a1), (2, cI a2), (3, cI a3), (4, cI a4)]) dX1_draw_11 (by decide) rfl ?_
  refine cw_iload_n dX1_draw_13 rfl 3 rfl ?_
  refine cw_iconst (v := 0) dX1_draw_14 (by decide) ?_
  refine cw_iconst (v := 1) dX1_draw_15 (by decide) ?_
  refine cw_invI (d2 := md_X1_isBetween) (c := 83) (q := 3457) (as := [cI a2, cI 0, cI 1]) (mc := 0) (ms := 0) rfl rfl (okS (n := 3) rfl dX1_draw_16 (lw_S q258 q259 q111 q260) hm_X1_isBetween (by decide) (by decide) (Nat.le_of_ble_eq_true rfl)) (m_X1_isBetween a2 0 1) rfl (fun x3 => ?_)
  refine cw_invV (d2 := md_X1_requireIndex) (c := 82) (q := 3451) (as := [cI x3]) (mc := 1) (ms := 6) rfl rfl (okS (n := 1) rfl dX1_draw_19 (lw_S q886 q887 q111 q888) hm_X1_requireIndex (by decide) (by decide) (Nat.le_of_ble_eq_true rfl)) (m_X1_requireIndex x3) rfl ?_
  refine cw_iload_n dX1_draw_22 rfl 4 rfl ?_
  refine cw_iconst (v := 3) dX1_draw_23 (by decide) ?_
  refine cw_jn (cj := 82) (kj := 3451) (pcj := 48) (lsf := fun (s : Int32) => [(5, cR p2), (0, cR a0), (2, cI a2), (3, cI a3), (4, cI a4)]) (stf := fun (s : Int32) => [cI s]) (fun s => ?_) (fun J34 hJ34 => ?_)
  · obtain ⟨v4, e⟩ : ∃ z, z = s := ⟨_, rfl⟩
    subst e
    show CWF _ _ _ 48 [(5, cR p2), (0, cR a0), (2, cI a2), (3, cI a3), (4, cI a4)] [cI v4] _
    refine cw_invV (d2 := md_X1_requireArgument) (c := 81) (q := 3445) (as := [cI v4]) (mc := 1) (ms := 6) rfl rfl (okS (n := 1) rfl dX1_draw_48 (lw_S q744 q745 q111 q746) hm_X1_requireArgument (by decide) (by decide) (Nat.le_of_ble_eq_true rfl)) (m_X1_requireArgument v4) rfl ?_
    refine cw_new (c := 80) (q := 3442) (ci := 14) (C := RJ2) (T := TJ2) (N := 3) rfl rfl q161 q162 q114 dX1_draw_51 (fun p5 => ?_)
    refine cw_dup dX1_draw_54 rfl ?_
    refine cw_invV (d2 := md_J2_init) (c := 80) (q := 3442) (as := [cR p5]) (mc := 0) (ms := 0) rfl rfl (okI (n := 0) rfl rfl dX1_draw_55 (lw_meth q165) q114 q163 q164 rfl hm_J2_init (by decide) (by decide) (Nat.le_of_ble_eq_true rfl) (by decide)) (c_init p5) rfl ?_
    refine cw_astore (ls' := [(6, cR p5), (5, cR p2), (0, cR a0), (2, cI a2), (3, cI a3), (4, cI a4)]) dX1_draw_58 (by decide) rfl ?_
    refine cw_iconst (v := 1) dX1_draw_60 (by decide) ?_
    refine cw_istore (ls' := [(7, cI 1), (6, cR p5), (5, cR p2), (0, cR a0), (2, cI a2), (3, cI a3), (4, cI a4)]) dX1_draw_61 (by decide) rfl ?_
    refine cw_aload_n dX1_draw_63 rfl 3 rfl ?_
    refine cw_getP (ci := 0) (j := 0) (C := RX1) (T := TX1) (N := 11) rfl (by decide) rfl rfl (Or.inl q206) fSame_rfl dX1_draw_64 (fun p6 => ?_)
    refine cw_iter (c := 79) (q := 3438) (la := 2) (ls' := [(7, cI 1), (6, cR p5), (5, cR p2), (0, cR a0), (2, cI a2), (3, cI a3), (4, cI a4)]) rfl (Or.inr ⟨dX1_draw_72, rfl⟩) (by decide) (okF (x := ⟨"java/util/List", "iterator", "()Ljava/util/Iterator;"⟩) (ci := 14) (C := RJ2) (T0 := TJ2) (N := 3) (n := 0) rfl (Or.inr ⟨rfl, rfl⟩) rfl dX1_draw_67 (lw_F q290 q295 q293 q114 q297) (List.mem_iff_getElem?.mpr ⟨3, rfl⟩) (show ("java/util/List" : String) ≠ _ ∧ ("java/util/List" : String) ≠ _ ∧ (parseMethodDescriptor (md_J2_iterator).y.desc).map (fun d => d.parameters.length) = some 0 from ⟨by decide, by decide, (hm_J2_iterator).2.2⟩) (by decide) (by decide) (Nat.le_of_ble_eq_true rfl)) (fun m7 => ?_)
    refine cw_jn (cj := 27) (kj := 1670) (pcj := 124) (lsf := fun (s : Int32) => [(6, cR p5), (5, cR p2), (2, cI a2), (3, cI a3), (4, cI a4), (7, cI s)]) (stf := fun (s : Int32) => []) (fun s => ?_) (fun J26 hJ26 => ?_)
    · obtain ⟨v8, e⟩ : ∃ z, z = s := ⟨_, rfl⟩
      subst e
      show CWF _ _ _ 124 [(6, cR p5), (5, cR p2), (2, cI a2), (3, cI a3), (4, cI a4), (7, cI v8)] [] _
      refine cw_aload dX1_draw_124 0 rfl ?_
      refine cw_invI (d2 := md_J2_size) (c := 27) (q := 1670) (as := [cR p5]) (mc := 0) (ms := 0) rfl rfl (okF (x := ⟨"java/util/List", "size", "()I"⟩) (ci := 14) (C := RJ2) (T0 := TJ2) (N := 3) (n := 0) rfl (Or.inr ⟨rfl, rfl⟩) rfl dX1_draw_126 (lw_F q246 q251 q249 q114 q253) (List.mem_iff_getElem?.mpr ⟨1, rfl⟩) (show ("java/util/List" : String) ≠ _ ∧ ("java/util/List" : String) ≠ _ ∧ (parseMethodDescriptor (md_J2_size).y.desc).map (fun d => d.parameters.length) = some 0 from ⟨by decide, by decide, (hm_J2_size).2.2⟩) (by decide) (by decide) (Nat.le_of_ble_eq_true rfl)) (c_size p5) rfl (fun x9 => ?_)
      refine cw_istore (ls' := [(8, cI x9), (6, cR p5), (5, cR p2), (2, cI a2), (3, cI a3), (4, cI a4), (7, cI v8)]) dX1_draw_131 (by decide) rfl ?_
      refine cw_aload dX1_draw_133 2 rfl ?_
      refine cw_invI (d2 := md_X6_state) (c := 27) (q := 1670) (as := [cR p2]) (mc := 0) (ms := 0) rfl rfl (okV (ci := 5) (C := RX6) (T0 := TX6) (N := 19) (n := 0) rfl rfl rfl dX1_draw_135 (lw_V q1177 q1178 q1179 q137 q1180) ⟨rfl, hm_X6_state⟩ (by decide) (by decide) (Nat.le_of_ble_eq_true rfl)) (m_X6_state p2) rfl (fun x10 => ?_)
      refine cw_jn (cj := 27) (kj := 1670) (pcj := 152) (lsf := fun (s : Int32) => [(8, cI x9), (6, cR p5), (5, cR p2), (2, cI a2), (3, cI a3), (4, cI a4), (7, cI v8)]) (stf := fun (s : Int32) => [cI s]) (fun s => ?_) (fun J24 hJ24 => ?_)
      · obtain ⟨v11, e⟩ : ∃ z, z = s := ⟨_, rfl⟩
        subst e
        show CWF _ _ _ 152 [(8, cI x9), (6, cR p5), (5, cR p2), (2, cI a2), (3, cI a3), (4, cI a4), (7, cI v8)] [cI v11] _
        refine cw_invV (d2 := md_X1_requireState) (c := 26) (q := 1664) (as := [cI v11]) (mc := 1) (ms := 6) rfl rfl (okS (n := 1) rfl dX1_draw_152 (lw_S q772 q773 q111 q774) hm_X1_requireState (by decide) (by decide) (Nat.le_of_ble_eq_true rfl)) (m_X1_requireState v11) rfl ?_
        refine cw_aload dX1_draw_155 2 rfl ?_
        refine cw_getP (ci := 5) (j := 8) (C := RX6) (T := TX6) (N := 19) rfl (by decide) rfl rfl (Or.inr ⟨_, q1102⟩) fSame_rfl dX1_draw_157 (fun p12 => ?_)
        refine cw_iload_n dX1_draw_160 rfl 3 rfl ?_
        refine cw_invP (d2 := md_J2_get) (c := 26) (q := 1664) (as := [cR p12, cI a2]) (mc := 0) (ms := 0) rfl rfl (okF (x := ⟨"java/util/List", "get", "(I)Ljava/lang/Object;"⟩) (ci := 14) (C := RJ2) (T0 := TJ2) (N := 3) (n := 1) rfl (Or.inr ⟨rfl, rfl⟩) rfl dX1_draw_161 (lw_F q262 q267 q265 q114 q269) (List.mem_iff_getElem?.mpr ⟨2, rfl⟩) (show ("java/util/List" : String) ≠ _ ∧ ("java/util/List" : String) ≠ _ ∧ (parseMethodDescriptor (md_J2_get).y.desc).map (fun d => d.parameters.length) = some 1 from ⟨by decide, by decide, (hm_J2_get).2.2⟩) (by decide) (by decide) (Nat.le_of_ble_eq_true rfl)) (c_get p12 a2) rfl (fun p13 => ?_)
        refine cw_castL q1220 (Or.inr q200) dX1_draw_166 ?_
        refine cw_astore (ls' := [(9, cR p13), (8, cI x9), (6, cR p5), (5, cR p2), (2, cI a2), (3, cI a3), (4, cI a4), (7, cI v8)]) dX1_draw_169 (by decide) rfl ?_
        refine cw_aload dX1_draw_171 0 rfl ?_
        refine cw_invV (d2 := md_J2_clear) (c := 26) (q := 1664) (as := [cR p13]) (mc := 0) (ms := 0) rfl rfl (okF (x := ⟨"java/util/List", "clear", "()V"⟩) (ci := 14) (C := RJ2) (T0 := TJ2) (N := 3) (n := 0) rfl (Or.inr ⟨rfl, rfl⟩) rfl dX1_draw_173 (lw_F q197 q203 q201 q114 q205) (List.mem_iff_getElem?.mpr ⟨0, rfl⟩) (show ("java/util/List" : String) ≠ _ ∧ ("java/util/List" : String) ≠ _ ∧ (parseMethodDescriptor (md_J2_clear).y.desc).map (fun d => d.parameters.length) = some 0 from ⟨by decide, by decide, (hm_J2_clear).2.2⟩) (by decide) (by decide) (Nat.le_of_ble_eq_true rfl)) (c_clear p13) rfl ?_
        refine cw_iload dX1_draw_178 6 rfl ?_
        refine cw_i2l dX1_draw_180 ?_
        refine cw_lstore (ls' := [(10, cJ (a4.toInt64)), (9, cR p13), (8, cI x9), (6, cR p5), (5, cR p2), (2, cI a2), (3, cI a3), (4, cI a4), (7, cI v8)]) dX1_draw_181 (by decide) rfl ?_
        refine cw_iconst (v := 0) dX1_draw_183 (by decide) ?_
        refine cw_istore (ls' := [(12, cI 0), (10, cJ (a4.toInt64)), (9, cR p13), (8, cI x9), (6, cR p5), (5, cR p2), (2, cI a2), (3, cI a3), (4, cI a4), (7, cI v8)]) dX1_draw_184 (by decide) rfl ?_
        refine cw_sub (ls' := [(9, cR p13), (8, cI x9), (6, cR p5), (3, cI a3), (7, cI v8), (10, cJ (a4.toInt64)), (12, cI 0)]) [2, 3, 4, 7, 9, 1, 0] rfl ?_
        refine cw_weak (c' := 0 + 26 * 1) (q' := 0 + 26 * 64) (by omega) (by omega) ?_
        refine cw_loop (ce := 0) (ke := 0) (cb := 1) (kb := 64) (lsf := fun (s : Int32 × Int64 × Int32) => [(9, cR p13), (8, cI x9), (6, cR p5), (3, cI a3), (7, cI s.1), (10, cJ s.2.1), (12, cI s.2.2)]) (fun Crec17 Krec17 rec17 hCrec17 hKrec17 hrec17 s => ?_) 26 (v8, (a4.toInt64), 0)
        obtain ⟨l14, l15, l16⟩ := s
        show CWF _ _ _ 186 [(9, cR p13), (8, cI x9), (6, cR p5), (3, cI a3), (7, cI l14), (10, cJ l15), (12, cI l16)] [] _
        dsimp only [b_X1_draw_186]
        refine cw_iload dX1_draw_186 6 rfl ?_
        refine cw_iload_n dX1_draw_188 rfl 3 rfl ?_
        refine cw_icmp_ge (tgt := 252) dX1_draw_189 (by decide) ?_ ?_
        · refine cw_weak (c' := Crec17 + 0) (q' := Krec17 + 0) (by omega) (by omega) ?_
          refine cw_iload dX1_draw_252 1 rfl ?_
          exact cw_iret rfl dX1_draw_254
        · refine cw_lload dX1_draw_192 5 rfl ?_
          refine cw_ldc2 (v := 1103515245) dX1_draw_194 q1352 ?_
          refine cw_lmul dX1_draw_197 ?_
          refine cw_ldc2 (v := 12345) dX1_draw_198 q1353 ?_
          refine cw_ladd dX1_draw_201 ?_
          refine cw_ldc2 (v := 2147483648) dX1_draw_202 q1354 ?_
          refine cw_lrem dX1_draw_205 (fun x18 => ?_)
          refine cw_lstore (ls' := [(10, cJ x18), (9, cR p13), (8, cI x9), (6, cR p5), (3, cI a3), (7, cI l14), (12, cI l16)]) dX1_draw_206 (by decide) rfl ?_
          refine cw_iload dX1_draw_208 5 rfl ?_
          refine cw_aload dX1_draw_210 1 rfl ?_
          refine cw_aload dX1_draw_212 3 rfl ?_
          refine cw_lload dX1_draw_214 0 rfl ?_
          refine cw_ldc2 (v := 65536) dX1_draw_216 q1355 ?_
          refine cw_ldiv dX1_draw_219 (fun x19 => ?_)
          refine cw_aload dX1_draw_220 3 rfl ?_
          refine cw_invI (d2 := md_J2_size) (c := Crec17 + 1) (q := Krec17 + 64) (as := [cR p5]) (mc := 0) (ms := 0) rfl rfl (okF (x := ⟨"java/util/List", "size", "()I"⟩) (ci := 14) (C := RJ2) (T0 := TJ2) (N := 3) (n := 0) rfl (Or.inr ⟨rfl, rfl⟩) rfl dX1_draw_222 (lw_F q246 q251 q249 q114 q253) (List.mem_iff_getElem?.mpr ⟨1, rfl⟩) (show ("java/util/List" : String) ≠ _ ∧ ("java/util/List" : String) ≠ _ ∧ (parseMethodDescriptor (md_J2_size).y.desc).map (fun d => d.parameters.length) = some 0 from ⟨by decide, by decide, (hm_J2_size).2.2⟩) (by decide) (by decide) (Nat.le_of_ble_eq_true rfl)) (c_size p5) rfl (fun x20 => ?_)
          refine cw_i2l dX1_draw_227 ?_
          refine cw_lrem dX1_draw_228 (fun x21 => ?_)
          refine cw_l2i dX1_draw_229 ?_
          refine cw_invP (d2 := md_J2_remove_2) (c := Crec17 + 1) (q := Krec17 + 64) (as := [cR p5, cI (x21.toInt32)]) (mc := 0) (ms := 0) rfl rfl (okF (x := ⟨"java/util/List", "remove", "(I)Ljava/lang/Object;"⟩) (ci := 14) (C := RJ2) (T0 := TJ2) (N := 3) (n := 1) rfl (Or.inr ⟨rfl, rfl⟩) rfl dX1_draw_230 (lw_F q1357 q1362 q1360 q114 q1364) (List.mem_iff_getElem?.mpr ⟨11, rfl⟩) (show ("java/util/List" : String) ≠ _ ∧ ("java/util/List" : String) ≠ _ ∧ (parseMethodDescriptor (md_J2_remove_2).y.desc).map (fun d => d.parameters.length) = some 1 from ⟨by decide, by decide, (hm_J2_remove_2).2.2⟩) (by decide) (by decide) (Nat.le_of_ble_eq_true rfl)) (c_removeI p5 (x21.toInt32)) rfl (fun p22 => ?_)
          refine cw_cast (ci := 2) (T := TX3) (N := 9) (C := RX3) rfl rfl q733 (Or.inl rfl) dX1_draw_235 ?_
          refine cw_invI (d2 := md_J2_add) (c := Crec17 + 0) (q := Krec17 + 0) (as := [cR p13, cR p22]) (mc := 1) (ms := 64) rfl rfl (okF (x := ⟨"java/util/List", "add", "(Ljava/lang/Object;)Z"⟩) (ci := 14) (C := RJ2) (T0 := TJ2) (N := 3) (n := 1) rfl (Or.inr ⟨rfl, rfl⟩) rfl dX1_draw_238 (lw_F q842 q587 q585 q114 q589) (List.mem_iff_getElem?.mpr ⟨9, rfl⟩) (show ("java/util/List" : String) ≠ _ ∧ ("java/util/List" : String) ≠ _ ∧ (parseMethodDescriptor (md_J2_add).y.desc).map (fun d => d.parameters.length) = some 1 from ⟨by decide, by decide, (hm_J2_add).2.2⟩) (by decide) (by decide) (Nat.le_of_ble_eq_true rfl)) (c_add p13 p22) rfl (fun x23 => ?_)
          refine cw_iand dX1_draw_243 ?_
          refine cw_istore (ls' := [(7, cI (l14 &&& x23)), (10, cJ x18), (9, cR p13), (8, cI x9), (6, cR p5), (3, cI a3), (12, cI l16)]) dX1_draw_244 (by decide) rfl ?_
          refine cw_iinc (v := (l16 + 1)) (ls' := [(12, cI (l16 + 1)), (7, cI (l14 &&& x23)), (10, cJ x18), (9, cR p13), (8, cI x9), (6, cR p5), (3, cI a3)]) dX1_draw_246 6 rfl rfl (by decide) rfl ?_
          refine cw_goto (tgt := 186) dX1_draw_249 (by decide) ?_
          refine cw_sub (ls' := [(9, cR p13), (8, cI x9), (6, cR p5), (3, cI a3), (7, cI (l14 &&& x23)), (10, cJ x18), (12, cI (l16 + 1))]) [3, 4, 5, 6, 1, 2, 0] rfl ?_
          exact hrec17 ((l14 &&& x23), x18, (l16 + 1))
      · refine cw_jn (cj := 27) (kj := 1670) (pcj := 151) (lsf := fun (s : Unit) => [(8, cI x9), (6, cR p5), (5, cR p2), (2, cI a2), (3, cI a3), (4, cI a4), (7, cI v8)]) (stf := fun (s : Unit) => []) (fun s => ?_) (fun J25 hJ25 => ?_)
        · show CWF _ _ _ 151 [(8, cI x9), (6, cR p5), (5, cR p2), (2, cI a2), (3, cI a3), (4, cI a4), (7, cI v8)] [] _
          refine cw_iconst (v := 0) dX1_draw_151 (by decide) ?_
          exact hJ24 0
        · refine cw_if_ne (tgt := 151) dX1_draw_138 (by decide) ?_ ?_
          · exact hJ25 ()
          · refine cw_iload dX1_draw_141 0 rfl ?_
            refine cw_iload_n dX1_draw_143 rfl 4 rfl ?_
            refine cw_icmp_lt (tgt := 151) dX1_draw_144 (by decide) ?_ ?_
            · exact hJ25 ()
            · refine cw_iconst (v := 1) dX1_draw_147 (by decide) ?_
              refine cw_goto (tgt := 152) dX1_draw_148 (by decide) ?_
              exact hJ24 1
    · refine cw_sub (ls' := [(6, cR p5), (5, cR p2), (0, cR a0), (2, cI a2), (3, cI a3), (4, cI a4), (7, cI 1), (8, cT p6 m7 0)]) [2, 3, 4, 5, 6, 7, 1, 0] rfl ?_
      refine cw_weak (c' := 27 + 26 * 2) (q' := 1670 + 26 * 68) (by omega) (by omega) ?_
      refine cw_loop (ce := 27) (ke := 1670) (cb := 2) (kb := 68) (lsf := fun (s : Int32 × Nat) => [(6, cR p5), (5, cR p2), (0, cR a0), (2, cI a2), (3, cI a3), (4, cI a4), (7, cI s.1), (8, cT p6 m7 s.2)]) (fun Crec29 Krec29 rec29 hCrec29 hKrec29 hrec29 s => ?_) 26 (1, 0)
      obtain ⟨l27, l28⟩ := s
      show CWF _ _ _ 74 [(6, cR p5), (5, cR p2), (0, cR a0), (2, cI a2), (3, cI a3), (4, cI a4), (7, cI l27), (8, cT p6 m7 l28)] [] _
      dsimp only [b_X1_draw_74]
      refine cw_sub (ls' := [(8, cT p6 m7 l28), (6, cR p5), (5, cR p2), (0, cR a0), (2, cI a2), (3, cI a3), (4, cI a4), (7, cI l27)]) [7, 0, 1, 2, 3, 4, 5, 6] rfl ?_
      refine cw_hasNext (la := 2) rfl (Or.inr ⟨dX1_draw_74, rfl⟩) (fun x => okF (x := ⟨"java/util/Iterator", "hasNext", "()Z"⟩) (ci := 15) (C := RJ18) (T0 := TJ18) (N := 4) (n := 0) rfl (Or.inl rfl) rfl dX1_draw_76 (lw_F q318 q339 q337 q134 q341) (List.mem_iff_getElem?.mpr ⟨4, rfl⟩) (show ("java/util/Iterator" : String) ≠ _ ∧ ("java/util/Iterator" : String) ≠ _ ∧ (parseMethodDescriptor (md_J18_hasNext).y.desc).map (fun d => d.parameters.length) = some 0 from ⟨by decide, by decide, (hm_J18_hasNext).2.2⟩) (by decide) (by decide) (Nat.le_of_ble_eq_true rfl)) (fun x30 => ?_)
      refine cw_if_eq (tgt := 124) dX1_draw_81 (by decide) ?_ ?_
      · refine cw_weak (c' := Crec29 + 0) (q' := Krec29 + 0) (by omega) (by omega) ?_
        refine cw_weak (c' := 27) (q' := 1670) (by omega) (by omega) ?_
        refine cw_sub (ls' := [(6, cR p5), (5, cR p2), (2, cI a2), (3, cI a3), (4, cI a4), (7, cI l27)]) [1, 2, 4, 5, 6, 7] rfl ?_
        exact hJ26 l27
      · refine cw_next (la := 2) rfl (Or.inr ⟨dX1_draw_84, rfl⟩) (fun x => okF (x := ⟨"java/util/Iterator", "next", "()Ljava/lang/Object;"⟩) (ci := 15) (C := RJ18) (T0 := TJ18) (N := 4) (n := 0) rfl (Or.inl rfl) rfl dX1_draw_86 (lw_F q343 q432 q430 q134 q434) (List.mem_iff_getElem?.mpr ⟨6, rfl⟩) (show ("java/util/Iterator" : String) ≠ _ ∧ ("java/util/Iterator" : String) ≠ _ ∧ (parseMethodDescriptor (md_J18_next).y.desc).map (fun d => d.parameters.length) = some 0 from ⟨by decide, by decide, (hm_J18_next).2.2⟩) (by decide) (by decide) (Nat.le_of_ble_eq_true rfl)) (fun p31 => ?_)
        refine cw_cast (ci := 2) (T := TX3) (N := 9) (C := RX3) rfl rfl q733 (Or.inl rfl) dX1_draw_91 ?_
        refine cw_astore (ls' := [(9, cR p31), (8, cT p6 m7 (l28 + 1)), (6, cR p5), (5, cR p2), (0, cR a0), (2, cI a2), (3, cI a3), (4, cI a4), (7, cI l27)]) dX1_draw_94 (by decide) rfl ?_
        refine cw_aload_n dX1_draw_96 rfl 4 rfl ?_
        refine cw_aload dX1_draw_97 0 rfl ?_
        refine cw_aload dX1_draw_99 3 rfl ?_
        refine cw_invI (d2 := md_X1_isCandidate) (c := Crec29 + 1) (q := Krec29 + 64) (as := [cR a0, cR p31, cR p2]) (mc := 1) (ms := 4) rfl rfl (okV (ci := 0) (C := RX1) (T0 := TX1) (N := 11) (n := 2) rfl rfl rfl dX1_draw_101 (lw_V q1348 q1350 qs13 q111 q1351) ⟨rfl, hm_X1_isCandidate⟩ (by decide) (by decide) (Nat.le_of_ble_eq_true rfl)) (m_X1_isCandidate a0 p31 p2) rfl (fun x32 => ?_)
        refine cw_if_eq (tgt := 121) dX1_draw_104 (by decide) ?_ ?_
        · refine cw_weak (c' := Crec29 + 0) (q' := Krec29 + 0) (by omega) (by omega) ?_
          refine cw_goto (tgt := 74) dX1_draw_121 (by decide) ?_
          refine cw_sub (ls' := [(6, cR p5), (5, cR p2), (0, cR a0), (2, cI a2), (3, cI a3), (4, cI a4), (7, cI l27), (8, cT p6 m7 (l28 + 1))]) [2, 3, 4, 5, 6, 7, 8, 1] rfl ?_
          exact hrec29 (l27, (l28 + 1))
        · refine cw_iload dX1_draw_107 8 rfl ?_
          refine cw_aload dX1_draw_109 2 rfl ?_
          refine cw_aload dX1_draw_111 0 rfl ?_
          refine cw_invI (d2 := md_J2_add) (c := Crec29 + 0) (q := Krec29 + 0) (as := [cR p5, cR p31]) (mc := 1) (ms := 64) rfl rfl (okF (x := ⟨"java/util/List", "add", "(Ljava/lang/Object;)Z"⟩) (ci := 14) (C := RJ2) (T0 := TJ2) (N := 3) (n := 1) rfl (Or.inr ⟨rfl, rfl⟩) rfl dX1_draw_113 (lw_F q842 q587 q585 q114 q589) (List.mem_iff_getElem?.mpr ⟨9, rfl⟩) (show ("java/util/List" : String) ≠ _ ∧ ("java/util/List" : String) ≠ _ ∧ (parseMethodDescriptor (md_J2_add).y.desc).map (fun d => d.parameters.length) = some 1 from ⟨by decide, by decide, (hm_J2_add).2.2⟩) (by decide) (by decide) (Nat.le_of_ble_eq_true rfl)) (c_add p5 p31) rfl (fun x33 => ?_)
          refine cw_iand dX1_draw_118 ?_
          refine cw_istore (ls' := [(7, cI (l27 &&& x33)), (9, cR p31), (8, cT p6 m7 (l28 + 1)), (6, cR p5), (5, cR p2), (0, cR a0), (2, cI a2), (3, cI a3), (4, cI a4)]) dX1_draw_119 (by decide) rfl ?_
          refine cw_goto (tgt := 74) dX1_draw_121 (by decide) ?_
          refine cw_sub (ls' := [(6, cR p5), (5, cR p2), (0, cR a0), (2, cI a2), (3, cI a3), (4, cI a4), (7, cI (l27 &&& x33)), (8, cT p6 m7 (l28 + 1))]) [3, 4, 5, 6, 7, 8, 0, 2] rfl ?_
          exact hrec29 ((l27 &&& x33), (l28 + 1))
  · refine cw_jn (cj := 82) (kj := 3451) (pcj := 47) (lsf := fun (s : Unit) => [(5, cR p2), (0, cR a0), (2, cI a2), (3, cI a3), (4, cI a4)]) (stf := fun (s : Unit) => []) (fun s => ?_) (fun J35 hJ35 => ?_)
    · show CWF _ _ _ 47 [(5, cR p2), (0, cR a0), (2, cI a2), (3, cI a3), (4, cI a4)] [] _
      refine cw_iconst (v := 0) dX1_draw_47 (by decide) ?_
      exact hJ34 0
    · refine cw_jn (cj := 82) (kj := 3451) (pcj := 38) (lsf := fun (s : Unit) => [(5, cR p2), (0, cR a0), (2, cI a2), (3, cI a3), (4, cI a4)]) (stf := fun (s : Unit) => []) (fun s => ?_) (fun J36 hJ36 => ?_)
      · show CWF _ _ _ 38 [(5, cR p2), (0, cR a0), (2, cI a2), (3, cI a3), (4, cI a4)] [] _
        refine cw_iload dX1_draw_38 4 rfl ?_
        refine cw_if_lt (tgt := 47) dX1_draw_40 (by decide) ?_ ?_
        · exact hJ35 ()
        · refine cw_iconst (v := 1) dX1_draw_43 (by decide) ?_
          refine cw_goto (tgt := 48) dX1_draw_44 (by decide) ?_
          exact hJ34 1
      · refine cw_icmp_eq (tgt := 38) dX1_draw_24 (by decide) ?_ ?_
        · refine cw_sub (ls' := [(5, cR p2), (0, cR a0), (2, cI a2), (3, cI a3), (4, cI a4)]) [0, 1, 3, 4, 5] rfl ?_
          exact hJ36 ()
        · refine cw_iload_n dX1_draw_27 rfl 4 rfl ?_
          refine cw_iconst (v := 5) dX1_draw_28 (by decide) ?_
          refine cw_icmp_eq (tgt := 38) dX1_draw_29 (by decide) ?_ ?_
          · refine cw_sub (ls' := [(5, cR p2), (0, cR a0), (2, cI a2), (3, cI a3), (4, cI a4)]) [0, 1, 3, 4, 5] rfl ?_
            exact hJ36 ()
          · refine cw_iload_n dX1_draw_32 rfl 4 rfl ?_
            refine cw_bipush (v := 7) dX1_draw_33 (by decide) ?_
            refine cw_icmp_ne (tgt := 47) dX1_draw_35 (by decide) ?_ ?_
            · refine cw_sub (ls' := [(5, cR p2), (0, cR a0), (2, cI a2), (3, cI a3), (4, cI a4)]) [0, 1, 3, 4, 5] rfl ?_
              exact hJ35 ()
            · refine cw_sub (ls' := [(5, cR p2), (0, cR a0), (2, cI a2), (3, cI a3), (4, cI a4)]) [0, 1, 3, 4, 5] rfl ?_
              exact hJ36 ()
def g_X1_requireJudge (a0 : Nat) (a1 : Int32) (a2 : Int32) : GF :=
  getI 25 a0 2 fun x1 =>
  invI none (g_X1_isBetween a1 0 (x1 - 1)) fun x2 =>
  jnG (fun (v3 : Int32) =>
    invV none (g_X1_requireIndex v3) <|
    retG rV) fun J4 =>
  jnG (fun (_ : Unit) =>
    J4 0) fun J5 =>
  if x2 = 0 then
    J5 ()
  else
    invP (some (a0, 25)) (g_X6_panel a0 a1) fun p6 =>
    invI (some (p6, 8)) (s_size p6) fun x7 =>
    invI none (g_X1_isBetween a2 0 (x7 - 1)) fun x8 =>
    if x8 = 0 then
      J5 ()
    else
      J4 1
abbrev md_X1_requireJudge : MD := (yX1_requireJudge, cX1_requireJudge, 3, none, RX1, 14, 1, 6)
theorem hm_X1_requireJudge : (md_X1_requireJudge).y.cls ≠ "java/lang/invoke/MethodHandle" ∧ (md_X1_requireJudge).y.cls ≠ "java/lang/invoke/VarHandle" ∧ (parseMethodDescriptor (md_X1_requireJudge).y.desc).map (fun d => d.parameters.length) = some 3 := by decide +kernel
theorem m_X1_requireJudge (a0 : Nat) (a1 : Int32) (a2 : Int32) : CMF md_X1_requireJudge [cR a0, cI a1, cI a2] (g_X1_requireJudge a0 a1 a2) := by
  refine cm_of (by decide +kernel) rfl (Nat.le_of_ble_eq_true rfl) ?_
  show CWF _ 1 6 0 [(0, cR a0), (1, cI a1), (2, cI a2)] [] _
  unfold g_X1_requireJudge
  refine cw_iload_n dX1_requireJudge_0 rfl 1 rfl ?_
  refine cw_iconst (v := 0) dX1_requireJudge_1 (by decide) ?_
  refine cw_aload_n dX1_requireJudge_2 rfl 0 rfl ?_
  refine cw_getI (ci := 5) (j := 2) (C := RX6) (T := TX6) (N := 19) rfl (by decide) rfl rfl (Or.inr ⟨_, q1090⟩) fSame_rfl dX1_requireJudge_3 (fun x1 => ?_)
  refine cw_iconst (v := 1) dX1_requireJudge_6 (by decide) ?_
  refine cw_isub dX1_requireJudge_7 ?_
  refine cw_invI (d2 := md_X1_isBetween) (c := 1) (q := 6) (as := [cI a1, cI 0, cI (x1 - 1)]) (mc := 0) (ms := 0) rfl rfl (okS (n := 3) rfl dX1_requireJudge_8 (lw_S q258 q259 q111 q260) hm_X1_isBetween (by decide) (by decide) (Nat.le_of_ble_eq_true rfl)) (m_X1_isBetween a1 0 (x1 - 1)) rfl (fun x2 => ?_)
  refine cw_jn (cj := 1) (kj := 6) (pcj := 39) (lsf := fun (s : Int32) => []) (stf := fun (s : Int32) => [cI s]) (fun s => ?_) (fun J4 hJ4 => ?_)
  · obtain ⟨v3, e⟩ : ∃ z, z = s := ⟨_, rfl⟩
    subst e
    show CWF _ _ _ 39 [] [cI v3] _
    refine cw_invV (d2 := md_X1_requireIndex) (c := 0) (q := 0) (as := [cI v3]) (mc := 1) (ms := 6) rfl rfl (okS (n := 1) rfl dX1_requireJudge_39 (lw_S q886 q887 q111 q888) hm_X1_requireIndex (by decide) (by decide) (Nat.le_of_ble_eq_true rfl)) (m_X1_requireIndex v3) rfl ?_
    exact cw_vret rfl dX1_requireJudge_42
  · refine cw_jn (cj := 1) (kj := 6) (pcj := 38) (lsf := fun (s : Unit) => []) (stf := fun (s : Unit) => []) (fun s => ?_) (fun J5 hJ5 => ?_)
    · show CWF _ _ _ 38 [] [] _
      refine cw_iconst (v := 0) dX1_requireJudge_38 (by decide) ?_
      exact hJ4 0
    · refine cw_if_eq (tgt := 38) dX1_requireJudge_11 (by decide) ?_ ?_
      · refine cw_sub (ls' := []) [] rfl ?_
        exact hJ5 ()
      · refine cw_iload_n dX1_requireJudge_14 rfl 2 rfl ?_
        refine cw_iconst (v := 0) dX1_requireJudge_15 (by decide) ?_
        refine cw_aload_n dX1_requireJudge_16 rfl 0 rfl ?_
        refine cw_iload_n dX1_requireJudge_17 rfl 1 rfl ?_
        refine cw_invP (d2 := md_X6_panel) (c := 1) (q := 6) (as := [cR a0, cI a1]) (mc := 0) (ms := 0) rfl rfl (okV (ci := 5) (C := RX6) (T0 := TX6) (N := 19) (n := 1) rfl rfl rfl dX1_requireJudge_18 (lw_V q1375 q555 q556 q137 q557) ⟨rfl, hm_X6_panel⟩ (by decide) (by decide) (Nat.le_of_ble_eq_true rfl)) (m_X6_panel a0 a1) rfl (fun p6 => ?_)
        refine cw_invI (d2 := md_J2_size) (c := 1) (q := 6) (as := [cR p6]) (mc := 0) (ms := 0) rfl rfl (okF (x := ⟨"java/util/List", "size", "()I"⟩) (ci := 14) (C := RJ2) (T0 := TJ2) (N := 3) (n := 0) rfl (Or.inr ⟨rfl, rfl⟩) rfl dX1_requireJudge_21 (lw_F q246 q251 q249 q114 q253) (List.mem_iff_getElem?.mpr ⟨1, rfl⟩) (show ("java/util/List" : String) ≠ _ ∧ ("java/util/List" : String) ≠ _ ∧ (parseMethodDescriptor (md_J2_size).y.desc).map (fun d => d.parameters.length) = some 0 from ⟨by decide, by decide, (hm_J2_size).2.2⟩) (by decide) (by decide) (Nat.le_of_ble_eq_true rfl)) (c_size p6) rfl (fun x7 => ?_)
        refine cw_iconst (v := 1) dX1_requireJudge_26 (by decide) ?_
        refine cw_isub dX1_requireJudge_27 ?_
        refine cw_invI (d2 := md_X1_isBetween) (c := 1) (q := 6) (as := [cI a2, cI 0, cI (x7 - 1)]) (mc := 0) (ms := 0) rfl rfl (okS (n := 3) rfl dX1_requireJudge_28 (lw_S q258 q259 q111 q260) hm_X1_isBetween (by decide) (by decide) (Nat.le_of_ble_eq_true rfl)) (m_X1_isBetween a2 0 (x7 - 1)) rfl (fun x8 => ?_)
        refine cw_if_eq (tgt := 38) dX1_requireJudge_31 (by decide) ?_ ?_
        · refine cw_sub (ls' := []) [] rfl ?_
          exact hJ5 ()
        · refine cw_iconst (v := 1) dX1_requireJudge_34 (by decide) ?_
          refine cw_goto (tgt := 39) dX1_requireJudge_35 (by decide) ?_
          refine cw_sub (ls' := []) [] rfl ?_
          exact hJ4 1
def g_X10_init (a0 : Nat) (a1 : Int32) (a2 : Int32) : GF :=
  invV (some (a0, 29)) (g_J17_init a0) <|
  putI 29 a0 0 a1 <|
  putI 29 a0 1 a2 <|
  retG rV
abbrev md_X10_init : MD := (yX10_init, cX10_init, 3, none, RX10, 11, 0, 0)
theorem hm_X10_init : (md_X10_init).y.cls ≠ "java/lang/invoke/MethodHandle" ∧ (md_X10_init).y.cls ≠ "java/lang/invoke/VarHandle" ∧ (parseMethodDescriptor (md_X10_init).y.desc).map (fun d => d.parameters.length) = some 2 := by decide +kernel
theorem m_X10_init (a0 : Nat) (a1 : Int32) (a2 : Int32) : CMF md_X10_init [cR a0, cI a1, cI a2] (g_X10_init a0 a1 a2) := by
  refine cm_of (by decide +kernel) rfl (Nat.le_of_ble_eq_true rfl) ?_
  show CWF _ 0 0 0 [(0, cR a0), (1, cI a1), (2, cI a2)] [] _
  unfold g_X10_init
  refine cw_aload_n dX10_init_0 rfl 0 rfl ?_
  refine cw_invV (d2 := md_J17_init) (c := 0) (q := 0) (as := [cR a0]) (mc := 0) (ms := 0) rfl rfl (okI (n := 0) rfl rfl dX10_init_1 (lw_meth q927) q132 q1385 q926 rfl hm_J17_init (by decide) (by decide) (Nat.le_of_ble_eq_true rfl) (by decide)) (m_J17_init a0) rfl ?_
  refine cw_aload_n dX10_init_4 rfl 0 rfl ?_
  refine cw_iload_n dX10_init_5 rfl 1 rfl ?_
  refine cw_putI (ci := 9) (j := 0) (C := RX10) (T := TX10) (N := 2) rfl (by decide) rfl rfl (Or.inl q1386) fSame_rfl (Or.inr ⟨rfl, rfl, rfl⟩) dX10_init_6 ?_
  refine cw_aload_n dX10_init_9 rfl 0 rfl ?_
  refine cw_iload_n dX10_init_10 rfl 2 rfl ?_
  refine cw_putI (ci := 9) (j := 1) (C := RX10) (T := TX10) (N := 2) rfl (by decide) rfl rfl (Or.inl q1387) fSame_rfl (Or.inr ⟨rfl, rfl, rfl⟩) dX10_init_11 ?_
  exact cw_vret rfl dX10_init_14
def b_X10_areAll_32 (a0 : Nat) (J7 : Int32 → GF) (rec10 : (Int32 × Int32) → GF) : (Int32 × Int32) → GF := fun (s : Int32 × Int32) => match s with
  | (l8, l9) =>
    getI 29 a0 1 fun x11 =>
    if l9 < x11 then
      rec10 ((l8 * 10), (l9 + 1))
    else
      J7 l8
def b_X10_areAll_4 (a0 : Nat) (J12 : Int32 → GF) (rec15 : (Int32 × Int32) → GF) : (Int32 × Int32) → GF := fun (s : Int32 × Int32) => match s with
  | (l13, l14) =>
    getI 29 a0 1 fun x16 =>
    if l14 < x16 then
      invI (some (a0, 29)) (g_X10_of a0 l14) fun x17 =>
      rec15 ((l13 ||| (1 <<< (x17 &&& 31))), (l14 + 1))
    else
      J12 l13
def g_X10_areAll (a0 : Nat) : GF :=
  jnG (fun (v1 : Int32) =>
    jnG (fun (v2 : Int32) =>
      getI 29 a0 0 fun x3 =>
      idivG v2 10 fun x4 =>
      invI none (g_X1_isBetween x3 x4 (v2 - 1)) fun x5 =>
      if x5 = 0 then
        retZ 0
      else
        getI 29 a0 1 fun x6 =>
        if v1 = ((1 <<< ((x6 + 1) &&& 31)) - 2) then
          retZ 1
        else
          retZ 0) fun J7 =>
    loopG (b_X10_areAll_32 a0 J7) FU (1, 0)) fun J12 =>
  loopG (b_X10_areAll_4 a0 J12) FU (0, 0)
abbrev md_X10_areAll : MD := (yX10_areAll, cX10_areAll, 4, (some (Jvm.ClassFile.FieldType.boolean)), RX10, 11, 0, 0)
theorem hm_X10_areAll : (md_X10_areAll).y.cls ≠ "java/lang/invoke/MethodHandle" ∧ (md_X10_areAll).y.cls ≠ "java/lang/invoke/VarHandle" ∧ (parseMethodDescriptor (md_X10_areAll).y.desc).map (fun d => d.parameters.length) = some 0 := by decide +kernel
theorem m_X10_areAll (a0 : Nat) : CMF md_X10_areAll [cR a0] (g_X10_areAll a0) := by
  refine cm_of (by decide +kernel) rfl (Nat.le_of_ble_eq_true rfl) ?_
  show CWF _ 0 0 0 [(0, cR a0)] [] _
  unfold g_X10_areAll
  refine cw_iconst (v := 0) dX10_areAll_0 (by decide) ?_
  refine cw_istore_n (ls' := [(1, cI 0), (0, cR a0)]) dX10_areAll_1 rfl (by decide) rfl ?_
  refine cw_iconst (v := 0) dX10_areAll_2 (by decide) ?_
  refine cw_istore_n (ls' := [(2, cI 0), (1, cI 0), (0, cR a0)]) dX10_areAll_3 rfl (by decide) rfl ?_
  refine cw_jn (cj := 0) (kj := 0) (pcj := 28) (lsf := fun (s : Int32) => [(0, cR a0), (1, cI s)]) (stf := fun (s : Int32) => []) (fun s => ?_) (fun J12 hJ12 => ?_)
  · obtain ⟨v1, e⟩ : ∃ z, z = s := ⟨_, rfl⟩
    subst e
    show CWF _ _ _ 28 [(0, cR a0), (1, cI v1)] [] _
    refine cw_iconst (v := 1) dX10_areAll_28 (by decide) ?_
    refine cw_istore_n (ls' := [(2, cI 1), (0, cR a0), (1, cI v1)]) dX10_areAll_29 rfl (by decide) rfl ?_
    refine cw_iconst (v := 0) dX10_areAll_30 (by decide) ?_
    refine cw_istore_n (ls' := [(3, cI 0), (2, cI 1), (0, cR a0), (1, cI v1)]) dX10_areAll_31 rfl (by decide) rfl ?_
    refine cw_jn (cj := 0) (kj := 0) (pcj := 51) (lsf := fun (s : Int32) => [(0, cR a0), (1, cI v1), (2, cI s)]) (stf := fun (s : Int32) => []) (fun s => ?_) (fun J7 hJ7 => ?_)
    · obtain ⟨v2, e⟩ : ∃ z, z = s := ⟨_, rfl⟩
      subst e
      show CWF _ _ _ 51 [(0, cR a0), (1, cI v1), (2, cI v2)] [] _
      refine cw_aload_n dX10_areAll_51 rfl 0 rfl ?_
      refine cw_getI (ci := 9) (j := 0) (C := RX10) (T := TX10) (N := 2) rfl (by decide) rfl rfl (Or.inl q1386) fSame_rfl dX10_areAll_52 (fun x3 => ?_)
      refine cw_iload_n dX10_areAll_55 rfl 2 rfl ?_
      refine cw_bipush (v := 10) dX10_areAll_56 (by decide) ?_
      refine cw_idiv dX10_areAll_58 (fun x4 => ?_)
      refine cw_iload_n dX10_areAll_59 rfl 2 rfl ?_
      refine cw_iconst (v := 1) dX10_areAll_60 (by decide) ?_
      refine cw_isub dX10_areAll_61 ?_
      refine cw_invI (d2 := md_X1_isBetween) (c := 0) (q := 0) (as := [cI x3, cI x4, cI (v2 - 1)]) (mc := 0) (ms := 0) rfl rfl (okSN (n := 3) rfl dX10_areAll_62 (lw_meth q260) q111 q1398 q259 hm_X1_isBetween (by decide) (by decide) (Nat.le_of_ble_eq_true rfl)) (m_X1_isBetween x3 x4 (v2 - 1)) rfl (fun x5 => ?_)
      refine cw_if_eq (tgt := 86) dX10_areAll_65 (by decide) ?_ ?_
      · refine cw_iconst (v := 0) dX10_areAll_86 (by decide) ?_
        exact cw_zret rfl dX10_areAll_87
      · refine cw_iload_n dX10_areAll_68 rfl 1 rfl ?_
        refine cw_iconst (v := 1) dX10_areAll_69 (by decide) ?_
        refine cw_aload_n dX10_areAll_70 rfl 0 rfl ?_
        refine cw_getI (ci := 9) (j := 1) (C := RX10) (T := TX10) (N := 2) rfl (by decide) rfl rfl (Or.inl q1387) fSame_rfl dX10_areAll_71 (fun x6 => ?_)
        refine cw_iconst (v := 1) dX10_areAll_74 (by decide) ?_
        refine cw_iadd dX10_areAll_75 ?_
        refine cw_ishl dX10_areAll_76 ?_
        refine cw_iconst (v := 2) dX10_areAll_77 (by decide) ?_
        refine cw_isub dX10_areAll_78 ?_
        refine cw_icmp_ne (tgt := 86) dX10_areAll_79 (by decide) ?_ ?_
        · refine cw_iconst (v := 0) dX10_areAll_86 (by decide) ?_
          exact cw_zret rfl dX10_areAll_87
        · refine cw_iconst (v := 1) dX10_areAll_82 (by decide) ?_
          refine cw_goto (tgt := 87) dX10_areAll_83 (by decide) ?_
          exact cw_zret rfl dX10_areAll_87
    · refine cw_sub (ls' := [(0, cR a0), (1, cI v1), (2, cI 1), (3, cI 0)]) [2, 3, 1, 0] rfl ?_
      refine cw_loop0 (lsf := fun (s : Int32 × Int32) => [(0, cR a0), (1, cI v1), (2, cI s.1), (3, cI s.2)]) (fun rec10 hrec10 s => ?_) FU (1, 0)
      obtain ⟨l8, l9⟩ := s
      show CWF _ _ _ 32 [(0, cR a0), (1, cI v1), (2, cI l8), (3, cI l9)] [] _
      dsimp only [b_X10_areAll_32]
      refine cw_iload_n dX10_areAll_32 rfl 3 rfl ?_
      refine cw_aload_n dX10_areAll_33 rfl 0 rfl ?_
      refine cw_getI (ci := 9) (j := 1) (C := RX10) (T := TX10) (N := 2) rfl (by decide) rfl rfl (Or.inl q1387) fSame_rfl dX10_areAll_34 (fun x11 => ?_)
      refine cw_icmp_ge (tgt := 51) dX10_areAll_37 (by decide) ?_ ?_
      · refine cw_sub (ls' := [(0, cR a0), (1, cI v1), (2, cI l8)]) [0, 1, 2] rfl ?_
        exact hJ7 l8
      · refine cw_iload_n dX10_areAll_40 rfl 2 rfl ?_
        refine cw_bipush (v := 10) dX10_areAll_41 (by decide) ?_
        refine cw_imul dX10_areAll_43 ?_
        refine cw_istore_n (ls' := [(2, cI (l8 * 10)), (0, cR a0), (1, cI v1), (3, cI l9)]) dX10_areAll_44 rfl (by decide) rfl ?_
        refine cw_iinc (v := (l9 + 1)) (ls' := [(3, cI (l9 + 1)), (2, cI (l8 * 10)), (0, cR a0), (1, cI v1)]) dX10_areAll_45 3 rfl rfl (by decide) rfl ?_
        refine cw_goto (tgt := 32) dX10_areAll_48 (by decide) ?_
        refine cw_sub (ls' := [(0, cR a0), (1, cI v1), (2, cI (l8 * 10)), (3, cI (l9 + 1))]) [2, 3, 1, 0] rfl ?_
        exact hrec10 ((l8 * 10), (l9 + 1))
  · refine cw_sub (ls' := [(0, cR a0), (1, cI 0), (2, cI 0)]) [2, 1, 0] rfl ?_
    refine cw_loop0 (lsf := fun (s : Int32 × Int32) => [(0, cR a0), (1, cI s.1), (2, cI s.2)]) (fun rec15 hrec15 s => ?_) FU (0, 0)
    obtain ⟨l13, l14⟩ := s
    show CWF _ _ _ 4 [(0, cR a0), (1, cI l13), (2, cI l14)] [] _
    dsimp only [b_X10_areAll_4]
    refine cw_iload_n dX10_areAll_4 rfl 2 rfl ?_
    refine cw_aload_n dX10_areAll_5 rfl 0 rfl ?_
    refine cw_getI (ci := 9) (j := 1) (C := RX10) (T := TX10) (N := 2) rfl (by decide) rfl rfl (Or.inl q1387) fSame_rfl dX10_areAll_6 (fun x16 => ?_)
    refine cw_icmp_ge (tgt := 28) dX10_areAll_9 (by decide) ?_ ?_
    · refine cw_sub (ls' := [(0, cR a0), (1, cI l13)]) [0, 1] rfl ?_
      exact hJ12 l13
    · refine cw_iload_n dX10_areAll_12 rfl 1 rfl ?_
      refine cw_iconst (v := 1) dX10_areAll_13 (by decide) ?_
      refine cw_aload_n dX10_areAll_14 rfl 0 rfl ?_
      refine cw_iload_n dX10_areAll_15 rfl 2 rfl ?_
      refine cw_invI (d2 := md_X10_of) (c := 0) (q := 0) (as := [cR a0, cI l14]) (mc := 0) (ms := 0) rfl rfl (okV (ci := 9) (C := RX10) (T0 := TX10) (N := 2) (n := 1) rfl rfl rfl dX10_areAll_16 (lw_V q1397 q578 q579 q144 q580) ⟨rfl, hm_X10_of⟩ (by decide) (by decide) (Nat.le_of_ble_eq_true rfl)) (m_X10_of a0 l14) rfl (fun x17 => ?_)
      refine cw_ishl dX10_areAll_19 ?_
      refine cw_ior dX10_areAll_20 ?_
      refine cw_istore_n (ls' := [(1, cI (l13 ||| (1 <<< (x17 &&& 31)))), (0, cR a0), (2, cI l14)]) dX10_areAll_21 rfl (by decide) rfl ?_
      refine cw_iinc (v := (l14 + 1)) (ls' := [(2, cI (l14 + 1)), (1, cI (l13 ||| (1 <<< (x17 &&& 31)))), (0, cR a0)]) dX10_areAll_22 2 rfl rfl (by decide) rfl ?_
      refine cw_goto (tgt := 4) dX10_areAll_25 (by decide) ?_
      refine cw_sub (ls' := [(0, cR a0), (1, cI (l13 ||| (1 <<< (x17 &&& 31)))), (2, cI (l14 + 1))]) [2, 1, 0] rfl ?_
      exact hrec15 ((l13 ||| (1 <<< (x17 &&& 31))), (l14 + 1))
def g_X8_bit (a0 : Nat) : GF :=
  getI 27 a0 0 fun x1 =>
  retG (rI (1 <<< ((x1 - 1) &&& 31)))
abbrev md_X8_bit : MD := (yX8_bit, cX8_bit, 1, (some (Jvm.ClassFile.FieldType.int)), RX8, 10, 0, 0)
theorem hm_X8_bit : (md_X8_bit).y.cls ≠ "java/lang/invoke/MethodHandle" ∧ (md_X8_bit).y.cls ≠ "java/lang/invoke/VarHandle" ∧ (parseMethodDescriptor (md_X8_bit).y.desc).map (fun d => d.parameters.length) = some 0 := by decide +kernel
theorem m_X8_bit (a0 : Nat) : CMF md_X8_bit [cR a0] (g_X8_bit a0) := by
  refine cm_of (by decide +kernel) rfl (Nat.le_of_ble_eq_true rfl) ?_
  show CWF _ 0 0 0 [(0, cR a0)] [] _
  unfold g_X8_bit
  refine cw_iconst (v := 1) dX8_bit_0 (by decide) ?_
  refine cw_aload_n dX8_bit_1 rfl 0 rfl ?_
  refine cw_getI (ci := 7) (j := 0) (C := RX8) (T := TX8) (N := 10) rfl (by decide) rfl rfl (Or.inl q1249) fSame_rfl dX8_bit_2 (fun x1 => ?_)
  refine cw_iconst (v := 1) dX8_bit_5 (by decide) ?_
  refine cw_isub dX8_bit_6 ?_
  refine cw_ishl dX8_bit_7 ?_
  exact cw_iret rfl dX8_bit_8
def g_X6_wanted (a0 : Nat) : GF :=
  getP 25 a0 18 fun p1 =>
  invI (some (p1, 26)) (g_X7_isRedance p1) fun x2 =>
  if x2 = 0 then
    invI (some (a0, 25)) (g_X6_isFinal a0) fun x3 =>
    if x3 = 0 then
      getI 25 a0 11 fun x4 =>
      getP 25 a0 18 fun p5 =>
      getP 26 p5 2 fun p6 =>
      invI (some (p6, 8)) (s_size p6) fun x7 =>
      invI none (g_X1_up x7 2) fun x8 =>
      retG (rI (imax x4 x8))
    else
      retG (rI 0)
  else
    getP 25 a0 18 fun p9 =>
    getI 26 p9 1 fun x10 =>
    retG (rI x10)
abbrev md_X6_wanted : MD := (yX6_wanted, cX6_wanted, 1, (some (Jvm.ClassFile.FieldType.int)), RX6, 12, 0, 0)
theorem hm_X6_wanted : (md_X6_wanted).y.cls ≠ "java/lang/invoke/MethodHandle" ∧ (md_X6_wanted).y.cls ≠ "java/lang/invoke/VarHandle" ∧ (parseMethodDescriptor (md_X6_wanted).y.desc).map (fun d => d.parameters.length) = some 0 := by decide +kernel
theorem m_X6_wanted (a0 : Nat) : CMF md_X6_wanted [cR a0] (g_X6_wanted a0) := by
  refine cm_of (by decide +kernel) rfl (Nat.le_of_ble_eq_true rfl) ?_
  show CWF _ 0 0 0 [(0, cR a0)] [] _
  unfold g_X6_wanted
  refine cw_aload_n dX6_wanted_0 rfl 0 rfl ?_
  refine cw_getP (ci := 5) (j := 18) (C := RX6) (T := TX6) (N := 19) rfl (by decide) rfl rfl (Or.inl q1118) fSame_rfl dX6_wanted_1 (fun p1 => ?_)
  refine cw_invI (d2 := md_X7_isRedance) (c := 0) (q := 0) (as := [cR p1]) (mc := 0) (ms := 0) rfl rfl (okV (ci := 6) (C := RX7) (T0 := TX7) (N := 5) (n := 0) rfl rfl rfl dX6_wanted_4 (lw_V q1181 q1182 q1183 q138 q1184) ⟨rfl, hm_X7_isRedance⟩ (by decide) (by decide) (Nat.le_of_ble_eq_true rfl)) (m_X7_isRedance p1) rfl (fun x2 => ?_)
  refine cw_if_eq (tgt := 20) dX6_wanted_7 (by decide) ?_ ?_
  · refine cw_aload_n dX6_wanted_20 rfl 0 rfl ?_
    refine cw_invI (d2 := md_X6_isFinal) (c := 0) (q := 0) (as := [cR a0]) (mc := 0) (ms := 0) rfl rfl (okV (ci := 5) (C := RX6) (T0 := TX6) (N := 19) (n := 0) rfl rfl rfl dX6_wanted_21 (lw_V q1185 q1186 q1187 q137 q1188) ⟨rfl, hm_X6_isFinal⟩ (by decide) (by decide) (Nat.le_of_ble_eq_true rfl)) (m_X6_isFinal a0) rfl (fun x3 => ?_)
    refine cw_if_eq (tgt := 31) dX6_wanted_24 (by decide) ?_ ?_
    · refine cw_aload_n dX6_wanted_31 rfl 0 rfl ?_
      refine cw_getI (ci := 5) (j := 11) (C := RX6) (T := TX6) (N := 19) rfl (by decide) rfl rfl (Or.inl q1107) fSame_rfl dX6_wanted_32 (fun x4 => ?_)
      refine cw_aload_n dX6_wanted_35 rfl 0 rfl ?_
      refine cw_getP (ci := 5) (j := 18) (C := RX6) (T := TX6) (N := 19) rfl (by decide) rfl rfl (Or.inl q1118) fSame_rfl dX6_wanted_36 (fun p5 => ?_)
      refine cw_getP (ci := 6) (j := 2) (C := RX7) (T := TX7) (N := 5) rfl (by decide) rfl rfl (Or.inr ⟨_, q1067⟩) fSame_rfl dX6_wanted_39 (fun p6 => ?_)
      refine cw_invI (d2 := md_J2_size) (c := 0) (q := 0) (as := [cR p6]) (mc := 0) (ms := 0) rfl rfl (okF (x := ⟨"java/util/List", "size", "()I"⟩) (ci := 14) (C := RJ2) (T0 := TJ2) (N := 3) (n := 0) rfl (Or.inr ⟨rfl, rfl⟩) rfl dX6_wanted_42 (lw_F q545 q251 q249 q114 q253) (List.mem_iff_getElem?.mpr ⟨1, rfl⟩) (show ("java/util/List" : String) ≠ _ ∧ ("java/util/List" : String) ≠ _ ∧ (parseMethodDescriptor (md_J2_size).y.desc).map (fun d => d.parameters.length) = some 0 from ⟨by decide, by decide, (hm_J2_size).2.2⟩) (by decide) (by decide) (Nat.le_of_ble_eq_true rfl)) (c_size p6) rfl (fun x7 => ?_)
      refine cw_iconst (v := 2) dX6_wanted_47 (by decide) ?_
      refine cw_invI (d2 := md_X1_up) (c := 0) (q := 0) (as := [cI x7, cI 2]) (mc := 0) (ms := 0) rfl rfl (okSN (n := 2) rfl dX6_wanted_48 (lw_meth q1331) q111 q1329 q1330 hm_X1_up (by decide) (by decide) (Nat.le_of_ble_eq_true rfl)) (m_X1_up x7 2) rfl (fun x8 => ?_)
      refine cw_mmax q668 (by decide) (Nat.le_of_ble_eq_true rfl) dX6_wanted_51 ?_
      exact cw_iret rfl dX6_wanted_54
    · refine cw_iconst (v := 0) dX6_wanted_27 (by decide) ?_
      refine cw_goto (tgt := 54) dX6_wanted_28 (by decide) ?_
      exact cw_iret rfl dX6_wanted_54
  · refine cw_aload_n dX6_wanted_10 rfl 0 rfl ?_
    refine cw_getP (ci := 5) (j := 18) (C := RX6) (T := TX6) (N := 19) rfl (by decide) rfl rfl (Or.inl q1118) fSame_rfl dX6_wanted_11 (fun p9 => ?_)
    refine cw_getI (ci := 6) (j := 1) (C := RX7) (T := TX7) (N := 5) rfl (by decide) rfl rfl (Or.inr ⟨_, q1064⟩) fSame_rfl dX6_wanted_14 (fun x10 => ?_)
    refine cw_goto (tgt := 54) dX6_wanted_17 (by decide) ?_
    exact cw_iret rfl dX6_wanted_54
def g_X11_init (a0 : Nat) (a1 : Int32) : GF :=
  invV (some (a0, 30)) (g_J17_init a0) <|
  putI 30 a0 0 a1 <|
  retG rV
abbrev md_X11_init : MD := (yX11_init, cX11_init, 2, none, RX11, 11, 0, 0)
theorem hm_X11_init : (md_X11_init).y.cls ≠ "java/lang/invoke/MethodHandle" ∧ (md_X11_init).y.cls ≠ "java/lang/invoke/VarHandle" ∧ (parseMethodDescriptor (md_X11_init).y.desc).map (fun d => d.parameters.length) = some 1 := by decide +kernel
theorem m_X11_init (a0 : Nat) (a1 : Int32) : CMF md_X11_init [cR a0, cI a1] (g_X11_init a0 a1) := by
  refine cm_of (by decide +kernel) rfl (Nat.le_of_ble_eq_true rfl) ?_
  show CWF _ 0 0 0 [(0, cR a0), (1, cI a1)] [] _
  unfold g_X11_init
  refine cw_aload_n dX11_init_0 rfl 0 rfl ?_
  refine cw_invV (d2 := md_J17_init) (c := 0) (q := 0) (as := [cR a0]) (mc := 0) (ms := 0) rfl rfl (okI (n := 0) rfl rfl dX11_init_1 (lw_meth q927) q132 q1415 q926 rfl hm_J17_init (by decide) (by decide) (Nat.le_of_ble_eq_true rfl) (by decide)) (m_J17_init a0) rfl ?_
  refine cw_aload_n dX11_init_4 rfl 0 rfl ?_
  refine cw_iload_n dX11_init_5 rfl 1 rfl ?_
  refine cw_putI (ci := 10) (j := 0) (C := RX11) (T := TX11) (N := 1) rfl (by decide) rfl rfl (Or.inl q1416) fSame_rfl (Or.inr ⟨rfl, rfl, rfl⟩) dX11_init_6 ?_
  exact cw_vret rfl dX11_init_9
def b_X1_read_65 (p6 : Nat) (m7 : Int32) (J13 : Int32 → GF) (rec16 : (Int32 × Nat) → GF) : (Int32 × Nat) → GF := fun (s : Int32 × Nat) => match s with
  | (l14, l15) =>
    hasG p6 l15 fun x17 =>
    if x17 = 0 then
      J13 l14
    else
      nextG p6 m7 l15 fun p18 =>
      castG 27 p18 <|
      invI (some (p18, 27)) (g_X8_bit p18) fun x19 =>
      rec16 ((l14 ||| x19), (l15 + 1))
def g_X1_read (a0 : Nat) (a1 : Int32) : GF :=
  getP 25 a0 18 fun p1 =>
  getP 26 p1 2 fun p2 =>
  invI (some (p2, 8)) (s_size p2) fun x3 =>
  if x3 = 0 then
    retG (rR 0)
  else
    invI (some (a0, 25)) (g_X6_isFinal a0) fun x4 =>
    if x4 = 0 then
      getP 25 a0 18 fun p5 =>
      getP 26 p5 2 fun p6 =>
      itG p6 fun m7 =>
      jnG (fun (v8 : Int32) =>
        jnG (fun (_ : Unit) =>
          retG (rR 0)) fun J9 =>
        if a1 ≤ 0 then
          J9 ()
        else if (a1 &&& (v8 ^^^ (-1 : Int32))) = 0 then
          invI none (g_J21_bitCount a1) fun x10 =>
          invI (some (a0, 25)) (g_X6_wanted a0) fun x11 =>
          if x10 = x11 then
            newG 30 fun p12 =>
            invV (some (p12, 30)) (g_X11_init p12 a1) <|
            retG (rR p12)
          else
            J9 ()
        else
          J9 ()) fun J13 =>
      loopG (b_X1_read_65 p6 m7 J13) FU (0, 0)
    else
      newG 29 fun p20 =>
      invV (some (p20, 29)) (g_X10_init p20 a1 x3) <|
      invI (some (p20, 29)) (g_X10_areAll p20) fun x21 =>
      if x21 = 0 then
        retG (rR 0)
      else
        retG (rR p20)
abbrev md_X1_read : MD := (yX1_read, cX1_read, 6, (some ((Jvm.ClassFile.FieldType.object "Scrutineery$Marks"))), RX1, 13, 2, 5)
theorem hm_X1_read : (md_X1_read).y.cls ≠ "java/lang/invoke/MethodHandle" ∧ (md_X1_read).y.cls ≠ "java/lang/invoke/VarHandle" ∧ (parseMethodDescriptor (md_X1_read).y.desc).map (fun d => d.parameters.length) = some 2 := by decide +kernel
theorem m_X1_read (a0 : Nat) (a1 : Int32) : CMF md_X1_read [cR a0, cI a1] (g_X1_read a0 a1) := by
  refine cm_of (by decide +kernel) rfl (Nat.le_of_ble_eq_true rfl) ?_
  show CWF _ 2 5 0 [(0, cR a0), (1, cI a1)] [] _
  unfold g_X1_read
  refine cw_aload_n dX1_read_0 rfl 0 rfl ?_
  refine cw_getP (ci := 5) (j := 18) (C := RX6) (T := TX6) (N := 19) rfl (by decide) rfl rfl (Or.inr ⟨_, q1119⟩) fSame_rfl dX1_read_1 (fun p1 => ?_)
  refine cw_getP (ci := 6) (j := 2) (C := RX7) (T := TX7) (N := 5) rfl (by decide) rfl rfl (Or.inr ⟨_, q1068⟩) fSame_rfl dX1_read_4 (fun p2 => ?_)
  refine cw_invI (d2 := md_J2_size) (c := 2) (q := 5) (as := [cR p2]) (mc := 0) (ms := 0) rfl rfl (okF (x := ⟨"java/util/List", "size", "()I"⟩) (ci := 14) (C := RJ2) (T0 := TJ2) (N := 3) (n := 0) rfl (Or.inr ⟨rfl, rfl⟩) rfl dX1_read_7 (lw_F q246 q251 q249 q114 q253) (List.mem_iff_getElem?.mpr ⟨1, rfl⟩) (show ("java/util/List" : String) ≠ _ ∧ ("java/util/List" : String) ≠ _ ∧ (parseMethodDescriptor (md_J2_size).y.desc).map (fun d => d.parameters.length) = some 0 from ⟨by decide, by decide, (hm_J2_size).2.2⟩) (by decide) (by decide) (Nat.le_of_ble_eq_true rfl)) (c_size p2) rfl (fun x3 => ?_)
  refine cw_istore_n (ls' := [(2, cI x3), (0, cR a0), (1, cI a1)]) dX1_read_12 rfl (by decide) rfl ?_
  refine cw_iload_n dX1_read_13 rfl 0 rfl ?_
  refine cw_if_ne (tgt := 19) dX1_read_14 (by decide) ?_ ?_
  · refine cw_aload_n dX1_read_19 rfl 1 rfl ?_
    refine cw_invI (d2 := md_X6_isFinal) (c := 2) (q := 5) (as := [cR a0]) (mc := 0) (ms := 0) rfl rfl (okV (ci := 5) (C := RX6) (T0 := TX6) (N := 19) (n := 0) rfl rfl rfl dX1_read_20 (lw_V q1379 q1186 q1187 q137 q1188) ⟨rfl, hm_X6_isFinal⟩ (by decide) (by decide) (Nat.le_of_ble_eq_true rfl)) (m_X6_isFinal a0) rfl (fun x4 => ?_)
    refine cw_if_eq (tgt := 49) dX1_read_23 (by decide) ?_ ?_
    · refine cw_iconst (v := 0) dX1_read_49 (by decide) ?_
      refine cw_istore_n (ls' := [(3, cI 0), (2, cI x3), (0, cR a0), (1, cI a1)]) dX1_read_50 rfl (by decide) rfl ?_
      refine cw_aload_n dX1_read_51 rfl 2 rfl ?_
      refine cw_getP (ci := 5) (j := 18) (C := RX6) (T := TX6) (N := 19) rfl (by decide) rfl rfl (Or.inr ⟨_, q1119⟩) fSame_rfl dX1_read_52 (fun p5 => ?_)
      refine cw_getP (ci := 6) (j := 2) (C := RX7) (T := TX7) (N := 5) rfl (by decide) rfl rfl (Or.inr ⟨_, q1068⟩) fSame_rfl dX1_read_55 (fun p6 => ?_)
      refine cw_iter (c := 1) (q := 1) (la := 2) (ls' := [(3, cI 0), (2, cI x3), (0, cR a0), (1, cI a1)]) rfl (Or.inr ⟨dX1_read_63, rfl⟩) (by decide) (okF (x := ⟨"java/util/List", "iterator", "()Ljava/util/Iterator;"⟩) (ci := 14) (C := RJ2) (T0 := TJ2) (N := 3) (n := 0) rfl (Or.inr ⟨rfl, rfl⟩) rfl dX1_read_58 (lw_F q290 q295 q293 q114 q297) (List.mem_iff_getElem?.mpr ⟨3, rfl⟩) (show ("java/util/List" : String) ≠ _ ∧ ("java/util/List" : String) ≠ _ ∧ (parseMethodDescriptor (md_J2_iterator).y.desc).map (fun d => d.parameters.length) = some 0 from ⟨by decide, by decide, (hm_J2_iterator).2.2⟩) (by decide) (by decide) (Nat.le_of_ble_eq_true rfl)) (fun m7 => ?_)
      refine cw_jn (cj := 1) (kj := 1) (pcj := 98) (lsf := fun (s : Int32) => [(0, cR a0), (1, cI a1), (3, cI s)]) (stf := fun (s : Int32) => []) (fun s => ?_) (fun J13 hJ13 => ?_)
      · obtain ⟨v8, e⟩ : ∃ z, z = s := ⟨_, rfl⟩
        subst e
        show CWF _ _ _ 98 [(0, cR a0), (1, cI a1), (3, cI v8)] [] _
        refine cw_iload_n dX1_read_98 rfl 1 rfl ?_
        refine cw_jn (cj := 0) (kj := 0) (pcj := 132) (lsf := fun (s : Unit) => []) (stf := fun (s : Unit) => []) (fun s => ?_) (fun J9 hJ9 => ?_)
        · show CWF _ _ _ 132 [] [] _
          refine cw_null dX1_read_132 ?_
          exact cw_aret rfl rfl dX1_read_133
        · refine cw_if_le (tgt := 132) dX1_read_99 (by decide) ?_ ?_
          · refine cw_weak (c' := 0) (q' := 0) (by omega) (by omega) ?_
            refine cw_sub (ls' := []) [] rfl ?_
            exact hJ9 ()
          · refine cw_iload_n dX1_read_102 rfl 1 rfl ?_
            refine cw_iload_n dX1_read_103 rfl 2 rfl ?_
            refine cw_iconst (v := -1) dX1_read_104 (by decide) ?_
            refine cw_ixor dX1_read_105 ?_
            refine cw_iand dX1_read_106 ?_
            refine cw_if_ne (tgt := 132) dX1_read_107 (by decide) ?_ ?_
            · refine cw_weak (c' := 0) (q' := 0) (by omega) (by omega) ?_
              refine cw_sub (ls' := []) [] rfl ?_
              exact hJ9 ()
            · refine cw_iload_n dX1_read_110 rfl 1 rfl ?_
              refine cw_invI (d2 := md_J21_bitCount) (c := 1) (q := 1) (as := [cI a1]) (mc := 0) (ms := 0) rfl rfl (okS (n := 1) rfl dX1_read_111 (lw_S q1400 q1401 q140 q1402) hm_J21_bitCount (by decide) (by decide) (Nat.le_of_ble_eq_true rfl)) (m_J21_bitCount a1) rfl (fun x10 => ?_)
              refine cw_aload_n dX1_read_114 rfl 0 rfl ?_
              refine cw_invI (d2 := md_X6_wanted) (c := 1) (q := 1) (as := [cR a0]) (mc := 0) (ms := 0) rfl rfl (okV (ci := 5) (C := RX6) (T0 := TX6) (N := 19) (n := 0) rfl rfl rfl dX1_read_115 (lw_V q1406 q1407 q1408 q137 q1409) ⟨rfl, hm_X6_wanted⟩ (by decide) (by decide) (Nat.le_of_ble_eq_true rfl)) (m_X6_wanted a0) rfl (fun x11 => ?_)
              refine cw_icmp_ne (tgt := 132) dX1_read_118 (by decide) ?_ ?_
              · refine cw_weak (c' := 0) (q' := 0) (by omega) (by omega) ?_
                refine cw_sub (ls' := []) [] rfl ?_
                exact hJ9 ()
              · refine cw_new (c := 0) (q := 0) (ci := 10) (C := RX11) (T := TX11) (N := 1) rfl rfl q1410 q1411 q145 dX1_read_121 (fun p12 => ?_)
                refine cw_dup dX1_read_124 rfl ?_
                refine cw_iload_n dX1_read_125 rfl 1 rfl ?_
                refine cw_invV (d2 := md_X11_init) (c := 0) (q := 0) (as := [cR p12, cI a1]) (mc := 0) (ms := 0) rfl rfl (okIN (n := 1) rfl rfl dX1_read_126 (lw_meth q1414) q145 q1412 q1413 rfl hm_X11_init (by decide) (by decide) (Nat.le_of_ble_eq_true rfl) (by decide)) (m_X11_init p12 a1) rfl ?_
                refine cw_goto (tgt := 133) dX1_read_129 (by decide) ?_
                exact cw_aret rfl rfl dX1_read_133
      · refine cw_sub (ls' := [(0, cR a0), (1, cI a1), (3, cI 0), (4, cT p6 m7 0)]) [3, 4, 1, 0] rfl ?_
        refine cw_loop0 (lsf := fun (s : Int32 × Nat) => [(0, cR a0), (1, cI a1), (3, cI s.1), (4, cT p6 m7 s.2)]) (fun rec16 hrec16 s => ?_) FU (0, 0)
        obtain ⟨l14, l15⟩ := s
        show CWF _ _ _ 65 [(0, cR a0), (1, cI a1), (3, cI l14), (4, cT p6 m7 l15)] [] _
        dsimp only [b_X1_read_65]
        refine cw_sub (ls' := [(4, cT p6 m7 l15), (0, cR a0), (1, cI a1), (3, cI l14)]) [3, 0, 1, 2] rfl ?_
        refine cw_hasNext (la := 2) rfl (Or.inr ⟨dX1_read_65, rfl⟩) (fun x => okF (x := ⟨"java/util/Iterator", "hasNext", "()Z"⟩) (ci := 15) (C := RJ18) (T0 := TJ18) (N := 4) (n := 0) rfl (Or.inl rfl) rfl dX1_read_67 (lw_F q318 q339 q337 q134 q341) (List.mem_iff_getElem?.mpr ⟨4, rfl⟩) (show ("java/util/Iterator" : String) ≠ _ ∧ ("java/util/Iterator" : String) ≠ _ ∧ (parseMethodDescriptor (md_J18_hasNext).y.desc).map (fun d => d.parameters.length) = some 0 from ⟨by decide, by decide, (hm_J18_hasNext).2.2⟩) (by decide) (by decide) (Nat.le_of_ble_eq_true rfl)) (fun x17 => ?_)
        refine cw_if_eq (tgt := 98) dX1_read_72 (by decide) ?_ ?_
        · refine cw_sub (ls' := [(0, cR a0), (1, cI a1), (3, cI l14)]) [1, 2, 3] rfl ?_
          exact hJ13 l14
        · refine cw_next (la := 2) rfl (Or.inr ⟨dX1_read_75, rfl⟩) (fun x => okF (x := ⟨"java/util/Iterator", "next", "()Ljava/lang/Object;"⟩) (ci := 15) (C := RJ18) (T0 := TJ18) (N := 4) (n := 0) rfl (Or.inl rfl) rfl dX1_read_77 (lw_F q343 q432 q430 q134 q434) (List.mem_iff_getElem?.mpr ⟨6, rfl⟩) (show ("java/util/Iterator" : String) ≠ _ ∧ ("java/util/Iterator" : String) ≠ _ ∧ (parseMethodDescriptor (md_J18_next).y.desc).map (fun d => d.parameters.length) = some 0 from ⟨by decide, by decide, (hm_J18_next).2.2⟩) (by decide) (by decide) (Nat.le_of_ble_eq_true rfl)) (fun p18 => ?_)
          refine cw_cast (ci := 7) (T := TX8) (N := 10) (C := RX8) rfl rfl q525 (Or.inl rfl) dX1_read_82 ?_
          refine cw_astore (ls' := [(5, cR p18), (4, cT p6 m7 (l15 + 1)), (0, cR a0), (1, cI a1), (3, cI l14)]) dX1_read_85 (by decide) rfl ?_
          refine cw_iload_n dX1_read_87 rfl 4 rfl ?_
          refine cw_aload dX1_read_88 0 rfl ?_
          refine cw_invI (d2 := md_X8_bit) (c := 1) (q := 1) (as := [cR p18]) (mc := 0) (ms := 0) rfl rfl (okV (ci := 7) (C := RX8) (T0 := TX8) (N := 10) (n := 0) rfl rfl rfl dX1_read_90 (lw_V q1399 q451 q452 q142 q453) ⟨rfl, hm_X8_bit⟩ (by decide) (by decide) (Nat.le_of_ble_eq_true rfl)) (m_X8_bit p18) rfl (fun x19 => ?_)
          refine cw_ior dX1_read_93 ?_
          refine cw_istore_n (ls' := [(3, cI (l14 ||| x19)), (5, cR p18), (4, cT p6 m7 (l15 + 1)), (0, cR a0), (1, cI a1)]) dX1_read_94 rfl (by decide) rfl ?_
          refine cw_goto (tgt := 65) dX1_read_95 (by decide) ?_
          refine cw_sub (ls' := [(0, cR a0), (1, cI a1), (3, cI (l14 ||| x19)), (4, cT p6 m7 (l15 + 1))]) [3, 4, 0, 2] rfl ?_
          exact hrec16 ((l14 ||| x19), (l15 + 1))
    · refine cw_weak (c' := 1) (q' := 2) (by omega) (by omega) ?_
      refine cw_new (c := 0) (q := 0) (ci := 9) (C := RX10) (T := TX10) (N := 2) rfl rfl q1380 q1381 q144 dX1_read_26 (fun p20 => ?_)
      refine cw_dup dX1_read_29 rfl ?_
      refine cw_iload_n dX1_read_30 rfl 2 rfl ?_
      refine cw_iload_n dX1_read_31 rfl 0 rfl ?_
      refine cw_invV (d2 := md_X10_init) (c := 0) (q := 0) (as := [cR p20, cI a1, cI x3]) (mc := 0) (ms := 0) rfl rfl (okIN (n := 2) rfl rfl dX1_read_32 (lw_meth q1384) q144 q1382 q1383 rfl hm_X10_init (by decide) (by decide) (Nat.le_of_ble_eq_true rfl) (by decide)) (m_X10_init p20 a1 x3) rfl ?_
      refine cw_astore_n (ls' := [(3, cR p20), (2, cI x3), (0, cR a0), (1, cI a1)]) dX1_read_35 rfl (by decide) rfl ?_
      refine cw_aload_n dX1_read_36 rfl 0 rfl ?_
      refine cw_invI (d2 := md_X10_areAll) (c := 0) (q := 0) (as := [cR p20]) (mc := 0) (ms := 0) rfl rfl (okV (ci := 9) (C := RX10) (T0 := TX10) (N := 2) (n := 0) rfl rfl rfl dX1_read_37 (lw_V q1393 q1394 q1395 q144 q1396) ⟨rfl, hm_X10_areAll⟩ (by decide) (by decide) (Nat.le_of_ble_eq_true rfl)) (m_X10_areAll p20) rfl (fun x21 => ?_)
      refine cw_if_eq (tgt := 47) dX1_read_40 (by decide) ?_ ?_
      · refine cw_null dX1_read_47 ?_
        exact cw_aret rfl rfl dX1_read_48
      · refine cw_aload_n dX1_read_43 rfl 0 rfl ?_
        refine cw_goto (tgt := 48) dX1_read_44 (by decide) ?_
        exact cw_aret rfl rfl dX1_read_48
  · refine cw_weak (c' := 0) (q' := 0) (by omega) (by omega) ?_
    refine cw_null dX1_read_17 ?_
    exact cw_aret rfl rfl dX1_read_18
def g_X6_isOver (a0 : Nat) : GF :=
  getI 25 a0 16 fun x1 =>
  if x1 = 0 then
    getI 25 a0 17 fun x2 =>
    if x2 = 0 then
      retZ 0
    else
      retZ 1
  else
    retZ 1
abbrev md_X6_isOver : MD := (yX6_isOver, cX6_isOver, 1, (some (Jvm.ClassFile.FieldType.boolean)), RX6, 10, 0, 0)
theorem hm_X6_isOver : (md_X6_isOver).y.cls ≠ "java/lang/invoke/MethodHandle" ∧ (md_X6_isOver).y.cls ≠ "java/lang/invoke/VarHandle" ∧ (parseMethodDescriptor (md_X6_isOver).y.desc).map (fun d => d.parameters.length) = some 0 := by decide +kernel
theorem m_X6_isOver (a0 : Nat) : CMF md_X6_isOver [cR a0] (g_X6_isOver a0) := by
  refine cm_of (by decide +kernel) rfl (Nat.le_of_ble_eq_true rfl) ?_
  show CWF _ 0 0 0 [(0, cR a0)] [] _
  unfold g_X6_isOver
  refine cw_aload_n dX6_isOver_0 rfl 0 rfl ?_
  refine cw_getI (ci := 5) (j := 16) (C := RX6) (T := TX6) (N := 19) rfl (by decide) rfl rfl (Or.inl q1115) fSame_rfl dX6_isOver_1 (fun x1 => ?_)
  refine cw_if_ne (tgt := 14) dX6_isOver_4 (by decide) ?_ ?_
  · refine cw_iconst (v := 1) dX6_isOver_14 (by decide) ?_
    refine cw_goto (tgt := 19) dX6_isOver_15 (by decide) ?_
    exact cw_zret rfl dX6_isOver_19
  · refine cw_aload_n dX6_isOver_7 rfl 0 rfl ?_
    refine cw_getI (ci := 5) (j := 17) (C := RX6) (T := TX6) (N := 19) rfl (by decide) rfl rfl (Or.inl q1117) fSame_rfl dX6_isOver_8 (fun x2 => ?_)
    refine cw_if_eq (tgt := 18) dX6_isOver_11 (by decide) ?_ ?_
    · refine cw_iconst (v := 0) dX6_isOver_18 (by decide) ?_
      exact cw_zret rfl dX6_isOver_19
    · refine cw_iconst (v := 1) dX6_isOver_14 (by decide) ?_
      refine cw_goto (tgt := 19) dX6_isOver_15 (by decide) ?_
      exact cw_zret rfl dX6_isOver_19
def b_X6_missing_14 (a0 : Nat) (l2 : Int32) (rec3 : (Int32 × Int32) → GF) (rec7 : (Int32 × Int32) → GF) : (Int32 × Int32) → GF := fun (s : Int32 × Int32) => match s with
  | (l5, l6) =>
    invP (some (a0, 25)) (g_X6_panel a0 l2) fun p8 =>
    invI (some (p8, 8)) (s_size p8) fun x9 =>
    if l6 < x9 then
      getP 25 a0 18 fun p10 =>
      getP 26 p10 4 fun p11 =>
      aaldG 6 p11 l2 fun x12 =>
      aaldG 5 x12 l6 fun x13 =>
      jnG (fun (v14 : Int32) =>
        rec7 ((l5 + v14), (l6 + 1))) fun J15 =>
      if x13 = 0 then
        J15 1
      else
        J15 0
    else
      rec3 (l5, (l2 + 1))
def b_X6_missing_4 (a0 : Nat) (rec3 : (Int32 × Int32) → GF) : (Int32 × Int32) → GF := fun (s : Int32 × Int32) => match s with
  | (l1, l2) =>
    getI 25 a0 2 fun x4 =>
    if l2 < x4 then
      loopG (b_X6_missing_14 a0 l2 rec3) FU (l1, 0)
    else
      retG (rI l1)
def g_X6_missing (a0 : Nat) : GF :=
  loopG (b_X6_missing_4 a0) FU (0, 0)
abbrev md_X6_missing : MD := (yX6_missing, cX6_missing, 4, (some (Jvm.ClassFile.FieldType.int)), RX6, 14, 0, 0)
theorem hm_X6_missing : (md_X6_missing).y.cls ≠ "java/lang/invoke/MethodHandle" ∧ (md_X6_missing).y.cls ≠ "java/lang/invoke/VarHandle" ∧ (parseMethodDescriptor (md_X6_missing).y.desc).map (fun d => d.parameters.length) = some 0 := by decide +kernel
theorem m_X6_missing (a0 : Nat) : CMF md_X6_missing [cR a0] (g_X6_missing a0) := by
  refine cm_of (by decide +kernel) rfl (Nat.le_of_ble_eq_true rfl) ?_
  show CWF _ 0 0 0 [(0, cR a0)] [] _
  unfold g_X6_missing
  refine cw_iconst (v := 0) dX6_missing_0 (by decide) ?_
  refine cw_istore_n (ls' := [(1, cI 0), (0, cR a0)]) dX6_missing_1 rfl (by decide) rfl ?_
  refine cw_iconst (v := 0) dX6_missing_2 (by decide) ?_
  refine cw_istore_n (ls' := [(2, cI 0), (1, cI 0), (0, cR a0)]) dX6_missing_3 rfl (by decide) rfl ?_
  refine cw_sub (ls' := [(0, cR a0), (1, cI 0), (2, cI 0)]) [2, 1, 0] rfl ?_
  refine cw_loop0 (lsf := fun (s : Int32 × Int32) => [(0, cR a0), (1, cI s.1), (2, cI s.2)]) (fun rec3 hrec3 s => ?_) FU (0, 0)
  obtain ⟨l1, l2⟩ := s
  show CWF _ _ _ 4 [(0, cR a0), (1, cI l1), (2, cI l2)] [] _
  dsimp only [b_X6_missing_4]
  refine cw_iload_n dX6_missing_4 rfl 2 rfl ?_
  refine cw_aload_n dX6_missing_5 rfl 0 rfl ?_
  refine cw_getI (ci := 5) (j := 2) (C := RX6) (T := TX6) (N := 19) rfl (by decide) rfl rfl (Or.inl q1089) fSame_rfl dX6_missing_6 (fun x4 => ?_)
  refine cw_icmp_ge (tgt := 62) dX6_missing_9 (by decide) ?_ ?_
  · refine cw_iload_n dX6_missing_62 rfl 1 rfl ?_
    exact cw_iret rfl dX6_missing_63
  · refine cw_iconst (v := 0) dX6_missing_12 (by decide) ?_
    refine cw_istore_n (ls' := [(3, cI 0), (0, cR a0), (1, cI l1), (2, cI l2)]) dX6_missing_13 rfl (by decide) rfl ?_
    refine cw_sub (ls' := [(0, cR a0), (2, cI l2), (1, cI l1), (3, cI 0)]) [1, 3, 2, 0] rfl ?_
    refine cw_loop0 (lsf := fun (s : Int32 × Int32) => [(0, cR a0), (2, cI l2), (1, cI s.1), (3, cI s.2)]) (fun rec7 hrec7 s => ?_) FU (l1, 0)
    obtain ⟨l5, l6⟩ := s
    show CWF _ _ _ 14 [(0, cR a0), (2, cI l2), (1, cI l5), (3, cI l6)] [] _
    dsimp only [b_X6_missing_14]
    refine cw_iload_n dX6_missing_14 rfl 3 rfl ?_
    refine cw_aload_n dX6_missing_15 rfl 0 rfl ?_
    refine cw_iload_n dX6_missing_16 rfl 1 rfl ?_
    refine cw_invP (d2 := md_X6_panel) (c := 0) (q := 0) (as := [cR a0, cI l2]) (mc := 0) (ms := 0) rfl rfl (okV (ci := 5) (C := RX6) (T0 := TX6) (N := 19) (n := 1) rfl rfl rfl dX6_missing_17 (lw_V q554 q555 q556 q137 q557) ⟨rfl, hm_X6_panel⟩ (by decide) (by decide) (Nat.le_of_ble_eq_true rfl)) (m_X6_panel a0 l2) rfl (fun p8 => ?_)
    refine cw_invI (d2 := md_J2_size) (c := 0) (q := 0) (as := [cR p8]) (mc := 0) (ms := 0) rfl rfl (okF (x := ⟨"java/util/List", "size", "()I"⟩) (ci := 14) (C := RJ2) (T0 := TJ2) (N := 3) (n := 0) rfl (Or.inr ⟨rfl, rfl⟩) rfl dX6_missing_20 (lw_F q545 q251 q249 q114 q253) (List.mem_iff_getElem?.mpr ⟨1, rfl⟩) (show ("java/util/List" : String) ≠ _ ∧ ("java/util/List" : String) ≠ _ ∧ (parseMethodDescriptor (md_J2_size).y.desc).map (fun d => d.parameters.length) = some 0 from ⟨by decide, by decide, (hm_J2_size).2.2⟩) (by decide) (by decide) (Nat.le_of_ble_eq_true rfl)) (c_size p8) rfl (fun x9 => ?_)
    refine cw_icmp_ge (tgt := 56) dX6_missing_25 (by decide) ?_ ?_
    · refine cw_iinc (v := (l2 + 1)) (ls' := [(2, cI (l2 + 1)), (0, cR a0), (1, cI l5), (3, cI l6)]) dX6_missing_56 1 rfl rfl (by decide) rfl ?_
      refine cw_goto (tgt := 4) dX6_missing_59 (by decide) ?_
      refine cw_sub (ls' := [(0, cR a0), (1, cI l5), (2, cI (l2 + 1))]) [1, 2, 0] rfl ?_
      exact hrec3 (l5, (l2 + 1))
    · refine cw_iload_n dX6_missing_28 rfl 2 rfl ?_
      refine cw_aload_n dX6_missing_29 rfl 0 rfl ?_
      refine cw_getP (ci := 5) (j := 18) (C := RX6) (T := TX6) (N := 19) rfl (by decide) rfl rfl (Or.inl q1118) fSame_rfl dX6_missing_30 (fun p10 => ?_)
      refine cw_getP (ci := 6) (j := 4) (C := RX7) (T := TX7) (N := 5) rfl (by decide) rfl rfl (Or.inr ⟨_, q1072⟩) fSame_rfl dX6_missing_33 (fun p11 => ?_)
      refine cw_iload_n dX6_missing_36 rfl 1 rfl ?_
      refine cw_aald (t := 6) (by decide) dX6_missing_37 (fun x12 => ?_)
      refine cw_iload_n dX6_missing_38 rfl 3 rfl ?_
      refine cw_aald (t := 5) (by decide) dX6_missing_39 (fun x13 => ?_)
      refine cw_jn (cj := 0) (kj := 0) (pcj := 48) (lsf := fun (s : Int32) => [(0, cR a0), (2, cI l2), (3, cI l6)]) (stf := fun (s : Int32) => [cI s, cI l5]) (fun s => ?_) (fun J15 hJ15 => ?_)
      · obtain ⟨v14, e⟩ : ∃ z, z = s := ⟨_, rfl⟩
        subst e
        show CWF _ _ _ 48 [(0, cR a0), (2, cI l2), (3, cI l6)] [cI v14, cI l5] _
        refine cw_iadd dX6_missing_48 ?_
        refine cw_istore_n (ls' := [(1, cI (l5 + v14)), (0, cR a0), (2, cI l2), (3, cI l6)]) dX6_missing_49 rfl (by decide) rfl ?_
        refine cw_iinc (v := (l6 + 1)) (ls' := [(3, cI (l6 + 1)), (1, cI (l5 + v14)), (0, cR a0), (2, cI l2)]) dX6_missing_50 3 rfl rfl (by decide) rfl ?_
        refine cw_goto (tgt := 14) dX6_missing_53 (by decide) ?_
        refine cw_sub (ls' := [(0, cR a0), (2, cI l2), (1, cI (l5 + v14)), (3, cI (l6 + 1))]) [2, 3, 1, 0] rfl ?_
        exact hrec7 ((l5 + v14), (l6 + 1))
      · refine cw_ifnonnull (tgt := 47) dX6_missing_40 (by decide) ?_ ?_
        · refine cw_iconst (v := 0) dX6_missing_47 (by decide) ?_
          refine cw_sub (ls' := [(0, cR a0), (2, cI l2), (3, cI l6)]) [0, 1, 3] rfl ?_
          exact hJ15 0
        · refine cw_iconst (v := 1) dX6_missing_43 (by decide) ?_
          refine cw_goto (tgt := 48) dX6_missing_44 (by decide) ?_
          refine cw_sub (ls' := [(0, cR a0), (2, cI l2), (3, cI l6)]) [0, 1, 3] rfl ?_
          exact hJ15 1
def g_X1_mark (a0 : Nat) (a1 : Int32) (a2 : Int32) (a3 : Int32) (a4 : Int32) : GF :=
  getP 20 a0 3 fun p1 =>
  invP none (g_X1_at p1 a1) fun p2 =>
  castG 25 p2 <|
  invV none (g_X1_requireJudge p2 a2 a3) <|
  invP none (g_X1_read p2 a4) fun p3 =>
  jnG (fun (v4 : Int32) =>
    invV none (g_X1_requireArgument v4) <|
    invI (some (p2, 25)) (g_X6_isOver p2) fun x5 =>
    jnG (fun (v6 : Int32) =>
      invV none (g_X1_requireState v6) <|
      getI 25 p2 14 fun x7 =>
      getP 25 p2 18 fun p8 =>
      getP 26 p8 4 fun p9 =>
      aaldG 6 p9 a2 fun x10 =>
      aaldG 5 x10 a3 fun x11 =>
      jnG (fun (v12 : Int32) =>
        putI 25 p2 14 (x7 + v12) <|
        getP 25 p2 18 fun p13 =>
        getP 26 p13 4 fun p14 =>
        aaldG 6 p14 a2 fun x15 =>
        aastMG x15 a3 p3 <|
        putZ 25 p2 15 1 <|
        invI (some (p2, 25)) (g_X6_missing p2) fun x16 =>
        retG (rI x16)) fun J17 =>
      if x11 = 0 then
        J17 0
      else
        J17 1) fun J18 =>
    if x5 = 0 then
      J18 1
    else
      J18 0) fun J19 =>
  if p3 = 0 then
    J19 0
  else
    J19 1
abbrev md_X1_mark : MD := (yX1_mark, cX1_mark, 7, (some (Jvm.ClassFile.FieldType.int)), RX1, 15, 6, 29)
theorem hm_X1_mark : (md_X1_mark).y.cls ≠ "java/lang/invoke/MethodHandle" ∧ (md_X1_mark).y.cls ≠ "java/lang/invoke/VarHandle" ∧ (parseMethodDescriptor (md_X1_mark).y.desc).map (fun d => d.parameters.length) = some 4 := by decide +kernel
theorem m_X1_mark (a0 : Nat) (a1 : Int32) (a2 : Int32) (a3 : Int32) (a4 : Int32) : CMF md_X1_mark [cR a0, cI a1, cI a2, cI a3, cI a4] (g_X1_mark a0 a1 a2 a3 a4) := by
  refine cm_of (by decide +kernel) rfl (Nat.le_of_ble_eq_true rfl) ?_
  show CWF _ 6 29 0 [(0, cR a0), (1, cI a1), (2, cI a2), (3, cI a3), (4, cI a4)] [] _
  unfold g_X1_mark
  refine cw_aload_n dX1_mark_0 rfl 0 rfl ?_
  refine cw_getP (ci := 0) (j := 3) (C := RX1) (T := TX1) (N := 11) rfl (by decide) rfl rfl (Or.inl q209) fSame_rfl dX1_mark_1 (fun p1 => ?_)
  refine cw_iload_n dX1_mark_4 rfl 1 rfl ?_
  refine cw_invP (d2 := md_X1_at) (c := 5) (q := 23) (as := [cR p1, cI a1]) (mc := 1) (ms := 6) rfl rfl (okS (n := 2) rfl dX1_mark_5 (lw_S q883 q884 q111 q885) hm_X1_at (by decide) (by decide) (Nat.le_of_ble_eq_true rfl)) (m_X1_at p1 a1) rfl (fun p2 => ?_)
  refine cw_cast (ci := 5) (T := TX6) (N := 19) (C := RX6) rfl rfl q524 (Or.inl rfl) dX1_mark_8 ?_
  refine cw_astore (ls' := [(5, cR p2), (0, cR a0), (1, cI a1), (2, cI a2), (3, cI a3), (4, cI a4)]) dX1_mark_11 (by decide) rfl ?_
  refine cw_aload dX1_mark_13 0 rfl ?_
  refine cw_iload_n dX1_mark_15 rfl 3 rfl ?_
  refine cw_iload_n dX1_mark_16 rfl 4 rfl ?_
  refine cw_invV (d2 := md_X1_requireJudge) (c := 4) (q := 17) (as := [cR p2, cI a2, cI a3]) (mc := 1) (ms := 6) rfl rfl (okS (n := 3) rfl dX1_mark_17 (lw_S q1372 q1373 q111 q1374) hm_X1_requireJudge (by decide) (by decide) (Nat.le_of_ble_eq_true rfl)) (m_X1_requireJudge p2 a2 a3) rfl ?_
  refine cw_aload dX1_mark_20 0 rfl ?_
  refine cw_iload dX1_mark_22 5 rfl ?_
  refine cw_invP (d2 := md_X1_read) (c := 2) (q := 12) (as := [cR p2, cI a4]) (mc := 2) (ms := 5) rfl rfl (okS (n := 2) rfl dX1_mark_24 (lw_S q1376 q1377 q111 q1378) hm_X1_read (by decide) (by decide) (Nat.le_of_ble_eq_true rfl)) (m_X1_read p2 a4) rfl (fun p3 => ?_)
  refine cw_astore (ls' := [(6, cR p3), (5, cR p2), (0, cR a0), (1, cI a1), (2, cI a2), (3, cI a3), (4, cI a4)]) dX1_mark_27 (by decide) rfl ?_
  refine cw_aload dX1_mark_29 0 rfl ?_
  refine cw_jn (cj := 2) (kj := 12) (pcj := 39) (lsf := fun (s : Int32) => [(6, cR p3), (5, cR p2), (2, cI a2), (3, cI a3)]) (stf := fun (s : Int32) => [cI s]) (fun s => ?_) (fun J19 hJ19 => ?_)
  · obtain ⟨v4, e⟩ : ∃ z, z = s := ⟨_, rfl⟩
    subst e
    show CWF _ _ _ 39 [(6, cR p3), (5, cR p2), (2, cI a2), (3, cI a3)] [cI v4] _
    refine cw_invV (d2 := md_X1_requireArgument) (c := 1) (q := 6) (as := [cI v4]) (mc := 1) (ms := 6) rfl rfl (okS (n := 1) rfl dX1_mark_39 (lw_S q744 q745 q111 q746) hm_X1_requireArgument (by decide) (by decide) (Nat.le_of_ble_eq_true rfl)) (m_X1_requireArgument v4) rfl ?_
    refine cw_aload dX1_mark_42 1 rfl ?_
    refine cw_invI (d2 := md_X6_isOver) (c := 1) (q := 6) (as := [cR p2]) (mc := 0) (ms := 0) rfl rfl (okV (ci := 5) (C := RX6) (T0 := TX6) (N := 19) (n := 0) rfl rfl rfl dX1_mark_44 (lw_V q1420 q1421 q1422 q137 q1423) ⟨rfl, hm_X6_isOver⟩ (by decide) (by decide) (Nat.le_of_ble_eq_true rfl)) (m_X6_isOver p2) rfl (fun x5 => ?_)
    refine cw_jn (cj := 1) (kj := 6) (pcj := 55) (lsf := fun (s : Int32) => [(6, cR p3), (5, cR p2), (2, cI a2), (3, cI a3)]) (stf := fun (s : Int32) => [cI s]) (fun s => ?_) (fun J18 hJ18 => ?_)
    · obtain ⟨v6, e⟩ : ∃ z, z = s := ⟨_, rfl⟩
      subst e
      show CWF _ _ _ 55 [(6, cR p3), (5, cR p2), (2, cI a2), (3, cI a3)] [cI v6] _
      refine cw_invV (d2 := md_X1_requireState) (c := 0) (q := 0) (as := [cI v6]) (mc := 1) (ms := 6) rfl rfl (okS (n := 1) rfl dX1_mark_55 (lw_S q772 q773 q111 q774) hm_X1_requireState (by decide) (by decide) (Nat.le_of_ble_eq_true rfl)) (m_X1_requireState v6) rfl ?_
      refine cw_aload dX1_mark_58 1 rfl ?_
      refine cw_dup dX1_mark_60 rfl ?_
      refine cw_getI (ci := 5) (j := 14) (C := RX6) (T := TX6) (N := 19) rfl (by decide) rfl rfl (Or.inr ⟨_, q1112⟩) fSame_rfl dX1_mark_61 (fun x7 => ?_)
      refine cw_aload dX1_mark_64 1 rfl ?_
      refine cw_getP (ci := 5) (j := 18) (C := RX6) (T := TX6) (N := 19) rfl (by decide) rfl rfl (Or.inr ⟨_, q1119⟩) fSame_rfl dX1_mark_66 (fun p8 => ?_)
      refine cw_getP (ci := 6) (j := 4) (C := RX7) (T := TX7) (N := 5) rfl (by decide) rfl rfl (Or.inr ⟨_, q1073⟩) fSame_rfl dX1_mark_69 (fun p9 => ?_)
      refine cw_iload_n dX1_mark_72 rfl 2 rfl ?_
      refine cw_aald (t := 6) (by decide) dX1_mark_73 (fun x10 => ?_)
      refine cw_iload_n dX1_mark_74 rfl 3 rfl ?_
      refine cw_aald (t := 5) (by decide) dX1_mark_75 (fun x11 => ?_)
      refine cw_jn (cj := 0) (kj := 0) (pcj := 84) (lsf := fun (s : Int32) => [(6, cR p3), (5, cR p2), (2, cI a2), (3, cI a3)]) (stf := fun (s : Int32) => [cI s, cI x7, cR p2]) (fun s => ?_) (fun J17 hJ17 => ?_)
      · obtain ⟨v12, e⟩ : ∃ z, z = s := ⟨_, rfl⟩
        subst e
        show CWF _ _ _ 84 [(6, cR p3), (5, cR p2), (2, cI a2), (3, cI a3)] [cI v12, cI x7, cR p2] _
        refine cw_iadd dX1_mark_84 ?_
        refine cw_putI (ci := 5) (j := 14) (C := RX6) (T := TX6) (N := 19) rfl (by decide) rfl rfl (Or.inr ⟨_, q1112⟩) fSame_rfl (Or.inl rfl) dX1_mark_85 ?_
        refine cw_aload dX1_mark_88 1 rfl ?_
        refine cw_getP (ci := 5) (j := 18) (C := RX6) (T := TX6) (N := 19) rfl (by decide) rfl rfl (Or.inr ⟨_, q1119⟩) fSame_rfl dX1_mark_90 (fun p13 => ?_)
        refine cw_getP (ci := 6) (j := 4) (C := RX7) (T := TX7) (N := 5) rfl (by decide) rfl rfl (Or.inr ⟨_, q1073⟩) fSame_rfl dX1_mark_93 (fun p14 => ?_)
        refine cw_iload_n dX1_mark_96 rfl 2 rfl ?_
        refine cw_aald (t := 6) (by decide) dX1_mark_97 (fun x15 => ?_)
        refine cw_iload_n dX1_mark_98 rfl 3 rfl ?_
        refine cw_aload dX1_mark_99 0 rfl ?_
        refine cw_aastM dX1_mark_101 ?_
        refine cw_aload dX1_mark_102 1 rfl ?_
        refine cw_iconst (v := 1) dX1_mark_104 (by decide) ?_
        refine cw_putZ (ci := 5) (j := 15) (C := RX6) (T := TX6) (N := 19) rfl (by decide) rfl rfl (Or.inr ⟨_, q1114⟩) fSame_rfl (Or.inl rfl) dX1_mark_105 ?_
        refine cw_aload dX1_mark_108 1 rfl ?_
        refine cw_invI (d2 := md_X6_missing) (c := 0) (q := 0) (as := [cR p2]) (mc := 0) (ms := 0) rfl rfl (okV (ci := 5) (C := RX6) (T0 := TX6) (N := 19) (n := 0) rfl rfl rfl dX1_mark_110 (lw_V q1424 q1425 q1426 q137 q1427) ⟨rfl, hm_X6_missing⟩ (by decide) (by decide) (Nat.le_of_ble_eq_true rfl)) (m_X6_missing p2) rfl (fun x16 => ?_)
        exact cw_iret rfl dX1_mark_113
      · refine cw_ifnonnull (tgt := 83) dX1_mark_76 (by decide) ?_ ?_
        · refine cw_iconst (v := 1) dX1_mark_83 (by decide) ?_
          exact hJ17 1
        · refine cw_iconst (v := 0) dX1_mark_79 (by decide) ?_
          refine cw_goto (tgt := 84) dX1_mark_80 (by decide) ?_
          exact hJ17 0
    · refine cw_if_ne (tgt := 54) dX1_mark_47 (by decide) ?_ ?_
      · refine cw_iconst (v := 0) dX1_mark_54 (by decide) ?_
        exact hJ18 0
      · refine cw_iconst (v := 1) dX1_mark_50 (by decide) ?_
        refine cw_goto (tgt := 55) dX1_mark_51 (by decide) ?_
        exact hJ18 1
  · refine cw_ifnull (tgt := 38) dX1_mark_31 (by decide) ?_ ?_
    · refine cw_iconst (v := 0) dX1_mark_38 (by decide) ?_
      refine cw_sub (ls' := [(6, cR p3), (5, cR p2), (2, cI a2), (3, cI a3)]) [0, 1, 4, 5] rfl ?_
      exact hJ19 0
    · refine cw_iconst (v := 1) dX1_mark_34 (by decide) ?_
      refine cw_goto (tgt := 39) dX1_mark_35 (by decide) ?_
      refine cw_sub (ls' := [(6, cR p3), (5, cR p2), (2, cI a2), (3, cI a3)]) [0, 1, 4, 5] rfl ?_
      exact hJ19 1
def g_X8_at (a0 : Int32) (a1 : Int32) (a2 : Int32) : GF :=
  retG (rI ((((a0 * 7) + a1) * 4) + a2))
abbrev md_X8_at : MD := (yX8_at, cX8_at, 3, (some (Jvm.ClassFile.FieldType.int)), RX8, 10, 0, 0)
theorem hm_X8_at : (md_X8_at).y.cls ≠ "java/lang/invoke/MethodHandle" ∧ (md_X8_at).y.cls ≠ "java/lang/invoke/VarHandle" ∧ (parseMethodDescriptor (md_X8_at).y.desc).map (fun d => d.parameters.length) = some 3 := by decide +kernel
theorem m_X8_at (a0 : Int32) (a1 : Int32) (a2 : Int32) : CMF md_X8_at [cI a0, cI a1, cI a2] (g_X8_at a0 a1 a2) := by
  refine cm_of (by decide +kernel) rfl (Nat.le_of_ble_eq_true rfl) ?_
  show CWF _ 0 0 0 [(0, cI a0), (1, cI a1), (2, cI a2)] [] _
  unfold g_X8_at
  refine cw_iload_n dX8_at_0 rfl 0 rfl ?_
  refine cw_bipush (v := 7) dX8_at_1 (by decide) ?_
  refine cw_imul dX8_at_3 ?_
  refine cw_iload_n dX8_at_4 rfl 1 rfl ?_
  refine cw_iadd dX8_at_5 ?_
  refine cw_iconst (v := 4) dX8_at_6 (by decide) ?_
  refine cw_imul dX8_at_7 ?_
  refine cw_iload_n dX8_at_8 rfl 2 rfl ?_
  refine cw_iadd dX8_at_9 ?_
  exact cw_iret rfl dX8_at_10
def g_X8_value (a0 : Nat) (a1 : Int32) (a2 : Int32) (a3 : Int32) : GF :=
  getP 27 a0 2 fun p1 =>
  invI none (g_X8_at a1 a2 a3) fun x2 =>
  ialdG 1 p1 x2 fun x3 =>
  retG (rI x3)
abbrev md_X8_value : MD := (yX8_value, cX8_value, 4, (some (Jvm.ClassFile.FieldType.int)), RX8, 11, 0, 0)
theorem hm_X8_value : (md_X8_value).y.cls ≠ "java/lang/invoke/MethodHandle" ∧ (md_X8_value).y.cls ≠ "java/lang/invoke/VarHandle" ∧ (parseMethodDescriptor (md_X8_value).y.desc).map (fun d => d.parameters.length) = some 3 := by decide +kernel
theorem m_X8_value (a0 : Nat) (a1 : Int32) (a2 : Int32) (a3 : Int32) : CMF md_X8_value [cR a0, cI a1, cI a2, cI a3] (g_X8_value a0 a1 a2 a3) := by
  refine cm_of (by decide +kernel) rfl (Nat.le_of_ble_eq_true rfl) ?_
  show CWF _ 0 0 0 [(0, cR a0), (1, cI a1), (2, cI a2), (3, cI a3)] [] _
  unfold g_X8_value
  refine cw_aload_n dX8_value_0 rfl 0 rfl ?_
  refine cw_getP (ci := 7) (j := 2) (C := RX8) (T := TX8) (N := 10) rfl (by decide) rfl rfl (Or.inl q1254) fSame_rfl dX8_value_1 (fun p1 => ?_)
  refine cw_iload_n dX8_value_4 rfl 1 rfl ?_
  refine cw_iload_n dX8_value_5 rfl 2 rfl ?_
  refine cw_iload_n dX8_value_6 rfl 3 rfl ?_
  refine cw_invI (d2 := md_X8_at) (c := 0) (q := 0) (as := [cI a1, cI a2, cI a3]) (mc := 0) (ms := 0) rfl rfl (okS (n := 3) rfl dX8_value_7 (lw_S q1448 q1436 q142 q1437) hm_X8_at (by decide) (by decide) (Nat.le_of_ble_eq_true rfl)) (m_X8_at a1 a2 a3) rfl (fun x2 => ?_)
  refine cw_iald dX8_value_10 (fun x3 => ?_)
  exact cw_iret rfl dX8_value_11
def b_X8_given_45 (p1 : Nat) (x4 : Int32) (J8 : Int32 → GF) (rec10 : Int32 → GF) : Int32 → GF := fun (l9 : Int32) =>
  if l9 ≤ 0 then
    J8 l9
  else
    invP (some (p1, 8)) (s_get p1 (l9 - 1)) fun p11 =>
    castIG p11 <|
    invI (some (p11, 36)) (g_J21_intValue p11) fun x12 =>
    if x12 ≤ x4 then
      J8 l9
    else
      rec10 (l9 + (-1))
def b_X8_given_11 (a0 : Nat) (a1 : Int32) (a2 : Int32) (p1 : Nat) (rec3 : Int32 → GF) : Int32 → GF := fun (l2 : Int32) =>
  if l2 < 7 then
    invI (some (a0, 27)) (g_X8_value a0 a1 l2 a2) fun x4 =>
    if x4 = (-1 : Int32) then
      rec3 (l2 + 1)
    else
      invI (some (p1, 8)) (s_size p1) fun x5 =>
      jnG (fun (v6 : Int32) =>
        invP none (g_J21_valueOf x4) fun p7 =>
        invV (some (p1, 8)) (s_insert p1 v6 p7) <|
        rec3 (l2 + 1)) fun J8 =>
      loopG (b_X8_given_45 p1 x4 J8) FU x5
  else
    retG (rR p1)
def g_X8_given (a0 : Nat) (a1 : Int32) (a2 : Int32) : GF :=
  newG 34 fun p1 =>
  invV (some (p1, 34)) (s_init p1) <|
  loopG (b_X8_given_11 a0 a1 a2 p1) 26 0
abbrev md_X8_given : MD := (yX8_given, cX8_given, 7, (some ((Jvm.ClassFile.FieldType.object "java/util/List"))), RX8, 15, 27, 1667)
theorem hm_X8_given : (md_X8_given).y.cls ≠ "java/lang/invoke/MethodHandle" ∧ (md_X8_given).y.cls ≠ "java/lang/invoke/VarHandle" ∧ (parseMethodDescriptor (md_X8_given).y.desc).map (fun d => d.parameters.length) = some 2 := by decide +kernel
theorem m_X8_given (a0 : Nat) (a1 : Int32) (a2 : Int32) : CMF md_X8_given [cR a0, cI a1, cI a2] (g_X8_given a0 a1 a2) := by
  refine cm_of (by decide +kernel) rfl (Nat.le_of_ble_eq_true rfl) ?_
  show CWF _ 27 1667 0 [(0, cR a0), (1, cI a1), (2, cI a2)] [] _
  unfold g_X8_given
  refine cw_new (c := 26) (q := 1664) (ci := 14) (C := RJ2) (T := TJ2) (N := 3) rfl rfl q1442 q162 q114 dX8_given_0 (fun p1 => ?_)
  refine cw_dup dX8_given_3 rfl ?_
  refine cw_invV (d2 := md_J2_init) (c := 26) (q := 1664) (as := [cR p1]) (mc := 0) (ms := 0) rfl rfl (okI (n := 0) rfl rfl dX8_given_4 (lw_meth q165) q114 q1443 q164 rfl hm_J2_init (by decide) (by decide) (Nat.le_of_ble_eq_true rfl) (by decide)) (c_init p1) rfl ?_
  refine cw_astore_n (ls' := [(3, cR p1), (0, cR a0), (1, cI a1), (2, cI a2)]) dX8_given_7 rfl (by decide) rfl ?_
  refine cw_iconst (v := 0) dX8_given_8 (by decide) ?_
  refine cw_istore (ls' := [(4, cI 0), (3, cR p1), (0, cR a0), (1, cI a1), (2, cI a2)]) dX8_given_9 (by decide) rfl ?_
  refine cw_sub (ls' := [(3, cR p1), (0, cR a0), (1, cI a1), (2, cI a2), (4, cI 0)]) [1, 2, 3, 4, 0] rfl ?_
  refine cw_weak (c' := 0 + 26 * 1) (q' := 0 + 26 * 64) (by omega) (by omega) ?_
  refine cw_loop (ce := 0) (ke := 0) (cb := 1) (kb := 64) (lsf := fun (s : Int32) => [(3, cR p1), (0, cR a0), (1, cI a1), (2, cI a2), (4, cI s)]) (fun Crec3 Krec3 rec3 hCrec3 hKrec3 hrec3 s => ?_) 26 0
  obtain ⟨l2, e⟩ : ∃ z, z = s := ⟨_, rfl⟩
  subst e
  show CWF _ _ _ 11 [(3, cR p1), (0, cR a0), (1, cI a1), (2, cI a2), (4, cI l2)] [] _
  dsimp only [b_X8_given_11]
  refine cw_iload dX8_given_11 4 rfl ?_
  refine cw_bipush (v := 7) dX8_given_13 (by decide) ?_
  refine cw_icmp_ge (tgt := 96) dX8_given_15 (by decide) ?_ ?_
  · refine cw_weak (c' := Crec3 + 0) (q' := Krec3 + 0) (by omega) (by omega) ?_
    refine cw_aload_n dX8_given_96 rfl 0 rfl ?_
    exact cw_aret rfl rfl dX8_given_97
  · refine cw_aload_n dX8_given_18 rfl 1 rfl ?_
    refine cw_iload_n dX8_given_19 rfl 2 rfl ?_
    refine cw_iload dX8_given_20 4 rfl ?_
    refine cw_iload_n dX8_given_22 rfl 3 rfl ?_
    refine cw_invI (d2 := md_X8_value) (c := Crec3 + 1) (q := Krec3 + 64) (as := [cR a0, cI a1, cI l2, cI a2]) (mc := 0) (ms := 0) rfl rfl (okV (ci := 7) (C := RX8) (T0 := TX8) (N := 10) (n := 3) rfl rfl rfl dX8_given_23 (lw_V q1444 q1445 q1446 q142 q1447) ⟨rfl, hm_X8_value⟩ (by decide) (by decide) (Nat.le_of_ble_eq_true rfl)) (m_X8_value a0 a1 l2 a2) rfl (fun x4 => ?_)
    refine cw_istore (ls' := [(5, cI x4), (3, cR p1), (0, cR a0), (1, cI a1), (2, cI a2), (4, cI l2)]) dX8_given_26 (by decide) rfl ?_
    refine cw_iload dX8_given_28 0 rfl ?_
    refine cw_iconst (v := -1) dX8_given_30 (by decide) ?_
    refine cw_icmp_ne (tgt := 37) dX8_given_31 (by decide) ?_ ?_
    · refine cw_aload_n dX8_given_37 rfl 1 rfl ?_
      refine cw_invI (d2 := md_J2_size) (c := Crec3 + 1) (q := Krec3 + 64) (as := [cR p1]) (mc := 0) (ms := 0) rfl rfl (okF (x := ⟨"java/util/List", "size", "()I"⟩) (ci := 14) (C := RJ2) (T0 := TJ2) (N := 3) (n := 0) rfl (Or.inr ⟨rfl, rfl⟩) rfl dX8_given_38 (lw_F q1450 q251 q249 q114 q253) (List.mem_iff_getElem?.mpr ⟨1, rfl⟩) (show ("java/util/List" : String) ≠ _ ∧ ("java/util/List" : String) ≠ _ ∧ (parseMethodDescriptor (md_J2_size).y.desc).map (fun d => d.parameters.length) = some 0 from ⟨by decide, by decide, (hm_J2_size).2.2⟩) (by decide) (by decide) (Nat.le_of_ble_eq_true rfl)) (c_size p1) rfl (fun x5 => ?_)
      refine cw_istore (ls' := [(6, cI x5), (5, cI x4), (3, cR p1), (0, cR a0), (1, cI a1), (2, cI a2), (4, cI l2)]) dX8_given_43 (by decide) rfl ?_
      refine cw_jn (cj := Crec3 + 1) (kj := Krec3 + 64) (pcj := 77) (lsf := fun (s : Int32) => [(5, cI x4), (3, cR p1), (0, cR a0), (1, cI a1), (2, cI a2), (4, cI l2), (6, cI s)]) (stf := fun (s : Int32) => []) (fun s => ?_) (fun J8 hJ8 => ?_)
      · obtain ⟨v6, e⟩ : ∃ z, z = s := ⟨_, rfl⟩
        subst e
        show CWF _ _ _ 77 [(5, cI x4), (3, cR p1), (0, cR a0), (1, cI a1), (2, cI a2), (4, cI l2), (6, cI v6)] [] _
        refine cw_aload_n dX8_given_77 rfl 1 rfl ?_
        refine cw_iload dX8_given_78 6 rfl ?_
        refine cw_iload dX8_given_80 0 rfl ?_
        refine cw_invP (d2 := md_J21_valueOf) (c := Crec3 + 1) (q := Krec3 + 64) (as := [cI x4]) (mc := 0) (ms := 0) rfl rfl (okS (n := 1) rfl dX8_given_82 (lw_S q1455 q1226 q140 q1227) hm_J21_valueOf (by decide) (by decide) (Nat.le_of_ble_eq_true rfl)) (m_J21_valueOf x4) rfl (fun p7 => ?_)
        refine cw_invV (d2 := md_J2_add_3) (c := Crec3 + 0) (q := Krec3 + 0) (as := [cR p1, cI v6, cR p7]) (mc := 1) (ms := 64) rfl rfl (okF (x := ⟨"java/util/List", "add", "(ILjava/lang/Object;)V"⟩) (ci := 14) (C := RJ2) (T0 := TJ2) (N := 3) (n := 2) rfl (Or.inr ⟨rfl, rfl⟩) rfl dX8_given_85 (lw_F q1457 q1462 q1460 q114 q1464) (List.mem_iff_getElem?.mpr ⟨12, rfl⟩) (show ("java/util/List" : String) ≠ _ ∧ ("java/util/List" : String) ≠ _ ∧ (parseMethodDescriptor (md_J2_add_3).y.desc).map (fun d => d.parameters.length) = some 2 from ⟨by decide, by decide, (hm_J2_add_3).2.2⟩) (by decide) (by decide) (Nat.le_of_ble_eq_true rfl)) (c_insert p1 v6 p7) rfl ?_
        refine cw_iinc (v := (l2 + 1)) (ls' := [(4, cI (l2 + 1)), (5, cI x4), (3, cR p1), (0, cR a0), (1, cI a1), (2, cI a2), (6, cI v6)]) dX8_given_90 5 rfl rfl (by decide) rfl ?_
        refine cw_goto (tgt := 11) dX8_given_93 (by decide) ?_
        refine cw_sub (ls' := [(3, cR p1), (0, cR a0), (1, cI a1), (2, cI a2), (4, cI (l2 + 1))]) [2, 3, 4, 5, 0] rfl ?_
        exact hrec3 (l2 + 1)
      · refine cw_sub (ls' := [(5, cI x4), (3, cR p1), (0, cR a0), (1, cI a1), (2, cI a2), (4, cI l2), (6, cI x5)]) [1, 2, 3, 4, 5, 6, 0] rfl ?_
        refine cw_loop0 (lsf := fun (s : Int32) => [(5, cI x4), (3, cR p1), (0, cR a0), (1, cI a1), (2, cI a2), (4, cI l2), (6, cI s)]) (fun rec10 hrec10 s => ?_) FU x5
        obtain ⟨l9, e⟩ : ∃ z, z = s := ⟨_, rfl⟩
        subst e
        show CWF _ _ _ 45 [(5, cI x4), (3, cR p1), (0, cR a0), (1, cI a1), (2, cI a2), (4, cI l2), (6, cI l9)] [] _
        dsimp only [b_X8_given_45]
        refine cw_iload dX8_given_45 6 rfl ?_
        refine cw_if_le (tgt := 77) dX8_given_47 (by decide) ?_ ?_
        · exact hJ8 l9
        · refine cw_aload_n dX8_given_50 rfl 1 rfl ?_
          refine cw_iload dX8_given_51 6 rfl ?_
          refine cw_iconst (v := 1) dX8_given_53 (by decide) ?_
          refine cw_isub dX8_given_54 ?_
          refine cw_invP (d2 := md_J2_get) (c := Crec3 + 1) (q := Krec3 + 64) (as := [cR p1, cI (l9 - 1)]) (mc := 0) (ms := 0) rfl rfl (okF (x := ⟨"java/util/List", "get", "(I)Ljava/lang/Object;"⟩) (ci := 14) (C := RJ2) (T0 := TJ2) (N := 3) (n := 1) rfl (Or.inr ⟨rfl, rfl⟩) rfl dX8_given_55 (lw_F q1452 q267 q265 q114 q269) (List.mem_iff_getElem?.mpr ⟨2, rfl⟩) (show ("java/util/List" : String) ≠ _ ∧ ("java/util/List" : String) ≠ _ ∧ (parseMethodDescriptor (md_J2_get).y.desc).map (fun d => d.parameters.length) = some 1 from ⟨by decide, by decide, (hm_J2_get).2.2⟩) (by decide) (by decide) (Nat.le_of_ble_eq_true rfl)) (c_get p1 (l9 - 1)) rfl (fun p11 => ?_)
          refine cw_castI q1453 dX8_given_60 ?_
          refine cw_invI (d2 := md_J21_intValue) (c := Crec3 + 1) (q := Krec3 + 64) (as := [cR p11]) (mc := 0) (ms := 0) rfl rfl (okV (ci := 16) (C := RJ21) (T0 := TJ21) (N := 1) (n := 0) rfl rfl rfl dX8_given_63 (lw_V q1454 q282 q283 q140 q284) ⟨rfl, hm_J21_intValue⟩ (by decide) (by decide) (Nat.le_of_ble_eq_true rfl)) (m_J21_intValue p11) rfl (fun x12 => ?_)
          refine cw_iload dX8_given_66 0 rfl ?_
          refine cw_icmp_le (tgt := 77) dX8_given_68 (by decide) ?_ ?_
          · exact hJ8 l9
          · refine cw_iinc (v := (l9 + (-1))) (ls' := [(6, cI (l9 + (-1))), (5, cI x4), (3, cR p1), (0, cR a0), (1, cI a1), (2, cI a2), (4, cI l2)]) dX8_given_71 6 rfl rfl (by decide) rfl ?_
            refine cw_goto (tgt := 45) dX8_given_74 (by decide) ?_
            refine cw_sub (ls' := [(5, cI x4), (3, cR p1), (0, cR a0), (1, cI a1), (2, cI a2), (4, cI l2), (6, cI (l9 + (-1)))]) [1, 2, 3, 4, 5, 6, 0] rfl ?_
            exact hrec10 (l9 + (-1))
    · refine cw_weak (c' := Crec3 + 0) (q' := Krec3 + 0) (by omega) (by omega) ?_
      refine cw_goto (tgt := 90) dX8_given_34 (by decide) ?_
      refine cw_iinc (v := (l2 + 1)) (ls' := [(4, cI (l2 + 1)), (5, cI x4), (3, cR p1), (0, cR a0), (1, cI a1), (2, cI a2)]) dX8_given_90 5 rfl rfl (by decide) rfl ?_
      refine cw_goto (tgt := 11) dX8_given_93 (by decide) ?_
      refine cw_sub (ls' := [(3, cR p1), (0, cR a0), (1, cI a1), (2, cI a2), (4, cI (l2 + 1))]) [2, 3, 4, 5, 0] rfl ?_
      exact hrec3 (l2 + 1)
def g_X1_value (a0 : Nat) (a1 : Int32) (a2 : Int32) (a3 : Int32) (a4 : Int32) (a5 : Int32) (a6 : Int32) : GF :=
  getP 20 a0 3 fun p1 =>
  invP none (g_X1_at p1 a1) fun p2 =>
  castG 25 p2 <|
  invV none (g_X1_requireJudge p2 a2 a3) <|
  invP none (g_X1_entryOf p2 a4) fun p3 =>
  invI none (g_X1_isBetween a5 0 3) fun x4 =>
  jnG (fun (v5 : Int32) =>
    invV none (g_X1_requireArgument v5) <|
    invI (some (p2, 25)) (g_X6_state p2) fun x6 =>
    jnG (fun (v7 : Int32) =>
      invV none (g_X1_requireState v7) <|
      getP 27 p3 2 fun p8 =>
      invI none (g_X8_at a2 a3 a5) fun x9 =>
      iastG p8 x9 a6 <|
      invP (some (p3, 27)) (g_X8_given p3 a2 a5) fun p10 =>
      invI (some (p10, 8)) (s_size p10) fun x11 =>
      idivG (x11 - 1) 2 fun x12 =>
      invP (some (p10, 8)) (s_get p10 x12) fun p13 =>
      castIG p13 <|
      invI (some (p13, 36)) (g_J21_intValue p13) fun x14 =>
      retG (rI x14)) fun J15 =>
    jnG (fun (_ : Unit) =>
      J15 0) fun J16 =>
    if x6 = 3 then
      getP 25 p2 18 fun p17 =>
      getP 26 p17 2 fun p18 =>
      invI (some (p18, 8)) (s_contains p18 p3) fun x19 =>
      if x19 = 0 then
        J16 ()
      else
        J15 1
    else
      J16 ()) fun J20 =>
  jnG (fun (_ : Unit) =>
    J20 0) fun J21 =>
  if x4 = 0 then
    J21 ()
  else
    invI none (g_X1_isBetween a6 0 100) fun x22 =>
    if x22 = 0 then
      J21 ()
    else
      J20 1
abbrev md_X1_value : MD := (yX1_value, cX1_value, 10, (some (Jvm.ClassFile.FieldType.int)), RX1, 16, 32, 1697)
theorem hm_X1_value : (md_X1_value).y.cls ≠ "java/lang/invoke/MethodHandle" ∧ (md_X1_value).y.cls ≠ "java/lang/invoke/VarHandle" ∧ (parseMethodDescriptor (md_X1_value).y.desc).map (fun d => d.parameters.length) = some 6 := by decide +kernel
theorem m_X1_value (a0 : Nat) (a1 : Int32) (a2 : Int32) (a3 : Int32) (a4 : Int32) (a5 : Int32) (a6 : Int32) : CMF md_X1_value [cR a0, cI a1, cI a2, cI a3, cI a4, cI a5, cI a6] (g_X1_value a0 a1 a2 a3 a4 a5 a6) := by
  refine cm_of (by decide +kernel) rfl (Nat.le_of_ble_eq_true rfl) ?_
  show CWF _ 32 1697 0 [(0, cR a0), (1, cI a1), (2, cI a2), (3, cI a3), (4, cI a4), (5, cI a5), (6, cI a6)] [] _
  unfold g_X1_value
  refine cw_aload_n dX1_value_0 rfl 0 rfl ?_
  refine cw_getP (ci := 0) (j := 3) (C := RX1) (T := TX1) (N := 11) rfl (by decide) rfl rfl (Or.inl q209) fSame_rfl dX1_value_1 (fun p1 => ?_)
  refine cw_iload_n dX1_value_4 rfl 1 rfl ?_
  refine cw_invP (d2 := md_X1_at) (c := 31) (q := 1691) (as := [cR p1, cI a1]) (mc := 1) (ms := 6) rfl rfl (okS (n := 2) rfl dX1_value_5 (lw_S q883 q884 q111 q885) hm_X1_at (by decide) (by decide) (Nat.le_of_ble_eq_true rfl)) (m_X1_at p1 a1) rfl (fun p2 => ?_)
  refine cw_cast (ci := 5) (T := TX6) (N := 19) (C := RX6) rfl rfl q524 (Or.inl rfl) dX1_value_8 ?_
  refine cw_astore (ls' := [(7, cR p2), (0, cR a0), (1, cI a1), (2, cI a2), (3, cI a3), (4, cI a4), (5, cI a5), (6, cI a6)]) dX1_value_11 (by decide) rfl ?_
  refine cw_aload dX1_value_13 0 rfl ?_
  refine cw_iload_n dX1_value_15 rfl 3 rfl ?_
  refine cw_iload_n dX1_value_16 rfl 4 rfl ?_
  refine cw_invV (d2 := md_X1_requireJudge) (c := 30) (q := 1685) (as := [cR p2, cI a2, cI a3]) (mc := 1) (ms := 6) rfl rfl (okS (n := 3) rfl dX1_value_17 (lw_S q1372 q1373 q111 q1374) hm_X1_requireJudge (by decide) (by decide) (Nat.le_of_ble_eq_true rfl)) (m_X1_requireJudge p2 a2 a3) rfl ?_
  refine cw_aload dX1_value_20 0 rfl ?_
  refine cw_iload dX1_value_22 5 rfl ?_
  refine cw_invP (d2 := md_X1_entryOf) (c := 29) (q := 1679) (as := [cR p2, cI a4]) (mc := 1) (ms := 6) rfl rfl (okS (n := 2) rfl dX1_value_24 (lw_S q1300 q1301 q111 q1302) hm_X1_entryOf (by decide) (by decide) (Nat.le_of_ble_eq_true rfl)) (m_X1_entryOf p2 a4) rfl (fun p3 => ?_)
  refine cw_astore (ls' := [(8, cR p3), (7, cR p2), (0, cR a0), (1, cI a1), (2, cI a2), (3, cI a3), (4, cI a4), (5, cI a5), (6, cI a6)]) dX1_value_27 (by decide) rfl ?_
  refine cw_iload dX1_value_29 7 rfl ?_
  refine cw_iconst (v := 0) dX1_value_31 (by decide) ?_
  refine cw_iconst (v := 3) dX1_value_32 (by decide) ?_
  refine cw_invI (d2 := md_X1_isBetween) (c := 29) (q := 1679) (as := [cI a5, cI 0, cI 3]) (mc := 0) (ms := 0) rfl rfl (okS (n := 3) rfl dX1_value_33 (lw_S q258 q259 q111 q260) hm_X1_isBetween (by decide) (by decide) (Nat.le_of_ble_eq_true rfl)) (m_X1_isBetween a5 0 3) rfl (fun x4 => ?_)
  refine cw_jn (cj := 29) (kj := 1679) (pcj := 55) (lsf := fun (s : Int32) => [(8, cR p3), (7, cR p2), (2, cI a2), (3, cI a3), (5, cI a5), (6, cI a6)]) (stf := fun (s : Int32) => [cI s]) (fun s => ?_) (fun J20 hJ20 => ?_)
  · obtain ⟨v5, e⟩ : ∃ z, z = s := ⟨_, rfl⟩
    subst e
    show CWF _ _ _ 55 [(8, cR p3), (7, cR p2), (2, cI a2), (3, cI a3), (5, cI a5), (6, cI a6)] [cI v5] _
    refine cw_invV (d2 := md_X1_requireArgument) (c := 28) (q := 1673) (as := [cI v5]) (mc := 1) (ms := 6) rfl rfl (okS (n := 1) rfl dX1_value_55 (lw_S q744 q745 q111 q746) hm_X1_requireArgument (by decide) (by decide) (Nat.le_of_ble_eq_true rfl)) (m_X1_requireArgument v5) rfl ?_
    refine cw_aload dX1_value_58 1 rfl ?_
    refine cw_invI (d2 := md_X6_state) (c := 28) (q := 1673) (as := [cR p2]) (mc := 0) (ms := 0) rfl rfl (okV (ci := 5) (C := RX6) (T0 := TX6) (N := 19) (n := 0) rfl rfl rfl dX1_value_60 (lw_V q1177 q1178 q1179 q137 q1180) ⟨rfl, hm_X6_state⟩ (by decide) (by decide) (Nat.le_of_ble_eq_true rfl)) (m_X6_state p2) rfl (fun x6 => ?_)
    refine cw_iconst (v := 3) dX1_value_63 (by decide) ?_
    refine cw_jn (cj := 28) (kj := 1673) (pcj := 90) (lsf := fun (s : Int32) => [(8, cR p3), (2, cI a2), (3, cI a3), (5, cI a5), (6, cI a6)]) (stf := fun (s : Int32) => [cI s]) (fun s => ?_) (fun J15 hJ15 => ?_)
    · obtain ⟨v7, e⟩ : ∃ z, z = s := ⟨_, rfl⟩
      subst e
      show CWF _ _ _ 90 [(8, cR p3), (2, cI a2), (3, cI a3), (5, cI a5), (6, cI a6)] [cI v7] _
      refine cw_invV (d2 := md_X1_requireState) (c := 27) (q := 1667) (as := [cI v7]) (mc := 1) (ms := 6) rfl rfl (okS (n := 1) rfl dX1_value_90 (lw_S q772 q773 q111 q774) hm_X1_requireState (by decide) (by decide) (Nat.le_of_ble_eq_true rfl)) (m_X1_requireState v7) rfl ?_
      refine cw_aload dX1_value_93 0 rfl ?_
      refine cw_getP (ci := 7) (j := 2) (C := RX8) (T := TX8) (N := 10) rfl (by decide) rfl rfl (Or.inr ⟨_, q1255⟩) fSame_rfl dX1_value_95 (fun p8 => ?_)
      refine cw_iload_n dX1_value_98 rfl 1 rfl ?_
      refine cw_iload_n dX1_value_99 rfl 2 rfl ?_
      refine cw_iload dX1_value_100 3 rfl ?_
      refine cw_invI (d2 := md_X8_at) (c := 27) (q := 1667) (as := [cI a2, cI a3, cI a5]) (mc := 0) (ms := 0) rfl rfl (okSN (n := 3) rfl dX1_value_102 (lw_meth q1437) q142 q1435 q1436 hm_X8_at (by decide) (by decide) (Nat.le_of_ble_eq_true rfl)) (m_X8_at a2 a3 a5) rfl (fun x9 => ?_)
      refine cw_iload dX1_value_105 4 rfl ?_
      refine cw_iast dX1_value_107 ?_
      refine cw_aload dX1_value_108 0 rfl ?_
      refine cw_iload_n dX1_value_110 rfl 1 rfl ?_
      refine cw_iload dX1_value_111 3 rfl ?_
      refine cw_invP (d2 := md_X8_given) (c := 0) (q := 0) (as := [cR p3, cI a2, cI a5]) (mc := 27) (ms := 1667) rfl rfl (okV (ci := 7) (C := RX8) (T0 := TX8) (N := 10) (n := 2) rfl rfl rfl dX1_value_113 (lw_V q1438 q1439 q1440 q142 q1441) ⟨rfl, hm_X8_given⟩ (by decide) (by decide) (Nat.le_of_ble_eq_true rfl)) (m_X8_given p3 a2 a5) rfl (fun p10 => ?_)
      refine cw_astore (ls' := [(9, cR p10), (8, cR p3), (2, cI a2), (3, cI a3), (5, cI a5), (6, cI a6)]) dX1_value_116 (by decide) rfl ?_
      refine cw_aload dX1_value_118 0 rfl ?_
      refine cw_aload dX1_value_120 0 rfl ?_
      refine cw_invI (d2 := md_J2_size) (c := 0) (q := 0) (as := [cR p10]) (mc := 0) (ms := 0) rfl rfl (okF (x := ⟨"java/util/List", "size", "()I"⟩) (ci := 14) (C := RJ2) (T0 := TJ2) (N := 3) (n := 0) rfl (Or.inr ⟨rfl, rfl⟩) rfl dX1_value_122 (lw_F q246 q251 q249 q114 q253) (List.mem_iff_getElem?.mpr ⟨1, rfl⟩) (show ("java/util/List" : String) ≠ _ ∧ ("java/util/List" : String) ≠ _ ∧ (parseMethodDescriptor (md_J2_size).y.desc).map (fun d => d.parameters.length) = some 0 from ⟨by decide, by decide, (hm_J2_size).2.2⟩) (by decide) (by decide) (Nat.le_of_ble_eq_true rfl)) (c_size p10) rfl (fun x11 => ?_)
      refine cw_iconst (v := 1) dX1_value_127 (by decide) ?_
      refine cw_isub dX1_value_128 ?_
      refine cw_iconst (v := 2) dX1_value_129 (by decide) ?_
      refine cw_idiv dX1_value_130 (fun x12 => ?_)
      refine cw_invP (d2 := md_J2_get) (c := 0) (q := 0) (as := [cR p10, cI x12]) (mc := 0) (ms := 0) rfl rfl (okF (x := ⟨"java/util/List", "get", "(I)Ljava/lang/Object;"⟩) (ci := 14) (C := RJ2) (T0 := TJ2) (N := 3) (n := 1) rfl (Or.inr ⟨rfl, rfl⟩) rfl dX1_value_131 (lw_F q262 q267 q265 q114 q269) (List.mem_iff_getElem?.mpr ⟨2, rfl⟩) (show ("java/util/List" : String) ≠ _ ∧ ("java/util/List" : String) ≠ _ ∧ (parseMethodDescriptor (md_J2_get).y.desc).map (fun d => d.parameters.length) = some 1 from ⟨by decide, by decide, (hm_J2_get).2.2⟩) (by decide) (by decide) (Nat.le_of_ble_eq_true rfl)) (c_get p10 x12) rfl (fun p13 => ?_)
      refine cw_castI q280 dX1_value_136 ?_
      refine cw_invI (d2 := md_J21_intValue) (c := 0) (q := 0) (as := [cR p13]) (mc := 0) (ms := 0) rfl rfl (okV (ci := 16) (C := RJ21) (T0 := TJ21) (N := 1) (n := 0) rfl rfl rfl dX1_value_139 (lw_V q281 q282 q283 q140 q284) ⟨rfl, hm_J21_intValue⟩ (by decide) (by decide) (Nat.le_of_ble_eq_true rfl)) (m_J21_intValue p13) rfl (fun x14 => ?_)
      exact cw_iret rfl dX1_value_142
    · refine cw_jn (cj := 28) (kj := 1673) (pcj := 89) (lsf := fun (s : Unit) => [(8, cR p3), (2, cI a2), (3, cI a3), (5, cI a5), (6, cI a6)]) (stf := fun (s : Unit) => []) (fun s => ?_) (fun J16 hJ16 => ?_)
      · show CWF _ _ _ 89 [(8, cR p3), (2, cI a2), (3, cI a3), (5, cI a5), (6, cI a6)] [] _
        refine cw_iconst (v := 0) dX1_value_89 (by decide) ?_
        exact hJ15 0
      · refine cw_icmp_ne (tgt := 89) dX1_value_64 (by decide) ?_ ?_
        · refine cw_sub (ls' := [(8, cR p3), (2, cI a2), (3, cI a3), (5, cI a5), (6, cI a6)]) [0, 2, 3, 4, 5] rfl ?_
          exact hJ16 ()
        · refine cw_aload dX1_value_67 1 rfl ?_
          refine cw_getP (ci := 5) (j := 18) (C := RX6) (T := TX6) (N := 19) rfl (by decide) rfl rfl (Or.inr ⟨_, q1119⟩) fSame_rfl dX1_value_69 (fun p17 => ?_)
          refine cw_getP (ci := 6) (j := 2) (C := RX7) (T := TX7) (N := 5) rfl (by decide) rfl rfl (Or.inr ⟨_, q1068⟩) fSame_rfl dX1_value_72 (fun p18 => ?_)
          refine cw_aload dX1_value_75 0 rfl ?_
          refine cw_invI (d2 := md_J2_contains) (c := 28) (q := 1673) (as := [cR p18, cR p3]) (mc := 0) (ms := 0) rfl rfl (okF (x := ⟨"java/util/List", "contains", "(Ljava/lang/Object;)Z"⟩) (ci := 14) (C := RJ2) (T0 := TJ2) (N := 3) (n := 1) rfl (Or.inr ⟨rfl, rfl⟩) rfl dX1_value_77 (lw_F q912 q686 q684 q114 q688) (List.mem_iff_getElem?.mpr ⟨10, rfl⟩) (show ("java/util/List" : String) ≠ _ ∧ ("java/util/List" : String) ≠ _ ∧ (parseMethodDescriptor (md_J2_contains).y.desc).map (fun d => d.parameters.length) = some 1 from ⟨by decide, by decide, (hm_J2_contains).2.2⟩) (by decide) (by decide) (Nat.le_of_ble_eq_true rfl)) (c_contains p18 p3) rfl (fun x19 => ?_)
          refine cw_if_eq (tgt := 89) dX1_value_82 (by decide) ?_ ?_
          · refine cw_sub (ls' := [(8, cR p3), (2, cI a2), (3, cI a3), (5, cI a5), (6, cI a6)]) [0, 2, 3, 4, 5] rfl ?_
            exact hJ16 ()
          · refine cw_iconst (v := 1) dX1_value_85 (by decide) ?_
            refine cw_goto (tgt := 90) dX1_value_86 (by decide) ?_
            refine cw_sub (ls' := [(8, cR p3), (2, cI a2), (3, cI a3), (5, cI a5), (6, cI a6)]) [0, 2, 3, 4, 5] rfl ?_
            exact hJ15 1
  · refine cw_jn (cj := 29) (kj := 1679) (pcj := 54) (lsf := fun (s : Unit) => [(8, cR p3), (7, cR p2), (2, cI a2), (3, cI a3), (5, cI a5), (6, cI a6)]) (stf := fun (s : Unit) => []) (fun s => ?_) (fun J21 hJ21 => ?_)
    · show CWF _ _ _ 54 [(8, cR p3), (7, cR p2), (2, cI a2), (3, cI a3), (5, cI a5), (6, cI a6)] [] _
      refine cw_iconst (v := 0) dX1_value_54 (by decide) ?_
      exact hJ20 0
    · refine cw_if_eq (tgt := 54) dX1_value_36 (by decide) ?_ ?_
      · refine cw_sub (ls' := [(8, cR p3), (7, cR p2), (2, cI a2), (3, cI a3), (5, cI a5), (6, cI a6)]) [0, 1, 4, 5, 7, 8] rfl ?_
        exact hJ21 ()
      · refine cw_iload dX1_value_39 8 rfl ?_
        refine cw_iconst (v := 0) dX1_value_41 (by decide) ?_
        refine cw_bipush (v := 100) dX1_value_42 (by decide) ?_
        refine cw_invI (d2 := md_X1_isBetween) (c := 29) (q := 1679) (as := [cI a6, cI 0, cI 100]) (mc := 0) (ms := 0) rfl rfl (okS (n := 3) rfl dX1_value_44 (lw_S q258 q259 q111 q260) hm_X1_isBetween (by decide) (by decide) (Nat.le_of_ble_eq_true rfl)) (m_X1_isBetween a6 0 100) rfl (fun x22 => ?_)
        refine cw_if_eq (tgt := 54) dX1_value_47 (by decide) ?_ ?_
        · refine cw_sub (ls' := [(8, cR p3), (7, cR p2), (2, cI a2), (3, cI a3), (5, cI a5), (6, cI a6)]) [0, 1, 4, 5, 7, 8] rfl ?_
          exact hJ21 ()
        · refine cw_iconst (v := 1) dX1_value_50 (by decide) ?_
          refine cw_goto (tgt := 55) dX1_value_51 (by decide) ?_
          refine cw_sub (ls' := [(8, cR p3), (7, cR p2), (2, cI a2), (3, cI a3), (5, cI a5), (6, cI a6)]) [0, 1, 4, 5, 7, 8] rfl ?_
          exact hJ20 1
def b_X1_requireReady_88 (a0 : Nat) (a1 : Nat) (l4 : Int32) (rec5 : Int32 → GF) (rec8 : Int32 → GF) : Int32 → GF := fun (l7 : Int32) =>
  invP (some (a1, 25)) (g_X6_panel a1 l4) fun p9 =>
  invI (some (p9, 8)) (s_size p9) fun x10 =>
  if l7 < x10 then
    getP 25 a1 18 fun p11 =>
    getP 26 p11 4 fun p12 =>
    aaldG 6 p12 l4 fun x13 =>
    aaldG 5 x13 l7 fun x14 =>
    if x14 = 0 then
      newaG 1 4 4 fun p15 =>
      iastG p15 0 2 <|
      iastG p15 1 22 <|
      iastG p15 2 l4 <|
      iastG p15 3 l7 <|
      invV (some (a0, 20)) (g_X1_refuses a0 p15) <|
      rec8 (l7 + 1)
    else
      rec8 (l7 + 1)
  else
    rec5 (l4 + 1)
def b_X1_requireReady_78 (a0 : Nat) (a1 : Nat) (rec5 : Int32 → GF) : Int32 → GF := fun (l4 : Int32) =>
  getI 25 a1 2 fun x6 =>
  if l4 < x6 then
    loopG (b_X1_requireReady_88 a0 a1 l4 rec5) 26 0
  else
    retG rV
def b_X1_requireReady_33 (a0 : Nat) (a1 : Nat) (J16 : Unit → GF) (rec18 : Int32 → GF) : Int32 → GF := fun (l17 : Int32) =>
  getI 25 a1 2 fun x19 =>
  if l17 < x19 then
    invP (some (a1, 25)) (g_X6_panel a1 l17) fun p20 =>
    invI (some (p20, 8)) (s_isEmpty p20) fun x21 =>
    if x21 = 0 then
      rec18 (l17 + 1)
    else
      newaG 1 2 2 fun p22 =>
      iastG p22 0 2 <|
      iastG p22 1 21 <|
      invV (some (a0, 20)) (g_X1_refuses a0 p22) <|
      rec18 (l17 + 1)
  else
    J16 ()
def g_X1_requireReady (a0 : Nat) (a1 : Nat) : GF :=
  getP 25 a1 18 fun p1 =>
  getP 26 p1 2 fun p2 =>
  invI (some (p2, 8)) (s_isEmpty p2) fun x3 =>
  jnG (fun (_ : Unit) =>
    jnG (fun (_ : Unit) =>
      loopG (b_X1_requireReady_78 a0 a1) 26 0) fun J16 =>
    loopG (b_X1_requireReady_33 a0 a1 J16) 26 0) fun J23 =>
  if x3 = 0 then
    J23 ()
  else
    newaG 1 2 2 fun p24 =>
    iastG p24 0 2 <|
    iastG p24 1 21 <|
    invV (some (a0, 20)) (g_X1_refuses a0 p24) <|
    J23 ()
abbrev md_X1_requireReady : MD := (yX1_requireReady, cX1_requireReady, 4, none, RX1, 17, 19684, 1176768)
theorem hm_X1_requireReady : (md_X1_requireReady).y.cls ≠ "java/lang/invoke/MethodHandle" ∧ (md_X1_requireReady).y.cls ≠ "java/lang/invoke/VarHandle" ∧ (parseMethodDescriptor (md_X1_requireReady).y.desc).map (fun d => d.parameters.length) = some 1 := by decide +kernel
theorem m_X1_requireReady (a0 : Nat) (a1 : Nat) : CMF md_X1_requireReady [cR a0, cR a1] (g_X1_requireReady a0 a1) := by
  refine cm_of (by decide +kernel) rfl (Nat.le_of_ble_eq_true rfl) ?_
  show CWF _ 19684 1176768 0 [(0, cR a0), (1, cR a1)] [] _
  unfold g_X1_requireReady
  refine cw_aload_n dX1_requireReady_0 rfl 1 rfl ?_
  refine cw_getP (ci := 5) (j := 18) (C := RX6) (T := TX6) (N := 19) rfl (by decide) rfl rfl (Or.inr ⟨_, q1119⟩) fSame_rfl dX1_requireReady_1 (fun p1 => ?_)
  refine cw_getP (ci := 6) (j := 2) (C := RX7) (T := TX7) (N := 5) rfl (by decide) rfl rfl (Or.inr ⟨_, q1068⟩) fSame_rfl dX1_requireReady_4 (fun p2 => ?_)
  refine cw_invI (d2 := md_J2_isEmpty) (c := 19684) (q := 1176768) (as := [cR p2]) (mc := 0) (ms := 0) rfl rfl (okF (x := ⟨"java/util/List", "isEmpty", "()Z"⟩) (ci := 14) (C := RJ2) (T0 := TJ2) (N := 3) (n := 0) rfl (Or.inr ⟨rfl, rfl⟩) rfl dX1_requireReady_7 (lw_F q735 q333 q331 q114 q335) (List.mem_iff_getElem?.mpr ⟨5, rfl⟩) (show ("java/util/List" : String) ≠ _ ∧ ("java/util/List" : String) ≠ _ ∧ (parseMethodDescriptor (md_J2_isEmpty).y.desc).map (fun d => d.parameters.length) = some 0 from ⟨by decide, by decide, (hm_J2_isEmpty).2.2⟩) (by decide) (by decide) (Nat.le_of_ble_eq_true rfl)) (c_isEmpty p2) rfl (fun x3 => ?_)
  refine cw_jn (cj := 19656) (kj := 1175096) (pcj := 31) (lsf := fun (s : Unit) => [(0, cR a0), (1, cR a1)]) (stf := fun (s : Unit) => []) (fun s => ?_) (fun J23 hJ23 => ?_)
  · show CWF _ _ _ 31 [(0, cR a0), (1, cR a1)] [] _
    refine cw_iconst (v := 0) dX1_requireReady_31 (by decide) ?_
    refine cw_istore_n (ls' := [(2, cI 0), (0, cR a0), (1, cR a1)]) dX1_requireReady_32 rfl (by decide) rfl ?_
    refine cw_jn (cj := 18928) (kj := 1131624) (pcj := 76) (lsf := fun (s : Unit) => [(0, cR a0), (1, cR a1)]) (stf := fun (s : Unit) => []) (fun s => ?_) (fun J16 hJ16 => ?_)
    · show CWF _ _ _ 76 [(0, cR a0), (1, cR a1)] [] _
      refine cw_iconst (v := 0) dX1_requireReady_76 (by decide) ?_
      refine cw_istore_n (ls' := [(2, cI 0), (0, cR a0), (1, cR a1)]) dX1_requireReady_77 rfl (by decide) rfl ?_
      refine cw_sub (ls' := [(0, cR a0), (1, cR a1), (2, cI 0)]) [1, 2, 0] rfl ?_
      refine cw_weak (c' := 0 + 26 * 728) (q' := 0 + 26 * 43524) (by omega) (by omega) ?_
      refine cw_loop (ce := 0) (ke := 0) (cb := 728) (kb := 43524) (lsf := fun (s : Int32) => [(0, cR a0), (1, cR a1), (2, cI s)]) (fun Crec5 Krec5 rec5 hCrec5 hKrec5 hrec5 s => ?_) 26 0
      obtain ⟨l4, e⟩ : ∃ z, z = s := ⟨_, rfl⟩
      subst e
      show CWF _ _ _ 78 [(0, cR a0), (1, cR a1), (2, cI l4)] [] _
      dsimp only [b_X1_requireReady_78]
      refine cw_iload_n dX1_requireReady_78 rfl 2 rfl ?_
      refine cw_aload_n dX1_requireReady_79 rfl 1 rfl ?_
      refine cw_getI (ci := 5) (j := 2) (C := RX6) (T := TX6) (N := 19) rfl (by decide) rfl rfl (Or.inr ⟨_, q1090⟩) fSame_rfl dX1_requireReady_80 (fun x6 => ?_)
      refine cw_icmp_ge (tgt := 152) dX1_requireReady_83 (by decide) ?_ ?_
      · refine cw_weak (c' := Crec5 + 0) (q' := Krec5 + 0) (by omega) (by omega) ?_
        exact cw_vret rfl dX1_requireReady_152
      · refine cw_iconst (v := 0) dX1_requireReady_86 (by decide) ?_
        refine cw_istore_n (ls' := [(3, cI 0), (0, cR a0), (1, cR a1), (2, cI l4)]) dX1_requireReady_87 rfl (by decide) rfl ?_
        refine cw_sub (ls' := [(0, cR a0), (1, cR a1), (2, cI l4), (3, cI 0)]) [1, 2, 3, 0] rfl ?_
        refine cw_weak (c' := Crec5 + 0 + 26 * 28) (q' := Krec5 + 0 + 26 * 1674) (by omega) (by omega) ?_
        refine cw_loop (ce := Crec5 + 0) (ke := Krec5 + 0) (cb := 28) (kb := 1674) (lsf := fun (s : Int32) => [(0, cR a0), (1, cR a1), (2, cI l4), (3, cI s)]) (fun Crec8 Krec8 rec8 hCrec8 hKrec8 hrec8 s => ?_) 26 0
        obtain ⟨l7, e⟩ : ∃ z, z = s := ⟨_, rfl⟩
        subst e
        show CWF _ _ _ 88 [(0, cR a0), (1, cR a1), (2, cI l4), (3, cI l7)] [] _
        dsimp only [b_X1_requireReady_88]
        refine cw_iload_n dX1_requireReady_88 rfl 3 rfl ?_
        refine cw_aload_n dX1_requireReady_89 rfl 1 rfl ?_
        refine cw_iload_n dX1_requireReady_90 rfl 2 rfl ?_
        refine cw_invP (d2 := md_X6_panel) (c := Crec8 + 28) (q := Krec8 + 1674) (as := [cR a1, cI l4]) (mc := 0) (ms := 0) rfl rfl (okV (ci := 5) (C := RX6) (T0 := TX6) (N := 19) (n := 1) rfl rfl rfl dX1_requireReady_91 (lw_V q1375 q555 q556 q137 q557) ⟨rfl, hm_X6_panel⟩ (by decide) (by decide) (Nat.le_of_ble_eq_true rfl)) (m_X6_panel a1 l4) rfl (fun p9 => ?_)
        refine cw_invI (d2 := md_J2_size) (c := Crec8 + 28) (q := Krec8 + 1674) (as := [cR p9]) (mc := 0) (ms := 0) rfl rfl (okF (x := ⟨"java/util/List", "size", "()I"⟩) (ci := 14) (C := RJ2) (T0 := TJ2) (N := 3) (n := 0) rfl (Or.inr ⟨rfl, rfl⟩) rfl dX1_requireReady_94 (lw_F q246 q251 q249 q114 q253) (List.mem_iff_getElem?.mpr ⟨1, rfl⟩) (show ("java/util/List" : String) ≠ _ ∧ ("java/util/List" : String) ≠ _ ∧ (parseMethodDescriptor (md_J2_size).y.desc).map (fun d => d.parameters.length) = some 0 from ⟨by decide, by decide, (hm_J2_size).2.2⟩) (by decide) (by decide) (Nat.le_of_ble_eq_true rfl)) (c_size p9) rfl (fun x10 => ?_)
        refine cw_icmp_ge (tgt := 146) dX1_requireReady_99 (by decide) ?_ ?_
        · refine cw_weak (c' := Crec8 + 0) (q' := Krec8 + 0) (by omega) (by omega) ?_
          refine cw_iinc (v := (l4 + 1)) (ls' := [(2, cI (l4 + 1)), (0, cR a0), (1, cR a1), (3, cI l7)]) dX1_requireReady_146 2 rfl rfl (by decide) rfl ?_
          refine cw_goto (tgt := 78) dX1_requireReady_149 (by decide) ?_
          refine cw_weak (c' := Crec5 + 0) (q' := Krec5 + 0) (by omega) (by omega) ?_
          refine cw_sub (ls' := [(0, cR a0), (1, cR a1), (2, cI (l4 + 1))]) [1, 2, 0] rfl ?_
          exact hrec5 (l4 + 1)
        · refine cw_aload_n dX1_requireReady_102 rfl 1 rfl ?_
          refine cw_getP (ci := 5) (j := 18) (C := RX6) (T := TX6) (N := 19) rfl (by decide) rfl rfl (Or.inr ⟨_, q1119⟩) fSame_rfl dX1_requireReady_103 (fun p11 => ?_)
          refine cw_getP (ci := 6) (j := 4) (C := RX7) (T := TX7) (N := 5) rfl (by decide) rfl rfl (Or.inr ⟨_, q1073⟩) fSame_rfl dX1_requireReady_106 (fun p12 => ?_)
          refine cw_iload_n dX1_requireReady_109 rfl 2 rfl ?_
          refine cw_aald (t := 6) (by decide) dX1_requireReady_110 (fun x13 => ?_)
          refine cw_iload_n dX1_requireReady_111 rfl 3 rfl ?_
          refine cw_aald (t := 5) (by decide) dX1_requireReady_112 (fun x14 => ?_)
          refine cw_ifnonnull (tgt := 140) dX1_requireReady_113 (by decide) ?_ ?_
          · refine cw_weak (c' := Crec8 + 0) (q' := Krec8 + 0) (by omega) (by omega) ?_
            refine cw_iinc (v := (l7 + 1)) (ls' := [(3, cI (l7 + 1)), (0, cR a0), (1, cR a1), (2, cI l4)]) dX1_requireReady_140 3 rfl rfl (by decide) rfl ?_
            refine cw_goto (tgt := 88) dX1_requireReady_143 (by decide) ?_
            refine cw_sub (ls' := [(0, cR a0), (1, cR a1), (2, cI l4), (3, cI (l7 + 1))]) [1, 2, 3, 0] rfl ?_
            exact hrec8 (l7 + 1)
          · refine cw_aload_n dX1_requireReady_116 rfl 0 rfl ?_
            refine cw_iconst (v := 4) dX1_requireReady_117 (by decide) ?_
            refine cw_newarr (c := Crec8 + 27) (q := Krec8 + 1670) (B := 4) (t := 1) (Or.inl ⟨rfl, rfl⟩) (by decide) q240 dX1_requireReady_118 (fun p15 => ?_)
            refine cw_dup dX1_requireReady_120 rfl ?_
            refine cw_iconst (v := 0) dX1_requireReady_121 (by decide) ?_
            refine cw_iconst (v := 2) dX1_requireReady_122 (by decide) ?_
            refine cw_iast dX1_requireReady_123 ?_
            refine cw_dup dX1_requireReady_124 rfl ?_
            refine cw_iconst (v := 1) dX1_requireReady_125 (by decide) ?_
            refine cw_bipush (v := 22) dX1_requireReady_126 (by decide) ?_
            refine cw_iast dX1_requireReady_128 ?_
            refine cw_dup dX1_requireReady_129 rfl ?_
            refine cw_iconst (v := 2) dX1_requireReady_130 (by decide) ?_
            refine cw_iload_n dX1_requireReady_131 rfl 2 rfl ?_
            refine cw_iast dX1_requireReady_132 ?_
            refine cw_dup dX1_requireReady_133 rfl ?_
            refine cw_iconst (v := 3) dX1_requireReady_134 (by decide) ?_
            refine cw_iload_n dX1_requireReady_135 rfl 3 rfl ?_
            refine cw_iast dX1_requireReady_136 ?_
            refine cw_invV (d2 := md_X1_refuses) (c := Crec8 + 0) (q := Krec8 + 0) (as := [cR a0, cR p15]) (mc := 27) (ms := 1670) rfl rfl (okV (ci := 0) (C := RX1) (T0 := TX1) (N := 11) (n := 1) rfl rfl rfl dX1_requireReady_137 (lw_V q1221 q1223 qs12 q111 q1224) ⟨rfl, hm_X1_refuses⟩ (by decide) (by decide) (Nat.le_of_ble_eq_true rfl)) (m_X1_refuses a0 p15) rfl ?_
            refine cw_iinc (v := (l7 + 1)) (ls' := [(3, cI (l7 + 1)), (0, cR a0), (1, cR a1), (2, cI l4)]) dX1_requireReady_140 3 rfl rfl (by decide) rfl ?_
            refine cw_goto (tgt := 88) dX1_requireReady_143 (by decide) ?_
            refine cw_sub (ls' := [(0, cR a0), (1, cR a1), (2, cI l4), (3, cI (l7 + 1))]) [1, 2, 3, 0] rfl ?_
            exact hrec8 (l7 + 1)
    · refine cw_sub (ls' := [(0, cR a0), (1, cR a1), (2, cI 0)]) [1, 2, 0] rfl ?_
      refine cw_weak (c' := 18928 + 26 * 28) (q' := 1131624 + 26 * 1672) (by omega) (by omega) ?_
      refine cw_loop (ce := 18928) (ke := 1131624) (cb := 28) (kb := 1672) (lsf := fun (s : Int32) => [(0, cR a0), (1, cR a1), (2, cI s)]) (fun Crec18 Krec18 rec18 hCrec18 hKrec18 hrec18 s => ?_) 26 0
      obtain ⟨l17, e⟩ : ∃ z, z = s := ⟨_, rfl⟩
      subst e
      show CWF _ _ _ 33 [(0, cR a0), (1, cR a1), (2, cI l17)] [] _
      dsimp only [b_X1_requireReady_33]
      refine cw_iload_n dX1_requireReady_33 rfl 2 rfl ?_
      refine cw_aload_n dX1_requireReady_34 rfl 1 rfl ?_
      refine cw_getI (ci := 5) (j := 2) (C := RX6) (T := TX6) (N := 19) rfl (by decide) rfl rfl (Or.inr ⟨_, q1090⟩) fSame_rfl dX1_requireReady_35 (fun x19 => ?_)
      refine cw_icmp_ge (tgt := 76) dX1_requireReady_38 (by decide) ?_ ?_
      · refine cw_weak (c' := Crec18 + 0) (q' := Krec18 + 0) (by omega) (by omega) ?_
        refine cw_weak (c' := 18928) (q' := 1131624) (by omega) (by omega) ?_
        refine cw_sub (ls' := [(0, cR a0), (1, cR a1)]) [0, 1] rfl ?_
        exact hJ16 ()
      · refine cw_aload_n dX1_requireReady_41 rfl 1 rfl ?_
        refine cw_iload_n dX1_requireReady_42 rfl 2 rfl ?_
        refine cw_invP (d2 := md_X6_panel) (c := Crec18 + 28) (q := Krec18 + 1672) (as := [cR a1, cI l17]) (mc := 0) (ms := 0) rfl rfl (okV (ci := 5) (C := RX6) (T0 := TX6) (N := 19) (n := 1) rfl rfl rfl dX1_requireReady_43 (lw_V q1375 q555 q556 q137 q557) ⟨rfl, hm_X6_panel⟩ (by decide) (by decide) (Nat.le_of_ble_eq_true rfl)) (m_X6_panel a1 l17) rfl (fun p20 => ?_)
        refine cw_invI (d2 := md_J2_isEmpty) (c := Crec18 + 28) (q := Krec18 + 1672) (as := [cR p20]) (mc := 0) (ms := 0) rfl rfl (okF (x := ⟨"java/util/List", "isEmpty", "()Z"⟩) (ci := 14) (C := RJ2) (T0 := TJ2) (N := 3) (n := 0) rfl (Or.inr ⟨rfl, rfl⟩) rfl dX1_requireReady_46 (lw_F q735 q333 q331 q114 q335) (List.mem_iff_getElem?.mpr ⟨5, rfl⟩) (show ("java/util/List" : String) ≠ _ ∧ ("java/util/List" : String) ≠ _ ∧ (parseMethodDescriptor (md_J2_isEmpty).y.desc).map (fun d => d.parameters.length) = some 0 from ⟨by decide, by decide, (hm_J2_isEmpty).2.2⟩) (by decide) (by decide) (Nat.le_of_ble_eq_true rfl)) (c_isEmpty p20) rfl (fun x21 => ?_)
        refine cw_if_eq (tgt := 70) dX1_requireReady_51 (by decide) ?_ ?_
        · refine cw_weak (c' := Crec18 + 0) (q' := Krec18 + 0) (by omega) (by omega) ?_
          refine cw_iinc (v := (l17 + 1)) (ls' := [(2, cI (l17 + 1)), (0, cR a0), (1, cR a1)]) dX1_requireReady_70 2 rfl rfl (by decide) rfl ?_
          refine cw_goto (tgt := 33) dX1_requireReady_73 (by decide) ?_
          refine cw_sub (ls' := [(0, cR a0), (1, cR a1), (2, cI (l17 + 1))]) [1, 2, 0] rfl ?_
          exact hrec18 (l17 + 1)
        · refine cw_aload_n dX1_requireReady_54 rfl 0 rfl ?_
          refine cw_iconst (v := 2) dX1_requireReady_55 (by decide) ?_
          refine cw_newarr (c := Crec18 + 27) (q := Krec18 + 1670) (B := 2) (t := 1) (Or.inl ⟨rfl, rfl⟩) (by decide) q240 dX1_requireReady_56 (fun p22 => ?_)
          refine cw_dup dX1_requireReady_58 rfl ?_
          refine cw_iconst (v := 0) dX1_requireReady_59 (by decide) ?_
          refine cw_iconst (v := 2) dX1_requireReady_60 (by decide) ?_
          refine cw_iast dX1_requireReady_61 ?_
          refine cw_dup dX1_requireReady_62 rfl ?_
          refine cw_iconst (v := 1) dX1_requireReady_63 (by decide) ?_
          refine cw_bipush (v := 21) dX1_requireReady_64 (by decide) ?_
          refine cw_iast dX1_requireReady_66 ?_
          refine cw_invV (d2 := md_X1_refuses) (c := Crec18 + 0) (q := Krec18 + 0) (as := [cR a0, cR p22]) (mc := 27) (ms := 1670) rfl rfl (okV (ci := 0) (C := RX1) (T0 := TX1) (N := 11) (n := 1) rfl rfl rfl dX1_requireReady_67 (lw_V q1221 q1223 qs12 q111 q1224) ⟨rfl, hm_X1_refuses⟩ (by decide) (by decide) (Nat.le_of_ble_eq_true rfl)) (m_X1_refuses a0 p22) rfl ?_
          refine cw_iinc (v := (l17 + 1)) (ls' := [(2, cI (l17 + 1)), (0, cR a0), (1, cR a1)]) dX1_requireReady_70 2 rfl rfl (by decide) rfl ?_
          refine cw_goto (tgt := 33) dX1_requireReady_73 (by decide) ?_
          refine cw_sub (ls' := [(0, cR a0), (1, cR a1), (2, cI (l17 + 1))]) [1, 2, 0] rfl ?_
          exact hrec18 (l17 + 1)
  · refine cw_if_eq (tgt := 31) dX1_requireReady_12 (by decide) ?_ ?_
    · refine cw_weak (c' := 19656) (q' := 1175096) (by omega) (by omega) ?_
      exact hJ23 ()
    · refine cw_aload_n dX1_requireReady_15 rfl 0 rfl ?_
      refine cw_iconst (v := 2) dX1_requireReady_16 (by decide) ?_
      refine cw_newarr (c := 19683) (q := 1176766) (B := 2) (t := 1) (Or.inl ⟨rfl, rfl⟩) (by decide) q240 dX1_requireReady_17 (fun p24 => ?_)
      refine cw_dup dX1_requireReady_19 rfl ?_
      refine cw_iconst (v := 0) dX1_requireReady_20 (by decide) ?_
      refine cw_iconst (v := 2) dX1_requireReady_21 (by decide) ?_
      refine cw_iast dX1_requireReady_22 ?_
      refine cw_dup dX1_requireReady_23 rfl ?_
      refine cw_iconst (v := 1) dX1_requireReady_24 (by decide) ?_
      refine cw_bipush (v := 21) dX1_requireReady_25 (by decide) ?_
      refine cw_iast dX1_requireReady_27 ?_
      refine cw_invV (d2 := md_X1_refuses) (c := 19656) (q := 1175096) (as := [cR a0, cR p24]) (mc := 27) (ms := 1670) rfl rfl (okV (ci := 0) (C := RX1) (T0 := TX1) (N := 11) (n := 1) rfl rfl rfl dX1_requireReady_28 (lw_V q1221 q1223 qs12 q111 q1224) ⟨rfl, hm_X1_refuses⟩ (by decide) (by decide) (Nat.le_of_ble_eq_true rfl)) (m_X1_refuses a0 p24) rfl ?_
      exact hJ23 ()
def b_X6_first_2 (a0 : Nat) (a1 : Int32) (a2 : Nat) (rec2 : Int32 → GF) : Int32 → GF := fun (l1 : Int32) =>
  invI (some (a0, 25)) (g_X6_count a0 a1 a2 l1) fun x3 =>
  invP (some (a0, 25)) (g_X6_panel a0 a1) fun p4 =>
  invI (some (p4, 8)) (s_size p4) fun x5 =>
  if (2 * x3) ≤ x5 then
    rec2 (l1 + 1)
  else
    retG (rI l1)
def g_X6_first (a0 : Nat) (a1 : Int32) (a2 : Nat) : GF :=
  loopG (b_X6_first_2 a0 a1 a2) FU 1
abbrev md_X6_first : MD := (yX6_first, cX6_first, 4, (some (Jvm.ClassFile.FieldType.int)), RX6, 17, 0, 0)
theorem hm_X6_first : (md_X6_first).y.cls ≠ "java/lang/invoke/MethodHandle" ∧ (md_X6_first).y.cls ≠ "java/lang/invoke/VarHandle" ∧ (parseMethodDescriptor (md_X6_first).y.desc).map (fun d => d.parameters.length) = some 2 := by decide +kernel
theorem m_X6_first (a0 : Nat) (a1 : Int32) (a2 : Nat) : CMF md_X6_first [cR a0, cI a1, cR a2] (g_X6_first a0 a1 a2) := by
  refine cm_of (by decide +kernel) rfl (Nat.le_of_ble_eq_true rfl) ?_
  show CWF _ 0 0 0 [(0, cR a0), (1, cI a1), (2, cR a2)] [] _
  unfold g_X6_first
  refine cw_iconst (v := 1) dX6_first_0 (by decide) ?_
  refine cw_istore_n (ls' := [(3, cI 1), (0, cR a0), (1, cI a1), (2, cR a2)]) dX6_first_1 rfl (by decide) rfl ?_
  refine cw_sub (ls' := [(0, cR a0), (1, cI a1), (2, cR a2), (3, cI 1)]) [1, 2, 3, 0] rfl ?_
  refine cw_loop0 (lsf := fun (s : Int32) => [(0, cR a0), (1, cI a1), (2, cR a2), (3, cI s)]) (fun rec2 hrec2 s => ?_) FU 1
  obtain ⟨l1, e⟩ : ∃ z, z = s := ⟨_, rfl⟩
  subst e
  show CWF _ _ _ 2 [(0, cR a0), (1, cI a1), (2, cR a2), (3, cI l1)] [] _
  dsimp only [b_X6_first_2]
  refine cw_iconst (v := 2) dX6_first_2 (by decide) ?_
  refine cw_aload_n dX6_first_3 rfl 0 rfl ?_
  refine cw_iload_n dX6_first_4 rfl 1 rfl ?_
  refine cw_aload_n dX6_first_5 rfl 2 rfl ?_
  refine cw_iload_n dX6_first_6 rfl 3 rfl ?_
  refine cw_invI (d2 := md_X6_count) (c := 0) (q := 0) (as := [cR a0, cI a1, cR a2, cI l1]) (mc := 0) (ms := 0) rfl rfl (okV (ci := 5) (C := RX6) (T0 := TX6) (N := 19) (n := 3) rfl rfl rfl dX6_first_7 (lw_V q550 q551 q552 q137 q553) ⟨rfl, hm_X6_count⟩ (by decide) (by decide) (Nat.le_of_ble_eq_true rfl)) (m_X6_count a0 a1 a2 l1) rfl (fun x3 => ?_)
  refine cw_imul dX6_first_10 ?_
  refine cw_aload_n dX6_first_11 rfl 0 rfl ?_
  refine cw_iload_n dX6_first_12 rfl 1 rfl ?_
  refine cw_invP (d2 := md_X6_panel) (c := 0) (q := 0) (as := [cR a0, cI a1]) (mc := 0) (ms := 0) rfl rfl (okV (ci := 5) (C := RX6) (T0 := TX6) (N := 19) (n := 1) rfl rfl rfl dX6_first_13 (lw_V q554 q555 q556 q137 q557) ⟨rfl, hm_X6_panel⟩ (by decide) (by decide) (Nat.le_of_ble_eq_true rfl)) (m_X6_panel a0 a1) rfl (fun p4 => ?_)
  refine cw_invI (d2 := md_J2_size) (c := 0) (q := 0) (as := [cR p4]) (mc := 0) (ms := 0) rfl rfl (okF (x := ⟨"java/util/List", "size", "()I"⟩) (ci := 14) (C := RJ2) (T0 := TJ2) (N := 3) (n := 0) rfl (Or.inr ⟨rfl, rfl⟩) rfl dX6_first_16 (lw_F q545 q251 q249 q114 q253) (List.mem_iff_getElem?.mpr ⟨1, rfl⟩) (show ("java/util/List" : String) ≠ _ ∧ ("java/util/List" : String) ≠ _ ∧ (parseMethodDescriptor (md_J2_size).y.desc).map (fun d => d.parameters.length) = some 0 from ⟨by decide, by decide, (hm_J2_size).2.2⟩) (by decide) (by decide) (Nat.le_of_ble_eq_true rfl)) (c_size p4) rfl (fun x5 => ?_)
  refine cw_icmp_gt (tgt := 30) dX6_first_21 (by decide) ?_ ?_
  · refine cw_iload_n dX6_first_30 rfl 3 rfl ?_
    exact cw_iret rfl dX6_first_31
  · refine cw_iinc (v := (l1 + 1)) (ls' := [(3, cI (l1 + 1)), (0, cR a0), (1, cI a1), (2, cR a2)]) dX6_first_24 3 rfl rfl (by decide) rfl ?_
    refine cw_goto (tgt := 2) dX6_first_27 (by decide) ?_
    refine cw_sub (ls' := [(0, cR a0), (1, cI a1), (2, cR a2), (3, cI (l1 + 1))]) [1, 2, 3, 0] rfl ?_
    exact hrec2 (l1 + 1)
def g_X12_init (a0 : Nat) (a1 : Int32) (a2 : Int32) : GF :=
  invV (some (a0, 31)) (g_J17_init a0) <|
  putI 31 a0 0 a1 <|
  putI 31 a0 1 a2 <|
  retG rV
abbrev md_X12_init : MD := (yX12_init, cX12_init, 3, none, RX12, 11, 0, 0)
theorem hm_X12_init : (md_X12_init).y.cls ≠ "java/lang/invoke/MethodHandle" ∧ (md_X12_init).y.cls ≠ "java/lang/invoke/VarHandle" ∧ (parseMethodDescriptor (md_X12_init).y.desc).map (fun d => d.parameters.length) = some 2 := by decide +kernel
theorem m_X12_init (a0 : Nat) (a1 : Int32) (a2 : Int32) : CMF md_X12_init [cR a0, cI a1, cI a2] (g_X12_init a0 a1 a2) := by
  refine cm_of (by decide +kernel) rfl (Nat.le_of_ble_eq_true rfl) ?_
  show CWF _ 0 0 0 [(0, cR a0), (1, cI a1), (2, cI a2)] [] _
  unfold g_X12_init
  refine cw_aload_n dX12_init_0 rfl 0 rfl ?_
  refine cw_invV (d2 := md_J17_init) (c := 0) (q := 0) (as := [cR a0]) (mc := 0) (ms := 0) rfl rfl (okI (n := 0) rfl rfl dX12_init_1 (lw_meth q927) q132 q1734 q926 rfl hm_J17_init (by decide) (by decide) (Nat.le_of_ble_eq_true rfl) (by decide)) (m_J17_init a0) rfl ?_
  refine cw_aload_n dX12_init_4 rfl 0 rfl ?_
  refine cw_iload_n dX12_init_5 rfl 1 rfl ?_
  refine cw_putI (ci := 11) (j := 0) (C := RX12) (T := TX12) (N := 2) rfl (by decide) rfl rfl (Or.inl q1735) fSame_rfl (Or.inr ⟨rfl, rfl, rfl⟩) dX12_init_6 ?_
  refine cw_aload_n dX12_init_9 rfl 0 rfl ?_
  refine cw_iload_n dX12_init_10 rfl 2 rfl ?_
  refine cw_putI (ci := 11) (j := 1) (C := RX12) (T := TX12) (N := 2) rfl (by decide) rfl rfl (Or.inl q1736) fSame_rfl (Or.inr ⟨rfl, rfl, rfl⟩) dX12_init_11 ?_
  exact cw_vret rfl dX12_init_14
def b_X6_sum_6 (a0 : Nat) (a1 : Int32) (a2 : Nat) (a3 : Int32) (rec3 : (Int32 × Int32) → GF) : (Int32 × Int32) → GF := fun (s : Int32 × Int32) => match s with
  | (l1, l2) =>
    invP (some (a0, 25)) (g_X6_panel a0 a1) fun p4 =>
    invI (some (p4, 8)) (s_size p4) fun x5 =>
    if l2 < x5 then
      getP 25 a0 18 fun p6 =>
      invI (some (p6, 26)) (g_X7_place p6 a1 l2 a2) fun x7 =>
      jnG (fun (v8 : Int32) =>
        rec3 ((l1 + v8), (l2 + 1))) fun J9 =>
      if x7 ≤ a3 then
        J9 x7
      else
        J9 0
    else
      retG (rI l1)
def g_X6_sum (a0 : Nat) (a1 : Int32) (a2 : Nat) (a3 : Int32) : GF :=
  loopG (b_X6_sum_6 a0 a1 a2 a3) FU (0, 0)
abbrev md_X6_sum : MD := (yX6_sum, cX6_sum, 7, (some (Jvm.ClassFile.FieldType.int)), RX6, 16, 0, 0)
theorem hm_X6_sum : (md_X6_sum).y.cls ≠ "java/lang/invoke/MethodHandle" ∧ (md_X6_sum).y.cls ≠ "java/lang/invoke/VarHandle" ∧ (parseMethodDescriptor (md_X6_sum).y.desc).map (fun d => d.parameters.length) = some 3 := by decide +kernel
theorem m_X6_sum (a0 : Nat) (a1 : Int32) (a2 : Nat) (a3 : Int32) : CMF md_X6_sum [cR a0, cI a1, cR a2, cI a3] (g_X6_sum a0 a1 a2 a3) := by
  refine cm_of (by decide +kernel) rfl (Nat.le_of_ble_eq_true rfl) ?_
  show CWF _ 0 0 0 [(0, cR a0), (1, cI a1), (2, cR a2), (3, cI a3)] [] _
  unfold g_X6_sum
  refine cw_iconst (v := 0) dX6_sum_0 (by decide) ?_
  refine cw_istore (ls' := [(4, cI 0), (0, cR a0), (1, cI a1), (2, cR a2), (3, cI a3)]) dX6_sum_1 (by decide) rfl ?_
  refine cw_iconst (v := 0) dX6_sum_3 (by decide) ?_
  refine cw_istore (ls' := [(5, cI 0), (4, cI 0), (0, cR a0), (1, cI a1), (2, cR a2), (3, cI a3)]) dX6_sum_4 (by decide) rfl ?_
  refine cw_sub (ls' := [(0, cR a0), (1, cI a1), (2, cR a2), (3, cI a3), (4, cI 0), (5, cI 0)]) [2, 3, 4, 5, 1, 0] rfl ?_
  refine cw_loop0 (lsf := fun (s : Int32 × Int32) => [(0, cR a0), (1, cI a1), (2, cR a2), (3, cI a3), (4, cI s.1), (5, cI s.2)]) (fun rec3 hrec3 s => ?_) FU (0, 0)
  obtain ⟨l1, l2⟩ := s
  show CWF _ _ _ 6 [(0, cR a0), (1, cI a1), (2, cR a2), (3, cI a3), (4, cI l1), (5, cI l2)] [] _
  dsimp only [b_X6_sum_6]
  refine cw_iload dX6_sum_6 5 rfl ?_
  refine cw_aload_n dX6_sum_8 rfl 0 rfl ?_
  refine cw_iload_n dX6_sum_9 rfl 1 rfl ?_
  refine cw_invP (d2 := md_X6_panel) (c := 0) (q := 0) (as := [cR a0, cI a1]) (mc := 0) (ms := 0) rfl rfl (okV (ci := 5) (C := RX6) (T0 := TX6) (N := 19) (n := 1) rfl rfl rfl dX6_sum_10 (lw_V q554 q555 q556 q137 q557) ⟨rfl, hm_X6_panel⟩ (by decide) (by decide) (Nat.le_of_ble_eq_true rfl)) (m_X6_panel a0 a1) rfl (fun p4 => ?_)
  refine cw_invI (d2 := md_J2_size) (c := 0) (q := 0) (as := [cR p4]) (mc := 0) (ms := 0) rfl rfl (okF (x := ⟨"java/util/List", "size", "()I"⟩) (ci := 14) (C := RJ2) (T0 := TJ2) (N := 3) (n := 0) rfl (Or.inr ⟨rfl, rfl⟩) rfl dX6_sum_13 (lw_F q545 q251 q249 q114 q253) (List.mem_iff_getElem?.mpr ⟨1, rfl⟩) (show ("java/util/List" : String) ≠ _ ∧ ("java/util/List" : String) ≠ _ ∧ (parseMethodDescriptor (md_J2_size).y.desc).map (fun d => d.parameters.length) = some 0 from ⟨by decide, by decide, (hm_J2_size).2.2⟩) (by decide) (by decide) (Nat.le_of_ble_eq_true rfl)) (c_size p4) rfl (fun x5 => ?_)
  refine cw_icmp_ge (tgt := 57) dX6_sum_18 (by decide) ?_ ?_
  · refine cw_iload dX6_sum_57 4 rfl ?_
    exact cw_iret rfl dX6_sum_59
  · refine cw_aload_n dX6_sum_21 rfl 0 rfl ?_
    refine cw_getP (ci := 5) (j := 18) (C := RX6) (T := TX6) (N := 19) rfl (by decide) rfl rfl (Or.inl q1118) fSame_rfl dX6_sum_22 (fun p6 => ?_)
    refine cw_iload_n dX6_sum_25 rfl 1 rfl ?_
    refine cw_iload dX6_sum_26 5 rfl ?_
    refine cw_aload_n dX6_sum_28 rfl 2 rfl ?_
    refine cw_invI (d2 := md_X7_place) (c := 0) (q := 0) (as := [cR p6, cI a1, cI l2, cR a2]) (mc := 0) (ms := 0) rfl rfl (okV (ci := 6) (C := RX7) (T0 := TX7) (N := 5) (n := 3) rfl rfl rfl dX6_sum_29 (lw_V q559 q560 q561 q138 q562) ⟨rfl, hm_X7_place⟩ (by decide) (by decide) (Nat.le_of_ble_eq_true rfl)) (m_X7_place p6 a1 l2 a2) rfl (fun x7 => ?_)
    refine cw_istore (ls' := [(6, cI x7), (0, cR a0), (1, cI a1), (2, cR a2), (3, cI a3), (4, cI l1), (5, cI l2)]) dX6_sum_32 (by decide) rfl ?_
    refine cw_iload dX6_sum_34 5 rfl ?_
    refine cw_iload dX6_sum_36 0 rfl ?_
    refine cw_iload_n dX6_sum_38 rfl 4 rfl ?_
    refine cw_jn (cj := 0) (kj := 0) (pcj := 48) (lsf := fun (s : Int32) => [(0, cR a0), (1, cI a1), (2, cR a2), (3, cI a3), (5, cI l2)]) (stf := fun (s : Int32) => [cI s, cI l1]) (fun s => ?_) (fun J9 hJ9 => ?_)
    · obtain ⟨v8, e⟩ : ∃ z, z = s := ⟨_, rfl⟩
      subst e
      show CWF _ _ _ 48 [(0, cR a0), (1, cI a1), (2, cR a2), (3, cI a3), (5, cI l2)] [cI v8, cI l1] _
      refine cw_iadd dX6_sum_48 ?_
      refine cw_istore (ls' := [(4, cI (l1 + v8)), (0, cR a0), (1, cI a1), (2, cR a2), (3, cI a3), (5, cI l2)]) dX6_sum_49 (by decide) rfl ?_
      refine cw_iinc (v := (l2 + 1)) (ls' := [(5, cI (l2 + 1)), (4, cI (l1 + v8)), (0, cR a0), (1, cI a1), (2, cR a2), (3, cI a3)]) dX6_sum_51 5 rfl rfl (by decide) rfl ?_
      refine cw_goto (tgt := 6) dX6_sum_54 (by decide) ?_
      refine cw_sub (ls' := [(0, cR a0), (1, cI a1), (2, cR a2), (3, cI a3), (4, cI (l1 + v8)), (5, cI (l2 + 1))]) [2, 3, 4, 5, 1, 0] rfl ?_
      exact hrec3 ((l1 + v8), (l2 + 1))
    · refine cw_icmp_gt (tgt := 47) dX6_sum_39 (by decide) ?_ ?_
      · refine cw_iconst (v := 0) dX6_sum_47 (by decide) ?_
        refine cw_sub (ls' := [(0, cR a0), (1, cI a1), (2, cR a2), (3, cI a3), (5, cI l2)]) [1, 2, 3, 4, 6] rfl ?_
        exact hJ9 0
      · refine cw_iload dX6_sum_42 0 rfl ?_
        refine cw_goto (tgt := 48) dX6_sum_44 (by decide) ?_
        refine cw_sub (ls' := [(0, cR a0), (1, cI a1), (2, cR a2), (3, cI a3), (5, cI l2)]) [1, 2, 3, 4, 6] rfl ?_
        exact hJ9 x7
def b_X6_duel_109 (a0 : Nat) (a1 : Int32) (a2 : Nat) (a3 : Nat) (J9 : Int32 → GF) (rec12 : (Int32 × Int32) → GF) : (Int32 × Int32) → GF := fun (s : Int32 × Int32) => match s with
  | (l10, l11) =>
    if l11 = 0 then
      getP 25 a0 18 fun p13 =>
      getP 26 p13 2 fun p14 =>
      invI (some (p14, 8)) (s_size p14) fun x15 =>
      if l10 < x15 then
        invI (some (a0, 25)) (g_X6_count a0 a1 a3 (l10 + 1)) fun x16 =>
        invI (some (a0, 25)) (g_X6_count a0 a1 a2 (l10 + 1)) fun x17 =>
        jnG (fun (v18 : Int32) =>
          rec12 ((l10 + 1), v18)) fun J19 =>
        if (x16 - x17) = 0 then
          invI (some (a0, 25)) (g_X6_sum a0 a1 a2 (l10 + 1)) fun x20 =>
          invI (some (a0, 25)) (g_X6_sum a0 a1 a3 (l10 + 1)) fun x21 =>
          J19 (x20 - x21)
        else
          J19 (x16 - x17)
      else
        J9 l11
    else
      J9 l11
def g_X6_duel (a0 : Nat) (a1 : Int32) (a2 : Nat) (a3 : Nat) : GF :=
  invI (some (a0, 25)) (g_X6_first a0 a1 a2) fun x1 =>
  invI (some (a0, 25)) (g_X6_first a0 a1 a3) fun x2 =>
  if x1 = x2 then
    invI (some (a0, 25)) (g_X6_count a0 a1 a3 x1) fun x3 =>
    invI (some (a0, 25)) (g_X6_count a0 a1 a2 x1) fun x4 =>
    if (x3 - x4) = 0 then
      invI (some (a0, 25)) (g_X6_sum a0 a1 a2 x1) fun x5 =>
      invI (some (a0, 25)) (g_X6_sum a0 a1 a3 x1) fun x6 =>
      if (x5 - x6) = 0 then
        jnG (fun (v7 : Int32) =>
          newG 31 fun p8 =>
          invV (some (p8, 31)) (g_X12_init p8 v7 8) <|
          retG (rR p8)) fun J9 =>
        loopG (b_X6_duel_109 a0 a1 a2 a3 J9) FU (x1, (x5 - x6))
      else
        newG 31 fun p22 =>
        invV (some (p22, 31)) (g_X12_init p22 (x5 - x6) 7) <|
        retG (rR p22)
    else
      newG 31 fun p23 =>
      invV (some (p23, 31)) (g_X12_init p23 (x3 - x4) 6) <|
      retG (rR p23)
  else
    newG 31 fun p24 =>
    invI (some (a0, 25)) (g_X6_first a0 a1 a3) fun x25 =>
    invV (some (p24, 31)) (g_X12_init p24 (x1 - x25) 5) <|
    retG (rR p24)
abbrev md_X6_duel : MD := (yX6_duel, cX6_duel, 6, (some ((Jvm.ClassFile.FieldType.object "Scrutineery$Duel"))), RX6, 18, 1, 2)
theorem hm_X6_duel : (md_X6_duel).y.cls ≠ "java/lang/invoke/MethodHandle" ∧ (md_X6_duel).y.cls ≠ "java/lang/invoke/VarHandle" ∧ (parseMethodDescriptor (md_X6_duel).y.desc).map (fun d => d.parameters.length) = some 3 := by decide +kernel
theorem m_X6_duel (a0 : Nat) (a1 : Int32) (a2 : Nat) (a3 : Nat) : CMF md_X6_duel [cR a0, cI a1, cR a2, cR a3] (g_X6_duel a0 a1 a2 a3) := by
  refine cm_of (by decide +kernel) rfl (Nat.le_of_ble_eq_true rfl) ?_
  show CWF _ 1 2 0 [(0, cR a0), (1, cI a1), (2, cR a2), (3, cR a3)] [] _
  unfold g_X6_duel
  refine cw_aload_n dX6_duel_0 rfl 0 rfl ?_
  refine cw_iload_n dX6_duel_1 rfl 1 rfl ?_
  refine cw_aload_n dX6_duel_2 rfl 2 rfl ?_
  refine cw_invI (d2 := md_X6_first) (c := 1) (q := 2) (as := [cR a0, cI a1, cR a2]) (mc := 0) (ms := 0) rfl rfl (okV (ci := 5) (C := RX6) (T0 := TX6) (N := 19) (n := 2) rfl rfl rfl dX6_duel_3 (lw_V q1725 q1726 q1727 q137 q1728) ⟨rfl, hm_X6_first⟩ (by decide) (by decide) (Nat.le_of_ble_eq_true rfl)) (m_X6_first a0 a1 a2) rfl (fun x1 => ?_)
  refine cw_istore (ls' := [(4, cI x1), (0, cR a0), (1, cI a1), (2, cR a2), (3, cR a3)]) dX6_duel_6 (by decide) rfl ?_
  refine cw_iload dX6_duel_8 0 rfl ?_
  refine cw_aload_n dX6_duel_10 rfl 1 rfl ?_
  refine cw_iload_n dX6_duel_11 rfl 2 rfl ?_
  refine cw_aload_n dX6_duel_12 rfl 4 rfl ?_
  refine cw_invI (d2 := md_X6_first) (c := 1) (q := 2) (as := [cR a0, cI a1, cR a3]) (mc := 0) (ms := 0) rfl rfl (okV (ci := 5) (C := RX6) (T0 := TX6) (N := 19) (n := 2) rfl rfl rfl dX6_duel_13 (lw_V q1725 q1726 q1727 q137 q1728) ⟨rfl, hm_X6_first⟩ (by decide) (by decide) (Nat.le_of_ble_eq_true rfl)) (m_X6_first a0 a1 a3) rfl (fun x2 => ?_)
  refine cw_icmp_eq (tgt := 37) dX6_duel_16 (by decide) ?_ ?_
  · refine cw_aload_n dX6_duel_37 rfl 1 rfl ?_
    refine cw_iload_n dX6_duel_38 rfl 2 rfl ?_
    refine cw_aload_n dX6_duel_39 rfl 4 rfl ?_
    refine cw_iload dX6_duel_40 0 rfl ?_
    refine cw_invI (d2 := md_X6_count) (c := 1) (q := 2) (as := [cR a0, cI a1, cR a3, cI x1]) (mc := 0) (ms := 0) rfl rfl (okV (ci := 5) (C := RX6) (T0 := TX6) (N := 19) (n := 3) rfl rfl rfl dX6_duel_42 (lw_V q550 q551 q552 q137 q553) ⟨rfl, hm_X6_count⟩ (by decide) (by decide) (Nat.le_of_ble_eq_true rfl)) (m_X6_count a0 a1 a3 x1) rfl (fun x3 => ?_)
    refine cw_aload_n dX6_duel_45 rfl 1 rfl ?_
    refine cw_iload_n dX6_duel_46 rfl 2 rfl ?_
    refine cw_aload_n dX6_duel_47 rfl 3 rfl ?_
    refine cw_iload dX6_duel_48 0 rfl ?_
    refine cw_invI (d2 := md_X6_count) (c := 1) (q := 2) (as := [cR a0, cI a1, cR a2, cI x1]) (mc := 0) (ms := 0) rfl rfl (okV (ci := 5) (C := RX6) (T0 := TX6) (N := 19) (n := 3) rfl rfl rfl dX6_duel_50 (lw_V q550 q551 q552 q137 q553) ⟨rfl, hm_X6_count⟩ (by decide) (by decide) (Nat.le_of_ble_eq_true rfl)) (m_X6_count a0 a1 a2 x1) rfl (fun x4 => ?_)
    refine cw_isub dX6_duel_53 ?_
    refine cw_istore (ls' := [(5, cI (x3 - x4)), (4, cI x1), (0, cR a0), (1, cI a1), (2, cR a2), (3, cR a3)]) dX6_duel_54 (by decide) rfl ?_
    refine cw_iload dX6_duel_56 0 rfl ?_
    refine cw_if_eq (tgt := 73) dX6_duel_58 (by decide) ?_ ?_
    · refine cw_aload_n dX6_duel_73 rfl 2 rfl ?_
      refine cw_iload_n dX6_duel_74 rfl 3 rfl ?_
      refine cw_aload_n dX6_duel_75 rfl 4 rfl ?_
      refine cw_iload dX6_duel_76 1 rfl ?_
      refine cw_invI (d2 := md_X6_sum) (c := 1) (q := 2) (as := [cR a0, cI a1, cR a2, cI x1]) (mc := 0) (ms := 0) rfl rfl (okV (ci := 5) (C := RX6) (T0 := TX6) (N := 19) (n := 3) rfl rfl rfl dX6_duel_78 (lw_V q672 q673 q674 q137 q675) ⟨rfl, hm_X6_sum⟩ (by decide) (by decide) (Nat.le_of_ble_eq_true rfl)) (m_X6_sum a0 a1 a2 x1) rfl (fun x5 => ?_)
      refine cw_aload_n dX6_duel_81 rfl 2 rfl ?_
      refine cw_iload_n dX6_duel_82 rfl 3 rfl ?_
      refine cw_aload_n dX6_duel_83 rfl 5 rfl ?_
      refine cw_iload dX6_duel_84 1 rfl ?_
      refine cw_invI (d2 := md_X6_sum) (c := 1) (q := 2) (as := [cR a0, cI a1, cR a3, cI x1]) (mc := 0) (ms := 0) rfl rfl (okV (ci := 5) (C := RX6) (T0 := TX6) (N := 19) (n := 3) rfl rfl rfl dX6_duel_86 (lw_V q672 q673 q674 q137 q675) ⟨rfl, hm_X6_sum⟩ (by decide) (by decide) (Nat.le_of_ble_eq_true rfl)) (m_X6_sum a0 a1 a3 x1) rfl (fun x6 => ?_)
      refine cw_isub dX6_duel_89 ?_
      refine cw_istore (ls' := [(5, cI (x5 - x6)), (4, cI x1), (0, cR a0), (1, cI a1), (2, cR a2), (3, cR a3)]) dX6_duel_90 (by decide) rfl ?_
      refine cw_iload dX6_duel_92 0 rfl ?_
      refine cw_if_eq (tgt := 109) dX6_duel_94 (by decide) ?_ ?_
      · refine cw_jn (cj := 1) (kj := 2) (pcj := 185) (lsf := fun (s : Int32) => [(5, cI s)]) (stf := fun (s : Int32) => []) (fun s => ?_) (fun J9 hJ9 => ?_)
        · obtain ⟨v7, e⟩ : ∃ z, z = s := ⟨_, rfl⟩
          subst e
          show CWF _ _ _ 185 [(5, cI v7)] [] _
          refine cw_new (c := 0) (q := 0) (ci := 11) (C := RX12) (T := TX12) (N := 2) rfl rfl q1729 q1730 q149 dX6_duel_185 (fun p8 => ?_)
          refine cw_dup dX6_duel_188 rfl ?_
          refine cw_iload dX6_duel_189 0 rfl ?_
          refine cw_bipush (v := 8) dX6_duel_191 (by decide) ?_
          refine cw_invV (d2 := md_X12_init) (c := 0) (q := 0) (as := [cR p8, cI v7, cI 8]) (mc := 0) (ms := 0) rfl rfl (okIN (n := 2) rfl rfl dX6_duel_193 (lw_meth q1733) q149 q1731 q1732 rfl hm_X12_init (by decide) (by decide) (Nat.le_of_ble_eq_true rfl) (by decide)) (m_X12_init p8 v7 8) rfl ?_
          exact cw_aret rfl rfl dX6_duel_196
        · refine cw_sub (ls' := [(0, cR a0), (1, cI a1), (2, cR a2), (3, cR a3), (4, cI x1), (5, cI (x5 - x6))]) [2, 3, 4, 5, 1, 0] rfl ?_
          refine cw_loop0 (lsf := fun (s : Int32 × Int32) => [(0, cR a0), (1, cI a1), (2, cR a2), (3, cR a3), (4, cI s.1), (5, cI s.2)]) (fun rec12 hrec12 s => ?_) FU (x1, (x5 - x6))
          obtain ⟨l10, l11⟩ := s
          show CWF _ _ _ 109 [(0, cR a0), (1, cI a1), (2, cR a2), (3, cR a3), (4, cI l10), (5, cI l11)] [] _
          dsimp only [b_X6_duel_109]
          refine cw_iload dX6_duel_109 5 rfl ?_
          refine cw_if_ne (tgt := 185) dX6_duel_111 (by decide) ?_ ?_
          · refine cw_sub (ls' := [(5, cI l11)]) [5] rfl ?_
            exact hJ9 l11
          · refine cw_iload dX6_duel_114 4 rfl ?_
            refine cw_aload_n dX6_duel_116 rfl 0 rfl ?_
            refine cw_getP (ci := 5) (j := 18) (C := RX6) (T := TX6) (N := 19) rfl (by decide) rfl rfl (Or.inl q1118) fSame_rfl dX6_duel_117 (fun p13 => ?_)
            refine cw_getP (ci := 6) (j := 2) (C := RX7) (T := TX7) (N := 5) rfl (by decide) rfl rfl (Or.inr ⟨_, q1067⟩) fSame_rfl dX6_duel_120 (fun p14 => ?_)
            refine cw_invI (d2 := md_J2_size) (c := 1) (q := 2) (as := [cR p14]) (mc := 0) (ms := 0) rfl rfl (okF (x := ⟨"java/util/List", "size", "()I"⟩) (ci := 14) (C := RJ2) (T0 := TJ2) (N := 3) (n := 0) rfl (Or.inr ⟨rfl, rfl⟩) rfl dX6_duel_123 (lw_F q545 q251 q249 q114 q253) (List.mem_iff_getElem?.mpr ⟨1, rfl⟩) (show ("java/util/List" : String) ≠ _ ∧ ("java/util/List" : String) ≠ _ ∧ (parseMethodDescriptor (md_J2_size).y.desc).map (fun d => d.parameters.length) = some 0 from ⟨by decide, by decide, (hm_J2_size).2.2⟩) (by decide) (by decide) (Nat.le_of_ble_eq_true rfl)) (c_size p14) rfl (fun x15 => ?_)
            refine cw_icmp_ge (tgt := 185) dX6_duel_128 (by decide) ?_ ?_
            · refine cw_sub (ls' := [(5, cI l11)]) [5] rfl ?_
              exact hJ9 l11
            · refine cw_iinc (v := (l10 + 1)) (ls' := [(4, cI (l10 + 1)), (0, cR a0), (1, cI a1), (2, cR a2), (3, cR a3), (5, cI l11)]) dX6_duel_131 4 rfl rfl (by decide) rfl ?_
              refine cw_aload_n dX6_duel_134 rfl 1 rfl ?_
              refine cw_iload_n dX6_duel_135 rfl 2 rfl ?_
              refine cw_aload_n dX6_duel_136 rfl 4 rfl ?_
              refine cw_iload dX6_duel_137 0 rfl ?_
              refine cw_invI (d2 := md_X6_count) (c := 1) (q := 2) (as := [cR a0, cI a1, cR a3, cI (l10 + 1)]) (mc := 0) (ms := 0) rfl rfl (okV (ci := 5) (C := RX6) (T0 := TX6) (N := 19) (n := 3) rfl rfl rfl dX6_duel_139 (lw_V q550 q551 q552 q137 q553) ⟨rfl, hm_X6_count⟩ (by decide) (by decide) (Nat.le_of_ble_eq_true rfl)) (m_X6_count a0 a1 a3 (l10 + 1)) rfl (fun x16 => ?_)
              refine cw_aload_n dX6_duel_142 rfl 1 rfl ?_
              refine cw_iload_n dX6_duel_143 rfl 2 rfl ?_
              refine cw_aload_n dX6_duel_144 rfl 3 rfl ?_
              refine cw_iload dX6_duel_145 0 rfl ?_
              refine cw_invI (d2 := md_X6_count) (c := 1) (q := 2) (as := [cR a0, cI a1, cR a2, cI (l10 + 1)]) (mc := 0) (ms := 0) rfl rfl (okV (ci := 5) (C := RX6) (T0 := TX6) (N := 19) (n := 3) rfl rfl rfl dX6_duel_147 (lw_V q550 q551 q552 q137 q553) ⟨rfl, hm_X6_count⟩ (by decide) (by decide) (Nat.le_of_ble_eq_true rfl)) (m_X6_count a0 a1 a2 (l10 + 1)) rfl (fun x17 => ?_)
              refine cw_isub dX6_duel_150 ?_
              refine cw_istore (ls' := [(5, cI (x16 - x17)), (4, cI (l10 + 1)), (0, cR a0), (1, cI a1), (2, cR a2), (3, cR a3)]) dX6_duel_151 (by decide) rfl ?_
              refine cw_iload dX6_duel_153 0 rfl ?_
              refine cw_jn (cj := 1) (kj := 2) (pcj := 180) (lsf := fun (s : Int32) => [(4, cI (l10 + 1)), (0, cR a0), (1, cI a1), (2, cR a2), (3, cR a3)]) (stf := fun (s : Int32) => [cI s]) (fun s => ?_) (fun J19 hJ19 => ?_)
              · obtain ⟨v18, e⟩ : ∃ z, z = s := ⟨_, rfl⟩
                subst e
                show CWF _ _ _ 180 [(4, cI (l10 + 1)), (0, cR a0), (1, cI a1), (2, cR a2), (3, cR a3)] [cI v18] _
                refine cw_istore (ls' := [(5, cI v18), (4, cI (l10 + 1)), (0, cR a0), (1, cI a1), (2, cR a2), (3, cR a3)]) dX6_duel_180 (by decide) rfl ?_
                refine cw_goto (tgt := 109) dX6_duel_182 (by decide) ?_
                refine cw_sub (ls' := [(0, cR a0), (1, cI a1), (2, cR a2), (3, cR a3), (4, cI (l10 + 1)), (5, cI v18)]) [2, 3, 4, 5, 1, 0] rfl ?_
                exact hrec12 ((l10 + 1), v18)
              · refine cw_if_eq (tgt := 163) dX6_duel_155 (by decide) ?_ ?_
                · refine cw_aload_n dX6_duel_163 rfl 2 rfl ?_
                  refine cw_iload_n dX6_duel_164 rfl 3 rfl ?_
                  refine cw_aload_n dX6_duel_165 rfl 4 rfl ?_
                  refine cw_iload dX6_duel_166 1 rfl ?_
                  refine cw_invI (d2 := md_X6_sum) (c := 1) (q := 2) (as := [cR a0, cI a1, cR a2, cI (l10 + 1)]) (mc := 0) (ms := 0) rfl rfl (okV (ci := 5) (C := RX6) (T0 := TX6) (N := 19) (n := 3) rfl rfl rfl dX6_duel_168 (lw_V q672 q673 q674 q137 q675) ⟨rfl, hm_X6_sum⟩ (by decide) (by decide) (Nat.le_of_ble_eq_true rfl)) (m_X6_sum a0 a1 a2 (l10 + 1)) rfl (fun x20 => ?_)
                  refine cw_aload_n dX6_duel_171 rfl 2 rfl ?_
                  refine cw_iload_n dX6_duel_172 rfl 3 rfl ?_
                  refine cw_aload_n dX6_duel_173 rfl 5 rfl ?_
                  refine cw_iload dX6_duel_174 1 rfl ?_
                  refine cw_invI (d2 := md_X6_sum) (c := 1) (q := 2) (as := [cR a0, cI a1, cR a3, cI (l10 + 1)]) (mc := 0) (ms := 0) rfl rfl (okV (ci := 5) (C := RX6) (T0 := TX6) (N := 19) (n := 3) rfl rfl rfl dX6_duel_176 (lw_V q672 q673 q674 q137 q675) ⟨rfl, hm_X6_sum⟩ (by decide) (by decide) (Nat.le_of_ble_eq_true rfl)) (m_X6_sum a0 a1 a3 (l10 + 1)) rfl (fun x21 => ?_)
                  refine cw_isub dX6_duel_179 ?_
                  refine cw_sub (ls' := [(4, cI (l10 + 1)), (0, cR a0), (1, cI a1), (2, cR a2), (3, cR a3)]) [1, 2, 3, 4, 5] rfl ?_
                  exact hJ19 (x20 - x21)
                · refine cw_iload dX6_duel_158 0 rfl ?_
                  refine cw_goto (tgt := 180) dX6_duel_160 (by decide) ?_
                  refine cw_sub (ls' := [(4, cI (l10 + 1)), (0, cR a0), (1, cI a1), (2, cR a2), (3, cR a3)]) [1, 2, 3, 4, 5] rfl ?_
                  exact hJ19 (x16 - x17)
      · refine cw_new (c := 0) (q := 0) (ci := 11) (C := RX12) (T := TX12) (N := 2) rfl rfl q1729 q1730 q149 dX6_duel_97 (fun p22 => ?_)
        refine cw_dup dX6_duel_100 rfl ?_
        refine cw_iload dX6_duel_101 0 rfl ?_
        refine cw_bipush (v := 7) dX6_duel_103 (by decide) ?_
        refine cw_invV (d2 := md_X12_init) (c := 0) (q := 0) (as := [cR p22, cI (x5 - x6), cI 7]) (mc := 0) (ms := 0) rfl rfl (okIN (n := 2) rfl rfl dX6_duel_105 (lw_meth q1733) q149 q1731 q1732 rfl hm_X12_init (by decide) (by decide) (Nat.le_of_ble_eq_true rfl) (by decide)) (m_X12_init p22 (x5 - x6) 7) rfl ?_
        exact cw_aret rfl rfl dX6_duel_108
    · refine cw_new (c := 0) (q := 0) (ci := 11) (C := RX12) (T := TX12) (N := 2) rfl rfl q1729 q1730 q149 dX6_duel_61 (fun p23 => ?_)
      refine cw_dup dX6_duel_64 rfl ?_
      refine cw_iload dX6_duel_65 0 rfl ?_
      refine cw_bipush (v := 6) dX6_duel_67 (by decide) ?_
      refine cw_invV (d2 := md_X12_init) (c := 0) (q := 0) (as := [cR p23, cI (x3 - x4), cI 6]) (mc := 0) (ms := 0) rfl rfl (okIN (n := 2) rfl rfl dX6_duel_69 (lw_meth q1733) q149 q1731 q1732 rfl hm_X12_init (by decide) (by decide) (Nat.le_of_ble_eq_true rfl) (by decide)) (m_X12_init p23 (x3 - x4) 6) rfl ?_
      exact cw_aret rfl rfl dX6_duel_72
  · refine cw_new (c := 0) (q := 0) (ci := 11) (C := RX12) (T := TX12) (N := 2) rfl rfl q1729 q1730 q149 dX6_duel_19 (fun p24 => ?_)
    refine cw_dup dX6_duel_22 rfl ?_
    refine cw_iload dX6_duel_23 0 rfl ?_
    refine cw_aload_n dX6_duel_25 rfl 1 rfl ?_
    refine cw_iload_n dX6_duel_26 rfl 2 rfl ?_
    refine cw_aload_n dX6_duel_27 rfl 4 rfl ?_
    refine cw_invI (d2 := md_X6_first) (c := 0) (q := 0) (as := [cR a0, cI a1, cR a3]) (mc := 0) (ms := 0) rfl rfl (okV (ci := 5) (C := RX6) (T0 := TX6) (N := 19) (n := 2) rfl rfl rfl dX6_duel_28 (lw_V q1725 q1726 q1727 q137 q1728) ⟨rfl, hm_X6_first⟩ (by decide) (by decide) (Nat.le_of_ble_eq_true rfl)) (m_X6_first a0 a1 a3) rfl (fun x25 => ?_)
    refine cw_isub dX6_duel_31 ?_
    refine cw_iconst (v := 5) dX6_duel_32 (by decide) ?_
    refine cw_invV (d2 := md_X12_init) (c := 0) (q := 0) (as := [cR p24, cI (x1 - x25), cI 5]) (mc := 0) (ms := 0) rfl rfl (okIN (n := 2) rfl rfl dX6_duel_33 (lw_meth q1733) q149 q1731 q1732 rfl hm_X12_init (by decide) (by decide) (Nat.le_of_ble_eq_true rfl) (by decide)) (m_X12_init p24 (x1 - x25) 5) rfl ?_
    exact cw_aret rfl rfl dX6_duel_36
def g_X12_sign (a0 : Nat) : GF :=
  getI 31 a0 0 fun x1 =>
  retG (rI x1)
abbrev md_X12_sign : MD := (yX12_sign, cX12_sign, 1, (some (Jvm.ClassFile.FieldType.int)), RX12, 10, 0, 0)
theorem hm_X12_sign : (md_X12_sign).y.cls ≠ "java/lang/invoke/MethodHandle" ∧ (md_X12_sign).y.cls ≠ "java/lang/invoke/VarHandle" ∧ (parseMethodDescriptor (md_X12_sign).y.desc).map (fun d => d.parameters.length) = some 0 := by decide +kernel
theorem m_X12_sign (a0 : Nat) : CMF md_X12_sign [cR a0] (g_X12_sign a0) := by
  refine cm_of (by decide +kernel) rfl (Nat.le_of_ble_eq_true rfl) ?_
  show CWF _ 0 0 0 [(0, cR a0)] [] _
  unfold g_X12_sign
  refine cw_aload_n dX12_sign_0 rfl 0 rfl ?_
  refine cw_getI (ci := 11) (j := 0) (C := RX12) (T := TX12) (N := 2) rfl (by decide) rfl rfl (Or.inl q1735) fSame_rfl dX12_sign_1 (fun x1 => ?_)
  exact cw_iret rfl dX12_sign_4
def g_X12_rule (a0 : Nat) : GF :=
  getI 31 a0 1 fun x1 =>
  retG (rI x1)
abbrev md_X12_rule : MD := (yX12_rule, cX12_rule, 1, (some (Jvm.ClassFile.FieldType.int)), RX12, 10, 0, 0)
theorem hm_X12_rule : (md_X12_rule).y.cls ≠ "java/lang/invoke/MethodHandle" ∧ (md_X12_rule).y.cls ≠ "java/lang/invoke/VarHandle" ∧ (parseMethodDescriptor (md_X12_rule).y.desc).map (fun d => d.parameters.length) = some 0 := by decide +kernel
theorem m_X12_rule (a0 : Nat) : CMF md_X12_rule [cR a0] (g_X12_rule a0) := by
  refine cm_of (by decide +kernel) rfl (Nat.le_of_ble_eq_true rfl) ?_
  show CWF _ 0 0 0 [(0, cR a0)] [] _
  unfold g_X12_rule
  refine cw_aload_n dX12_rule_0 rfl 0 rfl ?_
  refine cw_getI (ci := 11) (j := 1) (C := RX12) (T := TX12) (N := 2) rfl (by decide) rfl rfl (Or.inl q1736) fSame_rfl dX12_rule_1 (fun x1 => ?_)
  exact cw_iret rfl dX12_rule_4
def b_X6_places_55 (a0 : Nat) (a1 : Int32) (p7 : Nat) (p9 : Nat) (m10 : Int32) (J16 : (Int32 × Int32 × Int32) → GF) (rec21 : (Int32 × Int32 × Int32 × Nat) → GF) : (Int32 × Int32 × Int32 × Nat) → GF := fun (s : Int32 × Int32 × Int32 × Nat) => match s with
  | (l17, l18, l19, l20) =>
    hasG p9 l20 fun x22 =>
    if x22 = 0 then
      J16 (l17, l18, l19)
    else
      nextG p9 m10 l20 fun p23 =>
      castG 27 p23 <|
      acG p23 p7
        (rec21 (l17, l18, l19, (l20 + 1)))
        (invP (some (a0, 25)) (g_X6_duel a0 a1 p7 p23) fun p24 =>
          invI (some (p24, 31)) (g_X12_sign p24) fun x25 =>
          jnG (fun (v26 : Int32) =>
            invI (some (p24, 31)) (g_X12_sign p24) fun x27 =>
            jnG (fun (v28 : Int32) =>
              invI (some (p24, 31)) (g_X12_rule p24) fun x29 =>
              rec21 ((l17 + v26), (l18 + v28), (imax l19 x29), (l20 + 1))) fun J30 =>
            if x27 = 0 then
              J30 1
            else
              J30 0) fun J31 =>
          if x25 ≤ 0 then
            J31 0
          else
            J31 1)
def b_X6_places_13 (a0 : Nat) (a1 : Int32) (p2 : Nat) (m3 : Int32) (rec5 : Nat → GF) : Nat → GF := fun (l4 : Nat) =>
  hasG p2 l4 fun x6 =>
  if x6 = 0 then
    retG rV
  else
    nextG p2 m3 l4 fun p7 =>
    castG 27 p7 <|
    getP 25 a0 18 fun p8 =>
    getP 26 p8 2 fun p9 =>
    itG p9 fun m10 =>
    jnG (fun (s : Int32 × Int32 × Int32) => match s with
      | (v11, v12, v13) =>
        getP 27 p7 3 fun p14 =>
        iastG p14 a1 (((2 * v11) + 1) + v12) <|
        getP 27 p7 4 fun p15 =>
        iastG p15 a1 v13 <|
        rec5 (l4 + 1)) fun J16 =>
    loopG (b_X6_places_55 a0 a1 p7 p9 m10 J16) 26 (0, 1, 5, 0)
def g_X6_places (a0 : Nat) (a1 : Int32) : GF :=
  getP 25 a0 18 fun p1 =>
  getP 26 p1 2 fun p2 =>
  itG p2 fun m3 =>
  loopG (b_X6_places_13 a0 a1 p2 m3) 26 0
abbrev md_X6_places : MD := (yX6_places, cX6_places, 10, none, RX6, 19, 703, 1460)
theorem hm_X6_places : (md_X6_places).y.cls ≠ "java/lang/invoke/MethodHandle" ∧ (md_X6_places).y.cls ≠ "java/lang/invoke/VarHandle" ∧ (parseMethodDescriptor (md_X6_places).y.desc).map (fun d => d.parameters.length) = some 1 := by decide +kernel
theorem m_X6_places (a0 : Nat) (a1 : Int32) : CMF md_X6_places [cR a0, cI a1] (g_X6_places a0 a1) := by
  refine cm_of (by decide +kernel) rfl (Nat.le_of_ble_eq_true rfl) ?_
  show CWF _ 703 1460 0 [(0, cR a0), (1, cI a1)] [] _
  unfold g_X6_places
  refine cw_aload_n dX6_places_0 rfl 0 rfl ?_
  refine cw_getP (ci := 5) (j := 18) (C := RX6) (T := TX6) (N := 19) rfl (by decide) rfl rfl (Or.inl q1118) fSame_rfl dX6_places_1 (fun p1 => ?_)
  refine cw_getP (ci := 6) (j := 2) (C := RX7) (T := TX7) (N := 5) rfl (by decide) rfl rfl (Or.inr ⟨_, q1067⟩) fSame_rfl dX6_places_4 (fun p2 => ?_)
  refine cw_iter (c := 702) (q := 1456) (la := 1) (ls' := [(0, cR a0), (1, cI a1)]) rfl (Or.inl ⟨_, dX6_places_12, rfl, rfl⟩) (by decide) (okF (x := ⟨"java/util/List", "iterator", "()Ljava/util/Iterator;"⟩) (ci := 14) (C := RJ2) (T0 := TJ2) (N := 3) (n := 0) rfl (Or.inr ⟨rfl, rfl⟩) rfl dX6_places_7 (lw_F q531 q295 q293 q114 q297) (List.mem_iff_getElem?.mpr ⟨3, rfl⟩) (show ("java/util/List" : String) ≠ _ ∧ ("java/util/List" : String) ≠ _ ∧ (parseMethodDescriptor (md_J2_iterator).y.desc).map (fun d => d.parameters.length) = some 0 from ⟨by decide, by decide, (hm_J2_iterator).2.2⟩) (by decide) (by decide) (Nat.le_of_ble_eq_true rfl)) (fun m3 => ?_)
  refine cw_sub (ls' := [(0, cR a0), (1, cI a1), (2, cT p2 m3 0)]) [1, 2, 0] rfl ?_
  refine cw_weak (c' := 0 + 26 * 27) (q' := 0 + 26 * 56) (by omega) (by omega) ?_
  refine cw_loop (ce := 0) (ke := 0) (cb := 27) (kb := 56) (lsf := fun (s : Nat) => [(0, cR a0), (1, cI a1), (2, cT p2 m3 s)]) (fun Crec5 Krec5 rec5 hCrec5 hKrec5 hrec5 s => ?_) 26 0
  obtain ⟨l4, e⟩ : ∃ z, z = s := ⟨_, rfl⟩
  subst e
  show CWF _ _ _ 13 [(0, cR a0), (1, cI a1), (2, cT p2 m3 l4)] [] _
  dsimp only [b_X6_places_13]
  refine cw_sub (ls' := [(2, cT p2 m3 l4), (0, cR a0), (1, cI a1)]) [2, 0, 1] rfl ?_
  refine cw_hasNext (la := 1) rfl (Or.inl ⟨_, dX6_places_13, rfl, rfl⟩) (fun x => okF (x := ⟨"java/util/Iterator", "hasNext", "()Z"⟩) (ci := 15) (C := RJ18) (T0 := TJ18) (N := 4) (n := 0) rfl (Or.inl rfl) rfl dX6_places_14 (lw_F q533 q339 q337 q134 q341) (List.mem_iff_getElem?.mpr ⟨4, rfl⟩) (show ("java/util/Iterator" : String) ≠ _ ∧ ("java/util/Iterator" : String) ≠ _ ∧ (parseMethodDescriptor (md_J18_hasNext).y.desc).map (fun d => d.parameters.length) = some 0 from ⟨by decide, by decide, (hm_J18_hasNext).2.2⟩) (by decide) (by decide) (Nat.le_of_ble_eq_true rfl)) (fun x6 => ?_)
  refine cw_if_eq (tgt := 173) dX6_places_19 (by decide) ?_ ?_
  · refine cw_weak (c' := Crec5 + 0) (q' := Krec5 + 0) (by omega) (by omega) ?_
    exact cw_vret rfl dX6_places_173
  · refine cw_next (la := 1) rfl (Or.inl ⟨_, dX6_places_22, rfl, rfl⟩) (fun x => okF (x := ⟨"java/util/Iterator", "next", "()Ljava/lang/Object;"⟩) (ci := 15) (C := RJ18) (T0 := TJ18) (N := 4) (n := 0) rfl (Or.inl rfl) rfl dX6_places_23 (lw_F q535 q432 q430 q134 q434) (List.mem_iff_getElem?.mpr ⟨6, rfl⟩) (show ("java/util/Iterator" : String) ≠ _ ∧ ("java/util/Iterator" : String) ≠ _ ∧ (parseMethodDescriptor (md_J18_next).y.desc).map (fun d => d.parameters.length) = some 0 from ⟨by decide, by decide, (hm_J18_next).2.2⟩) (by decide) (by decide) (Nat.le_of_ble_eq_true rfl)) (fun p7 => ?_)
    refine cw_cast (ci := 7) (T := TX8) (N := 10) (C := RX8) rfl rfl q536 (Or.inl rfl) dX6_places_28 ?_
    refine cw_astore_n (ls' := [(3, cR p7), (2, cT p2 m3 (l4 + 1)), (0, cR a0), (1, cI a1)]) dX6_places_31 rfl (by decide) rfl ?_
    refine cw_iconst (v := 0) dX6_places_32 (by decide) ?_
    refine cw_istore (ls' := [(4, cI 0), (3, cR p7), (2, cT p2 m3 (l4 + 1)), (0, cR a0), (1, cI a1)]) dX6_places_33 (by decide) rfl ?_
    refine cw_iconst (v := 1) dX6_places_35 (by decide) ?_
    refine cw_istore (ls' := [(5, cI 1), (4, cI 0), (3, cR p7), (2, cT p2 m3 (l4 + 1)), (0, cR a0), (1, cI a1)]) dX6_places_36 (by decide) rfl ?_
    refine cw_iconst (v := 5) dX6_places_38 (by decide) ?_
    refine cw_istore (ls' := [(6, cI 5), (5, cI 1), (4, cI 0), (3, cR p7), (2, cT p2 m3 (l4 + 1)), (0, cR a0), (1, cI a1)]) dX6_places_39 (by decide) rfl ?_
    refine cw_aload_n dX6_places_41 rfl 5 rfl ?_
    refine cw_getP (ci := 5) (j := 18) (C := RX6) (T := TX6) (N := 19) rfl (by decide) rfl rfl (Or.inl q1118) fSame_rfl dX6_places_42 (fun p8 => ?_)
    refine cw_getP (ci := 6) (j := 2) (C := RX7) (T := TX7) (N := 5) rfl (by decide) rfl rfl (Or.inr ⟨_, q1067⟩) fSame_rfl dX6_places_45 (fun p9 => ?_)
    refine cw_iter (c := Crec5 + 26) (q := Krec5 + 52) (la := 2) (ls' := [(6, cI 5), (5, cI 1), (4, cI 0), (3, cR p7), (2, cT p2 m3 (l4 + 1)), (0, cR a0), (1, cI a1)]) rfl (Or.inr ⟨dX6_places_53, rfl⟩) (by decide) (okF (x := ⟨"java/util/List", "iterator", "()Ljava/util/Iterator;"⟩) (ci := 14) (C := RJ2) (T0 := TJ2) (N := 3) (n := 0) rfl (Or.inr ⟨rfl, rfl⟩) rfl dX6_places_48 (lw_F q531 q295 q293 q114 q297) (List.mem_iff_getElem?.mpr ⟨3, rfl⟩) (show ("java/util/List" : String) ≠ _ ∧ ("java/util/List" : String) ≠ _ ∧ (parseMethodDescriptor (md_J2_iterator).y.desc).map (fun d => d.parameters.length) = some 0 from ⟨by decide, by decide, (hm_J2_iterator).2.2⟩) (by decide) (by decide) (Nat.le_of_ble_eq_true rfl)) (fun m10 => ?_)
    refine cw_jn (cj := Crec5 + 0) (kj := Krec5 + 0) (pcj := 147) (lsf := fun (s : Int32 × Int32 × Int32) => [(3, cR p7), (2, cT p2 m3 (l4 + 1)), (0, cR a0), (1, cI a1), (4, cI s.1), (5, cI s.2.1), (6, cI s.2.2)]) (stf := fun (s : Int32 × Int32 × Int32) => []) (fun s => ?_) (fun J16 hJ16 => ?_)
    · obtain ⟨v11, v12, v13⟩ := s
      show CWF _ _ _ 147 [(3, cR p7), (2, cT p2 m3 (l4 + 1)), (0, cR a0), (1, cI a1), (4, cI v11), (5, cI v12), (6, cI v13)] [] _
      refine cw_aload_n dX6_places_147 rfl 0 rfl ?_
      refine cw_getP (ci := 7) (j := 3) (C := RX8) (T := TX8) (N := 10) rfl (by decide) rfl rfl (Or.inr ⟨_, q1257⟩) fSame_rfl dX6_places_148 (fun p14 => ?_)
      refine cw_iload_n dX6_places_151 rfl 3 rfl ?_
      refine cw_iconst (v := 2) dX6_places_152 (by decide) ?_
      refine cw_iload dX6_places_153 4 rfl ?_
      refine cw_imul dX6_places_155 ?_
      refine cw_iconst (v := 1) dX6_places_156 (by decide) ?_
      refine cw_iadd dX6_places_157 ?_
      refine cw_iload dX6_places_158 5 rfl ?_
      refine cw_iadd dX6_places_160 ?_
      refine cw_iast dX6_places_161 ?_
      refine cw_aload_n dX6_places_162 rfl 0 rfl ?_
      refine cw_getP (ci := 7) (j := 4) (C := RX8) (T := TX8) (N := 10) rfl (by decide) rfl rfl (Or.inr ⟨_, q1260⟩) fSame_rfl dX6_places_163 (fun p15 => ?_)
      refine cw_iload_n dX6_places_166 rfl 3 rfl ?_
      refine cw_iload dX6_places_167 6 rfl ?_
      refine cw_iast dX6_places_169 ?_
      refine cw_goto (tgt := 13) dX6_places_170 (by decide) ?_
      refine cw_sub (ls' := [(0, cR a0), (1, cI a1), (2, cT p2 m3 (l4 + 1))]) [2, 3, 1] rfl ?_
      exact hrec5 (l4 + 1)
    · refine cw_sub (ls' := [(3, cR p7), (2, cT p2 m3 (l4 + 1)), (0, cR a0), (1, cI a1), (4, cI 0), (5, cI 1), (6, cI 5), (7, cT p9 m10 0)]) [4, 5, 6, 7, 3, 2, 1, 0] rfl ?_
      refine cw_weak (c' := Crec5 + 0 + 26 * 1) (q' := Krec5 + 0 + 26 * 2) (by omega) (by omega) ?_
      refine cw_loop (ce := Crec5 + 0) (ke := Krec5 + 0) (cb := 1) (kb := 2) (lsf := fun (s : Int32 × Int32 × Int32 × Nat) => [(3, cR p7), (2, cT p2 m3 (l4 + 1)), (0, cR a0), (1, cI a1), (4, cI s.1), (5, cI s.2.1), (6, cI s.2.2.1), (7, cT p9 m10 s.2.2.2)]) (fun Crec21 Krec21 rec21 hCrec21 hKrec21 hrec21 s => ?_) 26 (0, 1, 5, 0)
      obtain ⟨l17, l18, l19, l20⟩ := s
      show CWF _ _ _ 55 [(3, cR p7), (2, cT p2 m3 (l4 + 1)), (0, cR a0), (1, cI a1), (4, cI l17), (5, cI l18), (6, cI l19), (7, cT p9 m10 l20)] [] _
      dsimp only [b_X6_places_55]
      refine cw_sub (ls' := [(7, cT p9 m10 l20), (3, cR p7), (2, cT p2 m3 (l4 + 1)), (0, cR a0), (1, cI a1), (4, cI l17), (5, cI l18), (6, cI l19)]) [7, 0, 1, 2, 3, 4, 5, 6] rfl ?_
      refine cw_hasNext (la := 2) rfl (Or.inr ⟨dX6_places_55, rfl⟩) (fun x => okF (x := ⟨"java/util/Iterator", "hasNext", "()Z"⟩) (ci := 15) (C := RJ18) (T0 := TJ18) (N := 4) (n := 0) rfl (Or.inl rfl) rfl dX6_places_57 (lw_F q533 q339 q337 q134 q341) (List.mem_iff_getElem?.mpr ⟨4, rfl⟩) (show ("java/util/Iterator" : String) ≠ _ ∧ ("java/util/Iterator" : String) ≠ _ ∧ (parseMethodDescriptor (md_J18_hasNext).y.desc).map (fun d => d.parameters.length) = some 0 from ⟨by decide, by decide, (hm_J18_hasNext).2.2⟩) (by decide) (by decide) (Nat.le_of_ble_eq_true rfl)) (fun x22 => ?_)
      refine cw_if_eq (tgt := 147) dX6_places_62 (by decide) ?_ ?_
      · refine cw_weak (c' := Crec21 + 0) (q' := Krec21 + 0) (by omega) (by omega) ?_
        refine cw_weak (c' := Crec5 + 0) (q' := Krec5 + 0) (by omega) (by omega) ?_
        refine cw_sub (ls' := [(3, cR p7), (2, cT p2 m3 (l4 + 1)), (0, cR a0), (1, cI a1), (4, cI l17), (5, cI l18), (6, cI l19)]) [1, 2, 3, 4, 5, 6, 7] rfl ?_
        exact hJ16 (l17, l18, l19)
      · refine cw_next (la := 2) rfl (Or.inr ⟨dX6_places_65, rfl⟩) (fun x => okF (x := ⟨"java/util/Iterator", "next", "()Ljava/lang/Object;"⟩) (ci := 15) (C := RJ18) (T0 := TJ18) (N := 4) (n := 0) rfl (Or.inl rfl) rfl dX6_places_67 (lw_F q535 q432 q430 q134 q434) (List.mem_iff_getElem?.mpr ⟨6, rfl⟩) (show ("java/util/Iterator" : String) ≠ _ ∧ ("java/util/Iterator" : String) ≠ _ ∧ (parseMethodDescriptor (md_J18_next).y.desc).map (fun d => d.parameters.length) = some 0 from ⟨by decide, by decide, (hm_J18_next).2.2⟩) (by decide) (by decide) (Nat.le_of_ble_eq_true rfl)) (fun p23 => ?_)
        refine cw_cast (ci := 7) (T := TX8) (N := 10) (C := RX8) rfl rfl q536 (Or.inl rfl) dX6_places_72 ?_
        refine cw_astore (ls' := [(8, cR p23), (7, cT p9 m10 (l20 + 1)), (3, cR p7), (2, cT p2 m3 (l4 + 1)), (0, cR a0), (1, cI a1), (4, cI l17), (5, cI l18), (6, cI l19)]) dX6_places_75 (by decide) rfl ?_
        refine cw_aload dX6_places_77 0 rfl ?_
        refine cw_aload_n dX6_places_79 rfl 2 rfl ?_
        refine cw_acmp_ne (tgt := 86) dX6_places_80 (by decide) ?_ ?_
        · refine cw_aload_n dX6_places_86 rfl 4 rfl ?_
          refine cw_iload_n dX6_places_87 rfl 5 rfl ?_
          refine cw_aload_n dX6_places_88 rfl 2 rfl ?_
          refine cw_aload dX6_places_89 0 rfl ?_
          refine cw_invP (d2 := md_X6_duel) (c := Crec21 + 0) (q := Krec21 + 0) (as := [cR a0, cI a1, cR p7, cR p23]) (mc := 1) (ms := 2) rfl rfl (okV (ci := 5) (C := RX6) (T0 := TX6) (N := 19) (n := 3) rfl rfl rfl dX6_places_91 (lw_V q1721 q1722 q1723 q137 q1724) ⟨rfl, hm_X6_duel⟩ (by decide) (by decide) (Nat.le_of_ble_eq_true rfl)) (m_X6_duel a0 a1 p7 p23) rfl (fun p24 => ?_)
          refine cw_astore (ls' := [(9, cR p24), (8, cR p23), (7, cT p9 m10 (l20 + 1)), (3, cR p7), (2, cT p2 m3 (l4 + 1)), (0, cR a0), (1, cI a1), (4, cI l17), (5, cI l18), (6, cI l19)]) dX6_places_94 (by decide) rfl ?_
          refine cw_iload dX6_places_96 7 rfl ?_
          refine cw_aload dX6_places_98 0 rfl ?_
          refine cw_invI (d2 := md_X12_sign) (c := Crec21 + 0) (q := Krec21 + 0) (as := [cR p24]) (mc := 0) (ms := 0) rfl rfl (okV (ci := 11) (C := RX12) (T0 := TX12) (N := 2) (n := 0) rfl rfl rfl dX6_places_100 (lw_V q1742 q1743 q1744 q149 q1745) ⟨rfl, hm_X12_sign⟩ (by decide) (by decide) (Nat.le_of_ble_eq_true rfl)) (m_X12_sign p24) rfl (fun x25 => ?_)
          refine cw_jn (cj := Crec21 + 0) (kj := Krec21 + 0) (pcj := 111) (lsf := fun (s : Int32) => [(9, cR p24), (7, cT p9 m10 (l20 + 1)), (3, cR p7), (2, cT p2 m3 (l4 + 1)), (0, cR a0), (1, cI a1), (5, cI l18), (6, cI l19)]) (stf := fun (s : Int32) => [cI s, cI l17]) (fun s => ?_) (fun J31 hJ31 => ?_)
          · obtain ⟨v26, e⟩ : ∃ z, z = s := ⟨_, rfl⟩
            subst e
            show CWF _ _ _ 111 [(9, cR p24), (7, cT p9 m10 (l20 + 1)), (3, cR p7), (2, cT p2 m3 (l4 + 1)), (0, cR a0), (1, cI a1), (5, cI l18), (6, cI l19)] [cI v26, cI l17] _
            refine cw_iadd dX6_places_111 ?_
            refine cw_istore (ls' := [(4, cI (l17 + v26)), (9, cR p24), (7, cT p9 m10 (l20 + 1)), (3, cR p7), (2, cT p2 m3 (l4 + 1)), (0, cR a0), (1, cI a1), (5, cI l18), (6, cI l19)]) dX6_places_112 (by decide) rfl ?_
            refine cw_iload dX6_places_114 7 rfl ?_
            refine cw_aload dX6_places_116 1 rfl ?_
            refine cw_invI (d2 := md_X12_sign) (c := Crec21 + 0) (q := Krec21 + 0) (as := [cR p24]) (mc := 0) (ms := 0) rfl rfl (okV (ci := 11) (C := RX12) (T0 := TX12) (N := 2) (n := 0) rfl rfl rfl dX6_places_118 (lw_V q1742 q1743 q1744 q149 q1745) ⟨rfl, hm_X12_sign⟩ (by decide) (by decide) (Nat.le_of_ble_eq_true rfl)) (m_X12_sign p24) rfl (fun x27 => ?_)
            refine cw_jn (cj := Crec21 + 0) (kj := Krec21 + 0) (pcj := 129) (lsf := fun (s : Int32) => [(4, cI (l17 + v26)), (9, cR p24), (7, cT p9 m10 (l20 + 1)), (3, cR p7), (2, cT p2 m3 (l4 + 1)), (0, cR a0), (1, cI a1), (6, cI l19)]) (stf := fun (s : Int32) => [cI s, cI l18]) (fun s => ?_) (fun J30 hJ30 => ?_)
            · obtain ⟨v28, e⟩ : ∃ z, z = s := ⟨_, rfl⟩
              subst e
              show CWF _ _ _ 129 [(4, cI (l17 + v26)), (9, cR p24), (7, cT p9 m10 (l20 + 1)), (3, cR p7), (2, cT p2 m3 (l4 + 1)), (0, cR a0), (1, cI a1), (6, cI l19)] [cI v28, cI l18] _
              refine cw_iadd dX6_places_129 ?_
              refine cw_istore (ls' := [(5, cI (l18 + v28)), (4, cI (l17 + v26)), (9, cR p24), (7, cT p9 m10 (l20 + 1)), (3, cR p7), (2, cT p2 m3 (l4 + 1)), (0, cR a0), (1, cI a1), (6, cI l19)]) dX6_places_130 (by decide) rfl ?_
              refine cw_iload dX6_places_132 8 rfl ?_
              refine cw_aload dX6_places_134 2 rfl ?_
              refine cw_invI (d2 := md_X12_rule) (c := Crec21 + 0) (q := Krec21 + 0) (as := [cR p24]) (mc := 0) (ms := 0) rfl rfl (okV (ci := 11) (C := RX12) (T0 := TX12) (N := 2) (n := 0) rfl rfl rfl dX6_places_136 (lw_V q1746 q1747 q1748 q149 q1749) ⟨rfl, hm_X12_rule⟩ (by decide) (by decide) (Nat.le_of_ble_eq_true rfl)) (m_X12_rule p24) rfl (fun x29 => ?_)
              refine cw_mmax q668 (by decide) (Nat.le_of_ble_eq_true rfl) dX6_places_139 ?_
              refine cw_istore (ls' := [(6, cI (imax l19 x29)), (5, cI (l18 + v28)), (4, cI (l17 + v26)), (9, cR p24), (7, cT p9 m10 (l20 + 1)), (3, cR p7), (2, cT p2 m3 (l4 + 1)), (0, cR a0), (1, cI a1)]) dX6_places_142 (by decide) rfl ?_
              refine cw_goto (tgt := 55) dX6_places_144 (by decide) ?_
              refine cw_sub (ls' := [(3, cR p7), (2, cT p2 m3 (l4 + 1)), (0, cR a0), (1, cI a1), (4, cI (l17 + v26)), (5, cI (l18 + v28)), (6, cI (imax l19 x29)), (7, cT p9 m10 (l20 + 1))]) [5, 6, 7, 8, 2, 1, 0, 4] rfl ?_
              exact hrec21 ((l17 + v26), (l18 + v28), (imax l19 x29), (l20 + 1))
            · refine cw_if_ne (tgt := 128) dX6_places_121 (by decide) ?_ ?_
              · refine cw_iconst (v := 0) dX6_places_128 (by decide) ?_
                refine cw_sub (ls' := [(4, cI (l17 + v26)), (9, cR p24), (7, cT p9 m10 (l20 + 1)), (3, cR p7), (2, cT p2 m3 (l4 + 1)), (0, cR a0), (1, cI a1), (6, cI l19)]) [0, 1, 2, 3, 4, 5, 6, 8] rfl ?_
                exact hJ30 0
              · refine cw_iconst (v := 1) dX6_places_124 (by decide) ?_
                refine cw_goto (tgt := 129) dX6_places_125 (by decide) ?_
                refine cw_sub (ls' := [(4, cI (l17 + v26)), (9, cR p24), (7, cT p9 m10 (l20 + 1)), (3, cR p7), (2, cT p2 m3 (l4 + 1)), (0, cR a0), (1, cI a1), (6, cI l19)]) [0, 1, 2, 3, 4, 5, 6, 8] rfl ?_
                exact hJ30 1
          · refine cw_if_le (tgt := 110) dX6_places_103 (by decide) ?_ ?_
            · refine cw_iconst (v := 0) dX6_places_110 (by decide) ?_
              refine cw_sub (ls' := [(9, cR p24), (7, cT p9 m10 (l20 + 1)), (3, cR p7), (2, cT p2 m3 (l4 + 1)), (0, cR a0), (1, cI a1), (5, cI l18), (6, cI l19)]) [0, 2, 3, 4, 5, 6, 8, 9] rfl ?_
              exact hJ31 0
            · refine cw_iconst (v := 1) dX6_places_106 (by decide) ?_
              refine cw_goto (tgt := 111) dX6_places_107 (by decide) ?_
              refine cw_sub (ls' := [(9, cR p24), (7, cT p9 m10 (l20 + 1)), (3, cR p7), (2, cT p2 m3 (l4 + 1)), (0, cR a0), (1, cI a1), (5, cI l18), (6, cI l19)]) [0, 2, 3, 4, 5, 6, 8, 9] rfl ?_
              exact hJ31 1
        · refine cw_weak (c' := Crec21 + 0) (q' := Krec21 + 0) (by omega) (by omega) ?_
          refine cw_goto (tgt := 55) dX6_places_83 (by decide) ?_
          refine cw_sub (ls' := [(3, cR p7), (2, cT p2 m3 (l4 + 1)), (0, cR a0), (1, cI a1), (4, cI l17), (5, cI l18), (6, cI l19), (7, cT p9 m10 (l20 + 1))]) [2, 3, 4, 5, 6, 7, 8, 1] rfl ?_
          exact hrec21 (l17, l18, l19, (l20 + 1))
def b_X6_countOfAll_5 (a0 : Nat) (a1 : Nat) (a2 : Int32) (rec3 : (Int32 × Int32) → GF) : (Int32 × Int32) → GF := fun (s : Int32 × Int32) => match s with
  | (l1, l2) =>
    getI 25 a0 2 fun x4 =>
    if l2 < x4 then
      invI (some (a0, 25)) (g_X6_count a0 l2 a1 a2) fun x5 =>
      rec3 ((l1 + x5), (l2 + 1))
    else
      retG (rI l1)
def g_X6_countOfAll (a0 : Nat) (a1 : Nat) (a2 : Int32) : GF :=
  loopG (b_X6_countOfAll_5 a0 a1 a2) FU (0, 0)
abbrev md_X6_countOfAll : MD := (yX6_countOfAll, cX6_countOfAll, 5, (some (Jvm.ClassFile.FieldType.int)), RX6, 17, 0, 0)
theorem hm_X6_countOfAll : (md_X6_countOfAll).y.cls ≠ "java/lang/invoke/MethodHandle" ∧ (md_X6_countOfAll).y.cls ≠ "java/lang/invoke/VarHandle" ∧ (parseMethodDescriptor (md_X6_countOfAll).y.desc).map (fun d => d.parameters.length) = some 2 := by decide +kernel
theorem m_X6_countOfAll (a0 : Nat) (a1 : Nat) (a2 : Int32) : CMF md_X6_countOfAll [cR a0, cR a1, cI a2] (g_X6_countOfAll a0 a1 a2) := by
  refine cm_of (by decide +kernel) rfl (Nat.le_of_ble_eq_true rfl) ?_
  show CWF _ 0 0 0 [(0, cR a0), (1, cR a1), (2, cI a2)] [] _
  unfold g_X6_countOfAll
  refine cw_iconst (v := 0) dX6_countOfAll_0 (by decide) ?_
  refine cw_istore_n (ls' := [(3, cI 0), (0, cR a0), (1, cR a1), (2, cI a2)]) dX6_countOfAll_1 rfl (by decide) rfl ?_
  refine cw_iconst (v := 0) dX6_countOfAll_2 (by decide) ?_
  refine cw_istore (ls' := [(4, cI 0), (3, cI 0), (0, cR a0), (1, cR a1), (2, cI a2)]) dX6_countOfAll_3 (by decide) rfl ?_
  refine cw_sub (ls' := [(0, cR a0), (1, cR a1), (2, cI a2), (3, cI 0), (4, cI 0)]) [2, 3, 4, 1, 0] rfl ?_
  refine cw_loop0 (lsf := fun (s : Int32 × Int32) => [(0, cR a0), (1, cR a1), (2, cI a2), (3, cI s.1), (4, cI s.2)]) (fun rec3 hrec3 s => ?_) FU (0, 0)
  obtain ⟨l1, l2⟩ := s
  show CWF _ _ _ 5 [(0, cR a0), (1, cR a1), (2, cI a2), (3, cI l1), (4, cI l2)] [] _
  dsimp only [b_X6_countOfAll_5]
  refine cw_iload dX6_countOfAll_5 4 rfl ?_
  refine cw_aload_n dX6_countOfAll_7 rfl 0 rfl ?_
  refine cw_getI (ci := 5) (j := 2) (C := RX6) (T := TX6) (N := 19) rfl (by decide) rfl rfl (Or.inl q1089) fSame_rfl dX6_countOfAll_8 (fun x4 => ?_)
  refine cw_icmp_ge (tgt := 31) dX6_countOfAll_11 (by decide) ?_ ?_
  · refine cw_iload_n dX6_countOfAll_31 rfl 3 rfl ?_
    exact cw_iret rfl dX6_countOfAll_32
  · refine cw_iload_n dX6_countOfAll_14 rfl 3 rfl ?_
    refine cw_aload_n dX6_countOfAll_15 rfl 0 rfl ?_
    refine cw_iload dX6_countOfAll_16 4 rfl ?_
    refine cw_aload_n dX6_countOfAll_18 rfl 1 rfl ?_
    refine cw_iload_n dX6_countOfAll_19 rfl 2 rfl ?_
    refine cw_invI (d2 := md_X6_count) (c := 0) (q := 0) (as := [cR a0, cI l2, cR a1, cI a2]) (mc := 0) (ms := 0) rfl rfl (okV (ci := 5) (C := RX6) (T0 := TX6) (N := 19) (n := 3) rfl rfl rfl dX6_countOfAll_20 (lw_V q550 q551 q552 q137 q553) ⟨rfl, hm_X6_count⟩ (by decide) (by decide) (Nat.le_of_ble_eq_true rfl)) (m_X6_count a0 l2 a1 a2) rfl (fun x5 => ?_)
    refine cw_iadd dX6_countOfAll_23 ?_
    refine cw_istore_n (ls' := [(3, cI (l1 + x5)), (0, cR a0), (1, cR a1), (2, cI a2), (4, cI l2)]) dX6_countOfAll_24 rfl (by decide) rfl ?_
    refine cw_iinc (v := (l2 + 1)) (ls' := [(4, cI (l2 + 1)), (3, cI (l1 + x5)), (0, cR a0), (1, cR a1), (2, cI a2)]) dX6_countOfAll_25 4 rfl rfl (by decide) rfl ?_
    refine cw_goto (tgt := 5) dX6_countOfAll_28 (by decide) ?_
    refine cw_sub (ls' := [(0, cR a0), (1, cR a1), (2, cI a2), (3, cI (l1 + x5)), (4, cI (l2 + 1))]) [2, 3, 4, 1, 0] rfl ?_
    exact hrec3 ((l1 + x5), (l2 + 1))
def b_X6_withLast_13 (a1 : Int32) (a2 : Int32) (p1 : Nat) (m2 : Int32) (rec5 : (Int32 × Nat) → GF) : (Int32 × Nat) → GF := fun (s : Int32 × Nat) => match s with
  | (l3, l4) =>
    hasG p1 l4 fun x6 =>
    if x6 = 0 then
      retG (rI l3)
    else
      nextG p1 m2 l4 fun p7 =>
      castG 27 p7 <|
      getI 27 p7 5 fun x8 =>
      jnG (fun (v9 : Int32) =>
        rec5 ((l3 + v9), (l4 + 1))) fun J10 =>
      jnG (fun (_ : Unit) =>
        J10 0) fun J11 =>
      if x8 = 0 then
        jnG (fun (_ : Unit) =>
          J10 1) fun J12 =>
        if a2 = 0 then
          getI 27 p7 6 fun x13 =>
          if x13 = a1 then
            J12 ()
          else
            J11 ()
        else
          getI 27 p7 6 fun x14 =>
          if x14 ≤ a1 then
            J11 ()
          else
            J12 ()
      else
        J11 ()
def g_X6_withLast (a0 : Nat) (a1 : Int32) (a2 : Int32) : GF :=
  getP 25 a0 7 fun p1 =>
  itG p1 fun m2 =>
  loopG (b_X6_withLast_13 a1 a2 p1 m2) FU (0, 0)
abbrev md_X6_withLast : MD := (yX6_withLast, cX6_withLast, 6, (some (Jvm.ClassFile.FieldType.int)), RX6, 12, 1, 4)
theorem hm_X6_withLast : (md_X6_withLast).y.cls ≠ "java/lang/invoke/MethodHandle" ∧ (md_X6_withLast).y.cls ≠ "java/lang/invoke/VarHandle" ∧ (parseMethodDescriptor (md_X6_withLast).y.desc).map (fun d => d.parameters.length) = some 2 := by decide +kernel
theorem m_X6_withLast (a0 : Nat) (a1 : Int32) (a2 : Int32) : CMF md_X6_withLast [cR a0, cI a1, cI a2] (g_X6_withLast a0 a1 a2) := by
  refine cm_of (by decide +kernel) rfl (Nat.le_of_ble_eq_true rfl) ?_
  show CWF _ 1 4 0 [(0, cR a0), (1, cI a1), (2, cI a2)] [] _
  unfold g_X6_withLast
  refine cw_iconst (v := 0) dX6_withLast_0 (by decide) ?_
  refine cw_istore_n (ls' := [(3, cI 0), (0, cR a0), (1, cI a1), (2, cI a2)]) dX6_withLast_1 rfl (by decide) rfl ?_
  refine cw_aload_n dX6_withLast_2 rfl 1 rfl ?_
  refine cw_getP (ci := 5) (j := 7) (C := RX6) (T := TX6) (N := 19) rfl (by decide) rfl rfl (Or.inl q1099) fSame_rfl dX6_withLast_3 (fun p1 => ?_)
  refine cw_iter (c := 0) (q := 0) (la := 2) (ls' := [(3, cI 0), (0, cR a0), (1, cI a1), (2, cI a2)]) rfl (Or.inr ⟨dX6_withLast_11, rfl⟩) (by decide) (okF (x := ⟨"java/util/List", "iterator", "()Ljava/util/Iterator;"⟩) (ci := 14) (C := RJ2) (T0 := TJ2) (N := 3) (n := 0) rfl (Or.inr ⟨rfl, rfl⟩) rfl dX6_withLast_6 (lw_F q531 q295 q293 q114 q297) (List.mem_iff_getElem?.mpr ⟨3, rfl⟩) (show ("java/util/List" : String) ≠ _ ∧ ("java/util/List" : String) ≠ _ ∧ (parseMethodDescriptor (md_J2_iterator).y.desc).map (fun d => d.parameters.length) = some 0 from ⟨by decide, by decide, (hm_J2_iterator).2.2⟩) (by decide) (by decide) (Nat.le_of_ble_eq_true rfl)) (fun m2 => ?_)
  refine cw_sub (ls' := [(1, cI a1), (2, cI a2), (3, cI 0), (4, cT p1 m2 0)]) [3, 4, 1, 0] rfl ?_
  refine cw_loop0 (lsf := fun (s : Int32 × Nat) => [(1, cI a1), (2, cI a2), (3, cI s.1), (4, cT p1 m2 s.2)]) (fun rec5 hrec5 s => ?_) FU (0, 0)
  obtain ⟨l3, l4⟩ := s
  show CWF _ _ _ 13 [(1, cI a1), (2, cI a2), (3, cI l3), (4, cT p1 m2 l4)] [] _
  dsimp only [b_X6_withLast_13]
  refine cw_sub (ls' := [(4, cT p1 m2 l4), (1, cI a1), (2, cI a2), (3, cI l3)]) [3, 0, 1, 2] rfl ?_
  refine cw_hasNext (la := 2) rfl (Or.inr ⟨dX6_withLast_13, rfl⟩) (fun x => okF (x := ⟨"java/util/Iterator", "hasNext", "()Z"⟩) (ci := 15) (C := RJ18) (T0 := TJ18) (N := 4) (n := 0) rfl (Or.inl rfl) rfl dX6_withLast_15 (lw_F q533 q339 q337 q134 q341) (List.mem_iff_getElem?.mpr ⟨4, rfl⟩) (show ("java/util/Iterator" : String) ≠ _ ∧ ("java/util/Iterator" : String) ≠ _ ∧ (parseMethodDescriptor (md_J18_hasNext).y.desc).map (fun d => d.parameters.length) = some 0 from ⟨by decide, by decide, (hm_J18_hasNext).2.2⟩) (by decide) (by decide) (Nat.le_of_ble_eq_true rfl)) (fun x6 => ?_)
  refine cw_if_eq (tgt := 79) dX6_withLast_20 (by decide) ?_ ?_
  · refine cw_iload_n dX6_withLast_79 rfl 3 rfl ?_
    exact cw_iret rfl dX6_withLast_80
  · refine cw_next (la := 2) rfl (Or.inr ⟨dX6_withLast_23, rfl⟩) (fun x => okF (x := ⟨"java/util/Iterator", "next", "()Ljava/lang/Object;"⟩) (ci := 15) (C := RJ18) (T0 := TJ18) (N := 4) (n := 0) rfl (Or.inl rfl) rfl dX6_withLast_25 (lw_F q535 q432 q430 q134 q434) (List.mem_iff_getElem?.mpr ⟨6, rfl⟩) (show ("java/util/Iterator" : String) ≠ _ ∧ ("java/util/Iterator" : String) ≠ _ ∧ (parseMethodDescriptor (md_J18_next).y.desc).map (fun d => d.parameters.length) = some 0 from ⟨by decide, by decide, (hm_J18_next).2.2⟩) (by decide) (by decide) (Nat.le_of_ble_eq_true rfl)) (fun p7 => ?_)
    refine cw_cast (ci := 7) (T := TX8) (N := 10) (C := RX8) rfl rfl q536 (Or.inl rfl) dX6_withLast_30 ?_
    refine cw_astore (ls' := [(5, cR p7), (4, cT p1 m2 (l4 + 1)), (1, cI a1), (2, cI a2), (3, cI l3)]) dX6_withLast_33 (by decide) rfl ?_
    refine cw_iload_n dX6_withLast_35 rfl 4 rfl ?_
    refine cw_aload dX6_withLast_36 0 rfl ?_
    refine cw_getI (ci := 7) (j := 5) (C := RX8) (T := TX8) (N := 10) rfl (by decide) rfl rfl (Or.inr ⟨_, q1262⟩) fSame_rfl dX6_withLast_38 (fun x8 => ?_)
    refine cw_jn (cj := 0) (kj := 0) (pcj := 74) (lsf := fun (s : Int32) => [(4, cT p1 m2 (l4 + 1)), (1, cI a1), (2, cI a2)]) (stf := fun (s : Int32) => [cI s, cI l3]) (fun s => ?_) (fun J10 hJ10 => ?_)
    · obtain ⟨v9, e⟩ : ∃ z, z = s := ⟨_, rfl⟩
      subst e
      show CWF _ _ _ 74 [(4, cT p1 m2 (l4 + 1)), (1, cI a1), (2, cI a2)] [cI v9, cI l3] _
      refine cw_iadd dX6_withLast_74 ?_
      refine cw_istore_n (ls' := [(3, cI (l3 + v9)), (4, cT p1 m2 (l4 + 1)), (1, cI a1), (2, cI a2)]) dX6_withLast_75 rfl (by decide) rfl ?_
      refine cw_goto (tgt := 13) dX6_withLast_76 (by decide) ?_
      refine cw_sub (ls' := [(1, cI a1), (2, cI a2), (3, cI (l3 + v9)), (4, cT p1 m2 (l4 + 1))]) [2, 3, 0, 1] rfl ?_
      exact hrec5 ((l3 + v9), (l4 + 1))
    · refine cw_jn (cj := 0) (kj := 0) (pcj := 73) (lsf := fun (s : Unit) => [(4, cT p1 m2 (l4 + 1)), (1, cI a1), (2, cI a2)]) (stf := fun (s : Unit) => [cI l3]) (fun s => ?_) (fun J11 hJ11 => ?_)
      · show CWF _ _ _ 73 [(4, cT p1 m2 (l4 + 1)), (1, cI a1), (2, cI a2)] [cI l3] _
        refine cw_iconst (v := 0) dX6_withLast_73 (by decide) ?_
        exact hJ10 0
      · refine cw_if_ne (tgt := 73) dX6_withLast_41 (by decide) ?_ ?_
        · refine cw_sub (ls' := [(4, cT p1 m2 (l4 + 1)), (1, cI a1), (2, cI a2)]) [1, 2, 3] rfl ?_
          exact hJ11 ()
        · refine cw_iload_n dX6_withLast_44 rfl 3 rfl ?_
          refine cw_jn (cj := 0) (kj := 0) (pcj := 69) (lsf := fun (s : Unit) => [(4, cT p1 m2 (l4 + 1)), (1, cI a1), (2, cI a2)]) (stf := fun (s : Unit) => [cI l3]) (fun s => ?_) (fun J12 hJ12 => ?_)
          · show CWF _ _ _ 69 [(4, cT p1 m2 (l4 + 1)), (1, cI a1), (2, cI a2)] [cI l3] _
            refine cw_iconst (v := 1) dX6_withLast_69 (by decide) ?_
            refine cw_goto (tgt := 74) dX6_withLast_70 (by decide) ?_
            exact hJ10 1
          · refine cw_if_eq (tgt := 60) dX6_withLast_45 (by decide) ?_ ?_
            · refine cw_aload dX6_withLast_60 0 rfl ?_
              refine cw_getI (ci := 7) (j := 6) (C := RX8) (T := TX8) (N := 10) rfl (by decide) rfl rfl (Or.inr ⟨_, q1264⟩) fSame_rfl dX6_withLast_62 (fun x13 => ?_)
              refine cw_iload_n dX6_withLast_65 rfl 2 rfl ?_
              refine cw_icmp_ne (tgt := 73) dX6_withLast_66 (by decide) ?_ ?_
              · refine cw_sub (ls' := [(4, cT p1 m2 (l4 + 1)), (1, cI a1), (2, cI a2)]) [1, 2, 3] rfl ?_
                exact hJ11 ()
              · refine cw_sub (ls' := [(4, cT p1 m2 (l4 + 1)), (1, cI a1), (2, cI a2)]) [1, 2, 3] rfl ?_
                exact hJ12 ()
            · refine cw_aload dX6_withLast_48 0 rfl ?_
              refine cw_getI (ci := 7) (j := 6) (C := RX8) (T := TX8) (N := 10) rfl (by decide) rfl rfl (Or.inr ⟨_, q1264⟩) fSame_rfl dX6_withLast_50 (fun x14 => ?_)
              refine cw_iload_n dX6_withLast_53 rfl 2 rfl ?_
              refine cw_icmp_le (tgt := 73) dX6_withLast_54 (by decide) ?_ ?_
              · refine cw_sub (ls' := [(4, cT p1 m2 (l4 + 1)), (1, cI a1), (2, cI a2)]) [1, 2, 3] rfl ?_
                exact hJ11 ()
              · refine cw_goto (tgt := 69) dX6_withLast_57 (by decide) ?_
                refine cw_sub (ls' := [(4, cT p1 m2 (l4 + 1)), (1, cI a1), (2, cI a2)]) [1, 2, 3] rfl ?_
                exact hJ12 ()
