/-! SCRUTINEERY: its methods, part 1 -/
set_option maxRecDepth 100000
def g_X4_pupil (a0 : Nat) : GF :=
  getP 23 a0 1 fun p1 =>
  retG (rR p1)
abbrev md_X4_pupil : MD := (yX4_pupil, cX4_pupil, 1, (some ((Jvm.ClassFile.FieldType.object "Scrutineery$Person"))), RX4, 10, 0, 0)
theorem hm_X4_pupil : (md_X4_pupil).y.cls ≠ "java/lang/invoke/MethodHandle" ∧ (md_X4_pupil).y.cls ≠ "java/lang/invoke/VarHandle" ∧ (parseMethodDescriptor (md_X4_pupil).y.desc).map (fun d => d.parameters.length) = some 0 := by decide +kernel
theorem m_X4_pupil (a0 : Nat) : CMF md_X4_pupil [cR a0] (g_X4_pupil a0) := by
  refine cm_of (by decide +kernel) rfl (Nat.le_of_ble_eq_true rfl) ?_
  show CWF _ 0 0 0 [(0, cR a0)] [] _
  unfold g_X4_pupil
  refine cw_aload_n dX4_pupil_0 rfl 0 rfl ?_
  refine cw_getP (ci := 3) (j := 1) (C := RX4) (T := TX4) (N := 3) rfl (by decide) rfl rfl (Or.inl q930) fSame_rfl dX4_pupil_1 (fun p1 => ?_)
  exact cw_aret rfl rfl dX4_pupil_4
def g_X4_day (a0 : Nat) : GF :=
  getI 23 a0 2 fun x1 =>
  retG (rI x1)
abbrev md_X4_day : MD := (yX4_day, cX4_day, 1, (some (Jvm.ClassFile.FieldType.int)), RX4, 10, 0, 0)
theorem hm_X4_day : (md_X4_day).y.cls ≠ "java/lang/invoke/MethodHandle" ∧ (md_X4_day).y.cls ≠ "java/lang/invoke/VarHandle" ∧ (parseMethodDescriptor (md_X4_day).y.desc).map (fun d => d.parameters.length) = some 0 := by decide +kernel
theorem m_X4_day (a0 : Nat) : CMF md_X4_day [cR a0] (g_X4_day a0) := by
  refine cm_of (by decide +kernel) rfl (Nat.le_of_ble_eq_true rfl) ?_
  show CWF _ 0 0 0 [(0, cR a0)] [] _
  unfold g_X4_day
  refine cw_aload_n dX4_day_0 rfl 0 rfl ?_
  refine cw_getI (ci := 3) (j := 2) (C := RX4) (T := TX4) (N := 3) rfl (by decide) rfl rfl (Or.inl q931) fSame_rfl dX4_day_1 (fun x1 => ?_)
  exact cw_iret rfl dX4_day_4
def b_X1_isPupil_5 (a0 : Nat) (a1 : Nat) (a2 : Nat) (rec3 : (Int32 × Int32) → GF) : (Int32 × Int32) → GF := fun (s : Int32 × Int32) => match s with
  | (l1, l2) =>
    getP 20 a0 1 fun p4 =>
    invI (some (p4, 8)) (s_size p4) fun x5 =>
    if l2 < x5 then
      getP 20 a0 1 fun p6 =>
      invP (some (p6, 8)) (s_get p6 l2) fun p7 =>
      castG 23 p7 <|
      invP (some (p7, 23)) (g_X4_teacher p7) fun p8 =>
      jnG (fun (v9 : Int32) =>
        rec3 ((l1 ||| v9), (l2 + 1))) fun J10 =>
      jnG (fun (_ : Unit) =>
        J10 0) fun J11 =>
      acG p8 a2
        (getP 20 a0 1 fun p12 =>
          invP (some (p12, 8)) (s_get p12 l2) fun p13 =>
          castG 23 p13 <|
          invP (some (p13, 23)) (g_X4_pupil p13) fun p14 =>
          acG p14 a1
            (getP 20 a0 1 fun p15 =>
              invP (some (p15, 8)) (s_get p15 l2) fun p16 =>
              castG 23 p16 <|
              invI (some (p16, 23)) (g_X4_day p16) fun x17 =>
              getI 20 a0 9 fun x18 =>
              if x17 < (x18 - 60) then
                J11 ()
              else
                J10 1)
            (J11 ()))
        (J11 ())
    else
      retZ l1
def g_X1_isPupil (a0 : Nat) (a1 : Nat) (a2 : Nat) : GF :=
  loopG (b_X1_isPupil_5 a0 a1 a2) FU (0, 0)
abbrev md_X1_isPupil : MD := (yX1_isPupil, cX1_isPupil, 5, (some (Jvm.ClassFile.FieldType.boolean)), RX1, 13, 0, 0)
theorem hm_X1_isPupil : (md_X1_isPupil).y.cls ≠ "java/lang/invoke/MethodHandle" ∧ (md_X1_isPupil).y.cls ≠ "java/lang/invoke/VarHandle" ∧ (parseMethodDescriptor (md_X1_isPupil).y.desc).map (fun d => d.parameters.length) = some 2 := by decide +kernel
theorem m_X1_isPupil (a0 : Nat) (a1 : Nat) (a2 : Nat) : CMF md_X1_isPupil [cR a0, cR a1, cR a2] (g_X1_isPupil a0 a1 a2) := by
  refine cm_of (by decide +kernel) rfl (Nat.le_of_ble_eq_true rfl) ?_
  show CWF _ 0 0 0 [(0, cR a0), (1, cR a1), (2, cR a2)] [] _
  unfold g_X1_isPupil
  refine cw_iconst (v := 0) dX1_isPupil_0 (by decide) ?_
  refine cw_istore_n (ls' := [(3, cI 0), (0, cR a0), (1, cR a1), (2, cR a2)]) dX1_isPupil_1 rfl (by decide) rfl ?_
  refine cw_iconst (v := 0) dX1_isPupil_2 (by decide) ?_
  refine cw_istore (ls' := [(4, cI 0), (3, cI 0), (0, cR a0), (1, cR a1), (2, cR a2)]) dX1_isPupil_3 (by decide) rfl ?_
  refine cw_sub (ls' := [(0, cR a0), (1, cR a1), (2, cR a2), (3, cI 0), (4, cI 0)]) [2, 3, 4, 1, 0] rfl ?_
  refine cw_loop0 (lsf := fun (s : Int32 × Int32) => [(0, cR a0), (1, cR a1), (2, cR a2), (3, cI s.1), (4, cI s.2)]) (fun rec3 hrec3 s => ?_) FU (0, 0)
  obtain ⟨l1, l2⟩ := s
  show CWF _ _ _ 5 [(0, cR a0), (1, cR a1), (2, cR a2), (3, cI l1), (4, cI l2)] [] _
  dsimp only [b_X1_isPupil_5]
  refine cw_iload dX1_isPupil_5 4 rfl ?_
  refine cw_aload_n dX1_isPupil_7 rfl 0 rfl ?_
  refine cw_getP (ci := 0) (j := 1) (C := RX1) (T := TX1) (N := 11) rfl (by decide) rfl rfl (Or.inl q207) fSame_rfl dX1_isPupil_8 (fun p4 => ?_)
  refine cw_invI (d2 := md_J2_size) (c := 0) (q := 0) (as := [cR p4]) (mc := 0) (ms := 0) rfl rfl (okF (x := ⟨"java/util/List", "size", "()I"⟩) (ci := 14) (C := RJ2) (T0 := TJ2) (N := 3) (n := 0) rfl (Or.inr ⟨rfl, rfl⟩) rfl dX1_isPupil_11 (lw_F q246 q251 q249 q114 q253) (List.mem_iff_getElem?.mpr ⟨1, rfl⟩) (show ("java/util/List" : String) ≠ _ ∧ ("java/util/List" : String) ≠ _ ∧ (parseMethodDescriptor (md_J2_size).y.desc).map (fun d => d.parameters.length) = some 0 from ⟨by decide, by decide, (hm_J2_size).2.2⟩) (by decide) (by decide) (Nat.le_of_ble_eq_true rfl)) (c_size p4) rfl (fun x5 => ?_)
  refine cw_icmp_ge (tgt := 102) dX1_isPupil_16 (by decide) ?_ ?_
  · refine cw_iload_n dX1_isPupil_102 rfl 3 rfl ?_
    exact cw_zret rfl dX1_isPupil_103
  · refine cw_iload_n dX1_isPupil_19 rfl 3 rfl ?_
    refine cw_aload_n dX1_isPupil_20 rfl 0 rfl ?_
    refine cw_getP (ci := 0) (j := 1) (C := RX1) (T := TX1) (N := 11) rfl (by decide) rfl rfl (Or.inl q207) fSame_rfl dX1_isPupil_21 (fun p6 => ?_)
    refine cw_iload dX1_isPupil_24 4 rfl ?_
    refine cw_invP (d2 := md_J2_get) (c := 0) (q := 0) (as := [cR p6, cI l2]) (mc := 0) (ms := 0) rfl rfl (okF (x := ⟨"java/util/List", "get", "(I)Ljava/lang/Object;"⟩) (ci := 14) (C := RJ2) (T0 := TJ2) (N := 3) (n := 1) rfl (Or.inr ⟨rfl, rfl⟩) rfl dX1_isPupil_26 (lw_F q262 q267 q265 q114 q269) (List.mem_iff_getElem?.mpr ⟨2, rfl⟩) (show ("java/util/List" : String) ≠ _ ∧ ("java/util/List" : String) ≠ _ ∧ (parseMethodDescriptor (md_J2_get).y.desc).map (fun d => d.parameters.length) = some 1 from ⟨by decide, by decide, (hm_J2_get).2.2⟩) (by decide) (by decide) (Nat.le_of_ble_eq_true rfl)) (c_get p6 l2) rfl (fun p7 => ?_)
    refine cw_cast (ci := 3) (T := TX4) (N := 3) (C := RX4) rfl rfl q920 (Or.inl rfl) dX1_isPupil_31 ?_
    refine cw_invP (d2 := md_X4_teacher) (c := 0) (q := 0) (as := [cR p7]) (mc := 0) (ms := 0) rfl rfl (okV (ci := 3) (C := RX4) (T0 := TX4) (N := 3) (n := 0) rfl rfl rfl dX1_isPupil_34 (lw_V q976 q977 q978 q133 q979) ⟨rfl, hm_X4_teacher⟩ (by decide) (by decide) (Nat.le_of_ble_eq_true rfl)) (m_X4_teacher p7) rfl (fun p8 => ?_)
    refine cw_aload_n dX1_isPupil_37 rfl 2 rfl ?_
    refine cw_jn (cj := 0) (kj := 0) (pcj := 94) (lsf := fun (s : Int32) => [(0, cR a0), (1, cR a1), (2, cR a2), (4, cI l2)]) (stf := fun (s : Int32) => [cI s, cI l1]) (fun s => ?_) (fun J10 hJ10 => ?_)
    · obtain ⟨v9, e⟩ : ∃ z, z = s := ⟨_, rfl⟩
      subst e
      show CWF _ _ _ 94 [(0, cR a0), (1, cR a1), (2, cR a2), (4, cI l2)] [cI v9, cI l1] _
      refine cw_ior dX1_isPupil_94 ?_
      refine cw_istore_n (ls' := [(3, cI (l1 ||| v9)), (0, cR a0), (1, cR a1), (2, cR a2), (4, cI l2)]) dX1_isPupil_95 rfl (by decide) rfl ?_
      refine cw_iinc (v := (l2 + 1)) (ls' := [(4, cI (l2 + 1)), (3, cI (l1 ||| v9)), (0, cR a0), (1, cR a1), (2, cR a2)]) dX1_isPupil_96 4 rfl rfl (by decide) rfl ?_
      refine cw_goto (tgt := 5) dX1_isPupil_99 (by decide) ?_
      refine cw_sub (ls' := [(0, cR a0), (1, cR a1), (2, cR a2), (3, cI (l1 ||| v9)), (4, cI (l2 + 1))]) [2, 3, 4, 1, 0] rfl ?_
      exact hrec3 ((l1 ||| v9), (l2 + 1))
    · refine cw_jn (cj := 0) (kj := 0) (pcj := 93) (lsf := fun (s : Unit) => [(0, cR a0), (1, cR a1), (2, cR a2), (4, cI l2)]) (stf := fun (s : Unit) => [cI l1]) (fun s => ?_) (fun J11 hJ11 => ?_)
      · show CWF _ _ _ 93 [(0, cR a0), (1, cR a1), (2, cR a2), (4, cI l2)] [cI l1] _
        refine cw_iconst (v := 0) dX1_isPupil_93 (by decide) ?_
        exact hJ10 0
      · refine cw_acmp_ne (tgt := 93) dX1_isPupil_38 (by decide) ?_ ?_
        · refine cw_sub (ls' := [(0, cR a0), (1, cR a1), (2, cR a2), (4, cI l2)]) [0, 1, 2, 4] rfl ?_
          exact hJ11 ()
        · refine cw_aload_n dX1_isPupil_41 rfl 0 rfl ?_
          refine cw_getP (ci := 0) (j := 1) (C := RX1) (T := TX1) (N := 11) rfl (by decide) rfl rfl (Or.inl q207) fSame_rfl dX1_isPupil_42 (fun p12 => ?_)
          refine cw_iload dX1_isPupil_45 4 rfl ?_
          refine cw_invP (d2 := md_J2_get) (c := 0) (q := 0) (as := [cR p12, cI l2]) (mc := 0) (ms := 0) rfl rfl (okF (x := ⟨"java/util/List", "get", "(I)Ljava/lang/Object;"⟩) (ci := 14) (C := RJ2) (T0 := TJ2) (N := 3) (n := 1) rfl (Or.inr ⟨rfl, rfl⟩) rfl dX1_isPupil_47 (lw_F q262 q267 q265 q114 q269) (List.mem_iff_getElem?.mpr ⟨2, rfl⟩) (show ("java/util/List" : String) ≠ _ ∧ ("java/util/List" : String) ≠ _ ∧ (parseMethodDescriptor (md_J2_get).y.desc).map (fun d => d.parameters.length) = some 1 from ⟨by decide, by decide, (hm_J2_get).2.2⟩) (by decide) (by decide) (Nat.le_of_ble_eq_true rfl)) (c_get p12 l2) rfl (fun p13 => ?_)
          refine cw_cast (ci := 3) (T := TX4) (N := 3) (C := RX4) rfl rfl q920 (Or.inl rfl) dX1_isPupil_52 ?_
          refine cw_invP (d2 := md_X4_pupil) (c := 0) (q := 0) (as := [cR p13]) (mc := 0) (ms := 0) rfl rfl (okV (ci := 3) (C := RX4) (T0 := TX4) (N := 3) (n := 0) rfl rfl rfl dX1_isPupil_55 (lw_V q980 q981 q982 q133 q983) ⟨rfl, hm_X4_pupil⟩ (by decide) (by decide) (Nat.le_of_ble_eq_true rfl)) (m_X4_pupil p13) rfl (fun p14 => ?_)
          refine cw_aload_n dX1_isPupil_58 rfl 1 rfl ?_
          refine cw_acmp_ne (tgt := 93) dX1_isPupil_59 (by decide) ?_ ?_
          · refine cw_sub (ls' := [(0, cR a0), (1, cR a1), (2, cR a2), (4, cI l2)]) [0, 1, 2, 4] rfl ?_
            exact hJ11 ()
          · refine cw_aload_n dX1_isPupil_62 rfl 0 rfl ?_
            refine cw_getP (ci := 0) (j := 1) (C := RX1) (T := TX1) (N := 11) rfl (by decide) rfl rfl (Or.inl q207) fSame_rfl dX1_isPupil_63 (fun p15 => ?_)
            refine cw_iload dX1_isPupil_66 4 rfl ?_
            refine cw_invP (d2 := md_J2_get) (c := 0) (q := 0) (as := [cR p15, cI l2]) (mc := 0) (ms := 0) rfl rfl (okF (x := ⟨"java/util/List", "get", "(I)Ljava/lang/Object;"⟩) (ci := 14) (C := RJ2) (T0 := TJ2) (N := 3) (n := 1) rfl (Or.inr ⟨rfl, rfl⟩) rfl dX1_isPupil_68 (lw_F q262 q267 q265 q114 q269) (List.mem_iff_getElem?.mpr ⟨2, rfl⟩) (show ("java/util/List" : String) ≠ _ ∧ ("java/util/List" : String) ≠ _ ∧ (parseMethodDescriptor (md_J2_get).y.desc).map (fun d => d.parameters.length) = some 1 from ⟨by decide, by decide, (hm_J2_get).2.2⟩) (by decide) (by decide) (Nat.le_of_ble_eq_true rfl)) (c_get p15 l2) rfl (fun p16 => ?_)
            refine cw_cast (ci := 3) (T := TX4) (N := 3) (C := RX4) rfl rfl q920 (Or.inl rfl) dX1_isPupil_73 ?_
            refine cw_invI (d2 := md_X4_day) (c := 0) (q := 0) (as := [cR p16]) (mc := 0) (ms := 0) rfl rfl (okV (ci := 3) (C := RX4) (T0 := TX4) (N := 3) (n := 0) rfl rfl rfl dX1_isPupil_76 (lw_V q984 q985 q986 q133 q987) ⟨rfl, hm_X4_day⟩ (by decide) (by decide) (Nat.le_of_ble_eq_true rfl)) (m_X4_day p16) rfl (fun x17 => ?_)
            refine cw_aload_n dX1_isPupil_79 rfl 0 rfl ?_
            refine cw_getI (ci := 0) (j := 9) (C := RX1) (T := TX1) (N := 11) rfl (by decide) rfl rfl (Or.inl q215) fSame_rfl dX1_isPupil_80 (fun x18 => ?_)
            refine cw_bipush (v := 60) dX1_isPupil_83 (by decide) ?_
            refine cw_isub dX1_isPupil_85 ?_
            refine cw_icmp_lt (tgt := 93) dX1_isPupil_86 (by decide) ?_ ?_
            · refine cw_sub (ls' := [(0, cR a0), (1, cR a1), (2, cR a2), (4, cI l2)]) [0, 1, 2, 4] rfl ?_
              exact hJ11 ()
            · refine cw_iconst (v := 1) dX1_isPupil_89 (by decide) ?_
              refine cw_goto (tgt := 94) dX1_isPupil_90 (by decide) ?_
              refine cw_sub (ls' := [(0, cR a0), (1, cR a1), (2, cR a2), (4, cI l2)]) [0, 1, 2, 4] rfl ?_
              exact hJ10 1
def g_X1_test (a0 : Nat) (a1 : Int32) (a2 : Int32) (a3 : Int32) : GF :=
  getP 20 a0 0 fun p1 =>
  invP none (g_X1_at p1 a1) fun p2 =>
  castG 22 p2 <|
  getP 20 a0 0 fun p3 =>
  invP none (g_X1_at p3 a2) fun p4 =>
  castG 22 p4 <|
  invI none (g_X1_isBetween a3 0 100) fun x5 =>
  jnG (fun (v6 : Int32) =>
    invV none (g_X1_requireArgument v6) <|
    getI 22 p4 5 fun x7 =>
    jnG (fun (v8 : Int32) =>
      invV none (g_X1_requireState v8) <|
      getI 22 p2 8 fun x9 =>
      getI 22 p2 8 fun x10 =>
      jnG (fun (v11 : Int32) =>
        putI 22 p2 8 (x9 + v11) <|
        getI 22 p2 8 fun x12 =>
        retG (rI x12)) fun J13 =>
      if a3 < (60 + (5 * x10)) then
        J13 0
      else
        J13 1) fun J14 =>
    jnG (fun (_ : Unit) =>
      J14 0) fun J15 =>
    if x7 < 2 then
      J15 ()
    else
      getP 22 p4 3 fun p16 =>
      invI (some (p16, 8)) (s_contains p16 p2) fun x17 =>
      if x17 = 0 then
        invI (some (a0, 20)) (g_X1_isPupil a0 p2 p4) fun x18 =>
        if x18 = 0 then
          getI 22 p2 8 fun x19 =>
          if x19 < 5 then
            J14 1
          else
            J15 ()
        else
          J15 ()
      else
        J15 ()) fun J20 =>
  jnG (fun (_ : Unit) =>
    J20 0) fun J21 =>
  if x5 = 0 then
    J21 ()
  else
    acG p2 p4
      (J21 ())
      (J20 1)
abbrev md_X1_test : MD := (yX1_test, cX1_test, 6, (some (Jvm.ClassFile.FieldType.int)), RX1, 16, 4, 24)
theorem hm_X1_test : (md_X1_test).y.cls ≠ "java/lang/invoke/MethodHandle" ∧ (md_X1_test).y.cls ≠ "java/lang/invoke/VarHandle" ∧ (parseMethodDescriptor (md_X1_test).y.desc).map (fun d => d.parameters.length) = some 3 := by decide +kernel
theorem m_X1_test (a0 : Nat) (a1 : Int32) (a2 : Int32) (a3 : Int32) : CMF md_X1_test [cR a0, cI a1, cI a2, cI a3] (g_X1_test a0 a1 a2 a3) := by
  refine cm_of (by decide +kernel) rfl (Nat.le_of_ble_eq_true rfl) ?_
  show CWF _ 4 24 0 [(0, cR a0), (1, cI a1), (2, cI a2), (3, cI a3)] [] _
  unfold g_X1_test
  refine cw_aload_n dX1_test_0 rfl 0 rfl ?_
  refine cw_getP (ci := 0) (j := 0) (C := RX1) (T := TX1) (N := 11) rfl (by decide) rfl rfl (Or.inl q206) fSame_rfl dX1_test_1 (fun p1 => ?_)
  refine cw_iload_n dX1_test_4 rfl 1 rfl ?_
  refine cw_invP (d2 := md_X1_at) (c := 3) (q := 18) (as := [cR p1, cI a1]) (mc := 1) (ms := 6) rfl rfl (okS (n := 2) rfl dX1_test_5 (lw_S q883 q884 q111 q885) hm_X1_at (by decide) (by decide) (Nat.le_of_ble_eq_true rfl)) (m_X1_at p1 a1) rfl (fun p2 => ?_)
  refine cw_cast (ci := 2) (T := TX3) (N := 9) (C := RX3) rfl rfl q733 (Or.inl rfl) dX1_test_8 ?_
  refine cw_astore (ls' := [(4, cR p2), (0, cR a0), (1, cI a1), (2, cI a2), (3, cI a3)]) dX1_test_11 (by decide) rfl ?_
  refine cw_aload_n dX1_test_13 rfl 1 rfl ?_
  refine cw_getP (ci := 0) (j := 0) (C := RX1) (T := TX1) (N := 11) rfl (by decide) rfl rfl (Or.inl q206) fSame_rfl dX1_test_14 (fun p3 => ?_)
  refine cw_iload_n dX1_test_17 rfl 3 rfl ?_
  refine cw_invP (d2 := md_X1_at) (c := 2) (q := 12) (as := [cR p3, cI a2]) (mc := 1) (ms := 6) rfl rfl (okS (n := 2) rfl dX1_test_18 (lw_S q883 q884 q111 q885) hm_X1_at (by decide) (by decide) (Nat.le_of_ble_eq_true rfl)) (m_X1_at p3 a2) rfl (fun p4 => ?_)
  refine cw_cast (ci := 2) (T := TX3) (N := 9) (C := RX3) rfl rfl q733 (Or.inl rfl) dX1_test_21 ?_
  refine cw_astore (ls' := [(5, cR p4), (4, cR p2), (0, cR a0), (1, cI a1), (2, cI a2), (3, cI a3)]) dX1_test_24 (by decide) rfl ?_
  refine cw_iload_n dX1_test_26 rfl 5 rfl ?_
  refine cw_iconst (v := 0) dX1_test_27 (by decide) ?_
  refine cw_bipush (v := 100) dX1_test_28 (by decide) ?_
  refine cw_invI (d2 := md_X1_isBetween) (c := 2) (q := 12) (as := [cI a3, cI 0, cI 100]) (mc := 0) (ms := 0) rfl rfl (okS (n := 3) rfl dX1_test_30 (lw_S q258 q259 q111 q260) hm_X1_isBetween (by decide) (by decide) (Nat.le_of_ble_eq_true rfl)) (m_X1_isBetween a3 0 100) rfl (fun x5 => ?_)
  refine cw_jn (cj := 2) (kj := 12) (pcj := 48) (lsf := fun (s : Int32) => [(5, cR p4), (4, cR p2), (0, cR a0), (3, cI a3)]) (stf := fun (s : Int32) => [cI s]) (fun s => ?_) (fun J20 hJ20 => ?_)
  · obtain ⟨v6, e⟩ : ∃ z, z = s := ⟨_, rfl⟩
    subst e
    show CWF _ _ _ 48 [(5, cR p4), (4, cR p2), (0, cR a0), (3, cI a3)] [cI v6] _
    refine cw_invV (d2 := md_X1_requireArgument) (c := 1) (q := 6) (as := [cI v6]) (mc := 1) (ms := 6) rfl rfl (okS (n := 1) rfl dX1_test_48 (lw_S q744 q745 q111 q746) hm_X1_requireArgument (by decide) (by decide) (Nat.le_of_ble_eq_true rfl)) (m_X1_requireArgument v6) rfl ?_
    refine cw_aload dX1_test_51 0 rfl ?_
    refine cw_getI (ci := 2) (j := 5) (C := RX3) (T := TX3) (N := 9) rfl (by decide) rfl rfl (Or.inr ⟨_, q816⟩) fSame_rfl dX1_test_53 (fun x7 => ?_)
    refine cw_iconst (v := 2) dX1_test_56 (by decide) ?_
    refine cw_jn (cj := 1) (kj := 6) (pcj := 100) (lsf := fun (s : Int32) => [(4, cR p2), (3, cI a3)]) (stf := fun (s : Int32) => [cI s]) (fun s => ?_) (fun J14 hJ14 => ?_)
    · obtain ⟨v8, e⟩ : ∃ z, z = s := ⟨_, rfl⟩
      subst e
      show CWF _ _ _ 100 [(4, cR p2), (3, cI a3)] [cI v8] _
      refine cw_invV (d2 := md_X1_requireState) (c := 0) (q := 0) (as := [cI v8]) (mc := 1) (ms := 6) rfl rfl (okS (n := 1) rfl dX1_test_100 (lw_S q772 q773 q111 q774) hm_X1_requireState (by decide) (by decide) (Nat.le_of_ble_eq_true rfl)) (m_X1_requireState v8) rfl ?_
      refine cw_aload dX1_test_103 0 rfl ?_
      refine cw_dup dX1_test_105 rfl ?_
      refine cw_getI (ci := 2) (j := 8) (C := RX3) (T := TX3) (N := 9) rfl (by decide) rfl rfl (Or.inr ⟨_, q821⟩) fSame_rfl dX1_test_106 (fun x9 => ?_)
      refine cw_iload_n dX1_test_109 rfl 1 rfl ?_
      refine cw_bipush (v := 60) dX1_test_110 (by decide) ?_
      refine cw_iconst (v := 5) dX1_test_112 (by decide) ?_
      refine cw_aload dX1_test_113 0 rfl ?_
      refine cw_getI (ci := 2) (j := 8) (C := RX3) (T := TX3) (N := 9) rfl (by decide) rfl rfl (Or.inr ⟨_, q821⟩) fSame_rfl dX1_test_115 (fun x10 => ?_)
      refine cw_imul dX1_test_118 ?_
      refine cw_iadd dX1_test_119 ?_
      refine cw_jn (cj := 0) (kj := 0) (pcj := 128) (lsf := fun (s : Int32) => [(4, cR p2)]) (stf := fun (s : Int32) => [cI s, cI x9, cR p2]) (fun s => ?_) (fun J13 hJ13 => ?_)
      · obtain ⟨v11, e⟩ : ∃ z, z = s := ⟨_, rfl⟩
        subst e
        show CWF _ _ _ 128 [(4, cR p2)] [cI v11, cI x9, cR p2] _
        refine cw_iadd dX1_test_128 ?_
        refine cw_putI (ci := 2) (j := 8) (C := RX3) (T := TX3) (N := 9) rfl (by decide) rfl rfl (Or.inr ⟨_, q821⟩) fSame_rfl (Or.inl rfl) dX1_test_129 ?_
        refine cw_aload dX1_test_132 0 rfl ?_
        refine cw_getI (ci := 2) (j := 8) (C := RX3) (T := TX3) (N := 9) rfl (by decide) rfl rfl (Or.inr ⟨_, q821⟩) fSame_rfl dX1_test_134 (fun x12 => ?_)
        exact cw_iret rfl dX1_test_137
      · refine cw_icmp_lt (tgt := 127) dX1_test_120 (by decide) ?_ ?_
        · refine cw_iconst (v := 0) dX1_test_127 (by decide) ?_
          refine cw_sub (ls' := [(4, cR p2)]) [0] rfl ?_
          exact hJ13 0
        · refine cw_iconst (v := 1) dX1_test_123 (by decide) ?_
          refine cw_goto (tgt := 128) dX1_test_124 (by decide) ?_
          refine cw_sub (ls' := [(4, cR p2)]) [0] rfl ?_
          exact hJ13 1
    · refine cw_jn (cj := 1) (kj := 6) (pcj := 99) (lsf := fun (s : Unit) => [(4, cR p2), (3, cI a3)]) (stf := fun (s : Unit) => []) (fun s => ?_) (fun J15 hJ15 => ?_)
      · show CWF _ _ _ 99 [(4, cR p2), (3, cI a3)] [] _
        refine cw_iconst (v := 0) dX1_test_99 (by decide) ?_
        exact hJ14 0
      · refine cw_icmp_lt (tgt := 99) dX1_test_57 (by decide) ?_ ?_
        · refine cw_sub (ls' := [(4, cR p2), (3, cI a3)]) [1, 3] rfl ?_
          exact hJ15 ()
        · refine cw_aload dX1_test_60 0 rfl ?_
          refine cw_getP (ci := 2) (j := 3) (C := RX3) (T := TX3) (N := 9) rfl (by decide) rfl rfl (Or.inr ⟨_, q813⟩) fSame_rfl dX1_test_62 (fun p16 => ?_)
          refine cw_aload dX1_test_65 1 rfl ?_
          refine cw_invI (d2 := md_J2_contains) (c := 1) (q := 6) (as := [cR p16, cR p2]) (mc := 0) (ms := 0) rfl rfl (okF (x := ⟨"java/util/List", "contains", "(Ljava/lang/Object;)Z"⟩) (ci := 14) (C := RJ2) (T0 := TJ2) (N := 3) (n := 1) rfl (Or.inr ⟨rfl, rfl⟩) rfl dX1_test_67 (lw_F q912 q686 q684 q114 q688) (List.mem_iff_getElem?.mpr ⟨10, rfl⟩) (show ("java/util/List" : String) ≠ _ ∧ ("java/util/List" : String) ≠ _ ∧ (parseMethodDescriptor (md_J2_contains).y.desc).map (fun d => d.parameters.length) = some 1 from ⟨by decide, by decide, (hm_J2_contains).2.2⟩) (by decide) (by decide) (Nat.le_of_ble_eq_true rfl)) (c_contains p16 p2) rfl (fun x17 => ?_)
          refine cw_if_ne (tgt := 99) dX1_test_72 (by decide) ?_ ?_
          · refine cw_sub (ls' := [(4, cR p2), (3, cI a3)]) [1, 3] rfl ?_
            exact hJ15 ()
          · refine cw_aload_n dX1_test_75 rfl 2 rfl ?_
            refine cw_aload dX1_test_76 1 rfl ?_
            refine cw_aload dX1_test_78 0 rfl ?_
            refine cw_invI (d2 := md_X1_isPupil) (c := 1) (q := 6) (as := [cR a0, cR p2, cR p4]) (mc := 0) (ms := 0) rfl rfl (okV (ci := 0) (C := RX1) (T0 := TX1) (N := 11) (n := 2) rfl rfl rfl dX1_test_80 (lw_V q972 q974 qs9 q111 q975) ⟨rfl, hm_X1_isPupil⟩ (by decide) (by decide) (Nat.le_of_ble_eq_true rfl)) (m_X1_isPupil a0 p2 p4) rfl (fun x18 => ?_)
            refine cw_if_ne (tgt := 99) dX1_test_83 (by decide) ?_ ?_
            · refine cw_sub (ls' := [(4, cR p2), (3, cI a3)]) [1, 3] rfl ?_
              exact hJ15 ()
            · refine cw_aload dX1_test_86 1 rfl ?_
              refine cw_getI (ci := 2) (j := 8) (C := RX3) (T := TX3) (N := 9) rfl (by decide) rfl rfl (Or.inr ⟨_, q821⟩) fSame_rfl dX1_test_88 (fun x19 => ?_)
              refine cw_iconst (v := 5) dX1_test_91 (by decide) ?_
              refine cw_icmp_ge (tgt := 99) dX1_test_92 (by decide) ?_ ?_
              · refine cw_sub (ls' := [(4, cR p2), (3, cI a3)]) [1, 3] rfl ?_
                exact hJ15 ()
              · refine cw_iconst (v := 1) dX1_test_95 (by decide) ?_
                refine cw_goto (tgt := 100) dX1_test_96 (by decide) ?_
                refine cw_sub (ls' := [(4, cR p2), (3, cI a3)]) [1, 3] rfl ?_
                exact hJ14 1
  · refine cw_jn (cj := 2) (kj := 12) (pcj := 47) (lsf := fun (s : Unit) => [(5, cR p4), (4, cR p2), (0, cR a0), (3, cI a3)]) (stf := fun (s : Unit) => []) (fun s => ?_) (fun J21 hJ21 => ?_)
    · show CWF _ _ _ 47 [(5, cR p4), (4, cR p2), (0, cR a0), (3, cI a3)] [] _
      refine cw_iconst (v := 0) dX1_test_47 (by decide) ?_
      exact hJ20 0
    · refine cw_if_eq (tgt := 47) dX1_test_33 (by decide) ?_ ?_
      · refine cw_sub (ls' := [(5, cR p4), (4, cR p2), (0, cR a0), (3, cI a3)]) [0, 1, 2, 5] rfl ?_
        exact hJ21 ()
      · refine cw_aload dX1_test_36 1 rfl ?_
        refine cw_aload dX1_test_38 0 rfl ?_
        refine cw_acmp_eq (tgt := 47) dX1_test_40 (by decide) ?_ ?_
        · refine cw_sub (ls' := [(5, cR p4), (4, cR p2), (0, cR a0), (3, cI a3)]) [0, 1, 2, 5] rfl ?_
          exact hJ21 ()
        · refine cw_iconst (v := 1) dX1_test_43 (by decide) ?_
          refine cw_goto (tgt := 48) dX1_test_44 (by decide) ?_
          refine cw_sub (ls' := [(5, cR p4), (4, cR p2), (0, cR a0), (3, cI a3)]) [0, 1, 2, 5] rfl ?_
          exact hJ20 1
def g_X5_has (a0 : Nat) (a1 : Nat) : GF :=
  getP 24 a0 1 fun p1 =>
  acG p1 a1
    (retZ 1)
    (getP 24 a0 2 fun p2 =>
      acG p2 a1
        (retZ 1)
        (retZ 0))
abbrev md_X5_has : MD := (yX5_has, cX5_has, 2, (some (Jvm.ClassFile.FieldType.boolean)), RX5, 10, 0, 0)
theorem hm_X5_has : (md_X5_has).y.cls ≠ "java/lang/invoke/MethodHandle" ∧ (md_X5_has).y.cls ≠ "java/lang/invoke/VarHandle" ∧ (parseMethodDescriptor (md_X5_has).y.desc).map (fun d => d.parameters.length) = some 1 := by decide +kernel
theorem m_X5_has (a0 : Nat) (a1 : Nat) : CMF md_X5_has [cR a0, cR a1] (g_X5_has a0 a1) := by
  refine cm_of (by decide +kernel) rfl (Nat.le_of_ble_eq_true rfl) ?_
  show CWF _ 0 0 0 [(0, cR a0), (1, cR a1)] [] _
  unfold g_X5_has
  refine cw_aload_n dX5_has_0 rfl 0 rfl ?_
  refine cw_getP (ci := 4) (j := 1) (C := RX5) (T := TX5) (N := 5) rfl (by decide) rfl rfl (Or.inl q1010) fSame_rfl dX5_has_1 (fun p1 => ?_)
  refine cw_aload_n dX5_has_4 rfl 1 rfl ?_
  refine cw_acmp_eq (tgt := 16) dX5_has_5 (by decide) ?_ ?_
  · refine cw_iconst (v := 1) dX5_has_16 (by decide) ?_
    refine cw_goto (tgt := 21) dX5_has_17 (by decide) ?_
    exact cw_zret rfl dX5_has_21
  · refine cw_aload_n dX5_has_8 rfl 0 rfl ?_
    refine cw_getP (ci := 4) (j := 2) (C := RX5) (T := TX5) (N := 5) rfl (by decide) rfl rfl (Or.inl q1013) fSame_rfl dX5_has_9 (fun p2 => ?_)
    refine cw_aload_n dX5_has_12 rfl 1 rfl ?_
    refine cw_acmp_ne (tgt := 20) dX5_has_13 (by decide) ?_ ?_
    · refine cw_iconst (v := 0) dX5_has_20 (by decide) ?_
      exact cw_zret rfl dX5_has_21
    · refine cw_iconst (v := 1) dX5_has_16 (by decide) ?_
      refine cw_goto (tgt := 21) dX5_has_17 (by decide) ?_
      exact cw_zret rfl dX5_has_21
def g_X5_init (a0 : Nat) (a1 : Int32) (a2 : Nat) (a3 : Nat) : GF :=
  objG a0 <|
  newG 34 fun p1 =>
  invV (some (p1, 34)) (s_init p1) <|
  putP 24 a0 3 p1 <|
  putZ 24 a0 4 1 <|
  putI 24 a0 0 a1 <|
  putP 24 a0 1 a2 <|
  putP 24 a0 2 a3 <|
  getP 24 a0 3 fun p2 =>
  newG 34 fun p3 =>
  invV (some (p3, 34)) (s_init p3) <|
  invI (some (p2, 8)) (s_add p2 p3) fun x4 =>
  jnG (fun (v5 : Int32) =>
    retG rV) fun J6 =>
  jnG (fun (_ : Unit) =>
    J6 0) fun J7 =>
  if x4 = 0 then
    J7 ()
  else
    getP 24 a0 3 fun p8 =>
    newG 34 fun p9 =>
    invV (some (p9, 34)) (s_init p9) <|
    invI (some (p8, 8)) (s_add p8 p9) fun x10 =>
    if x10 = 0 then
      J7 ()
    else
      J6 1
abbrev md_X5_init : MD := (yX5_init, cX5_init, 5, none, RX5, 16, 5, 137)
theorem hm_X5_init : (md_X5_init).y.cls ≠ "java/lang/invoke/MethodHandle" ∧ (md_X5_init).y.cls ≠ "java/lang/invoke/VarHandle" ∧ (parseMethodDescriptor (md_X5_init).y.desc).map (fun d => d.parameters.length) = some 3 := by decide +kernel
theorem m_X5_init (a0 : Nat) (a1 : Int32) (a2 : Nat) (a3 : Nat) : CMF md_X5_init [cR a0, cI a1, cR a2, cR a3] (g_X5_init a0 a1 a2 a3) := by
  refine cm_of (by decide +kernel) rfl (Nat.le_of_ble_eq_true rfl) ?_
  show CWF _ 5 137 0 [(0, cR a0), (1, cI a1), (2, cR a2), (3, cR a3)] [] _
  unfold g_X5_init
  refine cw_aload_n dX5_init_0 rfl 0 rfl ?_
  refine cw_objInit q1003 q159 q160 dX5_init_1 (by decide) (Nat.le_of_ble_eq_true rfl) ?_
  refine cw_aload_n dX5_init_4 rfl 0 rfl ?_
  refine cw_new (c := 4) (q := 134) (ci := 14) (C := RJ2) (T := TJ2) (N := 3) rfl rfl q1004 q162 q114 dX5_init_5 (fun p1 => ?_)
  refine cw_dup dX5_init_8 rfl ?_
  refine cw_invV (d2 := md_J2_init) (c := 4) (q := 134) (as := [cR p1]) (mc := 0) (ms := 0) rfl rfl (okI (n := 0) rfl rfl dX5_init_9 (lw_meth q165) q114 q1005 q164 rfl hm_J2_init (by decide) (by decide) (Nat.le_of_ble_eq_true rfl) (by decide)) (c_init p1) rfl ?_
  refine cw_putP (ci := 4) (j := 3) (C := RX5) (T := TX5) (N := 5) rfl (by decide) rfl rfl (Or.inl q1016) fSame_rfl (Or.inr ⟨rfl, rfl, rfl⟩) dX5_init_12 ?_
  refine cw_aload_n dX5_init_15 rfl 0 rfl ?_
  refine cw_iconst (v := 1) dX5_init_16 (by decide) ?_
  refine cw_putZ (ci := 4) (j := 4) (C := RX5) (T := TX5) (N := 5) rfl (by decide) rfl rfl (Or.inl q1018) fSame_rfl (Or.inl rfl) dX5_init_17 ?_
  refine cw_aload_n dX5_init_20 rfl 0 rfl ?_
  refine cw_iload_n dX5_init_21 rfl 1 rfl ?_
  refine cw_putI (ci := 4) (j := 0) (C := RX5) (T := TX5) (N := 5) rfl (by decide) rfl rfl (Or.inl q1008) fSame_rfl (Or.inr ⟨rfl, rfl, rfl⟩) dX5_init_22 ?_
  refine cw_aload_n dX5_init_25 rfl 0 rfl ?_
  refine cw_aload_n dX5_init_26 rfl 2 rfl ?_
  refine cw_putP (ci := 4) (j := 1) (C := RX5) (T := TX5) (N := 5) rfl (by decide) rfl rfl (Or.inl q1010) fSame_rfl (Or.inr ⟨rfl, rfl, rfl⟩) dX5_init_27 ?_
  refine cw_aload_n dX5_init_30 rfl 0 rfl ?_
  refine cw_aload_n dX5_init_31 rfl 3 rfl ?_
  refine cw_putP (ci := 4) (j := 2) (C := RX5) (T := TX5) (N := 5) rfl (by decide) rfl rfl (Or.inl q1013) fSame_rfl (Or.inr ⟨rfl, rfl, rfl⟩) dX5_init_32 ?_
  refine cw_aload_n dX5_init_35 rfl 0 rfl ?_
  refine cw_getP (ci := 4) (j := 3) (C := RX5) (T := TX5) (N := 5) rfl (by decide) rfl rfl (Or.inl q1016) fSame_rfl dX5_init_36 (fun p2 => ?_)
  refine cw_new (c := 3) (q := 131) (ci := 14) (C := RJ2) (T := TJ2) (N := 3) rfl rfl q1004 q162 q114 dX5_init_39 (fun p3 => ?_)
  refine cw_dup dX5_init_42 rfl ?_
  refine cw_invV (d2 := md_J2_init) (c := 3) (q := 131) (as := [cR p3]) (mc := 0) (ms := 0) rfl rfl (okI (n := 0) rfl rfl dX5_init_43 (lw_meth q165) q114 q1005 q164 rfl hm_J2_init (by decide) (by decide) (Nat.le_of_ble_eq_true rfl) (by decide)) (c_init p3) rfl ?_
  refine cw_invI (d2 := md_J2_add) (c := 2) (q := 67) (as := [cR p2, cR p3]) (mc := 1) (ms := 64) rfl rfl (okF (x := ⟨"java/util/List", "add", "(Ljava/lang/Object;)Z"⟩) (ci := 14) (C := RJ2) (T0 := TJ2) (N := 3) (n := 1) rfl (Or.inr ⟨rfl, rfl⟩) rfl dX5_init_46 (lw_F q1007 q587 q585 q114 q589) (List.mem_iff_getElem?.mpr ⟨9, rfl⟩) (show ("java/util/List" : String) ≠ _ ∧ ("java/util/List" : String) ≠ _ ∧ (parseMethodDescriptor (md_J2_add).y.desc).map (fun d => d.parameters.length) = some 1 from ⟨by decide, by decide, (hm_J2_add).2.2⟩) (by decide) (by decide) (Nat.le_of_ble_eq_true rfl)) (c_add p2 p3) rfl (fun x4 => ?_)
  refine cw_jn (cj := 0) (kj := 0) (pcj := 78) (lsf := fun (s : Int32) => []) (stf := fun (s : Int32) => [cI s]) (fun s => ?_) (fun J6 hJ6 => ?_)
  · obtain ⟨v5, e⟩ : ∃ z, z = s := ⟨_, rfl⟩
    subst e
    show CWF _ _ _ 78 [] [cI v5] _
    refine cw_istore (ls' := [(4, cI v5)]) dX5_init_78 (by decide) rfl ?_
    exact cw_vret rfl dX5_init_80
  · refine cw_jn (cj := 0) (kj := 0) (pcj := 77) (lsf := fun (s : Unit) => []) (stf := fun (s : Unit) => []) (fun s => ?_) (fun J7 hJ7 => ?_)
    · show CWF _ _ _ 77 [] [] _
      refine cw_iconst (v := 0) dX5_init_77 (by decide) ?_
      exact hJ6 0
    · refine cw_if_eq (tgt := 77) dX5_init_51 (by decide) ?_ ?_
      · refine cw_weak (c' := 0) (q' := 0) (by omega) (by omega) ?_
        refine cw_sub (ls' := []) [] rfl ?_
        exact hJ7 ()
      · refine cw_aload_n dX5_init_54 rfl 0 rfl ?_
        refine cw_getP (ci := 4) (j := 3) (C := RX5) (T := TX5) (N := 5) rfl (by decide) rfl rfl (Or.inl q1016) fSame_rfl dX5_init_55 (fun p8 => ?_)
        refine cw_new (c := 1) (q := 64) (ci := 14) (C := RJ2) (T := TJ2) (N := 3) rfl rfl q1004 q162 q114 dX5_init_58 (fun p9 => ?_)
        refine cw_dup dX5_init_61 rfl ?_
        refine cw_invV (d2 := md_J2_init) (c := 1) (q := 64) (as := [cR p9]) (mc := 0) (ms := 0) rfl rfl (okI (n := 0) rfl rfl dX5_init_62 (lw_meth q165) q114 q1005 q164 rfl hm_J2_init (by decide) (by decide) (Nat.le_of_ble_eq_true rfl) (by decide)) (c_init p9) rfl ?_
        refine cw_invI (d2 := md_J2_add) (c := 0) (q := 0) (as := [cR p8, cR p9]) (mc := 1) (ms := 64) rfl rfl (okF (x := ⟨"java/util/List", "add", "(Ljava/lang/Object;)Z"⟩) (ci := 14) (C := RJ2) (T0 := TJ2) (N := 3) (n := 1) rfl (Or.inr ⟨rfl, rfl⟩) rfl dX5_init_65 (lw_F q1007 q587 q585 q114 q589) (List.mem_iff_getElem?.mpr ⟨9, rfl⟩) (show ("java/util/List" : String) ≠ _ ∧ ("java/util/List" : String) ≠ _ ∧ (parseMethodDescriptor (md_J2_add).y.desc).map (fun d => d.parameters.length) = some 1 from ⟨by decide, by decide, (hm_J2_add).2.2⟩) (by decide) (by decide) (Nat.le_of_ble_eq_true rfl)) (c_add p8 p9) rfl (fun x10 => ?_)
        refine cw_if_eq (tgt := 77) dX5_init_70 (by decide) ?_ ?_
        · refine cw_sub (ls' := []) [] rfl ?_
          exact hJ7 ()
        · refine cw_iconst (v := 1) dX5_init_73 (by decide) ?_
          refine cw_goto (tgt := 78) dX5_init_74 (by decide) ?_
          refine cw_sub (ls' := []) [] rfl ?_
          exact hJ6 1
def b_X1_couple_72 (p2 : Nat) (p4 : Nat) (p9 : Nat) (m10 : Int32) (J18 : Unit → GF) (rec20 : Nat → GF) : Nat → GF := fun (l19 : Nat) =>
  hasG p9 l19 fun x21 =>
  if x21 = 0 then
    J18 ()
  else
    nextG p9 m10 l19 fun p22 =>
    castG 24 p22 <|
    getI 24 p22 4 fun x23 =>
    invI (some (p22, 24)) (g_X5_has p22 p2) fun x24 =>
    jnG (fun (v25 : Int32) =>
      putZ 24 p22 4 (x23 &&& v25) <|
      rec20 (l19 + 1)) fun J26 =>
    jnG (fun (_ : Unit) =>
      J26 0) fun J27 =>
    if x24 = 0 then
      invI (some (p22, 24)) (g_X5_has p22 p4) fun x28 =>
      if x28 = 0 then
        J26 1
      else
        J27 ()
    else
      J27 ()
def g_X1_couple (a0 : Nat) (a1 : Int32) (a2 : Int32) : GF :=
  getP 20 a0 0 fun p1 =>
  invP none (g_X1_at p1 a1) fun p2 =>
  castG 22 p2 <|
  getP 20 a0 0 fun p3 =>
  invP none (g_X1_at p3 a2) fun p4 =>
  castG 22 p4 <|
  jnG (fun (v5 : Int32) =>
    invV none (g_X1_requireArgument v5) <|
    getP 20 a0 2 fun p6 =>
    invI (some (p6, 8)) (s_size p6) fun x7 =>
    jnG (fun (v8 : Int32) =>
      invV none (g_X1_requireState v8) <|
      getP 20 a0 2 fun p9 =>
      itG p9 fun m10 =>
      jnG (fun (_ : Unit) =>
        getP 20 a0 2 fun p11 =>
        newG 24 fun p12 =>
        getP 20 a0 2 fun p13 =>
        invI (some (p13, 8)) (s_size p13) fun x14 =>
        invV (some (p12, 24)) (g_X5_init p12 x14 p2 p4) <|
        invI (some (p11, 8)) (s_add p11 p12) fun x15 =>
        getP 20 a0 2 fun p16 =>
        invI (some (p16, 8)) (s_size p16) fun x17 =>
        retG (rI (x17 - 1))) fun J18 =>
      loopG (b_X1_couple_72 p2 p4 p9 m10 J18) FU 0) fun J29 =>
    if x7 < 16 then
      J29 1
    else
      J29 0) fun J30 =>
  acG p2 p4
    (J30 0)
    (J30 1)
abbrev md_X1_couple : MD := (yX1_couple, cX1_couple, 7, (some (Jvm.ClassFile.FieldType.int)), RX1, 17, 12, 234)
theorem hm_X1_couple : (md_X1_couple).y.cls ≠ "java/lang/invoke/MethodHandle" ∧ (md_X1_couple).y.cls ≠ "java/lang/invoke/VarHandle" ∧ (parseMethodDescriptor (md_X1_couple).y.desc).map (fun d => d.parameters.length) = some 2 := by decide +kernel
theorem m_X1_couple (a0 : Nat) (a1 : Int32) (a2 : Int32) : CMF md_X1_couple [cR a0, cI a1, cI a2] (g_X1_couple a0 a1 a2) := by
  refine cm_of (by decide +kernel) rfl (Nat.le_of_ble_eq_true rfl) ?_
  show CWF _ 12 234 0 [(0, cR a0), (1, cI a1), (2, cI a2)] [] _
  unfold g_X1_couple
  refine cw_aload_n dX1_couple_0 rfl 0 rfl ?_
  refine cw_getP (ci := 0) (j := 0) (C := RX1) (T := TX1) (N := 11) rfl (by decide) rfl rfl (Or.inl q206) fSame_rfl dX1_couple_1 (fun p1 => ?_)
  refine cw_iload_n dX1_couple_4 rfl 1 rfl ?_
  refine cw_invP (d2 := md_X1_at) (c := 11) (q := 228) (as := [cR p1, cI a1]) (mc := 1) (ms := 6) rfl rfl (okS (n := 2) rfl dX1_couple_5 (lw_S q883 q884 q111 q885) hm_X1_at (by decide) (by decide) (Nat.le_of_ble_eq_true rfl)) (m_X1_at p1 a1) rfl (fun p2 => ?_)
  refine cw_cast (ci := 2) (T := TX3) (N := 9) (C := RX3) rfl rfl q733 (Or.inl rfl) dX1_couple_8 ?_
  refine cw_astore_n (ls' := [(3, cR p2), (0, cR a0), (1, cI a1), (2, cI a2)]) dX1_couple_11 rfl (by decide) rfl ?_
  refine cw_aload_n dX1_couple_12 rfl 1 rfl ?_
  refine cw_getP (ci := 0) (j := 0) (C := RX1) (T := TX1) (N := 11) rfl (by decide) rfl rfl (Or.inl q206) fSame_rfl dX1_couple_13 (fun p3 => ?_)
  refine cw_iload_n dX1_couple_16 rfl 3 rfl ?_
  refine cw_invP (d2 := md_X1_at) (c := 10) (q := 222) (as := [cR p3, cI a2]) (mc := 1) (ms := 6) rfl rfl (okS (n := 2) rfl dX1_couple_17 (lw_S q883 q884 q111 q885) hm_X1_at (by decide) (by decide) (Nat.le_of_ble_eq_true rfl)) (m_X1_at p3 a2) rfl (fun p4 => ?_)
  refine cw_cast (ci := 2) (T := TX3) (N := 9) (C := RX3) rfl rfl q733 (Or.inl rfl) dX1_couple_20 ?_
  refine cw_astore (ls' := [(4, cR p4), (3, cR p2), (0, cR a0), (1, cI a1), (2, cI a2)]) dX1_couple_23 (by decide) rfl ?_
  refine cw_aload_n dX1_couple_25 rfl 1 rfl ?_
  refine cw_aload dX1_couple_26 0 rfl ?_
  refine cw_jn (cj := 10) (kj := 222) (pcj := 36) (lsf := fun (s : Int32) => [(4, cR p4), (3, cR p2), (0, cR a0)]) (stf := fun (s : Int32) => [cI s]) (fun s => ?_) (fun J30 hJ30 => ?_)
  · obtain ⟨v5, e⟩ : ∃ z, z = s := ⟨_, rfl⟩
    subst e
    show CWF _ _ _ 36 [(4, cR p4), (3, cR p2), (0, cR a0)] [cI v5] _
    refine cw_invV (d2 := md_X1_requireArgument) (c := 9) (q := 216) (as := [cI v5]) (mc := 1) (ms := 6) rfl rfl (okS (n := 1) rfl dX1_couple_36 (lw_S q744 q745 q111 q746) hm_X1_requireArgument (by decide) (by decide) (Nat.le_of_ble_eq_true rfl)) (m_X1_requireArgument v5) rfl ?_
    refine cw_aload_n dX1_couple_39 rfl 2 rfl ?_
    refine cw_getP (ci := 0) (j := 2) (C := RX1) (T := TX1) (N := 11) rfl (by decide) rfl rfl (Or.inl q208) fSame_rfl dX1_couple_40 (fun p6 => ?_)
    refine cw_invI (d2 := md_J2_size) (c := 9) (q := 216) (as := [cR p6]) (mc := 0) (ms := 0) rfl rfl (okF (x := ⟨"java/util/List", "size", "()I"⟩) (ci := 14) (C := RJ2) (T0 := TJ2) (N := 3) (n := 0) rfl (Or.inr ⟨rfl, rfl⟩) rfl dX1_couple_43 (lw_F q246 q251 q249 q114 q253) (List.mem_iff_getElem?.mpr ⟨1, rfl⟩) (show ("java/util/List" : String) ≠ _ ∧ ("java/util/List" : String) ≠ _ ∧ (parseMethodDescriptor (md_J2_size).y.desc).map (fun d => d.parameters.length) = some 0 from ⟨by decide, by decide, (hm_J2_size).2.2⟩) (by decide) (by decide) (Nat.le_of_ble_eq_true rfl)) (c_size p6) rfl (fun x7 => ?_)
    refine cw_bipush (v := 16) dX1_couple_48 (by decide) ?_
    refine cw_jn (cj := 9) (kj := 216) (pcj := 58) (lsf := fun (s : Int32) => [(4, cR p4), (3, cR p2), (0, cR a0)]) (stf := fun (s : Int32) => [cI s]) (fun s => ?_) (fun J29 hJ29 => ?_)
    · obtain ⟨v8, e⟩ : ∃ z, z = s := ⟨_, rfl⟩
      subst e
      show CWF _ _ _ 58 [(4, cR p4), (3, cR p2), (0, cR a0)] [cI v8] _
      refine cw_invV (d2 := md_X1_requireState) (c := 8) (q := 210) (as := [cI v8]) (mc := 1) (ms := 6) rfl rfl (okS (n := 1) rfl dX1_couple_58 (lw_S q772 q773 q111 q774) hm_X1_requireState (by decide) (by decide) (Nat.le_of_ble_eq_true rfl)) (m_X1_requireState v8) rfl ?_
      refine cw_aload_n dX1_couple_61 rfl 2 rfl ?_
      refine cw_getP (ci := 0) (j := 2) (C := RX1) (T := TX1) (N := 11) rfl (by decide) rfl rfl (Or.inl q208) fSame_rfl dX1_couple_62 (fun p9 => ?_)
      refine cw_iter (c := 7) (q := 206) (la := 2) (ls' := [(4, cR p4), (3, cR p2), (0, cR a0)]) rfl (Or.inr ⟨dX1_couple_70, rfl⟩) (by decide) (okF (x := ⟨"java/util/List", "iterator", "()Ljava/util/Iterator;"⟩) (ci := 14) (C := RJ2) (T0 := TJ2) (N := 3) (n := 0) rfl (Or.inr ⟨rfl, rfl⟩) rfl dX1_couple_65 (lw_F q290 q295 q293 q114 q297) (List.mem_iff_getElem?.mpr ⟨3, rfl⟩) (show ("java/util/List" : String) ≠ _ ∧ ("java/util/List" : String) ≠ _ ∧ (parseMethodDescriptor (md_J2_iterator).y.desc).map (fun d => d.parameters.length) = some 0 from ⟨by decide, by decide, (hm_J2_iterator).2.2⟩) (by decide) (by decide) (Nat.le_of_ble_eq_true rfl)) (fun m10 => ?_)
      refine cw_jn (cj := 7) (kj := 206) (pcj := 131) (lsf := fun (s : Unit) => [(4, cR p4), (3, cR p2), (0, cR a0)]) (stf := fun (s : Unit) => []) (fun s => ?_) (fun J18 hJ18 => ?_)
      · show CWF _ _ _ 131 [(4, cR p4), (3, cR p2), (0, cR a0)] [] _
        refine cw_aload_n dX1_couple_131 rfl 2 rfl ?_
        refine cw_getP (ci := 0) (j := 2) (C := RX1) (T := TX1) (N := 11) rfl (by decide) rfl rfl (Or.inl q208) fSame_rfl dX1_couple_132 (fun p11 => ?_)
        refine cw_new (c := 6) (q := 201) (ci := 4) (C := RX5) (T := TX5) (N := 5) rfl rfl q762 q999 q136 dX1_couple_135 (fun p12 => ?_)
        refine cw_dup dX1_couple_138 rfl ?_
        refine cw_aload_n dX1_couple_139 rfl 2 rfl ?_
        refine cw_getP (ci := 0) (j := 2) (C := RX1) (T := TX1) (N := 11) rfl (by decide) rfl rfl (Or.inl q208) fSame_rfl dX1_couple_140 (fun p13 => ?_)
        refine cw_invI (d2 := md_J2_size) (c := 6) (q := 201) (as := [cR p13]) (mc := 0) (ms := 0) rfl rfl (okF (x := ⟨"java/util/List", "size", "()I"⟩) (ci := 14) (C := RJ2) (T0 := TJ2) (N := 3) (n := 0) rfl (Or.inr ⟨rfl, rfl⟩) rfl dX1_couple_143 (lw_F q246 q251 q249 q114 q253) (List.mem_iff_getElem?.mpr ⟨1, rfl⟩) (show ("java/util/List" : String) ≠ _ ∧ ("java/util/List" : String) ≠ _ ∧ (parseMethodDescriptor (md_J2_size).y.desc).map (fun d => d.parameters.length) = some 0 from ⟨by decide, by decide, (hm_J2_size).2.2⟩) (by decide) (by decide) (Nat.le_of_ble_eq_true rfl)) (c_size p13) rfl (fun x14 => ?_)
        refine cw_aload_n dX1_couple_148 rfl 1 rfl ?_
        refine cw_aload dX1_couple_149 0 rfl ?_
        refine cw_invV (d2 := md_X5_init) (c := 1) (q := 64) (as := [cR p12, cI x14, cR p2, cR p4]) (mc := 5) (ms := 137) rfl rfl (okI (n := 3) rfl rfl dX1_couple_151 (lw_meth q1002) q136 q1000 q1001 rfl hm_X5_init (by decide) (by decide) (Nat.le_of_ble_eq_true rfl) (by decide)) (m_X5_init p12 x14 p2 p4) rfl ?_
        refine cw_invI (d2 := md_J2_add) (c := 0) (q := 0) (as := [cR p11, cR p12]) (mc := 1) (ms := 64) rfl rfl (okF (x := ⟨"java/util/List", "add", "(Ljava/lang/Object;)Z"⟩) (ci := 14) (C := RJ2) (T0 := TJ2) (N := 3) (n := 1) rfl (Or.inr ⟨rfl, rfl⟩) rfl dX1_couple_154 (lw_F q842 q587 q585 q114 q589) (List.mem_iff_getElem?.mpr ⟨9, rfl⟩) (show ("java/util/List" : String) ≠ _ ∧ ("java/util/List" : String) ≠ _ ∧ (parseMethodDescriptor (md_J2_add).y.desc).map (fun d => d.parameters.length) = some 1 from ⟨by decide, by decide, (hm_J2_add).2.2⟩) (by decide) (by decide) (Nat.le_of_ble_eq_true rfl)) (c_add p11 p12) rfl (fun x15 => ?_)
        refine cw_istore (ls' := [(5, cI x15), (4, cR p4), (3, cR p2), (0, cR a0)]) dX1_couple_159 (by decide) rfl ?_
        refine cw_aload_n dX1_couple_161 rfl 3 rfl ?_
        refine cw_getP (ci := 0) (j := 2) (C := RX1) (T := TX1) (N := 11) rfl (by decide) rfl rfl (Or.inl q208) fSame_rfl dX1_couple_162 (fun p16 => ?_)
        refine cw_invI (d2 := md_J2_size) (c := 0) (q := 0) (as := [cR p16]) (mc := 0) (ms := 0) rfl rfl (okF (x := ⟨"java/util/List", "size", "()I"⟩) (ci := 14) (C := RJ2) (T0 := TJ2) (N := 3) (n := 0) rfl (Or.inr ⟨rfl, rfl⟩) rfl dX1_couple_165 (lw_F q246 q251 q249 q114 q253) (List.mem_iff_getElem?.mpr ⟨1, rfl⟩) (show ("java/util/List" : String) ≠ _ ∧ ("java/util/List" : String) ≠ _ ∧ (parseMethodDescriptor (md_J2_size).y.desc).map (fun d => d.parameters.length) = some 0 from ⟨by decide, by decide, (hm_J2_size).2.2⟩) (by decide) (by decide) (Nat.le_of_ble_eq_true rfl)) (c_size p16) rfl (fun x17 => ?_)
        refine cw_iconst (v := 1) dX1_couple_170 (by decide) ?_
        refine cw_isub dX1_couple_171 ?_
        exact cw_iret rfl dX1_couple_172
      · refine cw_sub (ls' := [(4, cR p4), (3, cR p2), (0, cR a0), (5, cT p9 m10 0)]) [1, 2, 3, 0] rfl ?_
        refine cw_loop0 (lsf := fun (s : Nat) => [(4, cR p4), (3, cR p2), (0, cR a0), (5, cT p9 m10 s)]) (fun rec20 hrec20 s => ?_) FU 0
        obtain ⟨l19, e⟩ : ∃ z, z = s := ⟨_, rfl⟩
        subst e
        show CWF _ _ _ 72 [(4, cR p4), (3, cR p2), (0, cR a0), (5, cT p9 m10 l19)] [] _
        dsimp only [b_X1_couple_72]
        refine cw_sub (ls' := [(5, cT p9 m10 l19), (4, cR p4), (3, cR p2), (0, cR a0)]) [3, 0, 1, 2] rfl ?_
        refine cw_hasNext (la := 2) rfl (Or.inr ⟨dX1_couple_72, rfl⟩) (fun x => okF (x := ⟨"java/util/Iterator", "hasNext", "()Z"⟩) (ci := 15) (C := RJ18) (T0 := TJ18) (N := 4) (n := 0) rfl (Or.inl rfl) rfl dX1_couple_74 (lw_F q318 q339 q337 q134 q341) (List.mem_iff_getElem?.mpr ⟨4, rfl⟩) (show ("java/util/Iterator" : String) ≠ _ ∧ ("java/util/Iterator" : String) ≠ _ ∧ (parseMethodDescriptor (md_J18_hasNext).y.desc).map (fun d => d.parameters.length) = some 0 from ⟨by decide, by decide, (hm_J18_hasNext).2.2⟩) (by decide) (by decide) (Nat.le_of_ble_eq_true rfl)) (fun x21 => ?_)
        refine cw_if_eq (tgt := 131) dX1_couple_79 (by decide) ?_ ?_
        · refine cw_sub (ls' := [(4, cR p4), (3, cR p2), (0, cR a0)]) [1, 2, 3] rfl ?_
          exact hJ18 ()
        · refine cw_next (la := 2) rfl (Or.inr ⟨dX1_couple_82, rfl⟩) (fun x => okF (x := ⟨"java/util/Iterator", "next", "()Ljava/lang/Object;"⟩) (ci := 15) (C := RJ18) (T0 := TJ18) (N := 4) (n := 0) rfl (Or.inl rfl) rfl dX1_couple_84 (lw_F q343 q432 q430 q134 q434) (List.mem_iff_getElem?.mpr ⟨6, rfl⟩) (show ("java/util/Iterator" : String) ≠ _ ∧ ("java/util/Iterator" : String) ≠ _ ∧ (parseMethodDescriptor (md_J18_next).y.desc).map (fun d => d.parameters.length) = some 0 from ⟨by decide, by decide, (hm_J18_next).2.2⟩) (by decide) (by decide) (Nat.le_of_ble_eq_true rfl)) (fun p22 => ?_)
          refine cw_cast (ci := 4) (T := TX5) (N := 5) (C := RX5) rfl rfl q762 (Or.inl rfl) dX1_couple_89 ?_
          refine cw_astore (ls' := [(6, cR p22), (5, cT p9 m10 (l19 + 1)), (4, cR p4), (3, cR p2), (0, cR a0)]) dX1_couple_92 (by decide) rfl ?_
          refine cw_aload dX1_couple_94 0 rfl ?_
          refine cw_dup dX1_couple_96 rfl ?_
          refine cw_getI (ci := 4) (j := 4) (C := RX5) (T := TX5) (N := 5) rfl (by decide) rfl rfl (Or.inr ⟨_, q1019⟩) fSame_rfl dX1_couple_97 (fun x23 => ?_)
          refine cw_aload dX1_couple_100 0 rfl ?_
          refine cw_aload_n dX1_couple_102 rfl 3 rfl ?_
          refine cw_invI (d2 := md_X5_has) (c := 7) (q := 206) (as := [cR p22, cR p2]) (mc := 0) (ms := 0) rfl rfl (okV (ci := 4) (C := RX5) (T0 := TX5) (N := 5) (n := 1) rfl rfl rfl dX1_couple_103 (lw_V q995 q996 q997 q136 q998) ⟨rfl, hm_X5_has⟩ (by decide) (by decide) (Nat.le_of_ble_eq_true rfl)) (m_X5_has p22 p2) rfl (fun x24 => ?_)
          refine cw_jn (cj := 7) (kj := 206) (pcj := 124) (lsf := fun (s : Int32) => [(5, cT p9 m10 (l19 + 1)), (4, cR p4), (3, cR p2), (0, cR a0)]) (stf := fun (s : Int32) => [cI s, cI x23, cR p22]) (fun s => ?_) (fun J26 hJ26 => ?_)
          · obtain ⟨v25, e⟩ : ∃ z, z = s := ⟨_, rfl⟩
            subst e
            show CWF _ _ _ 124 [(5, cT p9 m10 (l19 + 1)), (4, cR p4), (3, cR p2), (0, cR a0)] [cI v25, cI x23, cR p22] _
            refine cw_iand dX1_couple_124 ?_
            refine cw_putZ (ci := 4) (j := 4) (C := RX5) (T := TX5) (N := 5) rfl (by decide) rfl rfl (Or.inr ⟨_, q1019⟩) fSame_rfl (Or.inl rfl) dX1_couple_125 ?_
            refine cw_goto (tgt := 72) dX1_couple_128 (by decide) ?_
            refine cw_sub (ls' := [(4, cR p4), (3, cR p2), (0, cR a0), (5, cT p9 m10 (l19 + 1))]) [1, 2, 3, 0] rfl ?_
            exact hrec20 (l19 + 1)
          · refine cw_jn (cj := 7) (kj := 206) (pcj := 123) (lsf := fun (s : Unit) => [(5, cT p9 m10 (l19 + 1)), (4, cR p4), (3, cR p2), (0, cR a0)]) (stf := fun (s : Unit) => [cI x23, cR p22]) (fun s => ?_) (fun J27 hJ27 => ?_)
            · show CWF _ _ _ 123 [(5, cT p9 m10 (l19 + 1)), (4, cR p4), (3, cR p2), (0, cR a0)] [cI x23, cR p22] _
              refine cw_iconst (v := 0) dX1_couple_123 (by decide) ?_
              exact hJ26 0
            · refine cw_if_ne (tgt := 123) dX1_couple_106 (by decide) ?_ ?_
              · refine cw_sub (ls' := [(5, cT p9 m10 (l19 + 1)), (4, cR p4), (3, cR p2), (0, cR a0)]) [1, 2, 3, 4] rfl ?_
                exact hJ27 ()
              · refine cw_aload dX1_couple_109 0 rfl ?_
                refine cw_aload dX1_couple_111 2 rfl ?_
                refine cw_invI (d2 := md_X5_has) (c := 7) (q := 206) (as := [cR p22, cR p4]) (mc := 0) (ms := 0) rfl rfl (okV (ci := 4) (C := RX5) (T0 := TX5) (N := 5) (n := 1) rfl rfl rfl dX1_couple_113 (lw_V q995 q996 q997 q136 q998) ⟨rfl, hm_X5_has⟩ (by decide) (by decide) (Nat.le_of_ble_eq_true rfl)) (m_X5_has p22 p4) rfl (fun x28 => ?_)
                refine cw_if_ne (tgt := 123) dX1_couple_116 (by decide) ?_ ?_
                · refine cw_sub (ls' := [(5, cT p9 m10 (l19 + 1)), (4, cR p4), (3, cR p2), (0, cR a0)]) [1, 2, 3, 4] rfl ?_
                  exact hJ27 ()
                · refine cw_iconst (v := 1) dX1_couple_119 (by decide) ?_
                  refine cw_goto (tgt := 124) dX1_couple_120 (by decide) ?_
                  refine cw_sub (ls' := [(5, cT p9 m10 (l19 + 1)), (4, cR p4), (3, cR p2), (0, cR a0)]) [1, 2, 3, 4] rfl ?_
                  exact hJ26 1
    · refine cw_icmp_ge (tgt := 57) dX1_couple_50 (by decide) ?_ ?_
      · refine cw_iconst (v := 0) dX1_couple_57 (by decide) ?_
        exact hJ29 0
      · refine cw_iconst (v := 1) dX1_couple_53 (by decide) ?_
        refine cw_goto (tgt := 58) dX1_couple_54 (by decide) ?_
        exact hJ29 1
  · refine cw_acmp_eq (tgt := 35) dX1_couple_28 (by decide) ?_ ?_
    · refine cw_iconst (v := 0) dX1_couple_35 (by decide) ?_
      refine cw_sub (ls' := [(4, cR p4), (3, cR p2), (0, cR a0)]) [0, 1, 2] rfl ?_
      exact hJ30 0
    · refine cw_iconst (v := 1) dX1_couple_31 (by decide) ?_
      refine cw_goto (tgt := 36) dX1_couple_32 (by decide) ?_
      refine cw_sub (ls' := [(4, cR p4), (3, cR p2), (0, cR a0)]) [0, 1, 2] rfl ?_
      exact hJ30 1
def g_X1_part (a0 : Nat) (a1 : Int32) : GF :=
  getP 20 a0 2 fun p1 =>
  invP none (g_X1_at p1 a1) fun p2 =>
  castG 24 p2 <|
  getI 24 p2 4 fun x3 =>
  putZ 24 p2 4 0 <|
  retZ x3
abbrev md_X1_part : MD := (yX1_part, cX1_part, 4, (some (Jvm.ClassFile.FieldType.boolean)), RX1, 14, 1, 6)
theorem hm_X1_part : (md_X1_part).y.cls ≠ "java/lang/invoke/MethodHandle" ∧ (md_X1_part).y.cls ≠ "java/lang/invoke/VarHandle" ∧ (parseMethodDescriptor (md_X1_part).y.desc).map (fun d => d.parameters.length) = some 1 := by decide +kernel
theorem m_X1_part (a0 : Nat) (a1 : Int32) : CMF md_X1_part [cR a0, cI a1] (g_X1_part a0 a1) := by
  refine cm_of (by decide +kernel) rfl (Nat.le_of_ble_eq_true rfl) ?_
  show CWF _ 1 6 0 [(0, cR a0), (1, cI a1)] [] _
  unfold g_X1_part
  refine cw_aload_n dX1_part_0 rfl 0 rfl ?_
  refine cw_getP (ci := 0) (j := 2) (C := RX1) (T := TX1) (N := 11) rfl (by decide) rfl rfl (Or.inl q208) fSame_rfl dX1_part_1 (fun p1 => ?_)
  refine cw_iload_n dX1_part_4 rfl 1 rfl ?_
  refine cw_invP (d2 := md_X1_at) (c := 0) (q := 0) (as := [cR p1, cI a1]) (mc := 1) (ms := 6) rfl rfl (okS (n := 2) rfl dX1_part_5 (lw_S q883 q884 q111 q885) hm_X1_at (by decide) (by decide) (Nat.le_of_ble_eq_true rfl)) (m_X1_at p1 a1) rfl (fun p2 => ?_)
  refine cw_cast (ci := 4) (T := TX5) (N := 5) (C := RX5) rfl rfl q762 (Or.inl rfl) dX1_part_8 ?_
  refine cw_astore_n (ls' := [(2, cR p2), (0, cR a0), (1, cI a1)]) dX1_part_11 rfl (by decide) rfl ?_
  refine cw_aload_n dX1_part_12 rfl 0 rfl ?_
  refine cw_getI (ci := 4) (j := 4) (C := RX5) (T := TX5) (N := 5) rfl (by decide) rfl rfl (Or.inr ⟨_, q1019⟩) fSame_rfl dX1_part_13 (fun x3 => ?_)
  refine cw_istore_n (ls' := [(3, cI x3), (2, cR p2), (0, cR a0), (1, cI a1)]) dX1_part_16 rfl (by decide) rfl ?_
  refine cw_aload_n dX1_part_17 rfl 1 rfl ?_
  refine cw_iconst (v := 0) dX1_part_18 (by decide) ?_
  refine cw_putZ (ci := 4) (j := 4) (C := RX5) (T := TX5) (N := 5) rfl (by decide) rfl rfl (Or.inr ⟨_, q1019⟩) fSame_rfl (Or.inl rfl) dX1_part_19 ?_
  refine cw_iload_n dX1_part_22 rfl 0 rfl ?_
  exact cw_zret rfl dX1_part_23
def g_X7_init (a0 : Nat) (a1 : Int32) (a2 : Int32) (a3 : Nat) (a4 : Nat) : GF :=
  objG a0 <|
  mulG 6 5 5 7 fun p1 =>
  putP 26 a0 4 p1 <|
  putI 26 a0 0 a1 <|
  putI 26 a0 1 a2 <|
  putP 26 a0 2 a3 <|
  putP 26 a0 3 a4 <|
  retG rV
abbrev md_X7_init : MD := (yX7_init, cX7_init, 5, none, RX7, 10, 6, 40)
theorem hm_X7_init : (md_X7_init).y.cls ≠ "java/lang/invoke/MethodHandle" ∧ (md_X7_init).y.cls ≠ "java/lang/invoke/VarHandle" ∧ (parseMethodDescriptor (md_X7_init).y.desc).map (fun d => d.parameters.length) = some 4 := by decide +kernel
theorem m_X7_init (a0 : Nat) (a1 : Int32) (a2 : Int32) (a3 : Nat) (a4 : Nat) : CMF md_X7_init [cR a0, cI a1, cI a2, cR a3, cR a4] (g_X7_init a0 a1 a2 a3 a4) := by
  refine cm_of (by decide +kernel) rfl (Nat.le_of_ble_eq_true rfl) ?_
  show CWF _ 6 40 0 [(0, cR a0), (1, cI a1), (2, cI a2), (3, cR a3), (4, cR a4)] [] _
  unfold g_X7_init
  refine cw_aload_n dX7_init_0 rfl 0 rfl ?_
  refine cw_objInit q1055 q159 q160 dX7_init_1 (by decide) (Nat.le_of_ble_eq_true rfl) ?_
  refine cw_aload_n dX7_init_4 rfl 0 rfl ?_
  refine cw_iconst (v := 5) dX7_init_5 (by decide) ?_
  refine cw_bipush (v := 7) dX7_init_6 (by decide) ?_
  refine cw_mul (c := 0) (q := 0) (t1 := 6) (t2 := 5) (n := 5) (k := 7) (ty := (.object "Scrutineery$Marks")) ⟨by decide, by decide⟩ (by decide) (Or.inr ⟨rfl, rfl, rfl⟩) q1056 q1057 q1059 dX7_init_8 (fun p1 => ?_)
  refine cw_putP (ci := 6) (j := 4) (C := RX7) (T := TX7) (N := 5) rfl (by decide) rfl rfl (Or.inl q1071) fSame_rfl (Or.inr ⟨rfl, rfl, rfl⟩) dX7_init_12 ?_
  refine cw_aload_n dX7_init_15 rfl 0 rfl ?_
  refine cw_iload_n dX7_init_16 rfl 1 rfl ?_
  refine cw_putI (ci := 6) (j := 0) (C := RX7) (T := TX7) (N := 5) rfl (by decide) rfl rfl (Or.inl q1060) fSame_rfl (Or.inr ⟨rfl, rfl, rfl⟩) dX7_init_17 ?_
  refine cw_aload_n dX7_init_20 rfl 0 rfl ?_
  refine cw_iload_n dX7_init_21 rfl 2 rfl ?_
  refine cw_putI (ci := 6) (j := 1) (C := RX7) (T := TX7) (N := 5) rfl (by decide) rfl rfl (Or.inl q1063) fSame_rfl (Or.inr ⟨rfl, rfl, rfl⟩) dX7_init_22 ?_
  refine cw_aload_n dX7_init_25 rfl 0 rfl ?_
  refine cw_aload_n dX7_init_26 rfl 3 rfl ?_
  refine cw_putP (ci := 6) (j := 2) (C := RX7) (T := TX7) (N := 5) rfl (by decide) rfl rfl (Or.inl q1066) fSame_rfl (Or.inr ⟨rfl, rfl, rfl⟩) dX7_init_27 ?_
  refine cw_aload_n dX7_init_30 rfl 0 rfl ?_
  refine cw_aload dX7_init_31 4 rfl ?_
  refine cw_putP (ci := 6) (j := 3) (C := RX7) (T := TX7) (N := 5) rfl (by decide) rfl rfl (Or.inl q1069) fSame_rfl (Or.inr ⟨rfl, rfl, rfl⟩) dX7_init_33 ?_
  exact cw_vret rfl dX7_init_36
def g_X6_init (a0 : Nat) (a1 : Int32) (a2 : Int32) (a3 : Int32) (a4 : Int32) (a5 : Int32) (a6 : Int32) (a7 : Int32) : GF :=
  objG a0 <|
  newG 34 fun p1 =>
  invV (some (p1, 34)) (s_init p1) <|
  putP 25 a0 7 p1 <|
  newG 34 fun p2 =>
  invV (some (p2, 34)) (s_init p2) <|
  putP 25 a0 8 p2 <|
  newG 34 fun p3 =>
  invV (some (p3, 34)) (s_init p3) <|
  putP 25 a0 9 p3 <|
  putI 25 a0 10 6 <|
  putI 25 a0 11 6 <|
  putI 25 a0 13 1 <|
  newG 26 fun p4 =>
  newG 34 fun p5 =>
  invV (some (p5, 34)) (s_init p5) <|
  newG 34 fun p6 =>
  invV (some (p6, 34)) (s_init p6) <|
  invV (some (p4, 26)) (g_X7_init p4 0 0 p5 p6) <|
  putP 25 a0 18 p4 <|
  putI 25 a0 0 a1 <|
  putI 25 a0 1 a2 <|
  putI 25 a0 2 a3 <|
  putI 25 a0 3 a4 <|
  putI 25 a0 4 a5 <|
  putI 25 a0 5 a6 <|
  putZ 25 a0 6 a7 <|
  getP 25 a0 8 fun p7 =>
  newG 34 fun p8 =>
  invV (some (p8, 34)) (s_init p8) <|
  invI (some (p7, 8)) (s_add p7 p8) fun x9 =>
  jnG (fun (v10 : Int32) =>
    retG rV) fun J11 =>
  jnG (fun (_ : Unit) =>
    J11 0) fun J12 =>
  if x9 = 0 then
    J12 ()
  else
    getP 25 a0 8 fun p13 =>
    newG 34 fun p14 =>
    invV (some (p14, 34)) (s_init p14) <|
    invI (some (p13, 8)) (s_add p13 p14) fun x15 =>
    if x15 = 0 then
      J12 ()
    else
      J11 1
abbrev md_X6_init : MD := (yX6_init, cX6_init, 9, none, RX6, 16, 16, 194)
theorem hm_X6_init : (md_X6_init).y.cls ≠ "java/lang/invoke/MethodHandle" ∧ (md_X6_init).y.cls ≠ "java/lang/invoke/VarHandle" ∧ (parseMethodDescriptor (md_X6_init).y.desc).map (fun d => d.parameters.length) = some 7 := by decide +kernel
theorem m_X6_init (a0 : Nat) (a1 : Int32) (a2 : Int32) (a3 : Int32) (a4 : Int32) (a5 : Int32) (a6 : Int32) (a7 : Int32) : CMF md_X6_init [cR a0, cI a1, cI a2, cI a3, cI a4, cI a5, cI a6, cI a7] (g_X6_init a0 a1 a2 a3 a4 a5 a6 a7) := by
  refine cm_of (by decide +kernel) rfl (Nat.le_of_ble_eq_true rfl) ?_
  show CWF _ 16 194 0 [(0, cR a0), (1, cI a1), (2, cI a2), (3, cI a3), (4, cI a4), (5, cI a5), (6, cI a6), (7, cI a7)] [] _
  unfold g_X6_init
  refine cw_aload_n dX6_init_0 rfl 0 rfl ?_
  refine cw_objInit q1049 q159 q160 dX6_init_1 (by decide) (Nat.le_of_ble_eq_true rfl) ?_
  refine cw_aload_n dX6_init_4 rfl 0 rfl ?_
  refine cw_new (c := 15) (q := 191) (ci := 14) (C := RJ2) (T := TJ2) (N := 3) rfl rfl q546 q162 q114 dX6_init_5 (fun p1 => ?_)
  refine cw_dup dX6_init_8 rfl ?_
  refine cw_invV (d2 := md_J2_init) (c := 15) (q := 191) (as := [cR p1]) (mc := 0) (ms := 0) rfl rfl (okI (n := 0) rfl rfl dX6_init_9 (lw_meth q165) q114 q547 q164 rfl hm_J2_init (by decide) (by decide) (Nat.le_of_ble_eq_true rfl) (by decide)) (c_init p1) rfl ?_
  refine cw_putP (ci := 5) (j := 7) (C := RX6) (T := TX6) (N := 19) rfl (by decide) rfl rfl (Or.inl q1099) fSame_rfl (Or.inr ⟨rfl, rfl, rfl⟩) dX6_init_12 ?_
  refine cw_aload_n dX6_init_15 rfl 0 rfl ?_
  refine cw_new (c := 14) (q := 188) (ci := 14) (C := RJ2) (T := TJ2) (N := 3) rfl rfl q546 q162 q114 dX6_init_16 (fun p2 => ?_)
  refine cw_dup dX6_init_19 rfl ?_
  refine cw_invV (d2 := md_J2_init) (c := 14) (q := 188) (as := [cR p2]) (mc := 0) (ms := 0) rfl rfl (okI (n := 0) rfl rfl dX6_init_20 (lw_meth q165) q114 q547 q164 rfl hm_J2_init (by decide) (by decide) (Nat.le_of_ble_eq_true rfl) (by decide)) (c_init p2) rfl ?_
  refine cw_putP (ci := 5) (j := 8) (C := RX6) (T := TX6) (N := 19) rfl (by decide) rfl rfl (Or.inl q1101) fSame_rfl (Or.inr ⟨rfl, rfl, rfl⟩) dX6_init_23 ?_
  refine cw_aload_n dX6_init_26 rfl 0 rfl ?_
  refine cw_new (c := 13) (q := 185) (ci := 14) (C := RJ2) (T := TJ2) (N := 3) rfl rfl q546 q162 q114 dX6_init_27 (fun p3 => ?_)
  refine cw_dup dX6_init_30 rfl ?_
  refine cw_invV (d2 := md_J2_init) (c := 13) (q := 185) (as := [cR p3]) (mc := 0) (ms := 0) rfl rfl (okI (n := 0) rfl rfl dX6_init_31 (lw_meth q165) q114 q547 q164 rfl hm_J2_init (by decide) (by decide) (Nat.le_of_ble_eq_true rfl) (by decide)) (c_init p3) rfl ?_
  refine cw_putP (ci := 5) (j := 9) (C := RX6) (T := TX6) (N := 19) rfl (by decide) rfl rfl (Or.inl q1103) fSame_rfl (Or.inr ⟨rfl, rfl, rfl⟩) dX6_init_34 ?_
  refine cw_aload_n dX6_init_37 rfl 0 rfl ?_
  refine cw_bipush (v := 6) dX6_init_38 (by decide) ?_
  refine cw_putI (ci := 5) (j := 10) (C := RX6) (T := TX6) (N := 19) rfl (by decide) rfl rfl (Or.inl q1105) fSame_rfl (Or.inl rfl) dX6_init_40 ?_
  refine cw_aload_n dX6_init_43 rfl 0 rfl ?_
  refine cw_bipush (v := 6) dX6_init_44 (by decide) ?_
  refine cw_putI (ci := 5) (j := 11) (C := RX6) (T := TX6) (N := 19) rfl (by decide) rfl rfl (Or.inl q1107) fSame_rfl (Or.inl rfl) dX6_init_46 ?_
  refine cw_aload_n dX6_init_49 rfl 0 rfl ?_
  refine cw_iconst (v := 1) dX6_init_50 (by decide) ?_
  refine cw_putI (ci := 5) (j := 13) (C := RX6) (T := TX6) (N := 19) rfl (by decide) rfl rfl (Or.inl q1110) fSame_rfl (Or.inl rfl) dX6_init_51 ?_
  refine cw_aload_n dX6_init_54 rfl 0 rfl ?_
  refine cw_new (c := 12) (q := 180) (ci := 6) (C := RX7) (T := TX7) (N := 5) rfl rfl q1050 q1051 q138 dX6_init_55 (fun p4 => ?_)
  refine cw_dup dX6_init_58 rfl ?_
  refine cw_iconst (v := 0) dX6_init_59 (by decide) ?_
  refine cw_iconst (v := 0) dX6_init_60 (by decide) ?_
  refine cw_new (c := 11) (q := 177) (ci := 14) (C := RJ2) (T := TJ2) (N := 3) rfl rfl q546 q162 q114 dX6_init_61 (fun p5 => ?_)
  refine cw_dup dX6_init_64 rfl ?_
  refine cw_invV (d2 := md_J2_init) (c := 11) (q := 177) (as := [cR p5]) (mc := 0) (ms := 0) rfl rfl (okI (n := 0) rfl rfl dX6_init_65 (lw_meth q165) q114 q547 q164 rfl hm_J2_init (by decide) (by decide) (Nat.le_of_ble_eq_true rfl) (by decide)) (c_init p5) rfl ?_
  refine cw_new (c := 10) (q := 174) (ci := 14) (C := RJ2) (T := TJ2) (N := 3) rfl rfl q546 q162 q114 dX6_init_68 (fun p6 => ?_)
  refine cw_dup dX6_init_71 rfl ?_
  refine cw_invV (d2 := md_J2_init) (c := 10) (q := 174) (as := [cR p6]) (mc := 0) (ms := 0) rfl rfl (okI (n := 0) rfl rfl dX6_init_72 (lw_meth q165) q114 q547 q164 rfl hm_J2_init (by decide) (by decide) (Nat.le_of_ble_eq_true rfl) (by decide)) (c_init p6) rfl ?_
  refine cw_invV (d2 := md_X7_init) (c := 4) (q := 134) (as := [cR p4, cI 0, cI 0, cR p5, cR p6]) (mc := 6) (ms := 40) rfl rfl (okI (n := 4) rfl rfl dX6_init_75 (lw_meth q1054) q138 q1052 q1053 rfl hm_X7_init (by decide) (by decide) (Nat.le_of_ble_eq_true rfl) (by decide)) (m_X7_init p4 0 0 p5 p6) rfl ?_
  refine cw_putP (ci := 5) (j := 18) (C := RX6) (T := TX6) (N := 19) rfl (by decide) rfl rfl (Or.inl q1118) fSame_rfl (Or.inl rfl) dX6_init_78 ?_
  refine cw_aload_n dX6_init_81 rfl 0 rfl ?_
  refine cw_iload_n dX6_init_82 rfl 1 rfl ?_
  refine cw_putI (ci := 5) (j := 0) (C := RX6) (T := TX6) (N := 19) rfl (by decide) rfl rfl (Or.inl q1085) fSame_rfl (Or.inr ⟨rfl, rfl, rfl⟩) dX6_init_83 ?_
  refine cw_aload_n dX6_init_86 rfl 0 rfl ?_
  refine cw_iload_n dX6_init_87 rfl 2 rfl ?_
  refine cw_putI (ci := 5) (j := 1) (C := RX6) (T := TX6) (N := 19) rfl (by decide) rfl rfl (Or.inl q1087) fSame_rfl (Or.inr ⟨rfl, rfl, rfl⟩) dX6_init_88 ?_
  refine cw_aload_n dX6_init_91 rfl 0 rfl ?_
  refine cw_iload_n dX6_init_92 rfl 3 rfl ?_
  refine cw_putI (ci := 5) (j := 2) (C := RX6) (T := TX6) (N := 19) rfl (by decide) rfl rfl (Or.inl q1089) fSame_rfl (Or.inr ⟨rfl, rfl, rfl⟩) dX6_init_93 ?_
  refine cw_aload_n dX6_init_96 rfl 0 rfl ?_
  refine cw_iload dX6_init_97 4 rfl ?_
  refine cw_putI (ci := 5) (j := 3) (C := RX6) (T := TX6) (N := 19) rfl (by decide) rfl rfl (Or.inl q1091) fSame_rfl (Or.inr ⟨rfl, rfl, rfl⟩) dX6_init_99 ?_
  refine cw_aload_n dX6_init_102 rfl 0 rfl ?_
  refine cw_iload dX6_init_103 5 rfl ?_
  refine cw_putI (ci := 5) (j := 4) (C := RX6) (T := TX6) (N := 19) rfl (by decide) rfl rfl (Or.inl q1093) fSame_rfl (Or.inr ⟨rfl, rfl, rfl⟩) dX6_init_105 ?_
  refine cw_aload_n dX6_init_108 rfl 0 rfl ?_
  refine cw_iload dX6_init_109 6 rfl ?_
  refine cw_putI (ci := 5) (j := 5) (C := RX6) (T := TX6) (N := 19) rfl (by decide) rfl rfl (Or.inl q1095) fSame_rfl (Or.inr ⟨rfl, rfl, rfl⟩) dX6_init_111 ?_
  refine cw_aload_n dX6_init_114 rfl 0 rfl ?_
  refine cw_iload dX6_init_115 7 rfl ?_
  refine cw_putZ (ci := 5) (j := 6) (C := RX6) (T := TX6) (N := 19) rfl (by decide) rfl rfl (Or.inl q1097) fSame_rfl (Or.inr ⟨rfl, rfl, rfl⟩) dX6_init_117 ?_
  refine cw_aload_n dX6_init_120 rfl 0 rfl ?_
  refine cw_getP (ci := 5) (j := 8) (C := RX6) (T := TX6) (N := 19) rfl (by decide) rfl rfl (Or.inl q1101) fSame_rfl dX6_init_121 (fun p7 => ?_)
  refine cw_new (c := 3) (q := 131) (ci := 14) (C := RJ2) (T := TJ2) (N := 3) rfl rfl q546 q162 q114 dX6_init_124 (fun p8 => ?_)
  refine cw_dup dX6_init_127 rfl ?_
  refine cw_invV (d2 := md_J2_init) (c := 3) (q := 131) (as := [cR p8]) (mc := 0) (ms := 0) rfl rfl (okI (n := 0) rfl rfl dX6_init_128 (lw_meth q165) q114 q547 q164 rfl hm_J2_init (by decide) (by decide) (Nat.le_of_ble_eq_true rfl) (by decide)) (c_init p8) rfl ?_
  refine cw_invI (d2 := md_J2_add) (c := 2) (q := 67) (as := [cR p7, cR p8]) (mc := 1) (ms := 64) rfl rfl (okF (x := ⟨"java/util/List", "add", "(Ljava/lang/Object;)Z"⟩) (ci := 14) (C := RJ2) (T0 := TJ2) (N := 3) (n := 1) rfl (Or.inr ⟨rfl, rfl⟩) rfl dX6_init_131 (lw_F q582 q587 q585 q114 q589) (List.mem_iff_getElem?.mpr ⟨9, rfl⟩) (show ("java/util/List" : String) ≠ _ ∧ ("java/util/List" : String) ≠ _ ∧ (parseMethodDescriptor (md_J2_add).y.desc).map (fun d => d.parameters.length) = some 1 from ⟨by decide, by decide, (hm_J2_add).2.2⟩) (by decide) (by decide) (Nat.le_of_ble_eq_true rfl)) (c_add p7 p8) rfl (fun x9 => ?_)
  refine cw_jn (cj := 0) (kj := 0) (pcj := 163) (lsf := fun (s : Int32) => []) (stf := fun (s : Int32) => [cI s]) (fun s => ?_) (fun J11 hJ11 => ?_)
  · obtain ⟨v10, e⟩ : ∃ z, z = s := ⟨_, rfl⟩
    subst e
    show CWF _ _ _ 163 [] [cI v10] _
    refine cw_istore (ls' := [(8, cI v10)]) dX6_init_163 (by decide) rfl ?_
    exact cw_vret rfl dX6_init_165
  · refine cw_jn (cj := 0) (kj := 0) (pcj := 162) (lsf := fun (s : Unit) => []) (stf := fun (s : Unit) => []) (fun s => ?_) (fun J12 hJ12 => ?_)
    · show CWF _ _ _ 162 [] [] _
      refine cw_iconst (v := 0) dX6_init_162 (by decide) ?_
      exact hJ11 0
    · refine cw_if_eq (tgt := 162) dX6_init_136 (by decide) ?_ ?_
      · refine cw_weak (c' := 0) (q' := 0) (by omega) (by omega) ?_
        refine cw_sub (ls' := []) [] rfl ?_
        exact hJ12 ()
      · refine cw_aload_n dX6_init_139 rfl 0 rfl ?_
        refine cw_getP (ci := 5) (j := 8) (C := RX6) (T := TX6) (N := 19) rfl (by decide) rfl rfl (Or.inl q1101) fSame_rfl dX6_init_140 (fun p13 => ?_)
        refine cw_new (c := 1) (q := 64) (ci := 14) (C := RJ2) (T := TJ2) (N := 3) rfl rfl q546 q162 q114 dX6_init_143 (fun p14 => ?_)
        refine cw_dup dX6_init_146 rfl ?_
        refine cw_invV (d2 := md_J2_init) (c := 1) (q := 64) (as := [cR p14]) (mc := 0) (ms := 0) rfl rfl (okI (n := 0) rfl rfl dX6_init_147 (lw_meth q165) q114 q547 q164 rfl hm_J2_init (by decide) (by decide) (Nat.le_of_ble_eq_true rfl) (by decide)) (c_init p14) rfl ?_
        refine cw_invI (d2 := md_J2_add) (c := 0) (q := 0) (as := [cR p13, cR p14]) (mc := 1) (ms := 64) rfl rfl (okF (x := ⟨"java/util/List", "add", "(Ljava/lang/Object;)Z"⟩) (ci := 14) (C := RJ2) (T0 := TJ2) (N := 3) (n := 1) rfl (Or.inr ⟨rfl, rfl⟩) rfl dX6_init_150 (lw_F q582 q587 q585 q114 q589) (List.mem_iff_getElem?.mpr ⟨9, rfl⟩) (show ("java/util/List" : String) ≠ _ ∧ ("java/util/List" : String) ≠ _ ∧ (parseMethodDescriptor (md_J2_add).y.desc).map (fun d => d.parameters.length) = some 1 from ⟨by decide, by decide, (hm_J2_add).2.2⟩) (by decide) (by decide) (Nat.le_of_ble_eq_true rfl)) (c_add p13 p14) rfl (fun x15 => ?_)
        refine cw_if_eq (tgt := 162) dX6_init_155 (by decide) ?_ ?_
        · refine cw_sub (ls' := []) [] rfl ?_
          exact hJ12 ()
        · refine cw_iconst (v := 1) dX6_init_158 (by decide) ?_
          refine cw_goto (tgt := 163) dX6_init_159 (by decide) ?_
          refine cw_sub (ls' := []) [] rfl ?_
          exact hJ11 1
def g_X1_event (a0 : Nat) (a1 : Int32) (a2 : Int32) (a3 : Int32) (a4 : Int32) (a5 : Int32) (a6 : Int32) : GF :=
  invI none (g_X1_isBetween a1 0 1) fun x1 =>
  jnG (fun (v2 : Int32) =>
    invV none (g_X1_requireArgument v2) <|
    getP 20 a0 3 fun p3 =>
    invI (some (p3, 8)) (s_size p3) fun x4 =>
    jnG (fun (v5 : Int32) =>
      invV none (g_X1_requireState v5) <|
      getP 20 a0 3 fun p6 =>
      newG 25 fun p7 =>
      getP 20 a0 3 fun p8 =>
      invI (some (p8, 8)) (s_size p8) fun x9 =>
      invV (some (p7, 25)) (g_X6_init p7 x9 a1 a2 a3 a4 a5 a6) <|
      invI (some (p6, 8)) (s_add p6 p7) fun x10 =>
      getP 20 a0 3 fun p11 =>
      invI (some (p11, 8)) (s_size p11) fun x12 =>
      retG (rI (x12 - 1))) fun J13 =>
    if x4 < 5 then
      J13 1
    else
      J13 0) fun J14 =>
  jnG (fun (_ : Unit) =>
    J14 0) fun J15 =>
  if x1 = 0 then
    J15 ()
  else
    invI none (g_X1_isBetween a2 1 5) fun x16 =>
    if x16 = 0 then
      J15 ()
    else
      invI none (g_X1_isBetween a3 6 99) fun x17 =>
      if x17 = 0 then
        J15 ()
      else
        invI none (g_X1_isBetween a4 a3 99) fun x18 =>
        if x18 = 0 then
          J15 ()
        else
          invI none (g_X1_isBetween a5 0 4) fun x19 =>
          if x19 = 0 then
            J15 ()
          else
            J14 1
abbrev md_X1_event : MD := (yX1_event, cX1_event, 8, (some (Jvm.ClassFile.FieldType.int)), RX1, 17, 20, 289)
theorem hm_X1_event : (md_X1_event).y.cls ≠ "java/lang/invoke/MethodHandle" ∧ (md_X1_event).y.cls ≠ "java/lang/invoke/VarHandle" ∧ (parseMethodDescriptor (md_X1_event).y.desc).map (fun d => d.parameters.length) = some 6 := by decide +kernel
theorem m_X1_event (a0 : Nat) (a1 : Int32) (a2 : Int32) (a3 : Int32) (a4 : Int32) (a5 : Int32) (a6 : Int32) : CMF md_X1_event [cR a0, cI a1, cI a2, cI a3, cI a4, cI a5, cI a6] (g_X1_event a0 a1 a2 a3 a4 a5 a6) := by
  refine cm_of (by decide +kernel) rfl (Nat.le_of_ble_eq_true rfl) ?_
  show CWF _ 20 289 0 [(0, cR a0), (1, cI a1), (2, cI a2), (3, cI a3), (4, cI a4), (5, cI a5), (6, cI a6)] [] _
  unfold g_X1_event
  refine cw_iload_n dX1_event_0 rfl 1 rfl ?_
  refine cw_iconst (v := 0) dX1_event_1 (by decide) ?_
  refine cw_iconst (v := 1) dX1_event_2 (by decide) ?_
  refine cw_invI (d2 := md_X1_isBetween) (c := 20) (q := 289) (as := [cI a1, cI 0, cI 1]) (mc := 0) (ms := 0) rfl rfl (okS (n := 3) rfl dX1_event_3 (lw_S q258 q259 q111 q260) hm_X1_isBetween (by decide) (by decide) (Nat.le_of_ble_eq_true rfl)) (m_X1_isBetween a1 0 1) rfl (fun x1 => ?_)
  refine cw_jn (cj := 20) (kj := 289) (pcj := 55) (lsf := fun (s : Int32) => [(0, cR a0), (1, cI a1), (2, cI a2), (3, cI a3), (4, cI a4), (5, cI a5), (6, cI a6)]) (stf := fun (s : Int32) => [cI s]) (fun s => ?_) (fun J14 hJ14 => ?_)
  · obtain ⟨v2, e⟩ : ∃ z, z = s := ⟨_, rfl⟩
    subst e
    show CWF _ _ _ 55 [(0, cR a0), (1, cI a1), (2, cI a2), (3, cI a3), (4, cI a4), (5, cI a5), (6, cI a6)] [cI v2] _
    refine cw_invV (d2 := md_X1_requireArgument) (c := 19) (q := 283) (as := [cI v2]) (mc := 1) (ms := 6) rfl rfl (okS (n := 1) rfl dX1_event_55 (lw_S q744 q745 q111 q746) hm_X1_requireArgument (by decide) (by decide) (Nat.le_of_ble_eq_true rfl)) (m_X1_requireArgument v2) rfl ?_
    refine cw_aload_n dX1_event_58 rfl 0 rfl ?_
    refine cw_getP (ci := 0) (j := 3) (C := RX1) (T := TX1) (N := 11) rfl (by decide) rfl rfl (Or.inl q209) fSame_rfl dX1_event_59 (fun p3 => ?_)
    refine cw_invI (d2 := md_J2_size) (c := 19) (q := 283) (as := [cR p3]) (mc := 0) (ms := 0) rfl rfl (okF (x := ⟨"java/util/List", "size", "()I"⟩) (ci := 14) (C := RJ2) (T0 := TJ2) (N := 3) (n := 0) rfl (Or.inr ⟨rfl, rfl⟩) rfl dX1_event_62 (lw_F q246 q251 q249 q114 q253) (List.mem_iff_getElem?.mpr ⟨1, rfl⟩) (show ("java/util/List" : String) ≠ _ ∧ ("java/util/List" : String) ≠ _ ∧ (parseMethodDescriptor (md_J2_size).y.desc).map (fun d => d.parameters.length) = some 0 from ⟨by decide, by decide, (hm_J2_size).2.2⟩) (by decide) (by decide) (Nat.le_of_ble_eq_true rfl)) (c_size p3) rfl (fun x4 => ?_)
    refine cw_iconst (v := 5) dX1_event_67 (by decide) ?_
    refine cw_jn (cj := 19) (kj := 283) (pcj := 76) (lsf := fun (s : Int32) => [(0, cR a0), (1, cI a1), (2, cI a2), (3, cI a3), (4, cI a4), (5, cI a5), (6, cI a6)]) (stf := fun (s : Int32) => [cI s]) (fun s => ?_) (fun J13 hJ13 => ?_)
    · obtain ⟨v5, e⟩ : ∃ z, z = s := ⟨_, rfl⟩
      subst e
      show CWF _ _ _ 76 [(0, cR a0), (1, cI a1), (2, cI a2), (3, cI a3), (4, cI a4), (5, cI a5), (6, cI a6)] [cI v5] _
      refine cw_invV (d2 := md_X1_requireState) (c := 18) (q := 277) (as := [cI v5]) (mc := 1) (ms := 6) rfl rfl (okS (n := 1) rfl dX1_event_76 (lw_S q772 q773 q111 q774) hm_X1_requireState (by decide) (by decide) (Nat.le_of_ble_eq_true rfl)) (m_X1_requireState v5) rfl ?_
      refine cw_aload_n dX1_event_79 rfl 0 rfl ?_
      refine cw_getP (ci := 0) (j := 3) (C := RX1) (T := TX1) (N := 11) rfl (by decide) rfl rfl (Or.inl q209) fSame_rfl dX1_event_80 (fun p6 => ?_)
      refine cw_new (c := 17) (q := 258) (ci := 5) (C := RX6) (T := TX6) (N := 19) rfl rfl q524 q1045 q137 dX1_event_83 (fun p7 => ?_)
      refine cw_dup dX1_event_86 rfl ?_
      refine cw_aload_n dX1_event_87 rfl 0 rfl ?_
      refine cw_getP (ci := 0) (j := 3) (C := RX1) (T := TX1) (N := 11) rfl (by decide) rfl rfl (Or.inl q209) fSame_rfl dX1_event_88 (fun p8 => ?_)
      refine cw_invI (d2 := md_J2_size) (c := 17) (q := 258) (as := [cR p8]) (mc := 0) (ms := 0) rfl rfl (okF (x := ⟨"java/util/List", "size", "()I"⟩) (ci := 14) (C := RJ2) (T0 := TJ2) (N := 3) (n := 0) rfl (Or.inr ⟨rfl, rfl⟩) rfl dX1_event_91 (lw_F q246 q251 q249 q114 q253) (List.mem_iff_getElem?.mpr ⟨1, rfl⟩) (show ("java/util/List" : String) ≠ _ ∧ ("java/util/List" : String) ≠ _ ∧ (parseMethodDescriptor (md_J2_size).y.desc).map (fun d => d.parameters.length) = some 0 from ⟨by decide, by decide, (hm_J2_size).2.2⟩) (by decide) (by decide) (Nat.le_of_ble_eq_true rfl)) (c_size p8) rfl (fun x9 => ?_)
      refine cw_iload_n dX1_event_96 rfl 1 rfl ?_
      refine cw_iload_n dX1_event_97 rfl 2 rfl ?_
      refine cw_iload_n dX1_event_98 rfl 3 rfl ?_
      refine cw_iload dX1_event_99 4 rfl ?_
      refine cw_iload dX1_event_101 5 rfl ?_
      refine cw_iload dX1_event_103 6 rfl ?_
      refine cw_invV (d2 := md_X6_init) (c := 1) (q := 64) (as := [cR p7, cI x9, cI a1, cI a2, cI a3, cI a4, cI a5, cI a6]) (mc := 16) (ms := 194) rfl rfl (okI (n := 7) rfl rfl dX1_event_105 (lw_meth q1048) q137 q1046 q1047 rfl hm_X6_init (by decide) (by decide) (Nat.le_of_ble_eq_true rfl) (by decide)) (m_X6_init p7 x9 a1 a2 a3 a4 a5 a6) rfl ?_
      refine cw_invI (d2 := md_J2_add) (c := 0) (q := 0) (as := [cR p6, cR p7]) (mc := 1) (ms := 64) rfl rfl (okF (x := ⟨"java/util/List", "add", "(Ljava/lang/Object;)Z"⟩) (ci := 14) (C := RJ2) (T0 := TJ2) (N := 3) (n := 1) rfl (Or.inr ⟨rfl, rfl⟩) rfl dX1_event_108 (lw_F q842 q587 q585 q114 q589) (List.mem_iff_getElem?.mpr ⟨9, rfl⟩) (show ("java/util/List" : String) ≠ _ ∧ ("java/util/List" : String) ≠ _ ∧ (parseMethodDescriptor (md_J2_add).y.desc).map (fun d => d.parameters.length) = some 1 from ⟨by decide, by decide, (hm_J2_add).2.2⟩) (by decide) (by decide) (Nat.le_of_ble_eq_true rfl)) (c_add p6 p7) rfl (fun x10 => ?_)
      refine cw_istore (ls' := [(7, cI x10), (0, cR a0), (1, cI a1), (2, cI a2), (3, cI a3), (4, cI a4), (5, cI a5), (6, cI a6)]) dX1_event_113 (by decide) rfl ?_
      refine cw_aload_n dX1_event_115 rfl 1 rfl ?_
      refine cw_getP (ci := 0) (j := 3) (C := RX1) (T := TX1) (N := 11) rfl (by decide) rfl rfl (Or.inl q209) fSame_rfl dX1_event_116 (fun p11 => ?_)
      refine cw_invI (d2 := md_J2_size) (c := 0) (q := 0) (as := [cR p11]) (mc := 0) (ms := 0) rfl rfl (okF (x := ⟨"java/util/List", "size", "()I"⟩) (ci := 14) (C := RJ2) (T0 := TJ2) (N := 3) (n := 0) rfl (Or.inr ⟨rfl, rfl⟩) rfl dX1_event_119 (lw_F q246 q251 q249 q114 q253) (List.mem_iff_getElem?.mpr ⟨1, rfl⟩) (show ("java/util/List" : String) ≠ _ ∧ ("java/util/List" : String) ≠ _ ∧ (parseMethodDescriptor (md_J2_size).y.desc).map (fun d => d.parameters.length) = some 0 from ⟨by decide, by decide, (hm_J2_size).2.2⟩) (by decide) (by decide) (Nat.le_of_ble_eq_true rfl)) (c_size p11) rfl (fun x12 => ?_)
      refine cw_iconst (v := 1) dX1_event_124 (by decide) ?_
      refine cw_isub dX1_event_125 ?_
      exact cw_iret rfl dX1_event_126
    · refine cw_icmp_ge (tgt := 75) dX1_event_68 (by decide) ?_ ?_
      · refine cw_iconst (v := 0) dX1_event_75 (by decide) ?_
        exact hJ13 0
      · refine cw_iconst (v := 1) dX1_event_71 (by decide) ?_
        refine cw_goto (tgt := 76) dX1_event_72 (by decide) ?_
        exact hJ13 1
  · refine cw_jn (cj := 20) (kj := 289) (pcj := 54) (lsf := fun (s : Unit) => [(0, cR a0), (1, cI a1), (2, cI a2), (3, cI a3), (4, cI a4), (5, cI a5), (6, cI a6)]) (stf := fun (s : Unit) => []) (fun s => ?_) (fun J15 hJ15 => ?_)
    · show CWF _ _ _ 54 [(0, cR a0), (1, cI a1), (2, cI a2), (3, cI a3), (4, cI a4), (5, cI a5), (6, cI a6)] [] _
      refine cw_iconst (v := 0) dX1_event_54 (by decide) ?_
      exact hJ14 0
    · refine cw_if_eq (tgt := 54) dX1_event_6 (by decide) ?_ ?_
      · exact hJ15 ()
      · refine cw_iload_n dX1_event_9 rfl 2 rfl ?_
        refine cw_iconst (v := 1) dX1_event_10 (by decide) ?_
        refine cw_iconst (v := 5) dX1_event_11 (by decide) ?_
        refine cw_invI (d2 := md_X1_isBetween) (c := 20) (q := 289) (as := [cI a2, cI 1, cI 5]) (mc := 0) (ms := 0) rfl rfl (okS (n := 3) rfl dX1_event_12 (lw_S q258 q259 q111 q260) hm_X1_isBetween (by decide) (by decide) (Nat.le_of_ble_eq_true rfl)) (m_X1_isBetween a2 1 5) rfl (fun x16 => ?_)
        refine cw_if_eq (tgt := 54) dX1_event_15 (by decide) ?_ ?_
        · exact hJ15 ()
        · refine cw_iload_n dX1_event_18 rfl 3 rfl ?_
          refine cw_bipush (v := 6) dX1_event_19 (by decide) ?_
          refine cw_bipush (v := 99) dX1_event_21 (by decide) ?_
          refine cw_invI (d2 := md_X1_isBetween) (c := 20) (q := 289) (as := [cI a3, cI 6, cI 99]) (mc := 0) (ms := 0) rfl rfl (okS (n := 3) rfl dX1_event_23 (lw_S q258 q259 q111 q260) hm_X1_isBetween (by decide) (by decide) (Nat.le_of_ble_eq_true rfl)) (m_X1_isBetween a3 6 99) rfl (fun x17 => ?_)
          refine cw_if_eq (tgt := 54) dX1_event_26 (by decide) ?_ ?_
          · exact hJ15 ()
          · refine cw_iload dX1_event_29 4 rfl ?_
            refine cw_iload_n dX1_event_31 rfl 3 rfl ?_
            refine cw_bipush (v := 99) dX1_event_32 (by decide) ?_
            refine cw_invI (d2 := md_X1_isBetween) (c := 20) (q := 289) (as := [cI a4, cI a3, cI 99]) (mc := 0) (ms := 0) rfl rfl (okS (n := 3) rfl dX1_event_34 (lw_S q258 q259 q111 q260) hm_X1_isBetween (by decide) (by decide) (Nat.le_of_ble_eq_true rfl)) (m_X1_isBetween a4 a3 99) rfl (fun x18 => ?_)
            refine cw_if_eq (tgt := 54) dX1_event_37 (by decide) ?_ ?_
            · exact hJ15 ()
            · refine cw_iload dX1_event_40 5 rfl ?_
              refine cw_iconst (v := 0) dX1_event_42 (by decide) ?_
              refine cw_iconst (v := 4) dX1_event_43 (by decide) ?_
              refine cw_invI (d2 := md_X1_isBetween) (c := 20) (q := 289) (as := [cI a5, cI 0, cI 4]) (mc := 0) (ms := 0) rfl rfl (okS (n := 3) rfl dX1_event_44 (lw_S q258 q259 q111 q260) hm_X1_isBetween (by decide) (by decide) (Nat.le_of_ble_eq_true rfl)) (m_X1_isBetween a5 0 4) rfl (fun x19 => ?_)
              refine cw_if_eq (tgt := 54) dX1_event_47 (by decide) ?_ ?_
              · exact hJ15 ()
              · refine cw_iconst (v := 1) dX1_event_50 (by decide) ?_
                refine cw_goto (tgt := 55) dX1_event_51 (by decide) ?_
                exact hJ14 1
def g_X1_rules (a0 : Nat) (a1 : Int32) (a2 : Int32) (a3 : Int32) (a4 : Int32) (a5 : Int32) : GF :=
  getP 20 a0 3 fun p1 =>
  invP none (g_X1_at p1 a1) fun p2 =>
  castG 25 p2 <|
  invI none (g_X1_isBetween a2 2 6) fun x3 =>
  jnG (fun (v4 : Int32) =>
    invV none (g_X1_requireArgument v4) <|
    getP 25 p2 7 fun p5 =>
    invI (some (p5, 8)) (s_isEmpty p5) fun x6 =>
    invV none (g_X1_requireState x6) <|
    getI 25 p2 13 fun x7 =>
    putI 25 p2 10 a2 <|
    putI 25 p2 11 a3 <|
    putI 25 p2 12 a4 <|
    putI 25 p2 13 a5 <|
    retG (rI x7)) fun J8 =>
  jnG (fun (_ : Unit) =>
    J8 0) fun J9 =>
  if x3 = 0 then
    J9 ()
  else
    invI none (g_X1_isBetween a3 2 6) fun x10 =>
    if x10 = 0 then
      J9 ()
    else
      invI none (g_X1_isBetween a4 0 1000) fun x11 =>
      if x11 = 0 then
        J9 ()
      else
        invI none (g_X1_isBetween a5 1 5) fun x12 =>
        if x12 = 0 then
          J9 ()
        else
          J8 1
abbrev md_X1_rules : MD := (yX1_rules, cX1_rules, 8, (some (Jvm.ClassFile.FieldType.int)), RX1, 14, 3, 18)
theorem hm_X1_rules : (md_X1_rules).y.cls ≠ "java/lang/invoke/MethodHandle" ∧ (md_X1_rules).y.cls ≠ "java/lang/invoke/VarHandle" ∧ (parseMethodDescriptor (md_X1_rules).y.desc).map (fun d => d.parameters.length) = some 5 := by decide +kernel
theorem m_X1_rules (a0 : Nat) (a1 : Int32) (a2 : Int32) (a3 : Int32) (a4 : Int32) (a5 : Int32) : CMF md_X1_rules [cR a0, cI a1, cI a2, cI a3, cI a4, cI a5] (g_X1_rules a0 a1 a2 a3 a4 a5) := by
  refine cm_of (by decide +kernel) rfl (Nat.le_of_ble_eq_true rfl) ?_
  show CWF _ 3 18 0 [(0, cR a0), (1, cI a1), (2, cI a2), (3, cI a3), (4, cI a4), (5, cI a5)] [] _
  unfold g_X1_rules
  refine cw_aload_n dX1_rules_0 rfl 0 rfl ?_
  refine cw_getP (ci := 0) (j := 3) (C := RX1) (T := TX1) (N := 11) rfl (by decide) rfl rfl (Or.inl q209) fSame_rfl dX1_rules_1 (fun p1 => ?_)
  refine cw_iload_n dX1_rules_4 rfl 1 rfl ?_
  refine cw_invP (d2 := md_X1_at) (c := 2) (q := 12) (as := [cR p1, cI a1]) (mc := 1) (ms := 6) rfl rfl (okS (n := 2) rfl dX1_rules_5 (lw_S q883 q884 q111 q885) hm_X1_at (by decide) (by decide) (Nat.le_of_ble_eq_true rfl)) (m_X1_at p1 a1) rfl (fun p2 => ?_)
  refine cw_cast (ci := 5) (T := TX6) (N := 19) (C := RX6) rfl rfl q524 (Or.inl rfl) dX1_rules_8 ?_
  refine cw_astore (ls' := [(6, cR p2), (0, cR a0), (1, cI a1), (2, cI a2), (3, cI a3), (4, cI a4), (5, cI a5)]) dX1_rules_11 (by decide) rfl ?_
  refine cw_iload_n dX1_rules_13 rfl 3 rfl ?_
  refine cw_iconst (v := 2) dX1_rules_14 (by decide) ?_
  refine cw_bipush (v := 6) dX1_rules_15 (by decide) ?_
  refine cw_invI (d2 := md_X1_isBetween) (c := 2) (q := 12) (as := [cI a2, cI 2, cI 6]) (mc := 0) (ms := 0) rfl rfl (okS (n := 3) rfl dX1_rules_17 (lw_S q258 q259 q111 q260) hm_X1_isBetween (by decide) (by decide) (Nat.le_of_ble_eq_true rfl)) (m_X1_isBetween a2 2 6) rfl (fun x3 => ?_)
  refine cw_jn (cj := 2) (kj := 12) (pcj := 60) (lsf := fun (s : Int32) => [(6, cR p2), (2, cI a2), (3, cI a3), (4, cI a4), (5, cI a5)]) (stf := fun (s : Int32) => [cI s]) (fun s => ?_) (fun J8 hJ8 => ?_)
  · obtain ⟨v4, e⟩ : ∃ z, z = s := ⟨_, rfl⟩
    subst e
    show CWF _ _ _ 60 [(6, cR p2), (2, cI a2), (3, cI a3), (4, cI a4), (5, cI a5)] [cI v4] _
    refine cw_invV (d2 := md_X1_requireArgument) (c := 1) (q := 6) (as := [cI v4]) (mc := 1) (ms := 6) rfl rfl (okS (n := 1) rfl dX1_rules_60 (lw_S q744 q745 q111 q746) hm_X1_requireArgument (by decide) (by decide) (Nat.le_of_ble_eq_true rfl)) (m_X1_requireArgument v4) rfl ?_
    refine cw_aload dX1_rules_63 0 rfl ?_
    refine cw_getP (ci := 5) (j := 7) (C := RX6) (T := TX6) (N := 19) rfl (by decide) rfl rfl (Or.inr ⟨_, q1100⟩) fSame_rfl dX1_rules_65 (fun p5 => ?_)
    refine cw_invI (d2 := md_J2_isEmpty) (c := 1) (q := 6) (as := [cR p5]) (mc := 0) (ms := 0) rfl rfl (okF (x := ⟨"java/util/List", "isEmpty", "()Z"⟩) (ci := 14) (C := RJ2) (T0 := TJ2) (N := 3) (n := 0) rfl (Or.inr ⟨rfl, rfl⟩) rfl dX1_rules_68 (lw_F q735 q333 q331 q114 q335) (List.mem_iff_getElem?.mpr ⟨5, rfl⟩) (show ("java/util/List" : String) ≠ _ ∧ ("java/util/List" : String) ≠ _ ∧ (parseMethodDescriptor (md_J2_isEmpty).y.desc).map (fun d => d.parameters.length) = some 0 from ⟨by decide, by decide, (hm_J2_isEmpty).2.2⟩) (by decide) (by decide) (Nat.le_of_ble_eq_true rfl)) (c_isEmpty p5) rfl (fun x6 => ?_)
    refine cw_invV (d2 := md_X1_requireState) (c := 0) (q := 0) (as := [cI x6]) (mc := 1) (ms := 6) rfl rfl (okS (n := 1) rfl dX1_rules_73 (lw_S q772 q773 q111 q774) hm_X1_requireState (by decide) (by decide) (Nat.le_of_ble_eq_true rfl)) (m_X1_requireState x6) rfl ?_
    refine cw_aload dX1_rules_76 0 rfl ?_
    refine cw_getI (ci := 5) (j := 13) (C := RX6) (T := TX6) (N := 19) rfl (by decide) rfl rfl (Or.inr ⟨_, q1111⟩) fSame_rfl dX1_rules_78 (fun x7 => ?_)
    refine cw_istore (ls' := [(7, cI x7), (6, cR p2), (2, cI a2), (3, cI a3), (4, cI a4), (5, cI a5)]) dX1_rules_81 (by decide) rfl ?_
    refine cw_aload dX1_rules_83 1 rfl ?_
    refine cw_iload_n dX1_rules_85 rfl 2 rfl ?_
    refine cw_putI (ci := 5) (j := 10) (C := RX6) (T := TX6) (N := 19) rfl (by decide) rfl rfl (Or.inr ⟨_, q1106⟩) fSame_rfl (Or.inl rfl) dX1_rules_86 ?_
    refine cw_aload dX1_rules_89 1 rfl ?_
    refine cw_iload_n dX1_rules_91 rfl 3 rfl ?_
    refine cw_putI (ci := 5) (j := 11) (C := RX6) (T := TX6) (N := 19) rfl (by decide) rfl rfl (Or.inr ⟨_, q1108⟩) fSame_rfl (Or.inl rfl) dX1_rules_92 ?_
    refine cw_aload dX1_rules_95 1 rfl ?_
    refine cw_iload dX1_rules_97 4 rfl ?_
    refine cw_putI (ci := 5) (j := 12) (C := RX6) (T := TX6) (N := 19) rfl (by decide) rfl rfl (Or.inr ⟨_, q1109⟩) fSame_rfl (Or.inl rfl) dX1_rules_99 ?_
    refine cw_aload dX1_rules_102 1 rfl ?_
    refine cw_iload dX1_rules_104 5 rfl ?_
    refine cw_putI (ci := 5) (j := 13) (C := RX6) (T := TX6) (N := 19) rfl (by decide) rfl rfl (Or.inr ⟨_, q1111⟩) fSame_rfl (Or.inl rfl) dX1_rules_106 ?_
    refine cw_iload dX1_rules_109 0 rfl ?_
    exact cw_iret rfl dX1_rules_111
  · refine cw_jn (cj := 2) (kj := 12) (pcj := 59) (lsf := fun (s : Unit) => [(6, cR p2), (2, cI a2), (3, cI a3), (4, cI a4), (5, cI a5)]) (stf := fun (s : Unit) => []) (fun s => ?_) (fun J9 hJ9 => ?_)
    · show CWF _ _ _ 59 [(6, cR p2), (2, cI a2), (3, cI a3), (4, cI a4), (5, cI a5)] [] _
      refine cw_iconst (v := 0) dX1_rules_59 (by decide) ?_
      exact hJ8 0
    · refine cw_if_eq (tgt := 59) dX1_rules_20 (by decide) ?_ ?_
      · refine cw_sub (ls' := [(6, cR p2), (2, cI a2), (3, cI a3), (4, cI a4), (5, cI a5)]) [0, 3, 4, 5, 6] rfl ?_
        exact hJ9 ()
      · refine cw_iload_n dX1_rules_23 rfl 4 rfl ?_
        refine cw_iconst (v := 2) dX1_rules_24 (by decide) ?_
        refine cw_bipush (v := 6) dX1_rules_25 (by decide) ?_
        refine cw_invI (d2 := md_X1_isBetween) (c := 2) (q := 12) (as := [cI a3, cI 2, cI 6]) (mc := 0) (ms := 0) rfl rfl (okS (n := 3) rfl dX1_rules_27 (lw_S q258 q259 q111 q260) hm_X1_isBetween (by decide) (by decide) (Nat.le_of_ble_eq_true rfl)) (m_X1_isBetween a3 2 6) rfl (fun x10 => ?_)
        refine cw_if_eq (tgt := 59) dX1_rules_30 (by decide) ?_ ?_
        · refine cw_sub (ls' := [(6, cR p2), (2, cI a2), (3, cI a3), (4, cI a4), (5, cI a5)]) [0, 3, 4, 5, 6] rfl ?_
          exact hJ9 ()
        · refine cw_iload dX1_rules_33 5 rfl ?_
          refine cw_iconst (v := 0) dX1_rules_35 (by decide) ?_
          refine cw_sipush (v := 1000) dX1_rules_36 (by decide) ?_
          refine cw_invI (d2 := md_X1_isBetween) (c := 2) (q := 12) (as := [cI a4, cI 0, cI 1000]) (mc := 0) (ms := 0) rfl rfl (okS (n := 3) rfl dX1_rules_39 (lw_S q258 q259 q111 q260) hm_X1_isBetween (by decide) (by decide) (Nat.le_of_ble_eq_true rfl)) (m_X1_isBetween a4 0 1000) rfl (fun x11 => ?_)
          refine cw_if_eq (tgt := 59) dX1_rules_42 (by decide) ?_ ?_
          · refine cw_sub (ls' := [(6, cR p2), (2, cI a2), (3, cI a3), (4, cI a4), (5, cI a5)]) [0, 3, 4, 5, 6] rfl ?_
            exact hJ9 ()
          · refine cw_iload dX1_rules_45 6 rfl ?_
            refine cw_iconst (v := 1) dX1_rules_47 (by decide) ?_
            refine cw_iconst (v := 5) dX1_rules_48 (by decide) ?_
            refine cw_invI (d2 := md_X1_isBetween) (c := 2) (q := 12) (as := [cI a5, cI 1, cI 5]) (mc := 0) (ms := 0) rfl rfl (okS (n := 3) rfl dX1_rules_49 (lw_S q258 q259 q111 q260) hm_X1_isBetween (by decide) (by decide) (Nat.le_of_ble_eq_true rfl)) (m_X1_isBetween a5 1 5) rfl (fun x12 => ?_)
            refine cw_if_eq (tgt := 59) dX1_rules_52 (by decide) ?_ ?_
            · refine cw_sub (ls' := [(6, cR p2), (2, cI a2), (3, cI a3), (4, cI a4), (5, cI a5)]) [0, 3, 4, 5, 6] rfl ?_
              exact hJ9 ()
            · refine cw_iconst (v := 1) dX1_rules_55 (by decide) ?_
              refine cw_goto (tgt := 60) dX1_rules_56 (by decide) ?_
              refine cw_sub (ls' := [(6, cR p2), (2, cI a2), (3, cI a3), (4, cI a4), (5, cI a5)]) [0, 3, 4, 5, 6] rfl ?_
              exact hJ8 1
def g_X7_isRedance (a0 : Nat) : GF :=
  getI 26 a0 1 fun x1 =>
  if x1 ≤ 0 then
    retZ 0
  else
    retZ 1
abbrev md_X7_isRedance : MD := (yX7_isRedance, cX7_isRedance, 1, (some (Jvm.ClassFile.FieldType.boolean)), RX7, 10, 0, 0)
theorem hm_X7_isRedance : (md_X7_isRedance).y.cls ≠ "java/lang/invoke/MethodHandle" ∧ (md_X7_isRedance).y.cls ≠ "java/lang/invoke/VarHandle" ∧ (parseMethodDescriptor (md_X7_isRedance).y.desc).map (fun d => d.parameters.length) = some 0 := by decide +kernel
theorem m_X7_isRedance (a0 : Nat) : CMF md_X7_isRedance [cR a0] (g_X7_isRedance a0) := by
  refine cm_of (by decide +kernel) rfl (Nat.le_of_ble_eq_true rfl) ?_
  show CWF _ 0 0 0 [(0, cR a0)] [] _
  unfold g_X7_isRedance
  refine cw_aload_n dX7_isRedance_0 rfl 0 rfl ?_
  refine cw_getI (ci := 6) (j := 1) (C := RX7) (T := TX7) (N := 5) rfl (by decide) rfl rfl (Or.inl q1063) fSame_rfl dX7_isRedance_1 (fun x1 => ?_)
  refine cw_if_le (tgt := 11) dX7_isRedance_4 (by decide) ?_ ?_
  · refine cw_iconst (v := 0) dX7_isRedance_11 (by decide) ?_
    exact cw_zret rfl dX7_isRedance_12
  · refine cw_iconst (v := 1) dX7_isRedance_7 (by decide) ?_
    refine cw_goto (tgt := 12) dX7_isRedance_8 (by decide) ?_
    exact cw_zret rfl dX7_isRedance_12
def g_X6_isFinal (a0 : Nat) : GF :=
  getP 25 a0 18 fun p1 =>
  invI (some (p1, 26)) (g_X7_isRedance p1) fun x2 =>
  if x2 = 0 then
    getP 25 a0 18 fun p3 =>
    getP 26 p3 2 fun p4 =>
    invI (some (p4, 8)) (s_size p4) fun x5 =>
    getI 25 a0 11 fun x6 =>
    if x5 ≤ x6 then
      retZ 1
    else
      retZ 0
  else
    retZ 0
abbrev md_X6_isFinal : MD := (yX6_isFinal, cX6_isFinal, 1, (some (Jvm.ClassFile.FieldType.boolean)), RX6, 11, 0, 0)
theorem hm_X6_isFinal : (md_X6_isFinal).y.cls ≠ "java/lang/invoke/MethodHandle" ∧ (md_X6_isFinal).y.cls ≠ "java/lang/invoke/VarHandle" ∧ (parseMethodDescriptor (md_X6_isFinal).y.desc).map (fun d => d.parameters.length) = some 0 := by decide +kernel
theorem m_X6_isFinal (a0 : Nat) : CMF md_X6_isFinal [cR a0] (g_X6_isFinal a0) := by
  refine cm_of (by decide +kernel) rfl (Nat.le_of_ble_eq_true rfl) ?_
  show CWF _ 0 0 0 [(0, cR a0)] [] _
  unfold g_X6_isFinal
  refine cw_aload_n dX6_isFinal_0 rfl 0 rfl ?_
  refine cw_getP (ci := 5) (j := 18) (C := RX6) (T := TX6) (N := 19) rfl (by decide) rfl rfl (Or.inl q1118) fSame_rfl dX6_isFinal_1 (fun p1 => ?_)
  refine cw_invI (d2 := md_X7_isRedance) (c := 0) (q := 0) (as := [cR p1]) (mc := 0) (ms := 0) rfl rfl (okV (ci := 6) (C := RX7) (T0 := TX7) (N := 5) (n := 0) rfl rfl rfl dX6_isFinal_4 (lw_V q1181 q1182 q1183 q138 q1184) ⟨rfl, hm_X7_isRedance⟩ (by decide) (by decide) (Nat.le_of_ble_eq_true rfl)) (m_X7_isRedance p1) rfl (fun x2 => ?_)
  refine cw_if_ne (tgt := 33) dX6_isFinal_7 (by decide) ?_ ?_
  · refine cw_iconst (v := 0) dX6_isFinal_33 (by decide) ?_
    exact cw_zret rfl dX6_isFinal_34
  · refine cw_aload_n dX6_isFinal_10 rfl 0 rfl ?_
    refine cw_getP (ci := 5) (j := 18) (C := RX6) (T := TX6) (N := 19) rfl (by decide) rfl rfl (Or.inl q1118) fSame_rfl dX6_isFinal_11 (fun p3 => ?_)
    refine cw_getP (ci := 6) (j := 2) (C := RX7) (T := TX7) (N := 5) rfl (by decide) rfl rfl (Or.inr ⟨_, q1067⟩) fSame_rfl dX6_isFinal_14 (fun p4 => ?_)
    refine cw_invI (d2 := md_J2_size) (c := 0) (q := 0) (as := [cR p4]) (mc := 0) (ms := 0) rfl rfl (okF (x := ⟨"java/util/List", "size", "()I"⟩) (ci := 14) (C := RJ2) (T0 := TJ2) (N := 3) (n := 0) rfl (Or.inr ⟨rfl, rfl⟩) rfl dX6_isFinal_17 (lw_F q545 q251 q249 q114 q253) (List.mem_iff_getElem?.mpr ⟨1, rfl⟩) (show ("java/util/List" : String) ≠ _ ∧ ("java/util/List" : String) ≠ _ ∧ (parseMethodDescriptor (md_J2_size).y.desc).map (fun d => d.parameters.length) = some 0 from ⟨by decide, by decide, (hm_J2_size).2.2⟩) (by decide) (by decide) (Nat.le_of_ble_eq_true rfl)) (c_size p4) rfl (fun x5 => ?_)
    refine cw_aload_n dX6_isFinal_22 rfl 0 rfl ?_
    refine cw_getI (ci := 5) (j := 11) (C := RX6) (T := TX6) (N := 19) rfl (by decide) rfl rfl (Or.inl q1107) fSame_rfl dX6_isFinal_23 (fun x6 => ?_)
    refine cw_icmp_gt (tgt := 33) dX6_isFinal_26 (by decide) ?_ ?_
    · refine cw_iconst (v := 0) dX6_isFinal_33 (by decide) ?_
      exact cw_zret rfl dX6_isFinal_34
    · refine cw_iconst (v := 1) dX6_isFinal_29 (by decide) ?_
      refine cw_goto (tgt := 34) dX6_isFinal_30 (by decide) ?_
      exact cw_zret rfl dX6_isFinal_34
def g_X6_state (a0 : Nat) : GF :=
  getI 25 a0 17 fun x1 =>
  if x1 = 0 then
    getI 25 a0 16 fun x2 =>
    if x2 = 0 then
      getI 25 a0 15 fun x3 =>
      if x3 = 0 then
        retG (rI 0)
      else
        getP 25 a0 18 fun p4 =>
        invI (some (p4, 26)) (g_X7_isRedance p4) fun x5 =>
        if x5 = 0 then
          invI (some (a0, 25)) (g_X6_isFinal a0) fun x6 =>
          if x6 = 0 then
            retG (rI 1)
          else
            retG (rI 3)
        else
          retG (rI 2)
    else
      retG (rI 4)
  else
    retG (rI 5)
abbrev md_X6_state : MD := (yX6_state, cX6_state, 1, (some (Jvm.ClassFile.FieldType.int)), RX6, 12, 0, 0)
theorem hm_X6_state : (md_X6_state).y.cls ≠ "java/lang/invoke/MethodHandle" ∧ (md_X6_state).y.cls ≠ "java/lang/invoke/VarHandle" ∧ (parseMethodDescriptor (md_X6_state).y.desc).map (fun d => d.parameters.length) = some 0 := by decide +kernel
theorem m_X6_state (a0 : Nat) : CMF md_X6_state [cR a0] (g_X6_state a0) := by
  refine cm_of (by decide +kernel) rfl (Nat.le_of_ble_eq_true rfl) ?_
  show CWF _ 0 0 0 [(0, cR a0)] [] _
  unfold g_X6_state
  refine cw_aload_n dX6_state_0 rfl 0 rfl ?_
  refine cw_getI (ci := 5) (j := 17) (C := RX6) (T := TX6) (N := 19) rfl (by decide) rfl rfl (Or.inl q1117) fSame_rfl dX6_state_1 (fun x1 => ?_)
  refine cw_if_eq (tgt := 11) dX6_state_4 (by decide) ?_ ?_
  · refine cw_aload_n dX6_state_11 rfl 0 rfl ?_
    refine cw_getI (ci := 5) (j := 16) (C := RX6) (T := TX6) (N := 19) rfl (by decide) rfl rfl (Or.inl q1115) fSame_rfl dX6_state_12 (fun x2 => ?_)
    refine cw_if_eq (tgt := 22) dX6_state_15 (by decide) ?_ ?_
    · refine cw_aload_n dX6_state_22 rfl 0 rfl ?_
      refine cw_getI (ci := 5) (j := 15) (C := RX6) (T := TX6) (N := 19) rfl (by decide) rfl rfl (Or.inl q1113) fSame_rfl dX6_state_23 (fun x3 => ?_)
      refine cw_if_ne (tgt := 33) dX6_state_26 (by decide) ?_ ?_
      · refine cw_aload_n dX6_state_33 rfl 0 rfl ?_
        refine cw_getP (ci := 5) (j := 18) (C := RX6) (T := TX6) (N := 19) rfl (by decide) rfl rfl (Or.inl q1118) fSame_rfl dX6_state_34 (fun p4 => ?_)
        refine cw_invI (d2 := md_X7_isRedance) (c := 0) (q := 0) (as := [cR p4]) (mc := 0) (ms := 0) rfl rfl (okV (ci := 6) (C := RX7) (T0 := TX7) (N := 5) (n := 0) rfl rfl rfl dX6_state_37 (lw_V q1181 q1182 q1183 q138 q1184) ⟨rfl, hm_X7_isRedance⟩ (by decide) (by decide) (Nat.le_of_ble_eq_true rfl)) (m_X7_isRedance p4) rfl (fun x5 => ?_)
        refine cw_if_eq (tgt := 47) dX6_state_40 (by decide) ?_ ?_
        · refine cw_aload_n dX6_state_47 rfl 0 rfl ?_
          refine cw_invI (d2 := md_X6_isFinal) (c := 0) (q := 0) (as := [cR a0]) (mc := 0) (ms := 0) rfl rfl (okV (ci := 5) (C := RX6) (T0 := TX6) (N := 19) (n := 0) rfl rfl rfl dX6_state_48 (lw_V q1185 q1186 q1187 q137 q1188) ⟨rfl, hm_X6_isFinal⟩ (by decide) (by decide) (Nat.le_of_ble_eq_true rfl)) (m_X6_isFinal a0) rfl (fun x6 => ?_)
          refine cw_if_eq (tgt := 58) dX6_state_51 (by decide) ?_ ?_
          · refine cw_iconst (v := 1) dX6_state_58 (by decide) ?_
            exact cw_iret rfl dX6_state_59
          · refine cw_iconst (v := 3) dX6_state_54 (by decide) ?_
            refine cw_goto (tgt := 59) dX6_state_55 (by decide) ?_
            exact cw_iret rfl dX6_state_59
        · refine cw_iconst (v := 2) dX6_state_43 (by decide) ?_
          refine cw_goto (tgt := 59) dX6_state_44 (by decide) ?_
          exact cw_iret rfl dX6_state_59
      · refine cw_iconst (v := 0) dX6_state_29 (by decide) ?_
        refine cw_goto (tgt := 59) dX6_state_30 (by decide) ?_
        exact cw_iret rfl dX6_state_59
    · refine cw_iconst (v := 4) dX6_state_18 (by decide) ?_
      refine cw_goto (tgt := 59) dX6_state_19 (by decide) ?_
      exact cw_iret rfl dX6_state_59
  · refine cw_iconst (v := 5) dX6_state_7 (by decide) ?_
    refine cw_goto (tgt := 59) dX6_state_8 (by decide) ?_
    exact cw_iret rfl dX6_state_59
def g_X5_isSuspended (a0 : Nat) (a1 : Int32) : GF :=
  getP 24 a0 1 fun p1 =>
  getI 22 p1 6 fun x2 =>
  if x2 < a1 then
    getP 24 a0 2 fun p3 =>
    getI 22 p3 6 fun x4 =>
    if x4 < a1 then
      retZ 0
    else
      retZ 1
  else
    retZ 1
abbrev md_X5_isSuspended : MD := (yX5_isSuspended, cX5_isSuspended, 2, (some (Jvm.ClassFile.FieldType.boolean)), RX5, 10, 0, 0)
theorem hm_X5_isSuspended : (md_X5_isSuspended).y.cls ≠ "java/lang/invoke/MethodHandle" ∧ (md_X5_isSuspended).y.cls ≠ "java/lang/invoke/VarHandle" ∧ (parseMethodDescriptor (md_X5_isSuspended).y.desc).map (fun d => d.parameters.length) = some 1 := by decide +kernel
theorem m_X5_isSuspended (a0 : Nat) (a1 : Int32) : CMF md_X5_isSuspended [cR a0, cI a1] (g_X5_isSuspended a0 a1) := by
  refine cm_of (by decide +kernel) rfl (Nat.le_of_ble_eq_true rfl) ?_
  show CWF _ 0 0 0 [(0, cR a0), (1, cI a1)] [] _
  unfold g_X5_isSuspended
  refine cw_aload_n dX5_isSuspended_0 rfl 0 rfl ?_
  refine cw_getP (ci := 4) (j := 1) (C := RX5) (T := TX5) (N := 5) rfl (by decide) rfl rfl (Or.inl q1010) fSame_rfl dX5_isSuspended_1 (fun p1 => ?_)
  refine cw_getI (ci := 2) (j := 6) (C := RX3) (T := TX3) (N := 9) rfl (by decide) rfl rfl (Or.inr ⟨_, q818⟩) fSame_rfl dX5_isSuspended_4 (fun x2 => ?_)
  refine cw_iload_n dX5_isSuspended_7 rfl 1 rfl ?_
  refine cw_icmp_ge (tgt := 22) dX5_isSuspended_8 (by decide) ?_ ?_
  · refine cw_iconst (v := 1) dX5_isSuspended_22 (by decide) ?_
    refine cw_goto (tgt := 27) dX5_isSuspended_23 (by decide) ?_
    exact cw_zret rfl dX5_isSuspended_27
  · refine cw_aload_n dX5_isSuspended_11 rfl 0 rfl ?_
    refine cw_getP (ci := 4) (j := 2) (C := RX5) (T := TX5) (N := 5) rfl (by decide) rfl rfl (Or.inl q1013) fSame_rfl dX5_isSuspended_12 (fun p3 => ?_)
    refine cw_getI (ci := 2) (j := 6) (C := RX3) (T := TX3) (N := 9) rfl (by decide) rfl rfl (Or.inr ⟨_, q818⟩) fSame_rfl dX5_isSuspended_15 (fun x4 => ?_)
    refine cw_iload_n dX5_isSuspended_18 rfl 1 rfl ?_
    refine cw_icmp_lt (tgt := 26) dX5_isSuspended_19 (by decide) ?_ ?_
    · refine cw_iconst (v := 0) dX5_isSuspended_26 (by decide) ?_
      exact cw_zret rfl dX5_isSuspended_27
    · refine cw_iconst (v := 1) dX5_isSuspended_22 (by decide) ?_
      refine cw_goto (tgt := 27) dX5_isSuspended_23 (by decide) ?_
      exact cw_zret rfl dX5_isSuspended_27
def g_X5_isProfessional (a0 : Nat) : GF :=
  getP 24 a0 1 fun p1 =>
  invI (some (p1, 22)) (g_X3_isProfessional p1) fun x2 =>
  if x2 = 0 then
    getP 24 a0 2 fun p3 =>
    invI (some (p3, 22)) (g_X3_isProfessional p3) fun x4 =>
    if x4 = 0 then
      retZ 0
    else
      retZ 1
  else
    retZ 1
abbrev md_X5_isProfessional : MD := (yX5_isProfessional, cX5_isProfessional, 1, (some (Jvm.ClassFile.FieldType.boolean)), RX5, 12, 0, 0)
theorem hm_X5_isProfessional : (md_X5_isProfessional).y.cls ≠ "java/lang/invoke/MethodHandle" ∧ (md_X5_isProfessional).y.cls ≠ "java/lang/invoke/VarHandle" ∧ (parseMethodDescriptor (md_X5_isProfessional).y.desc).map (fun d => d.parameters.length) = some 0 := by decide +kernel
theorem m_X5_isProfessional (a0 : Nat) : CMF md_X5_isProfessional [cR a0] (g_X5_isProfessional a0) := by
  refine cm_of (by decide +kernel) rfl (Nat.le_of_ble_eq_true rfl) ?_
  show CWF _ 0 0 0 [(0, cR a0)] [] _
  unfold g_X5_isProfessional
  refine cw_aload_n dX5_isProfessional_0 rfl 0 rfl ?_
  refine cw_getP (ci := 4) (j := 1) (C := RX5) (T := TX5) (N := 5) rfl (by decide) rfl rfl (Or.inl q1010) fSame_rfl dX5_isProfessional_1 (fun p1 => ?_)
  refine cw_invI (d2 := md_X3_isProfessional) (c := 0) (q := 0) (as := [cR p1]) (mc := 0) (ms := 0) rfl rfl (okV (ci := 2) (C := RX3) (T0 := TX3) (N := 9) (n := 0) rfl rfl rfl dX5_isProfessional_4 (lw_V q1197 q940 q941 q121 q942) ⟨rfl, hm_X3_isProfessional⟩ (by decide) (by decide) (Nat.le_of_ble_eq_true rfl)) (m_X3_isProfessional p1) rfl (fun x2 => ?_)
  refine cw_if_ne (tgt := 20) dX5_isProfessional_7 (by decide) ?_ ?_
  · refine cw_iconst (v := 1) dX5_isProfessional_20 (by decide) ?_
    refine cw_goto (tgt := 25) dX5_isProfessional_21 (by decide) ?_
    exact cw_zret rfl dX5_isProfessional_25
  · refine cw_aload_n dX5_isProfessional_10 rfl 0 rfl ?_
    refine cw_getP (ci := 4) (j := 2) (C := RX5) (T := TX5) (N := 5) rfl (by decide) rfl rfl (Or.inl q1013) fSame_rfl dX5_isProfessional_11 (fun p3 => ?_)
    refine cw_invI (d2 := md_X3_isProfessional) (c := 0) (q := 0) (as := [cR p3]) (mc := 0) (ms := 0) rfl rfl (okV (ci := 2) (C := RX3) (T0 := TX3) (N := 9) (n := 0) rfl rfl rfl dX5_isProfessional_14 (lw_V q1197 q940 q941 q121 q942) ⟨rfl, hm_X3_isProfessional⟩ (by decide) (by decide) (Nat.le_of_ble_eq_true rfl)) (m_X3_isProfessional p3) rfl (fun x4 => ?_)
    refine cw_if_eq (tgt := 24) dX5_isProfessional_17 (by decide) ?_ ?_
    · refine cw_iconst (v := 0) dX5_isProfessional_24 (by decide) ?_
      exact cw_zret rfl dX5_isProfessional_25
    · refine cw_iconst (v := 1) dX5_isProfessional_20 (by decide) ?_
      refine cw_goto (tgt := 25) dX5_isProfessional_21 (by decide) ?_
      exact cw_zret rfl dX5_isProfessional_25
def g_X5_age (a0 : Nat) : GF :=
  getP 24 a0 1 fun p1 =>
  getI 22 p1 1 fun x2 =>
  getP 24 a0 2 fun p3 =>
  getI 22 p3 1 fun x4 =>
  retG (rI (imax x2 x4))
abbrev md_X5_age : MD := (yX5_age, cX5_age, 1, (some (Jvm.ClassFile.FieldType.int)), RX5, 10, 0, 0)
theorem hm_X5_age : (md_X5_age).y.cls ≠ "java/lang/invoke/MethodHandle" ∧ (md_X5_age).y.cls ≠ "java/lang/invoke/VarHandle" ∧ (parseMethodDescriptor (md_X5_age).y.desc).map (fun d => d.parameters.length) = some 0 := by decide +kernel
theorem m_X5_age (a0 : Nat) : CMF md_X5_age [cR a0] (g_X5_age a0) := by
  refine cm_of (by decide +kernel) rfl (Nat.le_of_ble_eq_true rfl) ?_
  show CWF _ 0 0 0 [(0, cR a0)] [] _
  unfold g_X5_age
  refine cw_aload_n dX5_age_0 rfl 0 rfl ?_
  refine cw_getP (ci := 4) (j := 1) (C := RX5) (T := TX5) (N := 5) rfl (by decide) rfl rfl (Or.inl q1010) fSame_rfl dX5_age_1 (fun p1 => ?_)
  refine cw_getI (ci := 2) (j := 1) (C := RX3) (T := TX3) (N := 9) rfl (by decide) rfl rfl (Or.inr ⟨_, q807⟩) fSame_rfl dX5_age_4 (fun x2 => ?_)
  refine cw_aload_n dX5_age_7 rfl 0 rfl ?_
  refine cw_getP (ci := 4) (j := 2) (C := RX5) (T := TX5) (N := 5) rfl (by decide) rfl rfl (Or.inl q1013) fSame_rfl dX5_age_8 (fun p3 => ?_)
  refine cw_getI (ci := 2) (j := 1) (C := RX3) (T := TX3) (N := 9) rfl (by decide) rfl rfl (Or.inr ⟨_, q807⟩) fSame_rfl dX5_age_11 (fun x4 => ?_)
  refine cw_mmax q1202 (by decide) (Nat.le_of_ble_eq_true rfl) dX5_age_14 ?_
  exact cw_iret rfl dX5_age_17
def g_X3_grade (a0 : Nat) (a1 : Int32) : GF :=
  getP 22 a0 2 fun p1 =>
  ialdG 1 p1 a1 fun x2 =>
  if x2 < 10 then
    retG (rI 0)
  else if x2 < 30 then
    retG (rI 1)
  else if x2 < 70 then
    retG (rI 2)
  else if x2 < 150 then
    retG (rI 3)
  else
    retG (rI 4)
abbrev md_X3_grade : MD := (yX3_grade, cX3_grade, 3, (some (Jvm.ClassFile.FieldType.int)), RX3, 10, 0, 0)
theorem hm_X3_grade : (md_X3_grade).y.cls ≠ "java/lang/invoke/MethodHandle" ∧ (md_X3_grade).y.cls ≠ "java/lang/invoke/VarHandle" ∧ (parseMethodDescriptor (md_X3_grade).y.desc).map (fun d => d.parameters.length) = some 1 := by decide +kernel
theorem m_X3_grade (a0 : Nat) (a1 : Int32) : CMF md_X3_grade [cR a0, cI a1] (g_X3_grade a0 a1) := by
  refine cm_of (by decide +kernel) rfl (Nat.le_of_ble_eq_true rfl) ?_
  show CWF _ 0 0 0 [(0, cR a0), (1, cI a1)] [] _
  unfold g_X3_grade
  refine cw_aload_n dX3_grade_0 rfl 0 rfl ?_
  refine cw_getP (ci := 2) (j := 2) (C := RX3) (T := TX3) (N := 9) rfl (by decide) rfl rfl (Or.inl q809) fSame_rfl dX3_grade_1 (fun p1 => ?_)
  refine cw_iload_n dX3_grade_4 rfl 1 rfl ?_
  refine cw_iald dX3_grade_5 (fun x2 => ?_)
  refine cw_istore_n (ls' := [(2, cI x2), (0, cR a0), (1, cI a1)]) dX3_grade_6 rfl (by decide) rfl ?_
  refine cw_iload_n dX3_grade_7 rfl 0 rfl ?_
  refine cw_bipush (v := 10) dX3_grade_8 (by decide) ?_
  refine cw_icmp_ge (tgt := 17) dX3_grade_10 (by decide) ?_ ?_
  · refine cw_iload_n dX3_grade_17 rfl 0 rfl ?_
    refine cw_bipush (v := 30) dX3_grade_18 (by decide) ?_
    refine cw_icmp_ge (tgt := 27) dX3_grade_20 (by decide) ?_ ?_
    · refine cw_iload_n dX3_grade_27 rfl 0 rfl ?_
      refine cw_bipush (v := 70) dX3_grade_28 (by decide) ?_
      refine cw_icmp_ge (tgt := 37) dX3_grade_30 (by decide) ?_ ?_
      · refine cw_iload_n dX3_grade_37 rfl 0 rfl ?_
        refine cw_sipush (v := 150) dX3_grade_38 (by decide) ?_
        refine cw_icmp_ge (tgt := 48) dX3_grade_41 (by decide) ?_ ?_
        · refine cw_iconst (v := 4) dX3_grade_48 (by decide) ?_
          exact cw_iret rfl dX3_grade_49
        · refine cw_iconst (v := 3) dX3_grade_44 (by decide) ?_
          refine cw_goto (tgt := 49) dX3_grade_45 (by decide) ?_
          exact cw_iret rfl dX3_grade_49
      · refine cw_iconst (v := 2) dX3_grade_33 (by decide) ?_
        refine cw_goto (tgt := 49) dX3_grade_34 (by decide) ?_
        exact cw_iret rfl dX3_grade_49
    · refine cw_iconst (v := 1) dX3_grade_23 (by decide) ?_
      refine cw_goto (tgt := 49) dX3_grade_24 (by decide) ?_
      exact cw_iret rfl dX3_grade_49
  · refine cw_iconst (v := 0) dX3_grade_13 (by decide) ?_
    refine cw_goto (tgt := 49) dX3_grade_14 (by decide) ?_
    exact cw_iret rfl dX3_grade_49
def g_X5_grade (a0 : Nat) (a1 : Int32) : GF :=
  getP 24 a0 1 fun p1 =>
  invI (some (p1, 22)) (g_X3_grade p1 a1) fun x2 =>
  getP 24 a0 2 fun p3 =>
  invI (some (p3, 22)) (g_X3_grade p3 a1) fun x4 =>
  retG (rI (imax x2 x4))
abbrev md_X5_grade : MD := (yX5_grade, cX5_grade, 2, (some (Jvm.ClassFile.FieldType.int)), RX5, 11, 0, 0)
theorem hm_X5_grade : (md_X5_grade).y.cls ≠ "java/lang/invoke/MethodHandle" ∧ (md_X5_grade).y.cls ≠ "java/lang/invoke/VarHandle" ∧ (parseMethodDescriptor (md_X5_grade).y.desc).map (fun d => d.parameters.length) = some 1 := by decide +kernel
theorem m_X5_grade (a0 : Nat) (a1 : Int32) : CMF md_X5_grade [cR a0, cI a1] (g_X5_grade a0 a1) := by
  refine cm_of (by decide +kernel) rfl (Nat.le_of_ble_eq_true rfl) ?_
  show CWF _ 0 0 0 [(0, cR a0), (1, cI a1)] [] _
  unfold g_X5_grade
  refine cw_aload_n dX5_grade_0 rfl 0 rfl ?_
  refine cw_getP (ci := 4) (j := 1) (C := RX5) (T := TX5) (N := 5) rfl (by decide) rfl rfl (Or.inl q1010) fSame_rfl dX5_grade_1 (fun p1 => ?_)
  refine cw_iload_n dX5_grade_4 rfl 1 rfl ?_
  refine cw_invI (d2 := md_X3_grade) (c := 0) (q := 0) (as := [cR p1, cI a1]) (mc := 0) (ms := 0) rfl rfl (okV (ci := 2) (C := RX3) (T0 := TX3) (N := 9) (n := 1) rfl rfl rfl dX5_grade_5 (lw_V q1207 q1208 q1209 q121 q1210) ⟨rfl, hm_X3_grade⟩ (by decide) (by decide) (Nat.le_of_ble_eq_true rfl)) (m_X3_grade p1 a1) rfl (fun x2 => ?_)
  refine cw_aload_n dX5_grade_8 rfl 0 rfl ?_
  refine cw_getP (ci := 4) (j := 2) (C := RX5) (T := TX5) (N := 5) rfl (by decide) rfl rfl (Or.inl q1013) fSame_rfl dX5_grade_9 (fun p3 => ?_)
  refine cw_iload_n dX5_grade_12 rfl 1 rfl ?_
  refine cw_invI (d2 := md_X3_grade) (c := 0) (q := 0) (as := [cR p3, cI a1]) (mc := 0) (ms := 0) rfl rfl (okV (ci := 2) (C := RX3) (T0 := TX3) (N := 9) (n := 1) rfl rfl rfl dX5_grade_13 (lw_V q1207 q1208 q1209 q121 q1210) ⟨rfl, hm_X3_grade⟩ (by decide) (by decide) (Nat.le_of_ble_eq_true rfl)) (m_X3_grade p3 a1) rfl (fun x4 => ?_)
  refine cw_mmax q1202 (by decide) (Nat.le_of_ble_eq_true rfl) dX5_grade_16 ?_
  exact cw_iret rfl dX5_grade_19
def b_X6_hasIn_12 (a1 : Nat) (p1 : Nat) (m2 : Int32) (rec5 : (Int32 × Nat) → GF) : (Int32 × Nat) → GF := fun (s : Int32 × Nat) => match s with
  | (l3, l4) =>
    hasG p1 l4 fun x6 =>
    if x6 = 0 then
      retZ l3
    else
      nextG p1 m2 l4 fun p7 =>
      castG 27 p7 <|
      getI 27 p7 5 fun x8 =>
      jnG (fun (v9 : Int32) =>
        rec5 ((l3 ||| v9), (l4 + 1))) fun J10 =>
      jnG (fun (_ : Unit) =>
        J10 0) fun J11 =>
      if x8 = 0 then
        getP 27 p7 1 fun p12 =>
        invI (some (p12, 24)) (g_X5_has p12 a1) fun x13 =>
        if x13 = 0 then
          J11 ()
        else
          J10 1
      else
        J11 ()
def g_X6_hasIn (a0 : Nat) (a1 : Nat) : GF :=
  getP 25 a0 7 fun p1 =>
  itG p1 fun m2 =>
  loopG (b_X6_hasIn_12 a1 p1 m2) FU (0, 0)
abbrev md_X6_hasIn : MD := (yX6_hasIn, cX6_hasIn, 5, (some (Jvm.ClassFile.FieldType.boolean)), RX6, 12, 1, 4)
theorem hm_X6_hasIn : (md_X6_hasIn).y.cls ≠ "java/lang/invoke/MethodHandle" ∧ (md_X6_hasIn).y.cls ≠ "java/lang/invoke/VarHandle" ∧ (parseMethodDescriptor (md_X6_hasIn).y.desc).map (fun d => d.parameters.length) = some 1 := by decide +kernel
theorem m_X6_hasIn (a0 : Nat) (a1 : Nat) : CMF md_X6_hasIn [cR a0, cR a1] (g_X6_hasIn a0 a1) := by
  refine cm_of (by decide +kernel) rfl (Nat.le_of_ble_eq_true rfl) ?_
  show CWF _ 1 4 0 [(0, cR a0), (1, cR a1)] [] _
  unfold g_X6_hasIn
  refine cw_iconst (v := 0) dX6_hasIn_0 (by decide) ?_
  refine cw_istore_n (ls' := [(2, cI 0), (0, cR a0), (1, cR a1)]) dX6_hasIn_1 rfl (by decide) rfl ?_
  refine cw_aload_n dX6_hasIn_2 rfl 1 rfl ?_
  refine cw_getP (ci := 5) (j := 7) (C := RX6) (T := TX6) (N := 19) rfl (by decide) rfl rfl (Or.inl q1099) fSame_rfl dX6_hasIn_3 (fun p1 => ?_)
  refine cw_iter (c := 0) (q := 0) (la := 1) (ls' := [(2, cI 0), (0, cR a0), (1, cR a1)]) rfl (Or.inl ⟨_, dX6_hasIn_11, rfl, rfl⟩) (by decide) (okF (x := ⟨"java/util/List", "iterator", "()Ljava/util/Iterator;"⟩) (ci := 14) (C := RJ2) (T0 := TJ2) (N := 3) (n := 0) rfl (Or.inr ⟨rfl, rfl⟩) rfl dX6_hasIn_6 (lw_F q531 q295 q293 q114 q297) (List.mem_iff_getElem?.mpr ⟨3, rfl⟩) (show ("java/util/List" : String) ≠ _ ∧ ("java/util/List" : String) ≠ _ ∧ (parseMethodDescriptor (md_J2_iterator).y.desc).map (fun d => d.parameters.length) = some 0 from ⟨by decide, by decide, (hm_J2_iterator).2.2⟩) (by decide) (by decide) (Nat.le_of_ble_eq_true rfl)) (fun m2 => ?_)
  refine cw_sub (ls' := [(1, cR a1), (2, cI 0), (3, cT p1 m2 0)]) [3, 1, 0] rfl ?_
  refine cw_loop0 (lsf := fun (s : Int32 × Nat) => [(1, cR a1), (2, cI s.1), (3, cT p1 m2 s.2)]) (fun rec5 hrec5 s => ?_) FU (0, 0)
  obtain ⟨l3, l4⟩ := s
  show CWF _ _ _ 12 [(1, cR a1), (2, cI l3), (3, cT p1 m2 l4)] [] _
  dsimp only [b_X6_hasIn_12]
  refine cw_sub (ls' := [(3, cT p1 m2 l4), (1, cR a1), (2, cI l3)]) [2, 0, 1] rfl ?_
  refine cw_hasNext (la := 1) rfl (Or.inl ⟨_, dX6_hasIn_12, rfl, rfl⟩) (fun x => okF (x := ⟨"java/util/Iterator", "hasNext", "()Z"⟩) (ci := 15) (C := RJ18) (T0 := TJ18) (N := 4) (n := 0) rfl (Or.inl rfl) rfl dX6_hasIn_13 (lw_F q533 q339 q337 q134 q341) (List.mem_iff_getElem?.mpr ⟨4, rfl⟩) (show ("java/util/Iterator" : String) ≠ _ ∧ ("java/util/Iterator" : String) ≠ _ ∧ (parseMethodDescriptor (md_J18_hasNext).y.desc).map (fun d => d.parameters.length) = some 0 from ⟨by decide, by decide, (hm_J18_hasNext).2.2⟩) (by decide) (by decide) (Nat.le_of_ble_eq_true rfl)) (fun x6 => ?_)
  refine cw_if_eq (tgt := 63) dX6_hasIn_18 (by decide) ?_ ?_
  · refine cw_iload_n dX6_hasIn_63 rfl 2 rfl ?_
    exact cw_zret rfl dX6_hasIn_64
  · refine cw_next (la := 1) rfl (Or.inl ⟨_, dX6_hasIn_21, rfl, rfl⟩) (fun x => okF (x := ⟨"java/util/Iterator", "next", "()Ljava/lang/Object;"⟩) (ci := 15) (C := RJ18) (T0 := TJ18) (N := 4) (n := 0) rfl (Or.inl rfl) rfl dX6_hasIn_22 (lw_F q535 q432 q430 q134 q434) (List.mem_iff_getElem?.mpr ⟨6, rfl⟩) (show ("java/util/Iterator" : String) ≠ _ ∧ ("java/util/Iterator" : String) ≠ _ ∧ (parseMethodDescriptor (md_J18_next).y.desc).map (fun d => d.parameters.length) = some 0 from ⟨by decide, by decide, (hm_J18_next).2.2⟩) (by decide) (by decide) (Nat.le_of_ble_eq_true rfl)) (fun p7 => ?_)
    refine cw_cast (ci := 7) (T := TX8) (N := 10) (C := RX8) rfl rfl q536 (Or.inl rfl) dX6_hasIn_27 ?_
    refine cw_astore (ls' := [(4, cR p7), (3, cT p1 m2 (l4 + 1)), (1, cR a1), (2, cI l3)]) dX6_hasIn_30 (by decide) rfl ?_
    refine cw_iload_n dX6_hasIn_32 rfl 3 rfl ?_
    refine cw_aload dX6_hasIn_33 0 rfl ?_
    refine cw_getI (ci := 7) (j := 5) (C := RX8) (T := TX8) (N := 10) rfl (by decide) rfl rfl (Or.inr ⟨_, q1262⟩) fSame_rfl dX6_hasIn_35 (fun x8 => ?_)
    refine cw_jn (cj := 0) (kj := 0) (pcj := 58) (lsf := fun (s : Int32) => [(3, cT p1 m2 (l4 + 1)), (1, cR a1)]) (stf := fun (s : Int32) => [cI s, cI l3]) (fun s => ?_) (fun J10 hJ10 => ?_)
    · obtain ⟨v9, e⟩ : ∃ z, z = s := ⟨_, rfl⟩
      subst e
      show CWF _ _ _ 58 [(3, cT p1 m2 (l4 + 1)), (1, cR a1)] [cI v9, cI l3] _
      refine cw_ior dX6_hasIn_58 ?_
      refine cw_istore_n (ls' := [(2, cI (l3 ||| v9)), (3, cT p1 m2 (l4 + 1)), (1, cR a1)]) dX6_hasIn_59 rfl (by decide) rfl ?_
      refine cw_goto (tgt := 12) dX6_hasIn_60 (by decide) ?_
      refine cw_sub (ls' := [(1, cR a1), (2, cI (l3 ||| v9)), (3, cT p1 m2 (l4 + 1))]) [2, 0, 1] rfl ?_
      exact hrec5 ((l3 ||| v9), (l4 + 1))
    · refine cw_jn (cj := 0) (kj := 0) (pcj := 57) (lsf := fun (s : Unit) => [(3, cT p1 m2 (l4 + 1)), (1, cR a1)]) (stf := fun (s : Unit) => [cI l3]) (fun s => ?_) (fun J11 hJ11 => ?_)
      · show CWF _ _ _ 57 [(3, cT p1 m2 (l4 + 1)), (1, cR a1)] [cI l3] _
        refine cw_iconst (v := 0) dX6_hasIn_57 (by decide) ?_
        exact hJ10 0
      · refine cw_if_ne (tgt := 57) dX6_hasIn_38 (by decide) ?_ ?_
        · refine cw_sub (ls' := [(3, cT p1 m2 (l4 + 1)), (1, cR a1)]) [1, 2] rfl ?_
          exact hJ11 ()
        · refine cw_aload dX6_hasIn_41 0 rfl ?_
          refine cw_getP (ci := 7) (j := 1) (C := RX8) (T := TX8) (N := 10) rfl (by decide) rfl rfl (Or.inr ⟨_, q1252⟩) fSame_rfl dX6_hasIn_43 (fun p12 => ?_)
          refine cw_aload_n dX6_hasIn_46 rfl 2 rfl ?_
          refine cw_invI (d2 := md_X5_has) (c := 0) (q := 0) (as := [cR p12, cR a1]) (mc := 0) (ms := 0) rfl rfl (okV (ci := 4) (C := RX5) (T0 := TX5) (N := 5) (n := 1) rfl rfl rfl dX6_hasIn_47 (lw_V q1215 q996 q997 q136 q998) ⟨rfl, hm_X5_has⟩ (by decide) (by decide) (Nat.le_of_ble_eq_true rfl)) (m_X5_has p12 a1) rfl (fun x13 => ?_)
          refine cw_if_eq (tgt := 57) dX6_hasIn_50 (by decide) ?_ ?_
          · refine cw_sub (ls' := [(3, cT p1 m2 (l4 + 1)), (1, cR a1)]) [1, 2] rfl ?_
            exact hJ11 ()
          · refine cw_iconst (v := 1) dX6_hasIn_53 (by decide) ?_
            refine cw_goto (tgt := 58) dX6_hasIn_54 (by decide) ?_
            refine cw_sub (ls' := [(3, cT p1 m2 (l4 + 1)), (1, cR a1)]) [1, 2] rfl ?_
            exact hJ10 1
def g_X1_isOfPanel (a0 : Nat) (a1 : Nat) (a2 : Nat) : GF :=
  getP 25 a1 8 fun p1 =>
  invP (some (p1, 8)) (s_get p1 0) fun p2 =>
  castG 8 p2 <|
  invI (some (p2, 8)) (s_contains p2 a2) fun x3 =>
  if x3 = 0 then
    getP 25 a1 8 fun p4 =>
    invP (some (p4, 8)) (s_get p4 1) fun p5 =>
    castG 8 p5 <|
    invI (some (p5, 8)) (s_contains p5 a2) fun x6 =>
    if x6 = 0 then
      retZ 0
    else
      retZ 1
  else
    retZ 1
abbrev md_X1_isOfPanel : MD := (yX1_isOfPanel, cX1_isOfPanel, 3, (some (Jvm.ClassFile.FieldType.boolean)), RX1, 16, 0, 0)
theorem hm_X1_isOfPanel : (md_X1_isOfPanel).y.cls ≠ "java/lang/invoke/MethodHandle" ∧ (md_X1_isOfPanel).y.cls ≠ "java/lang/invoke/VarHandle" ∧ (parseMethodDescriptor (md_X1_isOfPanel).y.desc).map (fun d => d.parameters.length) = some 2 := by decide +kernel
theorem m_X1_isOfPanel (a0 : Nat) (a1 : Nat) (a2 : Nat) : CMF md_X1_isOfPanel [cR a0, cR a1, cR a2] (g_X1_isOfPanel a0 a1 a2) := by
  refine cm_of (by decide +kernel) rfl (Nat.le_of_ble_eq_true rfl) ?_
  show CWF _ 0 0 0 [(0, cR a0), (1, cR a1), (2, cR a2)] [] _
  unfold g_X1_isOfPanel
  refine cw_aload_n dX1_isOfPanel_0 rfl 1 rfl ?_
  refine cw_getP (ci := 5) (j := 8) (C := RX6) (T := TX6) (N := 19) rfl (by decide) rfl rfl (Or.inr ⟨_, q1102⟩) fSame_rfl dX1_isOfPanel_1 (fun p1 => ?_)
  refine cw_iconst (v := 0) dX1_isOfPanel_4 (by decide) ?_
  refine cw_invP (d2 := md_J2_get) (c := 0) (q := 0) (as := [cR p1, cI 0]) (mc := 0) (ms := 0) rfl rfl (okF (x := ⟨"java/util/List", "get", "(I)Ljava/lang/Object;"⟩) (ci := 14) (C := RJ2) (T0 := TJ2) (N := 3) (n := 1) rfl (Or.inr ⟨rfl, rfl⟩) rfl dX1_isOfPanel_5 (lw_F q262 q267 q265 q114 q269) (List.mem_iff_getElem?.mpr ⟨2, rfl⟩) (show ("java/util/List" : String) ≠ _ ∧ ("java/util/List" : String) ≠ _ ∧ (parseMethodDescriptor (md_J2_get).y.desc).map (fun d => d.parameters.length) = some 1 from ⟨by decide, by decide, (hm_J2_get).2.2⟩) (by decide) (by decide) (Nat.le_of_ble_eq_true rfl)) (c_get p1 0) rfl (fun p2 => ?_)
  refine cw_castL q1220 (Or.inr q200) dX1_isOfPanel_10 ?_
  refine cw_aload_n dX1_isOfPanel_13 rfl 2 rfl ?_
  refine cw_invI (d2 := md_J2_contains) (c := 0) (q := 0) (as := [cR p2, cR a2]) (mc := 0) (ms := 0) rfl rfl (okF (x := ⟨"java/util/List", "contains", "(Ljava/lang/Object;)Z"⟩) (ci := 14) (C := RJ2) (T0 := TJ2) (N := 3) (n := 1) rfl (Or.inr ⟨rfl, rfl⟩) rfl dX1_isOfPanel_14 (lw_F q912 q686 q684 q114 q688) (List.mem_iff_getElem?.mpr ⟨10, rfl⟩) (show ("java/util/List" : String) ≠ _ ∧ ("java/util/List" : String) ≠ _ ∧ (parseMethodDescriptor (md_J2_contains).y.desc).map (fun d => d.parameters.length) = some 1 from ⟨by decide, by decide, (hm_J2_contains).2.2⟩) (by decide) (by decide) (Nat.le_of_ble_eq_true rfl)) (c_contains p2 a2) rfl (fun x3 => ?_)
  refine cw_if_ne (tgt := 44) dX1_isOfPanel_19 (by decide) ?_ ?_
  · refine cw_iconst (v := 1) dX1_isOfPanel_44 (by decide) ?_
    refine cw_goto (tgt := 49) dX1_isOfPanel_45 (by decide) ?_
    exact cw_zret rfl dX1_isOfPanel_49
  · refine cw_aload_n dX1_isOfPanel_22 rfl 1 rfl ?_
    refine cw_getP (ci := 5) (j := 8) (C := RX6) (T := TX6) (N := 19) rfl (by decide) rfl rfl (Or.inr ⟨_, q1102⟩) fSame_rfl dX1_isOfPanel_23 (fun p4 => ?_)
    refine cw_iconst (v := 1) dX1_isOfPanel_26 (by decide) ?_
    refine cw_invP (d2 := md_J2_get) (c := 0) (q := 0) (as := [cR p4, cI 1]) (mc := 0) (ms := 0) rfl rfl (okF (x := ⟨"java/util/List", "get", "(I)Ljava/lang/Object;"⟩) (ci := 14) (C := RJ2) (T0 := TJ2) (N := 3) (n := 1) rfl (Or.inr ⟨rfl, rfl⟩) rfl dX1_isOfPanel_27 (lw_F q262 q267 q265 q114 q269) (List.mem_iff_getElem?.mpr ⟨2, rfl⟩) (show ("java/util/List" : String) ≠ _ ∧ ("java/util/List" : String) ≠ _ ∧ (parseMethodDescriptor (md_J2_get).y.desc).map (fun d => d.parameters.length) = some 1 from ⟨by decide, by decide, (hm_J2_get).2.2⟩) (by decide) (by decide) (Nat.le_of_ble_eq_true rfl)) (c_get p4 1) rfl (fun p5 => ?_)
    refine cw_castL q1220 (Or.inr q200) dX1_isOfPanel_32 ?_
    refine cw_aload_n dX1_isOfPanel_35 rfl 2 rfl ?_
    refine cw_invI (d2 := md_J2_contains) (c := 0) (q := 0) (as := [cR p5, cR a2]) (mc := 0) (ms := 0) rfl rfl (okF (x := ⟨"java/util/List", "contains", "(Ljava/lang/Object;)Z"⟩) (ci := 14) (C := RJ2) (T0 := TJ2) (N := 3) (n := 1) rfl (Or.inr ⟨rfl, rfl⟩) rfl dX1_isOfPanel_36 (lw_F q912 q686 q684 q114 q688) (List.mem_iff_getElem?.mpr ⟨10, rfl⟩) (show ("java/util/List" : String) ≠ _ ∧ ("java/util/List" : String) ≠ _ ∧ (parseMethodDescriptor (md_J2_contains).y.desc).map (fun d => d.parameters.length) = some 1 from ⟨by decide, by decide, (hm_J2_contains).2.2⟩) (by decide) (by decide) (Nat.le_of_ble_eq_true rfl)) (c_contains p5 a2) rfl (fun x6 => ?_)
    refine cw_if_eq (tgt := 48) dX1_isOfPanel_41 (by decide) ?_ ?_
    · refine cw_iconst (v := 0) dX1_isOfPanel_48 (by decide) ?_
      exact cw_zret rfl dX1_isOfPanel_49
    · refine cw_iconst (v := 1) dX1_isOfPanel_44 (by decide) ?_
      refine cw_goto (tgt := 49) dX1_isOfPanel_45 (by decide) ?_
      exact cw_zret rfl dX1_isOfPanel_49
def g_X1_against (a0 : Nat) (a1 : Nat) (a2 : Nat) : GF :=
  invI (some (a1, 25)) (g_X6_state a1) fun x1 =>
  if x1 = 0 then
    getI 24 a2 4 fun x2 =>
    if x2 = 0 then
      retG (rI 2)
    else
      getI 20 a0 9 fun x3 =>
      invI (some (a2, 24)) (g_X5_isSuspended a2 x3) fun x4 =>
      if x4 = 0 then
        invI (some (a2, 24)) (g_X5_isProfessional a2) fun x5 =>
        getI 25 a1 6 fun x6 =>
        if x5 = x6 then
          invI (some (a2, 24)) (g_X5_age a2) fun x7 =>
          getI 25 a1 3 fun x8 =>
          getI 25 a1 4 fun x9 =>
          invI none (g_X1_isBetween x7 x8 x9) fun x10 =>
          if x10 = 0 then
            retG (rI 5)
          else
            getI 25 a1 1 fun x11 =>
            invI (some (a2, 24)) (g_X5_grade a2 x11) fun x12 =>
            getI 25 a1 5 fun x13 =>
            if x12 ≤ x13 then
              getP 24 a2 1 fun p14 =>
              invI (some (a1, 25)) (g_X6_hasIn a1 p14) fun x15 =>
              if x15 = 0 then
                getP 24 a2 2 fun p16 =>
                invI (some (a1, 25)) (g_X6_hasIn a1 p16) fun x17 =>
                if x17 = 0 then
                  getP 25 a1 7 fun p18 =>
                  invI (some (p18, 8)) (s_size p18) fun x19 =>
                  if x19 = 10 then
                    retG (rI 8)
                  else
                    getP 24 a2 1 fun p20 =>
                    invI (some (a0, 20)) (g_X1_isOfPanel a0 a1 p20) fun x21 =>
                    if x21 = 0 then
                      getP 24 a2 2 fun p22 =>
                      invI (some (a0, 20)) (g_X1_isOfPanel a0 a1 p22) fun x23 =>
                      if x23 = 0 then
                        retG (rI 0)
                      else
                        retG (rI 9)
                    else
                      retG (rI 9)
                else
                  retG (rI 7)
              else
                retG (rI 7)
            else
              retG (rI 6)
        else
          retG (rI 4)
      else
        retG (rI 3)
  else
    retG (rI 1)
abbrev md_X1_against : MD := (yX1_against, cX1_against, 3, (some (Jvm.ClassFile.FieldType.int)), RX1, 17, 2, 8)
theorem hm_X1_against : (md_X1_against).y.cls ≠ "java/lang/invoke/MethodHandle" ∧ (md_X1_against).y.cls ≠ "java/lang/invoke/VarHandle" ∧ (parseMethodDescriptor (md_X1_against).y.desc).map (fun d => d.parameters.length) = some 2 := by decide +kernel
theorem m_X1_against (a0 : Nat) (a1 : Nat) (a2 : Nat) : CMF md_X1_against [cR a0, cR a1, cR a2] (g_X1_against a0 a1 a2) := by
  refine cm_of (by decide +kernel) rfl (Nat.le_of_ble_eq_true rfl) ?_
  show CWF _ 2 8 0 [(0, cR a0), (1, cR a1), (2, cR a2)] [] _
  unfold g_X1_against
  refine cw_aload_n dX1_against_0 rfl 1 rfl ?_
  refine cw_invI (d2 := md_X6_state) (c := 2) (q := 8) (as := [cR a1]) (mc := 0) (ms := 0) rfl rfl (okV (ci := 5) (C := RX6) (T0 := TX6) (N := 19) (n := 0) rfl rfl rfl dX1_against_1 (lw_V q1177 q1178 q1179 q137 q1180) ⟨rfl, hm_X6_state⟩ (by decide) (by decide) (Nat.le_of_ble_eq_true rfl)) (m_X6_state a1) rfl (fun x1 => ?_)
  refine cw_if_eq (tgt := 9) dX1_against_4 (by decide) ?_ ?_
  · refine cw_aload_n dX1_against_9 rfl 2 rfl ?_
    refine cw_getI (ci := 4) (j := 4) (C := RX5) (T := TX5) (N := 5) rfl (by decide) rfl rfl (Or.inr ⟨_, q1019⟩) fSame_rfl dX1_against_10 (fun x2 => ?_)
    refine cw_if_ne (tgt := 18) dX1_against_13 (by decide) ?_ ?_
    · refine cw_aload_n dX1_against_18 rfl 2 rfl ?_
      refine cw_aload_n dX1_against_19 rfl 0 rfl ?_
      refine cw_getI (ci := 0) (j := 9) (C := RX1) (T := TX1) (N := 11) rfl (by decide) rfl rfl (Or.inl q215) fSame_rfl dX1_against_20 (fun x3 => ?_)
      refine cw_invI (d2 := md_X5_isSuspended) (c := 2) (q := 8) (as := [cR a2, cI x3]) (mc := 0) (ms := 0) rfl rfl (okV (ci := 4) (C := RX5) (T0 := TX5) (N := 5) (n := 1) rfl rfl rfl dX1_against_23 (lw_V q1189 q1190 q1191 q136 q1192) ⟨rfl, hm_X5_isSuspended⟩ (by decide) (by decide) (Nat.le_of_ble_eq_true rfl)) (m_X5_isSuspended a2 x3) rfl (fun x4 => ?_)
      refine cw_if_eq (tgt := 31) dX1_against_26 (by decide) ?_ ?_
      · refine cw_aload_n dX1_against_31 rfl 2 rfl ?_
        refine cw_invI (d2 := md_X5_isProfessional) (c := 2) (q := 8) (as := [cR a2]) (mc := 0) (ms := 0) rfl rfl (okV (ci := 4) (C := RX5) (T0 := TX5) (N := 5) (n := 0) rfl rfl rfl dX1_against_32 (lw_V q1193 q1194 q1195 q136 q1196) ⟨rfl, hm_X5_isProfessional⟩ (by decide) (by decide) (Nat.le_of_ble_eq_true rfl)) (m_X5_isProfessional a2) rfl (fun x5 => ?_)
        refine cw_aload_n dX1_against_35 rfl 1 rfl ?_
        refine cw_getI (ci := 5) (j := 6) (C := RX6) (T := TX6) (N := 19) rfl (by decide) rfl rfl (Or.inr ⟨_, q1098⟩) fSame_rfl dX1_against_36 (fun x6 => ?_)
        refine cw_icmp_eq (tgt := 44) dX1_against_39 (by decide) ?_ ?_
        · refine cw_aload_n dX1_against_44 rfl 2 rfl ?_
          refine cw_invI (d2 := md_X5_age) (c := 2) (q := 8) (as := [cR a2]) (mc := 0) (ms := 0) rfl rfl (okV (ci := 4) (C := RX5) (T0 := TX5) (N := 5) (n := 0) rfl rfl rfl dX1_against_45 (lw_V q1198 q1199 q1200 q136 q1201) ⟨rfl, hm_X5_age⟩ (by decide) (by decide) (Nat.le_of_ble_eq_true rfl)) (m_X5_age a2) rfl (fun x7 => ?_)
          refine cw_aload_n dX1_against_48 rfl 1 rfl ?_
          refine cw_getI (ci := 5) (j := 3) (C := RX6) (T := TX6) (N := 19) rfl (by decide) rfl rfl (Or.inr ⟨_, q1092⟩) fSame_rfl dX1_against_49 (fun x8 => ?_)
          refine cw_aload_n dX1_against_52 rfl 1 rfl ?_
          refine cw_getI (ci := 5) (j := 4) (C := RX6) (T := TX6) (N := 19) rfl (by decide) rfl rfl (Or.inr ⟨_, q1094⟩) fSame_rfl dX1_against_53 (fun x9 => ?_)
          refine cw_invI (d2 := md_X1_isBetween) (c := 2) (q := 8) (as := [cI x7, cI x8, cI x9]) (mc := 0) (ms := 0) rfl rfl (okS (n := 3) rfl dX1_against_56 (lw_S q258 q259 q111 q260) hm_X1_isBetween (by decide) (by decide) (Nat.le_of_ble_eq_true rfl)) (m_X1_isBetween x7 x8 x9) rfl (fun x10 => ?_)
          refine cw_if_ne (tgt := 64) dX1_against_59 (by decide) ?_ ?_
          · refine cw_aload_n dX1_against_64 rfl 2 rfl ?_
            refine cw_aload_n dX1_against_65 rfl 1 rfl ?_
            refine cw_getI (ci := 5) (j := 1) (C := RX6) (T := TX6) (N := 19) rfl (by decide) rfl rfl (Or.inr ⟨_, q1088⟩) fSame_rfl dX1_against_66 (fun x11 => ?_)
            refine cw_invI (d2 := md_X5_grade) (c := 2) (q := 8) (as := [cR a2, cI x11]) (mc := 0) (ms := 0) rfl rfl (okV (ci := 4) (C := RX5) (T0 := TX5) (N := 5) (n := 1) rfl rfl rfl dX1_against_69 (lw_V q1203 q1204 q1205 q136 q1206) ⟨rfl, hm_X5_grade⟩ (by decide) (by decide) (Nat.le_of_ble_eq_true rfl)) (m_X5_grade a2 x11) rfl (fun x12 => ?_)
            refine cw_aload_n dX1_against_72 rfl 1 rfl ?_
            refine cw_getI (ci := 5) (j := 5) (C := RX6) (T := TX6) (N := 19) rfl (by decide) rfl rfl (Or.inr ⟨_, q1096⟩) fSame_rfl dX1_against_73 (fun x13 => ?_)
            refine cw_icmp_le (tgt := 82) dX1_against_76 (by decide) ?_ ?_
            · refine cw_aload_n dX1_against_82 rfl 1 rfl ?_
              refine cw_aload_n dX1_against_83 rfl 2 rfl ?_
              refine cw_getP (ci := 4) (j := 1) (C := RX5) (T := TX5) (N := 5) rfl (by decide) rfl rfl (Or.inr ⟨_, q1011⟩) fSame_rfl dX1_against_84 (fun p14 => ?_)
              refine cw_invI (d2 := md_X6_hasIn) (c := 1) (q := 4) (as := [cR a1, cR p14]) (mc := 1) (ms := 4) rfl rfl (okV (ci := 5) (C := RX6) (T0 := TX6) (N := 19) (n := 1) rfl rfl rfl dX1_against_87 (lw_V q1211 q1212 q1213 q137 q1214) ⟨rfl, hm_X6_hasIn⟩ (by decide) (by decide) (Nat.le_of_ble_eq_true rfl)) (m_X6_hasIn a1 p14) rfl (fun x15 => ?_)
              refine cw_if_ne (tgt := 104) dX1_against_90 (by decide) ?_ ?_
              · refine cw_weak (c' := 0) (q' := 0) (by omega) (by omega) ?_
                refine cw_bipush (v := 7) dX1_against_104 (by decide) ?_
                exact cw_iret rfl dX1_against_106
              · refine cw_aload_n dX1_against_93 rfl 1 rfl ?_
                refine cw_aload_n dX1_against_94 rfl 2 rfl ?_
                refine cw_getP (ci := 4) (j := 2) (C := RX5) (T := TX5) (N := 5) rfl (by decide) rfl rfl (Or.inr ⟨_, q1014⟩) fSame_rfl dX1_against_95 (fun p16 => ?_)
                refine cw_invI (d2 := md_X6_hasIn) (c := 0) (q := 0) (as := [cR a1, cR p16]) (mc := 1) (ms := 4) rfl rfl (okV (ci := 5) (C := RX6) (T0 := TX6) (N := 19) (n := 1) rfl rfl rfl dX1_against_98 (lw_V q1211 q1212 q1213 q137 q1214) ⟨rfl, hm_X6_hasIn⟩ (by decide) (by decide) (Nat.le_of_ble_eq_true rfl)) (m_X6_hasIn a1 p16) rfl (fun x17 => ?_)
                refine cw_if_eq (tgt := 107) dX1_against_101 (by decide) ?_ ?_
                · refine cw_aload_n dX1_against_107 rfl 1 rfl ?_
                  refine cw_getP (ci := 5) (j := 7) (C := RX6) (T := TX6) (N := 19) rfl (by decide) rfl rfl (Or.inr ⟨_, q1100⟩) fSame_rfl dX1_against_108 (fun p18 => ?_)
                  refine cw_invI (d2 := md_J2_size) (c := 0) (q := 0) (as := [cR p18]) (mc := 0) (ms := 0) rfl rfl (okF (x := ⟨"java/util/List", "size", "()I"⟩) (ci := 14) (C := RJ2) (T0 := TJ2) (N := 3) (n := 0) rfl (Or.inr ⟨rfl, rfl⟩) rfl dX1_against_111 (lw_F q246 q251 q249 q114 q253) (List.mem_iff_getElem?.mpr ⟨1, rfl⟩) (show ("java/util/List" : String) ≠ _ ∧ ("java/util/List" : String) ≠ _ ∧ (parseMethodDescriptor (md_J2_size).y.desc).map (fun d => d.parameters.length) = some 0 from ⟨by decide, by decide, (hm_J2_size).2.2⟩) (by decide) (by decide) (Nat.le_of_ble_eq_true rfl)) (c_size p18) rfl (fun x19 => ?_)
                  refine cw_bipush (v := 10) dX1_against_116 (by decide) ?_
                  refine cw_icmp_ne (tgt := 124) dX1_against_118 (by decide) ?_ ?_
                  · refine cw_aload_n dX1_against_124 rfl 0 rfl ?_
                    refine cw_aload_n dX1_against_125 rfl 1 rfl ?_
                    refine cw_aload_n dX1_against_126 rfl 2 rfl ?_
                    refine cw_getP (ci := 4) (j := 1) (C := RX5) (T := TX5) (N := 5) rfl (by decide) rfl rfl (Or.inr ⟨_, q1011⟩) fSame_rfl dX1_against_127 (fun p20 => ?_)
                    refine cw_invI (d2 := md_X1_isOfPanel) (c := 0) (q := 0) (as := [cR a0, cR a1, cR p20]) (mc := 0) (ms := 0) rfl rfl (okV (ci := 0) (C := RX1) (T0 := TX1) (N := 11) (n := 2) rfl rfl rfl dX1_against_130 (lw_V q1216 q1218 qs11 q111 q1219) ⟨rfl, hm_X1_isOfPanel⟩ (by decide) (by decide) (Nat.le_of_ble_eq_true rfl)) (m_X1_isOfPanel a0 a1 p20) rfl (fun x21 => ?_)
                    refine cw_if_ne (tgt := 148) dX1_against_133 (by decide) ?_ ?_
                    · refine cw_bipush (v := 9) dX1_against_148 (by decide) ?_
                      refine cw_goto (tgt := 154) dX1_against_150 (by decide) ?_
                      exact cw_iret rfl dX1_against_154
                    · refine cw_aload_n dX1_against_136 rfl 0 rfl ?_
                      refine cw_aload_n dX1_against_137 rfl 1 rfl ?_
                      refine cw_aload_n dX1_against_138 rfl 2 rfl ?_
                      refine cw_getP (ci := 4) (j := 2) (C := RX5) (T := TX5) (N := 5) rfl (by decide) rfl rfl (Or.inr ⟨_, q1014⟩) fSame_rfl dX1_against_139 (fun p22 => ?_)
                      refine cw_invI (d2 := md_X1_isOfPanel) (c := 0) (q := 0) (as := [cR a0, cR a1, cR p22]) (mc := 0) (ms := 0) rfl rfl (okV (ci := 0) (C := RX1) (T0 := TX1) (N := 11) (n := 2) rfl rfl rfl dX1_against_142 (lw_V q1216 q1218 qs11 q111 q1219) ⟨rfl, hm_X1_isOfPanel⟩ (by decide) (by decide) (Nat.le_of_ble_eq_true rfl)) (m_X1_isOfPanel a0 a1 p22) rfl (fun x23 => ?_)
                      refine cw_if_eq (tgt := 153) dX1_against_145 (by decide) ?_ ?_
                      · refine cw_iconst (v := 0) dX1_against_153 (by decide) ?_
                        exact cw_iret rfl dX1_against_154
                      · refine cw_bipush (v := 9) dX1_against_148 (by decide) ?_
                        refine cw_goto (tgt := 154) dX1_against_150 (by decide) ?_
                        exact cw_iret rfl dX1_against_154
                  · refine cw_bipush (v := 8) dX1_against_121 (by decide) ?_
                    exact cw_iret rfl dX1_against_123
                · refine cw_bipush (v := 7) dX1_against_104 (by decide) ?_
                  exact cw_iret rfl dX1_against_106
            · refine cw_weak (c' := 0) (q' := 0) (by omega) (by omega) ?_
              refine cw_bipush (v := 6) dX1_against_79 (by decide) ?_
              exact cw_iret rfl dX1_against_81
          · refine cw_weak (c' := 0) (q' := 0) (by omega) (by omega) ?_
            refine cw_iconst (v := 5) dX1_against_62 (by decide) ?_
            exact cw_iret rfl dX1_against_63
        · refine cw_weak (c' := 0) (q' := 0) (by omega) (by omega) ?_
          refine cw_iconst (v := 4) dX1_against_42 (by decide) ?_
          exact cw_iret rfl dX1_against_43
      · refine cw_weak (c' := 0) (q' := 0) (by omega) (by omega) ?_
        refine cw_iconst (v := 3) dX1_against_29 (by decide) ?_
        exact cw_iret rfl dX1_against_30
    · refine cw_weak (c' := 0) (q' := 0) (by omega) (by omega) ?_
      refine cw_iconst (v := 2) dX1_against_16 (by decide) ?_
      exact cw_iret rfl dX1_against_17
  · refine cw_weak (c' := 0) (q' := 0) (by omega) (by omega) ?_
    refine cw_iconst (v := 1) dX1_against_7 (by decide) ?_
    exact cw_iret rfl dX1_against_8
def b_X1_refuses_20 (a0 : Nat) (a1 : Nat) (x2 : Int32) (J3 : Unit → GF) (rec6 : (Int32 × Int32) → GF) : (Int32 × Int32) → GF := fun (s : Int32 × Int32) => match s with
  | (l4, l5) =>
    if l5 < x2 then
      ialdG 1 a1 l5 fun x7 =>
      getP 20 a0 6 fun p8 =>
      invP none (g_J21_valueOf x7) fun p9 =>
      invI (some (p8, 8)) (s_add p8 p9) fun x10 =>
      rec6 ((l4 &&& x10), (l5 + 1))
    else
      J3 ()
def g_X1_refuses (a0 : Nat) (a1 : Nat) : GF :=
  getP 20 a0 6 fun p1 =>
  invV (some (p1, 8)) (s_clear p1) <|
  alenG a1 fun x2 =>
  jnG (fun (_ : Unit) =>
    throwG "java/lang/IllegalStateException") fun J3 =>
  loopG (b_X1_refuses_20 a0 a1 x2 J3) 26 (1, 0)
abbrev md_X1_refuses : MD := (yX1_refuses, cX1_refuses, 7, none, RX1, 16, 27, 1670)
theorem hm_X1_refuses : (md_X1_refuses).y.cls ≠ "java/lang/invoke/MethodHandle" ∧ (md_X1_refuses).y.cls ≠ "java/lang/invoke/VarHandle" ∧ (parseMethodDescriptor (md_X1_refuses).y.desc).map (fun d => d.parameters.length) = some 1 := by decide +kernel
theorem m_X1_refuses (a0 : Nat) (a1 : Nat) : CMF md_X1_refuses [cR a0, cR a1] (g_X1_refuses a0 a1) := by
  refine cm_of (by decide +kernel) rfl (Nat.le_of_ble_eq_true rfl) ?_
  show CWF _ 27 1670 0 [(0, cR a0), (1, cR a1)] [] _
  unfold g_X1_refuses
  refine cw_aload_n dX1_refuses_0 rfl 0 rfl ?_
  refine cw_getP (ci := 0) (j := 6) (C := RX1) (T := TX1) (N := 11) rfl (by decide) rfl rfl (Or.inl q212) fSame_rfl dX1_refuses_1 (fun p1 => ?_)
  refine cw_invV (d2 := md_J2_clear) (c := 27) (q := 1670) (as := [cR p1]) (mc := 0) (ms := 0) rfl rfl (okF (x := ⟨"java/util/List", "clear", "()V"⟩) (ci := 14) (C := RJ2) (T0 := TJ2) (N := 3) (n := 0) rfl (Or.inr ⟨rfl, rfl⟩) rfl dX1_refuses_4 (lw_F q197 q203 q201 q114 q205) (List.mem_iff_getElem?.mpr ⟨0, rfl⟩) (show ("java/util/List" : String) ≠ _ ∧ ("java/util/List" : String) ≠ _ ∧ (parseMethodDescriptor (md_J2_clear).y.desc).map (fun d => d.parameters.length) = some 0 from ⟨by decide, by decide, (hm_J2_clear).2.2⟩) (by decide) (by decide) (Nat.le_of_ble_eq_true rfl)) (c_clear p1) rfl ?_
  refine cw_iconst (v := 1) dX1_refuses_9 (by decide) ?_
  refine cw_istore_n (ls' := [(2, cI 1), (0, cR a0), (1, cR a1)]) dX1_refuses_10 rfl (by decide) rfl ?_
  refine cw_aload_n dX1_refuses_11 rfl 2 rfl ?_
  refine cw_astore_n (ls' := [(3, cR a1), (2, cI 1), (0, cR a0), (1, cR a1)]) dX1_refuses_12 rfl (by decide) rfl ?_
  refine cw_aload_n dX1_refuses_13 rfl 0 rfl ?_
  refine cw_alen dX1_refuses_14 (fun x2 => ?_)
  refine cw_istore (ls' := [(4, cI x2), (3, cR a1), (2, cI 1), (0, cR a0), (1, cR a1)]) dX1_refuses_15 (by decide) rfl ?_
  refine cw_iconst (v := 0) dX1_refuses_17 (by decide) ?_
  refine cw_istore (ls' := [(5, cI 0), (4, cI x2), (3, cR a1), (2, cI 1), (0, cR a0), (1, cR a1)]) dX1_refuses_18 (by decide) rfl ?_
  refine cw_jn (cj := 1) (kj := 6) (pcj := 56) (lsf := fun (s : Unit) => []) (stf := fun (s : Unit) => []) (fun s => ?_) (fun J3 hJ3 => ?_)
  · show CWF _ _ _ 56 [] [] _
    exact cw_throw0 (c := 0) (q := 0) (ik := 10) (ic := 12) (cls := "java/lang/IllegalStateException") (names := ["java/lang/RuntimeException", "java/lang/Exception"]) (by decide +kernel) (by decide +kernel) q775 q120 tw_IllegalStateException tg_IllegalStateException (by decide +kernel) dX1_refuses_56 dX1_refuses_59 dX1_refuses_60 dX1_refuses_63 (by decide) (by decide) (Nat.le_of_ble_eq_true rfl)
  · refine cw_sub (ls' := [(4, cI x2), (3, cR a1), (0, cR a0), (2, cI 1), (5, cI 0)]) [1, 2, 4, 3, 0] rfl ?_
    refine cw_weak (c' := 1 + 26 * 1) (q' := 6 + 26 * 64) (by omega) (by omega) ?_
    refine cw_loop (ce := 1) (ke := 6) (cb := 1) (kb := 64) (lsf := fun (s : Int32 × Int32) => [(4, cI x2), (3, cR a1), (0, cR a0), (2, cI s.1), (5, cI s.2)]) (fun Crec6 Krec6 rec6 hCrec6 hKrec6 hrec6 s => ?_) 26 (1, 0)
    obtain ⟨l4, l5⟩ := s
    show CWF _ _ _ 20 [(4, cI x2), (3, cR a1), (0, cR a0), (2, cI l4), (5, cI l5)] [] _
    dsimp only [b_X1_refuses_20]
    refine cw_iload dX1_refuses_20 4 rfl ?_
    refine cw_iload dX1_refuses_22 0 rfl ?_
    refine cw_icmp_ge (tgt := 56) dX1_refuses_24 (by decide) ?_ ?_
    · refine cw_weak (c' := Crec6 + 0) (q' := Krec6 + 0) (by omega) (by omega) ?_
      refine cw_weak (c' := 1) (q' := 6) (by omega) (by omega) ?_
      refine cw_sub (ls' := []) [] rfl ?_
      exact hJ3 ()
    · refine cw_aload_n dX1_refuses_27 rfl 1 rfl ?_
      refine cw_iload dX1_refuses_28 4 rfl ?_
      refine cw_iald dX1_refuses_30 (fun x7 => ?_)
      refine cw_istore (ls' := [(6, cI x7), (4, cI x2), (3, cR a1), (0, cR a0), (2, cI l4), (5, cI l5)]) dX1_refuses_31 (by decide) rfl ?_
      refine cw_iload_n dX1_refuses_33 rfl 4 rfl ?_
      refine cw_aload_n dX1_refuses_34 rfl 3 rfl ?_
      refine cw_getP (ci := 0) (j := 6) (C := RX1) (T := TX1) (N := 11) rfl (by decide) rfl rfl (Or.inl q212) fSame_rfl dX1_refuses_35 (fun p8 => ?_)
      refine cw_iload dX1_refuses_38 0 rfl ?_
      refine cw_invP (d2 := md_J21_valueOf) (c := Crec6 + 1) (q := Krec6 + 64) (as := [cI x7]) (mc := 0) (ms := 0) rfl rfl (okS (n := 1) rfl dX1_refuses_40 (lw_S q1225 q1226 q140 q1227) hm_J21_valueOf (by decide) (by decide) (Nat.le_of_ble_eq_true rfl)) (m_J21_valueOf x7) rfl (fun p9 => ?_)
      refine cw_invI (d2 := md_J2_add) (c := Crec6 + 0) (q := Krec6 + 0) (as := [cR p8, cR p9]) (mc := 1) (ms := 64) rfl rfl (okF (x := ⟨"java/util/List", "add", "(Ljava/lang/Object;)Z"⟩) (ci := 14) (C := RJ2) (T0 := TJ2) (N := 3) (n := 1) rfl (Or.inr ⟨rfl, rfl⟩) rfl dX1_refuses_43 (lw_F q842 q587 q585 q114 q589) (List.mem_iff_getElem?.mpr ⟨9, rfl⟩) (show ("java/util/List" : String) ≠ _ ∧ ("java/util/List" : String) ≠ _ ∧ (parseMethodDescriptor (md_J2_add).y.desc).map (fun d => d.parameters.length) = some 1 from ⟨by decide, by decide, (hm_J2_add).2.2⟩) (by decide) (by decide) (Nat.le_of_ble_eq_true rfl)) (c_add p8 p9) rfl (fun x10 => ?_)
      refine cw_iand dX1_refuses_48 ?_
      refine cw_istore_n (ls' := [(2, cI (l4 &&& x10)), (6, cI x7), (4, cI x2), (3, cR a1), (0, cR a0), (5, cI l5)]) dX1_refuses_49 rfl (by decide) rfl ?_
      refine cw_iinc (v := (l5 + 1)) (ls' := [(5, cI (l5 + 1)), (2, cI (l4 &&& x10)), (6, cI x7), (4, cI x2), (3, cR a1), (0, cR a0)]) dX1_refuses_50 5 rfl rfl (by decide) rfl ?_
      refine cw_goto (tgt := 20) dX1_refuses_53 (by decide) ?_
      refine cw_sub (ls' := [(4, cI x2), (3, cR a1), (0, cR a0), (2, cI (l4 &&& x10)), (5, cI (l5 + 1))]) [3, 4, 5, 1, 0] rfl ?_
      exact hrec6 ((l4 &&& x10), (l5 + 1))
def b_X8_init_39 (a0 : Nat) (rec5 : Int32 → GF) : Int32 → GF := fun (l4 : Int32) =>
  getP 27 a0 2 fun p6 =>
  alenG p6 fun x7 =>
  if l4 < x7 then
    getP 27 a0 2 fun p8 =>
    iastG p8 l4 (-1 : Int32) <|
    rec5 (l4 + 1)
  else
    retG rV
def g_X8_init (a0 : Nat) (a1 : Int32) (a2 : Nat) : GF :=
  objG a0 <|
  newaG 1 140 140 fun p1 =>
  putP 27 a0 2 p1 <|
  newaG 1 5 5 fun p2 =>
  putP 27 a0 3 p2 <|
  newaG 1 5 5 fun p3 =>
  putP 27 a0 4 p3 <|
  putI 27 a0 0 a1 <|
  putP 27 a0 1 a2 <|
  loopG (b_X8_init_39 a0) FU 0
abbrev md_X8_init : MD := (yX8_init, cX8_init, 4, none, RX8, 10, 3, 150)
theorem hm_X8_init : (md_X8_init).y.cls ≠ "java/lang/invoke/MethodHandle" ∧ (md_X8_init).y.cls ≠ "java/lang/invoke/VarHandle" ∧ (parseMethodDescriptor (md_X8_init).y.desc).map (fun d => d.parameters.length) = some 2 := by decide +kernel
theorem m_X8_init (a0 : Nat) (a1 : Int32) (a2 : Nat) : CMF md_X8_init [cR a0, cI a1, cR a2] (g_X8_init a0 a1 a2) := by
  refine cm_of (by decide +kernel) rfl (Nat.le_of_ble_eq_true rfl) ?_
  show CWF _ 3 150 0 [(0, cR a0), (1, cI a1), (2, cR a2)] [] _
  unfold g_X8_init
  refine cw_aload_n dX8_init_0 rfl 0 rfl ?_
  refine cw_objInit q1248 q159 q160 dX8_init_1 (by decide) (Nat.le_of_ble_eq_true rfl) ?_
  refine cw_aload_n dX8_init_4 rfl 0 rfl ?_
  refine cw_sipush (v := 140) dX8_init_5 (by decide) ?_
  refine cw_newarr (c := 2) (q := 10) (B := 140) (t := 1) (Or.inl ⟨rfl, rfl⟩) (by decide) q240 dX8_init_8 (fun p1 => ?_)
  refine cw_putP (ci := 7) (j := 2) (C := RX8) (T := TX8) (N := 10) rfl (by decide) rfl rfl (Or.inl q1254) fSame_rfl (Or.inr ⟨rfl, rfl, rfl⟩) dX8_init_10 ?_
  refine cw_aload_n dX8_init_13 rfl 0 rfl ?_
  refine cw_iconst (v := 5) dX8_init_14 (by decide) ?_
  refine cw_newarr (c := 1) (q := 5) (B := 5) (t := 1) (Or.inl ⟨rfl, rfl⟩) (by decide) q240 dX8_init_15 (fun p2 => ?_)
  refine cw_putP (ci := 7) (j := 3) (C := RX8) (T := TX8) (N := 10) rfl (by decide) rfl rfl (Or.inl q1256) fSame_rfl (Or.inr ⟨rfl, rfl, rfl⟩) dX8_init_17 ?_
  refine cw_aload_n dX8_init_20 rfl 0 rfl ?_
  refine cw_iconst (v := 5) dX8_init_21 (by decide) ?_
  refine cw_newarr (c := 0) (q := 0) (B := 5) (t := 1) (Or.inl ⟨rfl, rfl⟩) (by decide) q240 dX8_init_22 (fun p3 => ?_)
  refine cw_putP (ci := 7) (j := 4) (C := RX8) (T := TX8) (N := 10) rfl (by decide) rfl rfl (Or.inl q1259) fSame_rfl (Or.inr ⟨rfl, rfl, rfl⟩) dX8_init_24 ?_
  refine cw_aload_n dX8_init_27 rfl 0 rfl ?_
  refine cw_iload_n dX8_init_28 rfl 1 rfl ?_
  refine cw_putI (ci := 7) (j := 0) (C := RX8) (T := TX8) (N := 10) rfl (by decide) rfl rfl (Or.inl q1249) fSame_rfl (Or.inr ⟨rfl, rfl, rfl⟩) dX8_init_29 ?_
  refine cw_aload_n dX8_init_32 rfl 0 rfl ?_
  refine cw_aload_n dX8_init_33 rfl 2 rfl ?_
  refine cw_putP (ci := 7) (j := 1) (C := RX8) (T := TX8) (N := 10) rfl (by decide) rfl rfl (Or.inl q1251) fSame_rfl (Or.inr ⟨rfl, rfl, rfl⟩) dX8_init_34 ?_
  refine cw_iconst (v := 0) dX8_init_37 (by decide) ?_
  refine cw_istore_n (ls' := [(3, cI 0), (0, cR a0), (1, cI a1), (2, cR a2)]) dX8_init_38 rfl (by decide) rfl ?_
  refine cw_sub (ls' := [(0, cR a0), (3, cI 0)]) [1, 0] rfl ?_
  refine cw_loop0 (lsf := fun (s : Int32) => [(0, cR a0), (3, cI s)]) (fun rec5 hrec5 s => ?_) FU 0
  obtain ⟨l4, e⟩ : ∃ z, z = s := ⟨_, rfl⟩
  subst e
  show CWF _ _ _ 39 [(0, cR a0), (3, cI l4)] [] _
  dsimp only [b_X8_init_39]
  refine cw_iload_n dX8_init_39 rfl 1 rfl ?_
  refine cw_aload_n dX8_init_40 rfl 0 rfl ?_
  refine cw_getP (ci := 7) (j := 2) (C := RX8) (T := TX8) (N := 10) rfl (by decide) rfl rfl (Or.inl q1254) fSame_rfl dX8_init_41 (fun p6 => ?_)
  refine cw_alen dX8_init_44 (fun x7 => ?_)
  refine cw_icmp_ge (tgt := 61) dX8_init_45 (by decide) ?_ ?_
  · exact cw_vret rfl dX8_init_61
  · refine cw_aload_n dX8_init_48 rfl 0 rfl ?_
    refine cw_getP (ci := 7) (j := 2) (C := RX8) (T := TX8) (N := 10) rfl (by decide) rfl rfl (Or.inl q1254) fSame_rfl dX8_init_49 (fun p8 => ?_)
    refine cw_iload_n dX8_init_52 rfl 1 rfl ?_
    refine cw_iconst (v := -1) dX8_init_53 (by decide) ?_
    refine cw_iast dX8_init_54 ?_
    refine cw_iinc (v := (l4 + 1)) (ls' := [(3, cI (l4 + 1)), (0, cR a0)]) dX8_init_55 1 rfl rfl (by decide) rfl ?_
    refine cw_goto (tgt := 39) dX8_init_58 (by decide) ?_
    refine cw_sub (ls' := [(0, cR a0), (3, cI (l4 + 1))]) [1, 0] rfl ?_
    exact hrec5 (l4 + 1)
def g_X1_enter (a0 : Nat) (a1 : Int32) (a2 : Int32) : GF :=
  getP 20 a0 3 fun p1 =>
  invP none (g_X1_at p1 a1) fun p2 =>
  castG 25 p2 <|
  getP 20 a0 2 fun p3 =>
  invP none (g_X1_at p3 a2) fun p4 =>
  castG 24 p4 <|
  invI (some (a0, 20)) (g_X1_against a0 p2 p4) fun x5 =>
  jnG (fun (_ : Unit) =>
    newG 27 fun p6 =>
    getP 25 p2 7 fun p7 =>
    invI (some (p7, 8)) (s_size p7) fun x8 =>
    invV (some (p6, 27)) (g_X8_init p6 (x8 + 1) p4) <|
    getP 25 p2 7 fun p9 =>
    invI (some (p9, 8)) (s_add p9 p6) fun x10 =>
    jnG (fun (v11 : Int32) =>
      getI 20 a0 10 fun x12 =>
      getI 25 p2 12 fun x13 =>
      putI 20 a0 10 (x12 + x13) <|
      getI 27 p6 0 fun x14 =>
      retG (rI x14)) fun J15 =>
    jnG (fun (_ : Unit) =>
      J15 0) fun J16 =>
    if x10 = 0 then
      J16 ()
    else
      getP 25 p2 18 fun p17 =>
      getP 26 p17 2 fun p18 =>
      invI (some (p18, 8)) (s_add p18 p6) fun x19 =>
      if x19 = 0 then
        J16 ()
      else
        J15 1) fun J20 =>
  if x5 = 0 then
    J20 ()
  else
    newaG 1 2 2 fun p21 =>
    iastG p21 0 1 <|
    iastG p21 1 (10 + x5) <|
    invV (some (a0, 20)) (g_X1_refuses a0 p21) <|
    J20 ()
abbrev md_X1_enter : MD := (yX1_enter, cX1_enter, 8, (some (Jvm.ClassFile.FieldType.int)), RX1, 18, 38, 1980)
theorem hm_X1_enter : (md_X1_enter).y.cls ≠ "java/lang/invoke/MethodHandle" ∧ (md_X1_enter).y.cls ≠ "java/lang/invoke/VarHandle" ∧ (parseMethodDescriptor (md_X1_enter).y.desc).map (fun d => d.parameters.length) = some 2 := by decide +kernel
theorem m_X1_enter (a0 : Nat) (a1 : Int32) (a2 : Int32) : CMF md_X1_enter [cR a0, cI a1, cI a2] (g_X1_enter a0 a1 a2) := by
  refine cm_of (by decide +kernel) rfl (Nat.le_of_ble_eq_true rfl) ?_
  show CWF _ 38 1980 0 [(0, cR a0), (1, cI a1), (2, cI a2)] [] _
  unfold g_X1_enter
  refine cw_aload_n dX1_enter_0 rfl 0 rfl ?_
  refine cw_getP (ci := 0) (j := 3) (C := RX1) (T := TX1) (N := 11) rfl (by decide) rfl rfl (Or.inl q209) fSame_rfl dX1_enter_1 (fun p1 => ?_)
  refine cw_iload_n dX1_enter_4 rfl 1 rfl ?_
  refine cw_invP (d2 := md_X1_at) (c := 37) (q := 1974) (as := [cR p1, cI a1]) (mc := 1) (ms := 6) rfl rfl (okS (n := 2) rfl dX1_enter_5 (lw_S q883 q884 q111 q885) hm_X1_at (by decide) (by decide) (Nat.le_of_ble_eq_true rfl)) (m_X1_at p1 a1) rfl (fun p2 => ?_)
  refine cw_cast (ci := 5) (T := TX6) (N := 19) (C := RX6) rfl rfl q524 (Or.inl rfl) dX1_enter_8 ?_
  refine cw_astore_n (ls' := [(3, cR p2), (0, cR a0), (1, cI a1), (2, cI a2)]) dX1_enter_11 rfl (by decide) rfl ?_
  refine cw_aload_n dX1_enter_12 rfl 1 rfl ?_
  refine cw_getP (ci := 0) (j := 2) (C := RX1) (T := TX1) (N := 11) rfl (by decide) rfl rfl (Or.inl q208) fSame_rfl dX1_enter_13 (fun p3 => ?_)
  refine cw_iload_n dX1_enter_16 rfl 3 rfl ?_
  refine cw_invP (d2 := md_X1_at) (c := 36) (q := 1968) (as := [cR p3, cI a2]) (mc := 1) (ms := 6) rfl rfl (okS (n := 2) rfl dX1_enter_17 (lw_S q883 q884 q111 q885) hm_X1_at (by decide) (by decide) (Nat.le_of_ble_eq_true rfl)) (m_X1_at p3 a2) rfl (fun p4 => ?_)
  refine cw_cast (ci := 4) (T := TX5) (N := 5) (C := RX5) rfl rfl q762 (Or.inl rfl) dX1_enter_20 ?_
  refine cw_astore (ls' := [(4, cR p4), (3, cR p2), (0, cR a0), (1, cI a1), (2, cI a2)]) dX1_enter_23 (by decide) rfl ?_
  refine cw_aload_n dX1_enter_25 rfl 2 rfl ?_
  refine cw_aload_n dX1_enter_26 rfl 1 rfl ?_
  refine cw_aload dX1_enter_27 0 rfl ?_
  refine cw_invI (d2 := md_X1_against) (c := 34) (q := 1960) (as := [cR a0, cR p2, cR p4]) (mc := 2) (ms := 8) rfl rfl (okV (ci := 0) (C := RX1) (T0 := TX1) (N := 11) (n := 2) rfl rfl rfl dX1_enter_29 (lw_V q1173 q1175 qs10 q111 q1176) ⟨rfl, hm_X1_against⟩ (by decide) (by decide) (Nat.le_of_ble_eq_true rfl)) (m_X1_against a0 p2 p4) rfl (fun x5 => ?_)
  refine cw_istore (ls' := [(5, cI x5), (4, cR p4), (3, cR p2), (0, cR a0), (1, cI a1), (2, cI a2)]) dX1_enter_32 (by decide) rfl ?_
  refine cw_iload dX1_enter_34 0 rfl ?_
  refine cw_jn (cj := 6) (kj := 288) (pcj := 58) (lsf := fun (s : Unit) => [(4, cR p4), (3, cR p2), (0, cR a0)]) (stf := fun (s : Unit) => []) (fun s => ?_) (fun J20 hJ20 => ?_)
  · show CWF _ _ _ 58 [(4, cR p4), (3, cR p2), (0, cR a0)] [] _
    refine cw_new (c := 5) (q := 278) (ci := 7) (C := RX8) (T := TX8) (N := 10) rfl rfl q525 q1244 q142 dX1_enter_58 (fun p6 => ?_)
    refine cw_dup dX1_enter_61 rfl ?_
    refine cw_aload_n dX1_enter_62 rfl 1 rfl ?_
    refine cw_getP (ci := 5) (j := 7) (C := RX6) (T := TX6) (N := 19) rfl (by decide) rfl rfl (Or.inr ⟨_, q1100⟩) fSame_rfl dX1_enter_63 (fun p7 => ?_)
    refine cw_invI (d2 := md_J2_size) (c := 5) (q := 278) (as := [cR p7]) (mc := 0) (ms := 0) rfl rfl (okF (x := ⟨"java/util/List", "size", "()I"⟩) (ci := 14) (C := RJ2) (T0 := TJ2) (N := 3) (n := 0) rfl (Or.inr ⟨rfl, rfl⟩) rfl dX1_enter_66 (lw_F q246 q251 q249 q114 q253) (List.mem_iff_getElem?.mpr ⟨1, rfl⟩) (show ("java/util/List" : String) ≠ _ ∧ ("java/util/List" : String) ≠ _ ∧ (parseMethodDescriptor (md_J2_size).y.desc).map (fun d => d.parameters.length) = some 0 from ⟨by decide, by decide, (hm_J2_size).2.2⟩) (by decide) (by decide) (Nat.le_of_ble_eq_true rfl)) (c_size p7) rfl (fun x8 => ?_)
    refine cw_iconst (v := 1) dX1_enter_71 (by decide) ?_
    refine cw_iadd dX1_enter_72 ?_
    refine cw_aload dX1_enter_73 0 rfl ?_
    refine cw_invV (d2 := md_X8_init) (c := 2) (q := 128) (as := [cR p6, cI (x8 + 1), cR p4]) (mc := 3) (ms := 150) rfl rfl (okI (n := 2) rfl rfl dX1_enter_75 (lw_meth q1247) q142 q1245 q1246 rfl hm_X8_init (by decide) (by decide) (Nat.le_of_ble_eq_true rfl) (by decide)) (m_X8_init p6 (x8 + 1) p4) rfl ?_
    refine cw_astore (ls' := [(6, cR p6), (4, cR p4), (3, cR p2), (0, cR a0)]) dX1_enter_78 (by decide) rfl ?_
    refine cw_aload_n dX1_enter_80 rfl 2 rfl ?_
    refine cw_getP (ci := 5) (j := 7) (C := RX6) (T := TX6) (N := 19) rfl (by decide) rfl rfl (Or.inr ⟨_, q1100⟩) fSame_rfl dX1_enter_81 (fun p9 => ?_)
    refine cw_aload dX1_enter_84 0 rfl ?_
    refine cw_invI (d2 := md_J2_add) (c := 1) (q := 64) (as := [cR p9, cR p6]) (mc := 1) (ms := 64) rfl rfl (okF (x := ⟨"java/util/List", "add", "(Ljava/lang/Object;)Z"⟩) (ci := 14) (C := RJ2) (T0 := TJ2) (N := 3) (n := 1) rfl (Or.inr ⟨rfl, rfl⟩) rfl dX1_enter_86 (lw_F q842 q587 q585 q114 q589) (List.mem_iff_getElem?.mpr ⟨9, rfl⟩) (show ("java/util/List" : String) ≠ _ ∧ ("java/util/List" : String) ≠ _ ∧ (parseMethodDescriptor (md_J2_add).y.desc).map (fun d => d.parameters.length) = some 1 from ⟨by decide, by decide, (hm_J2_add).2.2⟩) (by decide) (by decide) (Nat.le_of_ble_eq_true rfl)) (c_add p9 p6) rfl (fun x10 => ?_)
    refine cw_jn (cj := 0) (kj := 0) (pcj := 116) (lsf := fun (s : Int32) => [(6, cR p6), (3, cR p2), (0, cR a0)]) (stf := fun (s : Int32) => [cI s]) (fun s => ?_) (fun J15 hJ15 => ?_)
    · obtain ⟨v11, e⟩ : ∃ z, z = s := ⟨_, rfl⟩
      subst e
      show CWF _ _ _ 116 [(6, cR p6), (3, cR p2), (0, cR a0)] [cI v11] _
      refine cw_istore (ls' := [(7, cI v11), (6, cR p6), (3, cR p2), (0, cR a0)]) dX1_enter_116 (by decide) rfl ?_
      refine cw_aload_n dX1_enter_118 rfl 3 rfl ?_
      refine cw_dup dX1_enter_119 rfl ?_
      refine cw_getI (ci := 0) (j := 10) (C := RX1) (T := TX1) (N := 11) rfl (by decide) rfl rfl (Or.inl q216) fSame_rfl dX1_enter_120 (fun x12 => ?_)
      refine cw_aload_n dX1_enter_123 rfl 2 rfl ?_
      refine cw_getI (ci := 5) (j := 12) (C := RX6) (T := TX6) (N := 19) rfl (by decide) rfl rfl (Or.inr ⟨_, q1109⟩) fSame_rfl dX1_enter_124 (fun x13 => ?_)
      refine cw_iadd dX1_enter_127 ?_
      refine cw_putI (ci := 0) (j := 10) (C := RX1) (T := TX1) (N := 11) rfl (by decide) rfl rfl (Or.inl q216) fSame_rfl (Or.inl rfl) dX1_enter_128 ?_
      refine cw_aload dX1_enter_131 1 rfl ?_
      refine cw_getI (ci := 7) (j := 0) (C := RX8) (T := TX8) (N := 10) rfl (by decide) rfl rfl (Or.inr ⟨_, q1250⟩) fSame_rfl dX1_enter_133 (fun x14 => ?_)
      exact cw_iret rfl dX1_enter_136
    · refine cw_jn (cj := 0) (kj := 0) (pcj := 115) (lsf := fun (s : Unit) => [(6, cR p6), (3, cR p2), (0, cR a0)]) (stf := fun (s : Unit) => []) (fun s => ?_) (fun J16 hJ16 => ?_)
      · show CWF _ _ _ 115 [(6, cR p6), (3, cR p2), (0, cR a0)] [] _
        refine cw_iconst (v := 0) dX1_enter_115 (by decide) ?_
        exact hJ15 0
      · refine cw_if_eq (tgt := 115) dX1_enter_91 (by decide) ?_ ?_
        · refine cw_weak (c' := 0) (q' := 0) (by omega) (by omega) ?_
          refine cw_sub (ls' := [(6, cR p6), (3, cR p2), (0, cR a0)]) [0, 2, 3] rfl ?_
          exact hJ16 ()
        · refine cw_aload_n dX1_enter_94 rfl 2 rfl ?_
          refine cw_getP (ci := 5) (j := 18) (C := RX6) (T := TX6) (N := 19) rfl (by decide) rfl rfl (Or.inr ⟨_, q1119⟩) fSame_rfl dX1_enter_95 (fun p17 => ?_)
          refine cw_getP (ci := 6) (j := 2) (C := RX7) (T := TX7) (N := 5) rfl (by decide) rfl rfl (Or.inr ⟨_, q1068⟩) fSame_rfl dX1_enter_98 (fun p18 => ?_)
          refine cw_aload dX1_enter_101 0 rfl ?_
          refine cw_invI (d2 := md_J2_add) (c := 0) (q := 0) (as := [cR p18, cR p6]) (mc := 1) (ms := 64) rfl rfl (okF (x := ⟨"java/util/List", "add", "(Ljava/lang/Object;)Z"⟩) (ci := 14) (C := RJ2) (T0 := TJ2) (N := 3) (n := 1) rfl (Or.inr ⟨rfl, rfl⟩) rfl dX1_enter_103 (lw_F q842 q587 q585 q114 q589) (List.mem_iff_getElem?.mpr ⟨9, rfl⟩) (show ("java/util/List" : String) ≠ _ ∧ ("java/util/List" : String) ≠ _ ∧ (parseMethodDescriptor (md_J2_add).y.desc).map (fun d => d.parameters.length) = some 1 from ⟨by decide, by decide, (hm_J2_add).2.2⟩) (by decide) (by decide) (Nat.le_of_ble_eq_true rfl)) (c_add p18 p6) rfl (fun x19 => ?_)
          refine cw_if_eq (tgt := 115) dX1_enter_108 (by decide) ?_ ?_
          · refine cw_sub (ls' := [(6, cR p6), (3, cR p2), (0, cR a0)]) [0, 2, 3] rfl ?_
            exact hJ16 ()
          · refine cw_iconst (v := 1) dX1_enter_111 (by decide) ?_
            refine cw_goto (tgt := 116) dX1_enter_112 (by decide) ?_
            refine cw_sub (ls' := [(6, cR p6), (3, cR p2), (0, cR a0)]) [0, 2, 3] rfl ?_
            exact hJ15 1
  · refine cw_if_eq (tgt := 58) dX1_enter_36 (by decide) ?_ ?_
    · refine cw_weak (c' := 6) (q' := 288) (by omega) (by omega) ?_
      refine cw_sub (ls' := [(4, cR p4), (3, cR p2), (0, cR a0)]) [1, 2, 3] rfl ?_
      exact hJ20 ()
    · refine cw_aload_n dX1_enter_39 rfl 3 rfl ?_
      refine cw_iconst (v := 2) dX1_enter_40 (by decide) ?_
      refine cw_newarr (c := 33) (q := 1958) (B := 2) (t := 1) (Or.inl ⟨rfl, rfl⟩) (by decide) q240 dX1_enter_41 (fun p21 => ?_)
      refine cw_dup dX1_enter_43 rfl ?_
      refine cw_iconst (v := 0) dX1_enter_44 (by decide) ?_
      refine cw_iconst (v := 1) dX1_enter_45 (by decide) ?_
      refine cw_iast dX1_enter_46 ?_
      refine cw_dup dX1_enter_47 rfl ?_
      refine cw_iconst (v := 1) dX1_enter_48 (by decide) ?_
      refine cw_bipush (v := 10) dX1_enter_49 (by decide) ?_
      refine cw_iload dX1_enter_51 0 rfl ?_
      refine cw_iadd dX1_enter_53 ?_
      refine cw_iast dX1_enter_54 ?_
      refine cw_invV (d2 := md_X1_refuses) (c := 6) (q := 288) (as := [cR a0, cR p21]) (mc := 27) (ms := 1670) rfl rfl (okV (ci := 0) (C := RX1) (T0 := TX1) (N := 11) (n := 1) rfl rfl rfl dX1_enter_55 (lw_V q1221 q1223 qs12 q111 q1224) ⟨rfl, hm_X1_refuses⟩ (by decide) (by decide) (Nat.le_of_ble_eq_true rfl)) (m_X1_refuses a0 p21) rfl ?_
      refine cw_sub (ls' := [(4, cR p4), (3, cR p2), (0, cR a0)]) [1, 2, 3] rfl ?_
      exact hJ20 ()
def g_X1_entryOf (a0 : Nat) (a1 : Int32) : GF :=
  getP 25 a0 7 fun p1 =>
  invP none (g_X1_at p1 (a1 - 1)) fun p2 =>
  castG 27 p2 <|
  retG (rR p2)
abbrev md_X1_entryOf : MD := (yX1_entryOf, cX1_entryOf, 2, (some ((Jvm.ClassFile.FieldType.object "Scrutineery$Entry"))), RX1, 14, 1, 6)
theorem hm_X1_entryOf : (md_X1_entryOf).y.cls ≠ "java/lang/invoke/MethodHandle" ∧ (md_X1_entryOf).y.cls ≠ "java/lang/invoke/VarHandle" ∧ (parseMethodDescriptor (md_X1_entryOf).y.desc).map (fun d => d.parameters.length) = some 2 := by decide +kernel
theorem m_X1_entryOf (a0 : Nat) (a1 : Int32) : CMF md_X1_entryOf [cR a0, cI a1] (g_X1_entryOf a0 a1) := by
  refine cm_of (by decide +kernel) rfl (Nat.le_of_ble_eq_true rfl) ?_
  show CWF _ 1 6 0 [(0, cR a0), (1, cI a1)] [] _
  unfold g_X1_entryOf
  refine cw_aload_n dX1_entryOf_0 rfl 0 rfl ?_
  refine cw_getP (ci := 5) (j := 7) (C := RX6) (T := TX6) (N := 19) rfl (by decide) rfl rfl (Or.inr ⟨_, q1100⟩) fSame_rfl dX1_entryOf_1 (fun p1 => ?_)
  refine cw_iload_n dX1_entryOf_4 rfl 1 rfl ?_
  refine cw_iconst (v := 1) dX1_entryOf_5 (by decide) ?_
  refine cw_isub dX1_entryOf_6 ?_
  refine cw_invP (d2 := md_X1_at) (c := 0) (q := 0) (as := [cR p1, cI (a1 - 1)]) (mc := 1) (ms := 6) rfl rfl (okS (n := 2) rfl dX1_entryOf_7 (lw_S q883 q884 q111 q885) hm_X1_at (by decide) (by decide) (Nat.le_of_ble_eq_true rfl)) (m_X1_at p1 (a1 - 1)) rfl (fun p2 => ?_)
  refine cw_cast (ci := 7) (T := TX8) (N := 10) (C := RX8) rfl rfl q525 (Or.inl rfl) dX1_entryOf_10 ?_
  exact cw_aret rfl rfl dX1_entryOf_13
def g_X1_scratch (a0 : Nat) (a1 : Int32) (a2 : Int32) : GF :=
  getP 20 a0 3 fun p1 =>
  invP none (g_X1_at p1 a1) fun p2 =>
  castG 25 p2 <|
  invP none (g_X1_entryOf p2 a2) fun p3 =>
  invI (some (p2, 25)) (g_X6_state p2) fun x4 =>
  jnG (fun (v5 : Int32) =>
    invV none (g_X1_requireState v5) <|
    putZ 27 p3 5 1 <|
    putI 27 p3 6 (-1 : Int32) <|
    getP 25 p2 18 fun p6 =>
    getP 26 p6 2 fun p7 =>
    invI (some (p7, 8)) (s_removeO p7 p3) fun x8 =>
    getI 20 a0 10 fun x9 =>
    getI 25 p2 12 fun x10 =>
    idivG x10 2 fun x11 =>
    putI 20 a0 10 (x9 - x11) <|
    getI 20 a0 10 fun x12 =>
    retG (rI x12)) fun J13 =>
  jnG (fun (_ : Unit) =>
    J13 0) fun J14 =>
  if x4 = 0 then
    getI 27 p3 5 fun x15 =>
    if x15 = 0 then
      J13 1
    else
      J14 ()
  else
    J14 ()
abbrev md_X1_scratch : MD := (yX1_scratch, cX1_scratch, 6, (some (Jvm.ClassFile.FieldType.int)), RX1, 15, 3, 18)
theorem hm_X1_scratch : (md_X1_scratch).y.cls ≠ "java/lang/invoke/MethodHandle" ∧ (md_X1_scratch).y.cls ≠ "java/lang/invoke/VarHandle" ∧ (parseMethodDescriptor (md_X1_scratch).y.desc).map (fun d => d.parameters.length) = some 2 := by decide +kernel
theorem m_X1_scratch (a0 : Nat) (a1 : Int32) (a2 : Int32) : CMF md_X1_scratch [cR a0, cI a1, cI a2] (g_X1_scratch a0 a1 a2) := by
  refine cm_of (by decide +kernel) rfl (Nat.le_of_ble_eq_true rfl) ?_
  show CWF _ 3 18 0 [(0, cR a0), (1, cI a1), (2, cI a2)] [] _
  unfold g_X1_scratch
  refine cw_aload_n dX1_scratch_0 rfl 0 rfl ?_
  refine cw_getP (ci := 0) (j := 3) (C := RX1) (T := TX1) (N := 11) rfl (by decide) rfl rfl (Or.inl q209) fSame_rfl dX1_scratch_1 (fun p1 => ?_)
  refine cw_iload_n dX1_scratch_4 rfl 1 rfl ?_
  refine cw_invP (d2 := md_X1_at) (c := 2) (q := 12) (as := [cR p1, cI a1]) (mc := 1) (ms := 6) rfl rfl (okS (n := 2) rfl dX1_scratch_5 (lw_S q883 q884 q111 q885) hm_X1_at (by decide) (by decide) (Nat.le_of_ble_eq_true rfl)) (m_X1_at p1 a1) rfl (fun p2 => ?_)
  refine cw_cast (ci := 5) (T := TX6) (N := 19) (C := RX6) rfl rfl q524 (Or.inl rfl) dX1_scratch_8 ?_
  refine cw_astore_n (ls' := [(3, cR p2), (0, cR a0), (1, cI a1), (2, cI a2)]) dX1_scratch_11 rfl (by decide) rfl ?_
  refine cw_aload_n dX1_scratch_12 rfl 0 rfl ?_
  refine cw_iload_n dX1_scratch_13 rfl 3 rfl ?_
  refine cw_invP (d2 := md_X1_entryOf) (c := 1) (q := 6) (as := [cR p2, cI a2]) (mc := 1) (ms := 6) rfl rfl (okS (n := 2) rfl dX1_scratch_14 (lw_S q1300 q1301 q111 q1302) hm_X1_entryOf (by decide) (by decide) (Nat.le_of_ble_eq_true rfl)) (m_X1_entryOf p2 a2) rfl (fun p3 => ?_)
  refine cw_astore (ls' := [(4, cR p3), (3, cR p2), (0, cR a0), (1, cI a1), (2, cI a2)]) dX1_scratch_17 (by decide) rfl ?_
  refine cw_aload_n dX1_scratch_19 rfl 1 rfl ?_
  refine cw_invI (d2 := md_X6_state) (c := 1) (q := 6) (as := [cR p2]) (mc := 0) (ms := 0) rfl rfl (okV (ci := 5) (C := RX6) (T0 := TX6) (N := 19) (n := 0) rfl rfl rfl dX1_scratch_20 (lw_V q1177 q1178 q1179 q137 q1180) ⟨rfl, hm_X6_state⟩ (by decide) (by decide) (Nat.le_of_ble_eq_true rfl)) (m_X6_state p2) rfl (fun x4 => ?_)
  refine cw_jn (cj := 1) (kj := 6) (pcj := 39) (lsf := fun (s : Int32) => [(4, cR p3), (3, cR p2), (0, cR a0)]) (stf := fun (s : Int32) => [cI s]) (fun s => ?_) (fun J13 hJ13 => ?_)
  · obtain ⟨v5, e⟩ : ∃ z, z = s := ⟨_, rfl⟩
    subst e
    show CWF _ _ _ 39 [(4, cR p3), (3, cR p2), (0, cR a0)] [cI v5] _
    refine cw_invV (d2 := md_X1_requireState) (c := 0) (q := 0) (as := [cI v5]) (mc := 1) (ms := 6) rfl rfl (okS (n := 1) rfl dX1_scratch_39 (lw_S q772 q773 q111 q774) hm_X1_requireState (by decide) (by decide) (Nat.le_of_ble_eq_true rfl)) (m_X1_requireState v5) rfl ?_
    refine cw_aload dX1_scratch_42 0 rfl ?_
    refine cw_iconst (v := 1) dX1_scratch_44 (by decide) ?_
    refine cw_putZ (ci := 7) (j := 5) (C := RX8) (T := TX8) (N := 10) rfl (by decide) rfl rfl (Or.inr ⟨_, q1263⟩) fSame_rfl (Or.inl rfl) dX1_scratch_45 ?_
    refine cw_aload dX1_scratch_48 0 rfl ?_
    refine cw_iconst (v := -1) dX1_scratch_50 (by decide) ?_
    refine cw_putI (ci := 7) (j := 6) (C := RX8) (T := TX8) (N := 10) rfl (by decide) rfl rfl (Or.inr ⟨_, q1265⟩) fSame_rfl (Or.inl rfl) dX1_scratch_51 ?_
    refine cw_aload_n dX1_scratch_54 rfl 1 rfl ?_
    refine cw_getP (ci := 5) (j := 18) (C := RX6) (T := TX6) (N := 19) rfl (by decide) rfl rfl (Or.inr ⟨_, q1119⟩) fSame_rfl dX1_scratch_55 (fun p6 => ?_)
    refine cw_getP (ci := 6) (j := 2) (C := RX7) (T := TX7) (N := 5) rfl (by decide) rfl rfl (Or.inr ⟨_, q1068⟩) fSame_rfl dX1_scratch_58 (fun p7 => ?_)
    refine cw_aload dX1_scratch_61 0 rfl ?_
    refine cw_invI (d2 := md_J2_remove) (c := 0) (q := 0) (as := [cR p7, cR p3]) (mc := 0) (ms := 0) rfl rfl (okF (x := ⟨"java/util/List", "remove", "(Ljava/lang/Object;)Z"⟩) (ci := 14) (C := RJ2) (T0 := TJ2) (N := 3) (n := 1) rfl (Or.inr ⟨rfl, rfl⟩) rfl dX1_scratch_63 (lw_F q1304 q460 q458 q114 q462) (List.mem_iff_getElem?.mpr ⟨7, rfl⟩) (show ("java/util/List" : String) ≠ _ ∧ ("java/util/List" : String) ≠ _ ∧ (parseMethodDescriptor (md_J2_remove).y.desc).map (fun d => d.parameters.length) = some 1 from ⟨by decide, by decide, (hm_J2_remove).2.2⟩) (by decide) (by decide) (Nat.le_of_ble_eq_true rfl)) (c_removeO p7 p3) rfl (fun x8 => ?_)
    refine cw_istore (ls' := [(5, cI x8), (4, cR p3), (3, cR p2), (0, cR a0)]) dX1_scratch_68 (by decide) rfl ?_
    refine cw_aload_n dX1_scratch_70 rfl 3 rfl ?_
    refine cw_dup dX1_scratch_71 rfl ?_
    refine cw_getI (ci := 0) (j := 10) (C := RX1) (T := TX1) (N := 11) rfl (by decide) rfl rfl (Or.inl q216) fSame_rfl dX1_scratch_72 (fun x9 => ?_)
    refine cw_aload_n dX1_scratch_75 rfl 2 rfl ?_
    refine cw_getI (ci := 5) (j := 12) (C := RX6) (T := TX6) (N := 19) rfl (by decide) rfl rfl (Or.inr ⟨_, q1109⟩) fSame_rfl dX1_scratch_76 (fun x10 => ?_)
    refine cw_iconst (v := 2) dX1_scratch_79 (by decide) ?_
    refine cw_idiv dX1_scratch_80 (fun x11 => ?_)
    refine cw_isub dX1_scratch_81 ?_
    refine cw_putI (ci := 0) (j := 10) (C := RX1) (T := TX1) (N := 11) rfl (by decide) rfl rfl (Or.inl q216) fSame_rfl (Or.inl rfl) dX1_scratch_82 ?_
    refine cw_aload_n dX1_scratch_85 rfl 3 rfl ?_
    refine cw_getI (ci := 0) (j := 10) (C := RX1) (T := TX1) (N := 11) rfl (by decide) rfl rfl (Or.inl q216) fSame_rfl dX1_scratch_86 (fun x12 => ?_)
    exact cw_iret rfl dX1_scratch_89
  · refine cw_jn (cj := 1) (kj := 6) (pcj := 38) (lsf := fun (s : Unit) => [(4, cR p3), (3, cR p2), (0, cR a0)]) (stf := fun (s : Unit) => []) (fun s => ?_) (fun J14 hJ14 => ?_)
    · show CWF _ _ _ 38 [(4, cR p3), (3, cR p2), (0, cR a0)] [] _
      refine cw_iconst (v := 0) dX1_scratch_38 (by decide) ?_
      exact hJ13 0
    · refine cw_if_ne (tgt := 38) dX1_scratch_23 (by decide) ?_ ?_
      · refine cw_sub (ls' := [(4, cR p3), (3, cR p2), (0, cR a0)]) [0, 1, 2] rfl ?_
        exact hJ14 ()
      · refine cw_aload dX1_scratch_26 0 rfl ?_
        refine cw_getI (ci := 7) (j := 5) (C := RX8) (T := TX8) (N := 10) rfl (by decide) rfl rfl (Or.inr ⟨_, q1263⟩) fSame_rfl dX1_scratch_28 (fun x15 => ?_)
        refine cw_if_ne (tgt := 38) dX1_scratch_31 (by decide) ?_ ?_
        · refine cw_sub (ls' := [(4, cR p3), (3, cR p2), (0, cR a0)]) [0, 1, 2] rfl ?_
          exact hJ14 ()
        · refine cw_iconst (v := 1) dX1_scratch_34 (by decide) ?_
          refine cw_goto (tgt := 39) dX1_scratch_35 (by decide) ?_
          refine cw_sub (ls' := [(4, cR p3), (3, cR p2), (0, cR a0)]) [0, 1, 2] rfl ?_
          exact hJ13 1
def g_X9_init (a0 : Nat) (a1 : Nat) (a2 : Nat) : GF :=
  invV (some (a0, 28)) (g_J17_init a0) <|
  putP 28 a0 0 a1 <|
  putP 28 a0 1 a2 <|
  retG rV
abbrev md_X9_init : MD := (yX9_init, cX9_init, 3, none, RX9, 11, 0, 0)
theorem hm_X9_init : (md_X9_init).y.cls ≠ "java/lang/invoke/MethodHandle" ∧ (md_X9_init).y.cls ≠ "java/lang/invoke/VarHandle" ∧ (parseMethodDescriptor (md_X9_init).y.desc).map (fun d => d.parameters.length) = some 2 := by decide +kernel
theorem m_X9_init (a0 : Nat) (a1 : Nat) (a2 : Nat) : CMF md_X9_init [cR a0, cR a1, cR a2] (g_X9_init a0 a1 a2) := by
  refine cm_of (by decide +kernel) rfl (Nat.le_of_ble_eq_true rfl) ?_
  show CWF _ 0 0 0 [(0, cR a0), (1, cR a1), (2, cR a2)] [] _
  unfold g_X9_init
  refine cw_aload_n dX9_init_0 rfl 0 rfl ?_
  refine cw_invV (d2 := md_J17_init) (c := 0) (q := 0) (as := [cR a0]) (mc := 0) (ms := 0) rfl rfl (okI (n := 0) rfl rfl dX9_init_1 (lw_meth q927) q132 q1317 q926 rfl hm_J17_init (by decide) (by decide) (Nat.le_of_ble_eq_true rfl) (by decide)) (m_J17_init a0) rfl ?_
  refine cw_aload_n dX9_init_4 rfl 0 rfl ?_
  refine cw_aload_n dX9_init_5 rfl 1 rfl ?_
  refine cw_putP (ci := 8) (j := 0) (C := RX9) (T := TX9) (N := 2) rfl (by decide) rfl rfl (Or.inl q1318) fSame_rfl (Or.inr ⟨rfl, rfl, rfl⟩) dX9_init_6 ?_
  refine cw_aload_n dX9_init_9 rfl 0 rfl ?_
  refine cw_aload_n dX9_init_10 rfl 2 rfl ?_
  refine cw_putP (ci := 8) (j := 1) (C := RX9) (T := TX9) (N := 2) rfl (by decide) rfl rfl (Or.inl q1319) fSame_rfl (Or.inr ⟨rfl, rfl, rfl⟩) dX9_init_11 ?_
  exact cw_vret rfl dX9_init_14
def g_X1_up (a0 : Int32) (a1 : Int32) : GF :=
  idivG ((a0 + a1) - 1) a1 fun x1 =>
  retG (rI x1)
abbrev md_X1_up : MD := (yX1_up, cX1_up, 2, (some (Jvm.ClassFile.FieldType.int)), RX1, 10, 0, 0)
theorem hm_X1_up : (md_X1_up).y.cls ≠ "java/lang/invoke/MethodHandle" ∧ (md_X1_up).y.cls ≠ "java/lang/invoke/VarHandle" ∧ (parseMethodDescriptor (md_X1_up).y.desc).map (fun d => d.parameters.length) = some 2 := by decide +kernel
theorem m_X1_up (a0 : Int32) (a1 : Int32) : CMF md_X1_up [cI a0, cI a1] (g_X1_up a0 a1) := by
  refine cm_of (by decide +kernel) rfl (Nat.le_of_ble_eq_true rfl) ?_
  show CWF _ 0 0 0 [(0, cI a0), (1, cI a1)] [] _
  unfold g_X1_up
  refine cw_iload_n dX1_up_0 rfl 0 rfl ?_
  refine cw_iload_n dX1_up_1 rfl 1 rfl ?_
  refine cw_iadd dX1_up_2 ?_
  refine cw_iconst (v := 1) dX1_up_3 (by decide) ?_
  refine cw_isub dX1_up_4 ?_
  refine cw_iload_n dX1_up_5 rfl 1 rfl ?_
  refine cw_idiv dX1_up_6 (fun x1 => ?_)
  exact cw_iret rfl dX1_up_7
