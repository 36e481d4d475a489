/-! SCRUTINEERY: its methods, part 4 -/
set_option maxRecDepth 100000
def b_X1_alike_47 (p5 : Nat) (l7 : Int32) (rec8 : (Int32 × Int32) → GF) (rec12 : (Int32 × Int32) → GF) : (Int32 × Int32) → GF := fun (s : Int32 × Int32) => match s with
  | (l10, l11) =>
    if l11 < l7 then
      invP (some (p5, 8)) (s_get p5 l11) fun p13 =>
      castG 27 p13 <|
      invP (some (p5, 8)) (s_get p5 l7) fun p14 =>
      castG 27 p14 <|
      invI none (g_X1_areAlike p13 p14) fun x15 =>
      jnG (fun (v16 : Int32) =>
        rec12 ((l10 + v16), (l11 + 1))) fun J17 =>
      if x15 = 0 then
        J17 0
      else
        J17 1
    else
      rec8 (l10, (l7 + 1))
def b_X1_alike_33 (p5 : Nat) (rec8 : (Int32 × Int32) → GF) : (Int32 × Int32) → GF := fun (s : Int32 × Int32) => match s with
  | (l6, l7) =>
    invI (some (p5, 8)) (s_size p5) fun x9 =>
    if l7 < x9 then
      loopG (b_X1_alike_47 p5 l7 rec8) 26 (l6, 0)
    else
      retG (rI l6)
def g_X1_alike (a0 : Nat) (a1 : Int32) : GF :=
  getP 20 a0 3 fun p1 =>
  invP none (g_X1_at p1 a1) fun p2 =>
  castG 25 p2 <|
  getI 25 p2 16 fun x3 =>
  invV none (g_X1_requireState x3) <|
  getP 25 p2 18 fun p4 =>
  getP 26 p4 2 fun p5 =>
  loopG (b_X1_alike_33 p5) 26 (0, 0)
abbrev md_X1_alike : MD := (yX1_alike, cX1_alike, 7, (some (Jvm.ClassFile.FieldType.int)), RX1, 19, 24676706, 1523557996)
theorem hm_X1_alike : (md_X1_alike).y.cls ≠ "java/lang/invoke/MethodHandle" ∧ (md_X1_alike).y.cls ≠ "java/lang/invoke/VarHandle" ∧ (parseMethodDescriptor (md_X1_alike).y.desc).map (fun d => d.parameters.length) = some 1 := by decide +kernel
theorem m_X1_alike (a0 : Nat) (a1 : Int32) : CMF md_X1_alike [cR a0, cI a1] (g_X1_alike a0 a1) := by
  refine cm_of (by decide +kernel) rfl (Nat.le_of_ble_eq_true rfl) ?_
  show CWF _ 24676706 1523557996 0 [(0, cR a0), (1, cI a1)] [] _
  unfold g_X1_alike
  refine cw_aload_n dX1_alike_0 rfl 0 rfl ?_
  refine cw_getP (ci := 0) (j := 3) (C := RX1) (T := TX1) (N := 11) rfl (by decide) rfl rfl (Or.inl q209) fSame_rfl dX1_alike_1 (fun p1 => ?_)
  refine cw_iload_n dX1_alike_4 rfl 1 rfl ?_
  refine cw_invP (d2 := md_X1_at) (c := 24676705) (q := 1523557990) (as := [cR p1, cI a1]) (mc := 1) (ms := 6) rfl rfl (okS (n := 2) rfl dX1_alike_5 (lw_S q883 q884 q111 q885) hm_X1_at (by decide) (by decide) (Nat.le_of_ble_eq_true rfl)) (m_X1_at p1 a1) rfl (fun p2 => ?_)
  refine cw_cast (ci := 5) (T := TX6) (N := 19) (C := RX6) rfl rfl q524 (Or.inl rfl) dX1_alike_8 ?_
  refine cw_astore_n (ls' := [(2, cR p2), (0, cR a0), (1, cI a1)]) dX1_alike_11 rfl (by decide) rfl ?_
  refine cw_aload_n dX1_alike_12 rfl 0 rfl ?_
  refine cw_getI (ci := 5) (j := 16) (C := RX6) (T := TX6) (N := 19) rfl (by decide) rfl rfl (Or.inr ⟨_, q1116⟩) fSame_rfl dX1_alike_13 (fun x3 => ?_)
  refine cw_invV (d2 := md_X1_requireState) (c := 24676704) (q := 1523557984) (as := [cI x3]) (mc := 1) (ms := 6) rfl rfl (okS (n := 1) rfl dX1_alike_16 (lw_S q772 q773 q111 q774) hm_X1_requireState (by decide) (by decide) (Nat.le_of_ble_eq_true rfl)) (m_X1_requireState x3) rfl ?_
  refine cw_aload_n dX1_alike_19 rfl 0 rfl ?_
  refine cw_getP (ci := 5) (j := 18) (C := RX6) (T := TX6) (N := 19) rfl (by decide) rfl rfl (Or.inr ⟨_, q1119⟩) fSame_rfl dX1_alike_20 (fun p4 => ?_)
  refine cw_getP (ci := 6) (j := 2) (C := RX7) (T := TX7) (N := 5) rfl (by decide) rfl rfl (Or.inr ⟨_, q1068⟩) fSame_rfl dX1_alike_23 (fun p5 => ?_)
  refine cw_astore_n (ls' := [(3, cR p5), (2, cR p2), (0, cR a0), (1, cI a1)]) dX1_alike_26 rfl (by decide) rfl ?_
  refine cw_iconst (v := 0) dX1_alike_27 (by decide) ?_
  refine cw_istore (ls' := [(4, cI 0), (3, cR p5), (2, cR p2), (0, cR a0), (1, cI a1)]) dX1_alike_28 (by decide) rfl ?_
  refine cw_iconst (v := 0) dX1_alike_30 (by decide) ?_
  refine cw_istore (ls' := [(5, cI 0), (4, cI 0), (3, cR p5), (2, cR p2), (0, cR a0), (1, cI a1)]) dX1_alike_31 (by decide) rfl ?_
  refine cw_sub (ls' := [(3, cR p5), (4, cI 0), (5, cI 0)]) [2, 1, 0] rfl ?_
  refine cw_weak (c' := 0 + 26 * 949104) (q' := 0 + 26 * 58598384) (by omega) (by omega) ?_
  refine cw_loop (ce := 0) (ke := 0) (cb := 949104) (kb := 58598384) (lsf := fun (s : Int32 × Int32) => [(3, cR p5), (4, cI s.1), (5, cI s.2)]) (fun Crec8 Krec8 rec8 hCrec8 hKrec8 hrec8 s => ?_) 26 (0, 0)
  obtain ⟨l6, l7⟩ := s
  show CWF _ _ _ 33 [(3, cR p5), (4, cI l6), (5, cI l7)] [] _
  dsimp only [b_X1_alike_33]
  refine cw_iload dX1_alike_33 2 rfl ?_
  refine cw_aload_n dX1_alike_35 rfl 0 rfl ?_
  refine cw_invI (d2 := md_J2_size) (c := Crec8 + 949104) (q := Krec8 + 58598384) (as := [cR p5]) (mc := 0) (ms := 0) rfl rfl (okF (x := ⟨"java/util/List", "size", "()I"⟩) (ci := 14) (C := RJ2) (T0 := TJ2) (N := 3) (n := 0) rfl (Or.inr ⟨rfl, rfl⟩) rfl dX1_alike_36 (lw_F q246 q251 q249 q114 q253) (List.mem_iff_getElem?.mpr ⟨1, rfl⟩) (show ("java/util/List" : String) ≠ _ ∧ ("java/util/List" : String) ≠ _ ∧ (parseMethodDescriptor (md_J2_size).y.desc).map (fun d => d.parameters.length) = some 0 from ⟨by decide, by decide, (hm_J2_size).2.2⟩) (by decide) (by decide) (Nat.le_of_ble_eq_true rfl)) (c_size p5) rfl (fun x9 => ?_)
  refine cw_icmp_ge (tgt := 104) dX1_alike_41 (by decide) ?_ ?_
  · refine cw_weak (c' := Crec8 + 0) (q' := Krec8 + 0) (by omega) (by omega) ?_
    refine cw_iload dX1_alike_104 1 rfl ?_
    exact cw_iret rfl dX1_alike_106
  · refine cw_iconst (v := 0) dX1_alike_44 (by decide) ?_
    refine cw_istore (ls' := [(6, cI 0), (3, cR p5), (4, cI l6), (5, cI l7)]) dX1_alike_45 (by decide) rfl ?_
    refine cw_sub (ls' := [(3, cR p5), (5, cI l7), (4, cI l6), (6, cI 0)]) [1, 3, 2, 0] rfl ?_
    refine cw_weak (c' := Crec8 + 0 + 26 * 36504) (q' := Krec8 + 0 + 26 * 2253784) (by omega) (by omega) ?_
    refine cw_loop (ce := Crec8 + 0) (ke := Krec8 + 0) (cb := 36504) (kb := 2253784) (lsf := fun (s : Int32 × Int32) => [(3, cR p5), (5, cI l7), (4, cI s.1), (6, cI s.2)]) (fun Crec12 Krec12 rec12 hCrec12 hKrec12 hrec12 s => ?_) 26 (l6, 0)
    obtain ⟨l10, l11⟩ := s
    show CWF _ _ _ 47 [(3, cR p5), (5, cI l7), (4, cI l10), (6, cI l11)] [] _
    dsimp only [b_X1_alike_47]
    refine cw_iload dX1_alike_47 3 rfl ?_
    refine cw_iload dX1_alike_49 1 rfl ?_
    refine cw_icmp_ge (tgt := 98) dX1_alike_51 (by decide) ?_ ?_
    · refine cw_weak (c' := Crec12 + 0) (q' := Krec12 + 0) (by omega) (by omega) ?_
      refine cw_iinc (v := (l7 + 1)) (ls' := [(5, cI (l7 + 1)), (3, cR p5), (4, cI l10), (6, cI l11)]) dX1_alike_98 1 rfl rfl (by decide) rfl ?_
      refine cw_goto (tgt := 33) dX1_alike_101 (by decide) ?_
      refine cw_weak (c' := Crec8 + 0) (q' := Krec8 + 0) (by omega) (by omega) ?_
      refine cw_sub (ls' := [(3, cR p5), (4, cI l10), (5, cI (l7 + 1))]) [1, 2, 0] rfl ?_
      exact hrec8 (l10, (l7 + 1))
    · refine cw_iload dX1_alike_54 2 rfl ?_
      refine cw_aload_n dX1_alike_56 rfl 0 rfl ?_
      refine cw_iload dX1_alike_57 3 rfl ?_
      refine cw_invP (d2 := md_J2_get) (c := Crec12 + 36504) (q := Krec12 + 2253784) (as := [cR p5, cI l11]) (mc := 0) (ms := 0) rfl rfl (okF (x := ⟨"java/util/List", "get", "(I)Ljava/lang/Object;"⟩) (ci := 14) (C := RJ2) (T0 := TJ2) (N := 3) (n := 1) rfl (Or.inr ⟨rfl, rfl⟩) rfl dX1_alike_59 (lw_F q262 q267 q265 q114 q269) (List.mem_iff_getElem?.mpr ⟨2, rfl⟩) (show ("java/util/List" : String) ≠ _ ∧ ("java/util/List" : String) ≠ _ ∧ (parseMethodDescriptor (md_J2_get).y.desc).map (fun d => d.parameters.length) = some 1 from ⟨by decide, by decide, (hm_J2_get).2.2⟩) (by decide) (by decide) (Nat.le_of_ble_eq_true rfl)) (c_get p5 l11) rfl (fun p13 => ?_)
      refine cw_cast (ci := 7) (T := TX8) (N := 10) (C := RX8) rfl rfl q525 (Or.inl rfl) dX1_alike_64 ?_
      refine cw_aload_n dX1_alike_67 rfl 0 rfl ?_
      refine cw_iload dX1_alike_68 1 rfl ?_
      refine cw_invP (d2 := md_J2_get) (c := Crec12 + 36504) (q := Krec12 + 2253784) (as := [cR p5, cI l7]) (mc := 0) (ms := 0) rfl rfl (okF (x := ⟨"java/util/List", "get", "(I)Ljava/lang/Object;"⟩) (ci := 14) (C := RJ2) (T0 := TJ2) (N := 3) (n := 1) rfl (Or.inr ⟨rfl, rfl⟩) rfl dX1_alike_70 (lw_F q262 q267 q265 q114 q269) (List.mem_iff_getElem?.mpr ⟨2, rfl⟩) (show ("java/util/List" : String) ≠ _ ∧ ("java/util/List" : String) ≠ _ ∧ (parseMethodDescriptor (md_J2_get).y.desc).map (fun d => d.parameters.length) = some 1 from ⟨by decide, by decide, (hm_J2_get).2.2⟩) (by decide) (by decide) (Nat.le_of_ble_eq_true rfl)) (c_get p5 l7) rfl (fun p14 => ?_)
      refine cw_cast (ci := 7) (T := TX8) (N := 10) (C := RX8) rfl rfl q525 (Or.inl rfl) dX1_alike_75 ?_
      refine cw_invI (d2 := md_X1_areAlike) (c := Crec12 + 0) (q := Krec12 + 0) (as := [cR p13, cR p14]) (mc := 36504) (ms := 2253784) rfl rfl (okS (n := 2) rfl dX1_alike_78 (lw_S q2075 q2076 q111 q2077) hm_X1_areAlike (by decide) (by decide) (Nat.le_of_ble_eq_true rfl)) (m_X1_areAlike p13 p14) rfl (fun x15 => ?_)
      refine cw_jn (cj := Crec12 + 0) (kj := Krec12 + 0) (pcj := 89) (lsf := fun (s : Int32) => [(3, cR p5), (5, cI l7), (6, cI l11)]) (stf := fun (s : Int32) => [cI s, cI l10]) (fun s => ?_) (fun J17 hJ17 => ?_)
      · obtain ⟨v16, e⟩ : ∃ z, z = s := ⟨_, rfl⟩
        subst e
        show CWF _ _ _ 89 [(3, cR p5), (5, cI l7), (6, cI l11)] [cI v16, cI l10] _
        refine cw_iadd dX1_alike_89 ?_
        refine cw_istore (ls' := [(4, cI (l10 + v16)), (3, cR p5), (5, cI l7), (6, cI l11)]) dX1_alike_90 (by decide) rfl ?_
        refine cw_iinc (v := (l11 + 1)) (ls' := [(6, cI (l11 + 1)), (4, cI (l10 + v16)), (3, cR p5), (5, cI l7)]) dX1_alike_92 3 rfl rfl (by decide) rfl ?_
        refine cw_goto (tgt := 47) dX1_alike_95 (by decide) ?_
        refine cw_sub (ls' := [(3, cR p5), (5, cI l7), (4, cI (l10 + v16)), (6, cI (l11 + 1))]) [2, 3, 1, 0] rfl ?_
        exact hrec12 ((l10 + v16), (l11 + 1))
      · refine cw_if_eq (tgt := 88) dX1_alike_81 (by decide) ?_ ?_
        · refine cw_iconst (v := 0) dX1_alike_88 (by decide) ?_
          refine cw_sub (ls' := [(3, cR p5), (5, cI l7), (6, cI l11)]) [0, 1, 3] rfl ?_
          exact hJ17 0
        · refine cw_iconst (v := 1) dX1_alike_84 (by decide) ?_
          refine cw_goto (tgt := 89) dX1_alike_85 (by decide) ?_
          refine cw_sub (ls' := [(3, cR p5), (5, cI l7), (6, cI l11)]) [0, 1, 3] rfl ?_
          exact hJ17 1
def b_X1_biasIn_51 (a0 : Nat) (a2 : Nat) (l2 : Int32) (rec3 : (Int32 × Int32) → GF) (x6 : Int32) (p8 : Nat) (m9 : Int32) (rec12 : (Int32 × Nat) → GF) : (Int32 × Nat) → GF := fun (s : Int32 × Nat) => match s with
  | (l10, l11) =>
    hasG p8 l11 fun x13 =>
    if x13 = 0 then
      rec3 (l10, (l2 + 1))
    else
      nextG p8 m9 l11 fun p14 =>
      castG 27 p14 <|
      getP 27 p14 1 fun p15 =>
      invI (some (p15, 24)) (g_X5_has p15 a2) fun x16 =>
      jnG (fun (v17 : Int32) =>
        rec12 ((l10 + v17), (l11 + 1))) fun J18 =>
      if x16 = 0 then
        J18 0
      else
        getP 25 a0 18 fun p19 =>
        invI (some (p19, 26)) (g_X7_place p19 l2 x6 p14) fun x20 =>
        getP 27 p14 3 fun p21 =>
        ialdG 1 p21 l2 fun x22 =>
        J18 ((2 * x20) - x22)
def b_X1_biasIn_5 (a0 : Nat) (a1 : Nat) (a2 : Nat) (rec3 : (Int32 × Int32) → GF) : (Int32 × Int32) → GF := fun (s : Int32 × Int32) => match s with
  | (l1, l2) =>
    getI 25 a0 2 fun x4 =>
    if l2 < x4 then
      invP (some (a0, 25)) (g_X6_panel a0 l2) fun p5 =>
      invI (some (p5, 8)) (s_indexOf p5 a1) fun x6 =>
      if x6 = (-1 : Int32) then
        rec3 (l1, (l2 + 1))
      else
        getP 25 a0 18 fun p7 =>
        getP 26 p7 2 fun p8 =>
        itG p8 fun m9 =>
        loopG (b_X1_biasIn_51 a0 a2 l2 rec3 x6 p8 m9) FU (l1, 0)
    else
      retG (rI l1)
def g_X1_biasIn (a0 : Nat) (a1 : Nat) (a2 : Nat) : GF :=
  loopG (b_X1_biasIn_5 a0 a1 a2) 26 (0, 0)
abbrev md_X1_biasIn : MD := (yX1_biasIn, cX1_biasIn, 8, (some (Jvm.ClassFile.FieldType.int)), RX1, 16, 26, 104)
theorem hm_X1_biasIn : (md_X1_biasIn).y.cls ≠ "java/lang/invoke/MethodHandle" ∧ (md_X1_biasIn).y.cls ≠ "java/lang/invoke/VarHandle" ∧ (parseMethodDescriptor (md_X1_biasIn).y.desc).map (fun d => d.parameters.length) = some 3 := by decide +kernel
theorem m_X1_biasIn (a0 : Nat) (a1 : Nat) (a2 : Nat) : CMF md_X1_biasIn [cR a0, cR a1, cR a2] (g_X1_biasIn a0 a1 a2) := by
  refine cm_of (by decide +kernel) rfl (Nat.le_of_ble_eq_true rfl) ?_
  show CWF _ 26 104 0 [(0, cR a0), (1, cR a1), (2, cR a2)] [] _
  unfold g_X1_biasIn
  refine cw_iconst (v := 0) dX1_biasIn_0 (by decide) ?_
  refine cw_istore_n (ls' := [(3, cI 0), (0, cR a0), (1, cR a1), (2, cR a2)]) dX1_biasIn_1 rfl (by decide) rfl ?_
  refine cw_iconst (v := 0) dX1_biasIn_2 (by decide) ?_
  refine cw_istore (ls' := [(4, cI 0), (3, cI 0), (0, cR a0), (1, cR a1), (2, cR a2)]) dX1_biasIn_3 (by decide) rfl ?_
  refine cw_sub (ls' := [(0, cR a0), (1, cR a1), (2, cR a2), (3, cI 0), (4, cI 0)]) [2, 3, 4, 1, 0] rfl ?_
  refine cw_weak (c' := 0 + 26 * 1) (q' := 0 + 26 * 4) (by omega) (by omega) ?_
  refine cw_loop (ce := 0) (ke := 0) (cb := 1) (kb := 4) (lsf := fun (s : Int32 × Int32) => [(0, cR a0), (1, cR a1), (2, cR a2), (3, cI s.1), (4, cI s.2)]) (fun Crec3 Krec3 rec3 hCrec3 hKrec3 hrec3 s => ?_) 26 (0, 0)
  obtain ⟨l1, l2⟩ := s
  show CWF _ _ _ 5 [(0, cR a0), (1, cR a1), (2, cR a2), (3, cI l1), (4, cI l2)] [] _
  dsimp only [b_X1_biasIn_5]
  refine cw_iload dX1_biasIn_5 4 rfl ?_
  refine cw_aload_n dX1_biasIn_7 rfl 0 rfl ?_
  refine cw_getI (ci := 5) (j := 2) (C := RX6) (T := TX6) (N := 19) rfl (by decide) rfl rfl (Or.inr ⟨_, q1090⟩) fSame_rfl dX1_biasIn_8 (fun x4 => ?_)
  refine cw_icmp_ge (tgt := 125) dX1_biasIn_11 (by decide) ?_ ?_
  · refine cw_weak (c' := Crec3 + 0) (q' := Krec3 + 0) (by omega) (by omega) ?_
    refine cw_iload_n dX1_biasIn_125 rfl 3 rfl ?_
    exact cw_iret rfl dX1_biasIn_126
  · refine cw_aload_n dX1_biasIn_14 rfl 0 rfl ?_
    refine cw_iload dX1_biasIn_15 4 rfl ?_
    refine cw_invP (d2 := md_X6_panel) (c := Crec3 + 1) (q := Krec3 + 4) (as := [cR a0, cI l2]) (mc := 0) (ms := 0) rfl rfl (okV (ci := 5) (C := RX6) (T0 := TX6) (N := 19) (n := 1) rfl rfl rfl dX1_biasIn_17 (lw_V q1375 q555 q556 q137 q557) ⟨rfl, hm_X6_panel⟩ (by decide) (by decide) (Nat.le_of_ble_eq_true rfl)) (m_X6_panel a0 l2) rfl (fun p5 => ?_)
    refine cw_aload_n dX1_biasIn_20 rfl 1 rfl ?_
    refine cw_invI (d2 := md_J2_indexOf) (c := Crec3 + 1) (q := Krec3 + 4) (as := [cR p5, cR a1]) (mc := 0) (ms := 0) rfl rfl (okF (x := ⟨"java/util/List", "indexOf", "(Ljava/lang/Object;)I"⟩) (ci := 14) (C := RJ2) (T0 := TJ2) (N := 3) (n := 1) rfl (Or.inr ⟨rfl, rfl⟩) rfl dX1_biasIn_21 (lw_F q2089 q570 q568 q114 q572) (List.mem_iff_getElem?.mpr ⟨8, rfl⟩) (show ("java/util/List" : String) ≠ _ ∧ ("java/util/List" : String) ≠ _ ∧ (parseMethodDescriptor (md_J2_indexOf).y.desc).map (fun d => d.parameters.length) = some 1 from ⟨by decide, by decide, (hm_J2_indexOf).2.2⟩) (by decide) (by decide) (Nat.le_of_ble_eq_true rfl)) (c_indexOf p5 a1) rfl (fun x6 => ?_)
    refine cw_istore (ls' := [(5, cI x6), (0, cR a0), (1, cR a1), (2, cR a2), (3, cI l1), (4, cI l2)]) dX1_biasIn_26 (by decide) rfl ?_
    refine cw_iload dX1_biasIn_28 0 rfl ?_
    refine cw_iconst (v := -1) dX1_biasIn_30 (by decide) ?_
    refine cw_icmp_ne (tgt := 37) dX1_biasIn_31 (by decide) ?_ ?_
    · refine cw_aload_n dX1_biasIn_37 rfl 1 rfl ?_
      refine cw_getP (ci := 5) (j := 18) (C := RX6) (T := TX6) (N := 19) rfl (by decide) rfl rfl (Or.inr ⟨_, q1119⟩) fSame_rfl dX1_biasIn_38 (fun p7 => ?_)
      refine cw_getP (ci := 6) (j := 2) (C := RX7) (T := TX7) (N := 5) rfl (by decide) rfl rfl (Or.inr ⟨_, q1068⟩) fSame_rfl dX1_biasIn_41 (fun p8 => ?_)
      refine cw_iter (c := Crec3 + 0) (q := Krec3 + 0) (la := 2) (ls' := [(5, cI x6), (0, cR a0), (1, cR a1), (2, cR a2), (3, cI l1), (4, cI l2)]) rfl (Or.inr ⟨dX1_biasIn_49, rfl⟩) (by decide) (okF (x := ⟨"java/util/List", "iterator", "()Ljava/util/Iterator;"⟩) (ci := 14) (C := RJ2) (T0 := TJ2) (N := 3) (n := 0) rfl (Or.inr ⟨rfl, rfl⟩) rfl dX1_biasIn_44 (lw_F q290 q295 q293 q114 q297) (List.mem_iff_getElem?.mpr ⟨3, rfl⟩) (show ("java/util/List" : String) ≠ _ ∧ ("java/util/List" : String) ≠ _ ∧ (parseMethodDescriptor (md_J2_iterator).y.desc).map (fun d => d.parameters.length) = some 0 from ⟨by decide, by decide, (hm_J2_iterator).2.2⟩) (by decide) (by decide) (Nat.le_of_ble_eq_true rfl)) (fun m9 => ?_)
      refine cw_sub (ls' := [(5, cI x6), (0, cR a0), (1, cR a1), (2, cR a2), (4, cI l2), (3, cI l1), (6, cT p8 m9 0)]) [1, 2, 3, 4, 6, 5, 0] rfl ?_
      refine cw_loop0 (lsf := fun (s : Int32 × Nat) => [(5, cI x6), (0, cR a0), (1, cR a1), (2, cR a2), (4, cI l2), (3, cI s.1), (6, cT p8 m9 s.2)]) (fun rec12 hrec12 s => ?_) FU (l1, 0)
      obtain ⟨l10, l11⟩ := s
      show CWF _ _ _ 51 [(5, cI x6), (0, cR a0), (1, cR a1), (2, cR a2), (4, cI l2), (3, cI l10), (6, cT p8 m9 l11)] [] _
      dsimp only [b_X1_biasIn_51]
      refine cw_sub (ls' := [(6, cT p8 m9 l11), (5, cI x6), (0, cR a0), (1, cR a1), (2, cR a2), (4, cI l2), (3, cI l10)]) [6, 0, 1, 2, 3, 4, 5] rfl ?_
      refine cw_hasNext (la := 2) rfl (Or.inr ⟨dX1_biasIn_51, rfl⟩) (fun x => okF (x := ⟨"java/util/Iterator", "hasNext", "()Z"⟩) (ci := 15) (C := RJ18) (T0 := TJ18) (N := 4) (n := 0) rfl (Or.inl rfl) rfl dX1_biasIn_53 (lw_F q318 q339 q337 q134 q341) (List.mem_iff_getElem?.mpr ⟨4, rfl⟩) (show ("java/util/Iterator" : String) ≠ _ ∧ ("java/util/Iterator" : String) ≠ _ ∧ (parseMethodDescriptor (md_J18_hasNext).y.desc).map (fun d => d.parameters.length) = some 0 from ⟨by decide, by decide, (hm_J18_hasNext).2.2⟩) (by decide) (by decide) (Nat.le_of_ble_eq_true rfl)) (fun x13 => ?_)
      refine cw_if_eq (tgt := 119) dX1_biasIn_58 (by decide) ?_ ?_
      · refine cw_iinc (v := (l2 + 1)) (ls' := [(4, cI (l2 + 1)), (6, cT p8 m9 l11), (5, cI x6), (0, cR a0), (1, cR a1), (2, cR a2), (3, cI l10)]) dX1_biasIn_119 5 rfl rfl (by decide) rfl ?_
        refine cw_goto (tgt := 5) dX1_biasIn_122 (by decide) ?_
        refine cw_sub (ls' := [(0, cR a0), (1, cR a1), (2, cR a2), (3, cI l10), (4, cI (l2 + 1))]) [3, 4, 5, 6, 0] rfl ?_
        exact hrec3 (l10, (l2 + 1))
      · refine cw_next (la := 2) rfl (Or.inr ⟨dX1_biasIn_61, rfl⟩) (fun x => okF (x := ⟨"java/util/Iterator", "next", "()Ljava/lang/Object;"⟩) (ci := 15) (C := RJ18) (T0 := TJ18) (N := 4) (n := 0) rfl (Or.inl rfl) rfl dX1_biasIn_63 (lw_F q343 q432 q430 q134 q434) (List.mem_iff_getElem?.mpr ⟨6, rfl⟩) (show ("java/util/Iterator" : String) ≠ _ ∧ ("java/util/Iterator" : String) ≠ _ ∧ (parseMethodDescriptor (md_J18_next).y.desc).map (fun d => d.parameters.length) = some 0 from ⟨by decide, by decide, (hm_J18_next).2.2⟩) (by decide) (by decide) (Nat.le_of_ble_eq_true rfl)) (fun p14 => ?_)
        refine cw_cast (ci := 7) (T := TX8) (N := 10) (C := RX8) rfl rfl q525 (Or.inl rfl) dX1_biasIn_68 ?_
        refine cw_astore (ls' := [(7, cR p14), (6, cT p8 m9 (l11 + 1)), (5, cI x6), (0, cR a0), (1, cR a1), (2, cR a2), (4, cI l2), (3, cI l10)]) dX1_biasIn_71 (by decide) rfl ?_
        refine cw_iload_n dX1_biasIn_73 rfl 7 rfl ?_
        refine cw_aload dX1_biasIn_74 0 rfl ?_
        refine cw_getP (ci := 7) (j := 1) (C := RX8) (T := TX8) (N := 10) rfl (by decide) rfl rfl (Or.inr ⟨_, q1253⟩) fSame_rfl dX1_biasIn_76 (fun p15 => ?_)
        refine cw_aload_n dX1_biasIn_79 rfl 5 rfl ?_
        refine cw_invI (d2 := md_X5_has) (c := Crec3 + 0) (q := Krec3 + 0) (as := [cR p15, cR a2]) (mc := 0) (ms := 0) rfl rfl (okV (ci := 4) (C := RX5) (T0 := TX5) (N := 5) (n := 1) rfl rfl rfl dX1_biasIn_80 (lw_V q995 q996 q997 q136 q998) ⟨rfl, hm_X5_has⟩ (by decide) (by decide) (Nat.le_of_ble_eq_true rfl)) (m_X5_has p15 a2) rfl (fun x16 => ?_)
        refine cw_jn (cj := Crec3 + 0) (kj := Krec3 + 0) (pcj := 114) (lsf := fun (s : Int32) => [(6, cT p8 m9 (l11 + 1)), (5, cI x6), (0, cR a0), (1, cR a1), (2, cR a2), (4, cI l2)]) (stf := fun (s : Int32) => [cI s, cI l10]) (fun s => ?_) (fun J18 hJ18 => ?_)
        · obtain ⟨v17, e⟩ : ∃ z, z = s := ⟨_, rfl⟩
          subst e
          show CWF _ _ _ 114 [(6, cT p8 m9 (l11 + 1)), (5, cI x6), (0, cR a0), (1, cR a1), (2, cR a2), (4, cI l2)] [cI v17, cI l10] _
          refine cw_iadd dX1_biasIn_114 ?_
          refine cw_istore_n (ls' := [(3, cI (l10 + v17)), (6, cT p8 m9 (l11 + 1)), (5, cI x6), (0, cR a0), (1, cR a1), (2, cR a2), (4, cI l2)]) dX1_biasIn_115 rfl (by decide) rfl ?_
          refine cw_goto (tgt := 51) dX1_biasIn_116 (by decide) ?_
          refine cw_sub (ls' := [(5, cI x6), (0, cR a0), (1, cR a1), (2, cR a2), (4, cI l2), (3, cI (l10 + v17)), (6, cT p8 m9 (l11 + 1))]) [2, 3, 4, 5, 6, 0, 1] rfl ?_
          exact hrec12 ((l10 + v17), (l11 + 1))
        · refine cw_if_eq (tgt := 113) dX1_biasIn_83 (by decide) ?_ ?_
          · refine cw_iconst (v := 0) dX1_biasIn_113 (by decide) ?_
            refine cw_sub (ls' := [(6, cT p8 m9 (l11 + 1)), (5, cI x6), (0, cR a0), (1, cR a1), (2, cR a2), (4, cI l2)]) [1, 2, 3, 4, 5, 6] rfl ?_
            exact hJ18 0
          · refine cw_iconst (v := 2) dX1_biasIn_86 (by decide) ?_
            refine cw_aload_n dX1_biasIn_87 rfl 3 rfl ?_
            refine cw_getP (ci := 5) (j := 18) (C := RX6) (T := TX6) (N := 19) rfl (by decide) rfl rfl (Or.inr ⟨_, q1119⟩) fSame_rfl dX1_biasIn_88 (fun p19 => ?_)
            refine cw_iload dX1_biasIn_91 6 rfl ?_
            refine cw_iload dX1_biasIn_93 2 rfl ?_
            refine cw_aload dX1_biasIn_95 0 rfl ?_
            refine cw_invI (d2 := md_X7_place) (c := Crec3 + 0) (q := Krec3 + 0) (as := [cR p19, cI l2, cI x6, cR p14]) (mc := 0) (ms := 0) rfl rfl (okV (ci := 6) (C := RX7) (T0 := TX7) (N := 5) (n := 3) rfl rfl rfl dX1_biasIn_97 (lw_V q2090 q560 q561 q138 q562) ⟨rfl, hm_X7_place⟩ (by decide) (by decide) (Nat.le_of_ble_eq_true rfl)) (m_X7_place p19 l2 x6 p14) rfl (fun x20 => ?_)
            refine cw_imul dX1_biasIn_100 ?_
            refine cw_aload dX1_biasIn_101 0 rfl ?_
            refine cw_getP (ci := 7) (j := 3) (C := RX8) (T := TX8) (N := 10) rfl (by decide) rfl rfl (Or.inr ⟨_, q1258⟩) fSame_rfl dX1_biasIn_103 (fun p21 => ?_)
            refine cw_iload dX1_biasIn_106 6 rfl ?_
            refine cw_iald dX1_biasIn_108 (fun x22 => ?_)
            refine cw_isub dX1_biasIn_109 ?_
            refine cw_goto (tgt := 114) dX1_biasIn_110 (by decide) ?_
            refine cw_sub (ls' := [(6, cT p8 m9 (l11 + 1)), (5, cI x6), (0, cR a0), (1, cR a1), (2, cR a2), (4, cI l2)]) [1, 2, 3, 4, 5, 6] rfl ?_
            exact hJ18 ((2 * x20) - x22)
    · refine cw_weak (c' := Crec3 + 0) (q' := Krec3 + 0) (by omega) (by omega) ?_
      refine cw_goto (tgt := 119) dX1_biasIn_34 (by decide) ?_
      refine cw_iinc (v := (l2 + 1)) (ls' := [(4, cI (l2 + 1)), (5, cI x6), (0, cR a0), (1, cR a1), (2, cR a2), (3, cI l1)]) dX1_biasIn_119 5 rfl rfl (by decide) rfl ?_
      refine cw_goto (tgt := 5) dX1_biasIn_122 (by decide) ?_
      refine cw_sub (ls' := [(0, cR a0), (1, cR a1), (2, cR a2), (3, cI l1), (4, cI (l2 + 1))]) [2, 3, 4, 5, 0] rfl ?_
      exact hrec3 (l1, (l2 + 1))
def b_X1_bias_39 (p2 : Nat) (p4 : Nat) (p5 : Nat) (m6 : Int32) (rec9 : (Int32 × Nat) → GF) : (Int32 × Nat) → GF := fun (s : Int32 × Nat) => match s with
  | (l7, l8) =>
    hasG p5 l8 fun x10 =>
    if x10 = 0 then
      retG (rI l7)
    else
      nextG p5 m6 l8 fun p11 =>
      castG 25 p11 <|
      getI 25 p11 16 fun x12 =>
      jnG (fun (v13 : Int32) =>
        rec9 ((l7 + v13), (l8 + 1))) fun J14 =>
      if x12 = 0 then
        J14 0
      else
        invI none (g_X1_biasIn p11 p2 p4) fun x15 =>
        J14 x15
def g_X1_bias (a0 : Nat) (a1 : Int32) (a2 : Int32) : GF :=
  getP 20 a0 0 fun p1 =>
  invP none (g_X1_at p1 a1) fun p2 =>
  castG 22 p2 <|
  getP 20 a0 0 fun p3 =>
  invP none (g_X1_at p3 a2) fun p4 =>
  castG 22 p4 <|
  getP 20 a0 3 fun p5 =>
  itG p5 fun m6 =>
  loopG (b_X1_bias_39 p2 p4 p5 m6) 26 (0, 0)
abbrev md_X1_bias : MD := (yX1_bias, cX1_bias, 8, (some (Jvm.ClassFile.FieldType.int)), RX1, 17, 679, 2720)
theorem hm_X1_bias : (md_X1_bias).y.cls ≠ "java/lang/invoke/MethodHandle" ∧ (md_X1_bias).y.cls ≠ "java/lang/invoke/VarHandle" ∧ (parseMethodDescriptor (md_X1_bias).y.desc).map (fun d => d.parameters.length) = some 2 := by decide +kernel
theorem m_X1_bias (a0 : Nat) (a1 : Int32) (a2 : Int32) : CMF md_X1_bias [cR a0, cI a1, cI a2] (g_X1_bias a0 a1 a2) := by
  refine cm_of (by decide +kernel) rfl (Nat.le_of_ble_eq_true rfl) ?_
  show CWF _ 679 2720 0 [(0, cR a0), (1, cI a1), (2, cI a2)] [] _
  unfold g_X1_bias
  refine cw_aload_n dX1_bias_0 rfl 0 rfl ?_
  refine cw_getP (ci := 0) (j := 0) (C := RX1) (T := TX1) (N := 11) rfl (by decide) rfl rfl (Or.inl q206) fSame_rfl dX1_bias_1 (fun p1 => ?_)
  refine cw_iload_n dX1_bias_4 rfl 1 rfl ?_
  refine cw_invP (d2 := md_X1_at) (c := 678) (q := 2714) (as := [cR p1, cI a1]) (mc := 1) (ms := 6) rfl rfl (okS (n := 2) rfl dX1_bias_5 (lw_S q883 q884 q111 q885) hm_X1_at (by decide) (by decide) (Nat.le_of_ble_eq_true rfl)) (m_X1_at p1 a1) rfl (fun p2 => ?_)
  refine cw_cast (ci := 2) (T := TX3) (N := 9) (C := RX3) rfl rfl q733 (Or.inl rfl) dX1_bias_8 ?_
  refine cw_astore_n (ls' := [(3, cR p2), (0, cR a0), (1, cI a1), (2, cI a2)]) dX1_bias_11 rfl (by decide) rfl ?_
  refine cw_aload_n dX1_bias_12 rfl 1 rfl ?_
  refine cw_getP (ci := 0) (j := 0) (C := RX1) (T := TX1) (N := 11) rfl (by decide) rfl rfl (Or.inl q206) fSame_rfl dX1_bias_13 (fun p3 => ?_)
  refine cw_iload_n dX1_bias_16 rfl 3 rfl ?_
  refine cw_invP (d2 := md_X1_at) (c := 677) (q := 2708) (as := [cR p3, cI a2]) (mc := 1) (ms := 6) rfl rfl (okS (n := 2) rfl dX1_bias_17 (lw_S q883 q884 q111 q885) hm_X1_at (by decide) (by decide) (Nat.le_of_ble_eq_true rfl)) (m_X1_at p3 a2) rfl (fun p4 => ?_)
  refine cw_cast (ci := 2) (T := TX3) (N := 9) (C := RX3) rfl rfl q733 (Or.inl rfl) dX1_bias_20 ?_
  refine cw_astore (ls' := [(4, cR p4), (3, cR p2), (0, cR a0), (1, cI a1), (2, cI a2)]) dX1_bias_23 (by decide) rfl ?_
  refine cw_iconst (v := 0) dX1_bias_25 (by decide) ?_
  refine cw_istore (ls' := [(5, cI 0), (4, cR p4), (3, cR p2), (0, cR a0), (1, cI a1), (2, cI a2)]) dX1_bias_26 (by decide) rfl ?_
  refine cw_aload_n dX1_bias_28 rfl 3 rfl ?_
  refine cw_getP (ci := 0) (j := 3) (C := RX1) (T := TX1) (N := 11) rfl (by decide) rfl rfl (Or.inl q209) fSame_rfl dX1_bias_29 (fun p5 => ?_)
  refine cw_iter (c := 676) (q := 2704) (la := 2) (ls' := [(5, cI 0), (4, cR p4), (3, cR p2), (0, cR a0), (1, cI a1), (2, cI a2)]) rfl (Or.inr ⟨dX1_bias_37, rfl⟩) (by decide) (okF (x := ⟨"java/util/List", "iterator", "()Ljava/util/Iterator;"⟩) (ci := 14) (C := RJ2) (T0 := TJ2) (N := 3) (n := 0) rfl (Or.inr ⟨rfl, rfl⟩) rfl dX1_bias_32 (lw_F q290 q295 q293 q114 q297) (List.mem_iff_getElem?.mpr ⟨3, rfl⟩) (show ("java/util/List" : String) ≠ _ ∧ ("java/util/List" : String) ≠ _ ∧ (parseMethodDescriptor (md_J2_iterator).y.desc).map (fun d => d.parameters.length) = some 0 from ⟨by decide, by decide, (hm_J2_iterator).2.2⟩) (by decide) (by decide) (Nat.le_of_ble_eq_true rfl)) (fun m6 => ?_)
  refine cw_sub (ls' := [(4, cR p4), (3, cR p2), (5, cI 0), (6, cT p5 m6 0)]) [2, 3, 1, 0] rfl ?_
  refine cw_weak (c' := 0 + 26 * 26) (q' := 0 + 26 * 104) (by omega) (by omega) ?_
  refine cw_loop (ce := 0) (ke := 0) (cb := 26) (kb := 104) (lsf := fun (s : Int32 × Nat) => [(4, cR p4), (3, cR p2), (5, cI s.1), (6, cT p5 m6 s.2)]) (fun Crec9 Krec9 rec9 hCrec9 hKrec9 hrec9 s => ?_) 26 (0, 0)
  obtain ⟨l7, l8⟩ := s
  show CWF _ _ _ 39 [(4, cR p4), (3, cR p2), (5, cI l7), (6, cT p5 m6 l8)] [] _
  dsimp only [b_X1_bias_39]
  refine cw_sub (ls' := [(6, cT p5 m6 l8), (4, cR p4), (3, cR p2), (5, cI l7)]) [3, 0, 1, 2] rfl ?_
  refine cw_hasNext (la := 2) rfl (Or.inr ⟨dX1_bias_39, rfl⟩) (fun x => okF (x := ⟨"java/util/Iterator", "hasNext", "()Z"⟩) (ci := 15) (C := RJ18) (T0 := TJ18) (N := 4) (n := 0) rfl (Or.inl rfl) rfl dX1_bias_41 (lw_F q318 q339 q337 q134 q341) (List.mem_iff_getElem?.mpr ⟨4, rfl⟩) (show ("java/util/Iterator" : String) ≠ _ ∧ ("java/util/Iterator" : String) ≠ _ ∧ (parseMethodDescriptor (md_J18_hasNext).y.desc).map (fun d => d.parameters.length) = some 0 from ⟨by decide, by decide, (hm_J18_hasNext).2.2⟩) (by decide) (by decide) (Nat.le_of_ble_eq_true rfl)) (fun x10 => ?_)
  refine cw_if_eq (tgt := 89) dX1_bias_46 (by decide) ?_ ?_
  · refine cw_weak (c' := Crec9 + 0) (q' := Krec9 + 0) (by omega) (by omega) ?_
    refine cw_iload dX1_bias_89 3 rfl ?_
    exact cw_iret rfl dX1_bias_91
  · refine cw_next (la := 2) rfl (Or.inr ⟨dX1_bias_49, rfl⟩) (fun x => okF (x := ⟨"java/util/Iterator", "next", "()Ljava/lang/Object;"⟩) (ci := 15) (C := RJ18) (T0 := TJ18) (N := 4) (n := 0) rfl (Or.inl rfl) rfl dX1_bias_51 (lw_F q343 q432 q430 q134 q434) (List.mem_iff_getElem?.mpr ⟨6, rfl⟩) (show ("java/util/Iterator" : String) ≠ _ ∧ ("java/util/Iterator" : String) ≠ _ ∧ (parseMethodDescriptor (md_J18_next).y.desc).map (fun d => d.parameters.length) = some 0 from ⟨by decide, by decide, (hm_J18_next).2.2⟩) (by decide) (by decide) (Nat.le_of_ble_eq_true rfl)) (fun p11 => ?_)
    refine cw_cast (ci := 5) (T := TX6) (N := 19) (C := RX6) rfl rfl q524 (Or.inl rfl) dX1_bias_56 ?_
    refine cw_astore (ls' := [(7, cR p11), (6, cT p5 m6 (l8 + 1)), (4, cR p4), (3, cR p2), (5, cI l7)]) dX1_bias_59 (by decide) rfl ?_
    refine cw_iload dX1_bias_61 4 rfl ?_
    refine cw_aload dX1_bias_63 0 rfl ?_
    refine cw_getI (ci := 5) (j := 16) (C := RX6) (T := TX6) (N := 19) rfl (by decide) rfl rfl (Or.inr ⟨_, q1116⟩) fSame_rfl dX1_bias_65 (fun x12 => ?_)
    refine cw_jn (cj := Crec9 + 0) (kj := Krec9 + 0) (pcj := 83) (lsf := fun (s : Int32) => [(6, cT p5 m6 (l8 + 1)), (4, cR p4), (3, cR p2)]) (stf := fun (s : Int32) => [cI s, cI l7]) (fun s => ?_) (fun J14 hJ14 => ?_)
    · obtain ⟨v13, e⟩ : ∃ z, z = s := ⟨_, rfl⟩
      subst e
      show CWF _ _ _ 83 [(6, cT p5 m6 (l8 + 1)), (4, cR p4), (3, cR p2)] [cI v13, cI l7] _
      refine cw_iadd dX1_bias_83 ?_
      refine cw_istore (ls' := [(5, cI (l7 + v13)), (6, cT p5 m6 (l8 + 1)), (4, cR p4), (3, cR p2)]) dX1_bias_84 (by decide) rfl ?_
      refine cw_goto (tgt := 39) dX1_bias_86 (by decide) ?_
      refine cw_sub (ls' := [(4, cR p4), (3, cR p2), (5, cI (l7 + v13)), (6, cT p5 m6 (l8 + 1))]) [2, 3, 0, 1] rfl ?_
      exact hrec9 ((l7 + v13), (l8 + 1))
    · refine cw_if_eq (tgt := 82) dX1_bias_68 (by decide) ?_ ?_
      · refine cw_weak (c' := Crec9 + 0) (q' := Krec9 + 0) (by omega) (by omega) ?_
        refine cw_iconst (v := 0) dX1_bias_82 (by decide) ?_
        refine cw_sub (ls' := [(6, cT p5 m6 (l8 + 1)), (4, cR p4), (3, cR p2)]) [1, 2, 3] rfl ?_
        exact hJ14 0
      · refine cw_aload dX1_bias_71 0 rfl ?_
        refine cw_aload_n dX1_bias_73 rfl 3 rfl ?_
        refine cw_aload dX1_bias_74 2 rfl ?_
        refine cw_invI (d2 := md_X1_biasIn) (c := Crec9 + 0) (q := Krec9 + 0) (as := [cR p11, cR p2, cR p4]) (mc := 26) (ms := 104) rfl rfl (okS (n := 3) rfl dX1_bias_76 (lw_S q2085 q2086 q111 q2087) hm_X1_biasIn (by decide) (by decide) (Nat.le_of_ble_eq_true rfl)) (m_X1_biasIn p11 p2 p4) rfl (fun x15 => ?_)
        refine cw_goto (tgt := 83) dX1_bias_79 (by decide) ?_
        refine cw_sub (ls' := [(6, cT p5 m6 (l8 + 1)), (4, cR p4), (3, cR p2)]) [1, 2, 3] rfl ?_
        exact hJ14 x15
def b_X1_formationAt_26 (p2 : Nat) (p3 : Nat) (m4 : Int32) (J7 : Int32 → GF) (rec10 : (Int32 × Nat) → GF) : (Int32 × Nat) → GF := fun (s : Int32 × Nat) => match s with
  | (l8, l9) =>
    hasG p3 l9 fun x11 =>
    if x11 = 0 then
      J7 l8
    else
      nextG p3 m4 l9 fun p12 =>
      instG 32 32 p12
        (if (1 : Int32) = 0 then
            rec10 (l8, (l9 + 1))
          else
            castG 32 p12 <|
            invI (some (p12, 32)) (g_X14_points p12) fun x13 =>
            invI (some (p2, 32)) (g_X14_points p2) fun x14 =>
            if x13 ≤ x14 then
              rec10 (l8, (l9 + 1))
            else
              rec10 ((l8 + 1), (l9 + 1)))
        (if (0 : Int32) = 0 then
            rec10 (l8, (l9 + 1))
          else
            castG 32 p12 <|
            invI (some (p12, 32)) (g_X14_points p12) fun x15 =>
            invI (some (p2, 32)) (g_X14_points p2) fun x16 =>
            if x15 ≤ x16 then
              rec10 (l8, (l9 + 1))
            else
              rec10 ((l8 + 1), (l9 + 1)))
def g_X1_formationAt (a0 : Nat) (a1 : Int32) (a2 : Int32) : GF :=
  getP 20 a0 4 fun p1 =>
  invP none (g_X1_at p1 a1) fun p2 =>
  castG 32 p2 <|
  getP 20 a0 4 fun p3 =>
  itG p3 fun m4 =>
  jnG (fun (v5 : Int32) =>
    if a2 = 0 then
      invI (some (p2, 32)) (g_X14_points p2) fun x6 =>
      retG (rI x6)
    else
      retG (rI v5)) fun J7 =>
  loopG (b_X1_formationAt_26 p2 p3 m4 J7) FU (1, 0)
abbrev md_X1_formationAt : MD := (yX1_formationAt, cX1_formationAt, 8, (some (Jvm.ClassFile.FieldType.int)), RX1, 14, 2, 10)
theorem hm_X1_formationAt : (md_X1_formationAt).y.cls ≠ "java/lang/invoke/MethodHandle" ∧ (md_X1_formationAt).y.cls ≠ "java/lang/invoke/VarHandle" ∧ (parseMethodDescriptor (md_X1_formationAt).y.desc).map (fun d => d.parameters.length) = some 2 := by decide +kernel
theorem m_X1_formationAt (a0 : Nat) (a1 : Int32) (a2 : Int32) : CMF md_X1_formationAt [cR a0, cI a1, cI a2] (g_X1_formationAt a0 a1 a2) := by
  refine cm_of (by decide +kernel) rfl (Nat.le_of_ble_eq_true rfl) ?_
  show CWF _ 2 10 0 [(0, cR a0), (1, cI a1), (2, cI a2)] [] _
  unfold g_X1_formationAt
  refine cw_aload_n dX1_formationAt_0 rfl 0 rfl ?_
  refine cw_getP (ci := 0) (j := 4) (C := RX1) (T := TX1) (N := 11) rfl (by decide) rfl rfl (Or.inl q210) fSame_rfl dX1_formationAt_1 (fun p1 => ?_)
  refine cw_iload_n dX1_formationAt_4 rfl 1 rfl ?_
  refine cw_invP (d2 := md_X1_at) (c := 1) (q := 4) (as := [cR p1, cI a1]) (mc := 1) (ms := 6) rfl rfl (okS (n := 2) rfl dX1_formationAt_5 (lw_S q883 q884 q111 q885) hm_X1_at (by decide) (by decide) (Nat.le_of_ble_eq_true rfl)) (m_X1_at p1 a1) rfl (fun p2 => ?_)
  refine cw_cast (ci := 12) (T := TX14) (N := 1) (C := RX14) rfl rfl q1871 (Or.inl rfl) dX1_formationAt_8 ?_
  refine cw_astore_n (ls' := [(3, cR p2), (0, cR a0), (1, cI a1), (2, cI a2)]) dX1_formationAt_11 rfl (by decide) rfl ?_
  refine cw_iconst (v := 1) dX1_formationAt_12 (by decide) ?_
  refine cw_istore (ls' := [(4, cI 1), (3, cR p2), (0, cR a0), (1, cI a1), (2, cI a2)]) dX1_formationAt_13 (by decide) rfl ?_
  refine cw_aload_n dX1_formationAt_15 rfl 2 rfl ?_
  refine cw_getP (ci := 0) (j := 4) (C := RX1) (T := TX1) (N := 11) rfl (by decide) rfl rfl (Or.inl q210) fSame_rfl dX1_formationAt_16 (fun p3 => ?_)
  refine cw_iter (c := 0) (q := 0) (la := 2) (ls' := [(4, cI 1), (3, cR p2), (0, cR a0), (1, cI a1), (2, cI a2)]) rfl (Or.inr ⟨dX1_formationAt_24, rfl⟩) (by decide) (okF (x := ⟨"java/util/List", "iterator", "()Ljava/util/Iterator;"⟩) (ci := 14) (C := RJ2) (T0 := TJ2) (N := 3) (n := 0) rfl (Or.inr ⟨rfl, rfl⟩) rfl dX1_formationAt_19 (lw_F q290 q295 q293 q114 q297) (List.mem_iff_getElem?.mpr ⟨3, rfl⟩) (show ("java/util/List" : String) ≠ _ ∧ ("java/util/List" : String) ≠ _ ∧ (parseMethodDescriptor (md_J2_iterator).y.desc).map (fun d => d.parameters.length) = some 0 from ⟨by decide, by decide, (hm_J2_iterator).2.2⟩) (by decide) (by decide) (Nat.le_of_ble_eq_true rfl)) (fun m4 => ?_)
  refine cw_jn (cj := 0) (kj := 0) (pcj := 78) (lsf := fun (s : Int32) => [(3, cR p2), (2, cI a2), (4, cI s)]) (stf := fun (s : Int32) => []) (fun s => ?_) (fun J7 hJ7 => ?_)
  · obtain ⟨v5, e⟩ : ∃ z, z = s := ⟨_, rfl⟩
    subst e
    show CWF _ _ _ 78 [(3, cR p2), (2, cI a2), (4, cI v5)] [] _
    refine cw_iload_n dX1_formationAt_78 rfl 1 rfl ?_
    refine cw_if_eq (tgt := 87) dX1_formationAt_79 (by decide) ?_ ?_
    · refine cw_aload_n dX1_formationAt_87 rfl 0 rfl ?_
      refine cw_invI (d2 := md_X14_points) (c := 0) (q := 0) (as := [cR p2]) (mc := 0) (ms := 0) rfl rfl (okV (ci := 12) (C := RX14) (T0 := TX14) (N := 1) (n := 0) rfl rfl rfl dX1_formationAt_88 (lw_V q1881 q1882 q1883 q151 q1884) ⟨rfl, hm_X14_points⟩ (by decide) (by decide) (Nat.le_of_ble_eq_true rfl)) (m_X14_points p2) rfl (fun x6 => ?_)
      exact cw_iret rfl dX1_formationAt_91
    · refine cw_iload dX1_formationAt_82 2 rfl ?_
      refine cw_goto (tgt := 91) dX1_formationAt_84 (by decide) ?_
      exact cw_iret rfl dX1_formationAt_91
  · refine cw_sub (ls' := [(3, cR p2), (2, cI a2), (4, cI 1), (5, cT p3 m4 0)]) [2, 5, 1, 0] rfl ?_
    refine cw_loop0 (lsf := fun (s : Int32 × Nat) => [(3, cR p2), (2, cI a2), (4, cI s.1), (5, cT p3 m4 s.2)]) (fun rec10 hrec10 s => ?_) FU (1, 0)
    obtain ⟨l8, l9⟩ := s
    show CWF _ _ _ 26 [(3, cR p2), (2, cI a2), (4, cI l8), (5, cT p3 m4 l9)] [] _
    dsimp only [b_X1_formationAt_26]
    refine cw_sub (ls' := [(5, cT p3 m4 l9), (3, cR p2), (2, cI a2), (4, cI l8)]) [3, 0, 1, 2] rfl ?_
    refine cw_hasNext (la := 2) rfl (Or.inr ⟨dX1_formationAt_26, rfl⟩) (fun x => okF (x := ⟨"java/util/Iterator", "hasNext", "()Z"⟩) (ci := 15) (C := RJ18) (T0 := TJ18) (N := 4) (n := 0) rfl (Or.inl rfl) rfl dX1_formationAt_28 (lw_F q318 q339 q337 q134 q341) (List.mem_iff_getElem?.mpr ⟨4, rfl⟩) (show ("java/util/Iterator" : String) ≠ _ ∧ ("java/util/Iterator" : String) ≠ _ ∧ (parseMethodDescriptor (md_J18_hasNext).y.desc).map (fun d => d.parameters.length) = some 0 from ⟨by decide, by decide, (hm_J18_hasNext).2.2⟩) (by decide) (by decide) (Nat.le_of_ble_eq_true rfl)) (fun x11 => ?_)
    refine cw_if_eq (tgt := 78) dX1_formationAt_33 (by decide) ?_ ?_
    · refine cw_sub (ls' := [(3, cR p2), (2, cI a2), (4, cI l8)]) [1, 2, 3] rfl ?_
      exact hJ7 l8
    · refine cw_next (la := 2) rfl (Or.inr ⟨dX1_formationAt_36, rfl⟩) (fun x => okF (x := ⟨"java/util/Iterator", "next", "()Ljava/lang/Object;"⟩) (ci := 15) (C := RJ18) (T0 := TJ18) (N := 4) (n := 0) rfl (Or.inl rfl) rfl dX1_formationAt_38 (lw_F q343 q432 q430 q134 q434) (List.mem_iff_getElem?.mpr ⟨6, rfl⟩) (show ("java/util/Iterator" : String) ≠ _ ∧ ("java/util/Iterator" : String) ≠ _ ∧ (parseMethodDescriptor (md_J18_next).y.desc).map (fun d => d.parameters.length) = some 0 from ⟨by decide, by decide, (hm_J18_next).2.2⟩) (by decide) (by decide) (Nat.le_of_ble_eq_true rfl)) (fun p12 => ?_)
      refine cw_astore (ls' := [(6, cR p12), (5, cT p3 m4 (l9 + 1)), (3, cR p2), (2, cI a2), (4, cI l8)]) dX1_formationAt_43 (by decide) rfl ?_
      refine cw_aload dX1_formationAt_45 0 rfl ?_
      refine cw_inst (ci := 12) (C := RX14) (T := TX14) (N := 1) (ci2 := 12) (C2 := RX14) (T2 := TX14) (N2 := 1) rfl rfl rfl rfl (Or.inr rfl) q1871 dX1_formationAt_47 ?_ ?_
      · refine cw_if_eq (tgt := 75) dX1_formationAt_50 (by decide) ?_ ?_
        · refine cw_goto (tgt := 26) dX1_formationAt_75 (by decide) ?_
          refine cw_sub (ls' := [(3, cR p2), (2, cI a2), (4, cI l8), (5, cT p3 m4 (l9 + 1))]) [2, 3, 4, 1] rfl ?_
          exact hrec10 (l8, (l9 + 1))
        · refine cw_aload dX1_formationAt_53 0 rfl ?_
          refine cw_cast (ci := 12) (T := TX14) (N := 1) (C := RX14) rfl rfl q1871 (Or.inl rfl) dX1_formationAt_55 ?_
          refine cw_astore (ls' := [(7, cR p12), (6, cR p12), (5, cT p3 m4 (l9 + 1)), (3, cR p2), (2, cI a2), (4, cI l8)]) dX1_formationAt_58 (by decide) rfl ?_
          refine cw_aload dX1_formationAt_60 0 rfl ?_
          refine cw_invI (d2 := md_X14_points) (c := 0) (q := 0) (as := [cR p12]) (mc := 0) (ms := 0) rfl rfl (okV (ci := 12) (C := RX14) (T0 := TX14) (N := 1) (n := 0) rfl rfl rfl dX1_formationAt_62 (lw_V q1881 q1882 q1883 q151 q1884) ⟨rfl, hm_X14_points⟩ (by decide) (by decide) (Nat.le_of_ble_eq_true rfl)) (m_X14_points p12) rfl (fun x13 => ?_)
          refine cw_aload_n dX1_formationAt_65 rfl 3 rfl ?_
          refine cw_invI (d2 := md_X14_points) (c := 0) (q := 0) (as := [cR p2]) (mc := 0) (ms := 0) rfl rfl (okV (ci := 12) (C := RX14) (T0 := TX14) (N := 1) (n := 0) rfl rfl rfl dX1_formationAt_66 (lw_V q1881 q1882 q1883 q151 q1884) ⟨rfl, hm_X14_points⟩ (by decide) (by decide) (Nat.le_of_ble_eq_true rfl)) (m_X14_points p2) rfl (fun x14 => ?_)
          refine cw_icmp_le (tgt := 75) dX1_formationAt_69 (by decide) ?_ ?_
          · refine cw_goto (tgt := 26) dX1_formationAt_75 (by decide) ?_
            refine cw_sub (ls' := [(3, cR p2), (2, cI a2), (4, cI l8), (5, cT p3 m4 (l9 + 1))]) [3, 4, 5, 2] rfl ?_
            exact hrec10 (l8, (l9 + 1))
          · refine cw_iinc (v := (l8 + 1)) (ls' := [(4, cI (l8 + 1)), (7, cR p12), (6, cR p12), (5, cT p3 m4 (l9 + 1)), (3, cR p2), (2, cI a2)]) dX1_formationAt_72 5 rfl rfl (by decide) rfl ?_
            refine cw_goto (tgt := 26) dX1_formationAt_75 (by decide) ?_
            refine cw_sub (ls' := [(3, cR p2), (2, cI a2), (4, cI (l8 + 1)), (5, cT p3 m4 (l9 + 1))]) [4, 5, 0, 3] rfl ?_
            exact hrec10 ((l8 + 1), (l9 + 1))
      · refine cw_if_eq (tgt := 75) dX1_formationAt_50 (by decide) ?_ ?_
        · refine cw_goto (tgt := 26) dX1_formationAt_75 (by decide) ?_
          refine cw_sub (ls' := [(3, cR p2), (2, cI a2), (4, cI l8), (5, cT p3 m4 (l9 + 1))]) [2, 3, 4, 1] rfl ?_
          exact hrec10 (l8, (l9 + 1))
        · refine cw_aload dX1_formationAt_53 0 rfl ?_
          refine cw_cast (ci := 12) (T := TX14) (N := 1) (C := RX14) rfl rfl q1871 (Or.inl rfl) dX1_formationAt_55 ?_
          refine cw_astore (ls' := [(7, cR p12), (6, cR p12), (5, cT p3 m4 (l9 + 1)), (3, cR p2), (2, cI a2), (4, cI l8)]) dX1_formationAt_58 (by decide) rfl ?_
          refine cw_aload dX1_formationAt_60 0 rfl ?_
          refine cw_invI (d2 := md_X14_points) (c := 0) (q := 0) (as := [cR p12]) (mc := 0) (ms := 0) rfl rfl (okV (ci := 12) (C := RX14) (T0 := TX14) (N := 1) (n := 0) rfl rfl rfl dX1_formationAt_62 (lw_V q1881 q1882 q1883 q151 q1884) ⟨rfl, hm_X14_points⟩ (by decide) (by decide) (Nat.le_of_ble_eq_true rfl)) (m_X14_points p12) rfl (fun x15 => ?_)
          refine cw_aload_n dX1_formationAt_65 rfl 3 rfl ?_
          refine cw_invI (d2 := md_X14_points) (c := 0) (q := 0) (as := [cR p2]) (mc := 0) (ms := 0) rfl rfl (okV (ci := 12) (C := RX14) (T0 := TX14) (N := 1) (n := 0) rfl rfl rfl dX1_formationAt_66 (lw_V q1881 q1882 q1883 q151 q1884) ⟨rfl, hm_X14_points⟩ (by decide) (by decide) (Nat.le_of_ble_eq_true rfl)) (m_X14_points p2) rfl (fun x16 => ?_)
          refine cw_icmp_le (tgt := 75) dX1_formationAt_69 (by decide) ?_ ?_
          · refine cw_goto (tgt := 26) dX1_formationAt_75 (by decide) ?_
            refine cw_sub (ls' := [(3, cR p2), (2, cI a2), (4, cI l8), (5, cT p3 m4 (l9 + 1))]) [3, 4, 5, 2] rfl ?_
            exact hrec10 (l8, (l9 + 1))
          · refine cw_iinc (v := (l8 + 1)) (ls' := [(4, cI (l8 + 1)), (7, cR p12), (6, cR p12), (5, cT p3 m4 (l9 + 1)), (3, cR p2), (2, cI a2)]) dX1_formationAt_72 5 rfl rfl (by decide) rfl ?_
            refine cw_goto (tgt := 26) dX1_formationAt_75 (by decide) ?_
            refine cw_sub (ls' := [(3, cR p2), (2, cI a2), (4, cI (l8 + 1)), (5, cT p3 m4 (l9 + 1))]) [4, 5, 0, 3] rfl ?_
            exact hrec10 ((l8 + 1), (l9 + 1))
def g_X1_planned (a0 : Nat) (a1 : Int32) (a2 : Int32) : GF :=
  getP 20 a0 5 fun p1 =>
  invP none (g_X1_at p1 a1) fun p2 =>
  castG 33 p2 <|
  invI none (g_X1_isBetween a2 0 4) fun x3 =>
  invV none (g_X1_requireArgument x3) <|
  swG a2 0 [
    getP 33 p2 0 fun p4 =>
    getI 25 p4 0 fun x5 =>
    retG (rI x5),
    getI 33 p2 1 fun x6 =>
    retG (rI x6),
    invI (some (a0, 20)) (g_X1_begins a0 a1) fun x7 =>
    retG (rI x7),
    invI (some (a0, 20)) (g_X1_begins a0 a1) fun x8 =>
    getI 33 p2 2 fun x9 =>
    retG (rI (x8 + x9))] <|
  getI 33 p2 4 fun x10 =>
  retG (rI x10)
abbrev md_X1_planned : MD := (yX1_planned, cX1_planned, 4, (some (Jvm.ClassFile.FieldType.int)), RX1, 14, 3, 28)
theorem hm_X1_planned : (md_X1_planned).y.cls ≠ "java/lang/invoke/MethodHandle" ∧ (md_X1_planned).y.cls ≠ "java/lang/invoke/VarHandle" ∧ (parseMethodDescriptor (md_X1_planned).y.desc).map (fun d => d.parameters.length) = some 2 := by decide +kernel
theorem m_X1_planned (a0 : Nat) (a1 : Int32) (a2 : Int32) : CMF md_X1_planned [cR a0, cI a1, cI a2] (g_X1_planned a0 a1 a2) := by
  refine cm_of (by decide +kernel) rfl (Nat.le_of_ble_eq_true rfl) ?_
  show CWF _ 3 28 0 [(0, cR a0), (1, cI a1), (2, cI a2)] [] _
  unfold g_X1_planned
  refine cw_aload_n dX1_planned_0 rfl 0 rfl ?_
  refine cw_getP (ci := 0) (j := 5) (C := RX1) (T := TX1) (N := 11) rfl (by decide) rfl rfl (Or.inl q211) fSame_rfl dX1_planned_1 (fun p1 => ?_)
  refine cw_iload_n dX1_planned_4 rfl 1 rfl ?_
  refine cw_invP (d2 := md_X1_at) (c := 2) (q := 22) (as := [cR p1, cI a1]) (mc := 1) (ms := 6) rfl rfl (okS (n := 2) rfl dX1_planned_5 (lw_S q883 q884 q111 q885) hm_X1_at (by decide) (by decide) (Nat.le_of_ble_eq_true rfl)) (m_X1_at p1 a1) rfl (fun p2 => ?_)
  refine cw_cast (ci := 13) (T := TX15) (N := 5) (C := RX15) rfl rfl q1903 (Or.inl rfl) dX1_planned_8 ?_
  refine cw_astore_n (ls' := [(3, cR p2), (0, cR a0), (1, cI a1), (2, cI a2)]) dX1_planned_11 rfl (by decide) rfl ?_
  refine cw_iload_n dX1_planned_12 rfl 3 rfl ?_
  refine cw_iconst (v := 0) dX1_planned_13 (by decide) ?_
  refine cw_iconst (v := 4) dX1_planned_14 (by decide) ?_
  refine cw_invI (d2 := md_X1_isBetween) (c := 2) (q := 22) (as := [cI a2, cI 0, cI 4]) (mc := 0) (ms := 0) rfl rfl (okS (n := 3) rfl dX1_planned_15 (lw_S q258 q259 q111 q260) hm_X1_isBetween (by decide) (by decide) (Nat.le_of_ble_eq_true rfl)) (m_X1_isBetween a2 0 4) rfl (fun x3 => ?_)
  refine cw_invV (d2 := md_X1_requireArgument) (c := 1) (q := 16) (as := [cI x3]) (mc := 1) (ms := 6) rfl rfl (okS (n := 1) rfl dX1_planned_18 (lw_S q744 q745 q111 q746) hm_X1_requireArgument (by decide) (by decide) (Nat.le_of_ble_eq_true rfl)) (m_X1_requireArgument x3) rfl ?_
  refine cw_iload_n dX1_planned_21 rfl 3 rfl ?_
  refine cw_switch (tgt0 := 90) dX1_planned_22 [52, 62, 69, 77] (by decide) rfl (by decide) (by decide) ?_ ?_
  · refine ⟨?_, ?_, ?_, ?_, trivial⟩
    · refine cw_weak (c' := 0) (q' := 0) (by omega) (by omega) ?_
      refine cw_aload_n dX1_planned_52 rfl 0 rfl ?_
      refine cw_getP (ci := 13) (j := 0) (C := RX15) (T := TX15) (N := 5) rfl (by decide) rfl rfl (Or.inr ⟨_, q1914⟩) fSame_rfl dX1_planned_53 (fun p4 => ?_)
      refine cw_getI (ci := 5) (j := 0) (C := RX6) (T := TX6) (N := 19) rfl (by decide) rfl rfl (Or.inr ⟨_, q1086⟩) fSame_rfl dX1_planned_56 (fun x5 => ?_)
      refine cw_goto (tgt := 94) dX1_planned_59 (by decide) ?_
      exact cw_iret rfl dX1_planned_94
    · refine cw_weak (c' := 0) (q' := 0) (by omega) (by omega) ?_
      refine cw_aload_n dX1_planned_62 rfl 0 rfl ?_
      refine cw_getI (ci := 13) (j := 1) (C := RX15) (T := TX15) (N := 5) rfl (by decide) rfl rfl (Or.inr ⟨_, q1916⟩) fSame_rfl dX1_planned_63 (fun x6 => ?_)
      refine cw_goto (tgt := 94) dX1_planned_66 (by decide) ?_
      exact cw_iret rfl dX1_planned_94
    · refine cw_aload_n dX1_planned_69 rfl 1 rfl ?_
      refine cw_iload_n dX1_planned_70 rfl 2 rfl ?_
      refine cw_invI (d2 := md_X1_begins) (c := 0) (q := 0) (as := [cR a0, cI a1]) (mc := 1) (ms := 16) rfl rfl (okV (ci := 0) (C := RX1) (T0 := TX1) (N := 11) (n := 1) rfl rfl rfl dX1_planned_71 (lw_V q1940 q1942 qs32 q111 q1943) ⟨rfl, hm_X1_begins⟩ (by decide) (by decide) (Nat.le_of_ble_eq_true rfl)) (m_X1_begins a0 a1) rfl (fun x7 => ?_)
      refine cw_goto (tgt := 94) dX1_planned_74 (by decide) ?_
      exact cw_iret rfl dX1_planned_94
    · refine cw_aload_n dX1_planned_77 rfl 1 rfl ?_
      refine cw_iload_n dX1_planned_78 rfl 2 rfl ?_
      refine cw_invI (d2 := md_X1_begins) (c := 0) (q := 0) (as := [cR a0, cI a1]) (mc := 1) (ms := 16) rfl rfl (okV (ci := 0) (C := RX1) (T0 := TX1) (N := 11) (n := 1) rfl rfl rfl dX1_planned_79 (lw_V q1940 q1942 qs32 q111 q1943) ⟨rfl, hm_X1_begins⟩ (by decide) (by decide) (Nat.le_of_ble_eq_true rfl)) (m_X1_begins a0 a1) rfl (fun x8 => ?_)
      refine cw_aload_n dX1_planned_82 rfl 0 rfl ?_
      refine cw_getI (ci := 13) (j := 2) (C := RX15) (T := TX15) (N := 5) rfl (by decide) rfl rfl (Or.inr ⟨_, q1918⟩) fSame_rfl dX1_planned_83 (fun x9 => ?_)
      refine cw_iadd dX1_planned_86 ?_
      refine cw_goto (tgt := 94) dX1_planned_87 (by decide) ?_
      exact cw_iret rfl dX1_planned_94
  · refine cw_weak (c' := 0) (q' := 0) (by omega) (by omega) ?_
    refine cw_aload_n dX1_planned_90 rfl 0 rfl ?_
    refine cw_getI (ci := 13) (j := 4) (C := RX15) (T := TX15) (N := 5) rfl (by decide) rfl rfl (Or.inr ⟨_, q1921⟩) fSame_rfl dX1_planned_91 (fun x10 => ?_)
    exact cw_iret rfl dX1_planned_94
def b_X1_ranked_85 (a1 : Int32) (p5 : Nat) (p14 : Nat) (J17 : Int32 → GF) (rec19 : Int32 → GF) : Int32 → GF := fun (l18 : Int32) =>
  if l18 ≤ 0 then
    J17 l18
  else
    invP (some (p5, 8)) (s_get p5 (l18 - 1)) fun p20 =>
    castG 24 p20 <|
    invI (some (p20, 24)) (g_X5_rank p20 a1) fun x21 =>
    invI (some (p14, 24)) (g_X5_rank p14 a1) fun x22 =>
    if x21 < x22 then
      rec19 (l18 + (-1))
    else
      J17 l18
def b_X1_ranked_55 (a1 : Int32) (p5 : Nat) (p6 : Nat) (m7 : Int32) (J10 : Unit → GF) (rec12 : Nat → GF) : Nat → GF := fun (l11 : Nat) =>
  hasG p6 l11 fun x13 =>
  if x13 = 0 then
    J10 ()
  else
    nextG p6 m7 l11 fun p14 =>
    castG 24 p14 <|
    invI (some (p5, 8)) (s_size p5) fun x15 =>
    jnG (fun (v16 : Int32) =>
      invV (some (p5, 8)) (s_insert p5 v16 p14) <|
      rec12 (l11 + 1)) fun J17 =>
    loopG (b_X1_ranked_85 a1 p5 p14 J17) 26 x15
def g_X1_ranked (a0 : Nat) (a1 : Int32) (a2 : Int32) : GF :=
  invI none (g_X1_isBetween a1 0 1) fun x1 =>
  invV none (g_X1_requireArgument x1) <|
  getP 20 a0 2 fun p2 =>
  invI (some (p2, 8)) (s_size p2) fun x3 =>
  invI none (g_X1_isBetween a2 0 (x3 - 1)) fun x4 =>
  if x4 = 0 then
    throwG "java/util/NoSuchElementException"
  else
    newG 34 fun p5 =>
    invV (some (p5, 34)) (s_init p5) <|
    getP 20 a0 2 fun p6 =>
    itG p6 fun m7 =>
    jnG (fun (_ : Unit) =>
      invP (some (p5, 8)) (s_get p5 a2) fun p8 =>
      castG 24 p8 <|
      getI 24 p8 0 fun x9 =>
      retG (rI x9)) fun J10 =>
    loopG (b_X1_ranked_55 a1 p5 p6 m7 J10) 26 0
abbrev md_X1_ranked : MD := (yX1_ranked, cX1_ranked, 7, (some (Jvm.ClassFile.FieldType.int)), RX1, 15, 2733, 92261)
theorem hm_X1_ranked : (md_X1_ranked).y.cls ≠ "java/lang/invoke/MethodHandle" ∧ (md_X1_ranked).y.cls ≠ "java/lang/invoke/VarHandle" ∧ (parseMethodDescriptor (md_X1_ranked).y.desc).map (fun d => d.parameters.length) = some 2 := by decide +kernel
theorem m_X1_ranked (a0 : Nat) (a1 : Int32) (a2 : Int32) : CMF md_X1_ranked [cR a0, cI a1, cI a2] (g_X1_ranked a0 a1 a2) := by
  refine cm_of (by decide +kernel) rfl (Nat.le_of_ble_eq_true rfl) ?_
  show CWF _ 2733 92261 0 [(0, cR a0), (1, cI a1), (2, cI a2)] [] _
  unfold g_X1_ranked
  refine cw_iload_n dX1_ranked_0 rfl 1 rfl ?_
  refine cw_iconst (v := 0) dX1_ranked_1 (by decide) ?_
  refine cw_iconst (v := 1) dX1_ranked_2 (by decide) ?_
  refine cw_invI (d2 := md_X1_isBetween) (c := 2733) (q := 92261) (as := [cI a1, cI 0, cI 1]) (mc := 0) (ms := 0) rfl rfl (okS (n := 3) rfl dX1_ranked_3 (lw_S q258 q259 q111 q260) hm_X1_isBetween (by decide) (by decide) (Nat.le_of_ble_eq_true rfl)) (m_X1_isBetween a1 0 1) rfl (fun x1 => ?_)
  refine cw_invV (d2 := md_X1_requireArgument) (c := 2732) (q := 92255) (as := [cI x1]) (mc := 1) (ms := 6) rfl rfl (okS (n := 1) rfl dX1_ranked_6 (lw_S q744 q745 q111 q746) hm_X1_requireArgument (by decide) (by decide) (Nat.le_of_ble_eq_true rfl)) (m_X1_requireArgument x1) rfl ?_
  refine cw_iload_n dX1_ranked_9 rfl 2 rfl ?_
  refine cw_iconst (v := 0) dX1_ranked_10 (by decide) ?_
  refine cw_aload_n dX1_ranked_11 rfl 0 rfl ?_
  refine cw_getP (ci := 0) (j := 2) (C := RX1) (T := TX1) (N := 11) rfl (by decide) rfl rfl (Or.inl q208) fSame_rfl dX1_ranked_12 (fun p2 => ?_)
  refine cw_invI (d2 := md_J2_size) (c := 2732) (q := 92255) (as := [cR p2]) (mc := 0) (ms := 0) rfl rfl (okF (x := ⟨"java/util/List", "size", "()I"⟩) (ci := 14) (C := RJ2) (T0 := TJ2) (N := 3) (n := 0) rfl (Or.inr ⟨rfl, rfl⟩) rfl dX1_ranked_15 (lw_F q246 q251 q249 q114 q253) (List.mem_iff_getElem?.mpr ⟨1, rfl⟩) (show ("java/util/List" : String) ≠ _ ∧ ("java/util/List" : String) ≠ _ ∧ (parseMethodDescriptor (md_J2_size).y.desc).map (fun d => d.parameters.length) = some 0 from ⟨by decide, by decide, (hm_J2_size).2.2⟩) (by decide) (by decide) (Nat.le_of_ble_eq_true rfl)) (c_size p2) rfl (fun x3 => ?_)
  refine cw_iconst (v := 1) dX1_ranked_20 (by decide) ?_
  refine cw_isub dX1_ranked_21 ?_
  refine cw_invI (d2 := md_X1_isBetween) (c := 2732) (q := 92255) (as := [cI a2, cI 0, cI (x3 - 1)]) (mc := 0) (ms := 0) rfl rfl (okS (n := 3) rfl dX1_ranked_22 (lw_S q258 q259 q111 q260) hm_X1_isBetween (by decide) (by decide) (Nat.le_of_ble_eq_true rfl)) (m_X1_isBetween a2 0 (x3 - 1)) rfl (fun x4 => ?_)
  refine cw_if_ne (tgt := 36) dX1_ranked_25 (by decide) ?_ ?_
  · refine cw_new (c := 2731) (q := 92252) (ci := 14) (C := RJ2) (T := TJ2) (N := 3) rfl rfl q161 q162 q114 dX1_ranked_36 (fun p5 => ?_)
    refine cw_dup dX1_ranked_39 rfl ?_
    refine cw_invV (d2 := md_J2_init) (c := 2731) (q := 92252) (as := [cR p5]) (mc := 0) (ms := 0) rfl rfl (okI (n := 0) rfl rfl dX1_ranked_40 (lw_meth q165) q114 q163 q164 rfl hm_J2_init (by decide) (by decide) (Nat.le_of_ble_eq_true rfl) (by decide)) (c_init p5) rfl ?_
    refine cw_astore_n (ls' := [(3, cR p5), (0, cR a0), (1, cI a1), (2, cI a2)]) dX1_ranked_43 rfl (by decide) rfl ?_
    refine cw_aload_n dX1_ranked_44 rfl 1 rfl ?_
    refine cw_getP (ci := 0) (j := 2) (C := RX1) (T := TX1) (N := 11) rfl (by decide) rfl rfl (Or.inl q208) fSame_rfl dX1_ranked_45 (fun p6 => ?_)
    refine cw_iter (c := 2730) (q := 92248) (la := 2) (ls' := [(3, cR p5), (0, cR a0), (1, cI a1), (2, cI a2)]) rfl (Or.inr ⟨dX1_ranked_53, rfl⟩) (by decide) (okF (x := ⟨"java/util/List", "iterator", "()Ljava/util/Iterator;"⟩) (ci := 14) (C := RJ2) (T0 := TJ2) (N := 3) (n := 0) rfl (Or.inr ⟨rfl, rfl⟩) rfl dX1_ranked_48 (lw_F q290 q295 q293 q114 q297) (List.mem_iff_getElem?.mpr ⟨3, rfl⟩) (show ("java/util/List" : String) ≠ _ ∧ ("java/util/List" : String) ≠ _ ∧ (parseMethodDescriptor (md_J2_iterator).y.desc).map (fun d => d.parameters.length) = some 0 from ⟨by decide, by decide, (hm_J2_iterator).2.2⟩) (by decide) (by decide) (Nat.le_of_ble_eq_true rfl)) (fun m7 => ?_)
    refine cw_jn (cj := 0) (kj := 0) (pcj := 135) (lsf := fun (s : Unit) => [(3, cR p5), (2, cI a2)]) (stf := fun (s : Unit) => []) (fun s => ?_) (fun J10 hJ10 => ?_)
    · show CWF _ _ _ 135 [(3, cR p5), (2, cI a2)] [] _
      refine cw_aload_n dX1_ranked_135 rfl 0 rfl ?_
      refine cw_iload_n dX1_ranked_136 rfl 1 rfl ?_
      refine cw_invP (d2 := md_J2_get) (c := 0) (q := 0) (as := [cR p5, cI a2]) (mc := 0) (ms := 0) rfl rfl (okF (x := ⟨"java/util/List", "get", "(I)Ljava/lang/Object;"⟩) (ci := 14) (C := RJ2) (T0 := TJ2) (N := 3) (n := 1) rfl (Or.inr ⟨rfl, rfl⟩) rfl dX1_ranked_137 (lw_F q262 q267 q265 q114 q269) (List.mem_iff_getElem?.mpr ⟨2, rfl⟩) (show ("java/util/List" : String) ≠ _ ∧ ("java/util/List" : String) ≠ _ ∧ (parseMethodDescriptor (md_J2_get).y.desc).map (fun d => d.parameters.length) = some 1 from ⟨by decide, by decide, (hm_J2_get).2.2⟩) (by decide) (by decide) (Nat.le_of_ble_eq_true rfl)) (c_get p5 a2) rfl (fun p8 => ?_)
      refine cw_cast (ci := 4) (T := TX5) (N := 5) (C := RX5) rfl rfl q762 (Or.inl rfl) dX1_ranked_142 ?_
      refine cw_getI (ci := 4) (j := 0) (C := RX5) (T := TX5) (N := 5) rfl (by decide) rfl rfl (Or.inr ⟨_, q1009⟩) fSame_rfl dX1_ranked_145 (fun x9 => ?_)
      exact cw_iret rfl dX1_ranked_148
    · refine cw_sub (ls' := [(3, cR p5), (1, cI a1), (2, cI a2), (4, cT p6 m7 0)]) [1, 3, 4, 0] rfl ?_
      refine cw_weak (c' := 0 + 26 * 105) (q' := 0 + 26 * 3548) (by omega) (by omega) ?_
      refine cw_loop (ce := 0) (ke := 0) (cb := 105) (kb := 3548) (lsf := fun (s : Nat) => [(3, cR p5), (1, cI a1), (2, cI a2), (4, cT p6 m7 s)]) (fun Crec12 Krec12 rec12 hCrec12 hKrec12 hrec12 s => ?_) 26 0
      obtain ⟨l11, e⟩ : ∃ z, z = s := ⟨_, rfl⟩
      subst e
      show CWF _ _ _ 55 [(3, cR p5), (1, cI a1), (2, cI a2), (4, cT p6 m7 l11)] [] _
      dsimp only [b_X1_ranked_55]
      refine cw_sub (ls' := [(4, cT p6 m7 l11), (3, cR p5), (1, cI a1), (2, cI a2)]) [3, 0, 1, 2] rfl ?_
      refine cw_hasNext (la := 2) rfl (Or.inr ⟨dX1_ranked_55, rfl⟩) (fun x => okF (x := ⟨"java/util/Iterator", "hasNext", "()Z"⟩) (ci := 15) (C := RJ18) (T0 := TJ18) (N := 4) (n := 0) rfl (Or.inl rfl) rfl dX1_ranked_57 (lw_F q318 q339 q337 q134 q341) (List.mem_iff_getElem?.mpr ⟨4, rfl⟩) (show ("java/util/Iterator" : String) ≠ _ ∧ ("java/util/Iterator" : String) ≠ _ ∧ (parseMethodDescriptor (md_J18_hasNext).y.desc).map (fun d => d.parameters.length) = some 0 from ⟨by decide, by decide, (hm_J18_hasNext).2.2⟩) (by decide) (by decide) (Nat.le_of_ble_eq_true rfl)) (fun x13 => ?_)
      refine cw_if_eq (tgt := 135) dX1_ranked_62 (by decide) ?_ ?_
      · refine cw_weak (c' := Crec12 + 0) (q' := Krec12 + 0) (by omega) (by omega) ?_
        refine cw_weak (c' := 0) (q' := 0) (by omega) (by omega) ?_
        refine cw_sub (ls' := [(3, cR p5), (2, cI a2)]) [1, 3] rfl ?_
        exact hJ10 ()
      · refine cw_next (la := 2) rfl (Or.inr ⟨dX1_ranked_65, rfl⟩) (fun x => okF (x := ⟨"java/util/Iterator", "next", "()Ljava/lang/Object;"⟩) (ci := 15) (C := RJ18) (T0 := TJ18) (N := 4) (n := 0) rfl (Or.inl rfl) rfl dX1_ranked_67 (lw_F q343 q432 q430 q134 q434) (List.mem_iff_getElem?.mpr ⟨6, rfl⟩) (show ("java/util/Iterator" : String) ≠ _ ∧ ("java/util/Iterator" : String) ≠ _ ∧ (parseMethodDescriptor (md_J18_next).y.desc).map (fun d => d.parameters.length) = some 0 from ⟨by decide, by decide, (hm_J18_next).2.2⟩) (by decide) (by decide) (Nat.le_of_ble_eq_true rfl)) (fun p14 => ?_)
        refine cw_cast (ci := 4) (T := TX5) (N := 5) (C := RX5) rfl rfl q762 (Or.inl rfl) dX1_ranked_72 ?_
        refine cw_astore (ls' := [(5, cR p14), (4, cT p6 m7 (l11 + 1)), (3, cR p5), (1, cI a1), (2, cI a2)]) dX1_ranked_75 (by decide) rfl ?_
        refine cw_aload_n dX1_ranked_77 rfl 2 rfl ?_
        refine cw_invI (d2 := md_J2_size) (c := Crec12 + 105) (q := Krec12 + 3548) (as := [cR p5]) (mc := 0) (ms := 0) rfl rfl (okF (x := ⟨"java/util/List", "size", "()I"⟩) (ci := 14) (C := RJ2) (T0 := TJ2) (N := 3) (n := 0) rfl (Or.inr ⟨rfl, rfl⟩) rfl dX1_ranked_78 (lw_F q246 q251 q249 q114 q253) (List.mem_iff_getElem?.mpr ⟨1, rfl⟩) (show ("java/util/List" : String) ≠ _ ∧ ("java/util/List" : String) ≠ _ ∧ (parseMethodDescriptor (md_J2_size).y.desc).map (fun d => d.parameters.length) = some 0 from ⟨by decide, by decide, (hm_J2_size).2.2⟩) (by decide) (by decide) (Nat.le_of_ble_eq_true rfl)) (c_size p5) rfl (fun x15 => ?_)
        refine cw_istore (ls' := [(6, cI x15), (5, cR p14), (4, cT p6 m7 (l11 + 1)), (3, cR p5), (1, cI a1), (2, cI a2)]) dX1_ranked_83 (by decide) rfl ?_
        refine cw_jn (cj := Crec12 + 1) (kj := Krec12 + 64) (pcj := 122) (lsf := fun (s : Int32) => [(5, cR p14), (4, cT p6 m7 (l11 + 1)), (3, cR p5), (1, cI a1), (2, cI a2), (6, cI s)]) (stf := fun (s : Int32) => []) (fun s => ?_) (fun J17 hJ17 => ?_)
        · obtain ⟨v16, e⟩ : ∃ z, z = s := ⟨_, rfl⟩
          subst e
          show CWF _ _ _ 122 [(5, cR p14), (4, cT p6 m7 (l11 + 1)), (3, cR p5), (1, cI a1), (2, cI a2), (6, cI v16)] [] _
          refine cw_aload_n dX1_ranked_122 rfl 2 rfl ?_
          refine cw_iload dX1_ranked_123 5 rfl ?_
          refine cw_aload dX1_ranked_125 0 rfl ?_
          refine cw_invV (d2 := md_J2_add_3) (c := Crec12 + 0) (q := Krec12 + 0) (as := [cR p5, cI v16, cR p14]) (mc := 1) (ms := 64) rfl rfl (okF (x := ⟨"java/util/List", "add", "(ILjava/lang/Object;)V"⟩) (ci := 14) (C := RJ2) (T0 := TJ2) (N := 3) (n := 2) rfl (Or.inr ⟨rfl, rfl⟩) rfl dX1_ranked_127 (lw_F q2067 q1462 q1460 q114 q1464) (List.mem_iff_getElem?.mpr ⟨12, rfl⟩) (show ("java/util/List" : String) ≠ _ ∧ ("java/util/List" : String) ≠ _ ∧ (parseMethodDescriptor (md_J2_add_3).y.desc).map (fun d => d.parameters.length) = some 2 from ⟨by decide, by decide, (hm_J2_add_3).2.2⟩) (by decide) (by decide) (Nat.le_of_ble_eq_true rfl)) (c_insert p5 v16 p14) rfl ?_
          refine cw_goto (tgt := 55) dX1_ranked_132 (by decide) ?_
          refine cw_sub (ls' := [(3, cR p5), (1, cI a1), (2, cI a2), (4, cT p6 m7 (l11 + 1))]) [2, 3, 4, 1] rfl ?_
          exact hrec12 (l11 + 1)
        · refine cw_sub (ls' := [(5, cR p14), (4, cT p6 m7 (l11 + 1)), (3, cR p5), (1, cI a1), (2, cI a2), (6, cI x15)]) [1, 2, 3, 4, 5, 0] rfl ?_
          refine cw_weak (c' := Crec12 + 1 + 26 * 4) (q' := Krec12 + 64 + 26 * 134) (by omega) (by omega) ?_
          refine cw_loop (ce := Crec12 + 1) (ke := Krec12 + 64) (cb := 4) (kb := 134) (lsf := fun (s : Int32) => [(5, cR p14), (4, cT p6 m7 (l11 + 1)), (3, cR p5), (1, cI a1), (2, cI a2), (6, cI s)]) (fun Crec19 Krec19 rec19 hCrec19 hKrec19 hrec19 s => ?_) 26 x15
          obtain ⟨l18, e⟩ : ∃ z, z = s := ⟨_, rfl⟩
          subst e
          show CWF _ _ _ 85 [(5, cR p14), (4, cT p6 m7 (l11 + 1)), (3, cR p5), (1, cI a1), (2, cI a2), (6, cI l18)] [] _
          dsimp only [b_X1_ranked_85]
          refine cw_iload dX1_ranked_85 5 rfl ?_
          refine cw_if_le (tgt := 122) dX1_ranked_87 (by decide) ?_ ?_
          · refine cw_weak (c' := Crec19 + 0) (q' := Krec19 + 0) (by omega) (by omega) ?_
            refine cw_weak (c' := Crec12 + 1) (q' := Krec12 + 64) (by omega) (by omega) ?_
            exact hJ17 l18
          · refine cw_aload_n dX1_ranked_90 rfl 2 rfl ?_
            refine cw_iload dX1_ranked_91 5 rfl ?_
            refine cw_iconst (v := 1) dX1_ranked_93 (by decide) ?_
            refine cw_isub dX1_ranked_94 ?_
            refine cw_invP (d2 := md_J2_get) (c := Crec19 + 4) (q := Krec19 + 134) (as := [cR p5, cI (l18 - 1)]) (mc := 0) (ms := 0) rfl rfl (okF (x := ⟨"java/util/List", "get", "(I)Ljava/lang/Object;"⟩) (ci := 14) (C := RJ2) (T0 := TJ2) (N := 3) (n := 1) rfl (Or.inr ⟨rfl, rfl⟩) rfl dX1_ranked_95 (lw_F q262 q267 q265 q114 q269) (List.mem_iff_getElem?.mpr ⟨2, rfl⟩) (show ("java/util/List" : String) ≠ _ ∧ ("java/util/List" : String) ≠ _ ∧ (parseMethodDescriptor (md_J2_get).y.desc).map (fun d => d.parameters.length) = some 1 from ⟨by decide, by decide, (hm_J2_get).2.2⟩) (by decide) (by decide) (Nat.le_of_ble_eq_true rfl)) (c_get p5 (l18 - 1)) rfl (fun p20 => ?_)
            refine cw_cast (ci := 4) (T := TX5) (N := 5) (C := RX5) rfl rfl q762 (Or.inl rfl) dX1_ranked_100 ?_
            refine cw_iload_n dX1_ranked_103 rfl 3 rfl ?_
            refine cw_invI (d2 := md_X5_rank) (c := Crec19 + 2) (q := Krec19 + 67) (as := [cR p20, cI a1]) (mc := 2) (ms := 67) rfl rfl (okV (ci := 4) (C := RX5) (T0 := TX5) (N := 5) (n := 1) rfl rfl rfl dX1_ranked_104 (lw_V q1967 q1968 q1969 q136 q1970) ⟨rfl, hm_X5_rank⟩ (by decide) (by decide) (Nat.le_of_ble_eq_true rfl)) (m_X5_rank p20 a1) rfl (fun x21 => ?_)
            refine cw_aload dX1_ranked_107 0 rfl ?_
            refine cw_iload_n dX1_ranked_109 rfl 3 rfl ?_
            refine cw_invI (d2 := md_X5_rank) (c := Crec19 + 0) (q := Krec19 + 0) (as := [cR p14, cI a1]) (mc := 2) (ms := 67) rfl rfl (okV (ci := 4) (C := RX5) (T0 := TX5) (N := 5) (n := 1) rfl rfl rfl dX1_ranked_110 (lw_V q1967 q1968 q1969 q136 q1970) ⟨rfl, hm_X5_rank⟩ (by decide) (by decide) (Nat.le_of_ble_eq_true rfl)) (m_X5_rank p14 a1) rfl (fun x22 => ?_)
            refine cw_icmp_ge (tgt := 122) dX1_ranked_113 (by decide) ?_ ?_
            · refine cw_weak (c' := Crec12 + 1) (q' := Krec12 + 64) (by omega) (by omega) ?_
              exact hJ17 l18
            · refine cw_iinc (v := (l18 + (-1))) (ls' := [(6, cI (l18 + (-1))), (5, cR p14), (4, cT p6 m7 (l11 + 1)), (3, cR p5), (1, cI a1), (2, cI a2)]) dX1_ranked_116 5 rfl rfl (by decide) rfl ?_
              refine cw_goto (tgt := 85) dX1_ranked_119 (by decide) ?_
              refine cw_sub (ls' := [(5, cR p14), (4, cT p6 m7 (l11 + 1)), (3, cR p5), (1, cI a1), (2, cI a2), (6, cI (l18 + (-1)))]) [1, 2, 3, 4, 5, 0] rfl ?_
              exact hrec19 (l18 + (-1))
  · refine cw_weak (c' := 1) (q' := 6) (by omega) (by omega) ?_
    exact cw_throw0 (c := 0) (q := 0) (ik := 483) (ic := 485) (cls := "java/util/NoSuchElementException") (names := ["java/lang/RuntimeException", "java/lang/Exception"]) (by decide +kernel) (by decide +kernel) q2057 q135 tw_NoSuchElementException tg_NoSuchElementException (by decide +kernel) dX1_ranked_28 dX1_ranked_31 dX1_ranked_32 dX1_ranked_35 (by decide) (by decide) (Nat.le_of_ble_eq_true rfl)
def g_X6_lambda_allocated_6 (a0 : Nat) (a1 : Int32) (a2 : Int32) (a3 : Nat) : GF :=
  invI (some (a0, 25)) (g_X6_count a0 a1 a3 a2) fun x1 =>
  retG (rI x1)
abbrev md_X6_lambda_allocated_6 : MD := (yX6_lambda_allocated_6, cX6_lambda_allocated_6, 4, (some (Jvm.ClassFile.FieldType.int)), RX6, 17, 0, 0)
theorem hm_X6_lambda_allocated_6 : (md_X6_lambda_allocated_6).y.cls ≠ "java/lang/invoke/MethodHandle" ∧ (md_X6_lambda_allocated_6).y.cls ≠ "java/lang/invoke/VarHandle" ∧ (parseMethodDescriptor (md_X6_lambda_allocated_6).y.desc).map (fun d => d.parameters.length) = some 3 := by decide +kernel
theorem m_X6_lambda_allocated_6 (a0 : Nat) (a1 : Int32) (a2 : Int32) (a3 : Nat) : CMF md_X6_lambda_allocated_6 [cR a0, cI a1, cI a2, cR a3] (g_X6_lambda_allocated_6 a0 a1 a2 a3) := by
  refine cm_of (by decide +kernel) rfl (Nat.le_of_ble_eq_true rfl) ?_
  show CWF _ 0 0 0 [(0, cR a0), (1, cI a1), (2, cI a2), (3, cR a3)] [] _
  unfold g_X6_lambda_allocated_6
  refine cw_aload_n dX6_lambda_allocated_6_0 rfl 0 rfl ?_
  refine cw_iload_n dX6_lambda_allocated_6_1 rfl 1 rfl ?_
  refine cw_aload_n dX6_lambda_allocated_6_2 rfl 3 rfl ?_
  refine cw_iload_n dX6_lambda_allocated_6_3 rfl 2 rfl ?_
  refine cw_invI (d2 := md_X6_count) (c := 0) (q := 0) (as := [cR a0, cI a1, cR a3, cI a2]) (mc := 0) (ms := 0) rfl rfl (okV (ci := 5) (C := RX6) (T0 := TX6) (N := 19) (n := 3) rfl rfl rfl dX6_lambda_allocated_6_4 (lw_V q550 q551 q552 q137 q553) ⟨rfl, hm_X6_count⟩ (by decide) (by decide) (Nat.le_of_ble_eq_true rfl)) (m_X6_count a0 a1 a3 a2) rfl (fun x1 => ?_)
  exact cw_iret rfl dX6_lambda_allocated_6_7
def g_X6_lambda_allocated_7 (a0 : Nat) (a1 : Int32) (a2 : Int32) (a3 : Nat) : GF :=
  invI (some (a0, 25)) (g_X6_sum a0 a1 a3 a2) fun x1 =>
  retG (rI (-x1))
abbrev md_X6_lambda_allocated_7 : MD := (yX6_lambda_allocated_7, cX6_lambda_allocated_7, 4, (some (Jvm.ClassFile.FieldType.int)), RX6, 17, 0, 0)
theorem hm_X6_lambda_allocated_7 : (md_X6_lambda_allocated_7).y.cls ≠ "java/lang/invoke/MethodHandle" ∧ (md_X6_lambda_allocated_7).y.cls ≠ "java/lang/invoke/VarHandle" ∧ (parseMethodDescriptor (md_X6_lambda_allocated_7).y.desc).map (fun d => d.parameters.length) = some 3 := by decide +kernel
theorem m_X6_lambda_allocated_7 (a0 : Nat) (a1 : Int32) (a2 : Int32) (a3 : Nat) : CMF md_X6_lambda_allocated_7 [cR a0, cI a1, cI a2, cR a3] (g_X6_lambda_allocated_7 a0 a1 a2 a3) := by
  refine cm_of (by decide +kernel) rfl (Nat.le_of_ble_eq_true rfl) ?_
  show CWF _ 0 0 0 [(0, cR a0), (1, cI a1), (2, cI a2), (3, cR a3)] [] _
  unfold g_X6_lambda_allocated_7
  refine cw_aload_n dX6_lambda_allocated_7_0 rfl 0 rfl ?_
  refine cw_iload_n dX6_lambda_allocated_7_1 rfl 1 rfl ?_
  refine cw_aload_n dX6_lambda_allocated_7_2 rfl 3 rfl ?_
  refine cw_iload_n dX6_lambda_allocated_7_3 rfl 2 rfl ?_
  refine cw_invI (d2 := md_X6_sum) (c := 0) (q := 0) (as := [cR a0, cI a1, cR a3, cI a2]) (mc := 0) (ms := 0) rfl rfl (okV (ci := 5) (C := RX6) (T0 := TX6) (N := 19) (n := 3) rfl rfl rfl dX6_lambda_allocated_7_4 (lw_V q672 q673 q674 q137 q675) ⟨rfl, hm_X6_sum⟩ (by decide) (by decide) (Nat.le_of_ble_eq_true rfl)) (m_X6_sum a0 a1 a3 a2) rfl (fun x1 => ?_)
  refine cw_ineg dX6_lambda_allocated_7_7 ?_
  exact cw_iret rfl dX6_lambda_allocated_7_8
def g_X6_lambda_allocated_8 (a0 : Nat) (a1 : Nat) : GF :=
  invI (some (a0, 8)) (s_contains a0 a1) fun x1 =>
  retZ x1
abbrev md_X6_lambda_allocated_8 : MD := (yX6_lambda_allocated_8, cX6_lambda_allocated_8, 2, (some (Jvm.ClassFile.FieldType.boolean)), RX6, 16, 0, 0)
theorem hm_X6_lambda_allocated_8 : (md_X6_lambda_allocated_8).y.cls ≠ "java/lang/invoke/MethodHandle" ∧ (md_X6_lambda_allocated_8).y.cls ≠ "java/lang/invoke/VarHandle" ∧ (parseMethodDescriptor (md_X6_lambda_allocated_8).y.desc).map (fun d => d.parameters.length) = some 2 := by decide +kernel
theorem m_X6_lambda_allocated_8 (a0 : Nat) (a1 : Nat) : CMF md_X6_lambda_allocated_8 [cR a0, cR a1] (g_X6_lambda_allocated_8 a0 a1) := by
  refine cm_of (by decide +kernel) rfl (Nat.le_of_ble_eq_true rfl) ?_
  show CWF _ 0 0 0 [(0, cR a0), (1, cR a1)] [] _
  unfold g_X6_lambda_allocated_8
  refine cw_aload_n dX6_lambda_allocated_8_0 rfl 0 rfl ?_
  refine cw_aload_n dX6_lambda_allocated_8_1 rfl 1 rfl ?_
  refine cw_invI (d2 := md_J2_contains) (c := 0) (q := 0) (as := [cR a0, cR a1]) (mc := 0) (ms := 0) rfl rfl (okF (x := ⟨"java/util/List", "contains", "(Ljava/lang/Object;)Z"⟩) (ci := 14) (C := RJ2) (T0 := TJ2) (N := 3) (n := 1) rfl (Or.inr ⟨rfl, rfl⟩) rfl dX6_lambda_allocated_8_2 (lw_F q681 q686 q684 q114 q688) (List.mem_iff_getElem?.mpr ⟨10, rfl⟩) (show ("java/util/List" : String) ≠ _ ∧ ("java/util/List" : String) ≠ _ ∧ (parseMethodDescriptor (md_J2_contains).y.desc).map (fun d => d.parameters.length) = some 1 from ⟨by decide, by decide, (hm_J2_contains).2.2⟩) (by decide) (by decide) (Nat.le_of_ble_eq_true rfl)) (c_contains a0 a1) rfl (fun x1 => ?_)
  exact cw_zret rfl dX6_lambda_allocated_8_7
def g_X6_lambda_decides_4 (a0 : Nat) : GF :=
  getI 27 a0 8 fun x1 =>
  retG (rI (-x1))
abbrev md_X6_lambda_decides_4 : MD := (yX6_lambda_decides_4, cX6_lambda_decides_4, 1, (some (Jvm.ClassFile.FieldType.int)), RX6, 10, 0, 0)
theorem hm_X6_lambda_decides_4 : (md_X6_lambda_decides_4).y.cls ≠ "java/lang/invoke/MethodHandle" ∧ (md_X6_lambda_decides_4).y.cls ≠ "java/lang/invoke/VarHandle" ∧ (parseMethodDescriptor (md_X6_lambda_decides_4).y.desc).map (fun d => d.parameters.length) = some 1 := by decide +kernel
theorem m_X6_lambda_decides_4 (a0 : Nat) : CMF md_X6_lambda_decides_4 [cR a0] (g_X6_lambda_decides_4 a0) := by
  refine cm_of (by decide +kernel) rfl (Nat.le_of_ble_eq_true rfl) ?_
  show CWF _ 0 0 0 [(0, cR a0)] [] _
  unfold g_X6_lambda_decides_4
  refine cw_aload_n dX6_lambda_decides_4_0 rfl 0 rfl ?_
  refine cw_getI (ci := 7) (j := 8) (C := RX8) (T := TX8) (N := 10) rfl (by decide) rfl rfl (Or.inr ⟨_, q1268⟩) fSame_rfl dX6_lambda_decides_4_1 (fun x1 => ?_)
  refine cw_ineg dX6_lambda_decides_4_4 ?_
  exact cw_iret rfl dX6_lambda_decides_4_5
def b_X6_wins_5 (a0 : Nat) (a1 : Nat) (a2 : Int32) (rec3 : (Int32 × Int32) → GF) : (Int32 × Int32) → GF := fun (s : Int32 × Int32) => match s with
  | (l1, l2) =>
    getI 25 a0 2 fun x4 =>
    if l2 < x4 then
      getP 27 a1 3 fun p5 =>
      ialdG 1 p5 l2 fun x6 =>
      jnG (fun (v7 : Int32) =>
        rec3 ((l1 + v7), (l2 + 1))) fun J8 =>
      if x6 ≤ (2 * a2) then
        J8 1
      else
        J8 0
    else
      retG (rI l1)
def g_X6_wins (a0 : Nat) (a1 : Nat) (a2 : Int32) : GF :=
  loopG (b_X6_wins_5 a0 a1 a2) FU (0, 0)
abbrev md_X6_wins : MD := (yX6_wins, cX6_wins, 5, (some (Jvm.ClassFile.FieldType.int)), RX6, 10, 0, 0)
theorem hm_X6_wins : (md_X6_wins).y.cls ≠ "java/lang/invoke/MethodHandle" ∧ (md_X6_wins).y.cls ≠ "java/lang/invoke/VarHandle" ∧ (parseMethodDescriptor (md_X6_wins).y.desc).map (fun d => d.parameters.length) = some 2 := by decide +kernel
theorem m_X6_wins (a0 : Nat) (a1 : Nat) (a2 : Int32) : CMF md_X6_wins [cR a0, cR a1, cI a2] (g_X6_wins a0 a1 a2) := by
  refine cm_of (by decide +kernel) rfl (Nat.le_of_ble_eq_true rfl) ?_
  show CWF _ 0 0 0 [(0, cR a0), (1, cR a1), (2, cI a2)] [] _
  unfold g_X6_wins
  refine cw_iconst (v := 0) dX6_wins_0 (by decide) ?_
  refine cw_istore_n (ls' := [(3, cI 0), (0, cR a0), (1, cR a1), (2, cI a2)]) dX6_wins_1 rfl (by decide) rfl ?_
  refine cw_iconst (v := 0) dX6_wins_2 (by decide) ?_
  refine cw_istore (ls' := [(4, cI 0), (3, cI 0), (0, cR a0), (1, cR a1), (2, cI a2)]) dX6_wins_3 (by decide) rfl ?_
  refine cw_sub (ls' := [(0, cR a0), (1, cR a1), (2, cI a2), (3, cI 0), (4, cI 0)]) [2, 3, 4, 1, 0] rfl ?_
  refine cw_loop0 (lsf := fun (s : Int32 × Int32) => [(0, cR a0), (1, cR a1), (2, cI a2), (3, cI s.1), (4, cI s.2)]) (fun rec3 hrec3 s => ?_) FU (0, 0)
  obtain ⟨l1, l2⟩ := s
  show CWF _ _ _ 5 [(0, cR a0), (1, cR a1), (2, cI a2), (3, cI l1), (4, cI l2)] [] _
  dsimp only [b_X6_wins_5]
  refine cw_iload dX6_wins_5 4 rfl ?_
  refine cw_aload_n dX6_wins_7 rfl 0 rfl ?_
  refine cw_getI (ci := 5) (j := 2) (C := RX6) (T := TX6) (N := 19) rfl (by decide) rfl rfl (Or.inl q1089) fSame_rfl dX6_wins_8 (fun x4 => ?_)
  refine cw_icmp_ge (tgt := 41) dX6_wins_11 (by decide) ?_ ?_
  · refine cw_iload_n dX6_wins_41 rfl 3 rfl ?_
    exact cw_iret rfl dX6_wins_42
  · refine cw_iload_n dX6_wins_14 rfl 3 rfl ?_
    refine cw_aload_n dX6_wins_15 rfl 1 rfl ?_
    refine cw_getP (ci := 7) (j := 3) (C := RX8) (T := TX8) (N := 10) rfl (by decide) rfl rfl (Or.inr ⟨_, q1257⟩) fSame_rfl dX6_wins_16 (fun p5 => ?_)
    refine cw_iload dX6_wins_19 4 rfl ?_
    refine cw_iald dX6_wins_21 (fun x6 => ?_)
    refine cw_iconst (v := 2) dX6_wins_22 (by decide) ?_
    refine cw_iload_n dX6_wins_23 rfl 2 rfl ?_
    refine cw_imul dX6_wins_24 ?_
    refine cw_jn (cj := 0) (kj := 0) (pcj := 33) (lsf := fun (s : Int32) => [(0, cR a0), (1, cR a1), (2, cI a2), (4, cI l2)]) (stf := fun (s : Int32) => [cI s, cI l1]) (fun s => ?_) (fun J8 hJ8 => ?_)
    · obtain ⟨v7, e⟩ : ∃ z, z = s := ⟨_, rfl⟩
      subst e
      show CWF _ _ _ 33 [(0, cR a0), (1, cR a1), (2, cI a2), (4, cI l2)] [cI v7, cI l1] _
      refine cw_iadd dX6_wins_33 ?_
      refine cw_istore_n (ls' := [(3, cI (l1 + v7)), (0, cR a0), (1, cR a1), (2, cI a2), (4, cI l2)]) dX6_wins_34 rfl (by decide) rfl ?_
      refine cw_iinc (v := (l2 + 1)) (ls' := [(4, cI (l2 + 1)), (3, cI (l1 + v7)), (0, cR a0), (1, cR a1), (2, cI a2)]) dX6_wins_35 4 rfl rfl (by decide) rfl ?_
      refine cw_goto (tgt := 5) dX6_wins_38 (by decide) ?_
      refine cw_sub (ls' := [(0, cR a0), (1, cR a1), (2, cI a2), (3, cI (l1 + v7)), (4, cI (l2 + 1))]) [2, 3, 4, 1, 0] rfl ?_
      exact hrec3 ((l1 + v7), (l2 + 1))
    · refine cw_icmp_gt (tgt := 32) dX6_wins_25 (by decide) ?_ ?_
      · refine cw_iconst (v := 0) dX6_wins_32 (by decide) ?_
        refine cw_sub (ls' := [(0, cR a0), (1, cR a1), (2, cI a2), (4, cI l2)]) [0, 1, 2, 4] rfl ?_
        exact hJ8 0
      · refine cw_iconst (v := 1) dX6_wins_28 (by decide) ?_
        refine cw_goto (tgt := 33) dX6_wins_29 (by decide) ?_
        refine cw_sub (ls' := [(0, cR a0), (1, cR a1), (2, cI a2), (4, cI l2)]) [0, 1, 2, 4] rfl ?_
        exact hJ8 1
def g_X6_lambda_shares_2 (a0 : Nat) (a1 : Int32) (a2 : Nat) : GF :=
  invI (some (a0, 25)) (g_X6_wins a0 a2 a1) fun x1 =>
  retG (rI x1)
abbrev md_X6_lambda_shares_2 : MD := (yX6_lambda_shares_2, cX6_lambda_shares_2, 3, (some (Jvm.ClassFile.FieldType.int)), RX6, 11, 0, 0)
theorem hm_X6_lambda_shares_2 : (md_X6_lambda_shares_2).y.cls ≠ "java/lang/invoke/MethodHandle" ∧ (md_X6_lambda_shares_2).y.cls ≠ "java/lang/invoke/VarHandle" ∧ (parseMethodDescriptor (md_X6_lambda_shares_2).y.desc).map (fun d => d.parameters.length) = some 2 := by decide +kernel
theorem m_X6_lambda_shares_2 (a0 : Nat) (a1 : Int32) (a2 : Nat) : CMF md_X6_lambda_shares_2 [cR a0, cI a1, cR a2] (g_X6_lambda_shares_2 a0 a1 a2) := by
  refine cm_of (by decide +kernel) rfl (Nat.le_of_ble_eq_true rfl) ?_
  show CWF _ 0 0 0 [(0, cR a0), (1, cI a1), (2, cR a2)] [] _
  unfold g_X6_lambda_shares_2
  refine cw_aload_n dX6_lambda_shares_2_0 rfl 0 rfl ?_
  refine cw_aload_n dX6_lambda_shares_2_1 rfl 2 rfl ?_
  refine cw_iload_n dX6_lambda_shares_2_2 rfl 1 rfl ?_
  refine cw_invI (d2 := md_X6_wins) (c := 0) (q := 0) (as := [cR a0, cR a2, cI a1]) (mc := 0) (ms := 0) rfl rfl (okV (ci := 5) (C := RX6) (T0 := TX6) (N := 19) (n := 2) rfl rfl rfl dX6_lambda_shares_2_3 (lw_V q1783 q1785 qs19 q137 q1786) ⟨rfl, hm_X6_wins⟩ (by decide) (by decide) (Nat.le_of_ble_eq_true rfl)) (m_X6_wins a0 a2 a1) rfl (fun x1 => ?_)
  exact cw_iret rfl dX6_lambda_shares_2_6
def b_X6_low_5 (a0 : Nat) (a1 : Nat) (a2 : Int32) (rec3 : (Int32 × Int32) → GF) : (Int32 × Int32) → GF := fun (s : Int32 × Int32) => match s with
  | (l1, l2) =>
    getI 25 a0 2 fun x4 =>
    if l2 < x4 then
      getP 27 a1 3 fun p5 =>
      ialdG 1 p5 l2 fun x6 =>
      jnG (fun (v7 : Int32) =>
        rec3 ((l1 + v7), (l2 + 1))) fun J8 =>
      if x6 ≤ (2 * a2) then
        getP 27 a1 3 fun p9 =>
        ialdG 1 p9 l2 fun x10 =>
        J8 x10
      else
        J8 0
    else
      retG (rI l1)
def g_X6_low (a0 : Nat) (a1 : Nat) (a2 : Int32) : GF :=
  loopG (b_X6_low_5 a0 a1 a2) FU (0, 0)
abbrev md_X6_low : MD := (yX6_low, cX6_low, 5, (some (Jvm.ClassFile.FieldType.int)), RX6, 10, 0, 0)
theorem hm_X6_low : (md_X6_low).y.cls ≠ "java/lang/invoke/MethodHandle" ∧ (md_X6_low).y.cls ≠ "java/lang/invoke/VarHandle" ∧ (parseMethodDescriptor (md_X6_low).y.desc).map (fun d => d.parameters.length) = some 2 := by decide +kernel
theorem m_X6_low (a0 : Nat) (a1 : Nat) (a2 : Int32) : CMF md_X6_low [cR a0, cR a1, cI a2] (g_X6_low a0 a1 a2) := by
  refine cm_of (by decide +kernel) rfl (Nat.le_of_ble_eq_true rfl) ?_
  show CWF _ 0 0 0 [(0, cR a0), (1, cR a1), (2, cI a2)] [] _
  unfold g_X6_low
  refine cw_iconst (v := 0) dX6_low_0 (by decide) ?_
  refine cw_istore_n (ls' := [(3, cI 0), (0, cR a0), (1, cR a1), (2, cI a2)]) dX6_low_1 rfl (by decide) rfl ?_
  refine cw_iconst (v := 0) dX6_low_2 (by decide) ?_
  refine cw_istore (ls' := [(4, cI 0), (3, cI 0), (0, cR a0), (1, cR a1), (2, cI a2)]) dX6_low_3 (by decide) rfl ?_
  refine cw_sub (ls' := [(0, cR a0), (1, cR a1), (2, cI a2), (3, cI 0), (4, cI 0)]) [2, 3, 4, 1, 0] rfl ?_
  refine cw_loop0 (lsf := fun (s : Int32 × Int32) => [(0, cR a0), (1, cR a1), (2, cI a2), (3, cI s.1), (4, cI s.2)]) (fun rec3 hrec3 s => ?_) FU (0, 0)
  obtain ⟨l1, l2⟩ := s
  show CWF _ _ _ 5 [(0, cR a0), (1, cR a1), (2, cI a2), (3, cI l1), (4, cI l2)] [] _
  dsimp only [b_X6_low_5]
  refine cw_iload dX6_low_5 4 rfl ?_
  refine cw_aload_n dX6_low_7 rfl 0 rfl ?_
  refine cw_getI (ci := 5) (j := 2) (C := RX6) (T := TX6) (N := 19) rfl (by decide) rfl rfl (Or.inl q1089) fSame_rfl dX6_low_8 (fun x4 => ?_)
  refine cw_icmp_ge (tgt := 47) dX6_low_11 (by decide) ?_ ?_
  · refine cw_iload_n dX6_low_47 rfl 3 rfl ?_
    exact cw_iret rfl dX6_low_48
  · refine cw_iload_n dX6_low_14 rfl 3 rfl ?_
    refine cw_aload_n dX6_low_15 rfl 1 rfl ?_
    refine cw_getP (ci := 7) (j := 3) (C := RX8) (T := TX8) (N := 10) rfl (by decide) rfl rfl (Or.inr ⟨_, q1257⟩) fSame_rfl dX6_low_16 (fun p5 => ?_)
    refine cw_iload dX6_low_19 4 rfl ?_
    refine cw_iald dX6_low_21 (fun x6 => ?_)
    refine cw_iconst (v := 2) dX6_low_22 (by decide) ?_
    refine cw_iload_n dX6_low_23 rfl 2 rfl ?_
    refine cw_imul dX6_low_24 ?_
    refine cw_jn (cj := 0) (kj := 0) (pcj := 39) (lsf := fun (s : Int32) => [(0, cR a0), (1, cR a1), (2, cI a2), (4, cI l2)]) (stf := fun (s : Int32) => [cI s, cI l1]) (fun s => ?_) (fun J8 hJ8 => ?_)
    · obtain ⟨v7, e⟩ : ∃ z, z = s := ⟨_, rfl⟩
      subst e
      show CWF _ _ _ 39 [(0, cR a0), (1, cR a1), (2, cI a2), (4, cI l2)] [cI v7, cI l1] _
      refine cw_iadd dX6_low_39 ?_
      refine cw_istore_n (ls' := [(3, cI (l1 + v7)), (0, cR a0), (1, cR a1), (2, cI a2), (4, cI l2)]) dX6_low_40 rfl (by decide) rfl ?_
      refine cw_iinc (v := (l2 + 1)) (ls' := [(4, cI (l2 + 1)), (3, cI (l1 + v7)), (0, cR a0), (1, cR a1), (2, cI a2)]) dX6_low_41 4 rfl rfl (by decide) rfl ?_
      refine cw_goto (tgt := 5) dX6_low_44 (by decide) ?_
      refine cw_sub (ls' := [(0, cR a0), (1, cR a1), (2, cI a2), (3, cI (l1 + v7)), (4, cI (l2 + 1))]) [2, 3, 4, 1, 0] rfl ?_
      exact hrec3 ((l1 + v7), (l2 + 1))
    · refine cw_icmp_gt (tgt := 38) dX6_low_25 (by decide) ?_ ?_
      · refine cw_iconst (v := 0) dX6_low_38 (by decide) ?_
        refine cw_sub (ls' := [(0, cR a0), (1, cR a1), (2, cI a2), (4, cI l2)]) [0, 1, 2, 4] rfl ?_
        exact hJ8 0
      · refine cw_aload_n dX6_low_28 rfl 1 rfl ?_
        refine cw_getP (ci := 7) (j := 3) (C := RX8) (T := TX8) (N := 10) rfl (by decide) rfl rfl (Or.inr ⟨_, q1257⟩) fSame_rfl dX6_low_29 (fun p9 => ?_)
        refine cw_iload dX6_low_32 4 rfl ?_
        refine cw_iald dX6_low_34 (fun x10 => ?_)
        refine cw_goto (tgt := 39) dX6_low_35 (by decide) ?_
        refine cw_sub (ls' := [(0, cR a0), (1, cR a1), (2, cI a2), (4, cI l2)]) [0, 1, 2, 4] rfl ?_
        exact hJ8 x10
def g_X6_lambda_shares_3 (a0 : Nat) (a1 : Int32) (a2 : Nat) : GF :=
  invI (some (a0, 25)) (g_X6_low a0 a2 a1) fun x1 =>
  retG (rI (-x1))
abbrev md_X6_lambda_shares_3 : MD := (yX6_lambda_shares_3, cX6_lambda_shares_3, 3, (some (Jvm.ClassFile.FieldType.int)), RX6, 11, 0, 0)
theorem hm_X6_lambda_shares_3 : (md_X6_lambda_shares_3).y.cls ≠ "java/lang/invoke/MethodHandle" ∧ (md_X6_lambda_shares_3).y.cls ≠ "java/lang/invoke/VarHandle" ∧ (parseMethodDescriptor (md_X6_lambda_shares_3).y.desc).map (fun d => d.parameters.length) = some 2 := by decide +kernel
theorem m_X6_lambda_shares_3 (a0 : Nat) (a1 : Int32) (a2 : Nat) : CMF md_X6_lambda_shares_3 [cR a0, cI a1, cR a2] (g_X6_lambda_shares_3 a0 a1 a2) := by
  refine cm_of (by decide +kernel) rfl (Nat.le_of_ble_eq_true rfl) ?_
  show CWF _ 0 0 0 [(0, cR a0), (1, cI a1), (2, cR a2)] [] _
  unfold g_X6_lambda_shares_3
  refine cw_aload_n dX6_lambda_shares_3_0 rfl 0 rfl ?_
  refine cw_aload_n dX6_lambda_shares_3_1 rfl 2 rfl ?_
  refine cw_iload_n dX6_lambda_shares_3_2 rfl 1 rfl ?_
  refine cw_invI (d2 := md_X6_low) (c := 0) (q := 0) (as := [cR a0, cR a2, cI a1]) (mc := 0) (ms := 0) rfl rfl (okV (ci := 5) (C := RX6) (T0 := TX6) (N := 19) (n := 2) rfl rfl rfl dX6_lambda_shares_3_3 (lw_V q1790 q1792 qs21 q137 q1793) ⟨rfl, hm_X6_low⟩ (by decide) (by decide) (Nat.le_of_ble_eq_true rfl)) (m_X6_low a0 a2 a1) rfl (fun x1 => ?_)
  refine cw_ineg dX6_lambda_shares_3_6 ?_
  exact cw_iret rfl dX6_lambda_shares_3_7
def g_X6_lambda_byAllMarks_0 (a0 : Nat) (a1 : Int32) (a2 : Nat) : GF :=
  invI (some (a0, 25)) (g_X6_countOfAll a0 a2 a1) fun x1 =>
  retG (rI x1)
abbrev md_X6_lambda_byAllMarks_0 : MD := (yX6_lambda_byAllMarks_0, cX6_lambda_byAllMarks_0, 3, (some (Jvm.ClassFile.FieldType.int)), RX6, 18, 0, 0)
theorem hm_X6_lambda_byAllMarks_0 : (md_X6_lambda_byAllMarks_0).y.cls ≠ "java/lang/invoke/MethodHandle" ∧ (md_X6_lambda_byAllMarks_0).y.cls ≠ "java/lang/invoke/VarHandle" ∧ (parseMethodDescriptor (md_X6_lambda_byAllMarks_0).y.desc).map (fun d => d.parameters.length) = some 2 := by decide +kernel
theorem m_X6_lambda_byAllMarks_0 (a0 : Nat) (a1 : Int32) (a2 : Nat) : CMF md_X6_lambda_byAllMarks_0 [cR a0, cI a1, cR a2] (g_X6_lambda_byAllMarks_0 a0 a1 a2) := by
  refine cm_of (by decide +kernel) rfl (Nat.le_of_ble_eq_true rfl) ?_
  show CWF _ 0 0 0 [(0, cR a0), (1, cI a1), (2, cR a2)] [] _
  unfold g_X6_lambda_byAllMarks_0
  refine cw_aload_n dX6_lambda_byAllMarks_0_0 rfl 0 rfl ?_
  refine cw_aload_n dX6_lambda_byAllMarks_0_1 rfl 2 rfl ?_
  refine cw_iload_n dX6_lambda_byAllMarks_0_2 rfl 1 rfl ?_
  refine cw_invI (d2 := md_X6_countOfAll) (c := 0) (q := 0) (as := [cR a0, cR a2, cI a1]) (mc := 0) (ms := 0) rfl rfl (okV (ci := 5) (C := RX6) (T0 := TX6) (N := 19) (n := 2) rfl rfl rfl dX6_lambda_byAllMarks_0_3 (lw_V q1798 q1800 qs23 q137 q1801) ⟨rfl, hm_X6_countOfAll⟩ (by decide) (by decide) (Nat.le_of_ble_eq_true rfl)) (m_X6_countOfAll a0 a2 a1) rfl (fun x1 => ?_)
  exact cw_iret rfl dX6_lambda_byAllMarks_0_6
def b_X6_sumOfAll_5 (a0 : Nat) (a1 : Nat) (a2 : Int32) (rec3 : (Int32 × Int32) → GF) : (Int32 × Int32) → GF := fun (s : Int32 × Int32) => match s with
  | (l1, l2) =>
    getI 25 a0 2 fun x4 =>
    if l2 < x4 then
      invI (some (a0, 25)) (g_X6_sum a0 l2 a1 a2) fun x5 =>
      rec3 ((l1 + x5), (l2 + 1))
    else
      retG (rI l1)
def g_X6_sumOfAll (a0 : Nat) (a1 : Nat) (a2 : Int32) : GF :=
  loopG (b_X6_sumOfAll_5 a0 a1 a2) FU (0, 0)
abbrev md_X6_sumOfAll : MD := (yX6_sumOfAll, cX6_sumOfAll, 5, (some (Jvm.ClassFile.FieldType.int)), RX6, 17, 0, 0)
theorem hm_X6_sumOfAll : (md_X6_sumOfAll).y.cls ≠ "java/lang/invoke/MethodHandle" ∧ (md_X6_sumOfAll).y.cls ≠ "java/lang/invoke/VarHandle" ∧ (parseMethodDescriptor (md_X6_sumOfAll).y.desc).map (fun d => d.parameters.length) = some 2 := by decide +kernel
theorem m_X6_sumOfAll (a0 : Nat) (a1 : Nat) (a2 : Int32) : CMF md_X6_sumOfAll [cR a0, cR a1, cI a2] (g_X6_sumOfAll a0 a1 a2) := by
  refine cm_of (by decide +kernel) rfl (Nat.le_of_ble_eq_true rfl) ?_
  show CWF _ 0 0 0 [(0, cR a0), (1, cR a1), (2, cI a2)] [] _
  unfold g_X6_sumOfAll
  refine cw_iconst (v := 0) dX6_sumOfAll_0 (by decide) ?_
  refine cw_istore_n (ls' := [(3, cI 0), (0, cR a0), (1, cR a1), (2, cI a2)]) dX6_sumOfAll_1 rfl (by decide) rfl ?_
  refine cw_iconst (v := 0) dX6_sumOfAll_2 (by decide) ?_
  refine cw_istore (ls' := [(4, cI 0), (3, cI 0), (0, cR a0), (1, cR a1), (2, cI a2)]) dX6_sumOfAll_3 (by decide) rfl ?_
  refine cw_sub (ls' := [(0, cR a0), (1, cR a1), (2, cI a2), (3, cI 0), (4, cI 0)]) [2, 3, 4, 1, 0] rfl ?_
  refine cw_loop0 (lsf := fun (s : Int32 × Int32) => [(0, cR a0), (1, cR a1), (2, cI a2), (3, cI s.1), (4, cI s.2)]) (fun rec3 hrec3 s => ?_) FU (0, 0)
  obtain ⟨l1, l2⟩ := s
  show CWF _ _ _ 5 [(0, cR a0), (1, cR a1), (2, cI a2), (3, cI l1), (4, cI l2)] [] _
  dsimp only [b_X6_sumOfAll_5]
  refine cw_iload dX6_sumOfAll_5 4 rfl ?_
  refine cw_aload_n dX6_sumOfAll_7 rfl 0 rfl ?_
  refine cw_getI (ci := 5) (j := 2) (C := RX6) (T := TX6) (N := 19) rfl (by decide) rfl rfl (Or.inl q1089) fSame_rfl dX6_sumOfAll_8 (fun x4 => ?_)
  refine cw_icmp_ge (tgt := 31) dX6_sumOfAll_11 (by decide) ?_ ?_
  · refine cw_iload_n dX6_sumOfAll_31 rfl 3 rfl ?_
    exact cw_iret rfl dX6_sumOfAll_32
  · refine cw_iload_n dX6_sumOfAll_14 rfl 3 rfl ?_
    refine cw_aload_n dX6_sumOfAll_15 rfl 0 rfl ?_
    refine cw_iload dX6_sumOfAll_16 4 rfl ?_
    refine cw_aload_n dX6_sumOfAll_18 rfl 1 rfl ?_
    refine cw_iload_n dX6_sumOfAll_19 rfl 2 rfl ?_
    refine cw_invI (d2 := md_X6_sum) (c := 0) (q := 0) (as := [cR a0, cI l2, cR a1, cI a2]) (mc := 0) (ms := 0) rfl rfl (okV (ci := 5) (C := RX6) (T0 := TX6) (N := 19) (n := 3) rfl rfl rfl dX6_sumOfAll_20 (lw_V q672 q673 q674 q137 q675) ⟨rfl, hm_X6_sum⟩ (by decide) (by decide) (Nat.le_of_ble_eq_true rfl)) (m_X6_sum a0 l2 a1 a2) rfl (fun x5 => ?_)
    refine cw_iadd dX6_sumOfAll_23 ?_
    refine cw_istore_n (ls' := [(3, cI (l1 + x5)), (0, cR a0), (1, cR a1), (2, cI a2), (4, cI l2)]) dX6_sumOfAll_24 rfl (by decide) rfl ?_
    refine cw_iinc (v := (l2 + 1)) (ls' := [(4, cI (l2 + 1)), (3, cI (l1 + x5)), (0, cR a0), (1, cR a1), (2, cI a2)]) dX6_sumOfAll_25 4 rfl rfl (by decide) rfl ?_
    refine cw_goto (tgt := 5) dX6_sumOfAll_28 (by decide) ?_
    refine cw_sub (ls' := [(0, cR a0), (1, cR a1), (2, cI a2), (3, cI (l1 + x5)), (4, cI (l2 + 1))]) [2, 3, 4, 1, 0] rfl ?_
    exact hrec3 ((l1 + x5), (l2 + 1))
def g_X6_lambda_byAllMarks_1 (a0 : Nat) (a1 : Int32) (a2 : Nat) : GF :=
  invI (some (a0, 25)) (g_X6_sumOfAll a0 a2 a1) fun x1 =>
  retG (rI (-x1))
abbrev md_X6_lambda_byAllMarks_1 : MD := (yX6_lambda_byAllMarks_1, cX6_lambda_byAllMarks_1, 3, (some (Jvm.ClassFile.FieldType.int)), RX6, 18, 0, 0)
theorem hm_X6_lambda_byAllMarks_1 : (md_X6_lambda_byAllMarks_1).y.cls ≠ "java/lang/invoke/MethodHandle" ∧ (md_X6_lambda_byAllMarks_1).y.cls ≠ "java/lang/invoke/VarHandle" ∧ (parseMethodDescriptor (md_X6_lambda_byAllMarks_1).y.desc).map (fun d => d.parameters.length) = some 2 := by decide +kernel
theorem m_X6_lambda_byAllMarks_1 (a0 : Nat) (a1 : Int32) (a2 : Nat) : CMF md_X6_lambda_byAllMarks_1 [cR a0, cI a1, cR a2] (g_X6_lambda_byAllMarks_1 a0 a1 a2) := by
  refine cm_of (by decide +kernel) rfl (Nat.le_of_ble_eq_true rfl) ?_
  show CWF _ 0 0 0 [(0, cR a0), (1, cI a1), (2, cR a2)] [] _
  unfold g_X6_lambda_byAllMarks_1
  refine cw_aload_n dX6_lambda_byAllMarks_1_0 rfl 0 rfl ?_
  refine cw_aload_n dX6_lambda_byAllMarks_1_1 rfl 2 rfl ?_
  refine cw_iload_n dX6_lambda_byAllMarks_1_2 rfl 1 rfl ?_
  refine cw_invI (d2 := md_X6_sumOfAll) (c := 0) (q := 0) (as := [cR a0, cR a2, cI a1]) (mc := 0) (ms := 0) rfl rfl (okV (ci := 5) (C := RX6) (T0 := TX6) (N := 19) (n := 2) rfl rfl rfl dX6_lambda_byAllMarks_1_3 (lw_V q1808 q1810 qs26 q137 q1811) ⟨rfl, hm_X6_sumOfAll⟩ (by decide) (by decide) (Nat.le_of_ble_eq_true rfl)) (m_X6_sumOfAll a0 a2 a1) rfl (fun x1 => ?_)
  refine cw_ineg dX6_lambda_byAllMarks_1_6 ?_
  exact cw_iret rfl dX6_lambda_byAllMarks_1_7
def g_X6_lambda_decides_5 (a0 : Nat) (a1 : Nat) : GF :=
  invI (some (a0, 8)) (s_contains a0 a1) fun x1 =>
  retZ x1
abbrev md_X6_lambda_decides_5 : MD := (yX6_lambda_decides_5, cX6_lambda_decides_5, 2, (some (Jvm.ClassFile.FieldType.boolean)), RX6, 16, 0, 0)
theorem hm_X6_lambda_decides_5 : (md_X6_lambda_decides_5).y.cls ≠ "java/lang/invoke/MethodHandle" ∧ (md_X6_lambda_decides_5).y.cls ≠ "java/lang/invoke/VarHandle" ∧ (parseMethodDescriptor (md_X6_lambda_decides_5).y.desc).map (fun d => d.parameters.length) = some 2 := by decide +kernel
theorem m_X6_lambda_decides_5 (a0 : Nat) (a1 : Nat) : CMF md_X6_lambda_decides_5 [cR a0, cR a1] (g_X6_lambda_decides_5 a0 a1) := by
  refine cm_of (by decide +kernel) rfl (Nat.le_of_ble_eq_true rfl) ?_
  show CWF _ 0 0 0 [(0, cR a0), (1, cR a1)] [] _
  unfold g_X6_lambda_decides_5
  refine cw_aload_n dX6_lambda_decides_5_0 rfl 0 rfl ?_
  refine cw_aload_n dX6_lambda_decides_5_1 rfl 1 rfl ?_
  refine cw_invI (d2 := md_J2_contains) (c := 0) (q := 0) (as := [cR a0, cR a1]) (mc := 0) (ms := 0) rfl rfl (okF (x := ⟨"java/util/List", "contains", "(Ljava/lang/Object;)Z"⟩) (ci := 14) (C := RJ2) (T0 := TJ2) (N := 3) (n := 1) rfl (Or.inr ⟨rfl, rfl⟩) rfl dX6_lambda_decides_5_2 (lw_F q681 q686 q684 q114 q688) (List.mem_iff_getElem?.mpr ⟨10, rfl⟩) (show ("java/util/List" : String) ≠ _ ∧ ("java/util/List" : String) ≠ _ ∧ (parseMethodDescriptor (md_J2_contains).y.desc).map (fun d => d.parameters.length) = some 1 from ⟨by decide, by decide, (hm_J2_contains).2.2⟩) (by decide) (by decide) (Nat.le_of_ble_eq_true rfl)) (c_contains a0 a1) rfl (fun x1 => ?_)
  exact cw_zret rfl dX6_lambda_decides_5_7
