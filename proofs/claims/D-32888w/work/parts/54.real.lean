/-! SCRUTINEERY: its methods, part 4 -/
set_option maxRecDepth 100000
def g_X6_lambda_allocated_6 (a0 : Nat) (a1 : Int32) (a2 : Int32) (a3 : Nat) : GF :=
  invI (some (a0, 25)) (g_X6_count a0 a1 a3 a2) fun x1 =>
  retG (rI x1)
abbrev md_X6_lambda_allocated_6 : MD := (yX6_lambda_allocated_6, cX6_lambda_allocated_6, 4, (some (Jvm.ClassFile.FieldType.int)), RX6, 17, 0, 0)
theorem hm_X6_lambda_allocated_6 : (md_X6_lambda_allocated_6).y.cls ≠ "java/lang/invoke/MethodHandle" ∧ (md_X6_lambda_allocated_6).y.cls ≠ "java/lang/invoke/VarHandle" ∧ (parseMethodDescriptor (md_X6_lambda_allocated_6).y.desc).map (fun d => d.parameters.length) = some 3 := by decide +kernel
theorem m_X6_lambda_allocated_6 (a0 : Nat) (a1 : Int32) (a2 : Int32) (a3 : Nat) : CMF md_X6_lambda_allocated_6 [cR a0, cI a1, cI a2, cR a3] (g_X6_lambda_allocated_6 a0 a1 a2 a3) := by
  refine cm_of (by decide +kernel) rfl (Nat.le_of_ble_eq_true rfl) ?_
  show CWF _ 0 0 0 [(0, cR a0), (1, cI a1), (2, cI a2), (3, cR a3)] [] _
  unfold g_X6_lambda_allocated_6
  refine cw_aload_n dX6_lambda_allocated_6_0 rfl 0 rfl ?_
  refine cw_iload_n dX6_lambda_allocated_6_1 rfl 1 rfl ?_
  refine cw_aload_n dX6_lambda_allocated_6_2 rfl 3 rfl ?_
  refine cw_iload_n dX6_lambda_allocated_6_3 rfl 2 rfl ?_
  refine cw_invI (d2 := md_X6_count) (c := 0) (q := 0) (as := [cR a0, cI a1, cR a3, cI a2]) (mc := 0) (ms := 0) rfl rfl (okV (ci := 5) (C := RX6) (T0 := TX6) (N := 19) (n := 3) rfl rfl rfl dX6_lambda_allocated_6_4 (lw_V q550 q551 q552 q137 q553) ⟨rfl, hm_X6_count⟩ (by decide) (by decide) (Nat.le_of_ble_eq_true rfl)) (m_X6_count a0 a1 a3 a2) rfl (fun x1 => ?_)
  exact cw_iret rfl dX6_lambda_allocated_6_7
def g_X6_lambda_allocated_7 (a0 : Nat) (a1 : Int32) (a2 : Int32) (a3 : Nat) : GF :=
  invI (some (a0, 25)) (g_X6_sum a0 a1 a3 a2) fun x1 =>
  retG (rI (-x1))
abbrev md_X6_lambda_allocated_7 : MD := (yX6_lambda_allocated_7, cX6_lambda_allocated_7, 4, (some (Jvm.ClassFile.FieldType.int)), RX6, 17, 0, 0)
theorem hm_X6_lambda_allocated_7 : (md_X6_lambda_allocated_7).y.cls ≠ "java/lang/invoke/MethodHandle" ∧ (md_X6_lambda_allocated_7).y.cls ≠ "java/lang/invoke/VarHandle" ∧ (parseMethodDescriptor (md_X6_lambda_allocated_7).y.desc).map (fun d => d.parameters.length) = some 3 := by decide +kernel
theorem m_X6_lambda_allocated_7 (a0 : Nat) (a1 : Int32) (a2 : Int32) (a3 : Nat) : CMF md_X6_lambda_allocated_7 [cR a0, cI a1, cI a2, cR a3] (g_X6_lambda_allocated_7 a0 a1 a2 a3) := by
  refine cm_of (by decide +kernel) rfl (Nat.le_of_ble_eq_true rfl) ?_
  show CWF _ 0 0 0 [(0, cR a0), (1, cI a1), (2, cI a2), (3, cR a3)] [] _
  unfold g_X6_lambda_allocated_7
  refine cw_aload_n dX6_lambda_allocated_7_0 rfl 0 rfl ?_
  refine cw_iload_n dX6_lambda_allocated_7_1 rfl 1 rfl ?_
  refine cw_aload_n dX6_lambda_allocated_7_2 rfl 3 rfl ?_
  refine cw_iload_n dX6_lambda_allocated_7_3 rfl 2 rfl ?_
  refine cw_invI (d2 := md_X6_sum) (c := 0) (q := 0) (as := [cR a0, cI a1, cR a3, cI a2]) (mc := 0) (ms := 0) rfl rfl (okV (ci := 5) (C := RX6) (T0 := TX6) (N := 19) (n := 3) rfl rfl rfl dX6_lambda_allocated_7_4 (lw_V q672 q673 q674 q137 q675) ⟨rfl, hm_X6_sum⟩ (by decide) (by decide) (Nat.le_of_ble_eq_true rfl)) (m_X6_sum a0 a1 a3 a2) rfl (fun x1 => ?_)
  refine cw_ineg dX6_lambda_allocated_7_7 ?_
  exact cw_iret rfl dX6_lambda_allocated_7_8
def g_X6_lambda_allocated_8 (a0 : Nat) (a1 : Nat) : GF :=
  invI (some (a0, 8)) (s_contains a0 a1) fun x1 =>
  retZ x1
abbrev md_X6_lambda_allocated_8 : MD := (yX6_lambda_allocated_8, cX6_lambda_allocated_8, 2, (some (Jvm.ClassFile.FieldType.boolean)), RX6, 16, 0, 0)
theorem hm_X6_lambda_allocated_8 : (md_X6_lambda_allocated_8).y.cls ≠ "java/lang/invoke/MethodHandle" ∧ (md_X6_lambda_allocated_8).y.cls ≠ "java/lang/invoke/VarHandle" ∧ (parseMethodDescriptor (md_X6_lambda_allocated_8).y.desc).map (fun d => d.parameters.length) = some 2 := by decide +kernel
theorem m_X6_lambda_allocated_8 (a0 : Nat) (a1 : Nat) : CMF md_X6_lambda_allocated_8 [cR a0, cR a1] (g_X6_lambda_allocated_8 a0 a1) := by
  refine cm_of (by decide +kernel) rfl (Nat.le_of_ble_eq_true rfl) ?_
  show CWF _ 0 0 0 [(0, cR a0), (1, cR a1)] [] _
  unfold g_X6_lambda_allocated_8
  refine cw_aload_n dX6_lambda_allocated_8_0 rfl 0 rfl ?_
  refine cw_aload_n dX6_lambda_allocated_8_1 rfl 1 rfl ?_
  refine cw_invI (d2 := md_J2_contains) (c := 0) (q := 0) (as := [cR a0, cR a1]) (mc := 0) (ms := 0) rfl rfl (okF (x := ⟨"java/util/List", "contains", "(Ljava/lang/Object;)Z"⟩) (ci := 14) (C := RJ2) (T0 := TJ2) (N := 3) (n := 1) rfl (Or.inr ⟨rfl, rfl⟩) rfl dX6_lambda_allocated_8_2 (lw_F q681 q686 q684 q114 q688) (List.mem_iff_getElem?.mpr ⟨10, rfl⟩) (show ("java/util/List" : String) ≠ _ ∧ ("java/util/List" : String) ≠ _ ∧ (parseMethodDescriptor (md_J2_contains).y.desc).map (fun d => d.parameters.length) = some 1 from ⟨by decide, by decide, (hm_J2_contains).2.2⟩) (by decide) (by decide) (Nat.le_of_ble_eq_true rfl)) (c_contains a0 a1) rfl (fun x1 => ?_)
  exact cw_zret rfl dX6_lambda_allocated_8_7
def g_X6_lambda_decides_4 (a0 : Nat) : GF :=
  getI 27 a0 8 fun x1 =>
  retG (rI (-x1))
abbrev md_X6_lambda_decides_4 : MD := (yX6_lambda_decides_4, cX6_lambda_decides_4, 1, (some (Jvm.ClassFile.FieldType.int)), RX6, 10, 0, 0)
theorem hm_X6_lambda_decides_4 : (md_X6_lambda_decides_4).y.cls ≠ "java/lang/invoke/MethodHandle" ∧ (md_X6_lambda_decides_4).y.cls ≠ "java/lang/invoke/VarHandle" ∧ (parseMethodDescriptor (md_X6_lambda_decides_4).y.desc).map (fun d => d.parameters.length) = some 1 := by decide +kernel
theorem m_X6_lambda_decides_4 (a0 : Nat) : CMF md_X6_lambda_decides_4 [cR a0] (g_X6_lambda_decides_4 a0) := by
  refine cm_of (by decide +kernel) rfl (Nat.le_of_ble_eq_true rfl) ?_
  show CWF _ 0 0 0 [(0, cR a0)] [] _
  unfold g_X6_lambda_decides_4
  refine cw_aload_n dX6_lambda_decides_4_0 rfl 0 rfl ?_
  refine cw_getI (ci := 7) (j := 8) (C := RX8) (T := TX8) (N := 10) rfl (by decide) rfl rfl (Or.inr ⟨_, q1268⟩) fSame_rfl dX6_lambda_decides_4_1 (fun x1 => ?_)
  refine cw_ineg dX6_lambda_decides_4_4 ?_
  exact cw_iret rfl dX6_lambda_decides_4_5
def b_X6_wins_5 (a0 : Nat) (a1 : Nat) (a2 : Int32) (rec3 : (Int32 × Int32) → GF) : (Int32 × Int32) → GF := fun (s : Int32 × Int32) => match s with
  | (l1, l2) =>
    getI 25 a0 2 fun x4 =>
    if l2 < x4 then
      getP 27 a1 3 fun p5 =>
      ialdG 1 p5 l2 fun x6 =>
      jnG (fun (v7 : Int32) =>
        rec3 ((l1 + v7), (l2 + 1))) fun J8 =>
      if x6 ≤ (2 * a2) then
        J8 1
      else
        J8 0
    else
      retG (rI l1)
def g_X6_wins (a0 : Nat) (a1 : Nat) (a2 : Int32) : GF :=
  loopG (b_X6_wins_5 a0 a1 a2) FU (0, 0)
abbrev md_X6_wins : MD := (yX6_wins, cX6_wins, 5, (some (Jvm.ClassFile.FieldType.int)), RX6, 10, 0, 0)
theorem hm_X6_wins : (md_X6_wins).y.cls ≠ "java/lang/invoke/MethodHandle" ∧ (md_X6_wins).y.cls ≠ "java/lang/invoke/VarHandle" ∧ (parseMethodDescriptor (md_X6_wins).y.desc).map (fun d => d.parameters.length) = some 2 := by decide +kernel
theorem m_X6_wins (a0 : Nat) (a1 : Nat) (a2 : Int32) : CMF md_X6_wins [cR a0, cR a1, cI a2] (g_X6_wins a0 a1 a2) := by
  refine cm_of (by decide +kernel) rfl (Nat.le_of_ble_eq_true rfl) ?_
  show CWF _ 0 0 0 [(0, cR a0), (1, cR a1), (2, cI a2)] [] _
  unfold g_X6_wins
  refine cw_iconst (v := 0) dX6_wins_0 (by decide) ?_
  refine cw_istore_n (ls' := [(3, cI 0), (0, cR a0), (1, cR a1), (2, cI a2)]) dX6_wins_1 rfl (by decide) rfl ?_
  refine cw_iconst (v := 0) dX6_wins_2 (by decide) ?_
  refine cw_istore (ls' := [(4, cI 0), (3, cI 0), (0, cR a0), (1, cR a1), (2, cI a2)]) dX6_wins_3 (by decide) rfl ?_
  refine cw_sub (ls' := [(0, cR a0), (1, cR a1), (2, cI a2), (3, cI 0), (4, cI 0)]) [2, 3, 4, 1, 0] rfl ?_
  refine cw_loop0 (lsf := fun (s : Int32 × Int32) => [(0, cR a0), (1, cR a1), (2, cI a2), (3, cI s.1), (4, cI s.2)]) (fun rec3 hrec3 s => ?_) FU (0, 0)
  obtain ⟨l1, l2⟩ := s
  show CWF _ _ _ 5 [(0, cR a0), (1, cR a1), (2, cI a2), (3, cI l1), (4, cI l2)] [] _
  dsimp only [b_X6_wins_5]
  refine cw_iload dX6_wins_5 4 rfl ?_
  refine cw_aload_n dX6_wins_7 rfl 0 rfl ?_
  refine cw_getI (ci := 5) (j := 2) (C := RX6) (T := TX6) (N := 19) rfl (by decide) rfl rfl (Or.inl q1089) fSame_rfl dX6_wins_8 (fun x4 => ?_)
  refine cw_icmp_ge (tgt := 41) dX6_wins_11 (by decide) ?_ ?_
  · refine cw_iload_n dX6_wins_41 rfl 3 rfl ?_
    exact cw_iret rfl dX6_wins_42
  · refine cw_iload_n dX6_wins_14 rfl 3 rfl ?_
    refine cw_aload_n dX6_wins_15 rfl 1 rfl ?_
    refine cw_getP (ci := 7) (j := 3) (C := RX8) (T := TX8) (N := 10) rfl (by decide) rfl rfl (Or.inr ⟨_, q1257⟩) fSame_rfl dX6_wins_16 (fun p5 => ?_)
    refine cw_iload dX6_wins_19 4 rfl ?_
    refine cw_iald dX6_wins_21 (fun x6 => ?_)
    refine cw_iconst (v := 2) dX6_wins_22 (by decide) ?_
    refine cw_iload_n dX6_wins_23 rfl 2 rfl ?_
    refine cw_imul dX6_wins_24 ?_
    refine cw_jn (cj := 0) (kj := 0) (pcj := 33) (lsf := fun (s : Int32) => [(0, cR a0), (1, cR a1), (2, cI a2), (4, cI l2)]) (stf := fun (s : Int32) => [cI s, cI l1]) (fun s => ?_) (fun J8 hJ8 => ?_)
    · obtain ⟨v7, e⟩ : ∃ z, z = s := ⟨_, rfl⟩
      subst e
      show CWF _ _ _ 33 [(0, cR a0), (1, cR a1), (2, cI a2), (4, cI l2)] [cI v7, cI l1] _
      refine cw_iadd dX6_wins_33 ?_
      refine cw_istore_n (ls' := [(3, cI (l1 + v7)), (0, cR a0), (1, cR a1), (2, cI a2), (4, cI l2)]) dX6_wins_34 rfl (by decide) rfl ?_
      refine cw_iinc (v := (l2 + 1)) (ls' := [(4, cI (l2 + 1)), (3, cI (l1 + v7)), (0, cR a0), (1, cR a1), (2, cI a2)]) dX6_wins_35 4 rfl rfl (by decide) rfl ?_
      refine cw_goto (tgt := 5) dX6_wins_38 (by decide) ?_
      refine cw_sub (ls' := [(0, cR a0), (1, cR a1), (2, cI a2), (3, cI (l1 + v7)), (4, cI (l2 + 1))]) [2, 3, 4, 1, 0] rfl ?_
      exact hrec3 ((l1 + v7), (l2 + 1))
    · refine cw_icmp_gt (tgt := 32) dX6_wins_25 (by decide) ?_ ?_
      · refine cw_iconst (v := 0) dX6_wins_32 (by decide) ?_
        refine cw_sub (ls' := [(0, cR a0), (1, cR a1), (2, cI a2), (4, cI l2)]) [0, 1, 2, 4] rfl ?_
        exact hJ8 0
      · refine cw_iconst (v := 1) dX6_wins_28 (by decide) ?_
        refine cw_goto (tgt := 33) dX6_wins_29 (by decide) ?_
        refine cw_sub (ls' := [(0, cR a0), (1, cR a1), (2, cI a2), (4, cI l2)]) [0, 1, 2, 4] rfl ?_
        exact hJ8 1
def g_X6_lambda_shares_2 (a0 : Nat) (a1 : Int32) (a2 : Nat) : GF :=
  invI (some (a0, 25)) (g_X6_wins a0 a2 a1) fun x1 =>
  retG (rI x1)
abbrev md_X6_lambda_shares_2 : MD := (yX6_lambda_shares_2, cX6_lambda_shares_2, 3, (some (Jvm.ClassFile.FieldType.int)), RX6, 11, 0, 0)
theorem hm_X6_lambda_shares_2 : (md_X6_lambda_shares_2).y.cls ≠ "java/lang/invoke/MethodHandle" ∧ (md_X6_lambda_shares_2).y.cls ≠ "java/lang/invoke/VarHandle" ∧ (parseMethodDescriptor (md_X6_lambda_shares_2).y.desc).map (fun d => d.parameters.length) = some 2 := by decide +kernel
theorem m_X6_lambda_shares_2 (a0 : Nat) (a1 : Int32) (a2 : Nat) : CMF md_X6_lambda_shares_2 [cR a0, cI a1, cR a2] (g_X6_lambda_shares_2 a0 a1 a2) := by
  refine cm_of (by decide +kernel) rfl (Nat.le_of_ble_eq_true rfl) ?_
  show CWF _ 0 0 0 [(0, cR a0), (1, cI a1), (2, cR a2)] [] _
  unfold g_X6_lambda_shares_2
  refine cw_aload_n dX6_lambda_shares_2_0 rfl 0 rfl ?_
  refine cw_aload_n dX6_lambda_shares_2_1 rfl 2 rfl ?_
  refine cw_iload_n dX6_lambda_shares_2_2 rfl 1 rfl ?_
  refine cw_invI (d2 := md_X6_wins) (c := 0) (q := 0) (as := [cR a0, cR a2, cI a1]) (mc := 0) (ms := 0) rfl rfl (okV (ci := 5) (C := RX6) (T0 := TX6) (N := 19) (n := 2) rfl rfl rfl dX6_lambda_shares_2_3 (lw_V q1783 q1785 qs19 q137 q1786) ⟨rfl, hm_X6_wins⟩ (by decide) (by decide) (Nat.le_of_ble_eq_true rfl)) (m_X6_wins a0 a2 a1) rfl (fun x1 => ?_)
  exact cw_iret rfl dX6_lambda_shares_2_6
def b_X6_low_5 (a0 : Nat) (a1 : Nat) (a2 : Int32) (rec3 : (Int32 × Int32) → GF) : (Int32 × Int32) → GF := fun (s : Int32 × Int32) => match s with
  | (l1, l2) =>
    getI 25 a0 2 fun x4 =>
    if l2 < x4 then
      getP 27 a1 3 fun p5 =>
      ialdG 1 p5 l2 fun x6 =>
      jnG (fun (v7 : Int32) =>
        rec3 ((l1 + v7), (l2 + 1))) fun J8 =>
      if x6 ≤ (2 * a2) then
        getP 27 a1 3 fun p9 =>
        ialdG 1 p9 l2 fun x10 =>
        J8 x10
      else
        J8 0
    else
      retG (rI l1)
def g_X6_low (a0 : Nat) (a1 : Nat) (a2 : Int32) : GF :=
  loopG (b_X6_low_5 a0 a1 a2) FU (0, 0)
abbrev md_X6_low : MD := (yX6_low, cX6_low, 5, (some (Jvm.ClassFile.FieldType.int)), RX6, 10, 0, 0)
theorem hm_X6_low : (md_X6_low).y.cls ≠ "java/lang/invoke/MethodHandle" ∧ (md_X6_low).y.cls ≠ "java/lang/invoke/VarHandle" ∧ (parseMethodDescriptor (md_X6_low).y.desc).map (fun d => d.parameters.length) = some 2 := by decide +kernel
theorem m_X6_low (a0 : Nat) (a1 : Nat) (a2 : Int32) : CMF md_X6_low [cR a0, cR a1, cI a2] (g_X6_low a0 a1 a2) := by
  refine cm_of (by decide +kernel) rfl (Nat.le_of_ble_eq_true rfl) ?_
  show CWF _ 0 0 0 [(0, cR a0), (1, cR a1), (2, cI a2)] [] _
  unfold g_X6_low
  refine cw_iconst (v := 0) dX6_low_0 (by decide) ?_
  refine cw_istore_n (ls' := [(3, cI 0), (0, cR a0), (1, cR a1), (2, cI a2)]) dX6_low_1 rfl (by decide) rfl ?_
  refine cw_iconst (v := 0) dX6_low_2 (by decide) ?_
  refine cw_istore (ls' := [(4, cI 0), (3, cI 0), (0, cR a0), (1, cR a1), (2, cI a2)]) dX6_low_3 (by decide) rfl ?_
  refine cw_sub (ls' := [(0, cR a0), (1, cR a1), (2, cI a2), (3, cI 0), (4, cI 0)]) [2, 3, 4, 1, 0] rfl ?_
  refine cw_loop0 (lsf := fun (s : Int32 × Int32) => [(0, cR a0), (1, cR a1), (2, cI a2), (3, cI s.1), (4, cI s.2)]) (fun rec3 hrec3 s => ?_) FU (0, 0)
  obtain ⟨l1, l2⟩ := s
  show CWF _ _ _ 5 [(0, cR a0), (1, cR a1), (2, cI a2), (3, cI l1), (4, cI l2)] [] _
  dsimp only [b_X6_low_5]
  refine cw_iload dX6_low_5 4 rfl ?_
  refine cw_aload_n dX6_low_7 rfl 0 rfl ?_
  refine cw_getI (ci := 5) (j := 2) (C := RX6) (T := TX6) (N := 19) rfl (by decide) rfl rfl (Or.inl q1089) fSame_rfl dX6_low_8 (fun x4 => ?_)
  refine cw_icmp_ge (tgt := 47) dX6_low_11 (by decide) ?_ ?_
  · refine cw_iload_n dX6_low_47 rfl 3 rfl ?_
    exact cw_iret rfl dX6_low_48
  · refine cw_iload_n dX6_low_14 rfl 3 rfl ?_
    refine cw_aload_n dX6_low_15 rfl 1 rfl ?_
    refine cw_getP (ci := 7) (j := 3) (C := RX8) (T := TX8) (N := 10) rfl (by decide) rfl rfl (Or.inr ⟨_, q1257⟩) fSame_rfl dX6_low_16 (fun p5 => ?_)
    refine cw_iload dX6_low_19 4 rfl ?_
    refine cw_iald dX6_low_21 (fun x6 => ?_)
    refine cw_iconst (v := 2) dX6_low_22 (by decide) ?_
    refine cw_iload_n dX6_low_23 rfl 2 rfl ?_
    refine cw_imul dX6_low_24 ?_
    refine cw_jn (cj := 0) (kj := 0) (pcj := 39) (lsf := fun (s : Int32) => [(0, cR a0), (1, cR a1), (2, cI a2), (4, cI l2)]) (stf := fun (s : Int32) => [cI s, cI l1]) (fun s => ?_) (fun J8 hJ8 => ?_)
    · obtain ⟨v7, e⟩ : ∃ z, z = s := ⟨_, rfl⟩
      subst e
      show CWF _ _ _ 39 [(0, cR a0), (1, cR a1), (2, cI a2), (4, cI l2)] [cI v7, cI l1] _
      refine cw_iadd dX6_low_39 ?_
      refine cw_istore_n (ls' := [(3, cI (l1 + v7)), (0, cR a0), (1, cR a1), (2, cI a2), (4, cI l2)]) dX6_low_40 rfl (by decide) rfl ?_
      refine cw_iinc (v := (l2 + 1)) (ls' := [(4, cI (l2 + 1)), (3, cI (l1 + v7)), (0, cR a0), (1, cR a1), (2, cI a2)]) dX6_low_41 4 rfl rfl (by decide) rfl ?_
      refine cw_goto (tgt := 5) dX6_low_44 (by decide) ?_
      refine cw_sub (ls' := [(0, cR a0), (1, cR a1), (2, cI a2), (3, cI (l1 + v7)), (4, cI (l2 + 1))]) [2, 3, 4, 1, 0] rfl ?_
      exact hrec3 ((l1 + v7), (l2 + 1))
    · refine cw_icmp_gt (tgt := 38) dX6_low_25 (by decide) ?_ ?_
      · refine cw_iconst (v := 0) dX6_low_38 (by decide) ?_
        refine cw_sub (ls' := [(0, cR a0), (1, cR a1), (2, cI a2), (4, cI l2)]) [0, 1, 2, 4] rfl ?_
        exact hJ8 0
      · refine cw_aload_n dX6_low_28 rfl 1 rfl ?_
        refine cw_getP (ci := 7) (j := 3) (C := RX8) (T := TX8) (N := 10) rfl (by decide) rfl rfl (Or.inr ⟨_, q1257⟩) fSame_rfl dX6_low_29 (fun p9 => ?_)
        refine cw_iload dX6_low_32 4 rfl ?_
        refine cw_iald dX6_low_34 (fun x10 => ?_)
        refine cw_goto (tgt := 39) dX6_low_35 (by decide) ?_
        refine cw_sub (ls' := [(0, cR a0), (1, cR a1), (2, cI a2), (4, cI l2)]) [0, 1, 2, 4] rfl ?_
        exact hJ8 x10
def g_X6_lambda_shares_3 (a0 : Nat) (a1 : Int32) (a2 : Nat) : GF :=
  invI (some (a0, 25)) (g_X6_low a0 a2 a1) fun x1 =>
  retG (rI (-x1))
abbrev md_X6_lambda_shares_3 : MD := (yX6_lambda_shares_3, cX6_lambda_shares_3, 3, (some (Jvm.ClassFile.FieldType.int)), RX6, 11, 0, 0)
theorem hm_X6_lambda_shares_3 : (md_X6_lambda_shares_3).y.cls ≠ "java/lang/invoke/MethodHandle" ∧ (md_X6_lambda_shares_3).y.cls ≠ "java/lang/invoke/VarHandle" ∧ (parseMethodDescriptor (md_X6_lambda_shares_3).y.desc).map (fun d => d.parameters.length) = some 2 := by decide +kernel
theorem m_X6_lambda_shares_3 (a0 : Nat) (a1 : Int32) (a2 : Nat) : CMF md_X6_lambda_shares_3 [cR a0, cI a1, cR a2] (g_X6_lambda_shares_3 a0 a1 a2) := by
  refine cm_of (by decide +kernel) rfl (Nat.le_of_ble_eq_true rfl) ?_
  show CWF _ 0 0 0 [(0, cR a0), (1, cI a1), (2, cR a2)] [] _
  unfold g_X6_lambda_shares_3
  refine cw_aload_n dX6_lambda_shares_3_0 rfl 0 rfl ?_
  refine cw_aload_n dX6_lambda_shares_3_1 rfl 2 rfl ?_
  refine cw_iload_n dX6_lambda_shares_3_2 rfl 1 rfl ?_
  refine cw_invI (d2 := md_X6_low) (c := 0) (q := 0) (as := [cR a0, cR a2, cI a1]) (mc := 0) (ms := 0) rfl rfl (okV (ci := 5) (C := RX6) (T0 := TX6) (N := 19) (n := 2) rfl rfl rfl dX6_lambda_shares_3_3 (lw_V q1790 q1792 qs21 q137 q1793) ⟨rfl, hm_X6_low⟩ (by decide) (by decide) (Nat.le_of_ble_eq_true rfl)) (m_X6_low a0 a2 a1) rfl (fun x1 => ?_)
  refine cw_ineg dX6_lambda_shares_3_6 ?_
  exact cw_iret rfl dX6_lambda_shares_3_7
def g_X6_lambda_byAllMarks_0 (a0 : Nat) (a1 : Int32) (a2 : Nat) : GF :=
  invI (some (a0, 25)) (g_X6_countOfAll a0 a2 a1) fun x1 =>
  retG (rI x1)
abbrev md_X6_lambda_byAllMarks_0 : MD := (yX6_lambda_byAllMarks_0, cX6_lambda_byAllMarks_0, 3, (some (Jvm.ClassFile.FieldType.int)), RX6, 18, 0, 0)
theorem hm_X6_lambda_byAllMarks_0 : (md_X6_lambda_byAllMarks_0).y.cls ≠ "java/lang/invoke/MethodHandle" ∧ (md_X6_lambda_byAllMarks_0).y.cls ≠ "java/lang/invoke/VarHandle" ∧ (parseMethodDescriptor (md_X6_lambda_byAllMarks_0).y.desc).map (fun d => d.parameters.length) = some 2 := by decide +kernel
theorem m_X6_lambda_byAllMarks_0 (a0 : Nat) (a1 : Int32) (a2 : Nat) : CMF md_X6_lambda_byAllMarks_0 [cR a0, cI a1, cR a2] (g_X6_lambda_byAllMarks_0 a0 a1 a2) := by
  refine cm_of (by decide +kernel) rfl (Nat.le_of_ble_eq_true rfl) ?_
  show CWF _ 0 0 0 [(0, cR a0), (1, cI a1), (2, cR a2)] [] _
  unfold g_X6_lambda_byAllMarks_0
  refine cw_aload_n dX6_lambda_byAllMarks_0_0 rfl 0 rfl ?_
  refine cw_aload_n dX6_lambda_byAllMarks_0_1 rfl 2 rfl ?_
  refine cw_iload_n dX6_lambda_byAllMarks_0_2 rfl 1 rfl ?_
  refine cw_invI (d2 := md_X6_countOfAll) (c := 0) (q := 0) (as := [cR a0, cR a2, cI a1]) (mc := 0) (ms := 0) rfl rfl (okV (ci := 5) (C := RX6) (T0 := TX6) (N := 19) (n := 2) rfl rfl rfl dX6_lambda_byAllMarks_0_3 (lw_V q1798 q1800 qs23 q137 q1801) ⟨rfl, hm_X6_countOfAll⟩ (by decide) (by decide) (Nat.le_of_ble_eq_true rfl)) (m_X6_countOfAll a0 a2 a1) rfl (fun x1 => ?_)
  exact cw_iret rfl dX6_lambda_byAllMarks_0_6
def b_X6_sumOfAll_5 (a0 : Nat) (a1 : Nat) (a2 : Int32) (rec3 : (Int32 × Int32) → GF) : (Int32 × Int32) → GF := fun (s : Int32 × Int32) => match s with
  | (l1, l2) =>
    getI 25 a0 2 fun x4 =>
    if l2 < x4 then
      invI (some (a0, 25)) (g_X6_sum a0 l2 a1 a2) fun x5 =>
      rec3 ((l1 + x5), (l2 + 1))
    else
      retG (rI l1)
def g_X6_sumOfAll (a0 : Nat) (a1 : Nat) (a2 : Int32) : GF :=
  loopG (b_X6_sumOfAll_5 a0 a1 a2) FU (0, 0)
abbrev md_X6_sumOfAll : MD := (yX6_sumOfAll, cX6_sumOfAll, 5, (some (Jvm.ClassFile.FieldType.int)), RX6, 17, 0, 0)
theorem hm_X6_sumOfAll : (md_X6_sumOfAll).y.cls ≠ "java/lang/invoke/MethodHandle" ∧ (md_X6_sumOfAll).y.cls ≠ "java/lang/invoke/VarHandle" ∧ (parseMethodDescriptor (md_X6_sumOfAll).y.desc).map (fun d => d.parameters.length) = some 2 := by decide +kernel
theorem m_X6_sumOfAll (a0 : Nat) (a1 : Nat) (a2 : Int32) : CMF md_X6_sumOfAll [cR a0, cR a1, cI a2] (g_X6_sumOfAll a0 a1 a2) := by
  refine cm_of (by decide +kernel) rfl (Nat.le_of_ble_eq_true rfl) ?_
  show CWF _ 0 0 0 [(0, cR a0), (1, cR a1), (2, cI a2)] [] _
  unfold g_X6_sumOfAll
  refine cw_iconst (v := 0) dX6_sumOfAll_0 (by decide) ?_
  refine cw_istore_n (ls' := [(3, cI 0), (0, cR a0), (1, cR a1), (2, cI a2)]) dX6_sumOfAll_1 rfl (by decide) rfl ?_
  refine cw_iconst (v := 0) dX6_sumOfAll_2 (by decide) ?_
  refine cw_istore (ls' := [(4, cI 0), (3, cI 0), (0, cR a0), (1, cR a1), (2, cI a2)]) dX6_sumOfAll_3 (by decide) rfl ?_
  refine cw_sub (ls' := [(0, cR a0), (1, cR a1), (2, cI a2), (3, cI 0), (4, cI 0)]) [2, 3, 4, 1, 0] rfl ?_
  refine cw_loop0 (lsf := fun (s : Int32 × Int32) => [(0, cR a0), (1, cR a1), (2, cI a2), (3, cI s.1), (4, cI s.2)]) (fun rec3 hrec3 s => ?_) FU (0, 0)
  obtain ⟨l1, l2⟩ := s
  show CWF _ _ _ 5 [(0, cR a0), (1, cR a1), (2, cI a2), (3, cI l1), (4, cI l2)] [] _
  dsimp only [b_X6_sumOfAll_5]
  refine cw_iload dX6_sumOfAll_5 4 rfl ?_
  refine cw_aload_n dX6_sumOfAll_7 rfl 0 rfl ?_
  refine cw_getI (ci := 5) (j := 2) (C := RX6) (T := TX6) (N := 19) rfl (by decide) rfl rfl (Or.inl q1089) fSame_rfl dX6_sumOfAll_8 (fun x4 => ?_)
  refine cw_icmp_ge (tgt := 31) dX6_sumOfAll_11 (by decide) ?_ ?_
  · refine cw_iload_n dX6_sumOfAll_31 rfl 3 rfl ?_
    exact cw_iret rfl dX6_sumOfAll_32
  · refine cw_iload_n dX6_sumOfAll_14 rfl 3 rfl ?_
    refine cw_aload_n dX6_sumOfAll_15 rfl 0 rfl ?_
    refine cw_iload dX6_sumOfAll_16 4 rfl ?_
    refine cw_aload_n dX6_sumOfAll_18 rfl 1 rfl ?_
    refine cw_iload_n dX6_sumOfAll_19 rfl 2 rfl ?_
    refine cw_invI (d2 := md_X6_sum) (c := 0) (q := 0) (as := [cR a0, cI l2, cR a1, cI a2]) (mc := 0) (ms := 0) rfl rfl (okV (ci := 5) (C := RX6) (T0 := TX6) (N := 19) (n := 3) rfl rfl rfl dX6_sumOfAll_20 (lw_V q672 q673 q674 q137 q675) ⟨rfl, hm_X6_sum⟩ (by decide) (by decide) (Nat.le_of_ble_eq_true rfl)) (m_X6_sum a0 l2 a1 a2) rfl (fun x5 => ?_)
    refine cw_iadd dX6_sumOfAll_23 ?_
    refine cw_istore_n (ls' := [(3, cI (l1 + x5)), (0, cR a0), (1, cR a1), (2, cI a2), (4, cI l2)]) dX6_sumOfAll_24 rfl (by decide) rfl ?_
    refine cw_iinc (v := (l2 + 1)) (ls' := [(4, cI (l2 + 1)), (3, cI (l1 + x5)), (0, cR a0), (1, cR a1), (2, cI a2)]) dX6_sumOfAll_25 4 rfl rfl (by decide) rfl ?_
    refine cw_goto (tgt := 5) dX6_sumOfAll_28 (by decide) ?_
    refine cw_sub (ls' := [(0, cR a0), (1, cR a1), (2, cI a2), (3, cI (l1 + x5)), (4, cI (l2 + 1))]) [2, 3, 4, 1, 0] rfl ?_
    exact hrec3 ((l1 + x5), (l2 + 1))
def g_X6_lambda_byAllMarks_1 (a0 : Nat) (a1 : Int32) (a2 : Nat) : GF :=
  invI (some (a0, 25)) (g_X6_sumOfAll a0 a2 a1) fun x1 =>
  retG (rI (-x1))
abbrev md_X6_lambda_byAllMarks_1 : MD := (yX6_lambda_byAllMarks_1, cX6_lambda_byAllMarks_1, 3, (some (Jvm.ClassFile.FieldType.int)), RX6, 18, 0, 0)
theorem hm_X6_lambda_byAllMarks_1 : (md_X6_lambda_byAllMarks_1).y.cls ≠ "java/lang/invoke/MethodHandle" ∧ (md_X6_lambda_byAllMarks_1).y.cls ≠ "java/lang/invoke/VarHandle" ∧ (parseMethodDescriptor (md_X6_lambda_byAllMarks_1).y.desc).map (fun d => d.parameters.length) = some 2 := by decide +kernel
theorem m_X6_lambda_byAllMarks_1 (a0 : Nat) (a1 : Int32) (a2 : Nat) : CMF md_X6_lambda_byAllMarks_1 [cR a0, cI a1, cR a2] (g_X6_lambda_byAllMarks_1 a0 a1 a2) := by
  refine cm_of (by decide +kernel) rfl (Nat.le_of_ble_eq_true rfl) ?_
  show CWF _ 0 0 0 [(0, cR a0), (1, cI a1), (2, cR a2)] [] _
  unfold g_X6_lambda_byAllMarks_1
  refine cw_aload_n dX6_lambda_byAllMarks_1_0 rfl 0 rfl ?_
  refine cw_aload_n dX6_lambda_byAllMarks_1_1 rfl 2 rfl ?_
  refine cw_iload_n dX6_lambda_byAllMarks_1_2 rfl 1 rfl ?_
  refine cw_invI (d2 := md_X6_sumOfAll) (c := 0) (q := 0) (as := [cR a0, cR a2, cI a1]) (mc := 0) (ms := 0) rfl rfl (okV (ci := 5) (C := RX6) (T0 := TX6) (N := 19) (n := 2) rfl rfl rfl dX6_lambda_byAllMarks_1_3 (lw_V q1808 q1810 qs26 q137 q1811) ⟨rfl, hm_X6_sumOfAll⟩ (by decide) (by decide) (Nat.le_of_ble_eq_true rfl)) (m_X6_sumOfAll a0 a2 a1) rfl (fun x1 => ?_)
  refine cw_ineg dX6_lambda_byAllMarks_1_6 ?_
  exact cw_iret rfl dX6_lambda_byAllMarks_1_7
def g_X6_lambda_decides_5 (a0 : Nat) (a1 : Nat) : GF :=
  invI (some (a0, 8)) (s_contains a0 a1) fun x1 =>
  retZ x1
abbrev md_X6_lambda_decides_5 : MD := (yX6_lambda_decides_5, cX6_lambda_decides_5, 2, (some (Jvm.ClassFile.FieldType.boolean)), RX6, 16, 0, 0)
theorem hm_X6_lambda_decides_5 : (md_X6_lambda_decides_5).y.cls ≠ "java/lang/invoke/MethodHandle" ∧ (md_X6_lambda_decides_5).y.cls ≠ "java/lang/invoke/VarHandle" ∧ (parseMethodDescriptor (md_X6_lambda_decides_5).y.desc).map (fun d => d.parameters.length) = some 2 := by decide +kernel
theorem m_X6_lambda_decides_5 (a0 : Nat) (a1 : Nat) : CMF md_X6_lambda_decides_5 [cR a0, cR a1] (g_X6_lambda_decides_5 a0 a1) := by
  refine cm_of (by decide +kernel) rfl (Nat.le_of_ble_eq_true rfl) ?_
  show CWF _ 0 0 0 [(0, cR a0), (1, cR a1)] [] _
  unfold g_X6_lambda_decides_5
  refine cw_aload_n dX6_lambda_decides_5_0 rfl 0 rfl ?_
  refine cw_aload_n dX6_lambda_decides_5_1 rfl 1 rfl ?_
  refine cw_invI (d2 := md_J2_contains) (c := 0) (q := 0) (as := [cR a0, cR a1]) (mc := 0) (ms := 0) rfl rfl (okF (x := ⟨"java/util/List", "contains", "(Ljava/lang/Object;)Z"⟩) (ci := 14) (C := RJ2) (T0 := TJ2) (N := 3) (n := 1) rfl (Or.inr ⟨rfl, rfl⟩) rfl dX6_lambda_decides_5_2 (lw_F q681 q686 q684 q114 q688) (List.mem_iff_getElem?.mpr ⟨10, rfl⟩) (show ("java/util/List" : String) ≠ _ ∧ ("java/util/List" : String) ≠ _ ∧ (parseMethodDescriptor (md_J2_contains).y.desc).map (fun d => d.parameters.length) = some 1 from ⟨by decide, by decide, (hm_J2_contains).2.2⟩) (by decide) (by decide) (Nat.le_of_ble_eq_true rfl)) (c_contains a0 a1) rfl (fun x1 => ?_)
  exact cw_zret rfl dX6_lambda_decides_5_7
