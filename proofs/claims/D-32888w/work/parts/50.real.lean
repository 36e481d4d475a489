/-! SCRUTINEERY: its methods, part 0 -/
set_option maxRecDepth 100000
def b_X1_opens_72 (a0 : Nat) (l9 : Int32) (rec10 : Int32 → GF) (rec12 : Int32 → GF) : Int32 → GF := fun (l11 : Int32) =>
  if l11 < 5 then
    getP 20 a0 7 fun p13 =>
    aaldG 7 p13 l9 fun x14 =>
    iastG x14 l11 30 <|
    getP 20 a0 8 fun p15 =>
    aaldG 7 p15 l9 fun x16 =>
    iastG x16 l11 50 <|
    rec12 (l11 + 1)
  else
    rec10 (l9 + 1)
def b_X1_opens_65 (a0 : Nat) (J8 : Unit → GF) (rec10 : Int32 → GF) : Int32 → GF := fun (l9 : Int32) =>
  if l9 < 2 then
    loopG (b_X1_opens_72 a0 l9 rec10) FU 0
  else
    J8 ()
def g_X1_opens (a0 : Nat) : GF :=
  getP 20 a0 0 fun p1 =>
  invV (some (p1, 8)) (s_clear p1) <|
  getP 20 a0 1 fun p2 =>
  invV (some (p2, 8)) (s_clear p2) <|
  getP 20 a0 2 fun p3 =>
  invV (some (p3, 8)) (s_clear p3) <|
  getP 20 a0 3 fun p4 =>
  invV (some (p4, 8)) (s_clear p4) <|
  getP 20 a0 4 fun p5 =>
  invV (some (p5, 8)) (s_clear p5) <|
  getP 20 a0 5 fun p6 =>
  invV (some (p6, 8)) (s_clear p6) <|
  getP 20 a0 6 fun p7 =>
  invV (some (p7, 8)) (s_clear p7) <|
  jnG (fun (_ : Unit) =>
    putI 20 a0 9 0 <|
    putI 20 a0 10 0 <|
    retG rV) fun J8 =>
  loopG (b_X1_opens_65 a0 J8) FU 0
abbrev md_X1_opens : MD := (yX1_opens, cX1_opens, 3, none, RX1, 11, 0, 0)
theorem hm_X1_opens : (md_X1_opens).y.cls ≠ "java/lang/invoke/MethodHandle" ∧ (md_X1_opens).y.cls ≠ "java/lang/invoke/VarHandle" ∧ (parseMethodDescriptor (md_X1_opens).y.desc).map (fun d => d.parameters.length) = some 0 := by decide +kernel
theorem m_X1_opens (a0 : Nat) : CMF md_X1_opens [cR a0] (g_X1_opens a0) := by
  refine cm_of (by decide +kernel) rfl (Nat.le_of_ble_eq_true rfl) ?_
  show CWF _ 0 0 0 [(0, cR a0)] [] _
  unfold g_X1_opens
  refine cw_aload_n dX1_opens_0 rfl 0 rfl ?_
  refine cw_getP (ci := 0) (j := 0) (C := RX1) (T := TX1) (N := 11) rfl (by decide) rfl rfl (Or.inl q206) fSame_rfl dX1_opens_1 (fun p1 => ?_)
  refine cw_invV (d2 := md_J2_clear) (c := 0) (q := 0) (as := [cR p1]) (mc := 0) (ms := 0) rfl rfl (okF (x := ⟨"java/util/List", "clear", "()V"⟩) (ci := 14) (C := RJ2) (T0 := TJ2) (N := 3) (n := 0) rfl (Or.inr ⟨rfl, rfl⟩) rfl dX1_opens_4 (lw_F q197 q203 q201 q114 q205) (List.mem_iff_getElem?.mpr ⟨0, rfl⟩) (show ("java/util/List" : String) ≠ _ ∧ ("java/util/List" : String) ≠ _ ∧ (parseMethodDescriptor (md_J2_clear).y.desc).map (fun d => d.parameters.length) = some 0 from ⟨by decide, by decide, (hm_J2_clear).2.2⟩) (by decide) (by decide) (Nat.le_of_ble_eq_true rfl)) (c_clear p1) rfl ?_
  refine cw_aload_n dX1_opens_9 rfl 0 rfl ?_
  refine cw_getP (ci := 0) (j := 1) (C := RX1) (T := TX1) (N := 11) rfl (by decide) rfl rfl (Or.inl q207) fSame_rfl dX1_opens_10 (fun p2 => ?_)
  refine cw_invV (d2 := md_J2_clear) (c := 0) (q := 0) (as := [cR p2]) (mc := 0) (ms := 0) rfl rfl (okF (x := ⟨"java/util/List", "clear", "()V"⟩) (ci := 14) (C := RJ2) (T0 := TJ2) (N := 3) (n := 0) rfl (Or.inr ⟨rfl, rfl⟩) rfl dX1_opens_13 (lw_F q197 q203 q201 q114 q205) (List.mem_iff_getElem?.mpr ⟨0, rfl⟩) (show ("java/util/List" : String) ≠ _ ∧ ("java/util/List" : String) ≠ _ ∧ (parseMethodDescriptor (md_J2_clear).y.desc).map (fun d => d.parameters.length) = some 0 from ⟨by decide, by decide, (hm_J2_clear).2.2⟩) (by decide) (by decide) (Nat.le_of_ble_eq_true rfl)) (c_clear p2) rfl ?_
  refine cw_aload_n dX1_opens_18 rfl 0 rfl ?_
  refine cw_getP (ci := 0) (j := 2) (C := RX1) (T := TX1) (N := 11) rfl (by decide) rfl rfl (Or.inl q208) fSame_rfl dX1_opens_19 (fun p3 => ?_)
  refine cw_invV (d2 := md_J2_clear) (c := 0) (q := 0) (as := [cR p3]) (mc := 0) (ms := 0) rfl rfl (okF (x := ⟨"java/util/List", "clear", "()V"⟩) (ci := 14) (C := RJ2) (T0 := TJ2) (N := 3) (n := 0) rfl (Or.inr ⟨rfl, rfl⟩) rfl dX1_opens_22 (lw_F q197 q203 q201 q114 q205) (List.mem_iff_getElem?.mpr ⟨0, rfl⟩) (show ("java/util/List" : String) ≠ _ ∧ ("java/util/List" : String) ≠ _ ∧ (parseMethodDescriptor (md_J2_clear).y.desc).map (fun d => d.parameters.length) = some 0 from ⟨by decide, by decide, (hm_J2_clear).2.2⟩) (by decide) (by decide) (Nat.le_of_ble_eq_true rfl)) (c_clear p3) rfl ?_
  refine cw_aload_n dX1_opens_27 rfl 0 rfl ?_
  refine cw_getP (ci := 0) (j := 3) (C := RX1) (T := TX1) (N := 11) rfl (by decide) rfl rfl (Or.inl q209) fSame_rfl dX1_opens_28 (fun p4 => ?_)
  refine cw_invV (d2 := md_J2_clear) (c := 0) (q := 0) (as := [cR p4]) (mc := 0) (ms := 0) rfl rfl (okF (x := ⟨"java/util/List", "clear", "()V"⟩) (ci := 14) (C := RJ2) (T0 := TJ2) (N := 3) (n := 0) rfl (Or.inr ⟨rfl, rfl⟩) rfl dX1_opens_31 (lw_F q197 q203 q201 q114 q205) (List.mem_iff_getElem?.mpr ⟨0, rfl⟩) (show ("java/util/List" : String) ≠ _ ∧ ("java/util/List" : String) ≠ _ ∧ (parseMethodDescriptor (md_J2_clear).y.desc).map (fun d => d.parameters.length) = some 0 from ⟨by decide, by decide, (hm_J2_clear).2.2⟩) (by decide) (by decide) (Nat.le_of_ble_eq_true rfl)) (c_clear p4) rfl ?_
  refine cw_aload_n dX1_opens_36 rfl 0 rfl ?_
  refine cw_getP (ci := 0) (j := 4) (C := RX1) (T := TX1) (N := 11) rfl (by decide) rfl rfl (Or.inl q210) fSame_rfl dX1_opens_37 (fun p5 => ?_)
  refine cw_invV (d2 := md_J2_clear) (c := 0) (q := 0) (as := [cR p5]) (mc := 0) (ms := 0) rfl rfl (okF (x := ⟨"java/util/List", "clear", "()V"⟩) (ci := 14) (C := RJ2) (T0 := TJ2) (N := 3) (n := 0) rfl (Or.inr ⟨rfl, rfl⟩) rfl dX1_opens_40 (lw_F q197 q203 q201 q114 q205) (List.mem_iff_getElem?.mpr ⟨0, rfl⟩) (show ("java/util/List" : String) ≠ _ ∧ ("java/util/List" : String) ≠ _ ∧ (parseMethodDescriptor (md_J2_clear).y.desc).map (fun d => d.parameters.length) = some 0 from ⟨by decide, by decide, (hm_J2_clear).2.2⟩) (by decide) (by decide) (Nat.le_of_ble_eq_true rfl)) (c_clear p5) rfl ?_
  refine cw_aload_n dX1_opens_45 rfl 0 rfl ?_
  refine cw_getP (ci := 0) (j := 5) (C := RX1) (T := TX1) (N := 11) rfl (by decide) rfl rfl (Or.inl q211) fSame_rfl dX1_opens_46 (fun p6 => ?_)
  refine cw_invV (d2 := md_J2_clear) (c := 0) (q := 0) (as := [cR p6]) (mc := 0) (ms := 0) rfl rfl (okF (x := ⟨"java/util/List", "clear", "()V"⟩) (ci := 14) (C := RJ2) (T0 := TJ2) (N := 3) (n := 0) rfl (Or.inr ⟨rfl, rfl⟩) rfl dX1_opens_49 (lw_F q197 q203 q201 q114 q205) (List.mem_iff_getElem?.mpr ⟨0, rfl⟩) (show ("java/util/List" : String) ≠ _ ∧ ("java/util/List" : String) ≠ _ ∧ (parseMethodDescriptor (md_J2_clear).y.desc).map (fun d => d.parameters.length) = some 0 from ⟨by decide, by decide, (hm_J2_clear).2.2⟩) (by decide) (by decide) (Nat.le_of_ble_eq_true rfl)) (c_clear p6) rfl ?_
  refine cw_aload_n dX1_opens_54 rfl 0 rfl ?_
  refine cw_getP (ci := 0) (j := 6) (C := RX1) (T := TX1) (N := 11) rfl (by decide) rfl rfl (Or.inl q212) fSame_rfl dX1_opens_55 (fun p7 => ?_)
  refine cw_invV (d2 := md_J2_clear) (c := 0) (q := 0) (as := [cR p7]) (mc := 0) (ms := 0) rfl rfl (okF (x := ⟨"java/util/List", "clear", "()V"⟩) (ci := 14) (C := RJ2) (T0 := TJ2) (N := 3) (n := 0) rfl (Or.inr ⟨rfl, rfl⟩) rfl dX1_opens_58 (lw_F q197 q203 q201 q114 q205) (List.mem_iff_getElem?.mpr ⟨0, rfl⟩) (show ("java/util/List" : String) ≠ _ ∧ ("java/util/List" : String) ≠ _ ∧ (parseMethodDescriptor (md_J2_clear).y.desc).map (fun d => d.parameters.length) = some 0 from ⟨by decide, by decide, (hm_J2_clear).2.2⟩) (by decide) (by decide) (Nat.le_of_ble_eq_true rfl)) (c_clear p7) rfl ?_
  refine cw_iconst (v := 0) dX1_opens_63 (by decide) ?_
  refine cw_istore_n (ls' := [(1, cI 0), (0, cR a0)]) dX1_opens_64 rfl (by decide) rfl ?_
  refine cw_jn (cj := 0) (kj := 0) (pcj := 109) (lsf := fun (s : Unit) => [(0, cR a0)]) (stf := fun (s : Unit) => []) (fun s => ?_) (fun J8 hJ8 => ?_)
  · show CWF _ _ _ 109 [(0, cR a0)] [] _
    refine cw_aload_n dX1_opens_109 rfl 0 rfl ?_
    refine cw_iconst (v := 0) dX1_opens_110 (by decide) ?_
    refine cw_putI (ci := 0) (j := 9) (C := RX1) (T := TX1) (N := 11) rfl (by decide) rfl rfl (Or.inl q215) fSame_rfl (Or.inl rfl) dX1_opens_111 ?_
    refine cw_aload_n dX1_opens_114 rfl 0 rfl ?_
    refine cw_iconst (v := 0) dX1_opens_115 (by decide) ?_
    refine cw_putI (ci := 0) (j := 10) (C := RX1) (T := TX1) (N := 11) rfl (by decide) rfl rfl (Or.inl q216) fSame_rfl (Or.inl rfl) dX1_opens_116 ?_
    exact cw_vret rfl dX1_opens_119
  · refine cw_sub (ls' := [(0, cR a0), (1, cI 0)]) [1, 0] rfl ?_
    refine cw_loop0 (lsf := fun (s : Int32) => [(0, cR a0), (1, cI s)]) (fun rec10 hrec10 s => ?_) FU 0
    obtain ⟨l9, e⟩ : ∃ z, z = s := ⟨_, rfl⟩
    subst e
    show CWF _ _ _ 65 [(0, cR a0), (1, cI l9)] [] _
    dsimp only [b_X1_opens_65]
    refine cw_iload_n dX1_opens_65 rfl 1 rfl ?_
    refine cw_iconst (v := 2) dX1_opens_66 (by decide) ?_
    refine cw_icmp_ge (tgt := 109) dX1_opens_67 (by decide) ?_ ?_
    · refine cw_sub (ls' := [(0, cR a0)]) [0] rfl ?_
      exact hJ8 ()
    · refine cw_iconst (v := 0) dX1_opens_70 (by decide) ?_
      refine cw_istore_n (ls' := [(2, cI 0), (0, cR a0), (1, cI l9)]) dX1_opens_71 rfl (by decide) rfl ?_
      refine cw_sub (ls' := [(0, cR a0), (1, cI l9), (2, cI 0)]) [1, 2, 0] rfl ?_
      refine cw_loop0 (lsf := fun (s : Int32) => [(0, cR a0), (1, cI l9), (2, cI s)]) (fun rec12 hrec12 s => ?_) FU 0
      obtain ⟨l11, e⟩ : ∃ z, z = s := ⟨_, rfl⟩
      subst e
      show CWF _ _ _ 72 [(0, cR a0), (1, cI l9), (2, cI l11)] [] _
      dsimp only [b_X1_opens_72]
      refine cw_iload_n dX1_opens_72 rfl 2 rfl ?_
      refine cw_iconst (v := 5) dX1_opens_73 (by decide) ?_
      refine cw_icmp_ge (tgt := 103) dX1_opens_74 (by decide) ?_ ?_
      · refine cw_iinc (v := (l9 + 1)) (ls' := [(1, cI (l9 + 1)), (0, cR a0), (2, cI l11)]) dX1_opens_103 1 rfl rfl (by decide) rfl ?_
        refine cw_goto (tgt := 65) dX1_opens_106 (by decide) ?_
        refine cw_sub (ls' := [(0, cR a0), (1, cI (l9 + 1))]) [1, 0] rfl ?_
        exact hrec10 (l9 + 1)
      · refine cw_aload_n dX1_opens_77 rfl 0 rfl ?_
        refine cw_getP (ci := 0) (j := 7) (C := RX1) (T := TX1) (N := 11) rfl (by decide) rfl rfl (Or.inl q213) fSame_rfl dX1_opens_78 (fun p13 => ?_)
        refine cw_iload_n dX1_opens_81 rfl 1 rfl ?_
        refine cw_aald (t := 7) (by decide) dX1_opens_82 (fun x14 => ?_)
        refine cw_iload_n dX1_opens_83 rfl 2 rfl ?_
        refine cw_bipush (v := 30) dX1_opens_84 (by decide) ?_
        refine cw_iast dX1_opens_86 ?_
        refine cw_aload_n dX1_opens_87 rfl 0 rfl ?_
        refine cw_getP (ci := 0) (j := 8) (C := RX1) (T := TX1) (N := 11) rfl (by decide) rfl rfl (Or.inl q214) fSame_rfl dX1_opens_88 (fun p15 => ?_)
        refine cw_iload_n dX1_opens_91 rfl 1 rfl ?_
        refine cw_aald (t := 7) (by decide) dX1_opens_92 (fun x16 => ?_)
        refine cw_iload_n dX1_opens_93 rfl 2 rfl ?_
        refine cw_bipush (v := 50) dX1_opens_94 (by decide) ?_
        refine cw_iast dX1_opens_96 ?_
        refine cw_iinc (v := (l11 + 1)) (ls' := [(2, cI (l11 + 1)), (0, cR a0), (1, cI l9)]) dX1_opens_97 2 rfl rfl (by decide) rfl ?_
        refine cw_goto (tgt := 72) dX1_opens_100 (by decide) ?_
        refine cw_sub (ls' := [(0, cR a0), (1, cI l9), (2, cI (l11 + 1))]) [1, 2, 0] rfl ?_
        exact hrec12 (l11 + 1)
def g_X1_init (a0 : Nat) : GF :=
  objG a0 <|
  newG 34 fun p1 =>
  invV (some (p1, 34)) (s_init p1) <|
  putP 20 a0 0 p1 <|
  newG 34 fun p2 =>
  invV (some (p2, 34)) (s_init p2) <|
  putP 20 a0 1 p2 <|
  newG 34 fun p3 =>
  invV (some (p3, 34)) (s_init p3) <|
  putP 20 a0 2 p3 <|
  newG 34 fun p4 =>
  invV (some (p4, 34)) (s_init p4) <|
  putP 20 a0 3 p4 <|
  newG 34 fun p5 =>
  invV (some (p5, 34)) (s_init p5) <|
  putP 20 a0 4 p5 <|
  newG 34 fun p6 =>
  invV (some (p6, 34)) (s_init p6) <|
  putP 20 a0 5 p6 <|
  newG 34 fun p7 =>
  invV (some (p7, 34)) (s_init p7) <|
  putP 20 a0 6 p7 <|
  mulG 7 1 2 5 fun p8 =>
  putP 20 a0 7 p8 <|
  mulG 7 1 2 5 fun p9 =>
  putP 20 a0 8 p9 <|
  invV (some (a0, 20)) (g_X1_opens a0) <|
  retG rV
abbrev md_X1_init : MD := (yX1_init, cX1_init, 1, none, RX1, 13, 13, 45)
theorem hm_X1_init : (md_X1_init).y.cls ≠ "java/lang/invoke/MethodHandle" ∧ (md_X1_init).y.cls ≠ "java/lang/invoke/VarHandle" ∧ (parseMethodDescriptor (md_X1_init).y.desc).map (fun d => d.parameters.length) = some 0 := by decide +kernel
theorem m_X1_init (a0 : Nat) : CMF md_X1_init [cR a0] (g_X1_init a0) := by
  refine cm_of (by decide +kernel) rfl (Nat.le_of_ble_eq_true rfl) ?_
  show CWF _ 13 45 0 [(0, cR a0)] [] _
  unfold g_X1_init
  refine cw_aload_n dX1_init_0 rfl 0 rfl ?_
  refine cw_objInit q158 q159 q160 dX1_init_1 (by decide) (Nat.le_of_ble_eq_true rfl) ?_
  refine cw_aload_n dX1_init_4 rfl 0 rfl ?_
  refine cw_new (c := 12) (q := 42) (ci := 14) (C := RJ2) (T := TJ2) (N := 3) rfl rfl q161 q162 q114 dX1_init_5 (fun p1 => ?_)
  refine cw_dup dX1_init_8 rfl ?_
  refine cw_invV (d2 := md_J2_init) (c := 12) (q := 42) (as := [cR p1]) (mc := 0) (ms := 0) rfl rfl (okI (n := 0) rfl rfl dX1_init_9 (lw_meth q165) q114 q163 q164 rfl hm_J2_init (by decide) (by decide) (Nat.le_of_ble_eq_true rfl) (by decide)) (c_init p1) rfl ?_
  refine cw_putP (ci := 0) (j := 0) (C := RX1) (T := TX1) (N := 11) rfl (by decide) rfl rfl (Or.inl q206) fSame_rfl (Or.inr ⟨rfl, rfl, rfl⟩) dX1_init_12 ?_
  refine cw_aload_n dX1_init_15 rfl 0 rfl ?_
  refine cw_new (c := 11) (q := 39) (ci := 14) (C := RJ2) (T := TJ2) (N := 3) rfl rfl q161 q162 q114 dX1_init_16 (fun p2 => ?_)
  refine cw_dup dX1_init_19 rfl ?_
  refine cw_invV (d2 := md_J2_init) (c := 11) (q := 39) (as := [cR p2]) (mc := 0) (ms := 0) rfl rfl (okI (n := 0) rfl rfl dX1_init_20 (lw_meth q165) q114 q163 q164 rfl hm_J2_init (by decide) (by decide) (Nat.le_of_ble_eq_true rfl) (by decide)) (c_init p2) rfl ?_
  refine cw_putP (ci := 0) (j := 1) (C := RX1) (T := TX1) (N := 11) rfl (by decide) rfl rfl (Or.inl q207) fSame_rfl (Or.inr ⟨rfl, rfl, rfl⟩) dX1_init_23 ?_
  refine cw_aload_n dX1_init_26 rfl 0 rfl ?_
  refine cw_new (c := 10) (q := 36) (ci := 14) (C := RJ2) (T := TJ2) (N := 3) rfl rfl q161 q162 q114 dX1_init_27 (fun p3 => ?_)
  refine cw_dup dX1_init_30 rfl ?_
  refine cw_invV (d2 := md_J2_init) (c := 10) (q := 36) (as := [cR p3]) (mc := 0) (ms := 0) rfl rfl (okI (n := 0) rfl rfl dX1_init_31 (lw_meth q165) q114 q163 q164 rfl hm_J2_init (by decide) (by decide) (Nat.le_of_ble_eq_true rfl) (by decide)) (c_init p3) rfl ?_
  refine cw_putP (ci := 0) (j := 2) (C := RX1) (T := TX1) (N := 11) rfl (by decide) rfl rfl (Or.inl q208) fSame_rfl (Or.inr ⟨rfl, rfl, rfl⟩) dX1_init_34 ?_
  refine cw_aload_n dX1_init_37 rfl 0 rfl ?_
  refine cw_new (c := 9) (q := 33) (ci := 14) (C := RJ2) (T := TJ2) (N := 3) rfl rfl q161 q162 q114 dX1_init_38 (fun p4 => ?_)
  refine cw_dup dX1_init_41 rfl ?_
  refine cw_invV (d2 := md_J2_init) (c := 9) (q := 33) (as := [cR p4]) (mc := 0) (ms := 0) rfl rfl (okI (n := 0) rfl rfl dX1_init_42 (lw_meth q165) q114 q163 q164 rfl hm_J2_init (by decide) (by decide) (Nat.le_of_ble_eq_true rfl) (by decide)) (c_init p4) rfl ?_
  refine cw_putP (ci := 0) (j := 3) (C := RX1) (T := TX1) (N := 11) rfl (by decide) rfl rfl (Or.inl q209) fSame_rfl (Or.inr ⟨rfl, rfl, rfl⟩) dX1_init_45 ?_
  refine cw_aload_n dX1_init_48 rfl 0 rfl ?_
  refine cw_new (c := 8) (q := 30) (ci := 14) (C := RJ2) (T := TJ2) (N := 3) rfl rfl q161 q162 q114 dX1_init_49 (fun p5 => ?_)
  refine cw_dup dX1_init_52 rfl ?_
  refine cw_invV (d2 := md_J2_init) (c := 8) (q := 30) (as := [cR p5]) (mc := 0) (ms := 0) rfl rfl (okI (n := 0) rfl rfl dX1_init_53 (lw_meth q165) q114 q163 q164 rfl hm_J2_init (by decide) (by decide) (Nat.le_of_ble_eq_true rfl) (by decide)) (c_init p5) rfl ?_
  refine cw_putP (ci := 0) (j := 4) (C := RX1) (T := TX1) (N := 11) rfl (by decide) rfl rfl (Or.inl q210) fSame_rfl (Or.inr ⟨rfl, rfl, rfl⟩) dX1_init_56 ?_
  refine cw_aload_n dX1_init_59 rfl 0 rfl ?_
  refine cw_new (c := 7) (q := 27) (ci := 14) (C := RJ2) (T := TJ2) (N := 3) rfl rfl q161 q162 q114 dX1_init_60 (fun p6 => ?_)
  refine cw_dup dX1_init_63 rfl ?_
  refine cw_invV (d2 := md_J2_init) (c := 7) (q := 27) (as := [cR p6]) (mc := 0) (ms := 0) rfl rfl (okI (n := 0) rfl rfl dX1_init_64 (lw_meth q165) q114 q163 q164 rfl hm_J2_init (by decide) (by decide) (Nat.le_of_ble_eq_true rfl) (by decide)) (c_init p6) rfl ?_
  refine cw_putP (ci := 0) (j := 5) (C := RX1) (T := TX1) (N := 11) rfl (by decide) rfl rfl (Or.inl q211) fSame_rfl (Or.inr ⟨rfl, rfl, rfl⟩) dX1_init_67 ?_
  refine cw_aload_n dX1_init_70 rfl 0 rfl ?_
  refine cw_new (c := 6) (q := 24) (ci := 14) (C := RJ2) (T := TJ2) (N := 3) rfl rfl q161 q162 q114 dX1_init_71 (fun p7 => ?_)
  refine cw_dup dX1_init_74 rfl ?_
  refine cw_invV (d2 := md_J2_init) (c := 6) (q := 24) (as := [cR p7]) (mc := 0) (ms := 0) rfl rfl (okI (n := 0) rfl rfl dX1_init_75 (lw_meth q165) q114 q163 q164 rfl hm_J2_init (by decide) (by decide) (Nat.le_of_ble_eq_true rfl) (by decide)) (c_init p7) rfl ?_
  refine cw_putP (ci := 0) (j := 6) (C := RX1) (T := TX1) (N := 11) rfl (by decide) rfl rfl (Or.inl q212) fSame_rfl (Or.inr ⟨rfl, rfl, rfl⟩) dX1_init_78 ?_
  refine cw_aload_n dX1_init_81 rfl 0 rfl ?_
  refine cw_iconst (v := 2) dX1_init_82 (by decide) ?_
  refine cw_iconst (v := 5) dX1_init_83 (by decide) ?_
  refine cw_mul (c := 3) (q := 12) (t1 := 7) (t2 := 1) (n := 2) (k := 5) (ty := .int) ⟨by decide, by decide⟩ (by decide) (Or.inl ⟨rfl, rfl, rfl⟩) q190 q191 q240 dX1_init_84 (fun p8 => ?_)
  refine cw_putP (ci := 0) (j := 7) (C := RX1) (T := TX1) (N := 11) rfl (by decide) rfl rfl (Or.inl q213) fSame_rfl (Or.inr ⟨rfl, rfl, rfl⟩) dX1_init_88 ?_
  refine cw_aload_n dX1_init_91 rfl 0 rfl ?_
  refine cw_iconst (v := 2) dX1_init_92 (by decide) ?_
  refine cw_iconst (v := 5) dX1_init_93 (by decide) ?_
  refine cw_mul (c := 0) (q := 0) (t1 := 7) (t2 := 1) (n := 2) (k := 5) (ty := .int) ⟨by decide, by decide⟩ (by decide) (Or.inl ⟨rfl, rfl, rfl⟩) q190 q191 q240 dX1_init_94 (fun p9 => ?_)
  refine cw_putP (ci := 0) (j := 8) (C := RX1) (T := TX1) (N := 11) rfl (by decide) rfl rfl (Or.inl q214) fSame_rfl (Or.inr ⟨rfl, rfl, rfl⟩) dX1_init_98 ?_
  refine cw_aload_n dX1_init_101 rfl 0 rfl ?_
  refine cw_invV (d2 := md_X1_opens) (c := 0) (q := 0) (as := [cR a0]) (mc := 0) (ms := 0) rfl rfl (okV (ci := 0) (C := RX1) (T0 := TX1) (N := 11) (n := 0) rfl rfl rfl dX1_init_102 (lw_V q192 q194 qs0 q111 q195) ⟨rfl, hm_X1_opens⟩ (by decide) (by decide) (Nat.le_of_ble_eq_true rfl)) (m_X1_opens a0) rfl ?_
  exact cw_vret rfl dX1_init_105
def g_X1_begin (a0 : Nat) : GF :=
  getP 20 a0 0 fun p1 =>
  invI (some (p1, 8)) (s_size p1) fun x2 =>
  invV (some (a0, 20)) (g_X1_opens a0) <|
  retG (rI x2)
abbrev md_X1_begin : MD := (yX1_begin, cX1_begin, 2, (some (Jvm.ClassFile.FieldType.int)), RX1, 12, 0, 0)
theorem hm_X1_begin : (md_X1_begin).y.cls ≠ "java/lang/invoke/MethodHandle" ∧ (md_X1_begin).y.cls ≠ "java/lang/invoke/VarHandle" ∧ (parseMethodDescriptor (md_X1_begin).y.desc).map (fun d => d.parameters.length) = some 0 := by decide +kernel
theorem m_X1_begin (a0 : Nat) : CMF md_X1_begin [cR a0] (g_X1_begin a0) := by
  refine cm_of (by decide +kernel) rfl (Nat.le_of_ble_eq_true rfl) ?_
  show CWF _ 0 0 0 [(0, cR a0)] [] _
  unfold g_X1_begin
  refine cw_aload_n dX1_begin_0 rfl 0 rfl ?_
  refine cw_getP (ci := 0) (j := 0) (C := RX1) (T := TX1) (N := 11) rfl (by decide) rfl rfl (Or.inl q206) fSame_rfl dX1_begin_1 (fun p1 => ?_)
  refine cw_invI (d2 := md_J2_size) (c := 0) (q := 0) (as := [cR p1]) (mc := 0) (ms := 0) rfl rfl (okF (x := ⟨"java/util/List", "size", "()I"⟩) (ci := 14) (C := RJ2) (T0 := TJ2) (N := 3) (n := 0) rfl (Or.inr ⟨rfl, rfl⟩) rfl dX1_begin_4 (lw_F q246 q251 q249 q114 q253) (List.mem_iff_getElem?.mpr ⟨1, rfl⟩) (show ("java/util/List" : String) ≠ _ ∧ ("java/util/List" : String) ≠ _ ∧ (parseMethodDescriptor (md_J2_size).y.desc).map (fun d => d.parameters.length) = some 0 from ⟨by decide, by decide, (hm_J2_size).2.2⟩) (by decide) (by decide) (Nat.le_of_ble_eq_true rfl)) (c_size p1) rfl (fun x2 => ?_)
  refine cw_istore_n (ls' := [(1, cI x2), (0, cR a0)]) dX1_begin_9 rfl (by decide) rfl ?_
  refine cw_aload_n dX1_begin_10 rfl 1 rfl ?_
  refine cw_invV (d2 := md_X1_opens) (c := 0) (q := 0) (as := [cR a0]) (mc := 0) (ms := 0) rfl rfl (okV (ci := 0) (C := RX1) (T0 := TX1) (N := 11) (n := 0) rfl rfl rfl dX1_begin_11 (lw_V q192 q194 qs0 q111 q195) ⟨rfl, hm_X1_opens⟩ (by decide) (by decide) (Nat.le_of_ble_eq_true rfl)) (m_X1_opens a0) rfl ?_
  refine cw_iload_n dX1_begin_14 rfl 0 rfl ?_
  exact cw_iret rfl dX1_begin_15
def g_X1_isBetween (a0 : Int32) (a1 : Int32) (a2 : Int32) : GF :=
  if a0 < a1 then
    retZ 0
  else if a0 ≤ a2 then
    retZ 1
  else
    retZ 0
abbrev md_X1_isBetween : MD := (yX1_isBetween, cX1_isBetween, 3, (some (Jvm.ClassFile.FieldType.boolean)), RX1, 10, 0, 0)
theorem hm_X1_isBetween : (md_X1_isBetween).y.cls ≠ "java/lang/invoke/MethodHandle" ∧ (md_X1_isBetween).y.cls ≠ "java/lang/invoke/VarHandle" ∧ (parseMethodDescriptor (md_X1_isBetween).y.desc).map (fun d => d.parameters.length) = some 3 := by decide +kernel
theorem m_X1_isBetween (a0 : Int32) (a1 : Int32) (a2 : Int32) : CMF md_X1_isBetween [cI a0, cI a1, cI a2] (g_X1_isBetween a0 a1 a2) := by
  refine cm_of (by decide +kernel) rfl (Nat.le_of_ble_eq_true rfl) ?_
  show CWF _ 0 0 0 [(0, cI a0), (1, cI a1), (2, cI a2)] [] _
  unfold g_X1_isBetween
  refine cw_iload_n dX1_isBetween_0 rfl 0 rfl ?_
  refine cw_iload_n dX1_isBetween_1 rfl 1 rfl ?_
  refine cw_icmp_lt (tgt := 14) dX1_isBetween_2 (by decide) ?_ ?_
  · refine cw_iconst (v := 0) dX1_isBetween_14 (by decide) ?_
    exact cw_zret rfl dX1_isBetween_15
  · refine cw_iload_n dX1_isBetween_5 rfl 0 rfl ?_
    refine cw_iload_n dX1_isBetween_6 rfl 2 rfl ?_
    refine cw_icmp_gt (tgt := 14) dX1_isBetween_7 (by decide) ?_ ?_
    · refine cw_iconst (v := 0) dX1_isBetween_14 (by decide) ?_
      exact cw_zret rfl dX1_isBetween_15
    · refine cw_iconst (v := 1) dX1_isBetween_10 (by decide) ?_
      refine cw_goto (tgt := 15) dX1_isBetween_11 (by decide) ?_
      exact cw_zret rfl dX1_isBetween_15
def g_X1_cause (a0 : Nat) (a1 : Int32) : GF :=
  getP 20 a0 6 fun p1 =>
  invI (some (p1, 8)) (s_size p1) fun x2 =>
  invI none (g_X1_isBetween a1 0 (x2 - 1)) fun x3 =>
  if x3 = 0 then
    retG (rI (-1 : Int32))
  else
    getP 20 a0 6 fun p4 =>
    invP (some (p4, 8)) (s_get p4 a1) fun p5 =>
    castIG p5 <|
    invI (some (p5, 36)) (g_J21_intValue p5) fun x6 =>
    retG (rI x6)
abbrev md_X1_cause : MD := (yX1_cause, cX1_cause, 2, (some (Jvm.ClassFile.FieldType.int)), RX1, 13, 0, 0)
theorem hm_X1_cause : (md_X1_cause).y.cls ≠ "java/lang/invoke/MethodHandle" ∧ (md_X1_cause).y.cls ≠ "java/lang/invoke/VarHandle" ∧ (parseMethodDescriptor (md_X1_cause).y.desc).map (fun d => d.parameters.length) = some 1 := by decide +kernel
theorem m_X1_cause (a0 : Nat) (a1 : Int32) : CMF md_X1_cause [cR a0, cI a1] (g_X1_cause a0 a1) := by
  refine cm_of (by decide +kernel) rfl (Nat.le_of_ble_eq_true rfl) ?_
  show CWF _ 0 0 0 [(0, cR a0), (1, cI a1)] [] _
  unfold g_X1_cause
  refine cw_iload_n dX1_cause_0 rfl 1 rfl ?_
  refine cw_iconst (v := 0) dX1_cause_1 (by decide) ?_
  refine cw_aload_n dX1_cause_2 rfl 0 rfl ?_
  refine cw_getP (ci := 0) (j := 6) (C := RX1) (T := TX1) (N := 11) rfl (by decide) rfl rfl (Or.inl q212) fSame_rfl dX1_cause_3 (fun p1 => ?_)
  refine cw_invI (d2 := md_J2_size) (c := 0) (q := 0) (as := [cR p1]) (mc := 0) (ms := 0) rfl rfl (okF (x := ⟨"java/util/List", "size", "()I"⟩) (ci := 14) (C := RJ2) (T0 := TJ2) (N := 3) (n := 0) rfl (Or.inr ⟨rfl, rfl⟩) rfl dX1_cause_6 (lw_F q246 q251 q249 q114 q253) (List.mem_iff_getElem?.mpr ⟨1, rfl⟩) (show ("java/util/List" : String) ≠ _ ∧ ("java/util/List" : String) ≠ _ ∧ (parseMethodDescriptor (md_J2_size).y.desc).map (fun d => d.parameters.length) = some 0 from ⟨by decide, by decide, (hm_J2_size).2.2⟩) (by decide) (by decide) (Nat.le_of_ble_eq_true rfl)) (c_size p1) rfl (fun x2 => ?_)
  refine cw_iconst (v := 1) dX1_cause_11 (by decide) ?_
  refine cw_isub dX1_cause_12 ?_
  refine cw_invI (d2 := md_X1_isBetween) (c := 0) (q := 0) (as := [cI a1, cI 0, cI (x2 - 1)]) (mc := 0) (ms := 0) rfl rfl (okS (n := 3) rfl dX1_cause_13 (lw_S q258 q259 q111 q260) hm_X1_isBetween (by decide) (by decide) (Nat.le_of_ble_eq_true rfl)) (m_X1_isBetween a1 0 (x2 - 1)) rfl (fun x3 => ?_)
  refine cw_if_eq (tgt := 38) dX1_cause_16 (by decide) ?_ ?_
  · refine cw_iconst (v := -1) dX1_cause_38 (by decide) ?_
    exact cw_iret rfl dX1_cause_39
  · refine cw_aload_n dX1_cause_19 rfl 0 rfl ?_
    refine cw_getP (ci := 0) (j := 6) (C := RX1) (T := TX1) (N := 11) rfl (by decide) rfl rfl (Or.inl q212) fSame_rfl dX1_cause_20 (fun p4 => ?_)
    refine cw_iload_n dX1_cause_23 rfl 1 rfl ?_
    refine cw_invP (d2 := md_J2_get) (c := 0) (q := 0) (as := [cR p4, cI a1]) (mc := 0) (ms := 0) rfl rfl (okF (x := ⟨"java/util/List", "get", "(I)Ljava/lang/Object;"⟩) (ci := 14) (C := RJ2) (T0 := TJ2) (N := 3) (n := 1) rfl (Or.inr ⟨rfl, rfl⟩) rfl dX1_cause_24 (lw_F q262 q267 q265 q114 q269) (List.mem_iff_getElem?.mpr ⟨2, rfl⟩) (show ("java/util/List" : String) ≠ _ ∧ ("java/util/List" : String) ≠ _ ∧ (parseMethodDescriptor (md_J2_get).y.desc).map (fun d => d.parameters.length) = some 1 from ⟨by decide, by decide, (hm_J2_get).2.2⟩) (by decide) (by decide) (Nat.le_of_ble_eq_true rfl)) (c_get p4 a1) rfl (fun p5 => ?_)
    refine cw_castI q280 dX1_cause_29 ?_
    refine cw_invI (d2 := md_J21_intValue) (c := 0) (q := 0) (as := [cR p5]) (mc := 0) (ms := 0) rfl rfl (okV (ci := 16) (C := RJ21) (T0 := TJ21) (N := 1) (n := 0) rfl rfl rfl dX1_cause_32 (lw_V q281 q282 q283 q140 q284) ⟨rfl, hm_J21_intValue⟩ (by decide) (by decide) (Nat.le_of_ble_eq_true rfl)) (m_J21_intValue p5) rfl (fun x6 => ?_)
    refine cw_goto (tgt := 39) dX1_cause_35 (by decide) ?_
    exact cw_iret rfl dX1_cause_39
def b_X6_valid_12 (p1 : Nat) (m2 : Int32) (rec5 : (Int32 × Nat) → GF) : (Int32 × Nat) → GF := fun (s : Int32 × Nat) => match s with
  | (l3, l4) =>
    hasG p1 l4 fun x6 =>
    if x6 = 0 then
      retG (rI l3)
    else
      nextG p1 m2 l4 fun p7 =>
      castG 27 p7 <|
      getI 27 p7 5 fun x8 =>
      jnG (fun (v9 : Int32) =>
        rec5 ((l3 + v9), (l4 + 1))) fun J10 =>
      if x8 = 0 then
        J10 1
      else
        J10 0
def g_X6_valid (a0 : Nat) : GF :=
  getP 25 a0 7 fun p1 =>
  itG p1 fun m2 =>
  loopG (b_X6_valid_12 p1 m2) FU (0, 0)
abbrev md_X6_valid : MD := (yX6_valid, cX6_valid, 4, (some (Jvm.ClassFile.FieldType.int)), RX6, 12, 1, 4)
theorem hm_X6_valid : (md_X6_valid).y.cls ≠ "java/lang/invoke/MethodHandle" ∧ (md_X6_valid).y.cls ≠ "java/lang/invoke/VarHandle" ∧ (parseMethodDescriptor (md_X6_valid).y.desc).map (fun d => d.parameters.length) = some 0 := by decide +kernel
theorem m_X6_valid (a0 : Nat) : CMF md_X6_valid [cR a0] (g_X6_valid a0) := by
  refine cm_of (by decide +kernel) rfl (Nat.le_of_ble_eq_true rfl) ?_
  show CWF _ 1 4 0 [(0, cR a0)] [] _
  unfold g_X6_valid
  refine cw_iconst (v := 0) dX6_valid_0 (by decide) ?_
  refine cw_istore_n (ls' := [(1, cI 0), (0, cR a0)]) dX6_valid_1 rfl (by decide) rfl ?_
  refine cw_aload_n dX6_valid_2 rfl 1 rfl ?_
  refine cw_getP (ci := 5) (j := 7) (C := RX6) (T := TX6) (N := 19) rfl (by decide) rfl rfl (Or.inl q1099) fSame_rfl dX6_valid_3 (fun p1 => ?_)
  refine cw_iter (c := 0) (q := 0) (la := 1) (ls' := [(1, cI 0), (0, cR a0)]) rfl (Or.inl ⟨_, dX6_valid_11, rfl, rfl⟩) (by decide) (okF (x := ⟨"java/util/List", "iterator", "()Ljava/util/Iterator;"⟩) (ci := 14) (C := RJ2) (T0 := TJ2) (N := 3) (n := 0) rfl (Or.inr ⟨rfl, rfl⟩) rfl dX6_valid_6 (lw_F q531 q295 q293 q114 q297) (List.mem_iff_getElem?.mpr ⟨3, rfl⟩) (show ("java/util/List" : String) ≠ _ ∧ ("java/util/List" : String) ≠ _ ∧ (parseMethodDescriptor (md_J2_iterator).y.desc).map (fun d => d.parameters.length) = some 0 from ⟨by decide, by decide, (hm_J2_iterator).2.2⟩) (by decide) (by decide) (Nat.le_of_ble_eq_true rfl)) (fun m2 => ?_)
  refine cw_sub (ls' := [(1, cI 0), (2, cT p1 m2 0)]) [1, 0] rfl ?_
  refine cw_loop0 (lsf := fun (s : Int32 × Nat) => [(1, cI s.1), (2, cT p1 m2 s.2)]) (fun rec5 hrec5 s => ?_) FU (0, 0)
  obtain ⟨l3, l4⟩ := s
  show CWF _ _ _ 12 [(1, cI l3), (2, cT p1 m2 l4)] [] _
  dsimp only [b_X6_valid_12]
  refine cw_sub (ls' := [(2, cT p1 m2 l4), (1, cI l3)]) [1, 0] rfl ?_
  refine cw_hasNext (la := 1) rfl (Or.inl ⟨_, dX6_valid_12, rfl, rfl⟩) (fun x => okF (x := ⟨"java/util/Iterator", "hasNext", "()Z"⟩) (ci := 15) (C := RJ18) (T0 := TJ18) (N := 4) (n := 0) rfl (Or.inl rfl) rfl dX6_valid_13 (lw_F q533 q339 q337 q134 q341) (List.mem_iff_getElem?.mpr ⟨4, rfl⟩) (show ("java/util/Iterator" : String) ≠ _ ∧ ("java/util/Iterator" : String) ≠ _ ∧ (parseMethodDescriptor (md_J18_hasNext).y.desc).map (fun d => d.parameters.length) = some 0 from ⟨by decide, by decide, (hm_J18_hasNext).2.2⟩) (by decide) (by decide) (Nat.le_of_ble_eq_true rfl)) (fun x6 => ?_)
  refine cw_if_eq (tgt := 49) dX6_valid_18 (by decide) ?_ ?_
  · refine cw_iload_n dX6_valid_49 rfl 1 rfl ?_
    exact cw_iret rfl dX6_valid_50
  · refine cw_next (la := 1) rfl (Or.inl ⟨_, dX6_valid_21, rfl, rfl⟩) (fun x => okF (x := ⟨"java/util/Iterator", "next", "()Ljava/lang/Object;"⟩) (ci := 15) (C := RJ18) (T0 := TJ18) (N := 4) (n := 0) rfl (Or.inl rfl) rfl dX6_valid_22 (lw_F q535 q432 q430 q134 q434) (List.mem_iff_getElem?.mpr ⟨6, rfl⟩) (show ("java/util/Iterator" : String) ≠ _ ∧ ("java/util/Iterator" : String) ≠ _ ∧ (parseMethodDescriptor (md_J18_next).y.desc).map (fun d => d.parameters.length) = some 0 from ⟨by decide, by decide, (hm_J18_next).2.2⟩) (by decide) (by decide) (Nat.le_of_ble_eq_true rfl)) (fun p7 => ?_)
    refine cw_cast (ci := 7) (T := TX8) (N := 10) (C := RX8) rfl rfl q536 (Or.inl rfl) dX6_valid_27 ?_
    refine cw_astore_n (ls' := [(3, cR p7), (2, cT p1 m2 (l4 + 1)), (1, cI l3)]) dX6_valid_30 rfl (by decide) rfl ?_
    refine cw_iload_n dX6_valid_31 rfl 2 rfl ?_
    refine cw_aload_n dX6_valid_32 rfl 0 rfl ?_
    refine cw_getI (ci := 7) (j := 5) (C := RX8) (T := TX8) (N := 10) rfl (by decide) rfl rfl (Or.inr ⟨_, q1262⟩) fSame_rfl dX6_valid_33 (fun x8 => ?_)
    refine cw_jn (cj := 0) (kj := 0) (pcj := 44) (lsf := fun (s : Int32) => [(2, cT p1 m2 (l4 + 1))]) (stf := fun (s : Int32) => [cI s, cI l3]) (fun s => ?_) (fun J10 hJ10 => ?_)
    · obtain ⟨v9, e⟩ : ∃ z, z = s := ⟨_, rfl⟩
      subst e
      show CWF _ _ _ 44 [(2, cT p1 m2 (l4 + 1))] [cI v9, cI l3] _
      refine cw_iadd dX6_valid_44 ?_
      refine cw_istore_n (ls' := [(1, cI (l3 + v9)), (2, cT p1 m2 (l4 + 1))]) dX6_valid_45 rfl (by decide) rfl ?_
      refine cw_goto (tgt := 12) dX6_valid_46 (by decide) ?_
      exact hrec5 ((l3 + v9), (l4 + 1))
    · refine cw_if_eq (tgt := 43) dX6_valid_36 (by decide) ?_ ?_
      · refine cw_iconst (v := 1) dX6_valid_43 (by decide) ?_
        refine cw_sub (ls' := [(2, cT p1 m2 (l4 + 1))]) [1] rfl ?_
        exact hJ10 1
      · refine cw_iconst (v := 0) dX6_valid_39 (by decide) ?_
        refine cw_goto (tgt := 44) dX6_valid_40 (by decide) ?_
        refine cw_sub (ls' := [(2, cT p1 m2 (l4 + 1))]) [1] rfl ?_
        exact hJ10 0
def g_X6_panel (a0 : Nat) (a1 : Int32) : GF :=
  getP 25 a0 8 fun p1 =>
  iremG a1 2 fun x2 =>
  invP (some (p1, 8)) (s_get p1 x2) fun p3 =>
  castG 8 p3 <|
  retG (rR p3)
abbrev md_X6_panel : MD := (yX6_panel, cX6_panel, 2, (some ((Jvm.ClassFile.FieldType.object "java/util/List"))), RX6, 13, 0, 0)
theorem hm_X6_panel : (md_X6_panel).y.cls ≠ "java/lang/invoke/MethodHandle" ∧ (md_X6_panel).y.cls ≠ "java/lang/invoke/VarHandle" ∧ (parseMethodDescriptor (md_X6_panel).y.desc).map (fun d => d.parameters.length) = some 1 := by decide +kernel
theorem m_X6_panel (a0 : Nat) (a1 : Int32) : CMF md_X6_panel [cR a0, cI a1] (g_X6_panel a0 a1) := by
  refine cm_of (by decide +kernel) rfl (Nat.le_of_ble_eq_true rfl) ?_
  show CWF _ 0 0 0 [(0, cR a0), (1, cI a1)] [] _
  unfold g_X6_panel
  refine cw_aload_n dX6_panel_0 rfl 0 rfl ?_
  refine cw_getP (ci := 5) (j := 8) (C := RX6) (T := TX6) (N := 19) rfl (by decide) rfl rfl (Or.inl q1101) fSame_rfl dX6_panel_1 (fun p1 => ?_)
  refine cw_iload_n dX6_panel_4 rfl 1 rfl ?_
  refine cw_iconst (v := 2) dX6_panel_5 (by decide) ?_
  refine cw_irem dX6_panel_6 (fun x2 => ?_)
  refine cw_invP (d2 := md_J2_get) (c := 0) (q := 0) (as := [cR p1, cI x2]) (mc := 0) (ms := 0) rfl rfl (okF (x := ⟨"java/util/List", "get", "(I)Ljava/lang/Object;"⟩) (ci := 14) (C := RJ2) (T0 := TJ2) (N := 3) (n := 1) rfl (Or.inr ⟨rfl, rfl⟩) rfl dX6_panel_7 (lw_F q549 q267 q265 q114 q269) (List.mem_iff_getElem?.mpr ⟨2, rfl⟩) (show ("java/util/List" : String) ≠ _ ∧ ("java/util/List" : String) ≠ _ ∧ (parseMethodDescriptor (md_J2_get).y.desc).map (fun d => d.parameters.length) = some 1 from ⟨by decide, by decide, (hm_J2_get).2.2⟩) (by decide) (by decide) (Nat.le_of_ble_eq_true rfl)) (c_get p1 x2) rfl (fun p3 => ?_)
  refine cw_castL q558 (Or.inr q200) dX6_panel_12 ?_
  exact cw_aret rfl rfl dX6_panel_15
def b_X10_of_12 (a1 : Int32) (J5 : Int32 → GF) (rec8 : (Int32 × Int32) → GF) : (Int32 × Int32) → GF := fun (s : Int32 × Int32) => match s with
  | (l6, l7) =>
    if l7 ≤ a1 then
      J5 l6
    else
      idivG l6 10 fun x9 =>
      rec8 (x9, (l7 + (-1)))
def g_X10_of (a0 : Nat) (a1 : Int32) : GF :=
  getI 29 a0 0 fun x1 =>
  getI 29 a0 1 fun x2 =>
  jnG (fun (v3 : Int32) =>
    iremG v3 10 fun x4 =>
    retG (rI x4)) fun J5 =>
  loopG (b_X10_of_12 a1 J5) FU (x1, (x2 - 1))
abbrev md_X10_of : MD := (yX10_of, cX10_of, 4, (some (Jvm.ClassFile.FieldType.int)), RX10, 10, 0, 0)
theorem hm_X10_of : (md_X10_of).y.cls ≠ "java/lang/invoke/MethodHandle" ∧ (md_X10_of).y.cls ≠ "java/lang/invoke/VarHandle" ∧ (parseMethodDescriptor (md_X10_of).y.desc).map (fun d => d.parameters.length) = some 1 := by decide +kernel
theorem m_X10_of (a0 : Nat) (a1 : Int32) : CMF md_X10_of [cR a0, cI a1] (g_X10_of a0 a1) := by
  refine cm_of (by decide +kernel) rfl (Nat.le_of_ble_eq_true rfl) ?_
  show CWF _ 0 0 0 [(0, cR a0), (1, cI a1)] [] _
  unfold g_X10_of
  refine cw_aload_n dX10_of_0 rfl 0 rfl ?_
  refine cw_getI (ci := 9) (j := 0) (C := RX10) (T := TX10) (N := 2) rfl (by decide) rfl rfl (Or.inl q1386) fSame_rfl dX10_of_1 (fun x1 => ?_)
  refine cw_istore_n (ls' := [(2, cI x1), (0, cR a0), (1, cI a1)]) dX10_of_4 rfl (by decide) rfl ?_
  refine cw_aload_n dX10_of_5 rfl 1 rfl ?_
  refine cw_getI (ci := 9) (j := 1) (C := RX10) (T := TX10) (N := 2) rfl (by decide) rfl rfl (Or.inl q1387) fSame_rfl dX10_of_6 (fun x2 => ?_)
  refine cw_iconst (v := 1) dX10_of_9 (by decide) ?_
  refine cw_isub dX10_of_10 ?_
  refine cw_istore_n (ls' := [(3, cI (x2 - 1)), (2, cI x1), (0, cR a0), (1, cI a1)]) dX10_of_11 rfl (by decide) rfl ?_
  refine cw_jn (cj := 0) (kj := 0) (pcj := 28) (lsf := fun (s : Int32) => [(2, cI s)]) (stf := fun (s : Int32) => []) (fun s => ?_) (fun J5 hJ5 => ?_)
  · obtain ⟨v3, e⟩ : ∃ z, z = s := ⟨_, rfl⟩
    subst e
    show CWF _ _ _ 28 [(2, cI v3)] [] _
    refine cw_iload_n dX10_of_28 rfl 0 rfl ?_
    refine cw_bipush (v := 10) dX10_of_29 (by decide) ?_
    refine cw_irem dX10_of_31 (fun x4 => ?_)
    exact cw_iret rfl dX10_of_32
  · refine cw_sub (ls' := [(1, cI a1), (2, cI x1), (3, cI (x2 - 1))]) [3, 1, 0] rfl ?_
    refine cw_loop0 (lsf := fun (s : Int32 × Int32) => [(1, cI a1), (2, cI s.1), (3, cI s.2)]) (fun rec8 hrec8 s => ?_) FU (x1, (x2 - 1))
    obtain ⟨l6, l7⟩ := s
    show CWF _ _ _ 12 [(1, cI a1), (2, cI l6), (3, cI l7)] [] _
    dsimp only [b_X10_of_12]
    refine cw_iload_n dX10_of_12 rfl 2 rfl ?_
    refine cw_iload_n dX10_of_13 rfl 0 rfl ?_
    refine cw_icmp_le (tgt := 28) dX10_of_14 (by decide) ?_ ?_
    · refine cw_sub (ls' := [(2, cI l6)]) [1] rfl ?_
      exact hJ5 l6
    · refine cw_iload_n dX10_of_17 rfl 1 rfl ?_
      refine cw_bipush (v := 10) dX10_of_18 (by decide) ?_
      refine cw_idiv dX10_of_20 (fun x9 => ?_)
      refine cw_istore_n (ls' := [(2, cI x9), (1, cI a1), (3, cI l7)]) dX10_of_21 rfl (by decide) rfl ?_
      refine cw_iinc (v := (l7 + (-1))) (ls' := [(3, cI (l7 + (-1))), (2, cI x9), (1, cI a1)]) dX10_of_22 2 rfl rfl (by decide) rfl ?_
      refine cw_goto (tgt := 12) dX10_of_25 (by decide) ?_
      refine cw_sub (ls' := [(1, cI a1), (2, cI x9), (3, cI (l7 + (-1)))]) [2, 1, 0] rfl ?_
      exact hrec8 (x9, (l7 + (-1)))
def g_X7_place (a0 : Nat) (a1 : Int32) (a2 : Int32) (a3 : Nat) : GF :=
  getP 26 a0 4 fun p1 =>
  aaldG 6 p1 a1 fun x2 =>
  aaldG 5 x2 a2 fun x3 =>
  instG 29 30 x3
    (if (1 : Int32) = 0 then
        retG (rI (-1 : Int32))
      else
        castG 29 x3 <|
        getP 26 a0 2 fun p4 =>
        invI (some (p4, 8)) (s_indexOf p4 a3) fun x5 =>
        invI (some (x3, 29)) (g_X10_of x3 x5) fun x6 =>
        retG (rI x6))
    (if (0 : Int32) = 0 then
        retG (rI (-1 : Int32))
      else
        castG 29 x3 <|
        getP 26 a0 2 fun p7 =>
        invI (some (p7, 8)) (s_indexOf p7 a3) fun x8 =>
        invI (some (x3, 29)) (g_X10_of x3 x8) fun x9 =>
        retG (rI x9))
abbrev md_X7_place : MD := (yX7_place, cX7_place, 6, (some (Jvm.ClassFile.FieldType.int)), RX7, 15, 0, 0)
theorem hm_X7_place : (md_X7_place).y.cls ≠ "java/lang/invoke/MethodHandle" ∧ (md_X7_place).y.cls ≠ "java/lang/invoke/VarHandle" ∧ (parseMethodDescriptor (md_X7_place).y.desc).map (fun d => d.parameters.length) = some 3 := by decide +kernel
theorem m_X7_place (a0 : Nat) (a1 : Int32) (a2 : Int32) (a3 : Nat) : CMF md_X7_place [cR a0, cI a1, cI a2, cR a3] (g_X7_place a0 a1 a2 a3) := by
  refine cm_of (by decide +kernel) rfl (Nat.le_of_ble_eq_true rfl) ?_
  show CWF _ 0 0 0 [(0, cR a0), (1, cI a1), (2, cI a2), (3, cR a3)] [] _
  unfold g_X7_place
  refine cw_aload_n dX7_place_0 rfl 0 rfl ?_
  refine cw_getP (ci := 6) (j := 4) (C := RX7) (T := TX7) (N := 5) rfl (by decide) rfl rfl (Or.inl q1071) fSame_rfl dX7_place_1 (fun p1 => ?_)
  refine cw_iload_n dX7_place_4 rfl 1 rfl ?_
  refine cw_aald (t := 6) (by decide) dX7_place_5 (fun x2 => ?_)
  refine cw_iload_n dX7_place_6 rfl 2 rfl ?_
  refine cw_aald (t := 5) (by decide) dX7_place_7 (fun x3 => ?_)
  refine cw_astore (ls' := [(5, cR x3), (0, cR a0), (1, cI a1), (2, cI a2), (3, cR a3)]) dX7_place_8 (by decide) rfl ?_
  refine cw_aload dX7_place_10 0 rfl ?_
  refine cw_inst (ci := 9) (C := RX10) (T := TX10) (N := 2) (ci2 := 10) (C2 := RX11) (T2 := TX11) (N2 := 1) rfl rfl rfl rfl (Or.inl (List.mem_iff_getElem?.mpr ⟨1, rfl⟩)) q563 dX7_place_12 ?_ ?_
  · refine cw_if_eq (tgt := 43) dX7_place_15 (by decide) ?_ ?_
    · refine cw_iconst (v := -1) dX7_place_43 (by decide) ?_
      exact cw_iret rfl dX7_place_44
    · refine cw_aload dX7_place_18 0 rfl ?_
      refine cw_cast (ci := 9) (T := TX10) (N := 2) (C := RX10) rfl rfl q563 (Or.inl rfl) dX7_place_20 ?_
      refine cw_astore (ls' := [(4, cR x3), (5, cR x3), (0, cR a0), (1, cI a1), (2, cI a2), (3, cR a3)]) dX7_place_23 (by decide) rfl ?_
      refine cw_aload dX7_place_25 0 rfl ?_
      refine cw_aload_n dX7_place_27 rfl 2 rfl ?_
      refine cw_getP (ci := 6) (j := 2) (C := RX7) (T := TX7) (N := 5) rfl (by decide) rfl rfl (Or.inl q1066) fSame_rfl dX7_place_28 (fun p4 => ?_)
      refine cw_aload_n dX7_place_31 rfl 5 rfl ?_
      refine cw_invI (d2 := md_J2_indexOf) (c := 0) (q := 0) (as := [cR p4, cR a3]) (mc := 0) (ms := 0) rfl rfl (okF (x := ⟨"java/util/List", "indexOf", "(Ljava/lang/Object;)I"⟩) (ci := 14) (C := RJ2) (T0 := TJ2) (N := 3) (n := 1) rfl (Or.inr ⟨rfl, rfl⟩) rfl dX7_place_32 (lw_F q565 q570 q568 q114 q572) (List.mem_iff_getElem?.mpr ⟨8, rfl⟩) (show ("java/util/List" : String) ≠ _ ∧ ("java/util/List" : String) ≠ _ ∧ (parseMethodDescriptor (md_J2_indexOf).y.desc).map (fun d => d.parameters.length) = some 1 from ⟨by decide, by decide, (hm_J2_indexOf).2.2⟩) (by decide) (by decide) (Nat.le_of_ble_eq_true rfl)) (c_indexOf p4 a3) rfl (fun x5 => ?_)
      refine cw_invI (d2 := md_X10_of) (c := 0) (q := 0) (as := [cR x3, cI x5]) (mc := 0) (ms := 0) rfl rfl (okV (ci := 9) (C := RX10) (T0 := TX10) (N := 2) (n := 1) rfl rfl rfl dX7_place_37 (lw_V q577 q578 q579 q144 q580) ⟨rfl, hm_X10_of⟩ (by decide) (by decide) (Nat.le_of_ble_eq_true rfl)) (m_X10_of x3 x5) rfl (fun x6 => ?_)
      refine cw_goto (tgt := 44) dX7_place_40 (by decide) ?_
      exact cw_iret rfl dX7_place_44
  · refine cw_if_eq (tgt := 43) dX7_place_15 (by decide) ?_ ?_
    · refine cw_iconst (v := -1) dX7_place_43 (by decide) ?_
      exact cw_iret rfl dX7_place_44
    · refine cw_aload dX7_place_18 0 rfl ?_
      refine cw_cast (ci := 9) (T := TX10) (N := 2) (C := RX10) rfl rfl q563 (Or.inl rfl) dX7_place_20 ?_
      refine cw_astore (ls' := [(4, cR x3), (5, cR x3), (0, cR a0), (1, cI a1), (2, cI a2), (3, cR a3)]) dX7_place_23 (by decide) rfl ?_
      refine cw_aload dX7_place_25 0 rfl ?_
      refine cw_aload_n dX7_place_27 rfl 2 rfl ?_
      refine cw_getP (ci := 6) (j := 2) (C := RX7) (T := TX7) (N := 5) rfl (by decide) rfl rfl (Or.inl q1066) fSame_rfl dX7_place_28 (fun p7 => ?_)
      refine cw_aload_n dX7_place_31 rfl 5 rfl ?_
      refine cw_invI (d2 := md_J2_indexOf) (c := 0) (q := 0) (as := [cR p7, cR a3]) (mc := 0) (ms := 0) rfl rfl (okF (x := ⟨"java/util/List", "indexOf", "(Ljava/lang/Object;)I"⟩) (ci := 14) (C := RJ2) (T0 := TJ2) (N := 3) (n := 1) rfl (Or.inr ⟨rfl, rfl⟩) rfl dX7_place_32 (lw_F q565 q570 q568 q114 q572) (List.mem_iff_getElem?.mpr ⟨8, rfl⟩) (show ("java/util/List" : String) ≠ _ ∧ ("java/util/List" : String) ≠ _ ∧ (parseMethodDescriptor (md_J2_indexOf).y.desc).map (fun d => d.parameters.length) = some 1 from ⟨by decide, by decide, (hm_J2_indexOf).2.2⟩) (by decide) (by decide) (Nat.le_of_ble_eq_true rfl)) (c_indexOf p7 a3) rfl (fun x8 => ?_)
      refine cw_invI (d2 := md_X10_of) (c := 0) (q := 0) (as := [cR x3, cI x8]) (mc := 0) (ms := 0) rfl rfl (okV (ci := 9) (C := RX10) (T0 := TX10) (N := 2) (n := 1) rfl rfl rfl dX7_place_37 (lw_V q577 q578 q579 q144 q580) ⟨rfl, hm_X10_of⟩ (by decide) (by decide) (Nat.le_of_ble_eq_true rfl)) (m_X10_of x3 x8) rfl (fun x9 => ?_)
      refine cw_goto (tgt := 44) dX7_place_40 (by decide) ?_
      exact cw_iret rfl dX7_place_44
def b_X6_count_6 (a0 : Nat) (a1 : Int32) (a2 : Nat) (a3 : Int32) (rec3 : (Int32 × Int32) → GF) : (Int32 × Int32) → GF := fun (s : Int32 × Int32) => match s with
  | (l1, l2) =>
    invP (some (a0, 25)) (g_X6_panel a0 a1) fun p4 =>
    invI (some (p4, 8)) (s_size p4) fun x5 =>
    if l2 < x5 then
      getP 25 a0 18 fun p6 =>
      invI (some (p6, 26)) (g_X7_place p6 a1 l2 a2) fun x7 =>
      jnG (fun (v8 : Int32) =>
        rec3 ((l1 + v8), (l2 + 1))) fun J9 =>
      if x7 ≤ a3 then
        J9 1
      else
        J9 0
    else
      retG (rI l1)
def g_X6_count (a0 : Nat) (a1 : Int32) (a2 : Nat) (a3 : Int32) : GF :=
  loopG (b_X6_count_6 a0 a1 a2 a3) FU (0, 0)
abbrev md_X6_count : MD := (yX6_count, cX6_count, 6, (some (Jvm.ClassFile.FieldType.int)), RX6, 16, 0, 0)
theorem hm_X6_count : (md_X6_count).y.cls ≠ "java/lang/invoke/MethodHandle" ∧ (md_X6_count).y.cls ≠ "java/lang/invoke/VarHandle" ∧ (parseMethodDescriptor (md_X6_count).y.desc).map (fun d => d.parameters.length) = some 3 := by decide +kernel
theorem m_X6_count (a0 : Nat) (a1 : Int32) (a2 : Nat) (a3 : Int32) : CMF md_X6_count [cR a0, cI a1, cR a2, cI a3] (g_X6_count a0 a1 a2 a3) := by
  refine cm_of (by decide +kernel) rfl (Nat.le_of_ble_eq_true rfl) ?_
  show CWF _ 0 0 0 [(0, cR a0), (1, cI a1), (2, cR a2), (3, cI a3)] [] _
  unfold g_X6_count
  refine cw_iconst (v := 0) dX6_count_0 (by decide) ?_
  refine cw_istore (ls' := [(4, cI 0), (0, cR a0), (1, cI a1), (2, cR a2), (3, cI a3)]) dX6_count_1 (by decide) rfl ?_
  refine cw_iconst (v := 0) dX6_count_3 (by decide) ?_
  refine cw_istore (ls' := [(5, cI 0), (4, cI 0), (0, cR a0), (1, cI a1), (2, cR a2), (3, cI a3)]) dX6_count_4 (by decide) rfl ?_
  refine cw_sub (ls' := [(0, cR a0), (1, cI a1), (2, cR a2), (3, cI a3), (4, cI 0), (5, cI 0)]) [2, 3, 4, 5, 1, 0] rfl ?_
  refine cw_loop0 (lsf := fun (s : Int32 × Int32) => [(0, cR a0), (1, cI a1), (2, cR a2), (3, cI a3), (4, cI s.1), (5, cI s.2)]) (fun rec3 hrec3 s => ?_) FU (0, 0)
  obtain ⟨l1, l2⟩ := s
  show CWF _ _ _ 6 [(0, cR a0), (1, cI a1), (2, cR a2), (3, cI a3), (4, cI l1), (5, cI l2)] [] _
  dsimp only [b_X6_count_6]
  refine cw_iload dX6_count_6 5 rfl ?_
  refine cw_aload_n dX6_count_8 rfl 0 rfl ?_
  refine cw_iload_n dX6_count_9 rfl 1 rfl ?_
  refine cw_invP (d2 := md_X6_panel) (c := 0) (q := 0) (as := [cR a0, cI a1]) (mc := 0) (ms := 0) rfl rfl (okV (ci := 5) (C := RX6) (T0 := TX6) (N := 19) (n := 1) rfl rfl rfl dX6_count_10 (lw_V q554 q555 q556 q137 q557) ⟨rfl, hm_X6_panel⟩ (by decide) (by decide) (Nat.le_of_ble_eq_true rfl)) (m_X6_panel a0 a1) rfl (fun p4 => ?_)
  refine cw_invI (d2 := md_J2_size) (c := 0) (q := 0) (as := [cR p4]) (mc := 0) (ms := 0) rfl rfl (okF (x := ⟨"java/util/List", "size", "()I"⟩) (ci := 14) (C := RJ2) (T0 := TJ2) (N := 3) (n := 0) rfl (Or.inr ⟨rfl, rfl⟩) rfl dX6_count_13 (lw_F q545 q251 q249 q114 q253) (List.mem_iff_getElem?.mpr ⟨1, rfl⟩) (show ("java/util/List" : String) ≠ _ ∧ ("java/util/List" : String) ≠ _ ∧ (parseMethodDescriptor (md_J2_size).y.desc).map (fun d => d.parameters.length) = some 0 from ⟨by decide, by decide, (hm_J2_size).2.2⟩) (by decide) (by decide) (Nat.le_of_ble_eq_true rfl)) (c_size p4) rfl (fun x5 => ?_)
  refine cw_icmp_ge (tgt := 52) dX6_count_18 (by decide) ?_ ?_
  · refine cw_iload dX6_count_52 4 rfl ?_
    exact cw_iret rfl dX6_count_54
  · refine cw_iload dX6_count_21 4 rfl ?_
    refine cw_aload_n dX6_count_23 rfl 0 rfl ?_
    refine cw_getP (ci := 5) (j := 18) (C := RX6) (T := TX6) (N := 19) rfl (by decide) rfl rfl (Or.inl q1118) fSame_rfl dX6_count_24 (fun p6 => ?_)
    refine cw_iload_n dX6_count_27 rfl 1 rfl ?_
    refine cw_iload dX6_count_28 5 rfl ?_
    refine cw_aload_n dX6_count_30 rfl 2 rfl ?_
    refine cw_invI (d2 := md_X7_place) (c := 0) (q := 0) (as := [cR p6, cI a1, cI l2, cR a2]) (mc := 0) (ms := 0) rfl rfl (okV (ci := 6) (C := RX7) (T0 := TX7) (N := 5) (n := 3) rfl rfl rfl dX6_count_31 (lw_V q559 q560 q561 q138 q562) ⟨rfl, hm_X7_place⟩ (by decide) (by decide) (Nat.le_of_ble_eq_true rfl)) (m_X7_place p6 a1 l2 a2) rfl (fun x7 => ?_)
    refine cw_iload_n dX6_count_34 rfl 3 rfl ?_
    refine cw_jn (cj := 0) (kj := 0) (pcj := 43) (lsf := fun (s : Int32) => [(0, cR a0), (1, cI a1), (2, cR a2), (3, cI a3), (5, cI l2)]) (stf := fun (s : Int32) => [cI s, cI l1]) (fun s => ?_) (fun J9 hJ9 => ?_)
    · obtain ⟨v8, e⟩ : ∃ z, z = s := ⟨_, rfl⟩
      subst e
      show CWF _ _ _ 43 [(0, cR a0), (1, cI a1), (2, cR a2), (3, cI a3), (5, cI l2)] [cI v8, cI l1] _
      refine cw_iadd dX6_count_43 ?_
      refine cw_istore (ls' := [(4, cI (l1 + v8)), (0, cR a0), (1, cI a1), (2, cR a2), (3, cI a3), (5, cI l2)]) dX6_count_44 (by decide) rfl ?_
      refine cw_iinc (v := (l2 + 1)) (ls' := [(5, cI (l2 + 1)), (4, cI (l1 + v8)), (0, cR a0), (1, cI a1), (2, cR a2), (3, cI a3)]) dX6_count_46 5 rfl rfl (by decide) rfl ?_
      refine cw_goto (tgt := 6) dX6_count_49 (by decide) ?_
      refine cw_sub (ls' := [(0, cR a0), (1, cI a1), (2, cR a2), (3, cI a3), (4, cI (l1 + v8)), (5, cI (l2 + 1))]) [2, 3, 4, 5, 1, 0] rfl ?_
      exact hrec3 ((l1 + v8), (l2 + 1))
    · refine cw_icmp_gt (tgt := 42) dX6_count_35 (by decide) ?_ ?_
      · refine cw_iconst (v := 0) dX6_count_42 (by decide) ?_
        refine cw_sub (ls' := [(0, cR a0), (1, cI a1), (2, cR a2), (3, cI a3), (5, cI l2)]) [0, 1, 2, 3, 5] rfl ?_
        exact hJ9 0
      · refine cw_iconst (v := 1) dX6_count_38 (by decide) ?_
        refine cw_goto (tgt := 43) dX6_count_39 (by decide) ?_
        refine cw_sub (ls' := [(0, cR a0), (1, cI a1), (2, cR a2), (3, cI a3), (5, cI l2)]) [0, 1, 2, 3, 5] rfl ?_
        exact hJ9 1
def b_X1_meanAge_12 (p1 : Nat) (m2 : Int32) (J9 : Int32 → GF) (rec12 : (Int32 × Nat) → GF) : (Int32 × Nat) → GF := fun (s : Int32 × Nat) => match s with
  | (l10, l11) =>
    hasG p1 l11 fun x13 =>
    if x13 = 0 then
      J9 l10
    else
      nextG p1 m2 l11 fun p14 =>
      castG 22 p14 <|
      getI 22 p14 1 fun x15 =>
      rec12 ((l10 + x15), (l11 + 1))
def g_X1_meanAge (a0 : Nat) : GF :=
  getP 20 a0 0 fun p1 =>
  itG p1 fun m2 =>
  jnG (fun (v3 : Int32) =>
    getP 20 a0 0 fun p4 =>
    invI (some (p4, 8)) (s_isEmpty p4) fun x5 =>
    if x5 = 0 then
      getP 20 a0 0 fun p6 =>
      invI (some (p6, 8)) (s_size p6) fun x7 =>
      ddivG (FP.i2d v3) (FP.i2d x7) fun x8 =>
      retG (rD x8)
    else
      retG (rD FP.dconst0)) fun J9 =>
  loopG (b_X1_meanAge_12 p1 m2 J9) FU (0, 0)
abbrev md_X1_meanAge : MD := (yX1_meanAge, cX1_meanAge, 4, (some (Jvm.ClassFile.FieldType.double)), RX1, 12, 1, 4)
theorem hm_X1_meanAge : (md_X1_meanAge).y.cls ≠ "java/lang/invoke/MethodHandle" ∧ (md_X1_meanAge).y.cls ≠ "java/lang/invoke/VarHandle" ∧ (parseMethodDescriptor (md_X1_meanAge).y.desc).map (fun d => d.parameters.length) = some 0 := by decide +kernel
theorem m_X1_meanAge (a0 : Nat) : CMF md_X1_meanAge [cR a0] (g_X1_meanAge a0) := by
  refine cm_of (by decide +kernel) rfl (Nat.le_of_ble_eq_true rfl) ?_
  show CWF _ 1 4 0 [(0, cR a0)] [] _
  unfold g_X1_meanAge
  refine cw_iconst (v := 0) dX1_meanAge_0 (by decide) ?_
  refine cw_istore_n (ls' := [(1, cI 0), (0, cR a0)]) dX1_meanAge_1 rfl (by decide) rfl ?_
  refine cw_aload_n dX1_meanAge_2 rfl 1 rfl ?_
  refine cw_getP (ci := 0) (j := 0) (C := RX1) (T := TX1) (N := 11) rfl (by decide) rfl rfl (Or.inl q206) fSame_rfl dX1_meanAge_3 (fun p1 => ?_)
  refine cw_iter (c := 0) (q := 0) (la := 1) (ls' := [(1, cI 0), (0, cR a0)]) rfl (Or.inl ⟨_, dX1_meanAge_11, rfl, rfl⟩) (by decide) (okF (x := ⟨"java/util/List", "iterator", "()Ljava/util/Iterator;"⟩) (ci := 14) (C := RJ2) (T0 := TJ2) (N := 3) (n := 0) rfl (Or.inr ⟨rfl, rfl⟩) rfl dX1_meanAge_6 (lw_F q290 q295 q293 q114 q297) (List.mem_iff_getElem?.mpr ⟨3, rfl⟩) (show ("java/util/List" : String) ≠ _ ∧ ("java/util/List" : String) ≠ _ ∧ (parseMethodDescriptor (md_J2_iterator).y.desc).map (fun d => d.parameters.length) = some 0 from ⟨by decide, by decide, (hm_J2_iterator).2.2⟩) (by decide) (by decide) (Nat.le_of_ble_eq_true rfl)) (fun m2 => ?_)
  refine cw_jn (cj := 0) (kj := 0) (pcj := 41) (lsf := fun (s : Int32) => [(0, cR a0), (1, cI s)]) (stf := fun (s : Int32) => []) (fun s => ?_) (fun J9 hJ9 => ?_)
  · obtain ⟨v3, e⟩ : ∃ z, z = s := ⟨_, rfl⟩
    subst e
    show CWF _ _ _ 41 [(0, cR a0), (1, cI v3)] [] _
    refine cw_aload_n dX1_meanAge_41 rfl 0 rfl ?_
    refine cw_getP (ci := 0) (j := 0) (C := RX1) (T := TX1) (N := 11) rfl (by decide) rfl rfl (Or.inl q206) fSame_rfl dX1_meanAge_42 (fun p4 => ?_)
    refine cw_invI (d2 := md_J2_isEmpty) (c := 0) (q := 0) (as := [cR p4]) (mc := 0) (ms := 0) rfl rfl (okF (x := ⟨"java/util/List", "isEmpty", "()Z"⟩) (ci := 14) (C := RJ2) (T0 := TJ2) (N := 3) (n := 0) rfl (Or.inr ⟨rfl, rfl⟩) rfl dX1_meanAge_45 (lw_F q735 q333 q331 q114 q335) (List.mem_iff_getElem?.mpr ⟨5, rfl⟩) (show ("java/util/List" : String) ≠ _ ∧ ("java/util/List" : String) ≠ _ ∧ (parseMethodDescriptor (md_J2_isEmpty).y.desc).map (fun d => d.parameters.length) = some 0 from ⟨by decide, by decide, (hm_J2_isEmpty).2.2⟩) (by decide) (by decide) (Nat.le_of_ble_eq_true rfl)) (c_isEmpty p4) rfl (fun x5 => ?_)
    refine cw_if_eq (tgt := 57) dX1_meanAge_50 (by decide) ?_ ?_
    · refine cw_iload_n dX1_meanAge_57 rfl 1 rfl ?_
      refine cw_i2d dX1_meanAge_58 ?_
      refine cw_aload_n dX1_meanAge_59 rfl 0 rfl ?_
      refine cw_getP (ci := 0) (j := 0) (C := RX1) (T := TX1) (N := 11) rfl (by decide) rfl rfl (Or.inl q206) fSame_rfl dX1_meanAge_60 (fun p6 => ?_)
      refine cw_invI (d2 := md_J2_size) (c := 0) (q := 0) (as := [cR p6]) (mc := 0) (ms := 0) rfl rfl (okF (x := ⟨"java/util/List", "size", "()I"⟩) (ci := 14) (C := RJ2) (T0 := TJ2) (N := 3) (n := 0) rfl (Or.inr ⟨rfl, rfl⟩) rfl dX1_meanAge_63 (lw_F q246 q251 q249 q114 q253) (List.mem_iff_getElem?.mpr ⟨1, rfl⟩) (show ("java/util/List" : String) ≠ _ ∧ ("java/util/List" : String) ≠ _ ∧ (parseMethodDescriptor (md_J2_size).y.desc).map (fun d => d.parameters.length) = some 0 from ⟨by decide, by decide, (hm_J2_size).2.2⟩) (by decide) (by decide) (Nat.le_of_ble_eq_true rfl)) (c_size p6) rfl (fun x7 => ?_)
      refine cw_i2d dX1_meanAge_68 ?_
      refine cw_ddiv dX1_meanAge_69 (fun x8 => ?_)
      exact cw_dret rfl dX1_meanAge_70
    · refine cw_dconst0 dX1_meanAge_53 ?_
      refine cw_goto (tgt := 70) dX1_meanAge_54 (by decide) ?_
      exact cw_dret rfl dX1_meanAge_70
  · refine cw_sub (ls' := [(0, cR a0), (1, cI 0), (2, cT p1 m2 0)]) [2, 1, 0] rfl ?_
    refine cw_loop0 (lsf := fun (s : Int32 × Nat) => [(0, cR a0), (1, cI s.1), (2, cT p1 m2 s.2)]) (fun rec12 hrec12 s => ?_) FU (0, 0)
    obtain ⟨l10, l11⟩ := s
    show CWF _ _ _ 12 [(0, cR a0), (1, cI l10), (2, cT p1 m2 l11)] [] _
    dsimp only [b_X1_meanAge_12]
    refine cw_sub (ls' := [(2, cT p1 m2 l11), (0, cR a0), (1, cI l10)]) [2, 0, 1] rfl ?_
    refine cw_hasNext (la := 1) rfl (Or.inl ⟨_, dX1_meanAge_12, rfl, rfl⟩) (fun x => okF (x := ⟨"java/util/Iterator", "hasNext", "()Z"⟩) (ci := 15) (C := RJ18) (T0 := TJ18) (N := 4) (n := 0) rfl (Or.inl rfl) rfl dX1_meanAge_13 (lw_F q318 q339 q337 q134 q341) (List.mem_iff_getElem?.mpr ⟨4, rfl⟩) (show ("java/util/Iterator" : String) ≠ _ ∧ ("java/util/Iterator" : String) ≠ _ ∧ (parseMethodDescriptor (md_J18_hasNext).y.desc).map (fun d => d.parameters.length) = some 0 from ⟨by decide, by decide, (hm_J18_hasNext).2.2⟩) (by decide) (by decide) (Nat.le_of_ble_eq_true rfl)) (fun x13 => ?_)
    refine cw_if_eq (tgt := 41) dX1_meanAge_18 (by decide) ?_ ?_
    · refine cw_sub (ls' := [(0, cR a0), (1, cI l10)]) [1, 2] rfl ?_
      exact hJ9 l10
    · refine cw_next (la := 1) rfl (Or.inl ⟨_, dX1_meanAge_21, rfl, rfl⟩) (fun x => okF (x := ⟨"java/util/Iterator", "next", "()Ljava/lang/Object;"⟩) (ci := 15) (C := RJ18) (T0 := TJ18) (N := 4) (n := 0) rfl (Or.inl rfl) rfl dX1_meanAge_22 (lw_F q343 q432 q430 q134 q434) (List.mem_iff_getElem?.mpr ⟨6, rfl⟩) (show ("java/util/Iterator" : String) ≠ _ ∧ ("java/util/Iterator" : String) ≠ _ ∧ (parseMethodDescriptor (md_J18_next).y.desc).map (fun d => d.parameters.length) = some 0 from ⟨by decide, by decide, (hm_J18_next).2.2⟩) (by decide) (by decide) (Nat.le_of_ble_eq_true rfl)) (fun p14 => ?_)
      refine cw_cast (ci := 2) (T := TX3) (N := 9) (C := RX3) rfl rfl q733 (Or.inl rfl) dX1_meanAge_27 ?_
      refine cw_astore_n (ls' := [(3, cR p14), (2, cT p1 m2 (l11 + 1)), (0, cR a0), (1, cI l10)]) dX1_meanAge_30 rfl (by decide) rfl ?_
      refine cw_iload_n dX1_meanAge_31 rfl 3 rfl ?_
      refine cw_aload_n dX1_meanAge_32 rfl 0 rfl ?_
      refine cw_getI (ci := 2) (j := 1) (C := RX3) (T := TX3) (N := 9) rfl (by decide) rfl rfl (Or.inr ⟨_, q808⟩) fSame_rfl dX1_meanAge_33 (fun x15 => ?_)
      refine cw_iadd dX1_meanAge_36 ?_
      refine cw_istore_n (ls' := [(1, cI (l10 + x15)), (3, cR p14), (2, cT p1 m2 (l11 + 1)), (0, cR a0)]) dX1_meanAge_37 rfl (by decide) rfl ?_
      refine cw_goto (tgt := 12) dX1_meanAge_38 (by decide) ?_
      refine cw_sub (ls' := [(0, cR a0), (1, cI (l10 + x15)), (2, cT p1 m2 (l11 + 1))]) [3, 0, 2] rfl ?_
      exact hrec12 ((l10 + x15), (l11 + 1))
def g_X1_requireArgument (a0 : Int32) : GF :=
  if a0 = 0 then
    throwG "java/lang/IllegalArgumentException"
  else
    retG rV
abbrev md_X1_requireArgument : MD := (yX1_requireArgument, cX1_requireArgument, 1, none, RX1, 10, 1, 6)
theorem hm_X1_requireArgument : (md_X1_requireArgument).y.cls ≠ "java/lang/invoke/MethodHandle" ∧ (md_X1_requireArgument).y.cls ≠ "java/lang/invoke/VarHandle" ∧ (parseMethodDescriptor (md_X1_requireArgument).y.desc).map (fun d => d.parameters.length) = some 1 := by decide +kernel
theorem m_X1_requireArgument (a0 : Int32) : CMF md_X1_requireArgument [cI a0] (g_X1_requireArgument a0) := by
  refine cm_of (by decide +kernel) rfl (Nat.le_of_ble_eq_true rfl) ?_
  show CWF _ 1 6 0 [(0, cI a0)] [] _
  unfold g_X1_requireArgument
  refine cw_iload_n dX1_requireArgument_0 rfl 0 rfl ?_
  refine cw_if_ne (tgt := 12) dX1_requireArgument_1 (by decide) ?_ ?_
  · refine cw_weak (c' := 0) (q' := 0) (by omega) (by omega) ?_
    exact cw_vret rfl dX1_requireArgument_12
  · exact cw_throw0 (c := 0) (q := 0) (ik := 7) (ic := 9) (cls := "java/lang/IllegalArgumentException") (names := ["java/lang/RuntimeException", "java/lang/Exception"]) (by decide +kernel) (by decide +kernel) q747 q119 tw_IllegalArgumentException tg_IllegalArgumentException (by decide +kernel) dX1_requireArgument_4 dX1_requireArgument_7 dX1_requireArgument_8 dX1_requireArgument_11 (by decide) (by decide) (Nat.le_of_ble_eq_true rfl)
def b_X1_count_132 (p8 : Nat) (m9 : Int32) (J25 : Int32 → GF) (rec28 : (Int32 × Nat) → GF) : (Int32 × Nat) → GF := fun (s : Int32 × Nat) => match s with
  | (l26, l27) =>
    hasG p8 l27 fun x29 =>
    if x29 = 0 then
      J25 l26
    else
      nextG p8 m9 l27 fun p30 =>
      castG 22 p30 <|
      getI 22 p30 8 fun x31 =>
      rec28 ((l26 + x31), (l27 + 1))
def b_X1_count_80 (p5 : Nat) (m6 : Int32) (J32 : Int32 → GF) (rec35 : (Int32 × Nat) → GF) : (Int32 × Nat) → GF := fun (s : Int32 × Nat) => match s with
  | (l33, l34) =>
    hasG p5 l34 fun x36 =>
    if x36 = 0 then
      J32 l33
    else
      nextG p5 m6 l34 fun p37 =>
      castG 25 p37 <|
      getI 25 p37 16 fun x38 =>
      jnG (fun (v39 : Int32) =>
        rec35 ((l33 + v39), (l34 + 1))) fun J40 =>
      if x38 = 0 then
        J40 0
      else
        J40 1
def b_X1_count_28 (p2 : Nat) (m3 : Int32) (J41 : Int32 → GF) (rec44 : (Int32 × Nat) → GF) : (Int32 × Nat) → GF := fun (s : Int32 × Nat) => match s with
  | (l42, l43) =>
    hasG p2 l43 fun x45 =>
    if x45 = 0 then
      J41 l42
    else
      nextG p2 m3 l43 fun p46 =>
      castG 24 p46 <|
      getI 24 p46 4 fun x47 =>
      jnG (fun (v48 : Int32) =>
        rec44 ((l42 + v48), (l43 + 1))) fun J49 =>
      if x47 = 0 then
        J49 0
      else
        J49 1
def g_X1_count (a0 : Nat) (a1 : Int32) : GF :=
  invI none (g_X1_isBetween a1 0 10) fun x1 =>
  invV none (g_X1_requireArgument x1) <|
  getP 20 a0 2 fun p2 =>
  itG p2 fun m3 =>
  jnG (fun (v4 : Int32) =>
    getP 20 a0 3 fun p5 =>
    itG p5 fun m6 =>
    jnG (fun (v7 : Int32) =>
      getP 20 a0 0 fun p8 =>
      itG p8 fun m9 =>
      jnG (fun (v10 : Int32) =>
        swG a1 0 [
          getI 20 a0 9 fun x11 =>
          retG (rI x11),
          getP 20 a0 0 fun p12 =>
          invI (some (p12, 8)) (s_size p12) fun x13 =>
          retG (rI x13),
          getP 20 a0 2 fun p14 =>
          invI (some (p14, 8)) (s_size p14) fun x15 =>
          retG (rI x15),
          retG (rI v4),
          getP 20 a0 3 fun p16 =>
          invI (some (p16, 8)) (s_size p16) fun x17 =>
          retG (rI x17),
          retG (rI v7),
          getI 20 a0 10 fun x18 =>
          retG (rI x18),
          getP 20 a0 4 fun p19 =>
          invI (some (p19, 8)) (s_size p19) fun x20 =>
          retG (rI x20),
          getP 20 a0 5 fun p21 =>
          invI (some (p21, 8)) (s_size p21) fun x22 =>
          retG (rI x22),
          getP 20 a0 1 fun p23 =>
          invI (some (p23, 8)) (s_size p23) fun x24 =>
          retG (rI x24)] <|
        retG (rI v10)) fun J25 =>
      loopG (b_X1_count_132 p8 m9 J25) FU (0, 0)) fun J32 =>
    loopG (b_X1_count_80 p5 m6 J32) FU (0, 0)) fun J41 =>
  loopG (b_X1_count_28 p2 m3 J41) FU (0, 0)
abbrev md_X1_count : MD := (yX1_count, cX1_count, 7, (some (Jvm.ClassFile.FieldType.int)), RX1, 12, 4, 18)
theorem hm_X1_count : (md_X1_count).y.cls ≠ "java/lang/invoke/MethodHandle" ∧ (md_X1_count).y.cls ≠ "java/lang/invoke/VarHandle" ∧ (parseMethodDescriptor (md_X1_count).y.desc).map (fun d => d.parameters.length) = some 1 := by decide +kernel
theorem m_X1_count (a0 : Nat) (a1 : Int32) : CMF md_X1_count [cR a0, cI a1] (g_X1_count a0 a1) := by
  refine cm_of (by decide +kernel) rfl (Nat.le_of_ble_eq_true rfl) ?_
  show CWF _ 4 18 0 [(0, cR a0), (1, cI a1)] [] _
  unfold g_X1_count
  refine cw_iload_n dX1_count_0 rfl 1 rfl ?_
  refine cw_iconst (v := 0) dX1_count_1 (by decide) ?_
  refine cw_bipush (v := 10) dX1_count_2 (by decide) ?_
  refine cw_invI (d2 := md_X1_isBetween) (c := 4) (q := 18) (as := [cI a1, cI 0, cI 10]) (mc := 0) (ms := 0) rfl rfl (okS (n := 3) rfl dX1_count_4 (lw_S q258 q259 q111 q260) hm_X1_isBetween (by decide) (by decide) (Nat.le_of_ble_eq_true rfl)) (m_X1_isBetween a1 0 10) rfl (fun x1 => ?_)
  refine cw_invV (d2 := md_X1_requireArgument) (c := 3) (q := 12) (as := [cI x1]) (mc := 1) (ms := 6) rfl rfl (okS (n := 1) rfl dX1_count_7 (lw_S q744 q745 q111 q746) hm_X1_requireArgument (by decide) (by decide) (Nat.le_of_ble_eq_true rfl)) (m_X1_requireArgument x1) rfl ?_
  refine cw_iconst (v := 0) dX1_count_10 (by decide) ?_
  refine cw_istore_n (ls' := [(2, cI 0), (0, cR a0), (1, cI a1)]) dX1_count_11 rfl (by decide) rfl ?_
  refine cw_iconst (v := 0) dX1_count_12 (by decide) ?_
  refine cw_istore_n (ls' := [(3, cI 0), (2, cI 0), (0, cR a0), (1, cI a1)]) dX1_count_13 rfl (by decide) rfl ?_
  refine cw_iconst (v := 0) dX1_count_14 (by decide) ?_
  refine cw_istore (ls' := [(4, cI 0), (3, cI 0), (2, cI 0), (0, cR a0), (1, cI a1)]) dX1_count_15 (by decide) rfl ?_
  refine cw_aload_n dX1_count_17 rfl 3 rfl ?_
  refine cw_getP (ci := 0) (j := 2) (C := RX1) (T := TX1) (N := 11) rfl (by decide) rfl rfl (Or.inl q208) fSame_rfl dX1_count_18 (fun p2 => ?_)
  refine cw_iter (c := 2) (q := 8) (la := 2) (ls' := [(4, cI 0), (3, cI 0), (2, cI 0), (0, cR a0), (1, cI a1)]) rfl (Or.inr ⟨dX1_count_26, rfl⟩) (by decide) (okF (x := ⟨"java/util/List", "iterator", "()Ljava/util/Iterator;"⟩) (ci := 14) (C := RJ2) (T0 := TJ2) (N := 3) (n := 0) rfl (Or.inr ⟨rfl, rfl⟩) rfl dX1_count_21 (lw_F q290 q295 q293 q114 q297) (List.mem_iff_getElem?.mpr ⟨3, rfl⟩) (show ("java/util/List" : String) ≠ _ ∧ ("java/util/List" : String) ≠ _ ∧ (parseMethodDescriptor (md_J2_iterator).y.desc).map (fun d => d.parameters.length) = some 0 from ⟨by decide, by decide, (hm_J2_iterator).2.2⟩) (by decide) (by decide) (Nat.le_of_ble_eq_true rfl)) (fun m3 => ?_)
  refine cw_jn (cj := 2) (kj := 8) (pcj := 69) (lsf := fun (s : Int32) => [(4, cI 0), (3, cI 0), (0, cR a0), (1, cI a1), (2, cI s)]) (stf := fun (s : Int32) => []) (fun s => ?_) (fun J41 hJ41 => ?_)
  · obtain ⟨v4, e⟩ : ∃ z, z = s := ⟨_, rfl⟩
    subst e
    show CWF _ _ _ 69 [(4, cI 0), (3, cI 0), (0, cR a0), (1, cI a1), (2, cI v4)] [] _
    refine cw_aload_n dX1_count_69 rfl 2 rfl ?_
    refine cw_getP (ci := 0) (j := 3) (C := RX1) (T := TX1) (N := 11) rfl (by decide) rfl rfl (Or.inl q209) fSame_rfl dX1_count_70 (fun p5 => ?_)
    refine cw_iter (c := 1) (q := 4) (la := 2) (ls' := [(4, cI 0), (3, cI 0), (0, cR a0), (1, cI a1), (2, cI v4)]) rfl (Or.inr ⟨dX1_count_78, rfl⟩) (by decide) (okF (x := ⟨"java/util/List", "iterator", "()Ljava/util/Iterator;"⟩) (ci := 14) (C := RJ2) (T0 := TJ2) (N := 3) (n := 0) rfl (Or.inr ⟨rfl, rfl⟩) rfl dX1_count_73 (lw_F q290 q295 q293 q114 q297) (List.mem_iff_getElem?.mpr ⟨3, rfl⟩) (show ("java/util/List" : String) ≠ _ ∧ ("java/util/List" : String) ≠ _ ∧ (parseMethodDescriptor (md_J2_iterator).y.desc).map (fun d => d.parameters.length) = some 0 from ⟨by decide, by decide, (hm_J2_iterator).2.2⟩) (by decide) (by decide) (Nat.le_of_ble_eq_true rfl)) (fun m6 => ?_)
    refine cw_jn (cj := 1) (kj := 4) (pcj := 121) (lsf := fun (s : Int32) => [(4, cI 0), (0, cR a0), (1, cI a1), (2, cI v4), (3, cI s)]) (stf := fun (s : Int32) => []) (fun s => ?_) (fun J32 hJ32 => ?_)
    · obtain ⟨v7, e⟩ : ∃ z, z = s := ⟨_, rfl⟩
      subst e
      show CWF _ _ _ 121 [(4, cI 0), (0, cR a0), (1, cI a1), (2, cI v4), (3, cI v7)] [] _
      refine cw_aload_n dX1_count_121 rfl 1 rfl ?_
      refine cw_getP (ci := 0) (j := 0) (C := RX1) (T := TX1) (N := 11) rfl (by decide) rfl rfl (Or.inl q206) fSame_rfl dX1_count_122 (fun p8 => ?_)
      refine cw_iter (c := 0) (q := 0) (la := 2) (ls' := [(4, cI 0), (0, cR a0), (1, cI a1), (2, cI v4), (3, cI v7)]) rfl (Or.inr ⟨dX1_count_130, rfl⟩) (by decide) (okF (x := ⟨"java/util/List", "iterator", "()Ljava/util/Iterator;"⟩) (ci := 14) (C := RJ2) (T0 := TJ2) (N := 3) (n := 0) rfl (Or.inr ⟨rfl, rfl⟩) rfl dX1_count_125 (lw_F q290 q295 q293 q114 q297) (List.mem_iff_getElem?.mpr ⟨3, rfl⟩) (show ("java/util/List" : String) ≠ _ ∧ ("java/util/List" : String) ≠ _ ∧ (parseMethodDescriptor (md_J2_iterator).y.desc).map (fun d => d.parameters.length) = some 0 from ⟨by decide, by decide, (hm_J2_iterator).2.2⟩) (by decide) (by decide) (Nat.le_of_ble_eq_true rfl)) (fun m9 => ?_)
      refine cw_jn (cj := 0) (kj := 0) (pcj := 167) (lsf := fun (s : Int32) => [(0, cR a0), (1, cI a1), (2, cI v4), (3, cI v7), (4, cI s)]) (stf := fun (s : Int32) => []) (fun s => ?_) (fun J25 hJ25 => ?_)
      · obtain ⟨v10, e⟩ : ∃ z, z = s := ⟨_, rfl⟩
        subst e
        show CWF _ _ _ 167 [(0, cR a0), (1, cI a1), (2, cI v4), (3, cI v7), (4, cI v10)] [] _
        refine cw_iload_n dX1_count_167 rfl 1 rfl ?_
        refine cw_switch (tgt0 := 318) dX1_count_168 [224, 231, 243, 255, 259, 271, 275, 282, 294, 306] (by decide) rfl (by decide) (by decide) ?_ ?_
        · refine ⟨?_, ?_, ?_, ?_, ?_, ?_, ?_, ?_, ?_, ?_, trivial⟩
          · refine cw_aload_n dX1_count_224 rfl 0 rfl ?_
            refine cw_getI (ci := 0) (j := 9) (C := RX1) (T := TX1) (N := 11) rfl (by decide) rfl rfl (Or.inl q215) fSame_rfl dX1_count_225 (fun x11 => ?_)
            refine cw_goto (tgt := 320) dX1_count_228 (by decide) ?_
            exact cw_iret rfl dX1_count_320
          · refine cw_aload_n dX1_count_231 rfl 0 rfl ?_
            refine cw_getP (ci := 0) (j := 0) (C := RX1) (T := TX1) (N := 11) rfl (by decide) rfl rfl (Or.inl q206) fSame_rfl dX1_count_232 (fun p12 => ?_)
            refine cw_invI (d2 := md_J2_size) (c := 0) (q := 0) (as := [cR p12]) (mc := 0) (ms := 0) rfl rfl (okF (x := ⟨"java/util/List", "size", "()I"⟩) (ci := 14) (C := RJ2) (T0 := TJ2) (N := 3) (n := 0) rfl (Or.inr ⟨rfl, rfl⟩) rfl dX1_count_235 (lw_F q246 q251 q249 q114 q253) (List.mem_iff_getElem?.mpr ⟨1, rfl⟩) (show ("java/util/List" : String) ≠ _ ∧ ("java/util/List" : String) ≠ _ ∧ (parseMethodDescriptor (md_J2_size).y.desc).map (fun d => d.parameters.length) = some 0 from ⟨by decide, by decide, (hm_J2_size).2.2⟩) (by decide) (by decide) (Nat.le_of_ble_eq_true rfl)) (c_size p12) rfl (fun x13 => ?_)
            refine cw_goto (tgt := 320) dX1_count_240 (by decide) ?_
            exact cw_iret rfl dX1_count_320
          · refine cw_aload_n dX1_count_243 rfl 0 rfl ?_
            refine cw_getP (ci := 0) (j := 2) (C := RX1) (T := TX1) (N := 11) rfl (by decide) rfl rfl (Or.inl q208) fSame_rfl dX1_count_244 (fun p14 => ?_)
            refine cw_invI (d2 := md_J2_size) (c := 0) (q := 0) (as := [cR p14]) (mc := 0) (ms := 0) rfl rfl (okF (x := ⟨"java/util/List", "size", "()I"⟩) (ci := 14) (C := RJ2) (T0 := TJ2) (N := 3) (n := 0) rfl (Or.inr ⟨rfl, rfl⟩) rfl dX1_count_247 (lw_F q246 q251 q249 q114 q253) (List.mem_iff_getElem?.mpr ⟨1, rfl⟩) (show ("java/util/List" : String) ≠ _ ∧ ("java/util/List" : String) ≠ _ ∧ (parseMethodDescriptor (md_J2_size).y.desc).map (fun d => d.parameters.length) = some 0 from ⟨by decide, by decide, (hm_J2_size).2.2⟩) (by decide) (by decide) (Nat.le_of_ble_eq_true rfl)) (c_size p14) rfl (fun x15 => ?_)
            refine cw_goto (tgt := 320) dX1_count_252 (by decide) ?_
            exact cw_iret rfl dX1_count_320
          · refine cw_iload_n dX1_count_255 rfl 2 rfl ?_
            refine cw_goto (tgt := 320) dX1_count_256 (by decide) ?_
            exact cw_iret rfl dX1_count_320
          · refine cw_aload_n dX1_count_259 rfl 0 rfl ?_
            refine cw_getP (ci := 0) (j := 3) (C := RX1) (T := TX1) (N := 11) rfl (by decide) rfl rfl (Or.inl q209) fSame_rfl dX1_count_260 (fun p16 => ?_)
            refine cw_invI (d2 := md_J2_size) (c := 0) (q := 0) (as := [cR p16]) (mc := 0) (ms := 0) rfl rfl (okF (x := ⟨"java/util/List", "size", "()I"⟩) (ci := 14) (C := RJ2) (T0 := TJ2) (N := 3) (n := 0) rfl (Or.inr ⟨rfl, rfl⟩) rfl dX1_count_263 (lw_F q246 q251 q249 q114 q253) (List.mem_iff_getElem?.mpr ⟨1, rfl⟩) (show ("java/util/List" : String) ≠ _ ∧ ("java/util/List" : String) ≠ _ ∧ (parseMethodDescriptor (md_J2_size).y.desc).map (fun d => d.parameters.length) = some 0 from ⟨by decide, by decide, (hm_J2_size).2.2⟩) (by decide) (by decide) (Nat.le_of_ble_eq_true rfl)) (c_size p16) rfl (fun x17 => ?_)
            refine cw_goto (tgt := 320) dX1_count_268 (by decide) ?_
            exact cw_iret rfl dX1_count_320
          · refine cw_iload_n dX1_count_271 rfl 3 rfl ?_
            refine cw_goto (tgt := 320) dX1_count_272 (by decide) ?_
            exact cw_iret rfl dX1_count_320
          · refine cw_aload_n dX1_count_275 rfl 0 rfl ?_
            refine cw_getI (ci := 0) (j := 10) (C := RX1) (T := TX1) (N := 11) rfl (by decide) rfl rfl (Or.inl q216) fSame_rfl dX1_count_276 (fun x18 => ?_)
            refine cw_goto (tgt := 320) dX1_count_279 (by decide) ?_
            exact cw_iret rfl dX1_count_320
          · refine cw_aload_n dX1_count_282 rfl 0 rfl ?_
            refine cw_getP (ci := 0) (j := 4) (C := RX1) (T := TX1) (N := 11) rfl (by decide) rfl rfl (Or.inl q210) fSame_rfl dX1_count_283 (fun p19 => ?_)
            refine cw_invI (d2 := md_J2_size) (c := 0) (q := 0) (as := [cR p19]) (mc := 0) (ms := 0) rfl rfl (okF (x := ⟨"java/util/List", "size", "()I"⟩) (ci := 14) (C := RJ2) (T0 := TJ2) (N := 3) (n := 0) rfl (Or.inr ⟨rfl, rfl⟩) rfl dX1_count_286 (lw_F q246 q251 q249 q114 q253) (List.mem_iff_getElem?.mpr ⟨1, rfl⟩) (show ("java/util/List" : String) ≠ _ ∧ ("java/util/List" : String) ≠ _ ∧ (parseMethodDescriptor (md_J2_size).y.desc).map (fun d => d.parameters.length) = some 0 from ⟨by decide, by decide, (hm_J2_size).2.2⟩) (by decide) (by decide) (Nat.le_of_ble_eq_true rfl)) (c_size p19) rfl (fun x20 => ?_)
            refine cw_goto (tgt := 320) dX1_count_291 (by decide) ?_
            exact cw_iret rfl dX1_count_320
          · refine cw_aload_n dX1_count_294 rfl 0 rfl ?_
            refine cw_getP (ci := 0) (j := 5) (C := RX1) (T := TX1) (N := 11) rfl (by decide) rfl rfl (Or.inl q211) fSame_rfl dX1_count_295 (fun p21 => ?_)
            refine cw_invI (d2 := md_J2_size) (c := 0) (q := 0) (as := [cR p21]) (mc := 0) (ms := 0) rfl rfl (okF (x := ⟨"java/util/List", "size", "()I"⟩) (ci := 14) (C := RJ2) (T0 := TJ2) (N := 3) (n := 0) rfl (Or.inr ⟨rfl, rfl⟩) rfl dX1_count_298 (lw_F q246 q251 q249 q114 q253) (List.mem_iff_getElem?.mpr ⟨1, rfl⟩) (show ("java/util/List" : String) ≠ _ ∧ ("java/util/List" : String) ≠ _ ∧ (parseMethodDescriptor (md_J2_size).y.desc).map (fun d => d.parameters.length) = some 0 from ⟨by decide, by decide, (hm_J2_size).2.2⟩) (by decide) (by decide) (Nat.le_of_ble_eq_true rfl)) (c_size p21) rfl (fun x22 => ?_)
            refine cw_goto (tgt := 320) dX1_count_303 (by decide) ?_
            exact cw_iret rfl dX1_count_320
          · refine cw_aload_n dX1_count_306 rfl 0 rfl ?_
            refine cw_getP (ci := 0) (j := 1) (C := RX1) (T := TX1) (N := 11) rfl (by decide) rfl rfl (Or.inl q207) fSame_rfl dX1_count_307 (fun p23 => ?_)
            refine cw_invI (d2 := md_J2_size) (c := 0) (q := 0) (as := [cR p23]) (mc := 0) (ms := 0) rfl rfl (okF (x := ⟨"java/util/List", "size", "()I"⟩) (ci := 14) (C := RJ2) (T0 := TJ2) (N := 3) (n := 0) rfl (Or.inr ⟨rfl, rfl⟩) rfl dX1_count_310 (lw_F q246 q251 q249 q114 q253) (List.mem_iff_getElem?.mpr ⟨1, rfl⟩) (show ("java/util/List" : String) ≠ _ ∧ ("java/util/List" : String) ≠ _ ∧ (parseMethodDescriptor (md_J2_size).y.desc).map (fun d => d.parameters.length) = some 0 from ⟨by decide, by decide, (hm_J2_size).2.2⟩) (by decide) (by decide) (Nat.le_of_ble_eq_true rfl)) (c_size p23) rfl (fun x24 => ?_)
            refine cw_goto (tgt := 320) dX1_count_315 (by decide) ?_
            exact cw_iret rfl dX1_count_320
        · refine cw_iload dX1_count_318 4 rfl ?_
          exact cw_iret rfl dX1_count_320
      · refine cw_sub (ls' := [(0, cR a0), (1, cI a1), (2, cI v4), (3, cI v7), (4, cI 0), (5, cT p8 m9 0)]) [2, 3, 4, 5, 1, 0] rfl ?_
        refine cw_loop0 (lsf := fun (s : Int32 × Nat) => [(0, cR a0), (1, cI a1), (2, cI v4), (3, cI v7), (4, cI s.1), (5, cT p8 m9 s.2)]) (fun rec28 hrec28 s => ?_) FU (0, 0)
        obtain ⟨l26, l27⟩ := s
        show CWF _ _ _ 132 [(0, cR a0), (1, cI a1), (2, cI v4), (3, cI v7), (4, cI l26), (5, cT p8 m9 l27)] [] _
        dsimp only [b_X1_count_132]
        refine cw_sub (ls' := [(5, cT p8 m9 l27), (0, cR a0), (1, cI a1), (2, cI v4), (3, cI v7), (4, cI l26)]) [5, 0, 1, 2, 3, 4] rfl ?_
        refine cw_hasNext (la := 2) rfl (Or.inr ⟨dX1_count_132, rfl⟩) (fun x => okF (x := ⟨"java/util/Iterator", "hasNext", "()Z"⟩) (ci := 15) (C := RJ18) (T0 := TJ18) (N := 4) (n := 0) rfl (Or.inl rfl) rfl dX1_count_134 (lw_F q318 q339 q337 q134 q341) (List.mem_iff_getElem?.mpr ⟨4, rfl⟩) (show ("java/util/Iterator" : String) ≠ _ ∧ ("java/util/Iterator" : String) ≠ _ ∧ (parseMethodDescriptor (md_J18_hasNext).y.desc).map (fun d => d.parameters.length) = some 0 from ⟨by decide, by decide, (hm_J18_hasNext).2.2⟩) (by decide) (by decide) (Nat.le_of_ble_eq_true rfl)) (fun x29 => ?_)
        refine cw_if_eq (tgt := 167) dX1_count_139 (by decide) ?_ ?_
        · refine cw_sub (ls' := [(0, cR a0), (1, cI a1), (2, cI v4), (3, cI v7), (4, cI l26)]) [1, 2, 3, 4, 5] rfl ?_
          exact hJ25 l26
        · refine cw_next (la := 2) rfl (Or.inr ⟨dX1_count_142, rfl⟩) (fun x => okF (x := ⟨"java/util/Iterator", "next", "()Ljava/lang/Object;"⟩) (ci := 15) (C := RJ18) (T0 := TJ18) (N := 4) (n := 0) rfl (Or.inl rfl) rfl dX1_count_144 (lw_F q343 q432 q430 q134 q434) (List.mem_iff_getElem?.mpr ⟨6, rfl⟩) (show ("java/util/Iterator" : String) ≠ _ ∧ ("java/util/Iterator" : String) ≠ _ ∧ (parseMethodDescriptor (md_J18_next).y.desc).map (fun d => d.parameters.length) = some 0 from ⟨by decide, by decide, (hm_J18_next).2.2⟩) (by decide) (by decide) (Nat.le_of_ble_eq_true rfl)) (fun p30 => ?_)
          refine cw_cast (ci := 2) (T := TX3) (N := 9) (C := RX3) rfl rfl q733 (Or.inl rfl) dX1_count_149 ?_
          refine cw_astore (ls' := [(6, cR p30), (5, cT p8 m9 (l27 + 1)), (0, cR a0), (1, cI a1), (2, cI v4), (3, cI v7), (4, cI l26)]) dX1_count_152 (by decide) rfl ?_
          refine cw_iload dX1_count_154 6 rfl ?_
          refine cw_aload dX1_count_156 0 rfl ?_
          refine cw_getI (ci := 2) (j := 8) (C := RX3) (T := TX3) (N := 9) rfl (by decide) rfl rfl (Or.inr ⟨_, q821⟩) fSame_rfl dX1_count_158 (fun x31 => ?_)
          refine cw_iadd dX1_count_161 ?_
          refine cw_istore (ls' := [(4, cI (l26 + x31)), (6, cR p30), (5, cT p8 m9 (l27 + 1)), (0, cR a0), (1, cI a1), (2, cI v4), (3, cI v7)]) dX1_count_162 (by decide) rfl ?_
          refine cw_goto (tgt := 132) dX1_count_164 (by decide) ?_
          refine cw_sub (ls' := [(0, cR a0), (1, cI a1), (2, cI v4), (3, cI v7), (4, cI (l26 + x31)), (5, cT p8 m9 (l27 + 1))]) [3, 4, 5, 6, 0, 2] rfl ?_
          exact hrec28 ((l26 + x31), (l27 + 1))
    · refine cw_sub (ls' := [(4, cI 0), (0, cR a0), (1, cI a1), (2, cI v4), (3, cI 0), (5, cT p5 m6 0)]) [1, 3, 4, 5, 2, 0] rfl ?_
      refine cw_loop0 (lsf := fun (s : Int32 × Nat) => [(4, cI 0), (0, cR a0), (1, cI a1), (2, cI v4), (3, cI s.1), (5, cT p5 m6 s.2)]) (fun rec35 hrec35 s => ?_) FU (0, 0)
      obtain ⟨l33, l34⟩ := s
      show CWF _ _ _ 80 [(4, cI 0), (0, cR a0), (1, cI a1), (2, cI v4), (3, cI l33), (5, cT p5 m6 l34)] [] _
      dsimp only [b_X1_count_80]
      refine cw_sub (ls' := [(5, cT p5 m6 l34), (4, cI 0), (0, cR a0), (1, cI a1), (2, cI v4), (3, cI l33)]) [5, 0, 1, 2, 3, 4] rfl ?_
      refine cw_hasNext (la := 2) rfl (Or.inr ⟨dX1_count_80, rfl⟩) (fun x => okF (x := ⟨"java/util/Iterator", "hasNext", "()Z"⟩) (ci := 15) (C := RJ18) (T0 := TJ18) (N := 4) (n := 0) rfl (Or.inl rfl) rfl dX1_count_82 (lw_F q318 q339 q337 q134 q341) (List.mem_iff_getElem?.mpr ⟨4, rfl⟩) (show ("java/util/Iterator" : String) ≠ _ ∧ ("java/util/Iterator" : String) ≠ _ ∧ (parseMethodDescriptor (md_J18_hasNext).y.desc).map (fun d => d.parameters.length) = some 0 from ⟨by decide, by decide, (hm_J18_hasNext).2.2⟩) (by decide) (by decide) (Nat.le_of_ble_eq_true rfl)) (fun x36 => ?_)
      refine cw_if_eq (tgt := 121) dX1_count_87 (by decide) ?_ ?_
      · refine cw_sub (ls' := [(4, cI 0), (0, cR a0), (1, cI a1), (2, cI v4), (3, cI l33)]) [1, 2, 3, 4, 5] rfl ?_
        exact hJ32 l33
      · refine cw_next (la := 2) rfl (Or.inr ⟨dX1_count_90, rfl⟩) (fun x => okF (x := ⟨"java/util/Iterator", "next", "()Ljava/lang/Object;"⟩) (ci := 15) (C := RJ18) (T0 := TJ18) (N := 4) (n := 0) rfl (Or.inl rfl) rfl dX1_count_92 (lw_F q343 q432 q430 q134 q434) (List.mem_iff_getElem?.mpr ⟨6, rfl⟩) (show ("java/util/Iterator" : String) ≠ _ ∧ ("java/util/Iterator" : String) ≠ _ ∧ (parseMethodDescriptor (md_J18_next).y.desc).map (fun d => d.parameters.length) = some 0 from ⟨by decide, by decide, (hm_J18_next).2.2⟩) (by decide) (by decide) (Nat.le_of_ble_eq_true rfl)) (fun p37 => ?_)
        refine cw_cast (ci := 5) (T := TX6) (N := 19) (C := RX6) rfl rfl q524 (Or.inl rfl) dX1_count_97 ?_
        refine cw_astore (ls' := [(6, cR p37), (5, cT p5 m6 (l34 + 1)), (4, cI 0), (0, cR a0), (1, cI a1), (2, cI v4), (3, cI l33)]) dX1_count_100 (by decide) rfl ?_
        refine cw_iload_n dX1_count_102 rfl 6 rfl ?_
        refine cw_aload dX1_count_103 0 rfl ?_
        refine cw_getI (ci := 5) (j := 16) (C := RX6) (T := TX6) (N := 19) rfl (by decide) rfl rfl (Or.inr ⟨_, q1116⟩) fSame_rfl dX1_count_105 (fun x38 => ?_)
        refine cw_jn (cj := 1) (kj := 4) (pcj := 116) (lsf := fun (s : Int32) => [(5, cT p5 m6 (l34 + 1)), (4, cI 0), (0, cR a0), (1, cI a1), (2, cI v4)]) (stf := fun (s : Int32) => [cI s, cI l33]) (fun s => ?_) (fun J40 hJ40 => ?_)
        · obtain ⟨v39, e⟩ : ∃ z, z = s := ⟨_, rfl⟩
          subst e
          show CWF _ _ _ 116 [(5, cT p5 m6 (l34 + 1)), (4, cI 0), (0, cR a0), (1, cI a1), (2, cI v4)] [cI v39, cI l33] _
          refine cw_iadd dX1_count_116 ?_
          refine cw_istore_n (ls' := [(3, cI (l33 + v39)), (5, cT p5 m6 (l34 + 1)), (4, cI 0), (0, cR a0), (1, cI a1), (2, cI v4)]) dX1_count_117 rfl (by decide) rfl ?_
          refine cw_goto (tgt := 80) dX1_count_118 (by decide) ?_
          refine cw_sub (ls' := [(4, cI 0), (0, cR a0), (1, cI a1), (2, cI v4), (3, cI (l33 + v39)), (5, cT p5 m6 (l34 + 1))]) [2, 3, 4, 5, 0, 1] rfl ?_
          exact hrec35 ((l33 + v39), (l34 + 1))
        · refine cw_if_eq (tgt := 115) dX1_count_108 (by decide) ?_ ?_
          · refine cw_iconst (v := 0) dX1_count_115 (by decide) ?_
            refine cw_sub (ls' := [(5, cT p5 m6 (l34 + 1)), (4, cI 0), (0, cR a0), (1, cI a1), (2, cI v4)]) [1, 2, 3, 4, 5] rfl ?_
            exact hJ40 0
          · refine cw_iconst (v := 1) dX1_count_111 (by decide) ?_
            refine cw_goto (tgt := 116) dX1_count_112 (by decide) ?_
            refine cw_sub (ls' := [(5, cT p5 m6 (l34 + 1)), (4, cI 0), (0, cR a0), (1, cI a1), (2, cI v4)]) [1, 2, 3, 4, 5] rfl ?_
            exact hJ40 1
  · refine cw_sub (ls' := [(4, cI 0), (3, cI 0), (0, cR a0), (1, cI a1), (2, cI 0), (5, cT p2 m3 0)]) [1, 2, 4, 5, 3, 0] rfl ?_
    refine cw_loop0 (lsf := fun (s : Int32 × Nat) => [(4, cI 0), (3, cI 0), (0, cR a0), (1, cI a1), (2, cI s.1), (5, cT p2 m3 s.2)]) (fun rec44 hrec44 s => ?_) FU (0, 0)
    obtain ⟨l42, l43⟩ := s
    show CWF _ _ _ 28 [(4, cI 0), (3, cI 0), (0, cR a0), (1, cI a1), (2, cI l42), (5, cT p2 m3 l43)] [] _
    dsimp only [b_X1_count_28]
    refine cw_sub (ls' := [(5, cT p2 m3 l43), (4, cI 0), (3, cI 0), (0, cR a0), (1, cI a1), (2, cI l42)]) [5, 0, 1, 2, 3, 4] rfl ?_
    refine cw_hasNext (la := 2) rfl (Or.inr ⟨dX1_count_28, rfl⟩) (fun x => okF (x := ⟨"java/util/Iterator", "hasNext", "()Z"⟩) (ci := 15) (C := RJ18) (T0 := TJ18) (N := 4) (n := 0) rfl (Or.inl rfl) rfl dX1_count_30 (lw_F q318 q339 q337 q134 q341) (List.mem_iff_getElem?.mpr ⟨4, rfl⟩) (show ("java/util/Iterator" : String) ≠ _ ∧ ("java/util/Iterator" : String) ≠ _ ∧ (parseMethodDescriptor (md_J18_hasNext).y.desc).map (fun d => d.parameters.length) = some 0 from ⟨by decide, by decide, (hm_J18_hasNext).2.2⟩) (by decide) (by decide) (Nat.le_of_ble_eq_true rfl)) (fun x45 => ?_)
    refine cw_if_eq (tgt := 69) dX1_count_35 (by decide) ?_ ?_
    · refine cw_sub (ls' := [(4, cI 0), (3, cI 0), (0, cR a0), (1, cI a1), (2, cI l42)]) [1, 2, 3, 4, 5] rfl ?_
      exact hJ41 l42
    · refine cw_next (la := 2) rfl (Or.inr ⟨dX1_count_38, rfl⟩) (fun x => okF (x := ⟨"java/util/Iterator", "next", "()Ljava/lang/Object;"⟩) (ci := 15) (C := RJ18) (T0 := TJ18) (N := 4) (n := 0) rfl (Or.inl rfl) rfl dX1_count_40 (lw_F q343 q432 q430 q134 q434) (List.mem_iff_getElem?.mpr ⟨6, rfl⟩) (show ("java/util/Iterator" : String) ≠ _ ∧ ("java/util/Iterator" : String) ≠ _ ∧ (parseMethodDescriptor (md_J18_next).y.desc).map (fun d => d.parameters.length) = some 0 from ⟨by decide, by decide, (hm_J18_next).2.2⟩) (by decide) (by decide) (Nat.le_of_ble_eq_true rfl)) (fun p46 => ?_)
      refine cw_cast (ci := 4) (T := TX5) (N := 5) (C := RX5) rfl rfl q762 (Or.inl rfl) dX1_count_45 ?_
      refine cw_astore (ls' := [(6, cR p46), (5, cT p2 m3 (l43 + 1)), (4, cI 0), (3, cI 0), (0, cR a0), (1, cI a1), (2, cI l42)]) dX1_count_48 (by decide) rfl ?_
      refine cw_iload_n dX1_count_50 rfl 6 rfl ?_
      refine cw_aload dX1_count_51 0 rfl ?_
      refine cw_getI (ci := 4) (j := 4) (C := RX5) (T := TX5) (N := 5) rfl (by decide) rfl rfl (Or.inr ⟨_, q1019⟩) fSame_rfl dX1_count_53 (fun x47 => ?_)
      refine cw_jn (cj := 2) (kj := 8) (pcj := 64) (lsf := fun (s : Int32) => [(5, cT p2 m3 (l43 + 1)), (4, cI 0), (3, cI 0), (0, cR a0), (1, cI a1)]) (stf := fun (s : Int32) => [cI s, cI l42]) (fun s => ?_) (fun J49 hJ49 => ?_)
      · obtain ⟨v48, e⟩ : ∃ z, z = s := ⟨_, rfl⟩
        subst e
        show CWF _ _ _ 64 [(5, cT p2 m3 (l43 + 1)), (4, cI 0), (3, cI 0), (0, cR a0), (1, cI a1)] [cI v48, cI l42] _
        refine cw_iadd dX1_count_64 ?_
        refine cw_istore_n (ls' := [(2, cI (l42 + v48)), (5, cT p2 m3 (l43 + 1)), (4, cI 0), (3, cI 0), (0, cR a0), (1, cI a1)]) dX1_count_65 rfl (by decide) rfl ?_
        refine cw_goto (tgt := 28) dX1_count_66 (by decide) ?_
        refine cw_sub (ls' := [(4, cI 0), (3, cI 0), (0, cR a0), (1, cI a1), (2, cI (l42 + v48)), (5, cT p2 m3 (l43 + 1))]) [2, 3, 4, 5, 0, 1] rfl ?_
        exact hrec44 ((l42 + v48), (l43 + 1))
      · refine cw_if_eq (tgt := 63) dX1_count_56 (by decide) ?_ ?_
        · refine cw_iconst (v := 0) dX1_count_63 (by decide) ?_
          refine cw_sub (ls' := [(5, cT p2 m3 (l43 + 1)), (4, cI 0), (3, cI 0), (0, cR a0), (1, cI a1)]) [1, 2, 3, 4, 5] rfl ?_
          exact hJ49 0
        · refine cw_iconst (v := 1) dX1_count_59 (by decide) ?_
          refine cw_goto (tgt := 64) dX1_count_60 (by decide) ?_
          refine cw_sub (ls' := [(5, cT p2 m3 (l43 + 1)), (4, cI 0), (3, cI 0), (0, cR a0), (1, cI a1)]) [1, 2, 3, 4, 5] rfl ?_
          exact hJ49 1
def g_X1_decidedShare (a0 : Nat) : GF :=
  getP 20 a0 3 fun p1 =>
  invI (some (p1, 8)) (s_isEmpty p1) fun x2 =>
  if x2 = 0 then
    invI (some (a0, 20)) (g_X1_count a0 5) fun x3 =>
    getP 20 a0 3 fun p4 =>
    invI (some (p4, 8)) (s_size p4) fun x5 =>
    fdivG (FP.i2f x3) (FP.i2f x5) fun x6 =>
    retG (rF x6)
  else
    retG (rF FP.fconst0)
abbrev md_X1_decidedShare : MD := (yX1_decidedShare, cX1_decidedShare, 1, (some (Jvm.ClassFile.FieldType.float)), RX1, 13, 4, 18)
theorem hm_X1_decidedShare : (md_X1_decidedShare).y.cls ≠ "java/lang/invoke/MethodHandle" ∧ (md_X1_decidedShare).y.cls ≠ "java/lang/invoke/VarHandle" ∧ (parseMethodDescriptor (md_X1_decidedShare).y.desc).map (fun d => d.parameters.length) = some 0 := by decide +kernel
theorem m_X1_decidedShare (a0 : Nat) : CMF md_X1_decidedShare [cR a0] (g_X1_decidedShare a0) := by
  refine cm_of (by decide +kernel) rfl (Nat.le_of_ble_eq_true rfl) ?_
  show CWF _ 4 18 0 [(0, cR a0)] [] _
  unfold g_X1_decidedShare
  refine cw_aload_n dX1_decidedShare_0 rfl 0 rfl ?_
  refine cw_getP (ci := 0) (j := 3) (C := RX1) (T := TX1) (N := 11) rfl (by decide) rfl rfl (Or.inl q209) fSame_rfl dX1_decidedShare_1 (fun p1 => ?_)
  refine cw_invI (d2 := md_J2_isEmpty) (c := 4) (q := 18) (as := [cR p1]) (mc := 0) (ms := 0) rfl rfl (okF (x := ⟨"java/util/List", "isEmpty", "()Z"⟩) (ci := 14) (C := RJ2) (T0 := TJ2) (N := 3) (n := 0) rfl (Or.inr ⟨rfl, rfl⟩) rfl dX1_decidedShare_4 (lw_F q735 q333 q331 q114 q335) (List.mem_iff_getElem?.mpr ⟨5, rfl⟩) (show ("java/util/List" : String) ≠ _ ∧ ("java/util/List" : String) ≠ _ ∧ (parseMethodDescriptor (md_J2_isEmpty).y.desc).map (fun d => d.parameters.length) = some 0 from ⟨by decide, by decide, (hm_J2_isEmpty).2.2⟩) (by decide) (by decide) (Nat.le_of_ble_eq_true rfl)) (c_isEmpty p1) rfl (fun x2 => ?_)
  refine cw_if_eq (tgt := 16) dX1_decidedShare_9 (by decide) ?_ ?_
  · refine cw_aload_n dX1_decidedShare_16 rfl 0 rfl ?_
    refine cw_iconst (v := 5) dX1_decidedShare_17 (by decide) ?_
    refine cw_invI (d2 := md_X1_count) (c := 0) (q := 0) (as := [cR a0, cI 5]) (mc := 4) (ms := 18) rfl rfl (okV (ci := 0) (C := RX1) (T0 := TX1) (N := 11) (n := 1) rfl rfl rfl dX1_decidedShare_18 (lw_V q740 q741 q742 q111 q743) ⟨rfl, hm_X1_count⟩ (by decide) (by decide) (Nat.le_of_ble_eq_true rfl)) (m_X1_count a0 5) rfl (fun x3 => ?_)
    refine cw_i2f dX1_decidedShare_21 ?_
    refine cw_aload_n dX1_decidedShare_22 rfl 0 rfl ?_
    refine cw_getP (ci := 0) (j := 3) (C := RX1) (T := TX1) (N := 11) rfl (by decide) rfl rfl (Or.inl q209) fSame_rfl dX1_decidedShare_23 (fun p4 => ?_)
    refine cw_invI (d2 := md_J2_size) (c := 0) (q := 0) (as := [cR p4]) (mc := 0) (ms := 0) rfl rfl (okF (x := ⟨"java/util/List", "size", "()I"⟩) (ci := 14) (C := RJ2) (T0 := TJ2) (N := 3) (n := 0) rfl (Or.inr ⟨rfl, rfl⟩) rfl dX1_decidedShare_26 (lw_F q246 q251 q249 q114 q253) (List.mem_iff_getElem?.mpr ⟨1, rfl⟩) (show ("java/util/List" : String) ≠ _ ∧ ("java/util/List" : String) ≠ _ ∧ (parseMethodDescriptor (md_J2_size).y.desc).map (fun d => d.parameters.length) = some 0 from ⟨by decide, by decide, (hm_J2_size).2.2⟩) (by decide) (by decide) (Nat.le_of_ble_eq_true rfl)) (c_size p4) rfl (fun x5 => ?_)
    refine cw_i2f dX1_decidedShare_31 ?_
    refine cw_fdiv dX1_decidedShare_32 (fun x6 => ?_)
    exact cw_fret rfl dX1_decidedShare_33
  · refine cw_weak (c' := 0) (q' := 0) (by omega) (by omega) ?_
    refine cw_fconst0 dX1_decidedShare_12 ?_
    refine cw_goto (tgt := 33) dX1_decidedShare_13 (by decide) ?_
    exact cw_fret rfl dX1_decidedShare_33
def g_X1_requireState (a0 : Int32) : GF :=
  if a0 = 0 then
    throwG "java/lang/IllegalStateException"
  else
    retG rV
abbrev md_X1_requireState : MD := (yX1_requireState, cX1_requireState, 1, none, RX1, 10, 1, 6)
theorem hm_X1_requireState : (md_X1_requireState).y.cls ≠ "java/lang/invoke/MethodHandle" ∧ (md_X1_requireState).y.cls ≠ "java/lang/invoke/VarHandle" ∧ (parseMethodDescriptor (md_X1_requireState).y.desc).map (fun d => d.parameters.length) = some 1 := by decide +kernel
theorem m_X1_requireState (a0 : Int32) : CMF md_X1_requireState [cI a0] (g_X1_requireState a0) := by
  refine cm_of (by decide +kernel) rfl (Nat.le_of_ble_eq_true rfl) ?_
  show CWF _ 1 6 0 [(0, cI a0)] [] _
  unfold g_X1_requireState
  refine cw_iload_n dX1_requireState_0 rfl 0 rfl ?_
  refine cw_if_ne (tgt := 12) dX1_requireState_1 (by decide) ?_ ?_
  · refine cw_weak (c' := 0) (q' := 0) (by omega) (by omega) ?_
    exact cw_vret rfl dX1_requireState_12
  · exact cw_throw0 (c := 0) (q := 0) (ik := 10) (ic := 12) (cls := "java/lang/IllegalStateException") (names := ["java/lang/RuntimeException", "java/lang/Exception"]) (by decide +kernel) (by decide +kernel) q775 q120 tw_IllegalStateException tg_IllegalStateException (by decide +kernel) dX1_requireState_4 dX1_requireState_7 dX1_requireState_8 dX1_requireState_11 (by decide) (by decide) (Nat.le_of_ble_eq_true rfl)
def g_X1_pass (a0 : Nat) (a1 : Int32) : GF :=
  invI none (g_X1_isBetween a1 1 100) fun x1 =>
  invV none (g_X1_requireArgument x1) <|
  getI 20 a0 9 fun x2 =>
  jnG (fun (v3 : Int32) =>
    invV none (g_X1_requireState v3) <|
    getI 20 a0 9 fun x4 =>
    putI 20 a0 9 (x4 + a1) <|
    getI 20 a0 9 fun x5 =>
    retG (rI x5)) fun J6 =>
  if (x2 + a1) ≤ 359 then
    J6 1
  else
    J6 0
abbrev md_X1_pass : MD := (yX1_pass, cX1_pass, 2, (some (Jvm.ClassFile.FieldType.int)), RX1, 11, 2, 12)
theorem hm_X1_pass : (md_X1_pass).y.cls ≠ "java/lang/invoke/MethodHandle" ∧ (md_X1_pass).y.cls ≠ "java/lang/invoke/VarHandle" ∧ (parseMethodDescriptor (md_X1_pass).y.desc).map (fun d => d.parameters.length) = some 1 := by decide +kernel
theorem m_X1_pass (a0 : Nat) (a1 : Int32) : CMF md_X1_pass [cR a0, cI a1] (g_X1_pass a0 a1) := by
  refine cm_of (by decide +kernel) rfl (Nat.le_of_ble_eq_true rfl) ?_
  show CWF _ 2 12 0 [(0, cR a0), (1, cI a1)] [] _
  unfold g_X1_pass
  refine cw_iload_n dX1_pass_0 rfl 1 rfl ?_
  refine cw_iconst (v := 1) dX1_pass_1 (by decide) ?_
  refine cw_bipush (v := 100) dX1_pass_2 (by decide) ?_
  refine cw_invI (d2 := md_X1_isBetween) (c := 2) (q := 12) (as := [cI a1, cI 1, cI 100]) (mc := 0) (ms := 0) rfl rfl (okS (n := 3) rfl dX1_pass_4 (lw_S q258 q259 q111 q260) hm_X1_isBetween (by decide) (by decide) (Nat.le_of_ble_eq_true rfl)) (m_X1_isBetween a1 1 100) rfl (fun x1 => ?_)
  refine cw_invV (d2 := md_X1_requireArgument) (c := 1) (q := 6) (as := [cI x1]) (mc := 1) (ms := 6) rfl rfl (okS (n := 1) rfl dX1_pass_7 (lw_S q744 q745 q111 q746) hm_X1_requireArgument (by decide) (by decide) (Nat.le_of_ble_eq_true rfl)) (m_X1_requireArgument x1) rfl ?_
  refine cw_aload_n dX1_pass_10 rfl 0 rfl ?_
  refine cw_getI (ci := 0) (j := 9) (C := RX1) (T := TX1) (N := 11) rfl (by decide) rfl rfl (Or.inl q215) fSame_rfl dX1_pass_11 (fun x2 => ?_)
  refine cw_iload_n dX1_pass_14 rfl 1 rfl ?_
  refine cw_iadd dX1_pass_15 ?_
  refine cw_sipush (v := 359) dX1_pass_16 (by decide) ?_
  refine cw_jn (cj := 1) (kj := 6) (pcj := 27) (lsf := fun (s : Int32) => [(0, cR a0), (1, cI a1)]) (stf := fun (s : Int32) => [cI s]) (fun s => ?_) (fun J6 hJ6 => ?_)
  · obtain ⟨v3, e⟩ : ∃ z, z = s := ⟨_, rfl⟩
    subst e
    show CWF _ _ _ 27 [(0, cR a0), (1, cI a1)] [cI v3] _
    refine cw_invV (d2 := md_X1_requireState) (c := 0) (q := 0) (as := [cI v3]) (mc := 1) (ms := 6) rfl rfl (okS (n := 1) rfl dX1_pass_27 (lw_S q772 q773 q111 q774) hm_X1_requireState (by decide) (by decide) (Nat.le_of_ble_eq_true rfl)) (m_X1_requireState v3) rfl ?_
    refine cw_aload_n dX1_pass_30 rfl 0 rfl ?_
    refine cw_dup dX1_pass_31 rfl ?_
    refine cw_getI (ci := 0) (j := 9) (C := RX1) (T := TX1) (N := 11) rfl (by decide) rfl rfl (Or.inl q215) fSame_rfl dX1_pass_32 (fun x4 => ?_)
    refine cw_iload_n dX1_pass_35 rfl 1 rfl ?_
    refine cw_iadd dX1_pass_36 ?_
    refine cw_putI (ci := 0) (j := 9) (C := RX1) (T := TX1) (N := 11) rfl (by decide) rfl rfl (Or.inl q215) fSame_rfl (Or.inl rfl) dX1_pass_37 ?_
    refine cw_aload_n dX1_pass_40 rfl 0 rfl ?_
    refine cw_getI (ci := 0) (j := 9) (C := RX1) (T := TX1) (N := 11) rfl (by decide) rfl rfl (Or.inl q215) fSame_rfl dX1_pass_41 (fun x5 => ?_)
    exact cw_iret rfl dX1_pass_44
  · refine cw_icmp_gt (tgt := 26) dX1_pass_19 (by decide) ?_ ?_
    · refine cw_iconst (v := 0) dX1_pass_26 (by decide) ?_
      exact hJ6 0
    · refine cw_iconst (v := 1) dX1_pass_22 (by decide) ?_
      refine cw_goto (tgt := 27) dX1_pass_23 (by decide) ?_
      exact hJ6 1
def g_X3_init (a0 : Nat) (a1 : Int32) (a2 : Int32) : GF :=
  objG a0 <|
  newaG 1 2 2 fun p1 =>
  putP 22 a0 2 p1 <|
  newG 34 fun p2 =>
  invV (some (p2, 34)) (s_init p2) <|
  putP 22 a0 3 p2 <|
  newG 34 fun p3 =>
  invV (some (p3, 34)) (s_init p3) <|
  putP 22 a0 4 p3 <|
  putI 22 a0 6 (-1 : Int32) <|
  putI 22 a0 0 a1 <|
  putI 22 a0 1 a2 <|
  retG rV
abbrev md_X3_init : MD := (yX3_init, cX3_init, 3, none, RX3, 13, 3, 8)
theorem hm_X3_init : (md_X3_init).y.cls ≠ "java/lang/invoke/MethodHandle" ∧ (md_X3_init).y.cls ≠ "java/lang/invoke/VarHandle" ∧ (parseMethodDescriptor (md_X3_init).y.desc).map (fun d => d.parameters.length) = some 2 := by decide +kernel
theorem m_X3_init (a0 : Nat) (a1 : Int32) (a2 : Int32) : CMF md_X3_init [cR a0, cI a1, cI a2] (g_X3_init a0 a1 a2) := by
  refine cm_of (by decide +kernel) rfl (Nat.le_of_ble_eq_true rfl) ?_
  show CWF _ 3 8 0 [(0, cR a0), (1, cI a1), (2, cI a2)] [] _
  unfold g_X3_init
  refine cw_aload_n dX3_init_0 rfl 0 rfl ?_
  refine cw_objInit q801 q159 q160 dX3_init_1 (by decide) (Nat.le_of_ble_eq_true rfl) ?_
  refine cw_aload_n dX3_init_4 rfl 0 rfl ?_
  refine cw_iconst (v := 2) dX3_init_5 (by decide) ?_
  refine cw_newarr (c := 2) (q := 6) (B := 2) (t := 1) (Or.inl ⟨rfl, rfl⟩) (by decide) q240 dX3_init_6 (fun p1 => ?_)
  refine cw_putP (ci := 2) (j := 2) (C := RX3) (T := TX3) (N := 9) rfl (by decide) rfl rfl (Or.inl q809) fSame_rfl (Or.inr ⟨rfl, rfl, rfl⟩) dX3_init_8 ?_
  refine cw_aload_n dX3_init_11 rfl 0 rfl ?_
  refine cw_new (c := 1) (q := 3) (ci := 14) (C := RJ2) (T := TJ2) (N := 3) rfl rfl q802 q162 q114 dX3_init_12 (fun p2 => ?_)
  refine cw_dup dX3_init_15 rfl ?_
  refine cw_invV (d2 := md_J2_init) (c := 1) (q := 3) (as := [cR p2]) (mc := 0) (ms := 0) rfl rfl (okI (n := 0) rfl rfl dX3_init_16 (lw_meth q165) q114 q803 q164 rfl hm_J2_init (by decide) (by decide) (Nat.le_of_ble_eq_true rfl) (by decide)) (c_init p2) rfl ?_
  refine cw_putP (ci := 2) (j := 3) (C := RX3) (T := TX3) (N := 9) rfl (by decide) rfl rfl (Or.inl q812) fSame_rfl (Or.inr ⟨rfl, rfl, rfl⟩) dX3_init_19 ?_
  refine cw_aload_n dX3_init_22 rfl 0 rfl ?_
  refine cw_new (c := 0) (q := 0) (ci := 14) (C := RJ2) (T := TJ2) (N := 3) rfl rfl q802 q162 q114 dX3_init_23 (fun p3 => ?_)
  refine cw_dup dX3_init_26 rfl ?_
  refine cw_invV (d2 := md_J2_init) (c := 0) (q := 0) (as := [cR p3]) (mc := 0) (ms := 0) rfl rfl (okI (n := 0) rfl rfl dX3_init_27 (lw_meth q165) q114 q803 q164 rfl hm_J2_init (by decide) (by decide) (Nat.le_of_ble_eq_true rfl) (by decide)) (c_init p3) rfl ?_
  refine cw_putP (ci := 2) (j := 4) (C := RX3) (T := TX3) (N := 9) rfl (by decide) rfl rfl (Or.inl q814) fSame_rfl (Or.inr ⟨rfl, rfl, rfl⟩) dX3_init_30 ?_
  refine cw_aload_n dX3_init_33 rfl 0 rfl ?_
  refine cw_iconst (v := -1) dX3_init_34 (by decide) ?_
  refine cw_putI (ci := 2) (j := 6) (C := RX3) (T := TX3) (N := 9) rfl (by decide) rfl rfl (Or.inl q817) fSame_rfl (Or.inl rfl) dX3_init_35 ?_
  refine cw_aload_n dX3_init_38 rfl 0 rfl ?_
  refine cw_iload_n dX3_init_39 rfl 1 rfl ?_
  refine cw_putI (ci := 2) (j := 0) (C := RX3) (T := TX3) (N := 9) rfl (by decide) rfl rfl (Or.inl q804) fSame_rfl (Or.inr ⟨rfl, rfl, rfl⟩) dX3_init_40 ?_
  refine cw_aload_n dX3_init_43 rfl 0 rfl ?_
  refine cw_iload_n dX3_init_44 rfl 2 rfl ?_
  refine cw_putI (ci := 2) (j := 1) (C := RX3) (T := TX3) (N := 9) rfl (by decide) rfl rfl (Or.inl q806) fSame_rfl (Or.inr ⟨rfl, rfl, rfl⟩) dX3_init_45 ?_
  exact cw_vret rfl dX3_init_48
def g_X1_person (a0 : Nat) (a1 : Int32) : GF :=
  invI none (g_X1_isBetween a1 6 99) fun x1 =>
  invV none (g_X1_requireArgument x1) <|
  getP 20 a0 0 fun p2 =>
  invI (some (p2, 8)) (s_size p2) fun x3 =>
  jnG (fun (v4 : Int32) =>
    invV none (g_X1_requireState v4) <|
    getP 20 a0 0 fun p5 =>
    newG 22 fun p6 =>
    getP 20 a0 0 fun p7 =>
    invI (some (p7, 8)) (s_size p7) fun x8 =>
    invV (some (p6, 22)) (g_X3_init p6 x8 a1) <|
    invI (some (p5, 8)) (s_add p5 p6) fun x9 =>
    getP 20 a0 0 fun p10 =>
    invI (some (p10, 8)) (s_size p10) fun x11 =>
    retG (rI (x11 - 1))) fun J12 =>
  if x3 < 20 then
    J12 1
  else
    J12 0
abbrev md_X1_person : MD := (yX1_person, cX1_person, 3, (some (Jvm.ClassFile.FieldType.int)), RX1, 16, 7, 93)
theorem hm_X1_person : (md_X1_person).y.cls ≠ "java/lang/invoke/MethodHandle" ∧ (md_X1_person).y.cls ≠ "java/lang/invoke/VarHandle" ∧ (parseMethodDescriptor (md_X1_person).y.desc).map (fun d => d.parameters.length) = some 1 := by decide +kernel
theorem m_X1_person (a0 : Nat) (a1 : Int32) : CMF md_X1_person [cR a0, cI a1] (g_X1_person a0 a1) := by
  refine cm_of (by decide +kernel) rfl (Nat.le_of_ble_eq_true rfl) ?_
  show CWF _ 7 93 0 [(0, cR a0), (1, cI a1)] [] _
  unfold g_X1_person
  refine cw_iload_n dX1_person_0 rfl 1 rfl ?_
  refine cw_bipush (v := 6) dX1_person_1 (by decide) ?_
  refine cw_bipush (v := 99) dX1_person_3 (by decide) ?_
  refine cw_invI (d2 := md_X1_isBetween) (c := 7) (q := 93) (as := [cI a1, cI 6, cI 99]) (mc := 0) (ms := 0) rfl rfl (okS (n := 3) rfl dX1_person_5 (lw_S q258 q259 q111 q260) hm_X1_isBetween (by decide) (by decide) (Nat.le_of_ble_eq_true rfl)) (m_X1_isBetween a1 6 99) rfl (fun x1 => ?_)
  refine cw_invV (d2 := md_X1_requireArgument) (c := 6) (q := 87) (as := [cI x1]) (mc := 1) (ms := 6) rfl rfl (okS (n := 1) rfl dX1_person_8 (lw_S q744 q745 q111 q746) hm_X1_requireArgument (by decide) (by decide) (Nat.le_of_ble_eq_true rfl)) (m_X1_requireArgument x1) rfl ?_
  refine cw_aload_n dX1_person_11 rfl 0 rfl ?_
  refine cw_getP (ci := 0) (j := 0) (C := RX1) (T := TX1) (N := 11) rfl (by decide) rfl rfl (Or.inl q206) fSame_rfl dX1_person_12 (fun p2 => ?_)
  refine cw_invI (d2 := md_J2_size) (c := 6) (q := 87) (as := [cR p2]) (mc := 0) (ms := 0) rfl rfl (okF (x := ⟨"java/util/List", "size", "()I"⟩) (ci := 14) (C := RJ2) (T0 := TJ2) (N := 3) (n := 0) rfl (Or.inr ⟨rfl, rfl⟩) rfl dX1_person_15 (lw_F q246 q251 q249 q114 q253) (List.mem_iff_getElem?.mpr ⟨1, rfl⟩) (show ("java/util/List" : String) ≠ _ ∧ ("java/util/List" : String) ≠ _ ∧ (parseMethodDescriptor (md_J2_size).y.desc).map (fun d => d.parameters.length) = some 0 from ⟨by decide, by decide, (hm_J2_size).2.2⟩) (by decide) (by decide) (Nat.le_of_ble_eq_true rfl)) (c_size p2) rfl (fun x3 => ?_)
  refine cw_bipush (v := 20) dX1_person_20 (by decide) ?_
  refine cw_jn (cj := 6) (kj := 87) (pcj := 30) (lsf := fun (s : Int32) => [(0, cR a0), (1, cI a1)]) (stf := fun (s : Int32) => [cI s]) (fun s => ?_) (fun J12 hJ12 => ?_)
  · obtain ⟨v4, e⟩ : ∃ z, z = s := ⟨_, rfl⟩
    subst e
    show CWF _ _ _ 30 [(0, cR a0), (1, cI a1)] [cI v4] _
    refine cw_invV (d2 := md_X1_requireState) (c := 5) (q := 81) (as := [cI v4]) (mc := 1) (ms := 6) rfl rfl (okS (n := 1) rfl dX1_person_30 (lw_S q772 q773 q111 q774) hm_X1_requireState (by decide) (by decide) (Nat.le_of_ble_eq_true rfl)) (m_X1_requireState v4) rfl ?_
    refine cw_aload_n dX1_person_33 rfl 0 rfl ?_
    refine cw_getP (ci := 0) (j := 0) (C := RX1) (T := TX1) (N := 11) rfl (by decide) rfl rfl (Or.inl q206) fSame_rfl dX1_person_34 (fun p5 => ?_)
    refine cw_new (c := 4) (q := 72) (ci := 2) (C := RX3) (T := TX3) (N := 9) rfl rfl q733 q797 q121 dX1_person_37 (fun p6 => ?_)
    refine cw_dup dX1_person_40 rfl ?_
    refine cw_aload_n dX1_person_41 rfl 0 rfl ?_
    refine cw_getP (ci := 0) (j := 0) (C := RX1) (T := TX1) (N := 11) rfl (by decide) rfl rfl (Or.inl q206) fSame_rfl dX1_person_42 (fun p7 => ?_)
    refine cw_invI (d2 := md_J2_size) (c := 4) (q := 72) (as := [cR p7]) (mc := 0) (ms := 0) rfl rfl (okF (x := ⟨"java/util/List", "size", "()I"⟩) (ci := 14) (C := RJ2) (T0 := TJ2) (N := 3) (n := 0) rfl (Or.inr ⟨rfl, rfl⟩) rfl dX1_person_45 (lw_F q246 q251 q249 q114 q253) (List.mem_iff_getElem?.mpr ⟨1, rfl⟩) (show ("java/util/List" : String) ≠ _ ∧ ("java/util/List" : String) ≠ _ ∧ (parseMethodDescriptor (md_J2_size).y.desc).map (fun d => d.parameters.length) = some 0 from ⟨by decide, by decide, (hm_J2_size).2.2⟩) (by decide) (by decide) (Nat.le_of_ble_eq_true rfl)) (c_size p7) rfl (fun x8 => ?_)
    refine cw_iload_n dX1_person_50 rfl 1 rfl ?_
    refine cw_invV (d2 := md_X3_init) (c := 1) (q := 64) (as := [cR p6, cI x8, cI a1]) (mc := 3) (ms := 8) rfl rfl (okI (n := 2) rfl rfl dX1_person_51 (lw_meth q800) q121 q798 q799 rfl hm_X3_init (by decide) (by decide) (Nat.le_of_ble_eq_true rfl) (by decide)) (m_X3_init p6 x8 a1) rfl ?_
    refine cw_invI (d2 := md_J2_add) (c := 0) (q := 0) (as := [cR p5, cR p6]) (mc := 1) (ms := 64) rfl rfl (okF (x := ⟨"java/util/List", "add", "(Ljava/lang/Object;)Z"⟩) (ci := 14) (C := RJ2) (T0 := TJ2) (N := 3) (n := 1) rfl (Or.inr ⟨rfl, rfl⟩) rfl dX1_person_54 (lw_F q842 q587 q585 q114 q589) (List.mem_iff_getElem?.mpr ⟨9, rfl⟩) (show ("java/util/List" : String) ≠ _ ∧ ("java/util/List" : String) ≠ _ ∧ (parseMethodDescriptor (md_J2_add).y.desc).map (fun d => d.parameters.length) = some 1 from ⟨by decide, by decide, (hm_J2_add).2.2⟩) (by decide) (by decide) (Nat.le_of_ble_eq_true rfl)) (c_add p5 p6) rfl (fun x9 => ?_)
    refine cw_istore_n (ls' := [(2, cI x9), (0, cR a0), (1, cI a1)]) dX1_person_59 rfl (by decide) rfl ?_
    refine cw_aload_n dX1_person_60 rfl 1 rfl ?_
    refine cw_getP (ci := 0) (j := 0) (C := RX1) (T := TX1) (N := 11) rfl (by decide) rfl rfl (Or.inl q206) fSame_rfl dX1_person_61 (fun p10 => ?_)
    refine cw_invI (d2 := md_J2_size) (c := 0) (q := 0) (as := [cR p10]) (mc := 0) (ms := 0) rfl rfl (okF (x := ⟨"java/util/List", "size", "()I"⟩) (ci := 14) (C := RJ2) (T0 := TJ2) (N := 3) (n := 0) rfl (Or.inr ⟨rfl, rfl⟩) rfl dX1_person_64 (lw_F q246 q251 q249 q114 q253) (List.mem_iff_getElem?.mpr ⟨1, rfl⟩) (show ("java/util/List" : String) ≠ _ ∧ ("java/util/List" : String) ≠ _ ∧ (parseMethodDescriptor (md_J2_size).y.desc).map (fun d => d.parameters.length) = some 0 from ⟨by decide, by decide, (hm_J2_size).2.2⟩) (by decide) (by decide) (Nat.le_of_ble_eq_true rfl)) (c_size p10) rfl (fun x11 => ?_)
    refine cw_iconst (v := 1) dX1_person_69 (by decide) ?_
    refine cw_isub dX1_person_70 ?_
    exact cw_iret rfl dX1_person_71
  · refine cw_icmp_ge (tgt := 29) dX1_person_22 (by decide) ?_ ?_
    · refine cw_iconst (v := 0) dX1_person_29 (by decide) ?_
      exact hJ12 0
    · refine cw_iconst (v := 1) dX1_person_25 (by decide) ?_
      refine cw_goto (tgt := 30) dX1_person_26 (by decide) ?_
      exact hJ12 1
def g_X1_requireIndex (a0 : Int32) : GF :=
  if a0 = 0 then
    throwG "java/lang/IndexOutOfBoundsException"
  else
    retG rV
abbrev md_X1_requireIndex : MD := (yX1_requireIndex, cX1_requireIndex, 1, none, RX1, 10, 1, 6)
theorem hm_X1_requireIndex : (md_X1_requireIndex).y.cls ≠ "java/lang/invoke/MethodHandle" ∧ (md_X1_requireIndex).y.cls ≠ "java/lang/invoke/VarHandle" ∧ (parseMethodDescriptor (md_X1_requireIndex).y.desc).map (fun d => d.parameters.length) = some 1 := by decide +kernel
theorem m_X1_requireIndex (a0 : Int32) : CMF md_X1_requireIndex [cI a0] (g_X1_requireIndex a0) := by
  refine cm_of (by decide +kernel) rfl (Nat.le_of_ble_eq_true rfl) ?_
  show CWF _ 1 6 0 [(0, cI a0)] [] _
  unfold g_X1_requireIndex
  refine cw_iload_n dX1_requireIndex_0 rfl 0 rfl ?_
  refine cw_if_ne (tgt := 12) dX1_requireIndex_1 (by decide) ?_ ?_
  · refine cw_weak (c' := 0) (q' := 0) (by omega) (by omega) ?_
    exact cw_vret rfl dX1_requireIndex_12
  · exact cw_throw0 (c := 0) (q := 0) (ik := 1) (ic := 3) (cls := "java/lang/IndexOutOfBoundsException") (names := ["java/lang/RuntimeException", "java/lang/Exception"]) (by decide +kernel) (by decide +kernel) q889 q126 tw_IndexOutOfBoundsException tg_IndexOutOfBoundsException (by decide +kernel) dX1_requireIndex_4 dX1_requireIndex_7 dX1_requireIndex_8 dX1_requireIndex_11 (by decide) (by decide) (Nat.le_of_ble_eq_true rfl)
def g_X1_at (a0 : Nat) (a1 : Int32) : GF :=
  invI (some (a0, 8)) (s_size a0) fun x1 =>
  invI none (g_X1_isBetween a1 0 (x1 - 1)) fun x2 =>
  invV none (g_X1_requireIndex x2) <|
  invP (some (a0, 8)) (s_get a0 a1) fun p3 =>
  retG (rR p3)
abbrev md_X1_at : MD := (yX1_at, cX1_at, 2, (some ((Jvm.ClassFile.FieldType.object "java/lang/Object"))), RX1, 13, 1, 6)
theorem hm_X1_at : (md_X1_at).y.cls ≠ "java/lang/invoke/MethodHandle" ∧ (md_X1_at).y.cls ≠ "java/lang/invoke/VarHandle" ∧ (parseMethodDescriptor (md_X1_at).y.desc).map (fun d => d.parameters.length) = some 2 := by decide +kernel
theorem m_X1_at (a0 : Nat) (a1 : Int32) : CMF md_X1_at [cR a0, cI a1] (g_X1_at a0 a1) := by
  refine cm_of (by decide +kernel) rfl (Nat.le_of_ble_eq_true rfl) ?_
  show CWF _ 1 6 0 [(0, cR a0), (1, cI a1)] [] _
  unfold g_X1_at
  refine cw_iload_n dX1_at_0 rfl 1 rfl ?_
  refine cw_iconst (v := 0) dX1_at_1 (by decide) ?_
  refine cw_aload_n dX1_at_2 rfl 0 rfl ?_
  refine cw_invI (d2 := md_J2_size) (c := 1) (q := 6) (as := [cR a0]) (mc := 0) (ms := 0) rfl rfl (okF (x := ⟨"java/util/List", "size", "()I"⟩) (ci := 14) (C := RJ2) (T0 := TJ2) (N := 3) (n := 0) rfl (Or.inr ⟨rfl, rfl⟩) rfl dX1_at_3 (lw_F q246 q251 q249 q114 q253) (List.mem_iff_getElem?.mpr ⟨1, rfl⟩) (show ("java/util/List" : String) ≠ _ ∧ ("java/util/List" : String) ≠ _ ∧ (parseMethodDescriptor (md_J2_size).y.desc).map (fun d => d.parameters.length) = some 0 from ⟨by decide, by decide, (hm_J2_size).2.2⟩) (by decide) (by decide) (Nat.le_of_ble_eq_true rfl)) (c_size a0) rfl (fun x1 => ?_)
  refine cw_iconst (v := 1) dX1_at_8 (by decide) ?_
  refine cw_isub dX1_at_9 ?_
  refine cw_invI (d2 := md_X1_isBetween) (c := 1) (q := 6) (as := [cI a1, cI 0, cI (x1 - 1)]) (mc := 0) (ms := 0) rfl rfl (okS (n := 3) rfl dX1_at_10 (lw_S q258 q259 q111 q260) hm_X1_isBetween (by decide) (by decide) (Nat.le_of_ble_eq_true rfl)) (m_X1_isBetween a1 0 (x1 - 1)) rfl (fun x2 => ?_)
  refine cw_invV (d2 := md_X1_requireIndex) (c := 0) (q := 0) (as := [cI x2]) (mc := 1) (ms := 6) rfl rfl (okS (n := 1) rfl dX1_at_13 (lw_S q886 q887 q111 q888) hm_X1_requireIndex (by decide) (by decide) (Nat.le_of_ble_eq_true rfl)) (m_X1_requireIndex x2) rfl ?_
  refine cw_aload_n dX1_at_16 rfl 0 rfl ?_
  refine cw_iload_n dX1_at_17 rfl 1 rfl ?_
  refine cw_invP (d2 := md_J2_get) (c := 0) (q := 0) (as := [cR a0, cI a1]) (mc := 0) (ms := 0) rfl rfl (okF (x := ⟨"java/util/List", "get", "(I)Ljava/lang/Object;"⟩) (ci := 14) (C := RJ2) (T0 := TJ2) (N := 3) (n := 1) rfl (Or.inr ⟨rfl, rfl⟩) rfl dX1_at_18 (lw_F q262 q267 q265 q114 q269) (List.mem_iff_getElem?.mpr ⟨2, rfl⟩) (show ("java/util/List" : String) ≠ _ ∧ ("java/util/List" : String) ≠ _ ∧ (parseMethodDescriptor (md_J2_get).y.desc).map (fun d => d.parameters.length) = some 1 from ⟨by decide, by decide, (hm_J2_get).2.2⟩) (by decide) (by decide) (Nat.le_of_ble_eq_true rfl)) (c_get a0 a1) rfl (fun p3 => ?_)
  exact cw_aret rfl rfl dX1_at_23
def g_X1_licence (a0 : Nat) (a1 : Int32) (a2 : Int32) : GF :=
  getP 20 a0 0 fun p1 =>
  invP none (g_X1_at p1 a1) fun p2 =>
  castG 22 p2 <|
  invI none (g_X1_isBetween a2 0 3) fun x3 =>
  invV none (g_X1_requireArgument x3) <|
  getI 22 p2 5 fun x4 =>
  putI 22 p2 5 a2 <|
  retG (rI x4)
abbrev md_X1_licence : MD := (yX1_licence, cX1_licence, 5, (some (Jvm.ClassFile.FieldType.int)), RX1, 14, 2, 12)
theorem hm_X1_licence : (md_X1_licence).y.cls ≠ "java/lang/invoke/MethodHandle" ∧ (md_X1_licence).y.cls ≠ "java/lang/invoke/VarHandle" ∧ (parseMethodDescriptor (md_X1_licence).y.desc).map (fun d => d.parameters.length) = some 2 := by decide +kernel
theorem m_X1_licence (a0 : Nat) (a1 : Int32) (a2 : Int32) : CMF md_X1_licence [cR a0, cI a1, cI a2] (g_X1_licence a0 a1 a2) := by
  refine cm_of (by decide +kernel) rfl (Nat.le_of_ble_eq_true rfl) ?_
  show CWF _ 2 12 0 [(0, cR a0), (1, cI a1), (2, cI a2)] [] _
  unfold g_X1_licence
  refine cw_aload_n dX1_licence_0 rfl 0 rfl ?_
  refine cw_getP (ci := 0) (j := 0) (C := RX1) (T := TX1) (N := 11) rfl (by decide) rfl rfl (Or.inl q206) fSame_rfl dX1_licence_1 (fun p1 => ?_)
  refine cw_iload_n dX1_licence_4 rfl 1 rfl ?_
  refine cw_invP (d2 := md_X1_at) (c := 1) (q := 6) (as := [cR p1, cI a1]) (mc := 1) (ms := 6) rfl rfl (okS (n := 2) rfl dX1_licence_5 (lw_S q883 q884 q111 q885) hm_X1_at (by decide) (by decide) (Nat.le_of_ble_eq_true rfl)) (m_X1_at p1 a1) rfl (fun p2 => ?_)
  refine cw_cast (ci := 2) (T := TX3) (N := 9) (C := RX3) rfl rfl q733 (Or.inl rfl) dX1_licence_8 ?_
  refine cw_astore_n (ls' := [(3, cR p2), (0, cR a0), (1, cI a1), (2, cI a2)]) dX1_licence_11 rfl (by decide) rfl ?_
  refine cw_iload_n dX1_licence_12 rfl 3 rfl ?_
  refine cw_iconst (v := 0) dX1_licence_13 (by decide) ?_
  refine cw_iconst (v := 3) dX1_licence_14 (by decide) ?_
  refine cw_invI (d2 := md_X1_isBetween) (c := 1) (q := 6) (as := [cI a2, cI 0, cI 3]) (mc := 0) (ms := 0) rfl rfl (okS (n := 3) rfl dX1_licence_15 (lw_S q258 q259 q111 q260) hm_X1_isBetween (by decide) (by decide) (Nat.le_of_ble_eq_true rfl)) (m_X1_isBetween a2 0 3) rfl (fun x3 => ?_)
  refine cw_invV (d2 := md_X1_requireArgument) (c := 0) (q := 0) (as := [cI x3]) (mc := 1) (ms := 6) rfl rfl (okS (n := 1) rfl dX1_licence_18 (lw_S q744 q745 q111 q746) hm_X1_requireArgument (by decide) (by decide) (Nat.le_of_ble_eq_true rfl)) (m_X1_requireArgument x3) rfl ?_
  refine cw_aload_n dX1_licence_21 rfl 0 rfl ?_
  refine cw_getI (ci := 2) (j := 5) (C := RX3) (T := TX3) (N := 9) rfl (by decide) rfl rfl (Or.inr ⟨_, q816⟩) fSame_rfl dX1_licence_22 (fun x4 => ?_)
  refine cw_istore (ls' := [(4, cI x4), (3, cR p2), (0, cR a0), (1, cI a1), (2, cI a2)]) dX1_licence_25 (by decide) rfl ?_
  refine cw_aload_n dX1_licence_27 rfl 1 rfl ?_
  refine cw_iload_n dX1_licence_28 rfl 4 rfl ?_
  refine cw_putI (ci := 2) (j := 5) (C := RX3) (T := TX3) (N := 9) rfl (by decide) rfl rfl (Or.inr ⟨_, q816⟩) fSame_rfl (Or.inl rfl) dX1_licence_29 ?_
  refine cw_iload dX1_licence_32 0 rfl ?_
  exact cw_iret rfl dX1_licence_34
def g_X1_kin (a0 : Nat) (a1 : Int32) (a2 : Int32) : GF :=
  getP 20 a0 0 fun p1 =>
  invP none (g_X1_at p1 a1) fun p2 =>
  castG 22 p2 <|
  getP 20 a0 0 fun p3 =>
  invP none (g_X1_at p3 a2) fun p4 =>
  castG 22 p4 <|
  jnG (fun (v5 : Int32) =>
    invV none (g_X1_requireArgument v5) <|
    getP 22 p2 3 fun p6 =>
    invI (some (p6, 8)) (s_contains p6 p4) fun x7 =>
    jnG (fun (v8 : Int32) =>
      retZ x7) fun J9 =>
    jnG (fun (_ : Unit) =>
      J9 1) fun J10 =>
    if x7 = 0 then
      getP 22 p2 3 fun p11 =>
      invI (some (p11, 8)) (s_add p11 p4) fun x12 =>
      jnG (fun (_ : Unit) =>
        J9 0) fun J13 =>
      if x12 = 0 then
        J13 ()
      else
        getP 22 p4 3 fun p14 =>
        invI (some (p14, 8)) (s_add p14 p2) fun x15 =>
        if x15 = 0 then
          J13 ()
        else
          J10 ()
    else
      J10 ()) fun J16 =>
  acG p2 p4
    (J16 0)
    (J16 1)
abbrev md_X1_kin : MD := (yX1_kin, cX1_kin, 7, (some (Jvm.ClassFile.FieldType.boolean)), RX1, 16, 5, 146)
theorem hm_X1_kin : (md_X1_kin).y.cls ≠ "java/lang/invoke/MethodHandle" ∧ (md_X1_kin).y.cls ≠ "java/lang/invoke/VarHandle" ∧ (parseMethodDescriptor (md_X1_kin).y.desc).map (fun d => d.parameters.length) = some 2 := by decide +kernel
theorem m_X1_kin (a0 : Nat) (a1 : Int32) (a2 : Int32) : CMF md_X1_kin [cR a0, cI a1, cI a2] (g_X1_kin a0 a1 a2) := by
  refine cm_of (by decide +kernel) rfl (Nat.le_of_ble_eq_true rfl) ?_
  show CWF _ 5 146 0 [(0, cR a0), (1, cI a1), (2, cI a2)] [] _
  unfold g_X1_kin
  refine cw_aload_n dX1_kin_0 rfl 0 rfl ?_
  refine cw_getP (ci := 0) (j := 0) (C := RX1) (T := TX1) (N := 11) rfl (by decide) rfl rfl (Or.inl q206) fSame_rfl dX1_kin_1 (fun p1 => ?_)
  refine cw_iload_n dX1_kin_4 rfl 1 rfl ?_
  refine cw_invP (d2 := md_X1_at) (c := 4) (q := 140) (as := [cR p1, cI a1]) (mc := 1) (ms := 6) rfl rfl (okS (n := 2) rfl dX1_kin_5 (lw_S q883 q884 q111 q885) hm_X1_at (by decide) (by decide) (Nat.le_of_ble_eq_true rfl)) (m_X1_at p1 a1) rfl (fun p2 => ?_)
  refine cw_cast (ci := 2) (T := TX3) (N := 9) (C := RX3) rfl rfl q733 (Or.inl rfl) dX1_kin_8 ?_
  refine cw_astore_n (ls' := [(3, cR p2), (0, cR a0), (1, cI a1), (2, cI a2)]) dX1_kin_11 rfl (by decide) rfl ?_
  refine cw_aload_n dX1_kin_12 rfl 1 rfl ?_
  refine cw_getP (ci := 0) (j := 0) (C := RX1) (T := TX1) (N := 11) rfl (by decide) rfl rfl (Or.inl q206) fSame_rfl dX1_kin_13 (fun p3 => ?_)
  refine cw_iload_n dX1_kin_16 rfl 3 rfl ?_
  refine cw_invP (d2 := md_X1_at) (c := 3) (q := 134) (as := [cR p3, cI a2]) (mc := 1) (ms := 6) rfl rfl (okS (n := 2) rfl dX1_kin_17 (lw_S q883 q884 q111 q885) hm_X1_at (by decide) (by decide) (Nat.le_of_ble_eq_true rfl)) (m_X1_at p3 a2) rfl (fun p4 => ?_)
  refine cw_cast (ci := 2) (T := TX3) (N := 9) (C := RX3) rfl rfl q733 (Or.inl rfl) dX1_kin_20 ?_
  refine cw_astore (ls' := [(4, cR p4), (3, cR p2), (0, cR a0), (1, cI a1), (2, cI a2)]) dX1_kin_23 (by decide) rfl ?_
  refine cw_aload_n dX1_kin_25 rfl 1 rfl ?_
  refine cw_aload dX1_kin_26 0 rfl ?_
  refine cw_jn (cj := 3) (kj := 134) (pcj := 36) (lsf := fun (s : Int32) => [(4, cR p4), (3, cR p2)]) (stf := fun (s : Int32) => [cI s]) (fun s => ?_) (fun J16 hJ16 => ?_)
  · obtain ⟨v5, e⟩ : ∃ z, z = s := ⟨_, rfl⟩
    subst e
    show CWF _ _ _ 36 [(4, cR p4), (3, cR p2)] [cI v5] _
    refine cw_invV (d2 := md_X1_requireArgument) (c := 2) (q := 128) (as := [cI v5]) (mc := 1) (ms := 6) rfl rfl (okS (n := 1) rfl dX1_kin_36 (lw_S q744 q745 q111 q746) hm_X1_requireArgument (by decide) (by decide) (Nat.le_of_ble_eq_true rfl)) (m_X1_requireArgument v5) rfl ?_
    refine cw_aload_n dX1_kin_39 rfl 1 rfl ?_
    refine cw_getP (ci := 2) (j := 3) (C := RX3) (T := TX3) (N := 9) rfl (by decide) rfl rfl (Or.inr ⟨_, q813⟩) fSame_rfl dX1_kin_40 (fun p6 => ?_)
    refine cw_aload dX1_kin_43 0 rfl ?_
    refine cw_invI (d2 := md_J2_contains) (c := 2) (q := 128) (as := [cR p6, cR p4]) (mc := 0) (ms := 0) rfl rfl (okF (x := ⟨"java/util/List", "contains", "(Ljava/lang/Object;)Z"⟩) (ci := 14) (C := RJ2) (T0 := TJ2) (N := 3) (n := 1) rfl (Or.inr ⟨rfl, rfl⟩) rfl dX1_kin_45 (lw_F q912 q686 q684 q114 q688) (List.mem_iff_getElem?.mpr ⟨10, rfl⟩) (show ("java/util/List" : String) ≠ _ ∧ ("java/util/List" : String) ≠ _ ∧ (parseMethodDescriptor (md_J2_contains).y.desc).map (fun d => d.parameters.length) = some 1 from ⟨by decide, by decide, (hm_J2_contains).2.2⟩) (by decide) (by decide) (Nat.le_of_ble_eq_true rfl)) (c_contains p6 p4) rfl (fun x7 => ?_)
    refine cw_istore (ls' := [(5, cI x7), (4, cR p4), (3, cR p2)]) dX1_kin_50 (by decide) rfl ?_
    refine cw_iload dX1_kin_52 0 rfl ?_
    refine cw_jn (cj := 0) (kj := 0) (pcj := 90) (lsf := fun (s : Int32) => [(5, cI x7)]) (stf := fun (s : Int32) => [cI s]) (fun s => ?_) (fun J9 hJ9 => ?_)
    · obtain ⟨v8, e⟩ : ∃ z, z = s := ⟨_, rfl⟩
      subst e
      show CWF _ _ _ 90 [(5, cI x7)] [cI v8] _
      refine cw_istore (ls' := [(6, cI v8), (5, cI x7)]) dX1_kin_90 (by decide) rfl ?_
      refine cw_iload dX1_kin_92 1 rfl ?_
      exact cw_zret rfl dX1_kin_94
    · refine cw_jn (cj := 0) (kj := 0) (pcj := 85) (lsf := fun (s : Unit) => [(5, cI x7)]) (stf := fun (s : Unit) => []) (fun s => ?_) (fun J10 hJ10 => ?_)
      · show CWF _ _ _ 85 [(5, cI x7)] [] _
        refine cw_iconst (v := 1) dX1_kin_85 (by decide) ?_
        refine cw_goto (tgt := 90) dX1_kin_86 (by decide) ?_
        exact hJ9 1
      · refine cw_if_ne (tgt := 85) dX1_kin_54 (by decide) ?_ ?_
        · refine cw_weak (c' := 0) (q' := 0) (by omega) (by omega) ?_
          refine cw_sub (ls' := [(5, cI x7)]) [0] rfl ?_
          exact hJ10 ()
        · refine cw_aload_n dX1_kin_57 rfl 2 rfl ?_
          refine cw_getP (ci := 2) (j := 3) (C := RX3) (T := TX3) (N := 9) rfl (by decide) rfl rfl (Or.inr ⟨_, q813⟩) fSame_rfl dX1_kin_58 (fun p11 => ?_)
          refine cw_aload dX1_kin_61 1 rfl ?_
          refine cw_invI (d2 := md_J2_add) (c := 1) (q := 64) (as := [cR p11, cR p4]) (mc := 1) (ms := 64) rfl rfl (okF (x := ⟨"java/util/List", "add", "(Ljava/lang/Object;)Z"⟩) (ci := 14) (C := RJ2) (T0 := TJ2) (N := 3) (n := 1) rfl (Or.inr ⟨rfl, rfl⟩) rfl dX1_kin_63 (lw_F q842 q587 q585 q114 q589) (List.mem_iff_getElem?.mpr ⟨9, rfl⟩) (show ("java/util/List" : String) ≠ _ ∧ ("java/util/List" : String) ≠ _ ∧ (parseMethodDescriptor (md_J2_add).y.desc).map (fun d => d.parameters.length) = some 1 from ⟨by decide, by decide, (hm_J2_add).2.2⟩) (by decide) (by decide) (Nat.le_of_ble_eq_true rfl)) (c_add p11 p4) rfl (fun x12 => ?_)
          refine cw_jn (cj := 0) (kj := 0) (pcj := 89) (lsf := fun (s : Unit) => [(5, cI x7)]) (stf := fun (s : Unit) => []) (fun s => ?_) (fun J13 hJ13 => ?_)
          · show CWF _ _ _ 89 [(5, cI x7)] [] _
            refine cw_iconst (v := 0) dX1_kin_89 (by decide) ?_
            exact hJ9 0
          · refine cw_if_eq (tgt := 89) dX1_kin_68 (by decide) ?_ ?_
            · refine cw_weak (c' := 0) (q' := 0) (by omega) (by omega) ?_
              refine cw_sub (ls' := [(5, cI x7)]) [0] rfl ?_
              exact hJ13 ()
            · refine cw_aload dX1_kin_71 1 rfl ?_
              refine cw_getP (ci := 2) (j := 3) (C := RX3) (T := TX3) (N := 9) rfl (by decide) rfl rfl (Or.inr ⟨_, q813⟩) fSame_rfl dX1_kin_73 (fun p14 => ?_)
              refine cw_aload_n dX1_kin_76 rfl 2 rfl ?_
              refine cw_invI (d2 := md_J2_add) (c := 0) (q := 0) (as := [cR p14, cR p2]) (mc := 1) (ms := 64) rfl rfl (okF (x := ⟨"java/util/List", "add", "(Ljava/lang/Object;)Z"⟩) (ci := 14) (C := RJ2) (T0 := TJ2) (N := 3) (n := 1) rfl (Or.inr ⟨rfl, rfl⟩) rfl dX1_kin_77 (lw_F q842 q587 q585 q114 q589) (List.mem_iff_getElem?.mpr ⟨9, rfl⟩) (show ("java/util/List" : String) ≠ _ ∧ ("java/util/List" : String) ≠ _ ∧ (parseMethodDescriptor (md_J2_add).y.desc).map (fun d => d.parameters.length) = some 1 from ⟨by decide, by decide, (hm_J2_add).2.2⟩) (by decide) (by decide) (Nat.le_of_ble_eq_true rfl)) (c_add p14 p2) rfl (fun x15 => ?_)
              refine cw_if_eq (tgt := 89) dX1_kin_82 (by decide) ?_ ?_
              · refine cw_sub (ls' := [(5, cI x7)]) [0] rfl ?_
                exact hJ13 ()
              · refine cw_sub (ls' := [(5, cI x7)]) [0] rfl ?_
                exact hJ10 ()
  · refine cw_acmp_eq (tgt := 35) dX1_kin_28 (by decide) ?_ ?_
    · refine cw_iconst (v := 0) dX1_kin_35 (by decide) ?_
      refine cw_sub (ls' := [(4, cR p4), (3, cR p2)]) [0, 1] rfl ?_
      exact hJ16 0
    · refine cw_iconst (v := 1) dX1_kin_31 (by decide) ?_
      refine cw_goto (tgt := 36) dX1_kin_32 (by decide) ?_
      refine cw_sub (ls' := [(4, cR p4), (3, cR p2)]) [0, 1] rfl ?_
      exact hJ16 1
def g_J17_init (a0 : Nat) : GF :=
  objG a0 <|
  retG rV
abbrev md_J17_init : MD := (yJ17_init, cJ17_init, 1, none, RJ17, 10, 0, 0)
theorem hm_J17_init : (md_J17_init).y.cls ≠ "java/lang/invoke/MethodHandle" ∧ (md_J17_init).y.cls ≠ "java/lang/invoke/VarHandle" ∧ (parseMethodDescriptor (md_J17_init).y.desc).map (fun d => d.parameters.length) = some 0 := by decide +kernel
theorem m_J17_init (a0 : Nat) : CMF md_J17_init [cR a0] (g_J17_init a0) := by
  refine cm_of (by decide +kernel) rfl (Nat.le_of_ble_eq_true rfl) ?_
  show CWF _ 0 0 0 [(0, cR a0)] [] _
  unfold g_J17_init
  refine cw_aload_n dJ17_init_0 rfl 0 rfl ?_
  refine cw_objInit q928 q159 q160 dJ17_init_1 (by decide) (Nat.le_of_ble_eq_true rfl) ?_
  exact cw_vret rfl dJ17_init_4
def g_X4_init (a0 : Nat) (a1 : Nat) (a2 : Nat) (a3 : Int32) : GF :=
  invV (some (a0, 23)) (g_J17_init a0) <|
  putP 23 a0 0 a1 <|
  putP 23 a0 1 a2 <|
  putI 23 a0 2 a3 <|
  retG rV
abbrev md_X4_init : MD := (yX4_init, cX4_init, 4, none, RX4, 11, 0, 0)
theorem hm_X4_init : (md_X4_init).y.cls ≠ "java/lang/invoke/MethodHandle" ∧ (md_X4_init).y.cls ≠ "java/lang/invoke/VarHandle" ∧ (parseMethodDescriptor (md_X4_init).y.desc).map (fun d => d.parameters.length) = some 3 := by decide +kernel
theorem m_X4_init (a0 : Nat) (a1 : Nat) (a2 : Nat) (a3 : Int32) : CMF md_X4_init [cR a0, cR a1, cR a2, cI a3] (g_X4_init a0 a1 a2 a3) := by
  refine cm_of (by decide +kernel) rfl (Nat.le_of_ble_eq_true rfl) ?_
  show CWF _ 0 0 0 [(0, cR a0), (1, cR a1), (2, cR a2), (3, cI a3)] [] _
  unfold g_X4_init
  refine cw_aload_n dX4_init_0 rfl 0 rfl ?_
  refine cw_invV (d2 := md_J17_init) (c := 0) (q := 0) (as := [cR a0]) (mc := 0) (ms := 0) rfl rfl (okI (n := 0) rfl rfl dX4_init_1 (lw_meth q927) q132 q925 q926 rfl hm_J17_init (by decide) (by decide) (Nat.le_of_ble_eq_true rfl) (by decide)) (m_J17_init a0) rfl ?_
  refine cw_aload_n dX4_init_4 rfl 0 rfl ?_
  refine cw_aload_n dX4_init_5 rfl 1 rfl ?_
  refine cw_putP (ci := 3) (j := 0) (C := RX4) (T := TX4) (N := 3) rfl (by decide) rfl rfl (Or.inl q929) fSame_rfl (Or.inr ⟨rfl, rfl, rfl⟩) dX4_init_6 ?_
  refine cw_aload_n dX4_init_9 rfl 0 rfl ?_
  refine cw_aload_n dX4_init_10 rfl 2 rfl ?_
  refine cw_putP (ci := 3) (j := 1) (C := RX4) (T := TX4) (N := 3) rfl (by decide) rfl rfl (Or.inl q930) fSame_rfl (Or.inr ⟨rfl, rfl, rfl⟩) dX4_init_11 ?_
  refine cw_aload_n dX4_init_14 rfl 0 rfl ?_
  refine cw_iload_n dX4_init_15 rfl 3 rfl ?_
  refine cw_putI (ci := 3) (j := 2) (C := RX4) (T := TX4) (N := 3) rfl (by decide) rfl rfl (Or.inl q931) fSame_rfl (Or.inr ⟨rfl, rfl, rfl⟩) dX4_init_16 ?_
  exact cw_vret rfl dX4_init_19
def g_X3_isProfessional (a0 : Nat) : GF :=
  getP 22 a0 4 fun p1 =>
  invI (some (p1, 8)) (s_size p1) fun x2 =>
  if x2 < 3 then
    retZ 0
  else
    retZ 1
abbrev md_X3_isProfessional : MD := (yX3_isProfessional, cX3_isProfessional, 1, (some (Jvm.ClassFile.FieldType.boolean)), RX3, 11, 0, 0)
theorem hm_X3_isProfessional : (md_X3_isProfessional).y.cls ≠ "java/lang/invoke/MethodHandle" ∧ (md_X3_isProfessional).y.cls ≠ "java/lang/invoke/VarHandle" ∧ (parseMethodDescriptor (md_X3_isProfessional).y.desc).map (fun d => d.parameters.length) = some 0 := by decide +kernel
theorem m_X3_isProfessional (a0 : Nat) : CMF md_X3_isProfessional [cR a0] (g_X3_isProfessional a0) := by
  refine cm_of (by decide +kernel) rfl (Nat.le_of_ble_eq_true rfl) ?_
  show CWF _ 0 0 0 [(0, cR a0)] [] _
  unfold g_X3_isProfessional
  refine cw_aload_n dX3_isProfessional_0 rfl 0 rfl ?_
  refine cw_getP (ci := 2) (j := 4) (C := RX3) (T := TX3) (N := 9) rfl (by decide) rfl rfl (Or.inl q814) fSame_rfl dX3_isProfessional_1 (fun p1 => ?_)
  refine cw_invI (d2 := md_J2_size) (c := 0) (q := 0) (as := [cR p1]) (mc := 0) (ms := 0) rfl rfl (okF (x := ⟨"java/util/List", "size", "()I"⟩) (ci := 14) (C := RJ2) (T0 := TJ2) (N := 3) (n := 0) rfl (Or.inr ⟨rfl, rfl⟩) rfl dX3_isProfessional_4 (lw_F q944 q251 q249 q114 q253) (List.mem_iff_getElem?.mpr ⟨1, rfl⟩) (show ("java/util/List" : String) ≠ _ ∧ ("java/util/List" : String) ≠ _ ∧ (parseMethodDescriptor (md_J2_size).y.desc).map (fun d => d.parameters.length) = some 0 from ⟨by decide, by decide, (hm_J2_size).2.2⟩) (by decide) (by decide) (Nat.le_of_ble_eq_true rfl)) (c_size p1) rfl (fun x2 => ?_)
  refine cw_iconst (v := 3) dX3_isProfessional_9 (by decide) ?_
  refine cw_icmp_lt (tgt := 17) dX3_isProfessional_10 (by decide) ?_ ?_
  · refine cw_iconst (v := 0) dX3_isProfessional_17 (by decide) ?_
    exact cw_zret rfl dX3_isProfessional_18
  · refine cw_iconst (v := 1) dX3_isProfessional_13 (by decide) ?_
    refine cw_goto (tgt := 18) dX3_isProfessional_14 (by decide) ?_
    exact cw_zret rfl dX3_isProfessional_18
def g_X1_lesson (a0 : Nat) (a1 : Int32) (a2 : Int32) : GF :=
  getP 20 a0 0 fun p1 =>
  invP none (g_X1_at p1 a1) fun p2 =>
  castG 22 p2 <|
  getP 20 a0 0 fun p3 =>
  invP none (g_X1_at p3 a2) fun p4 =>
  castG 22 p4 <|
  jnG (fun (v5 : Int32) =>
    invV none (g_X1_requireArgument v5) <|
    getP 20 a0 1 fun p6 =>
    invI (some (p6, 8)) (s_size p6) fun x7 =>
    jnG (fun (v8 : Int32) =>
      invV none (g_X1_requireState v8) <|
      getP 20 a0 1 fun p9 =>
      newG 23 fun p10 =>
      getI 20 a0 9 fun x11 =>
      invV (some (p10, 23)) (g_X4_init p10 p2 p4 x11) <|
      invI (some (p9, 8)) (s_add p9 p10) fun x12 =>
      getP 22 p2 4 fun p13 =>
      invI (some (p13, 8)) (s_contains p13 p4) fun x14 =>
      jnG (fun (_ : Unit) =>
        invI (some (p2, 22)) (g_X3_isProfessional p2) fun x15 =>
        retZ x15) fun J16 =>
      if x14 = 0 then
        getP 22 p2 4 fun p17 =>
        invI (some (p17, 8)) (s_add p17 p4) fun x18 =>
        J16 ()
      else
        J16 ()) fun J19 =>
    if x7 < 40 then
      J19 1
    else
      J19 0) fun J20 =>
  acG p2 p4
    (J20 0)
    (J20 1)
abbrev md_X1_lesson : MD := (yX1_lesson, cX1_lesson, 6, (some (Jvm.ClassFile.FieldType.boolean)), RX1, 16, 7, 155)
theorem hm_X1_lesson : (md_X1_lesson).y.cls ≠ "java/lang/invoke/MethodHandle" ∧ (md_X1_lesson).y.cls ≠ "java/lang/invoke/VarHandle" ∧ (parseMethodDescriptor (md_X1_lesson).y.desc).map (fun d => d.parameters.length) = some 2 := by decide +kernel
theorem m_X1_lesson (a0 : Nat) (a1 : Int32) (a2 : Int32) : CMF md_X1_lesson [cR a0, cI a1, cI a2] (g_X1_lesson a0 a1 a2) := by
  refine cm_of (by decide +kernel) rfl (Nat.le_of_ble_eq_true rfl) ?_
  show CWF _ 7 155 0 [(0, cR a0), (1, cI a1), (2, cI a2)] [] _
  unfold g_X1_lesson
  refine cw_aload_n dX1_lesson_0 rfl 0 rfl ?_
  refine cw_getP (ci := 0) (j := 0) (C := RX1) (T := TX1) (N := 11) rfl (by decide) rfl rfl (Or.inl q206) fSame_rfl dX1_lesson_1 (fun p1 => ?_)
  refine cw_iload_n dX1_lesson_4 rfl 1 rfl ?_
  refine cw_invP (d2 := md_X1_at) (c := 6) (q := 149) (as := [cR p1, cI a1]) (mc := 1) (ms := 6) rfl rfl (okS (n := 2) rfl dX1_lesson_5 (lw_S q883 q884 q111 q885) hm_X1_at (by decide) (by decide) (Nat.le_of_ble_eq_true rfl)) (m_X1_at p1 a1) rfl (fun p2 => ?_)
  refine cw_cast (ci := 2) (T := TX3) (N := 9) (C := RX3) rfl rfl q733 (Or.inl rfl) dX1_lesson_8 ?_
  refine cw_astore_n (ls' := [(3, cR p2), (0, cR a0), (1, cI a1), (2, cI a2)]) dX1_lesson_11 rfl (by decide) rfl ?_
  refine cw_aload_n dX1_lesson_12 rfl 1 rfl ?_
  refine cw_getP (ci := 0) (j := 0) (C := RX1) (T := TX1) (N := 11) rfl (by decide) rfl rfl (Or.inl q206) fSame_rfl dX1_lesson_13 (fun p3 => ?_)
  refine cw_iload_n dX1_lesson_16 rfl 3 rfl ?_
  refine cw_invP (d2 := md_X1_at) (c := 5) (q := 143) (as := [cR p3, cI a2]) (mc := 1) (ms := 6) rfl rfl (okS (n := 2) rfl dX1_lesson_17 (lw_S q883 q884 q111 q885) hm_X1_at (by decide) (by decide) (Nat.le_of_ble_eq_true rfl)) (m_X1_at p3 a2) rfl (fun p4 => ?_)
  refine cw_cast (ci := 2) (T := TX3) (N := 9) (C := RX3) rfl rfl q733 (Or.inl rfl) dX1_lesson_20 ?_
  refine cw_astore (ls' := [(4, cR p4), (3, cR p2), (0, cR a0), (1, cI a1), (2, cI a2)]) dX1_lesson_23 (by decide) rfl ?_
  refine cw_aload_n dX1_lesson_25 rfl 1 rfl ?_
  refine cw_aload dX1_lesson_26 0 rfl ?_
  refine cw_jn (cj := 5) (kj := 143) (pcj := 36) (lsf := fun (s : Int32) => [(4, cR p4), (3, cR p2), (0, cR a0)]) (stf := fun (s : Int32) => [cI s]) (fun s => ?_) (fun J20 hJ20 => ?_)
  · obtain ⟨v5, e⟩ : ∃ z, z = s := ⟨_, rfl⟩
    subst e
    show CWF _ _ _ 36 [(4, cR p4), (3, cR p2), (0, cR a0)] [cI v5] _
    refine cw_invV (d2 := md_X1_requireArgument) (c := 4) (q := 137) (as := [cI v5]) (mc := 1) (ms := 6) rfl rfl (okS (n := 1) rfl dX1_lesson_36 (lw_S q744 q745 q111 q746) hm_X1_requireArgument (by decide) (by decide) (Nat.le_of_ble_eq_true rfl)) (m_X1_requireArgument v5) rfl ?_
    refine cw_aload_n dX1_lesson_39 rfl 2 rfl ?_
    refine cw_getP (ci := 0) (j := 1) (C := RX1) (T := TX1) (N := 11) rfl (by decide) rfl rfl (Or.inl q207) fSame_rfl dX1_lesson_40 (fun p6 => ?_)
    refine cw_invI (d2 := md_J2_size) (c := 4) (q := 137) (as := [cR p6]) (mc := 0) (ms := 0) rfl rfl (okF (x := ⟨"java/util/List", "size", "()I"⟩) (ci := 14) (C := RJ2) (T0 := TJ2) (N := 3) (n := 0) rfl (Or.inr ⟨rfl, rfl⟩) rfl dX1_lesson_43 (lw_F q246 q251 q249 q114 q253) (List.mem_iff_getElem?.mpr ⟨1, rfl⟩) (show ("java/util/List" : String) ≠ _ ∧ ("java/util/List" : String) ≠ _ ∧ (parseMethodDescriptor (md_J2_size).y.desc).map (fun d => d.parameters.length) = some 0 from ⟨by decide, by decide, (hm_J2_size).2.2⟩) (by decide) (by decide) (Nat.le_of_ble_eq_true rfl)) (c_size p6) rfl (fun x7 => ?_)
    refine cw_bipush (v := 40) dX1_lesson_48 (by decide) ?_
    refine cw_jn (cj := 4) (kj := 137) (pcj := 58) (lsf := fun (s : Int32) => [(4, cR p4), (3, cR p2), (0, cR a0)]) (stf := fun (s : Int32) => [cI s]) (fun s => ?_) (fun J19 hJ19 => ?_)
    · obtain ⟨v8, e⟩ : ∃ z, z = s := ⟨_, rfl⟩
      subst e
      show CWF _ _ _ 58 [(4, cR p4), (3, cR p2), (0, cR a0)] [cI v8] _
      refine cw_invV (d2 := md_X1_requireState) (c := 3) (q := 131) (as := [cI v8]) (mc := 1) (ms := 6) rfl rfl (okS (n := 1) rfl dX1_lesson_58 (lw_S q772 q773 q111 q774) hm_X1_requireState (by decide) (by decide) (Nat.le_of_ble_eq_true rfl)) (m_X1_requireState v8) rfl ?_
      refine cw_aload_n dX1_lesson_61 rfl 2 rfl ?_
      refine cw_getP (ci := 0) (j := 1) (C := RX1) (T := TX1) (N := 11) rfl (by decide) rfl rfl (Or.inl q207) fSame_rfl dX1_lesson_62 (fun p9 => ?_)
      refine cw_new (c := 2) (q := 128) (ci := 3) (C := RX4) (T := TX4) (N := 3) rfl rfl q920 q921 q133 dX1_lesson_65 (fun p10 => ?_)
      refine cw_dup dX1_lesson_68 rfl ?_
      refine cw_aload_n dX1_lesson_69 rfl 1 rfl ?_
      refine cw_aload dX1_lesson_70 0 rfl ?_
      refine cw_aload_n dX1_lesson_72 rfl 2 rfl ?_
      refine cw_getI (ci := 0) (j := 9) (C := RX1) (T := TX1) (N := 11) rfl (by decide) rfl rfl (Or.inl q215) fSame_rfl dX1_lesson_73 (fun x11 => ?_)
      refine cw_invV (d2 := md_X4_init) (c := 2) (q := 128) (as := [cR p10, cR p2, cR p4, cI x11]) (mc := 0) (ms := 0) rfl rfl (okIN (n := 3) rfl rfl dX1_lesson_76 (lw_meth q924) q133 q922 q923 rfl hm_X4_init (by decide) (by decide) (Nat.le_of_ble_eq_true rfl) (by decide)) (m_X4_init p10 p2 p4 x11) rfl ?_
      refine cw_invI (d2 := md_J2_add) (c := 1) (q := 64) (as := [cR p9, cR p10]) (mc := 1) (ms := 64) rfl rfl (okF (x := ⟨"java/util/List", "add", "(Ljava/lang/Object;)Z"⟩) (ci := 14) (C := RJ2) (T0 := TJ2) (N := 3) (n := 1) rfl (Or.inr ⟨rfl, rfl⟩) rfl dX1_lesson_79 (lw_F q842 q587 q585 q114 q589) (List.mem_iff_getElem?.mpr ⟨9, rfl⟩) (show ("java/util/List" : String) ≠ _ ∧ ("java/util/List" : String) ≠ _ ∧ (parseMethodDescriptor (md_J2_add).y.desc).map (fun d => d.parameters.length) = some 1 from ⟨by decide, by decide, (hm_J2_add).2.2⟩) (by decide) (by decide) (Nat.le_of_ble_eq_true rfl)) (c_add p9 p10) rfl (fun x12 => ?_)
      refine cw_istore (ls' := [(5, cI x12), (4, cR p4), (3, cR p2), (0, cR a0)]) dX1_lesson_84 (by decide) rfl ?_
      refine cw_aload_n dX1_lesson_86 rfl 2 rfl ?_
      refine cw_getP (ci := 2) (j := 4) (C := RX3) (T := TX3) (N := 9) rfl (by decide) rfl rfl (Or.inr ⟨_, q815⟩) fSame_rfl dX1_lesson_87 (fun p13 => ?_)
      refine cw_aload dX1_lesson_90 1 rfl ?_
      refine cw_invI (d2 := md_J2_contains) (c := 1) (q := 64) (as := [cR p13, cR p4]) (mc := 0) (ms := 0) rfl rfl (okF (x := ⟨"java/util/List", "contains", "(Ljava/lang/Object;)Z"⟩) (ci := 14) (C := RJ2) (T0 := TJ2) (N := 3) (n := 1) rfl (Or.inr ⟨rfl, rfl⟩) rfl dX1_lesson_92 (lw_F q912 q686 q684 q114 q688) (List.mem_iff_getElem?.mpr ⟨10, rfl⟩) (show ("java/util/List" : String) ≠ _ ∧ ("java/util/List" : String) ≠ _ ∧ (parseMethodDescriptor (md_J2_contains).y.desc).map (fun d => d.parameters.length) = some 1 from ⟨by decide, by decide, (hm_J2_contains).2.2⟩) (by decide) (by decide) (Nat.le_of_ble_eq_true rfl)) (c_contains p13 p4) rfl (fun x14 => ?_)
      refine cw_jn (cj := 0) (kj := 0) (pcj := 116) (lsf := fun (s : Unit) => [(3, cR p2)]) (stf := fun (s : Unit) => []) (fun s => ?_) (fun J16 hJ16 => ?_)
      · show CWF _ _ _ 116 [(3, cR p2)] [] _
        refine cw_aload_n dX1_lesson_116 rfl 0 rfl ?_
        refine cw_invI (d2 := md_X3_isProfessional) (c := 0) (q := 0) (as := [cR p2]) (mc := 0) (ms := 0) rfl rfl (okV (ci := 2) (C := RX3) (T0 := TX3) (N := 9) (n := 0) rfl rfl rfl dX1_lesson_117 (lw_V q939 q940 q941 q121 q942) ⟨rfl, hm_X3_isProfessional⟩ (by decide) (by decide) (Nat.le_of_ble_eq_true rfl)) (m_X3_isProfessional p2) rfl (fun x15 => ?_)
        exact cw_zret rfl dX1_lesson_120
      · refine cw_if_ne (tgt := 116) dX1_lesson_97 (by decide) ?_ ?_
        · refine cw_weak (c' := 0) (q' := 0) (by omega) (by omega) ?_
          refine cw_sub (ls' := [(3, cR p2)]) [2] rfl ?_
          exact hJ16 ()
        · refine cw_iload dX1_lesson_100 0 rfl ?_
          refine cw_aload_n dX1_lesson_102 rfl 2 rfl ?_
          refine cw_getP (ci := 2) (j := 4) (C := RX3) (T := TX3) (N := 9) rfl (by decide) rfl rfl (Or.inr ⟨_, q815⟩) fSame_rfl dX1_lesson_103 (fun p17 => ?_)
          refine cw_aload dX1_lesson_106 1 rfl ?_
          refine cw_invI (d2 := md_J2_add) (c := 0) (q := 0) (as := [cR p17, cR p4]) (mc := 1) (ms := 64) rfl rfl (okF (x := ⟨"java/util/List", "add", "(Ljava/lang/Object;)Z"⟩) (ci := 14) (C := RJ2) (T0 := TJ2) (N := 3) (n := 1) rfl (Or.inr ⟨rfl, rfl⟩) rfl dX1_lesson_108 (lw_F q842 q587 q585 q114 q589) (List.mem_iff_getElem?.mpr ⟨9, rfl⟩) (show ("java/util/List" : String) ≠ _ ∧ ("java/util/List" : String) ≠ _ ∧ (parseMethodDescriptor (md_J2_add).y.desc).map (fun d => d.parameters.length) = some 1 from ⟨by decide, by decide, (hm_J2_add).2.2⟩) (by decide) (by decide) (Nat.le_of_ble_eq_true rfl)) (c_add p17 p4) rfl (fun x18 => ?_)
          refine cw_iand dX1_lesson_113 ?_
          refine cw_istore (ls' := [(5, cI (x12 &&& x18)), (4, cR p4), (3, cR p2), (0, cR a0)]) dX1_lesson_114 (by decide) rfl ?_
          refine cw_sub (ls' := [(3, cR p2)]) [2] rfl ?_
          exact hJ16 ()
    · refine cw_icmp_ge (tgt := 57) dX1_lesson_50 (by decide) ?_ ?_
      · refine cw_iconst (v := 0) dX1_lesson_57 (by decide) ?_
        exact hJ19 0
      · refine cw_iconst (v := 1) dX1_lesson_53 (by decide) ?_
        refine cw_goto (tgt := 58) dX1_lesson_54 (by decide) ?_
        exact hJ19 1
  · refine cw_acmp_eq (tgt := 35) dX1_lesson_28 (by decide) ?_ ?_
    · refine cw_iconst (v := 0) dX1_lesson_35 (by decide) ?_
      refine cw_sub (ls' := [(4, cR p4), (3, cR p2), (0, cR a0)]) [0, 1, 2] rfl ?_
      exact hJ20 0
    · refine cw_iconst (v := 1) dX1_lesson_31 (by decide) ?_
      refine cw_goto (tgt := 36) dX1_lesson_32 (by decide) ?_
      refine cw_sub (ls' := [(4, cR p4), (3, cR p2), (0, cR a0)]) [0, 1, 2] rfl ?_
      exact hJ20 1
def g_X1_suspend (a0 : Nat) (a1 : Int32) (a2 : Int32) : GF :=
  getP 20 a0 0 fun p1 =>
  invP none (g_X1_at p1 a1) fun p2 =>
  castG 22 p2 <|
  invI none (g_X1_isBetween a2 0 100) fun x3 =>
  invV none (g_X1_requireArgument x3) <|
  getI 20 a0 9 fun x4 =>
  putI 22 p2 6 (imin 359 (x4 + a2)) <|
  getI 22 p2 6 fun x5 =>
  retG (rI x5)
abbrev md_X1_suspend : MD := (yX1_suspend, cX1_suspend, 4, (some (Jvm.ClassFile.FieldType.int)), RX1, 14, 2, 12)
theorem hm_X1_suspend : (md_X1_suspend).y.cls ≠ "java/lang/invoke/MethodHandle" ∧ (md_X1_suspend).y.cls ≠ "java/lang/invoke/VarHandle" ∧ (parseMethodDescriptor (md_X1_suspend).y.desc).map (fun d => d.parameters.length) = some 2 := by decide +kernel
theorem m_X1_suspend (a0 : Nat) (a1 : Int32) (a2 : Int32) : CMF md_X1_suspend [cR a0, cI a1, cI a2] (g_X1_suspend a0 a1 a2) := by
  refine cm_of (by decide +kernel) rfl (Nat.le_of_ble_eq_true rfl) ?_
  show CWF _ 2 12 0 [(0, cR a0), (1, cI a1), (2, cI a2)] [] _
  unfold g_X1_suspend
  refine cw_aload_n dX1_suspend_0 rfl 0 rfl ?_
  refine cw_getP (ci := 0) (j := 0) (C := RX1) (T := TX1) (N := 11) rfl (by decide) rfl rfl (Or.inl q206) fSame_rfl dX1_suspend_1 (fun p1 => ?_)
  refine cw_iload_n dX1_suspend_4 rfl 1 rfl ?_
  refine cw_invP (d2 := md_X1_at) (c := 1) (q := 6) (as := [cR p1, cI a1]) (mc := 1) (ms := 6) rfl rfl (okS (n := 2) rfl dX1_suspend_5 (lw_S q883 q884 q111 q885) hm_X1_at (by decide) (by decide) (Nat.le_of_ble_eq_true rfl)) (m_X1_at p1 a1) rfl (fun p2 => ?_)
  refine cw_cast (ci := 2) (T := TX3) (N := 9) (C := RX3) rfl rfl q733 (Or.inl rfl) dX1_suspend_8 ?_
  refine cw_astore_n (ls' := [(3, cR p2), (0, cR a0), (1, cI a1), (2, cI a2)]) dX1_suspend_11 rfl (by decide) rfl ?_
  refine cw_iload_n dX1_suspend_12 rfl 3 rfl ?_
  refine cw_iconst (v := 0) dX1_suspend_13 (by decide) ?_
  refine cw_bipush (v := 100) dX1_suspend_14 (by decide) ?_
  refine cw_invI (d2 := md_X1_isBetween) (c := 1) (q := 6) (as := [cI a2, cI 0, cI 100]) (mc := 0) (ms := 0) rfl rfl (okS (n := 3) rfl dX1_suspend_16 (lw_S q258 q259 q111 q260) hm_X1_isBetween (by decide) (by decide) (Nat.le_of_ble_eq_true rfl)) (m_X1_isBetween a2 0 100) rfl (fun x3 => ?_)
  refine cw_invV (d2 := md_X1_requireArgument) (c := 0) (q := 0) (as := [cI x3]) (mc := 1) (ms := 6) rfl rfl (okS (n := 1) rfl dX1_suspend_19 (lw_S q744 q745 q111 q746) hm_X1_requireArgument (by decide) (by decide) (Nat.le_of_ble_eq_true rfl)) (m_X1_requireArgument x3) rfl ?_
  refine cw_aload_n dX1_suspend_22 rfl 0 rfl ?_
  refine cw_sipush (v := 359) dX1_suspend_23 (by decide) ?_
  refine cw_aload_n dX1_suspend_26 rfl 1 rfl ?_
  refine cw_getI (ci := 0) (j := 9) (C := RX1) (T := TX1) (N := 11) rfl (by decide) rfl rfl (Or.inl q215) fSame_rfl dX1_suspend_27 (fun x4 => ?_)
  refine cw_iload_n dX1_suspend_30 rfl 3 rfl ?_
  refine cw_iadd dX1_suspend_31 ?_
  refine cw_mmin q952 (by decide) (Nat.le_of_ble_eq_true rfl) dX1_suspend_32 ?_
  refine cw_putI (ci := 2) (j := 6) (C := RX3) (T := TX3) (N := 9) rfl (by decide) rfl rfl (Or.inr ⟨_, q819⟩) fSame_rfl (Or.inl rfl) dX1_suspend_35 ?_
  refine cw_aload_n dX1_suspend_38 rfl 0 rfl ?_
  refine cw_getI (ci := 2) (j := 6) (C := RX3) (T := TX3) (N := 9) rfl (by decide) rfl rfl (Or.inr ⟨_, q819⟩) fSame_rfl dX1_suspend_39 (fun x5 => ?_)
  exact cw_iret rfl dX1_suspend_42
def g_X3_mayWear (a0 : Nat) (a1 : Int32) : GF :=
  getI 22 a0 1 fun x1 =>
  jnG (fun (v2 : Int32) =>
    if a1 ≤ v2 then
      retZ 1
    else
      retZ 0) fun J3 =>
  if x1 < 12 then
    J3 0
  else
    getI 22 a0 1 fun x4 =>
    if x4 < 16 then
      J3 1
    else
      J3 2
abbrev md_X3_mayWear : MD := (yX3_mayWear, cX3_mayWear, 2, (some (Jvm.ClassFile.FieldType.boolean)), RX3, 10, 0, 0)
theorem hm_X3_mayWear : (md_X3_mayWear).y.cls ≠ "java/lang/invoke/MethodHandle" ∧ (md_X3_mayWear).y.cls ≠ "java/lang/invoke/VarHandle" ∧ (parseMethodDescriptor (md_X3_mayWear).y.desc).map (fun d => d.parameters.length) = some 1 := by decide +kernel
theorem m_X3_mayWear (a0 : Nat) (a1 : Int32) : CMF md_X3_mayWear [cR a0, cI a1] (g_X3_mayWear a0 a1) := by
  refine cm_of (by decide +kernel) rfl (Nat.le_of_ble_eq_true rfl) ?_
  show CWF _ 0 0 0 [(0, cR a0), (1, cI a1)] [] _
  unfold g_X3_mayWear
  refine cw_iload_n dX3_mayWear_0 rfl 1 rfl ?_
  refine cw_aload_n dX3_mayWear_1 rfl 0 rfl ?_
  refine cw_getI (ci := 2) (j := 1) (C := RX3) (T := TX3) (N := 9) rfl (by decide) rfl rfl (Or.inl q806) fSame_rfl dX3_mayWear_2 (fun x1 => ?_)
  refine cw_bipush (v := 12) dX3_mayWear_5 (by decide) ?_
  refine cw_jn (cj := 0) (kj := 0) (pcj := 28) (lsf := fun (s : Int32) => []) (stf := fun (s : Int32) => [cI s, cI a1]) (fun s => ?_) (fun J3 hJ3 => ?_)
  · obtain ⟨v2, e⟩ : ∃ z, z = s := ⟨_, rfl⟩
    subst e
    show CWF _ _ _ 28 [] [cI v2, cI a1] _
    refine cw_icmp_gt (tgt := 35) dX3_mayWear_28 (by decide) ?_ ?_
    · refine cw_iconst (v := 0) dX3_mayWear_35 (by decide) ?_
      exact cw_zret rfl dX3_mayWear_36
    · refine cw_iconst (v := 1) dX3_mayWear_31 (by decide) ?_
      refine cw_goto (tgt := 36) dX3_mayWear_32 (by decide) ?_
      exact cw_zret rfl dX3_mayWear_36
  · refine cw_icmp_ge (tgt := 14) dX3_mayWear_7 (by decide) ?_ ?_
    · refine cw_aload_n dX3_mayWear_14 rfl 0 rfl ?_
      refine cw_getI (ci := 2) (j := 1) (C := RX3) (T := TX3) (N := 9) rfl (by decide) rfl rfl (Or.inl q806) fSame_rfl dX3_mayWear_15 (fun x4 => ?_)
      refine cw_bipush (v := 16) dX3_mayWear_18 (by decide) ?_
      refine cw_icmp_ge (tgt := 27) dX3_mayWear_20 (by decide) ?_ ?_
      · refine cw_iconst (v := 2) dX3_mayWear_27 (by decide) ?_
        refine cw_sub (ls' := []) [] rfl ?_
        exact hJ3 2
      · refine cw_iconst (v := 1) dX3_mayWear_23 (by decide) ?_
        refine cw_goto (tgt := 28) dX3_mayWear_24 (by decide) ?_
        refine cw_sub (ls' := []) [] rfl ?_
        exact hJ3 1
    · refine cw_iconst (v := 0) dX3_mayWear_10 (by decide) ?_
      refine cw_goto (tgt := 28) dX3_mayWear_11 (by decide) ?_
      refine cw_sub (ls' := []) [] rfl ?_
      exact hJ3 0
def g_X1_dress (a0 : Nat) (a1 : Int32) (a2 : Int32) : GF :=
  getP 20 a0 0 fun p1 =>
  invP none (g_X1_at p1 a1) fun p2 =>
  castG 22 p2 <|
  invI none (g_X1_isBetween a2 0 2) fun x3 =>
  invV none (g_X1_requireArgument x3) <|
  invI (some (p2, 22)) (g_X3_mayWear p2 a2) fun x4 =>
  if x4 = 0 then
    getI 22 p2 7 fun x5 =>
    putI 22 p2 7 (x5 + 1) <|
    getI 22 p2 7 fun x6 =>
    iremG x6 2 fun x7 =>
    jnG (fun (_ : Unit) =>
      getI 22 p2 7 fun x8 =>
      retG (rI x8)) fun J9 =>
    if x7 = 0 then
      getI 22 p2 6 fun x10 =>
      getI 20 a0 9 fun x11 =>
      putI 22 p2 6 (imax x10 (imin 359 (x11 + 30))) <|
      J9 ()
    else
      J9 ()
  else
    getI 22 p2 7 fun x12 =>
    retG (rI x12)
abbrev md_X1_dress : MD := (yX1_dress, cX1_dress, 4, (some (Jvm.ClassFile.FieldType.int)), RX1, 14, 2, 12)
theorem hm_X1_dress : (md_X1_dress).y.cls ≠ "java/lang/invoke/MethodHandle" ∧ (md_X1_dress).y.cls ≠ "java/lang/invoke/VarHandle" ∧ (parseMethodDescriptor (md_X1_dress).y.desc).map (fun d => d.parameters.length) = some 2 := by decide +kernel
theorem m_X1_dress (a0 : Nat) (a1 : Int32) (a2 : Int32) : CMF md_X1_dress [cR a0, cI a1, cI a2] (g_X1_dress a0 a1 a2) := by
  refine cm_of (by decide +kernel) rfl (Nat.le_of_ble_eq_true rfl) ?_
  show CWF _ 2 12 0 [(0, cR a0), (1, cI a1), (2, cI a2)] [] _
  unfold g_X1_dress
  refine cw_aload_n dX1_dress_0 rfl 0 rfl ?_
  refine cw_getP (ci := 0) (j := 0) (C := RX1) (T := TX1) (N := 11) rfl (by decide) rfl rfl (Or.inl q206) fSame_rfl dX1_dress_1 (fun p1 => ?_)
  refine cw_iload_n dX1_dress_4 rfl 1 rfl ?_
  refine cw_invP (d2 := md_X1_at) (c := 1) (q := 6) (as := [cR p1, cI a1]) (mc := 1) (ms := 6) rfl rfl (okS (n := 2) rfl dX1_dress_5 (lw_S q883 q884 q111 q885) hm_X1_at (by decide) (by decide) (Nat.le_of_ble_eq_true rfl)) (m_X1_at p1 a1) rfl (fun p2 => ?_)
  refine cw_cast (ci := 2) (T := TX3) (N := 9) (C := RX3) rfl rfl q733 (Or.inl rfl) dX1_dress_8 ?_
  refine cw_astore_n (ls' := [(3, cR p2), (0, cR a0), (1, cI a1), (2, cI a2)]) dX1_dress_11 rfl (by decide) rfl ?_
  refine cw_iload_n dX1_dress_12 rfl 3 rfl ?_
  refine cw_iconst (v := 0) dX1_dress_13 (by decide) ?_
  refine cw_iconst (v := 2) dX1_dress_14 (by decide) ?_
  refine cw_invI (d2 := md_X1_isBetween) (c := 1) (q := 6) (as := [cI a2, cI 0, cI 2]) (mc := 0) (ms := 0) rfl rfl (okS (n := 3) rfl dX1_dress_15 (lw_S q258 q259 q111 q260) hm_X1_isBetween (by decide) (by decide) (Nat.le_of_ble_eq_true rfl)) (m_X1_isBetween a2 0 2) rfl (fun x3 => ?_)
  refine cw_invV (d2 := md_X1_requireArgument) (c := 0) (q := 0) (as := [cI x3]) (mc := 1) (ms := 6) rfl rfl (okS (n := 1) rfl dX1_dress_18 (lw_S q744 q745 q111 q746) hm_X1_requireArgument (by decide) (by decide) (Nat.le_of_ble_eq_true rfl)) (m_X1_requireArgument x3) rfl ?_
  refine cw_aload_n dX1_dress_21 rfl 0 rfl ?_
  refine cw_iload_n dX1_dress_22 rfl 3 rfl ?_
  refine cw_invI (d2 := md_X3_mayWear) (c := 0) (q := 0) (as := [cR p2, cI a2]) (mc := 0) (ms := 0) rfl rfl (okV (ci := 2) (C := RX3) (T0 := TX3) (N := 9) (n := 1) rfl rfl rfl dX1_dress_23 (lw_V q960 q961 q962 q121 q963) ⟨rfl, hm_X3_mayWear⟩ (by decide) (by decide) (Nat.le_of_ble_eq_true rfl)) (m_X3_mayWear p2 a2) rfl (fun x4 => ?_)
  refine cw_if_eq (tgt := 34) dX1_dress_26 (by decide) ?_ ?_
  · refine cw_aload_n dX1_dress_34 rfl 0 rfl ?_
    refine cw_dup dX1_dress_35 rfl ?_
    refine cw_getI (ci := 2) (j := 7) (C := RX3) (T := TX3) (N := 9) rfl (by decide) rfl rfl (Or.inr ⟨_, q820⟩) fSame_rfl dX1_dress_36 (fun x5 => ?_)
    refine cw_iconst (v := 1) dX1_dress_39 (by decide) ?_
    refine cw_iadd dX1_dress_40 ?_
    refine cw_putI (ci := 2) (j := 7) (C := RX3) (T := TX3) (N := 9) rfl (by decide) rfl rfl (Or.inr ⟨_, q820⟩) fSame_rfl (Or.inl rfl) dX1_dress_41 ?_
    refine cw_aload_n dX1_dress_44 rfl 0 rfl ?_
    refine cw_getI (ci := 2) (j := 7) (C := RX3) (T := TX3) (N := 9) rfl (by decide) rfl rfl (Or.inr ⟨_, q820⟩) fSame_rfl dX1_dress_45 (fun x6 => ?_)
    refine cw_iconst (v := 2) dX1_dress_48 (by decide) ?_
    refine cw_irem dX1_dress_49 (fun x7 => ?_)
    refine cw_jn (cj := 0) (kj := 0) (pcj := 77) (lsf := fun (s : Unit) => [(3, cR p2)]) (stf := fun (s : Unit) => []) (fun s => ?_) (fun J9 hJ9 => ?_)
    · show CWF _ _ _ 77 [(3, cR p2)] [] _
      refine cw_aload_n dX1_dress_77 rfl 0 rfl ?_
      refine cw_getI (ci := 2) (j := 7) (C := RX3) (T := TX3) (N := 9) rfl (by decide) rfl rfl (Or.inr ⟨_, q820⟩) fSame_rfl dX1_dress_78 (fun x8 => ?_)
      exact cw_iret rfl dX1_dress_81
    · refine cw_if_ne (tgt := 77) dX1_dress_50 (by decide) ?_ ?_
      · refine cw_sub (ls' := [(3, cR p2)]) [0] rfl ?_
        exact hJ9 ()
      · refine cw_aload_n dX1_dress_53 rfl 0 rfl ?_
        refine cw_aload_n dX1_dress_54 rfl 0 rfl ?_
        refine cw_getI (ci := 2) (j := 6) (C := RX3) (T := TX3) (N := 9) rfl (by decide) rfl rfl (Or.inr ⟨_, q819⟩) fSame_rfl dX1_dress_55 (fun x10 => ?_)
        refine cw_sipush (v := 359) dX1_dress_58 (by decide) ?_
        refine cw_aload_n dX1_dress_61 rfl 1 rfl ?_
        refine cw_getI (ci := 0) (j := 9) (C := RX1) (T := TX1) (N := 11) rfl (by decide) rfl rfl (Or.inl q215) fSame_rfl dX1_dress_62 (fun x11 => ?_)
        refine cw_bipush (v := 30) dX1_dress_65 (by decide) ?_
        refine cw_iadd dX1_dress_67 ?_
        refine cw_mmin q952 (by decide) (Nat.le_of_ble_eq_true rfl) dX1_dress_68 ?_
        refine cw_mmax q964 (by decide) (Nat.le_of_ble_eq_true rfl) dX1_dress_71 ?_
        refine cw_putI (ci := 2) (j := 6) (C := RX3) (T := TX3) (N := 9) rfl (by decide) rfl rfl (Or.inr ⟨_, q819⟩) fSame_rfl (Or.inl rfl) dX1_dress_74 ?_
        refine cw_sub (ls' := [(3, cR p2)]) [0] rfl ?_
        exact hJ9 ()
  · refine cw_aload_n dX1_dress_29 rfl 0 rfl ?_
    refine cw_getI (ci := 2) (j := 7) (C := RX3) (T := TX3) (N := 9) rfl (by decide) rfl rfl (Or.inr ⟨_, q820⟩) fSame_rfl dX1_dress_30 (fun x12 => ?_)
    exact cw_iret rfl dX1_dress_33
def g_X4_teacher (a0 : Nat) : GF :=
  getP 23 a0 0 fun p1 =>
  retG (rR p1)
abbrev md_X4_teacher : MD := (yX4_teacher, cX4_teacher, 1, (some ((Jvm.ClassFile.FieldType.object "Scrutineery$Person"))), RX4, 10, 0, 0)
theorem hm_X4_teacher : (md_X4_teacher).y.cls ≠ "java/lang/invoke/MethodHandle" ∧ (md_X4_teacher).y.cls ≠ "java/lang/invoke/VarHandle" ∧ (parseMethodDescriptor (md_X4_teacher).y.desc).map (fun d => d.parameters.length) = some 0 := by decide +kernel
theorem m_X4_teacher (a0 : Nat) : CMF md_X4_teacher [cR a0] (g_X4_teacher a0) := by
  refine cm_of (by decide +kernel) rfl (Nat.le_of_ble_eq_true rfl) ?_
  show CWF _ 0 0 0 [(0, cR a0)] [] _
  unfold g_X4_teacher
  refine cw_aload_n dX4_teacher_0 rfl 0 rfl ?_
  refine cw_getP (ci := 3) (j := 0) (C := RX4) (T := TX4) (N := 3) rfl (by decide) rfl rfl (Or.inl q929) fSame_rfl dX4_teacher_1 (fun p1 => ?_)
  exact cw_aret rfl rfl dX4_teacher_4
