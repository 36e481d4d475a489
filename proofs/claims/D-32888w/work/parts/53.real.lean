/-! SCRUTINEERY: its methods, part 3 -/
set_option maxRecDepth 100000
def b_X6_behind_12 (a1 : Nat) (p1 : Nat) (m2 : Int32) (rec5 : (Int32 × Nat) → GF) : (Int32 × Nat) → GF := fun (s : Int32 × Nat) => match s with
  | (l3, l4) =>
    hasG p1 l4 fun x6 =>
    if x6 = 0 then
      retG (rI l3)
    else
      nextG p1 m2 l4 fun p7 =>
      castG 27 p7 <|
      getI 27 p7 5 fun x8 =>
      jnG (fun (v9 : Int32) =>
        rec5 ((l3 + v9), (l4 + 1))) fun J10 =>
      jnG (fun (_ : Unit) =>
        J10 0) fun J11 =>
      if x8 = 0 then
        getI 27 p7 7 fun x12 =>
        getI 27 a1 7 fun x13 =>
        if x12 ≤ x13 then
          J11 ()
        else
          J10 1
      else
        J11 ()
def g_X6_behind (a0 : Nat) (a1 : Nat) : GF :=
  getP 25 a0 7 fun p1 =>
  itG p1 fun m2 =>
  loopG (b_X6_behind_12 a1 p1 m2) FU (0, 0)
abbrev md_X6_behind : MD := (yX6_behind, cX6_behind, 5, (some (Jvm.ClassFile.FieldType.int)), RX6, 12, 1, 4)
theorem hm_X6_behind : (md_X6_behind).y.cls ≠ "java/lang/invoke/MethodHandle" ∧ (md_X6_behind).y.cls ≠ "java/lang/invoke/VarHandle" ∧ (parseMethodDescriptor (md_X6_behind).y.desc).map (fun d => d.parameters.length) = some 1 := by decide +kernel
theorem m_X6_behind (a0 : Nat) (a1 : Nat) : CMF md_X6_behind [cR a0, cR a1] (g_X6_behind a0 a1) := by
  refine cm_of (by decide +kernel) rfl (Nat.le_of_ble_eq_true rfl) ?_
  show CWF _ 1 4 0 [(0, cR a0), (1, cR a1)] [] _
  unfold g_X6_behind
  refine cw_iconst (v := 0) dX6_behind_0 (by decide) ?_
  refine cw_istore_n (ls' := [(2, cI 0), (0, cR a0), (1, cR a1)]) dX6_behind_1 rfl (by decide) rfl ?_
  refine cw_aload_n dX6_behind_2 rfl 1 rfl ?_
  refine cw_getP (ci := 5) (j := 7) (C := RX6) (T := TX6) (N := 19) rfl (by decide) rfl rfl (Or.inl q1099) fSame_rfl dX6_behind_3 (fun p1 => ?_)
  refine cw_iter (c := 0) (q := 0) (la := 1) (ls' := [(2, cI 0), (0, cR a0), (1, cR a1)]) rfl (Or.inl ⟨_, dX6_behind_11, rfl, rfl⟩) (by decide) (okF (x := ⟨"java/util/List", "iterator", "()Ljava/util/Iterator;"⟩) (ci := 14) (C := RJ2) (T0 := TJ2) (N := 3) (n := 0) rfl (Or.inr ⟨rfl, rfl⟩) rfl dX6_behind_6 (lw_F q531 q295 q293 q114 q297) (List.mem_iff_getElem?.mpr ⟨3, rfl⟩) (show ("java/util/List" : String) ≠ _ ∧ ("java/util/List" : String) ≠ _ ∧ (parseMethodDescriptor (md_J2_iterator).y.desc).map (fun d => d.parameters.length) = some 0 from ⟨by decide, by decide, (hm_J2_iterator).2.2⟩) (by decide) (by decide) (Nat.le_of_ble_eq_true rfl)) (fun m2 => ?_)
  refine cw_sub (ls' := [(1, cR a1), (2, cI 0), (3, cT p1 m2 0)]) [3, 1, 0] rfl ?_
  refine cw_loop0 (lsf := fun (s : Int32 × Nat) => [(1, cR a1), (2, cI s.1), (3, cT p1 m2 s.2)]) (fun rec5 hrec5 s => ?_) FU (0, 0)
  obtain ⟨l3, l4⟩ := s
  show CWF _ _ _ 12 [(1, cR a1), (2, cI l3), (3, cT p1 m2 l4)] [] _
  dsimp only [b_X6_behind_12]
  refine cw_sub (ls' := [(3, cT p1 m2 l4), (1, cR a1), (2, cI l3)]) [2, 0, 1] rfl ?_
  refine cw_hasNext (la := 1) rfl (Or.inl ⟨_, dX6_behind_12, rfl, rfl⟩) (fun x => okF (x := ⟨"java/util/Iterator", "hasNext", "()Z"⟩) (ci := 15) (C := RJ18) (T0 := TJ18) (N := 4) (n := 0) rfl (Or.inl rfl) rfl dX6_behind_13 (lw_F q533 q339 q337 q134 q341) (List.mem_iff_getElem?.mpr ⟨4, rfl⟩) (show ("java/util/Iterator" : String) ≠ _ ∧ ("java/util/Iterator" : String) ≠ _ ∧ (parseMethodDescriptor (md_J18_hasNext).y.desc).map (fun d => d.parameters.length) = some 0 from ⟨by decide, by decide, (hm_J18_hasNext).2.2⟩) (by decide) (by decide) (Nat.le_of_ble_eq_true rfl)) (fun x6 => ?_)
  refine cw_if_eq (tgt := 63) dX6_behind_18 (by decide) ?_ ?_
  · refine cw_iload_n dX6_behind_63 rfl 2 rfl ?_
    exact cw_iret rfl dX6_behind_64
  · refine cw_next (la := 1) rfl (Or.inl ⟨_, dX6_behind_21, rfl, rfl⟩) (fun x => okF (x := ⟨"java/util/Iterator", "next", "()Ljava/lang/Object;"⟩) (ci := 15) (C := RJ18) (T0 := TJ18) (N := 4) (n := 0) rfl (Or.inl rfl) rfl dX6_behind_22 (lw_F q535 q432 q430 q134 q434) (List.mem_iff_getElem?.mpr ⟨6, rfl⟩) (show ("java/util/Iterator" : String) ≠ _ ∧ ("java/util/Iterator" : String) ≠ _ ∧ (parseMethodDescriptor (md_J18_next).y.desc).map (fun d => d.parameters.length) = some 0 from ⟨by decide, by decide, (hm_J18_next).2.2⟩) (by decide) (by decide) (Nat.le_of_ble_eq_true rfl)) (fun p7 => ?_)
    refine cw_cast (ci := 7) (T := TX8) (N := 10) (C := RX8) rfl rfl q536 (Or.inl rfl) dX6_behind_27 ?_
    refine cw_astore (ls' := [(4, cR p7), (3, cT p1 m2 (l4 + 1)), (1, cR a1), (2, cI l3)]) dX6_behind_30 (by decide) rfl ?_
    refine cw_iload_n dX6_behind_32 rfl 3 rfl ?_
    refine cw_aload dX6_behind_33 0 rfl ?_
    refine cw_getI (ci := 7) (j := 5) (C := RX8) (T := TX8) (N := 10) rfl (by decide) rfl rfl (Or.inr ⟨_, q1262⟩) fSame_rfl dX6_behind_35 (fun x8 => ?_)
    refine cw_jn (cj := 0) (kj := 0) (pcj := 58) (lsf := fun (s : Int32) => [(3, cT p1 m2 (l4 + 1)), (1, cR a1)]) (stf := fun (s : Int32) => [cI s, cI l3]) (fun s => ?_) (fun J10 hJ10 => ?_)
    · obtain ⟨v9, e⟩ : ∃ z, z = s := ⟨_, rfl⟩
      subst e
      show CWF _ _ _ 58 [(3, cT p1 m2 (l4 + 1)), (1, cR a1)] [cI v9, cI l3] _
      refine cw_iadd dX6_behind_58 ?_
      refine cw_istore_n (ls' := [(2, cI (l3 + v9)), (3, cT p1 m2 (l4 + 1)), (1, cR a1)]) dX6_behind_59 rfl (by decide) rfl ?_
      refine cw_goto (tgt := 12) dX6_behind_60 (by decide) ?_
      refine cw_sub (ls' := [(1, cR a1), (2, cI (l3 + v9)), (3, cT p1 m2 (l4 + 1))]) [2, 0, 1] rfl ?_
      exact hrec5 ((l3 + v9), (l4 + 1))
    · refine cw_jn (cj := 0) (kj := 0) (pcj := 57) (lsf := fun (s : Unit) => [(3, cT p1 m2 (l4 + 1)), (1, cR a1)]) (stf := fun (s : Unit) => [cI l3]) (fun s => ?_) (fun J11 hJ11 => ?_)
      · show CWF _ _ _ 57 [(3, cT p1 m2 (l4 + 1)), (1, cR a1)] [cI l3] _
        refine cw_iconst (v := 0) dX6_behind_57 (by decide) ?_
        exact hJ10 0
      · refine cw_if_ne (tgt := 57) dX6_behind_38 (by decide) ?_ ?_
        · refine cw_sub (ls' := [(3, cT p1 m2 (l4 + 1)), (1, cR a1)]) [1, 2] rfl ?_
          exact hJ11 ()
        · refine cw_aload dX6_behind_41 0 rfl ?_
          refine cw_getI (ci := 7) (j := 7) (C := RX8) (T := TX8) (N := 10) rfl (by decide) rfl rfl (Or.inr ⟨_, q1266⟩) fSame_rfl dX6_behind_43 (fun x12 => ?_)
          refine cw_aload_n dX6_behind_46 rfl 2 rfl ?_
          refine cw_getI (ci := 7) (j := 7) (C := RX8) (T := TX8) (N := 10) rfl (by decide) rfl rfl (Or.inr ⟨_, q1266⟩) fSame_rfl dX6_behind_47 (fun x13 => ?_)
          refine cw_icmp_le (tgt := 57) dX6_behind_50 (by decide) ?_ ?_
          · refine cw_sub (ls' := [(3, cT p1 m2 (l4 + 1)), (1, cR a1)]) [1, 2] rfl ?_
            exact hJ11 ()
          · refine cw_iconst (v := 1) dX6_behind_53 (by decide) ?_
            refine cw_goto (tgt := 58) dX6_behind_54 (by decide) ?_
            refine cw_sub (ls' := [(3, cT p1 m2 (l4 + 1)), (1, cR a1)]) [1, 2] rfl ?_
            exact hJ10 1
def b_X7_recalls_39 (a1 : Nat) (l4 : Int32) (rec5 : (Int32 × Int32) → GF) (x6 : Nat) (x7 : Int32) (rec10 : (Int32 × Int32) → GF) : (Int32 × Int32) → GF := fun (s : Int32 × Int32) => match s with
  | (l8, l9) =>
    if l9 < x7 then
      aaldG 5 x6 l9 fun x11 =>
      instG 30 29 x11
        (if (1 : Int32) = 0 then
            rec10 (l8, (l9 + 1))
          else
            castG 30 x11 <|
            invI (some (x11, 30)) (g_X11_told x11) fun x12 =>
            invI (some (a1, 27)) (g_X8_bit a1) fun x13 =>
            if (x12 &&& x13) = 0 then
              rec10 (l8, (l9 + 1))
            else
              rec10 ((l8 + 1), (l9 + 1)))
        (if (0 : Int32) = 0 then
            rec10 (l8, (l9 + 1))
          else
            castG 30 x11 <|
            invI (some (x11, 30)) (g_X11_told x11) fun x14 =>
            invI (some (a1, 27)) (g_X8_bit a1) fun x15 =>
            if (x14 &&& x15) = 0 then
              rec10 (l8, (l9 + 1))
            else
              rec10 ((l8 + 1), (l9 + 1)))
    else
      rec5 (l8, (l4 + 1))
def b_X7_recalls_14 (a1 : Nat) (p1 : Nat) (x2 : Int32) (rec5 : (Int32 × Int32) → GF) : (Int32 × Int32) → GF := fun (s : Int32 × Int32) => match s with
  | (l3, l4) =>
    if l4 < x2 then
      aaldG 6 p1 l4 fun x6 =>
      alenG x6 fun x7 =>
      loopG (b_X7_recalls_39 a1 l4 rec5 x6 x7) FU (l3, 0)
    else
      retG (rI l3)
def g_X7_recalls (a0 : Nat) (a1 : Nat) : GF :=
  getP 26 a0 4 fun p1 =>
  alenG p1 fun x2 =>
  loopG (b_X7_recalls_14 a1 p1 x2) FU (0, 0)
abbrev md_X7_recalls : MD := (yX7_recalls, cX7_recalls, 12, (some (Jvm.ClassFile.FieldType.int)), RX7, 11, 0, 0)
theorem hm_X7_recalls : (md_X7_recalls).y.cls ≠ "java/lang/invoke/MethodHandle" ∧ (md_X7_recalls).y.cls ≠ "java/lang/invoke/VarHandle" ∧ (parseMethodDescriptor (md_X7_recalls).y.desc).map (fun d => d.parameters.length) = some 1 := by decide +kernel
theorem m_X7_recalls (a0 : Nat) (a1 : Nat) : CMF md_X7_recalls [cR a0, cR a1] (g_X7_recalls a0 a1) := by
  refine cm_of (by decide +kernel) rfl (Nat.le_of_ble_eq_true rfl) ?_
  show CWF _ 0 0 0 [(0, cR a0), (1, cR a1)] [] _
  unfold g_X7_recalls
  refine cw_iconst (v := 0) dX7_recalls_0 (by decide) ?_
  refine cw_istore_n (ls' := [(2, cI 0), (0, cR a0), (1, cR a1)]) dX7_recalls_1 rfl (by decide) rfl ?_
  refine cw_aload_n dX7_recalls_2 rfl 1 rfl ?_
  refine cw_getP (ci := 6) (j := 4) (C := RX7) (T := TX7) (N := 5) rfl (by decide) rfl rfl (Or.inl q1071) fSame_rfl dX7_recalls_3 (fun p1 => ?_)
  refine cw_astore_n (ls' := [(3, cR p1), (2, cI 0), (0, cR a0), (1, cR a1)]) dX7_recalls_6 rfl (by decide) rfl ?_
  refine cw_aload_n dX7_recalls_7 rfl 0 rfl ?_
  refine cw_alen dX7_recalls_8 (fun x2 => ?_)
  refine cw_istore (ls' := [(4, cI x2), (3, cR p1), (2, cI 0), (0, cR a0), (1, cR a1)]) dX7_recalls_9 (by decide) rfl ?_
  refine cw_iconst (v := 0) dX7_recalls_11 (by decide) ?_
  refine cw_istore (ls' := [(5, cI 0), (4, cI x2), (3, cR p1), (2, cI 0), (0, cR a0), (1, cR a1)]) dX7_recalls_12 (by decide) rfl ?_
  refine cw_sub (ls' := [(4, cI x2), (3, cR p1), (1, cR a1), (2, cI 0), (5, cI 0)]) [1, 2, 5, 3, 0] rfl ?_
  refine cw_loop0 (lsf := fun (s : Int32 × Int32) => [(4, cI x2), (3, cR p1), (1, cR a1), (2, cI s.1), (5, cI s.2)]) (fun rec5 hrec5 s => ?_) FU (0, 0)
  obtain ⟨l3, l4⟩ := s
  show CWF _ _ _ 14 [(4, cI x2), (3, cR p1), (1, cR a1), (2, cI l3), (5, cI l4)] [] _
  dsimp only [b_X7_recalls_14]
  refine cw_iload dX7_recalls_14 4 rfl ?_
  refine cw_iload dX7_recalls_16 0 rfl ?_
  refine cw_icmp_ge (tgt := 96) dX7_recalls_18 (by decide) ?_ ?_
  · refine cw_iload_n dX7_recalls_96 rfl 3 rfl ?_
    exact cw_iret rfl dX7_recalls_97
  · refine cw_aload_n dX7_recalls_21 rfl 1 rfl ?_
    refine cw_iload dX7_recalls_22 4 rfl ?_
    refine cw_aald (t := 6) (by decide) dX7_recalls_24 (fun x6 => ?_)
    refine cw_astore (ls' := [(6, cR x6), (4, cI x2), (3, cR p1), (1, cR a1), (2, cI l3), (5, cI l4)]) dX7_recalls_25 (by decide) rfl ?_
    refine cw_aload dX7_recalls_27 0 rfl ?_
    refine cw_astore (ls' := [(7, cR x6), (6, cR x6), (4, cI x2), (3, cR p1), (1, cR a1), (2, cI l3), (5, cI l4)]) dX7_recalls_29 (by decide) rfl ?_
    refine cw_aload dX7_recalls_31 0 rfl ?_
    refine cw_alen dX7_recalls_33 (fun x7 => ?_)
    refine cw_istore (ls' := [(8, cI x7), (7, cR x6), (6, cR x6), (4, cI x2), (3, cR p1), (1, cR a1), (2, cI l3), (5, cI l4)]) dX7_recalls_34 (by decide) rfl ?_
    refine cw_iconst (v := 0) dX7_recalls_36 (by decide) ?_
    refine cw_istore (ls' := [(9, cI 0), (8, cI x7), (7, cR x6), (6, cR x6), (4, cI x2), (3, cR p1), (1, cR a1), (2, cI l3), (5, cI l4)]) dX7_recalls_37 (by decide) rfl ?_
    refine cw_sub (ls' := [(8, cI x7), (7, cR x6), (4, cI x2), (3, cR p1), (1, cR a1), (5, cI l4), (2, cI l3), (9, cI 0)]) [1, 2, 4, 5, 6, 8, 7, 0] rfl ?_
    refine cw_loop0 (lsf := fun (s : Int32 × Int32) => [(8, cI x7), (7, cR x6), (4, cI x2), (3, cR p1), (1, cR a1), (5, cI l4), (2, cI s.1), (9, cI s.2)]) (fun rec10 hrec10 s => ?_) FU (l3, 0)
    obtain ⟨l8, l9⟩ := s
    show CWF _ _ _ 39 [(8, cI x7), (7, cR x6), (4, cI x2), (3, cR p1), (1, cR a1), (5, cI l4), (2, cI l8), (9, cI l9)] [] _
    dsimp only [b_X7_recalls_39]
    refine cw_iload dX7_recalls_39 7 rfl ?_
    refine cw_iload dX7_recalls_41 0 rfl ?_
    refine cw_icmp_ge (tgt := 90) dX7_recalls_43 (by decide) ?_ ?_
    · refine cw_iinc (v := (l4 + 1)) (ls' := [(5, cI (l4 + 1)), (8, cI x7), (7, cR x6), (4, cI x2), (3, cR p1), (1, cR a1), (2, cI l8), (9, cI l9)]) dX7_recalls_90 5 rfl rfl (by decide) rfl ?_
      refine cw_goto (tgt := 14) dX7_recalls_93 (by decide) ?_
      refine cw_sub (ls' := [(4, cI x2), (3, cR p1), (1, cR a1), (2, cI l8), (5, cI (l4 + 1))]) [3, 4, 5, 6, 0] rfl ?_
      exact hrec5 (l8, (l4 + 1))
    · refine cw_aload dX7_recalls_46 1 rfl ?_
      refine cw_iload dX7_recalls_48 7 rfl ?_
      refine cw_aald (t := 5) (by decide) dX7_recalls_50 (fun x11 => ?_)
      refine cw_astore (ls' := [(10, cR x11), (8, cI x7), (7, cR x6), (4, cI x2), (3, cR p1), (1, cR a1), (5, cI l4), (2, cI l8), (9, cI l9)]) dX7_recalls_51 (by decide) rfl ?_
      refine cw_aload dX7_recalls_53 0 rfl ?_
      refine cw_inst (ci := 10) (C := RX11) (T := TX11) (N := 1) (ci2 := 9) (C2 := RX10) (T2 := TX10) (N2 := 2) rfl rfl rfl rfl (Or.inl (List.mem_iff_getElem?.mpr ⟨0, rfl⟩)) q445 dX7_recalls_55 ?_ ?_
      · refine cw_if_eq (tgt := 84) dX7_recalls_58 (by decide) ?_ ?_
        · refine cw_iinc (v := (l9 + 1)) (ls' := [(9, cI (l9 + 1)), (10, cR x11), (8, cI x7), (7, cR x6), (4, cI x2), (3, cR p1), (1, cR a1), (5, cI l4), (2, cI l8)]) dX7_recalls_84 8 rfl rfl (by decide) rfl ?_
          refine cw_goto (tgt := 39) dX7_recalls_87 (by decide) ?_
          refine cw_sub (ls' := [(8, cI x7), (7, cR x6), (4, cI x2), (3, cR p1), (1, cR a1), (5, cI l4), (2, cI l8), (9, cI (l9 + 1))]) [2, 3, 4, 5, 6, 7, 8, 0] rfl ?_
          exact hrec10 (l8, (l9 + 1))
        · refine cw_aload dX7_recalls_61 0 rfl ?_
          refine cw_cast (ci := 10) (T := TX11) (N := 1) (C := RX11) rfl rfl q445 (Or.inl rfl) dX7_recalls_63 ?_
          refine cw_astore (ls' := [(11, cR x11), (10, cR x11), (8, cI x7), (7, cR x6), (4, cI x2), (3, cR p1), (1, cR a1), (5, cI l4), (2, cI l8), (9, cI l9)]) dX7_recalls_66 (by decide) rfl ?_
          refine cw_aload dX7_recalls_68 0 rfl ?_
          refine cw_invI (d2 := md_X11_told) (c := 0) (q := 0) (as := [cR x11]) (mc := 0) (ms := 0) rfl rfl (okV (ci := 10) (C := RX11) (T0 := TX11) (N := 1) (n := 0) rfl rfl rfl dX7_recalls_70 (lw_V q446 q447 q448 q145 q449) ⟨rfl, hm_X11_told⟩ (by decide) (by decide) (Nat.le_of_ble_eq_true rfl)) (m_X11_told x11) rfl (fun x12 => ?_)
          refine cw_aload_n dX7_recalls_73 rfl 6 rfl ?_
          refine cw_invI (d2 := md_X8_bit) (c := 0) (q := 0) (as := [cR a1]) (mc := 0) (ms := 0) rfl rfl (okV (ci := 7) (C := RX8) (T0 := TX8) (N := 10) (n := 0) rfl rfl rfl dX7_recalls_74 (lw_V q450 q451 q452 q142 q453) ⟨rfl, hm_X8_bit⟩ (by decide) (by decide) (Nat.le_of_ble_eq_true rfl)) (m_X8_bit a1) rfl (fun x13 => ?_)
          refine cw_iand dX7_recalls_77 ?_
          refine cw_if_eq (tgt := 84) dX7_recalls_78 (by decide) ?_ ?_
          · refine cw_iinc (v := (l9 + 1)) (ls' := [(9, cI (l9 + 1)), (11, cR x11), (10, cR x11), (8, cI x7), (7, cR x6), (4, cI x2), (3, cR p1), (1, cR a1), (5, cI l4), (2, cI l8)]) dX7_recalls_84 9 rfl rfl (by decide) rfl ?_
            refine cw_goto (tgt := 39) dX7_recalls_87 (by decide) ?_
            refine cw_sub (ls' := [(8, cI x7), (7, cR x6), (4, cI x2), (3, cR p1), (1, cR a1), (5, cI l4), (2, cI l8), (9, cI (l9 + 1))]) [3, 4, 5, 6, 7, 8, 9, 0] rfl ?_
            exact hrec10 (l8, (l9 + 1))
          · refine cw_iinc (v := (l8 + 1)) (ls' := [(2, cI (l8 + 1)), (11, cR x11), (10, cR x11), (8, cI x7), (7, cR x6), (4, cI x2), (3, cR p1), (1, cR a1), (5, cI l4), (9, cI l9)]) dX7_recalls_81 8 rfl rfl (by decide) rfl ?_
            refine cw_iinc (v := (l9 + 1)) (ls' := [(9, cI (l9 + 1)), (2, cI (l8 + 1)), (11, cR x11), (10, cR x11), (8, cI x7), (7, cR x6), (4, cI x2), (3, cR p1), (1, cR a1), (5, cI l4)]) dX7_recalls_84 9 rfl rfl (by decide) rfl ?_
            refine cw_goto (tgt := 39) dX7_recalls_87 (by decide) ?_
            refine cw_sub (ls' := [(8, cI x7), (7, cR x6), (4, cI x2), (3, cR p1), (1, cR a1), (5, cI l4), (2, cI (l8 + 1)), (9, cI (l9 + 1))]) [4, 5, 6, 7, 8, 9, 1, 0] rfl ?_
            exact hrec10 ((l8 + 1), (l9 + 1))
      · refine cw_if_eq (tgt := 84) dX7_recalls_58 (by decide) ?_ ?_
        · refine cw_iinc (v := (l9 + 1)) (ls' := [(9, cI (l9 + 1)), (10, cR x11), (8, cI x7), (7, cR x6), (4, cI x2), (3, cR p1), (1, cR a1), (5, cI l4), (2, cI l8)]) dX7_recalls_84 8 rfl rfl (by decide) rfl ?_
          refine cw_goto (tgt := 39) dX7_recalls_87 (by decide) ?_
          refine cw_sub (ls' := [(8, cI x7), (7, cR x6), (4, cI x2), (3, cR p1), (1, cR a1), (5, cI l4), (2, cI l8), (9, cI (l9 + 1))]) [2, 3, 4, 5, 6, 7, 8, 0] rfl ?_
          exact hrec10 (l8, (l9 + 1))
        · refine cw_aload dX7_recalls_61 0 rfl ?_
          refine cw_cast (ci := 10) (T := TX11) (N := 1) (C := RX11) rfl rfl q445 (Or.inl rfl) dX7_recalls_63 ?_
          refine cw_astore (ls' := [(11, cR x11), (10, cR x11), (8, cI x7), (7, cR x6), (4, cI x2), (3, cR p1), (1, cR a1), (5, cI l4), (2, cI l8), (9, cI l9)]) dX7_recalls_66 (by decide) rfl ?_
          refine cw_aload dX7_recalls_68 0 rfl ?_
          refine cw_invI (d2 := md_X11_told) (c := 0) (q := 0) (as := [cR x11]) (mc := 0) (ms := 0) rfl rfl (okV (ci := 10) (C := RX11) (T0 := TX11) (N := 1) (n := 0) rfl rfl rfl dX7_recalls_70 (lw_V q446 q447 q448 q145 q449) ⟨rfl, hm_X11_told⟩ (by decide) (by decide) (Nat.le_of_ble_eq_true rfl)) (m_X11_told x11) rfl (fun x14 => ?_)
          refine cw_aload_n dX7_recalls_73 rfl 6 rfl ?_
          refine cw_invI (d2 := md_X8_bit) (c := 0) (q := 0) (as := [cR a1]) (mc := 0) (ms := 0) rfl rfl (okV (ci := 7) (C := RX8) (T0 := TX8) (N := 10) (n := 0) rfl rfl rfl dX7_recalls_74 (lw_V q450 q451 q452 q142 q453) ⟨rfl, hm_X8_bit⟩ (by decide) (by decide) (Nat.le_of_ble_eq_true rfl)) (m_X8_bit a1) rfl (fun x15 => ?_)
          refine cw_iand dX7_recalls_77 ?_
          refine cw_if_eq (tgt := 84) dX7_recalls_78 (by decide) ?_ ?_
          · refine cw_iinc (v := (l9 + 1)) (ls' := [(9, cI (l9 + 1)), (11, cR x11), (10, cR x11), (8, cI x7), (7, cR x6), (4, cI x2), (3, cR p1), (1, cR a1), (5, cI l4), (2, cI l8)]) dX7_recalls_84 9 rfl rfl (by decide) rfl ?_
            refine cw_goto (tgt := 39) dX7_recalls_87 (by decide) ?_
            refine cw_sub (ls' := [(8, cI x7), (7, cR x6), (4, cI x2), (3, cR p1), (1, cR a1), (5, cI l4), (2, cI l8), (9, cI (l9 + 1))]) [3, 4, 5, 6, 7, 8, 9, 0] rfl ?_
            exact hrec10 (l8, (l9 + 1))
          · refine cw_iinc (v := (l8 + 1)) (ls' := [(2, cI (l8 + 1)), (11, cR x11), (10, cR x11), (8, cI x7), (7, cR x6), (4, cI x2), (3, cR p1), (1, cR a1), (5, cI l4), (9, cI l9)]) dX7_recalls_81 8 rfl rfl (by decide) rfl ?_
            refine cw_iinc (v := (l9 + 1)) (ls' := [(9, cI (l9 + 1)), (2, cI (l8 + 1)), (11, cR x11), (10, cR x11), (8, cI x7), (7, cR x6), (4, cI x2), (3, cR p1), (1, cR a1), (5, cI l4)]) dX7_recalls_84 9 rfl rfl (by decide) rfl ?_
            refine cw_goto (tgt := 39) dX7_recalls_87 (by decide) ?_
            refine cw_sub (ls' := [(8, cI x7), (7, cR x6), (4, cI x2), (3, cR p1), (1, cR a1), (5, cI l4), (2, cI (l8 + 1)), (9, cI (l9 + 1))]) [4, 5, 6, 7, 8, 9, 1, 0] rfl ?_
            exact hrec10 ((l8 + 1), (l9 + 1))
def g_X6_goesOn (a0 : Nat) (a1 : Nat) (a2 : Nat) (a3 : Int32) : GF := fun _ => none
abbrev md_X6_goesOn : MD := (yX6_goesOn, cX6_goesOn, 8, none, RX6, 60, 0, 0)
theorem hm_X6_goesOn : (md_X6_goesOn).y.cls ≠ "java/lang/invoke/MethodHandle" ∧ (md_X6_goesOn).y.cls ≠ "java/lang/invoke/VarHandle" ∧ (parseMethodDescriptor (md_X6_goesOn).y.desc).map (fun d => d.parameters.length) = some 3 := by decide +kernel
theorem m_X6_goesOn (a0 : Nat) (a1 : Nat) (a2 : Nat) (a3 : Int32) : CMF md_X6_goesOn [cR a0, cR a1, cR a2, cI a3] (g_X6_goesOn a0 a1 a2 a3) := fun _ _ _ hf => by cases hf
def g_X6_cuts (a0 : Nat) : GF := fun _ => none
abbrev md_X6_cuts : MD := (yX6_cuts, cX6_cuts, 9, none, RX6, 60, 0, 0)
theorem hm_X6_cuts : (md_X6_cuts).y.cls ≠ "java/lang/invoke/MethodHandle" ∧ (md_X6_cuts).y.cls ≠ "java/lang/invoke/VarHandle" ∧ (parseMethodDescriptor (md_X6_cuts).y.desc).map (fun d => d.parameters.length) = some 0 := by decide +kernel
theorem m_X6_cuts (a0 : Nat) : CMF md_X6_cuts [cR a0] (g_X6_cuts a0) := fun _ _ _ hf => by cases hf
def g_X14_init (a0 : Nat) (a1 : Int32) : GF :=
  invV (some (a0, 32)) (g_J17_init a0) <|
  putI 32 a0 0 a1 <|
  retG rV
abbrev md_X14_init : MD := (yX14_init, cX14_init, 2, none, RX14, 11, 0, 0)
theorem hm_X14_init : (md_X14_init).y.cls ≠ "java/lang/invoke/MethodHandle" ∧ (md_X14_init).y.cls ≠ "java/lang/invoke/VarHandle" ∧ (parseMethodDescriptor (md_X14_init).y.desc).map (fun d => d.parameters.length) = some 1 := by decide +kernel
theorem m_X14_init (a0 : Nat) (a1 : Int32) : CMF md_X14_init [cR a0, cI a1] (g_X14_init a0 a1) := by
  refine cm_of (by decide +kernel) rfl (Nat.le_of_ble_eq_true rfl) ?_
  show CWF _ 0 0 0 [(0, cR a0), (1, cI a1)] [] _
  unfold g_X14_init
  refine cw_aload_n dX14_init_0 rfl 0 rfl ?_
  refine cw_invV (d2 := md_J17_init) (c := 0) (q := 0) (as := [cR a0]) (mc := 0) (ms := 0) rfl rfl (okI (n := 0) rfl rfl dX14_init_1 (lw_meth q927) q132 q1876 q926 rfl hm_J17_init (by decide) (by decide) (Nat.le_of_ble_eq_true rfl) (by decide)) (m_J17_init a0) rfl ?_
  refine cw_aload_n dX14_init_4 rfl 0 rfl ?_
  refine cw_iload_n dX14_init_5 rfl 1 rfl ?_
  refine cw_putI (ci := 12) (j := 0) (C := RX14) (T := TX14) (N := 1) rfl (by decide) rfl rfl (Or.inl q1877) fSame_rfl (Or.inr ⟨rfl, rfl, rfl⟩) dX14_init_6 ?_
  exact cw_vret rfl dX14_init_9
def g_X14_points (a0 : Nat) : GF :=
  getI 32 a0 0 fun x1 =>
  retG (rI x1)
abbrev md_X14_points : MD := (yX14_points, cX14_points, 1, (some (Jvm.ClassFile.FieldType.int)), RX14, 10, 0, 0)
theorem hm_X14_points : (md_X14_points).y.cls ≠ "java/lang/invoke/MethodHandle" ∧ (md_X14_points).y.cls ≠ "java/lang/invoke/VarHandle" ∧ (parseMethodDescriptor (md_X14_points).y.desc).map (fun d => d.parameters.length) = some 0 := by decide +kernel
theorem m_X14_points (a0 : Nat) : CMF md_X14_points [cR a0] (g_X14_points a0) := by
  refine cm_of (by decide +kernel) rfl (Nat.le_of_ble_eq_true rfl) ?_
  show CWF _ 0 0 0 [(0, cR a0)] [] _
  unfold g_X14_points
  refine cw_aload_n dX14_points_0 rfl 0 rfl ?_
  refine cw_getI (ci := 12) (j := 0) (C := RX14) (T := TX14) (N := 1) rfl (by decide) rfl rfl (Or.inl q1877) fSame_rfl dX14_points_1 (fun x1 => ?_)
  exact cw_iret rfl dX14_points_4
def g_X1_formation (a0 : Nat) (a1 : Int32) (a2 : Int32) (a3 : Int32) (a4 : Int32) : GF :=
  invI none (g_X1_isBetween a1 1 12) fun x1 =>
  jnG (fun (v2 : Int32) =>
    invV none (g_X1_requireArgument v2) <|
    getP 20 a0 4 fun p3 =>
    invI (some (p3, 8)) (s_size p3) fun x4 =>
    jnG (fun (v5 : Int32) =>
      invV none (g_X1_requireState v5) <|
      invI none (g_X1_up (imax 0 (150 - a3)) 5) fun x6 =>
      invI none (g_X1_up (imax 0 (a3 - 210)) 5) fun x7 =>
      newG 32 fun p8 =>
      invV (some (p8, 32)) (g_X14_init p8 (imax 0 (a4 - ((((5 * (imax 0 (a2 - 3))) + x6) + x7) + (10 * ((imax 0 (6 - a1)) + (imax 0 (a1 - 8)))))))) <|
      getP 20 a0 4 fun p9 =>
      invI (some (p9, 8)) (s_add p9 p8) fun x10 =>
      invI (some (p8, 32)) (g_X14_points p8) fun x11 =>
      retG (rI x11)) fun J12 =>
    if x4 < 4 then
      J12 1
    else
      J12 0) fun J13 =>
  jnG (fun (_ : Unit) =>
    J13 0) fun J14 =>
  if x1 = 0 then
    J14 ()
  else
    invI none (g_X1_isBetween a2 0 20) fun x15 =>
    if x15 = 0 then
      J14 ()
    else
      invI none (g_X1_isBetween a3 1 600) fun x16 =>
      if x16 = 0 then
        J14 ()
      else
        invI none (g_X1_isBetween a4 0 1000) fun x17 =>
        if x17 = 0 then
          J14 ()
        else
          J13 1
abbrev md_X1_formation : MD := (yX1_formation, cX1_formation, 8, (some (Jvm.ClassFile.FieldType.int)), RX1, 16, 4, 77)
theorem hm_X1_formation : (md_X1_formation).y.cls ≠ "java/lang/invoke/MethodHandle" ∧ (md_X1_formation).y.cls ≠ "java/lang/invoke/VarHandle" ∧ (parseMethodDescriptor (md_X1_formation).y.desc).map (fun d => d.parameters.length) = some 4 := by decide +kernel
theorem m_X1_formation (a0 : Nat) (a1 : Int32) (a2 : Int32) (a3 : Int32) (a4 : Int32) : CMF md_X1_formation [cR a0, cI a1, cI a2, cI a3, cI a4] (g_X1_formation a0 a1 a2 a3 a4) := by
  refine cm_of (by decide +kernel) rfl (Nat.le_of_ble_eq_true rfl) ?_
  show CWF _ 4 77 0 [(0, cR a0), (1, cI a1), (2, cI a2), (3, cI a3), (4, cI a4)] [] _
  unfold g_X1_formation
  refine cw_iload_n dX1_formation_0 rfl 1 rfl ?_
  refine cw_iconst (v := 1) dX1_formation_1 (by decide) ?_
  refine cw_bipush (v := 12) dX1_formation_2 (by decide) ?_
  refine cw_invI (d2 := md_X1_isBetween) (c := 4) (q := 77) (as := [cI a1, cI 1, cI 12]) (mc := 0) (ms := 0) rfl rfl (okS (n := 3) rfl dX1_formation_4 (lw_S q258 q259 q111 q260) hm_X1_isBetween (by decide) (by decide) (Nat.le_of_ble_eq_true rfl)) (m_X1_isBetween a1 1 12) rfl (fun x1 => ?_)
  refine cw_jn (cj := 4) (kj := 77) (pcj := 48) (lsf := fun (s : Int32) => [(0, cR a0), (1, cI a1), (2, cI a2), (3, cI a3), (4, cI a4)]) (stf := fun (s : Int32) => [cI s]) (fun s => ?_) (fun J13 hJ13 => ?_)
  · obtain ⟨v2, e⟩ : ∃ z, z = s := ⟨_, rfl⟩
    subst e
    show CWF _ _ _ 48 [(0, cR a0), (1, cI a1), (2, cI a2), (3, cI a3), (4, cI a4)] [cI v2] _
    refine cw_invV (d2 := md_X1_requireArgument) (c := 3) (q := 71) (as := [cI v2]) (mc := 1) (ms := 6) rfl rfl (okS (n := 1) rfl dX1_formation_48 (lw_S q744 q745 q111 q746) hm_X1_requireArgument (by decide) (by decide) (Nat.le_of_ble_eq_true rfl)) (m_X1_requireArgument v2) rfl ?_
    refine cw_aload_n dX1_formation_51 rfl 0 rfl ?_
    refine cw_getP (ci := 0) (j := 4) (C := RX1) (T := TX1) (N := 11) rfl (by decide) rfl rfl (Or.inl q210) fSame_rfl dX1_formation_52 (fun p3 => ?_)
    refine cw_invI (d2 := md_J2_size) (c := 3) (q := 71) (as := [cR p3]) (mc := 0) (ms := 0) rfl rfl (okF (x := ⟨"java/util/List", "size", "()I"⟩) (ci := 14) (C := RJ2) (T0 := TJ2) (N := 3) (n := 0) rfl (Or.inr ⟨rfl, rfl⟩) rfl dX1_formation_55 (lw_F q246 q251 q249 q114 q253) (List.mem_iff_getElem?.mpr ⟨1, rfl⟩) (show ("java/util/List" : String) ≠ _ ∧ ("java/util/List" : String) ≠ _ ∧ (parseMethodDescriptor (md_J2_size).y.desc).map (fun d => d.parameters.length) = some 0 from ⟨by decide, by decide, (hm_J2_size).2.2⟩) (by decide) (by decide) (Nat.le_of_ble_eq_true rfl)) (c_size p3) rfl (fun x4 => ?_)
    refine cw_iconst (v := 4) dX1_formation_60 (by decide) ?_
    refine cw_jn (cj := 3) (kj := 71) (pcj := 69) (lsf := fun (s : Int32) => [(0, cR a0), (1, cI a1), (2, cI a2), (3, cI a3), (4, cI a4)]) (stf := fun (s : Int32) => [cI s]) (fun s => ?_) (fun J12 hJ12 => ?_)
    · obtain ⟨v5, e⟩ : ∃ z, z = s := ⟨_, rfl⟩
      subst e
      show CWF _ _ _ 69 [(0, cR a0), (1, cI a1), (2, cI a2), (3, cI a3), (4, cI a4)] [cI v5] _
      refine cw_invV (d2 := md_X1_requireState) (c := 2) (q := 65) (as := [cI v5]) (mc := 1) (ms := 6) rfl rfl (okS (n := 1) rfl dX1_formation_69 (lw_S q772 q773 q111 q774) hm_X1_requireState (by decide) (by decide) (Nat.le_of_ble_eq_true rfl)) (m_X1_requireState v5) rfl ?_
      refine cw_iconst (v := 5) dX1_formation_72 (by decide) ?_
      refine cw_iconst (v := 0) dX1_formation_73 (by decide) ?_
      refine cw_iload_n dX1_formation_74 rfl 2 rfl ?_
      refine cw_iconst (v := 3) dX1_formation_75 (by decide) ?_
      refine cw_isub dX1_formation_76 ?_
      refine cw_mmax q964 (by decide) (Nat.le_of_ble_eq_true rfl) dX1_formation_77 ?_
      refine cw_imul dX1_formation_80 ?_
      refine cw_iconst (v := 0) dX1_formation_81 (by decide) ?_
      refine cw_sipush (v := 150) dX1_formation_82 (by decide) ?_
      refine cw_iload_n dX1_formation_85 rfl 3 rfl ?_
      refine cw_isub dX1_formation_86 ?_
      refine cw_mmax q964 (by decide) (Nat.le_of_ble_eq_true rfl) dX1_formation_87 ?_
      refine cw_iconst (v := 5) dX1_formation_90 (by decide) ?_
      refine cw_invI (d2 := md_X1_up) (c := 2) (q := 65) (as := [cI (imax 0 (150 - a3)), cI 5]) (mc := 0) (ms := 0) rfl rfl (okS (n := 2) rfl dX1_formation_91 (lw_S q1870 q1330 q111 q1331) hm_X1_up (by decide) (by decide) (Nat.le_of_ble_eq_true rfl)) (m_X1_up (imax 0 (150 - a3)) 5) rfl (fun x6 => ?_)
      refine cw_iadd dX1_formation_94 ?_
      refine cw_iconst (v := 0) dX1_formation_95 (by decide) ?_
      refine cw_iload_n dX1_formation_96 rfl 3 rfl ?_
      refine cw_sipush (v := 210) dX1_formation_97 (by decide) ?_
      refine cw_isub dX1_formation_100 ?_
      refine cw_mmax q964 (by decide) (Nat.le_of_ble_eq_true rfl) dX1_formation_101 ?_
      refine cw_iconst (v := 5) dX1_formation_104 (by decide) ?_
      refine cw_invI (d2 := md_X1_up) (c := 2) (q := 65) (as := [cI (imax 0 (a3 - 210)), cI 5]) (mc := 0) (ms := 0) rfl rfl (okS (n := 2) rfl dX1_formation_105 (lw_S q1870 q1330 q111 q1331) hm_X1_up (by decide) (by decide) (Nat.le_of_ble_eq_true rfl)) (m_X1_up (imax 0 (a3 - 210)) 5) rfl (fun x7 => ?_)
      refine cw_iadd dX1_formation_108 ?_
      refine cw_bipush (v := 10) dX1_formation_109 (by decide) ?_
      refine cw_iconst (v := 0) dX1_formation_111 (by decide) ?_
      refine cw_bipush (v := 6) dX1_formation_112 (by decide) ?_
      refine cw_iload_n dX1_formation_114 rfl 1 rfl ?_
      refine cw_isub dX1_formation_115 ?_
      refine cw_mmax q964 (by decide) (Nat.le_of_ble_eq_true rfl) dX1_formation_116 ?_
      refine cw_iconst (v := 0) dX1_formation_119 (by decide) ?_
      refine cw_iload_n dX1_formation_120 rfl 1 rfl ?_
      refine cw_bipush (v := 8) dX1_formation_121 (by decide) ?_
      refine cw_isub dX1_formation_123 ?_
      refine cw_mmax q964 (by decide) (Nat.le_of_ble_eq_true rfl) dX1_formation_124 ?_
      refine cw_iadd dX1_formation_127 ?_
      refine cw_imul dX1_formation_128 ?_
      refine cw_iadd dX1_formation_129 ?_
      refine cw_istore (ls' := [(5, cI ((((5 * (imax 0 (a2 - 3))) + x6) + x7) + (10 * ((imax 0 (6 - a1)) + (imax 0 (a1 - 8)))))), (0, cR a0), (1, cI a1), (2, cI a2), (3, cI a3), (4, cI a4)]) dX1_formation_130 (by decide) rfl ?_
      refine cw_new (c := 1) (q := 64) (ci := 12) (C := RX14) (T := TX14) (N := 1) rfl rfl q1871 q1872 q151 dX1_formation_132 (fun p8 => ?_)
      refine cw_dup dX1_formation_135 rfl ?_
      refine cw_iconst (v := 0) dX1_formation_136 (by decide) ?_
      refine cw_iload dX1_formation_137 5 rfl ?_
      refine cw_iload dX1_formation_139 0 rfl ?_
      refine cw_isub dX1_formation_141 ?_
      refine cw_mmax q964 (by decide) (Nat.le_of_ble_eq_true rfl) dX1_formation_142 ?_
      refine cw_invV (d2 := md_X14_init) (c := 1) (q := 64) (as := [cR p8, cI (imax 0 (a4 - ((((5 * (imax 0 (a2 - 3))) + x6) + x7) + (10 * ((imax 0 (6 - a1)) + (imax 0 (a1 - 8)))))))]) (mc := 0) (ms := 0) rfl rfl (okIN (n := 1) rfl rfl dX1_formation_145 (lw_meth q1875) q151 q1873 q1874 rfl hm_X14_init (by decide) (by decide) (Nat.le_of_ble_eq_true rfl) (by decide)) (m_X14_init p8 (imax 0 (a4 - ((((5 * (imax 0 (a2 - 3))) + x6) + x7) + (10 * ((imax 0 (6 - a1)) + (imax 0 (a1 - 8)))))))) rfl ?_
      refine cw_astore (ls' := [(6, cR p8), (5, cI ((((5 * (imax 0 (a2 - 3))) + x6) + x7) + (10 * ((imax 0 (6 - a1)) + (imax 0 (a1 - 8)))))), (0, cR a0), (1, cI a1), (2, cI a2), (3, cI a3), (4, cI a4)]) dX1_formation_148 (by decide) rfl ?_
      refine cw_aload_n dX1_formation_150 rfl 2 rfl ?_
      refine cw_getP (ci := 0) (j := 4) (C := RX1) (T := TX1) (N := 11) rfl (by decide) rfl rfl (Or.inl q210) fSame_rfl dX1_formation_151 (fun p9 => ?_)
      refine cw_aload dX1_formation_154 0 rfl ?_
      refine cw_invI (d2 := md_J2_add) (c := 0) (q := 0) (as := [cR p9, cR p8]) (mc := 1) (ms := 64) rfl rfl (okF (x := ⟨"java/util/List", "add", "(Ljava/lang/Object;)Z"⟩) (ci := 14) (C := RJ2) (T0 := TJ2) (N := 3) (n := 1) rfl (Or.inr ⟨rfl, rfl⟩) rfl dX1_formation_156 (lw_F q842 q587 q585 q114 q589) (List.mem_iff_getElem?.mpr ⟨9, rfl⟩) (show ("java/util/List" : String) ≠ _ ∧ ("java/util/List" : String) ≠ _ ∧ (parseMethodDescriptor (md_J2_add).y.desc).map (fun d => d.parameters.length) = some 1 from ⟨by decide, by decide, (hm_J2_add).2.2⟩) (by decide) (by decide) (Nat.le_of_ble_eq_true rfl)) (c_add p9 p8) rfl (fun x10 => ?_)
      refine cw_istore (ls' := [(7, cI x10), (6, cR p8), (5, cI ((((5 * (imax 0 (a2 - 3))) + x6) + x7) + (10 * ((imax 0 (6 - a1)) + (imax 0 (a1 - 8)))))), (0, cR a0), (1, cI a1), (2, cI a2), (3, cI a3), (4, cI a4)]) dX1_formation_161 (by decide) rfl ?_
      refine cw_aload dX1_formation_163 1 rfl ?_
      refine cw_invI (d2 := md_X14_points) (c := 0) (q := 0) (as := [cR p8]) (mc := 0) (ms := 0) rfl rfl (okV (ci := 12) (C := RX14) (T0 := TX14) (N := 1) (n := 0) rfl rfl rfl dX1_formation_165 (lw_V q1881 q1882 q1883 q151 q1884) ⟨rfl, hm_X14_points⟩ (by decide) (by decide) (Nat.le_of_ble_eq_true rfl)) (m_X14_points p8) rfl (fun x11 => ?_)
      exact cw_iret rfl dX1_formation_168
    · refine cw_icmp_ge (tgt := 68) dX1_formation_61 (by decide) ?_ ?_
      · refine cw_iconst (v := 0) dX1_formation_68 (by decide) ?_
        exact hJ12 0
      · refine cw_iconst (v := 1) dX1_formation_64 (by decide) ?_
        refine cw_goto (tgt := 69) dX1_formation_65 (by decide) ?_
        exact hJ12 1
  · refine cw_jn (cj := 4) (kj := 77) (pcj := 47) (lsf := fun (s : Unit) => [(0, cR a0), (1, cI a1), (2, cI a2), (3, cI a3), (4, cI a4)]) (stf := fun (s : Unit) => []) (fun s => ?_) (fun J14 hJ14 => ?_)
    · show CWF _ _ _ 47 [(0, cR a0), (1, cI a1), (2, cI a2), (3, cI a3), (4, cI a4)] [] _
      refine cw_iconst (v := 0) dX1_formation_47 (by decide) ?_
      exact hJ13 0
    · refine cw_if_eq (tgt := 47) dX1_formation_7 (by decide) ?_ ?_
      · exact hJ14 ()
      · refine cw_iload_n dX1_formation_10 rfl 2 rfl ?_
        refine cw_iconst (v := 0) dX1_formation_11 (by decide) ?_
        refine cw_bipush (v := 20) dX1_formation_12 (by decide) ?_
        refine cw_invI (d2 := md_X1_isBetween) (c := 4) (q := 77) (as := [cI a2, cI 0, cI 20]) (mc := 0) (ms := 0) rfl rfl (okS (n := 3) rfl dX1_formation_14 (lw_S q258 q259 q111 q260) hm_X1_isBetween (by decide) (by decide) (Nat.le_of_ble_eq_true rfl)) (m_X1_isBetween a2 0 20) rfl (fun x15 => ?_)
        refine cw_if_eq (tgt := 47) dX1_formation_17 (by decide) ?_ ?_
        · exact hJ14 ()
        · refine cw_iload_n dX1_formation_20 rfl 3 rfl ?_
          refine cw_iconst (v := 1) dX1_formation_21 (by decide) ?_
          refine cw_sipush (v := 600) dX1_formation_22 (by decide) ?_
          refine cw_invI (d2 := md_X1_isBetween) (c := 4) (q := 77) (as := [cI a3, cI 1, cI 600]) (mc := 0) (ms := 0) rfl rfl (okS (n := 3) rfl dX1_formation_25 (lw_S q258 q259 q111 q260) hm_X1_isBetween (by decide) (by decide) (Nat.le_of_ble_eq_true rfl)) (m_X1_isBetween a3 1 600) rfl (fun x16 => ?_)
          refine cw_if_eq (tgt := 47) dX1_formation_28 (by decide) ?_ ?_
          · exact hJ14 ()
          · refine cw_iload dX1_formation_31 4 rfl ?_
            refine cw_iconst (v := 0) dX1_formation_33 (by decide) ?_
            refine cw_sipush (v := 1000) dX1_formation_34 (by decide) ?_
            refine cw_invI (d2 := md_X1_isBetween) (c := 4) (q := 77) (as := [cI a4, cI 0, cI 1000]) (mc := 0) (ms := 0) rfl rfl (okS (n := 3) rfl dX1_formation_37 (lw_S q258 q259 q111 q260) hm_X1_isBetween (by decide) (by decide) (Nat.le_of_ble_eq_true rfl)) (m_X1_isBetween a4 0 1000) rfl (fun x17 => ?_)
            refine cw_if_eq (tgt := 47) dX1_formation_40 (by decide) ?_ ?_
            · exact hJ14 ()
            · refine cw_iconst (v := 1) dX1_formation_43 (by decide) ?_
              refine cw_goto (tgt := 48) dX1_formation_44 (by decide) ?_
              exact hJ13 1
def g_X1_length (a0 : Nat) (a1 : Int32) (a2 : Int32) : GF :=
  getP 20 a0 8 fun p1 =>
  aaldG 7 p1 a1 fun x2 =>
  ialdG 1 x2 a2 fun x3 =>
  getP 20 a0 7 fun p4 =>
  aaldG 7 p4 a1 fun x5 =>
  ialdG 1 x5 a2 fun x6 =>
  invI none (g_X1_up (60 * x3) x6) fun x7 =>
  retG (rI x7)
abbrev md_X1_length : MD := (yX1_length, cX1_length, 3, (some (Jvm.ClassFile.FieldType.int)), RX1, 11, 0, 0)
theorem hm_X1_length : (md_X1_length).y.cls ≠ "java/lang/invoke/MethodHandle" ∧ (md_X1_length).y.cls ≠ "java/lang/invoke/VarHandle" ∧ (parseMethodDescriptor (md_X1_length).y.desc).map (fun d => d.parameters.length) = some 2 := by decide +kernel
theorem m_X1_length (a0 : Nat) (a1 : Int32) (a2 : Int32) : CMF md_X1_length [cR a0, cI a1, cI a2] (g_X1_length a0 a1 a2) := by
  refine cm_of (by decide +kernel) rfl (Nat.le_of_ble_eq_true rfl) ?_
  show CWF _ 0 0 0 [(0, cR a0), (1, cI a1), (2, cI a2)] [] _
  unfold g_X1_length
  refine cw_bipush (v := 60) dX1_length_0 (by decide) ?_
  refine cw_aload_n dX1_length_2 rfl 0 rfl ?_
  refine cw_getP (ci := 0) (j := 8) (C := RX1) (T := TX1) (N := 11) rfl (by decide) rfl rfl (Or.inl q214) fSame_rfl dX1_length_3 (fun p1 => ?_)
  refine cw_iload_n dX1_length_6 rfl 1 rfl ?_
  refine cw_aald (t := 7) (by decide) dX1_length_7 (fun x2 => ?_)
  refine cw_iload_n dX1_length_8 rfl 2 rfl ?_
  refine cw_iald dX1_length_9 (fun x3 => ?_)
  refine cw_imul dX1_length_10 ?_
  refine cw_aload_n dX1_length_11 rfl 0 rfl ?_
  refine cw_getP (ci := 0) (j := 7) (C := RX1) (T := TX1) (N := 11) rfl (by decide) rfl rfl (Or.inl q213) fSame_rfl dX1_length_12 (fun p4 => ?_)
  refine cw_iload_n dX1_length_15 rfl 1 rfl ?_
  refine cw_aald (t := 7) (by decide) dX1_length_16 (fun x5 => ?_)
  refine cw_iload_n dX1_length_17 rfl 2 rfl ?_
  refine cw_iald dX1_length_18 (fun x6 => ?_)
  refine cw_invI (d2 := md_X1_up) (c := 0) (q := 0) (as := [cI (60 * x3), cI x6]) (mc := 0) (ms := 0) rfl rfl (okS (n := 2) rfl dX1_length_19 (lw_S q1870 q1330 q111 q1331) hm_X1_up (by decide) (by decide) (Nat.le_of_ble_eq_true rfl)) (m_X1_up (60 * x3) x6) rfl (fun x7 => ?_)
  exact cw_iret rfl dX1_length_22
def g_X1_music (a0 : Nat) (a1 : Int32) (a2 : Int32) (a3 : Int32) (a4 : Int32) : GF :=
  invI none (g_X1_isBetween a1 0 1) fun x1 =>
  jnG (fun (v2 : Int32) =>
    invV none (g_X1_requireArgument v2) <|
    getP 20 a0 7 fun p3 =>
    aaldG 7 p3 a1 fun x4 =>
    iastG x4 a2 a3 <|
    getP 20 a0 8 fun p5 =>
    aaldG 7 p5 a1 fun x6 =>
    iastG x6 a2 a4 <|
    invI (some (a0, 20)) (g_X1_length a0 a1 a2) fun x7 =>
    retG (rI x7)) fun J8 =>
  jnG (fun (_ : Unit) =>
    J8 0) fun J9 =>
  if x1 = 0 then
    J9 ()
  else
    invI none (g_X1_isBetween a2 0 4) fun x10 =>
    if x10 = 0 then
      J9 ()
    else
      invI none (g_X1_isBetween a3 20 70) fun x11 =>
      if x11 = 0 then
        J9 ()
      else
        invI none (g_X1_isBetween a4 20 120) fun x12 =>
        if x12 = 0 then
          J9 ()
        else
          J8 1
abbrev md_X1_music : MD := (yX1_music, cX1_music, 5, (some (Jvm.ClassFile.FieldType.int)), RX1, 12, 1, 6)
theorem hm_X1_music : (md_X1_music).y.cls ≠ "java/lang/invoke/MethodHandle" ∧ (md_X1_music).y.cls ≠ "java/lang/invoke/VarHandle" ∧ (parseMethodDescriptor (md_X1_music).y.desc).map (fun d => d.parameters.length) = some 4 := by decide +kernel
theorem m_X1_music (a0 : Nat) (a1 : Int32) (a2 : Int32) (a3 : Int32) (a4 : Int32) : CMF md_X1_music [cR a0, cI a1, cI a2, cI a3, cI a4] (g_X1_music a0 a1 a2 a3 a4) := by
  refine cm_of (by decide +kernel) rfl (Nat.le_of_ble_eq_true rfl) ?_
  show CWF _ 1 6 0 [(0, cR a0), (1, cI a1), (2, cI a2), (3, cI a3), (4, cI a4)] [] _
  unfold g_X1_music
  refine cw_iload_n dX1_music_0 rfl 1 rfl ?_
  refine cw_iconst (v := 0) dX1_music_1 (by decide) ?_
  refine cw_iconst (v := 1) dX1_music_2 (by decide) ?_
  refine cw_invI (d2 := md_X1_isBetween) (c := 1) (q := 6) (as := [cI a1, cI 0, cI 1]) (mc := 0) (ms := 0) rfl rfl (okS (n := 3) rfl dX1_music_3 (lw_S q258 q259 q111 q260) hm_X1_isBetween (by decide) (by decide) (Nat.le_of_ble_eq_true rfl)) (m_X1_isBetween a1 0 1) rfl (fun x1 => ?_)
  refine cw_jn (cj := 1) (kj := 6) (pcj := 46) (lsf := fun (s : Int32) => [(0, cR a0), (1, cI a1), (2, cI a2), (3, cI a3), (4, cI a4)]) (stf := fun (s : Int32) => [cI s]) (fun s => ?_) (fun J8 hJ8 => ?_)
  · obtain ⟨v2, e⟩ : ∃ z, z = s := ⟨_, rfl⟩
    subst e
    show CWF _ _ _ 46 [(0, cR a0), (1, cI a1), (2, cI a2), (3, cI a3), (4, cI a4)] [cI v2] _
    refine cw_invV (d2 := md_X1_requireArgument) (c := 0) (q := 0) (as := [cI v2]) (mc := 1) (ms := 6) rfl rfl (okS (n := 1) rfl dX1_music_46 (lw_S q744 q745 q111 q746) hm_X1_requireArgument (by decide) (by decide) (Nat.le_of_ble_eq_true rfl)) (m_X1_requireArgument v2) rfl ?_
    refine cw_aload_n dX1_music_49 rfl 0 rfl ?_
    refine cw_getP (ci := 0) (j := 7) (C := RX1) (T := TX1) (N := 11) rfl (by decide) rfl rfl (Or.inl q213) fSame_rfl dX1_music_50 (fun p3 => ?_)
    refine cw_iload_n dX1_music_53 rfl 1 rfl ?_
    refine cw_aald (t := 7) (by decide) dX1_music_54 (fun x4 => ?_)
    refine cw_iload_n dX1_music_55 rfl 2 rfl ?_
    refine cw_iload_n dX1_music_56 rfl 3 rfl ?_
    refine cw_iast dX1_music_57 ?_
    refine cw_aload_n dX1_music_58 rfl 0 rfl ?_
    refine cw_getP (ci := 0) (j := 8) (C := RX1) (T := TX1) (N := 11) rfl (by decide) rfl rfl (Or.inl q214) fSame_rfl dX1_music_59 (fun p5 => ?_)
    refine cw_iload_n dX1_music_62 rfl 1 rfl ?_
    refine cw_aald (t := 7) (by decide) dX1_music_63 (fun x6 => ?_)
    refine cw_iload_n dX1_music_64 rfl 2 rfl ?_
    refine cw_iload dX1_music_65 4 rfl ?_
    refine cw_iast dX1_music_67 ?_
    refine cw_aload_n dX1_music_68 rfl 0 rfl ?_
    refine cw_iload_n dX1_music_69 rfl 1 rfl ?_
    refine cw_iload_n dX1_music_70 rfl 2 rfl ?_
    refine cw_invI (d2 := md_X1_length) (c := 0) (q := 0) (as := [cR a0, cI a1, cI a2]) (mc := 0) (ms := 0) rfl rfl (okV (ci := 0) (C := RX1) (T0 := TX1) (N := 11) (n := 2) rfl rfl rfl dX1_music_71 (lw_V q1892 q1894 qs30 q111 q1895) ⟨rfl, hm_X1_length⟩ (by decide) (by decide) (Nat.le_of_ble_eq_true rfl)) (m_X1_length a0 a1 a2) rfl (fun x7 => ?_)
    exact cw_iret rfl dX1_music_74
  · refine cw_jn (cj := 1) (kj := 6) (pcj := 45) (lsf := fun (s : Unit) => [(0, cR a0), (1, cI a1), (2, cI a2), (3, cI a3), (4, cI a4)]) (stf := fun (s : Unit) => []) (fun s => ?_) (fun J9 hJ9 => ?_)
    · show CWF _ _ _ 45 [(0, cR a0), (1, cI a1), (2, cI a2), (3, cI a3), (4, cI a4)] [] _
      refine cw_iconst (v := 0) dX1_music_45 (by decide) ?_
      exact hJ8 0
    · refine cw_if_eq (tgt := 45) dX1_music_6 (by decide) ?_ ?_
      · exact hJ9 ()
      · refine cw_iload_n dX1_music_9 rfl 2 rfl ?_
        refine cw_iconst (v := 0) dX1_music_10 (by decide) ?_
        refine cw_iconst (v := 4) dX1_music_11 (by decide) ?_
        refine cw_invI (d2 := md_X1_isBetween) (c := 1) (q := 6) (as := [cI a2, cI 0, cI 4]) (mc := 0) (ms := 0) rfl rfl (okS (n := 3) rfl dX1_music_12 (lw_S q258 q259 q111 q260) hm_X1_isBetween (by decide) (by decide) (Nat.le_of_ble_eq_true rfl)) (m_X1_isBetween a2 0 4) rfl (fun x10 => ?_)
        refine cw_if_eq (tgt := 45) dX1_music_15 (by decide) ?_ ?_
        · exact hJ9 ()
        · refine cw_iload_n dX1_music_18 rfl 3 rfl ?_
          refine cw_bipush (v := 20) dX1_music_19 (by decide) ?_
          refine cw_bipush (v := 70) dX1_music_21 (by decide) ?_
          refine cw_invI (d2 := md_X1_isBetween) (c := 1) (q := 6) (as := [cI a3, cI 20, cI 70]) (mc := 0) (ms := 0) rfl rfl (okS (n := 3) rfl dX1_music_23 (lw_S q258 q259 q111 q260) hm_X1_isBetween (by decide) (by decide) (Nat.le_of_ble_eq_true rfl)) (m_X1_isBetween a3 20 70) rfl (fun x11 => ?_)
          refine cw_if_eq (tgt := 45) dX1_music_26 (by decide) ?_ ?_
          · exact hJ9 ()
          · refine cw_iload dX1_music_29 4 rfl ?_
            refine cw_bipush (v := 20) dX1_music_31 (by decide) ?_
            refine cw_bipush (v := 120) dX1_music_33 (by decide) ?_
            refine cw_invI (d2 := md_X1_isBetween) (c := 1) (q := 6) (as := [cI a4, cI 20, cI 120]) (mc := 0) (ms := 0) rfl rfl (okS (n := 3) rfl dX1_music_35 (lw_S q258 q259 q111 q260) hm_X1_isBetween (by decide) (by decide) (Nat.le_of_ble_eq_true rfl)) (m_X1_isBetween a4 20 120) rfl (fun x12 => ?_)
            refine cw_if_eq (tgt := 45) dX1_music_38 (by decide) ?_ ?_
            · exact hJ9 ()
            · refine cw_iconst (v := 1) dX1_music_41 (by decide) ?_
              refine cw_goto (tgt := 46) dX1_music_42 (by decide) ?_
              exact hJ8 1
def b_X1_takes_16 (a0 : Nat) (a1 : Nat) (x2 : Int32) (J4 : Int32 → GF) (rec7 : (Int32 × Int32) → GF) : (Int32 × Int32) → GF := fun (s : Int32 × Int32) => match s with
  | (l5, l6) =>
    getI 25 a1 2 fun x8 =>
    if l6 < x8 then
      getI 25 a1 1 fun x9 =>
      invI (some (a0, 20)) (g_X1_length a0 x9 l6) fun x10 =>
      rec7 ((l5 + (x2 * (x10 + 15))), (l6 + 1))
    else
      J4 l5
def g_X1_takes (a0 : Nat) (a1 : Nat) : GF :=
  invP (some (a1, 25)) (g_X6_heats a1) fun p1 =>
  invI (some (p1, 8)) (s_size p1) fun x2 =>
  jnG (fun (v3 : Int32) =>
    if x2 = 0 then
      retG (rI 0)
    else
      retG (rI v3)) fun J4 =>
  loopG (b_X1_takes_16 a0 a1 x2 J4) FU (60, 0)
abbrev md_X1_takes : MD := (yX1_takes, cX1_takes, 5, (some (Jvm.ClassFile.FieldType.int)), RX1, 17, 834, 7963)
theorem hm_X1_takes : (md_X1_takes).y.cls ≠ "java/lang/invoke/MethodHandle" ∧ (md_X1_takes).y.cls ≠ "java/lang/invoke/VarHandle" ∧ (parseMethodDescriptor (md_X1_takes).y.desc).map (fun d => d.parameters.length) = some 1 := by decide +kernel
theorem m_X1_takes (a0 : Nat) (a1 : Nat) : CMF md_X1_takes [cR a0, cR a1] (g_X1_takes a0 a1) := by
  refine cm_of (by decide +kernel) rfl (Nat.le_of_ble_eq_true rfl) ?_
  show CWF _ 834 7963 0 [(0, cR a0), (1, cR a1)] [] _
  unfold g_X1_takes
  refine cw_aload_n dX1_takes_0 rfl 1 rfl ?_
  refine cw_invP (d2 := md_X6_heats) (c := 0) (q := 0) (as := [cR a1]) (mc := 834) (ms := 7963) rfl rfl (okV (ci := 5) (C := RX6) (T0 := TX6) (N := 19) (n := 0) rfl rfl rfl dX1_takes_1 (lw_V q1325 q1326 q1327 q137 q1328) ⟨rfl, hm_X6_heats⟩ (by decide) (by decide) (Nat.le_of_ble_eq_true rfl)) (m_X6_heats a1) rfl (fun p1 => ?_)
  refine cw_invI (d2 := md_J2_size) (c := 0) (q := 0) (as := [cR p1]) (mc := 0) (ms := 0) rfl rfl (okF (x := ⟨"java/util/List", "size", "()I"⟩) (ci := 14) (C := RJ2) (T0 := TJ2) (N := 3) (n := 0) rfl (Or.inr ⟨rfl, rfl⟩) rfl dX1_takes_4 (lw_F q246 q251 q249 q114 q253) (List.mem_iff_getElem?.mpr ⟨1, rfl⟩) (show ("java/util/List" : String) ≠ _ ∧ ("java/util/List" : String) ≠ _ ∧ (parseMethodDescriptor (md_J2_size).y.desc).map (fun d => d.parameters.length) = some 0 from ⟨by decide, by decide, (hm_J2_size).2.2⟩) (by decide) (by decide) (Nat.le_of_ble_eq_true rfl)) (c_size p1) rfl (fun x2 => ?_)
  refine cw_istore_n (ls' := [(2, cI x2), (0, cR a0), (1, cR a1)]) dX1_takes_9 rfl (by decide) rfl ?_
  refine cw_bipush (v := 60) dX1_takes_10 (by decide) ?_
  refine cw_istore_n (ls' := [(3, cI 60), (2, cI x2), (0, cR a0), (1, cR a1)]) dX1_takes_12 rfl (by decide) rfl ?_
  refine cw_iconst (v := 0) dX1_takes_13 (by decide) ?_
  refine cw_istore (ls' := [(4, cI 0), (3, cI 60), (2, cI x2), (0, cR a0), (1, cR a1)]) dX1_takes_14 (by decide) rfl ?_
  refine cw_jn (cj := 0) (kj := 0) (pcj := 49) (lsf := fun (s : Int32) => [(2, cI x2), (3, cI s)]) (stf := fun (s : Int32) => []) (fun s => ?_) (fun J4 hJ4 => ?_)
  · obtain ⟨v3, e⟩ : ∃ z, z = s := ⟨_, rfl⟩
    subst e
    show CWF _ _ _ 49 [(2, cI x2), (3, cI v3)] [] _
    refine cw_iload_n dX1_takes_49 rfl 0 rfl ?_
    refine cw_if_ne (tgt := 57) dX1_takes_50 (by decide) ?_ ?_
    · refine cw_iload_n dX1_takes_57 rfl 1 rfl ?_
      exact cw_iret rfl dX1_takes_58
    · refine cw_iconst (v := 0) dX1_takes_53 (by decide) ?_
      refine cw_goto (tgt := 58) dX1_takes_54 (by decide) ?_
      exact cw_iret rfl dX1_takes_58
  · refine cw_sub (ls' := [(2, cI x2), (0, cR a0), (1, cR a1), (3, cI 60), (4, cI 0)]) [2, 3, 4, 1, 0] rfl ?_
    refine cw_loop0 (lsf := fun (s : Int32 × Int32) => [(2, cI x2), (0, cR a0), (1, cR a1), (3, cI s.1), (4, cI s.2)]) (fun rec7 hrec7 s => ?_) FU (60, 0)
    obtain ⟨l5, l6⟩ := s
    show CWF _ _ _ 16 [(2, cI x2), (0, cR a0), (1, cR a1), (3, cI l5), (4, cI l6)] [] _
    dsimp only [b_X1_takes_16]
    refine cw_iload dX1_takes_16 4 rfl ?_
    refine cw_aload_n dX1_takes_18 rfl 2 rfl ?_
    refine cw_getI (ci := 5) (j := 2) (C := RX6) (T := TX6) (N := 19) rfl (by decide) rfl rfl (Or.inr ⟨_, q1090⟩) fSame_rfl dX1_takes_19 (fun x8 => ?_)
    refine cw_icmp_ge (tgt := 49) dX1_takes_22 (by decide) ?_ ?_
    · refine cw_sub (ls' := [(2, cI x2), (3, cI l5)]) [0, 3] rfl ?_
      exact hJ4 l5
    · refine cw_iload_n dX1_takes_25 rfl 3 rfl ?_
      refine cw_iload_n dX1_takes_26 rfl 0 rfl ?_
      refine cw_aload_n dX1_takes_27 rfl 1 rfl ?_
      refine cw_aload_n dX1_takes_28 rfl 2 rfl ?_
      refine cw_getI (ci := 5) (j := 1) (C := RX6) (T := TX6) (N := 19) rfl (by decide) rfl rfl (Or.inr ⟨_, q1088⟩) fSame_rfl dX1_takes_29 (fun x9 => ?_)
      refine cw_iload dX1_takes_32 4 rfl ?_
      refine cw_invI (d2 := md_X1_length) (c := 0) (q := 0) (as := [cR a0, cI x9, cI l6]) (mc := 0) (ms := 0) rfl rfl (okV (ci := 0) (C := RX1) (T0 := TX1) (N := 11) (n := 2) rfl rfl rfl dX1_takes_34 (lw_V q1892 q1894 qs30 q111 q1895) ⟨rfl, hm_X1_length⟩ (by decide) (by decide) (Nat.le_of_ble_eq_true rfl)) (m_X1_length a0 x9 l6) rfl (fun x10 => ?_)
      refine cw_bipush (v := 15) dX1_takes_37 (by decide) ?_
      refine cw_iadd dX1_takes_39 ?_
      refine cw_imul dX1_takes_40 ?_
      refine cw_iadd dX1_takes_41 ?_
      refine cw_istore_n (ls' := [(3, cI (l5 + (x2 * (x10 + 15)))), (2, cI x2), (0, cR a0), (1, cR a1), (4, cI l6)]) dX1_takes_42 rfl (by decide) rfl ?_
      refine cw_iinc (v := (l6 + 1)) (ls' := [(4, cI (l6 + 1)), (3, cI (l5 + (x2 * (x10 + 15)))), (2, cI x2), (0, cR a0), (1, cR a1)]) dX1_takes_43 4 rfl rfl (by decide) rfl ?_
      refine cw_goto (tgt := 16) dX1_takes_46 (by decide) ?_
      refine cw_sub (ls' := [(2, cI x2), (0, cR a0), (1, cR a1), (3, cI (l5 + (x2 * (x10 + 15)))), (4, cI (l6 + 1))]) [2, 3, 4, 1, 0] rfl ?_
      exact hrec7 ((l5 + (x2 * (x10 + 15))), (l6 + 1))
def g_X15_init (a0 : Nat) (a1 : Nat) (a2 : Int32) (a3 : Int32) (a4 : Int32) : GF :=
  objG a0 <|
  putP 33 a0 0 a1 <|
  putI 33 a0 1 a2 <|
  putI 33 a0 2 a3 <|
  putI 33 a0 3 a4 <|
  retG rV
abbrev md_X15_init : MD := (yX15_init, cX15_init, 5, none, RX15, 10, 0, 0)
theorem hm_X15_init : (md_X15_init).y.cls ≠ "java/lang/invoke/MethodHandle" ∧ (md_X15_init).y.cls ≠ "java/lang/invoke/VarHandle" ∧ (parseMethodDescriptor (md_X15_init).y.desc).map (fun d => d.parameters.length) = some 4 := by decide +kernel
theorem m_X15_init (a0 : Nat) (a1 : Nat) (a2 : Int32) (a3 : Int32) (a4 : Int32) : CMF md_X15_init [cR a0, cR a1, cI a2, cI a3, cI a4] (g_X15_init a0 a1 a2 a3 a4) := by
  refine cm_of (by decide +kernel) rfl (Nat.le_of_ble_eq_true rfl) ?_
  show CWF _ 0 0 0 [(0, cR a0), (1, cR a1), (2, cI a2), (3, cI a3), (4, cI a4)] [] _
  unfold g_X15_init
  refine cw_aload_n dX15_init_0 rfl 0 rfl ?_
  refine cw_objInit q1912 q159 q160 dX15_init_1 (by decide) (Nat.le_of_ble_eq_true rfl) ?_
  refine cw_aload_n dX15_init_4 rfl 0 rfl ?_
  refine cw_aload_n dX15_init_5 rfl 1 rfl ?_
  refine cw_putP (ci := 13) (j := 0) (C := RX15) (T := TX15) (N := 5) rfl (by decide) rfl rfl (Or.inl q1913) fSame_rfl (Or.inr ⟨rfl, rfl, rfl⟩) dX15_init_6 ?_
  refine cw_aload_n dX15_init_9 rfl 0 rfl ?_
  refine cw_iload_n dX15_init_10 rfl 2 rfl ?_
  refine cw_putI (ci := 13) (j := 1) (C := RX15) (T := TX15) (N := 5) rfl (by decide) rfl rfl (Or.inl q1915) fSame_rfl (Or.inr ⟨rfl, rfl, rfl⟩) dX15_init_11 ?_
  refine cw_aload_n dX15_init_14 rfl 0 rfl ?_
  refine cw_iload_n dX15_init_15 rfl 3 rfl ?_
  refine cw_putI (ci := 13) (j := 2) (C := RX15) (T := TX15) (N := 5) rfl (by decide) rfl rfl (Or.inl q1917) fSame_rfl (Or.inr ⟨rfl, rfl, rfl⟩) dX15_init_16 ?_
  refine cw_aload_n dX15_init_19 rfl 0 rfl ?_
  refine cw_iload dX15_init_20 4 rfl ?_
  refine cw_putI (ci := 13) (j := 3) (C := RX15) (T := TX15) (N := 5) rfl (by decide) rfl rfl (Or.inl q1919) fSame_rfl (Or.inr ⟨rfl, rfl, rfl⟩) dX15_init_22 ?_
  exact cw_vret rfl dX15_init_25
def b_X1_plan_82 (p7 : Nat) (m8 : Int32) (J16 : Int32 → GF) (rec19 : (Int32 × Nat) → GF) : (Int32 × Nat) → GF := fun (s : Int32 × Nat) => match s with
  | (l17, l18) =>
    hasG p7 l18 fun x20 =>
    if x20 = 0 then
      J16 l17
    else
      nextG p7 m8 l18 fun p21 =>
      castG 27 p21 <|
      getP 27 p21 1 fun p22 =>
      getP 24 p22 1 fun p23 =>
      getI 22 p23 0 fun x24 =>
      getP 27 p21 1 fun p25 =>
      getP 24 p25 2 fun p26 =>
      getI 22 p26 0 fun x27 =>
      rec19 ((l17 ||| ((1 <<< (x24 &&& 31)) ||| (1 <<< (x27 &&& 31)))), (l18 + 1))
def g_X1_plan (a0 : Nat) (a1 : Int32) (a2 : Int32) : GF :=
  getP 20 a0 3 fun p1 =>
  invP none (g_X1_at p1 a1) fun p2 =>
  castG 25 p2 <|
  invI none (g_X1_isBetween a2 0 1) fun x3 =>
  invV none (g_X1_requireIndex x3) <|
  invI (some (p2, 25)) (g_X6_isOver p2) fun x4 =>
  jnG (fun (v5 : Int32) =>
    invV none (g_X1_requireState v5) <|
    getP 25 p2 18 fun p6 =>
    getP 26 p6 2 fun p7 =>
    itG p7 fun m8 =>
    jnG (fun (v9 : Int32) =>
      getP 20 a0 5 fun p10 =>
      newG 33 fun p11 =>
      invI (some (a0, 20)) (g_X1_takes a0 p2) fun x12 =>
      invV (some (p11, 33)) (g_X15_init p11 p2 a2 x12 v9) <|
      invI (some (p10, 8)) (s_add p10 p11) fun x13 =>
      getP 20 a0 5 fun p14 =>
      invI (some (p14, 8)) (s_size p14) fun x15 =>
      retG (rI (x15 - 1))) fun J16 =>
    loopG (b_X1_plan_82 p7 m8 J16) FU (0, 0)) fun J28 =>
  jnG (fun (_ : Unit) =>
    J28 0) fun J29 =>
  if x4 = 0 then
    getP 25 p2 18 fun p30 =>
    getP 26 p30 2 fun p31 =>
    invI (some (p31, 8)) (s_isEmpty p31) fun x32 =>
    if x32 = 0 then
      getP 20 a0 5 fun p33 =>
      invI (some (p33, 8)) (s_size p33) fun x34 =>
      if x34 < 16 then
        J28 1
      else
        J29 ()
    else
      J29 ()
  else
    J29 ()
abbrev md_X1_plan : MD := (yX1_plan, cX1_plan, 7, (some (Jvm.ClassFile.FieldType.int)), RX1, 18, 840, 8054)
theorem hm_X1_plan : (md_X1_plan).y.cls ≠ "java/lang/invoke/MethodHandle" ∧ (md_X1_plan).y.cls ≠ "java/lang/invoke/VarHandle" ∧ (parseMethodDescriptor (md_X1_plan).y.desc).map (fun d => d.parameters.length) = some 2 := by decide +kernel
theorem m_X1_plan (a0 : Nat) (a1 : Int32) (a2 : Int32) : CMF md_X1_plan [cR a0, cI a1, cI a2] (g_X1_plan a0 a1 a2) := by
  refine cm_of (by decide +kernel) rfl (Nat.le_of_ble_eq_true rfl) ?_
  show CWF _ 840 8054 0 [(0, cR a0), (1, cI a1), (2, cI a2)] [] _
  unfold g_X1_plan
  refine cw_aload_n dX1_plan_0 rfl 0 rfl ?_
  refine cw_getP (ci := 0) (j := 3) (C := RX1) (T := TX1) (N := 11) rfl (by decide) rfl rfl (Or.inl q209) fSame_rfl dX1_plan_1 (fun p1 => ?_)
  refine cw_iload_n dX1_plan_4 rfl 1 rfl ?_
  refine cw_invP (d2 := md_X1_at) (c := 839) (q := 8048) (as := [cR p1, cI a1]) (mc := 1) (ms := 6) rfl rfl (okS (n := 2) rfl dX1_plan_5 (lw_S q883 q884 q111 q885) hm_X1_at (by decide) (by decide) (Nat.le_of_ble_eq_true rfl)) (m_X1_at p1 a1) rfl (fun p2 => ?_)
  refine cw_cast (ci := 5) (T := TX6) (N := 19) (C := RX6) rfl rfl q524 (Or.inl rfl) dX1_plan_8 ?_
  refine cw_astore_n (ls' := [(3, cR p2), (0, cR a0), (1, cI a1), (2, cI a2)]) dX1_plan_11 rfl (by decide) rfl ?_
  refine cw_iload_n dX1_plan_12 rfl 3 rfl ?_
  refine cw_iconst (v := 0) dX1_plan_13 (by decide) ?_
  refine cw_iconst (v := 1) dX1_plan_14 (by decide) ?_
  refine cw_invI (d2 := md_X1_isBetween) (c := 839) (q := 8048) (as := [cI a2, cI 0, cI 1]) (mc := 0) (ms := 0) rfl rfl (okS (n := 3) rfl dX1_plan_15 (lw_S q258 q259 q111 q260) hm_X1_isBetween (by decide) (by decide) (Nat.le_of_ble_eq_true rfl)) (m_X1_isBetween a2 0 1) rfl (fun x3 => ?_)
  refine cw_invV (d2 := md_X1_requireIndex) (c := 838) (q := 8042) (as := [cI x3]) (mc := 1) (ms := 6) rfl rfl (okS (n := 1) rfl dX1_plan_18 (lw_S q886 q887 q111 q888) hm_X1_requireIndex (by decide) (by decide) (Nat.le_of_ble_eq_true rfl)) (m_X1_requireIndex x3) rfl ?_
  refine cw_aload_n dX1_plan_21 rfl 0 rfl ?_
  refine cw_invI (d2 := md_X6_isOver) (c := 838) (q := 8042) (as := [cR p2]) (mc := 0) (ms := 0) rfl rfl (okV (ci := 5) (C := RX6) (T0 := TX6) (N := 19) (n := 0) rfl rfl rfl dX1_plan_22 (lw_V q1420 q1421 q1422 q137 q1423) ⟨rfl, hm_X6_isOver⟩ (by decide) (by decide) (Nat.le_of_ble_eq_true rfl)) (m_X6_isOver p2) rfl (fun x4 => ?_)
  refine cw_jn (cj := 838) (kj := 8042) (pcj := 62) (lsf := fun (s : Int32) => [(3, cR p2), (0, cR a0), (2, cI a2)]) (stf := fun (s : Int32) => [cI s]) (fun s => ?_) (fun J28 hJ28 => ?_)
  · obtain ⟨v5, e⟩ : ∃ z, z = s := ⟨_, rfl⟩
    subst e
    show CWF _ _ _ 62 [(3, cR p2), (0, cR a0), (2, cI a2)] [cI v5] _
    refine cw_invV (d2 := md_X1_requireState) (c := 837) (q := 8036) (as := [cI v5]) (mc := 1) (ms := 6) rfl rfl (okS (n := 1) rfl dX1_plan_62 (lw_S q772 q773 q111 q774) hm_X1_requireState (by decide) (by decide) (Nat.le_of_ble_eq_true rfl)) (m_X1_requireState v5) rfl ?_
    refine cw_iconst (v := 0) dX1_plan_65 (by decide) ?_
    refine cw_istore (ls' := [(4, cI 0), (3, cR p2), (0, cR a0), (2, cI a2)]) dX1_plan_66 (by decide) rfl ?_
    refine cw_aload_n dX1_plan_68 rfl 1 rfl ?_
    refine cw_getP (ci := 5) (j := 18) (C := RX6) (T := TX6) (N := 19) rfl (by decide) rfl rfl (Or.inr ⟨_, q1119⟩) fSame_rfl dX1_plan_69 (fun p6 => ?_)
    refine cw_getP (ci := 6) (j := 2) (C := RX7) (T := TX7) (N := 5) rfl (by decide) rfl rfl (Or.inr ⟨_, q1068⟩) fSame_rfl dX1_plan_72 (fun p7 => ?_)
    refine cw_iter (c := 836) (q := 8032) (la := 2) (ls' := [(4, cI 0), (3, cR p2), (0, cR a0), (2, cI a2)]) rfl (Or.inr ⟨dX1_plan_80, rfl⟩) (by decide) (okF (x := ⟨"java/util/List", "iterator", "()Ljava/util/Iterator;"⟩) (ci := 14) (C := RJ2) (T0 := TJ2) (N := 3) (n := 0) rfl (Or.inr ⟨rfl, rfl⟩) rfl dX1_plan_75 (lw_F q290 q295 q293 q114 q297) (List.mem_iff_getElem?.mpr ⟨3, rfl⟩) (show ("java/util/List" : String) ≠ _ ∧ ("java/util/List" : String) ≠ _ ∧ (parseMethodDescriptor (md_J2_iterator).y.desc).map (fun d => d.parameters.length) = some 0 from ⟨by decide, by decide, (hm_J2_iterator).2.2⟩) (by decide) (by decide) (Nat.le_of_ble_eq_true rfl)) (fun m8 => ?_)
    refine cw_jn (cj := 836) (kj := 8032) (pcj := 139) (lsf := fun (s : Int32) => [(3, cR p2), (0, cR a0), (2, cI a2), (4, cI s)]) (stf := fun (s : Int32) => []) (fun s => ?_) (fun J16 hJ16 => ?_)
    · obtain ⟨v9, e⟩ : ∃ z, z = s := ⟨_, rfl⟩
      subst e
      show CWF _ _ _ 139 [(3, cR p2), (0, cR a0), (2, cI a2), (4, cI v9)] [] _
      refine cw_aload_n dX1_plan_139 rfl 1 rfl ?_
      refine cw_getP (ci := 0) (j := 5) (C := RX1) (T := TX1) (N := 11) rfl (by decide) rfl rfl (Or.inl q211) fSame_rfl dX1_plan_140 (fun p10 => ?_)
      refine cw_new (c := 835) (q := 8027) (ci := 13) (C := RX15) (T := TX15) (N := 5) rfl rfl q1903 q1904 q152 dX1_plan_143 (fun p11 => ?_)
      refine cw_dup dX1_plan_146 rfl ?_
      refine cw_aload_n dX1_plan_147 rfl 0 rfl ?_
      refine cw_iload_n dX1_plan_148 rfl 2 rfl ?_
      refine cw_aload_n dX1_plan_149 rfl 1 rfl ?_
      refine cw_aload_n dX1_plan_150 rfl 0 rfl ?_
      refine cw_invI (d2 := md_X1_takes) (c := 1) (q := 64) (as := [cR a0, cR p2]) (mc := 834) (ms := 7963) rfl rfl (okV (ci := 0) (C := RX1) (T0 := TX1) (N := 11) (n := 1) rfl rfl rfl dX1_plan_151 (lw_V q1905 q1907 qs31 q111 q1908) ⟨rfl, hm_X1_takes⟩ (by decide) (by decide) (Nat.le_of_ble_eq_true rfl)) (m_X1_takes a0 p2) rfl (fun x12 => ?_)
      refine cw_iload dX1_plan_154 3 rfl ?_
      refine cw_invV (d2 := md_X15_init) (c := 1) (q := 64) (as := [cR p11, cR p2, cI a2, cI x12, cI v9]) (mc := 0) (ms := 0) rfl rfl (okI (n := 4) rfl rfl dX1_plan_156 (lw_meth q1911) q152 q1909 q1910 rfl hm_X15_init (by decide) (by decide) (Nat.le_of_ble_eq_true rfl) (by decide)) (m_X15_init p11 p2 a2 x12 v9) rfl ?_
      refine cw_invI (d2 := md_J2_add) (c := 0) (q := 0) (as := [cR p10, cR p11]) (mc := 1) (ms := 64) rfl rfl (okF (x := ⟨"java/util/List", "add", "(Ljava/lang/Object;)Z"⟩) (ci := 14) (C := RJ2) (T0 := TJ2) (N := 3) (n := 1) rfl (Or.inr ⟨rfl, rfl⟩) rfl dX1_plan_159 (lw_F q842 q587 q585 q114 q589) (List.mem_iff_getElem?.mpr ⟨9, rfl⟩) (show ("java/util/List" : String) ≠ _ ∧ ("java/util/List" : String) ≠ _ ∧ (parseMethodDescriptor (md_J2_add).y.desc).map (fun d => d.parameters.length) = some 1 from ⟨by decide, by decide, (hm_J2_add).2.2⟩) (by decide) (by decide) (Nat.le_of_ble_eq_true rfl)) (c_add p10 p11) rfl (fun x13 => ?_)
      refine cw_istore (ls' := [(5, cI x13), (3, cR p2), (0, cR a0), (2, cI a2), (4, cI v9)]) dX1_plan_164 (by decide) rfl ?_
      refine cw_aload_n dX1_plan_166 rfl 2 rfl ?_
      refine cw_getP (ci := 0) (j := 5) (C := RX1) (T := TX1) (N := 11) rfl (by decide) rfl rfl (Or.inl q211) fSame_rfl dX1_plan_167 (fun p14 => ?_)
      refine cw_invI (d2 := md_J2_size) (c := 0) (q := 0) (as := [cR p14]) (mc := 0) (ms := 0) rfl rfl (okF (x := ⟨"java/util/List", "size", "()I"⟩) (ci := 14) (C := RJ2) (T0 := TJ2) (N := 3) (n := 0) rfl (Or.inr ⟨rfl, rfl⟩) rfl dX1_plan_170 (lw_F q246 q251 q249 q114 q253) (List.mem_iff_getElem?.mpr ⟨1, rfl⟩) (show ("java/util/List" : String) ≠ _ ∧ ("java/util/List" : String) ≠ _ ∧ (parseMethodDescriptor (md_J2_size).y.desc).map (fun d => d.parameters.length) = some 0 from ⟨by decide, by decide, (hm_J2_size).2.2⟩) (by decide) (by decide) (Nat.le_of_ble_eq_true rfl)) (c_size p14) rfl (fun x15 => ?_)
      refine cw_iconst (v := 1) dX1_plan_175 (by decide) ?_
      refine cw_isub dX1_plan_176 ?_
      exact cw_iret rfl dX1_plan_177
    · refine cw_sub (ls' := [(3, cR p2), (0, cR a0), (2, cI a2), (4, cI 0), (5, cT p7 m8 0)]) [2, 3, 4, 1, 0] rfl ?_
      refine cw_loop0 (lsf := fun (s : Int32 × Nat) => [(3, cR p2), (0, cR a0), (2, cI a2), (4, cI s.1), (5, cT p7 m8 s.2)]) (fun rec19 hrec19 s => ?_) FU (0, 0)
      obtain ⟨l17, l18⟩ := s
      show CWF _ _ _ 82 [(3, cR p2), (0, cR a0), (2, cI a2), (4, cI l17), (5, cT p7 m8 l18)] [] _
      dsimp only [b_X1_plan_82]
      refine cw_sub (ls' := [(5, cT p7 m8 l18), (3, cR p2), (0, cR a0), (2, cI a2), (4, cI l17)]) [4, 0, 1, 2, 3] rfl ?_
      refine cw_hasNext (la := 2) rfl (Or.inr ⟨dX1_plan_82, rfl⟩) (fun x => okF (x := ⟨"java/util/Iterator", "hasNext", "()Z"⟩) (ci := 15) (C := RJ18) (T0 := TJ18) (N := 4) (n := 0) rfl (Or.inl rfl) rfl dX1_plan_84 (lw_F q318 q339 q337 q134 q341) (List.mem_iff_getElem?.mpr ⟨4, rfl⟩) (show ("java/util/Iterator" : String) ≠ _ ∧ ("java/util/Iterator" : String) ≠ _ ∧ (parseMethodDescriptor (md_J18_hasNext).y.desc).map (fun d => d.parameters.length) = some 0 from ⟨by decide, by decide, (hm_J18_hasNext).2.2⟩) (by decide) (by decide) (Nat.le_of_ble_eq_true rfl)) (fun x20 => ?_)
      refine cw_if_eq (tgt := 139) dX1_plan_89 (by decide) ?_ ?_
      · refine cw_sub (ls' := [(3, cR p2), (0, cR a0), (2, cI a2), (4, cI l17)]) [1, 2, 3, 4] rfl ?_
        exact hJ16 l17
      · refine cw_next (la := 2) rfl (Or.inr ⟨dX1_plan_92, rfl⟩) (fun x => okF (x := ⟨"java/util/Iterator", "next", "()Ljava/lang/Object;"⟩) (ci := 15) (C := RJ18) (T0 := TJ18) (N := 4) (n := 0) rfl (Or.inl rfl) rfl dX1_plan_94 (lw_F q343 q432 q430 q134 q434) (List.mem_iff_getElem?.mpr ⟨6, rfl⟩) (show ("java/util/Iterator" : String) ≠ _ ∧ ("java/util/Iterator" : String) ≠ _ ∧ (parseMethodDescriptor (md_J18_next).y.desc).map (fun d => d.parameters.length) = some 0 from ⟨by decide, by decide, (hm_J18_next).2.2⟩) (by decide) (by decide) (Nat.le_of_ble_eq_true rfl)) (fun p21 => ?_)
        refine cw_cast (ci := 7) (T := TX8) (N := 10) (C := RX8) rfl rfl q525 (Or.inl rfl) dX1_plan_99 ?_
        refine cw_astore (ls' := [(6, cR p21), (5, cT p7 m8 (l18 + 1)), (3, cR p2), (0, cR a0), (2, cI a2), (4, cI l17)]) dX1_plan_102 (by decide) rfl ?_
        refine cw_iload dX1_plan_104 5 rfl ?_
        refine cw_iconst (v := 1) dX1_plan_106 (by decide) ?_
        refine cw_aload dX1_plan_107 0 rfl ?_
        refine cw_getP (ci := 7) (j := 1) (C := RX8) (T := TX8) (N := 10) rfl (by decide) rfl rfl (Or.inr ⟨_, q1253⟩) fSame_rfl dX1_plan_109 (fun p22 => ?_)
        refine cw_getP (ci := 4) (j := 1) (C := RX5) (T := TX5) (N := 5) rfl (by decide) rfl rfl (Or.inr ⟨_, q1011⟩) fSame_rfl dX1_plan_112 (fun p23 => ?_)
        refine cw_getI (ci := 2) (j := 0) (C := RX3) (T := TX3) (N := 9) rfl (by decide) rfl rfl (Or.inr ⟨_, q805⟩) fSame_rfl dX1_plan_115 (fun x24 => ?_)
        refine cw_ishl dX1_plan_118 ?_
        refine cw_iconst (v := 1) dX1_plan_119 (by decide) ?_
        refine cw_aload dX1_plan_120 0 rfl ?_
        refine cw_getP (ci := 7) (j := 1) (C := RX8) (T := TX8) (N := 10) rfl (by decide) rfl rfl (Or.inr ⟨_, q1253⟩) fSame_rfl dX1_plan_122 (fun p25 => ?_)
        refine cw_getP (ci := 4) (j := 2) (C := RX5) (T := TX5) (N := 5) rfl (by decide) rfl rfl (Or.inr ⟨_, q1014⟩) fSame_rfl dX1_plan_125 (fun p26 => ?_)
        refine cw_getI (ci := 2) (j := 0) (C := RX3) (T := TX3) (N := 9) rfl (by decide) rfl rfl (Or.inr ⟨_, q805⟩) fSame_rfl dX1_plan_128 (fun x27 => ?_)
        refine cw_ishl dX1_plan_131 ?_
        refine cw_ior dX1_plan_132 ?_
        refine cw_ior dX1_plan_133 ?_
        refine cw_istore (ls' := [(4, cI (l17 ||| ((1 <<< (x24 &&& 31)) ||| (1 <<< (x27 &&& 31))))), (6, cR p21), (5, cT p7 m8 (l18 + 1)), (3, cR p2), (0, cR a0), (2, cI a2)]) dX1_plan_134 (by decide) rfl ?_
        refine cw_goto (tgt := 82) dX1_plan_136 (by decide) ?_
        refine cw_sub (ls' := [(3, cR p2), (0, cR a0), (2, cI a2), (4, cI (l17 ||| ((1 <<< (x24 &&& 31)) ||| (1 <<< (x27 &&& 31))))), (5, cT p7 m8 (l18 + 1))]) [3, 4, 5, 0, 2] rfl ?_
        exact hrec19 ((l17 ||| ((1 <<< (x24 &&& 31)) ||| (1 <<< (x27 &&& 31)))), (l18 + 1))
  · refine cw_jn (cj := 838) (kj := 8042) (pcj := 61) (lsf := fun (s : Unit) => [(3, cR p2), (0, cR a0), (2, cI a2)]) (stf := fun (s : Unit) => []) (fun s => ?_) (fun J29 hJ29 => ?_)
    · show CWF _ _ _ 61 [(3, cR p2), (0, cR a0), (2, cI a2)] [] _
      refine cw_iconst (v := 0) dX1_plan_61 (by decide) ?_
      exact hJ28 0
    · refine cw_if_ne (tgt := 61) dX1_plan_25 (by decide) ?_ ?_
      · refine cw_sub (ls' := [(3, cR p2), (0, cR a0), (2, cI a2)]) [0, 1, 3] rfl ?_
        exact hJ29 ()
      · refine cw_aload_n dX1_plan_28 rfl 0 rfl ?_
        refine cw_getP (ci := 5) (j := 18) (C := RX6) (T := TX6) (N := 19) rfl (by decide) rfl rfl (Or.inr ⟨_, q1119⟩) fSame_rfl dX1_plan_29 (fun p30 => ?_)
        refine cw_getP (ci := 6) (j := 2) (C := RX7) (T := TX7) (N := 5) rfl (by decide) rfl rfl (Or.inr ⟨_, q1068⟩) fSame_rfl dX1_plan_32 (fun p31 => ?_)
        refine cw_invI (d2 := md_J2_isEmpty) (c := 838) (q := 8042) (as := [cR p31]) (mc := 0) (ms := 0) rfl rfl (okF (x := ⟨"java/util/List", "isEmpty", "()Z"⟩) (ci := 14) (C := RJ2) (T0 := TJ2) (N := 3) (n := 0) rfl (Or.inr ⟨rfl, rfl⟩) rfl dX1_plan_35 (lw_F q735 q333 q331 q114 q335) (List.mem_iff_getElem?.mpr ⟨5, rfl⟩) (show ("java/util/List" : String) ≠ _ ∧ ("java/util/List" : String) ≠ _ ∧ (parseMethodDescriptor (md_J2_isEmpty).y.desc).map (fun d => d.parameters.length) = some 0 from ⟨by decide, by decide, (hm_J2_isEmpty).2.2⟩) (by decide) (by decide) (Nat.le_of_ble_eq_true rfl)) (c_isEmpty p31) rfl (fun x32 => ?_)
        refine cw_if_ne (tgt := 61) dX1_plan_40 (by decide) ?_ ?_
        · refine cw_sub (ls' := [(3, cR p2), (0, cR a0), (2, cI a2)]) [0, 1, 3] rfl ?_
          exact hJ29 ()
        · refine cw_aload_n dX1_plan_43 rfl 1 rfl ?_
          refine cw_getP (ci := 0) (j := 5) (C := RX1) (T := TX1) (N := 11) rfl (by decide) rfl rfl (Or.inl q211) fSame_rfl dX1_plan_44 (fun p33 => ?_)
          refine cw_invI (d2 := md_J2_size) (c := 838) (q := 8042) (as := [cR p33]) (mc := 0) (ms := 0) rfl rfl (okF (x := ⟨"java/util/List", "size", "()I"⟩) (ci := 14) (C := RJ2) (T0 := TJ2) (N := 3) (n := 0) rfl (Or.inr ⟨rfl, rfl⟩) rfl dX1_plan_47 (lw_F q246 q251 q249 q114 q253) (List.mem_iff_getElem?.mpr ⟨1, rfl⟩) (show ("java/util/List" : String) ≠ _ ∧ ("java/util/List" : String) ≠ _ ∧ (parseMethodDescriptor (md_J2_size).y.desc).map (fun d => d.parameters.length) = some 0 from ⟨by decide, by decide, (hm_J2_size).2.2⟩) (by decide) (by decide) (Nat.le_of_ble_eq_true rfl)) (c_size p33) rfl (fun x34 => ?_)
          refine cw_bipush (v := 16) dX1_plan_52 (by decide) ?_
          refine cw_icmp_ge (tgt := 61) dX1_plan_54 (by decide) ?_ ?_
          · refine cw_sub (ls' := [(3, cR p2), (0, cR a0), (2, cI a2)]) [0, 1, 3] rfl ?_
            exact hJ29 ()
          · refine cw_iconst (v := 1) dX1_plan_57 (by decide) ?_
            refine cw_goto (tgt := 62) dX1_plan_58 (by decide) ?_
            refine cw_sub (ls' := [(3, cR p2), (0, cR a0), (2, cI a2)]) [0, 1, 3] rfl ?_
            exact hJ28 1
def b_X1_begins_37 (a0 : Nat) (p1 : Nat) (l3 : Int32) (p6 : Nat) (J10 : Int32 → GF) (rec13 : (Int32 × Int32) → GF) : (Int32 × Int32) → GF := fun (s : Int32 × Int32) => match s with
  | (l11, l12) =>
    if l12 < l3 then
      getP 20 a0 5 fun p14 =>
      invP (some (p14, 8)) (s_get p14 l12) fun p15 =>
      castG 33 p15 <|
      getI 33 p15 1 fun x16 =>
      getI 33 p6 1 fun x17 =>
      jnG (fun (v18 : Int32) =>
        getI 33 p15 3 fun x19 =>
        getI 33 p6 3 fun x20 =>
        if (x19 &&& x20) = 0 then
          rec13 (v18, (l12 + 1))
        else
          ialdG 1 p1 l12 fun x21 =>
          rec13 ((imax v18 (x21 + 300)), (l12 + 1))) fun J22 =>
      if x16 = x17 then
        ialdG 1 p1 l12 fun x23 =>
        J22 (imax l11 x23)
      else
        J22 l11
    else
      J10 l11
def b_X1_begins_10 (a0 : Nat) (a1 : Int32) (p1 : Nat) (rec4 : (Int32 × Int32) → GF) : (Int32 × Int32) → GF := fun (s : Int32 × Int32) => match s with
  | (l2, l3) =>
    if l3 ≤ a1 then
      getP 20 a0 5 fun p5 =>
      invP (some (p5, 8)) (s_get p5 l3) fun p6 =>
      castG 33 p6 <|
      jnG (fun (v7 : Int32) =>
        getI 33 p6 4 fun x8 =>
        getI 33 p6 2 fun x9 =>
        iastG p1 l3 ((v7 + x8) + x9) <|
        rec4 ((v7 + x8), (l3 + 1))) fun J10 =>
      loopG (b_X1_begins_37 a0 p1 l3 p6 J10) FU (0, 0)
    else
      retG (rI l2)
def g_X1_begins (a0 : Nat) (a1 : Int32) : GF :=
  newaG 1 16 16 fun p1 =>
  loopG (b_X1_begins_10 a0 a1 p1) FU (0, 0)
abbrev md_X1_begins : MD := (yX1_begins, cX1_begins, 8, (some (Jvm.ClassFile.FieldType.int)), RX1, 13, 1, 16)
theorem hm_X1_begins : (md_X1_begins).y.cls ≠ "java/lang/invoke/MethodHandle" ∧ (md_X1_begins).y.cls ≠ "java/lang/invoke/VarHandle" ∧ (parseMethodDescriptor (md_X1_begins).y.desc).map (fun d => d.parameters.length) = some 1 := by decide +kernel
theorem m_X1_begins (a0 : Nat) (a1 : Int32) : CMF md_X1_begins [cR a0, cI a1] (g_X1_begins a0 a1) := by
  refine cm_of (by decide +kernel) rfl (Nat.le_of_ble_eq_true rfl) ?_
  show CWF _ 1 16 0 [(0, cR a0), (1, cI a1)] [] _
  unfold g_X1_begins
  refine cw_bipush (v := 16) dX1_begins_0 (by decide) ?_
  refine cw_newarr (c := 0) (q := 0) (B := 16) (t := 1) (Or.inl ⟨rfl, rfl⟩) (by decide) q240 dX1_begins_2 (fun p1 => ?_)
  refine cw_astore_n (ls' := [(2, cR p1), (0, cR a0), (1, cI a1)]) dX1_begins_4 rfl (by decide) rfl ?_
  refine cw_iconst (v := 0) dX1_begins_5 (by decide) ?_
  refine cw_istore_n (ls' := [(3, cI 0), (2, cR p1), (0, cR a0), (1, cI a1)]) dX1_begins_6 rfl (by decide) rfl ?_
  refine cw_iconst (v := 0) dX1_begins_7 (by decide) ?_
  refine cw_istore (ls' := [(4, cI 0), (3, cI 0), (2, cR p1), (0, cR a0), (1, cI a1)]) dX1_begins_8 (by decide) rfl ?_
  refine cw_sub (ls' := [(2, cR p1), (0, cR a0), (1, cI a1), (3, cI 0), (4, cI 0)]) [2, 3, 4, 1, 0] rfl ?_
  refine cw_loop0 (lsf := fun (s : Int32 × Int32) => [(2, cR p1), (0, cR a0), (1, cI a1), (3, cI s.1), (4, cI s.2)]) (fun rec4 hrec4 s => ?_) FU (0, 0)
  obtain ⟨l2, l3⟩ := s
  show CWF _ _ _ 10 [(2, cR p1), (0, cR a0), (1, cI a1), (3, cI l2), (4, cI l3)] [] _
  dsimp only [b_X1_begins_10]
  refine cw_iload dX1_begins_10 4 rfl ?_
  refine cw_iload_n dX1_begins_12 rfl 2 rfl ?_
  refine cw_icmp_gt (tgt := 140) dX1_begins_13 (by decide) ?_ ?_
  · refine cw_iload_n dX1_begins_140 rfl 3 rfl ?_
    exact cw_iret rfl dX1_begins_141
  · refine cw_aload_n dX1_begins_16 rfl 1 rfl ?_
    refine cw_getP (ci := 0) (j := 5) (C := RX1) (T := TX1) (N := 11) rfl (by decide) rfl rfl (Or.inl q211) fSame_rfl dX1_begins_17 (fun p5 => ?_)
    refine cw_iload dX1_begins_20 4 rfl ?_
    refine cw_invP (d2 := md_J2_get) (c := 0) (q := 0) (as := [cR p5, cI l3]) (mc := 0) (ms := 0) rfl rfl (okF (x := ⟨"java/util/List", "get", "(I)Ljava/lang/Object;"⟩) (ci := 14) (C := RJ2) (T0 := TJ2) (N := 3) (n := 1) rfl (Or.inr ⟨rfl, rfl⟩) rfl dX1_begins_22 (lw_F q262 q267 q265 q114 q269) (List.mem_iff_getElem?.mpr ⟨2, rfl⟩) (show ("java/util/List" : String) ≠ _ ∧ ("java/util/List" : String) ≠ _ ∧ (parseMethodDescriptor (md_J2_get).y.desc).map (fun d => d.parameters.length) = some 1 from ⟨by decide, by decide, (hm_J2_get).2.2⟩) (by decide) (by decide) (Nat.le_of_ble_eq_true rfl)) (c_get p5 l3) rfl (fun p6 => ?_)
    refine cw_cast (ci := 13) (T := TX15) (N := 5) (C := RX15) rfl rfl q1903 (Or.inl rfl) dX1_begins_27 ?_
    refine cw_astore (ls' := [(5, cR p6), (2, cR p1), (0, cR a0), (1, cI a1), (3, cI l2), (4, cI l3)]) dX1_begins_30 (by decide) rfl ?_
    refine cw_iconst (v := 0) dX1_begins_32 (by decide) ?_
    refine cw_istore_n (ls' := [(3, cI 0), (5, cR p6), (2, cR p1), (0, cR a0), (1, cI a1), (4, cI l3)]) dX1_begins_33 rfl (by decide) rfl ?_
    refine cw_iconst (v := 0) dX1_begins_34 (by decide) ?_
    refine cw_istore (ls' := [(6, cI 0), (3, cI 0), (5, cR p6), (2, cR p1), (0, cR a0), (1, cI a1), (4, cI l3)]) dX1_begins_35 (by decide) rfl ?_
    refine cw_jn (cj := 0) (kj := 0) (pcj := 115) (lsf := fun (s : Int32) => [(5, cR p6), (2, cR p1), (0, cR a0), (1, cI a1), (4, cI l3), (3, cI s)]) (stf := fun (s : Int32) => []) (fun s => ?_) (fun J10 hJ10 => ?_)
    · obtain ⟨v7, e⟩ : ∃ z, z = s := ⟨_, rfl⟩
      subst e
      show CWF _ _ _ 115 [(5, cR p6), (2, cR p1), (0, cR a0), (1, cI a1), (4, cI l3), (3, cI v7)] [] _
      refine cw_iload_n dX1_begins_115 rfl 5 rfl ?_
      refine cw_aload dX1_begins_116 0 rfl ?_
      refine cw_getI (ci := 13) (j := 4) (C := RX15) (T := TX15) (N := 5) rfl (by decide) rfl rfl (Or.inr ⟨_, q1921⟩) fSame_rfl dX1_begins_118 (fun x8 => ?_)
      refine cw_iadd dX1_begins_121 ?_
      refine cw_istore_n (ls' := [(3, cI (v7 + x8)), (5, cR p6), (2, cR p1), (0, cR a0), (1, cI a1), (4, cI l3)]) dX1_begins_122 rfl (by decide) rfl ?_
      refine cw_aload_n dX1_begins_123 rfl 2 rfl ?_
      refine cw_iload dX1_begins_124 5 rfl ?_
      refine cw_iload_n dX1_begins_126 rfl 0 rfl ?_
      refine cw_aload dX1_begins_127 1 rfl ?_
      refine cw_getI (ci := 13) (j := 2) (C := RX15) (T := TX15) (N := 5) rfl (by decide) rfl rfl (Or.inr ⟨_, q1918⟩) fSame_rfl dX1_begins_129 (fun x9 => ?_)
      refine cw_iadd dX1_begins_132 ?_
      refine cw_iast dX1_begins_133 ?_
      refine cw_iinc (v := (l3 + 1)) (ls' := [(4, cI (l3 + 1)), (3, cI (v7 + x8)), (5, cR p6), (2, cR p1), (0, cR a0), (1, cI a1)]) dX1_begins_134 5 rfl rfl (by decide) rfl ?_
      refine cw_goto (tgt := 10) dX1_begins_137 (by decide) ?_
      refine cw_sub (ls' := [(2, cR p1), (0, cR a0), (1, cI a1), (3, cI (v7 + x8)), (4, cI (l3 + 1))]) [3, 4, 5, 1, 0] rfl ?_
      exact hrec4 ((v7 + x8), (l3 + 1))
    · refine cw_sub (ls' := [(5, cR p6), (2, cR p1), (0, cR a0), (1, cI a1), (4, cI l3), (3, cI 0), (6, cI 0)]) [2, 3, 4, 5, 6, 1, 0] rfl ?_
      refine cw_loop0 (lsf := fun (s : Int32 × Int32) => [(5, cR p6), (2, cR p1), (0, cR a0), (1, cI a1), (4, cI l3), (3, cI s.1), (6, cI s.2)]) (fun rec13 hrec13 s => ?_) FU (0, 0)
      obtain ⟨l11, l12⟩ := s
      show CWF _ _ _ 37 [(5, cR p6), (2, cR p1), (0, cR a0), (1, cI a1), (4, cI l3), (3, cI l11), (6, cI l12)] [] _
      dsimp only [b_X1_begins_37]
      refine cw_iload dX1_begins_37 6 rfl ?_
      refine cw_iload dX1_begins_39 4 rfl ?_
      refine cw_icmp_ge (tgt := 115) dX1_begins_41 (by decide) ?_ ?_
      · refine cw_sub (ls' := [(5, cR p6), (2, cR p1), (0, cR a0), (1, cI a1), (4, cI l3), (3, cI l11)]) [0, 1, 2, 3, 4, 5] rfl ?_
        exact hJ10 l11
      · refine cw_aload_n dX1_begins_44 rfl 2 rfl ?_
        refine cw_getP (ci := 0) (j := 5) (C := RX1) (T := TX1) (N := 11) rfl (by decide) rfl rfl (Or.inl q211) fSame_rfl dX1_begins_45 (fun p14 => ?_)
        refine cw_iload dX1_begins_48 6 rfl ?_
        refine cw_invP (d2 := md_J2_get) (c := 0) (q := 0) (as := [cR p14, cI l12]) (mc := 0) (ms := 0) rfl rfl (okF (x := ⟨"java/util/List", "get", "(I)Ljava/lang/Object;"⟩) (ci := 14) (C := RJ2) (T0 := TJ2) (N := 3) (n := 1) rfl (Or.inr ⟨rfl, rfl⟩) rfl dX1_begins_50 (lw_F q262 q267 q265 q114 q269) (List.mem_iff_getElem?.mpr ⟨2, rfl⟩) (show ("java/util/List" : String) ≠ _ ∧ ("java/util/List" : String) ≠ _ ∧ (parseMethodDescriptor (md_J2_get).y.desc).map (fun d => d.parameters.length) = some 1 from ⟨by decide, by decide, (hm_J2_get).2.2⟩) (by decide) (by decide) (Nat.le_of_ble_eq_true rfl)) (c_get p14 l12) rfl (fun p15 => ?_)
        refine cw_cast (ci := 13) (T := TX15) (N := 5) (C := RX15) rfl rfl q1903 (Or.inl rfl) dX1_begins_55 ?_
        refine cw_astore (ls' := [(7, cR p15), (5, cR p6), (2, cR p1), (0, cR a0), (1, cI a1), (4, cI l3), (3, cI l11), (6, cI l12)]) dX1_begins_58 (by decide) rfl ?_
        refine cw_aload dX1_begins_60 0 rfl ?_
        refine cw_getI (ci := 13) (j := 1) (C := RX15) (T := TX15) (N := 5) rfl (by decide) rfl rfl (Or.inr ⟨_, q1916⟩) fSame_rfl dX1_begins_62 (fun x16 => ?_)
        refine cw_aload dX1_begins_65 1 rfl ?_
        refine cw_getI (ci := 13) (j := 1) (C := RX15) (T := TX15) (N := 5) rfl (by decide) rfl rfl (Or.inr ⟨_, q1916⟩) fSame_rfl dX1_begins_67 (fun x17 => ?_)
        refine cw_jn (cj := 0) (kj := 0) (pcj := 82) (lsf := fun (s : Int32) => [(7, cR p15), (5, cR p6), (2, cR p1), (0, cR a0), (1, cI a1), (4, cI l3), (6, cI l12), (3, cI s)]) (stf := fun (s : Int32) => []) (fun s => ?_) (fun J22 hJ22 => ?_)
        · obtain ⟨v18, e⟩ : ∃ z, z = s := ⟨_, rfl⟩
          subst e
          show CWF _ _ _ 82 [(7, cR p15), (5, cR p6), (2, cR p1), (0, cR a0), (1, cI a1), (4, cI l3), (6, cI l12), (3, cI v18)] [] _
          refine cw_aload dX1_begins_82 0 rfl ?_
          refine cw_getI (ci := 13) (j := 3) (C := RX15) (T := TX15) (N := 5) rfl (by decide) rfl rfl (Or.inr ⟨_, q1920⟩) fSame_rfl dX1_begins_84 (fun x19 => ?_)
          refine cw_aload dX1_begins_87 1 rfl ?_
          refine cw_getI (ci := 13) (j := 3) (C := RX15) (T := TX15) (N := 5) rfl (by decide) rfl rfl (Or.inr ⟨_, q1920⟩) fSame_rfl dX1_begins_89 (fun x20 => ?_)
          refine cw_iand dX1_begins_92 ?_
          refine cw_if_eq (tgt := 109) dX1_begins_93 (by decide) ?_ ?_
          · refine cw_iinc (v := (l12 + 1)) (ls' := [(6, cI (l12 + 1)), (7, cR p15), (5, cR p6), (2, cR p1), (0, cR a0), (1, cI a1), (4, cI l3), (3, cI v18)]) dX1_begins_109 6 rfl rfl (by decide) rfl ?_
            refine cw_goto (tgt := 37) dX1_begins_112 (by decide) ?_
            refine cw_sub (ls' := [(5, cR p6), (2, cR p1), (0, cR a0), (1, cI a1), (4, cI l3), (3, cI v18), (6, cI (l12 + 1))]) [2, 3, 4, 5, 6, 7, 0] rfl ?_
            exact hrec13 (v18, (l12 + 1))
          · refine cw_iload_n dX1_begins_96 rfl 7 rfl ?_
            refine cw_aload_n dX1_begins_97 rfl 2 rfl ?_
            refine cw_iload dX1_begins_98 6 rfl ?_
            refine cw_iald dX1_begins_100 (fun x21 => ?_)
            refine cw_sipush (v := 300) dX1_begins_101 (by decide) ?_
            refine cw_iadd dX1_begins_104 ?_
            refine cw_mmax q964 (by decide) (Nat.le_of_ble_eq_true rfl) dX1_begins_105 ?_
            refine cw_istore_n (ls' := [(3, cI (imax v18 (x21 + 300))), (7, cR p15), (5, cR p6), (2, cR p1), (0, cR a0), (1, cI a1), (4, cI l3), (6, cI l12)]) dX1_begins_108 rfl (by decide) rfl ?_
            refine cw_iinc (v := (l12 + 1)) (ls' := [(6, cI (l12 + 1)), (3, cI (imax v18 (x21 + 300))), (7, cR p15), (5, cR p6), (2, cR p1), (0, cR a0), (1, cI a1), (4, cI l3)]) dX1_begins_109 7 rfl rfl (by decide) rfl ?_
            refine cw_goto (tgt := 37) dX1_begins_112 (by decide) ?_
            refine cw_sub (ls' := [(5, cR p6), (2, cR p1), (0, cR a0), (1, cI a1), (4, cI l3), (3, cI (imax v18 (x21 + 300))), (6, cI (l12 + 1))]) [3, 4, 5, 6, 7, 1, 0] rfl ?_
            exact hrec13 ((imax v18 (x21 + 300)), (l12 + 1))
        · refine cw_icmp_ne (tgt := 82) dX1_begins_70 (by decide) ?_ ?_
          · refine cw_sub (ls' := [(7, cR p15), (5, cR p6), (2, cR p1), (0, cR a0), (1, cI a1), (4, cI l3), (6, cI l12), (3, cI l11)]) [0, 1, 2, 3, 4, 5, 7, 6] rfl ?_
            exact hJ22 l11
          · refine cw_iload_n dX1_begins_73 rfl 6 rfl ?_
            refine cw_aload_n dX1_begins_74 rfl 2 rfl ?_
            refine cw_iload dX1_begins_75 7 rfl ?_
            refine cw_iald dX1_begins_77 (fun x23 => ?_)
            refine cw_mmax q964 (by decide) (Nat.le_of_ble_eq_true rfl) dX1_begins_78 ?_
            refine cw_istore_n (ls' := [(3, cI (imax l11 x23)), (7, cR p15), (5, cR p6), (2, cR p1), (0, cR a0), (1, cI a1), (4, cI l3), (6, cI l12)]) dX1_begins_81 rfl (by decide) rfl ?_
            refine cw_sub (ls' := [(7, cR p15), (5, cR p6), (2, cR p1), (0, cR a0), (1, cI a1), (4, cI l3), (6, cI l12), (3, cI (imax l11 x23))]) [1, 2, 3, 4, 5, 6, 7, 0] rfl ?_
            exact hJ22 (imax l11 x23)
def g_X1_late (a0 : Nat) (a1 : Int32) (a2 : Int32) : GF :=
  getP 20 a0 5 fun p1 =>
  invP none (g_X1_at p1 a1) fun p2 =>
  castG 33 p2 <|
  invI none (g_X1_isBetween a2 0 3600) fun x3 =>
  invV none (g_X1_requireArgument x3) <|
  putI 33 p2 4 a2 <|
  invI (some (a0, 20)) (g_X1_begins a0 a1) fun x4 =>
  retG (rI x4)
abbrev md_X1_late : MD := (yX1_late, cX1_late, 4, (some (Jvm.ClassFile.FieldType.int)), RX1, 14, 3, 28)
theorem hm_X1_late : (md_X1_late).y.cls ≠ "java/lang/invoke/MethodHandle" ∧ (md_X1_late).y.cls ≠ "java/lang/invoke/VarHandle" ∧ (parseMethodDescriptor (md_X1_late).y.desc).map (fun d => d.parameters.length) = some 2 := by decide +kernel
theorem m_X1_late (a0 : Nat) (a1 : Int32) (a2 : Int32) : CMF md_X1_late [cR a0, cI a1, cI a2] (g_X1_late a0 a1 a2) := by
  refine cm_of (by decide +kernel) rfl (Nat.le_of_ble_eq_true rfl) ?_
  show CWF _ 3 28 0 [(0, cR a0), (1, cI a1), (2, cI a2)] [] _
  unfold g_X1_late
  refine cw_aload_n dX1_late_0 rfl 0 rfl ?_
  refine cw_getP (ci := 0) (j := 5) (C := RX1) (T := TX1) (N := 11) rfl (by decide) rfl rfl (Or.inl q211) fSame_rfl dX1_late_1 (fun p1 => ?_)
  refine cw_iload_n dX1_late_4 rfl 1 rfl ?_
  refine cw_invP (d2 := md_X1_at) (c := 2) (q := 22) (as := [cR p1, cI a1]) (mc := 1) (ms := 6) rfl rfl (okS (n := 2) rfl dX1_late_5 (lw_S q883 q884 q111 q885) hm_X1_at (by decide) (by decide) (Nat.le_of_ble_eq_true rfl)) (m_X1_at p1 a1) rfl (fun p2 => ?_)
  refine cw_cast (ci := 13) (T := TX15) (N := 5) (C := RX15) rfl rfl q1903 (Or.inl rfl) dX1_late_8 ?_
  refine cw_astore_n (ls' := [(3, cR p2), (0, cR a0), (1, cI a1), (2, cI a2)]) dX1_late_11 rfl (by decide) rfl ?_
  refine cw_iload_n dX1_late_12 rfl 3 rfl ?_
  refine cw_iconst (v := 0) dX1_late_13 (by decide) ?_
  refine cw_sipush (v := 3600) dX1_late_14 (by decide) ?_
  refine cw_invI (d2 := md_X1_isBetween) (c := 2) (q := 22) (as := [cI a2, cI 0, cI 3600]) (mc := 0) (ms := 0) rfl rfl (okS (n := 3) rfl dX1_late_17 (lw_S q258 q259 q111 q260) hm_X1_isBetween (by decide) (by decide) (Nat.le_of_ble_eq_true rfl)) (m_X1_isBetween a2 0 3600) rfl (fun x3 => ?_)
  refine cw_invV (d2 := md_X1_requireArgument) (c := 1) (q := 16) (as := [cI x3]) (mc := 1) (ms := 6) rfl rfl (okS (n := 1) rfl dX1_late_20 (lw_S q744 q745 q111 q746) hm_X1_requireArgument (by decide) (by decide) (Nat.le_of_ble_eq_true rfl)) (m_X1_requireArgument x3) rfl ?_
  refine cw_aload_n dX1_late_23 rfl 0 rfl ?_
  refine cw_iload_n dX1_late_24 rfl 3 rfl ?_
  refine cw_putI (ci := 13) (j := 4) (C := RX15) (T := TX15) (N := 5) rfl (by decide) rfl rfl (Or.inr ⟨_, q1921⟩) fSame_rfl (Or.inl rfl) dX1_late_25 ?_
  refine cw_aload_n dX1_late_28 rfl 1 rfl ?_
  refine cw_iload_n dX1_late_29 rfl 2 rfl ?_
  refine cw_invI (d2 := md_X1_begins) (c := 0) (q := 0) (as := [cR a0, cI a1]) (mc := 1) (ms := 16) rfl rfl (okV (ci := 0) (C := RX1) (T0 := TX1) (N := 11) (n := 1) rfl rfl rfl dX1_late_30 (lw_V q1940 q1942 qs32 q111 q1943) ⟨rfl, hm_X1_begins⟩ (by decide) (by decide) (Nat.le_of_ble_eq_true rfl)) (m_X1_begins a0 a1) rfl (fun x4 => ?_)
  exact cw_iret rfl dX1_late_33
def b_X1_coupleOf_12 (a1 : Nat) (p1 : Nat) (m2 : Int32) (rec5 : (Int32 × Nat) → GF) : (Int32 × Nat) → GF := fun (s : Int32 × Nat) => match s with
  | (l3, l4) =>
    hasG p1 l4 fun x6 =>
    if x6 = 0 then
      retG (rI l3)
    else
      nextG p1 m2 l4 fun p7 =>
      castG 24 p7 <|
      getI 24 p7 4 fun x8 =>
      jnG (fun (v9 : Int32) =>
        rec5 (v9, (l4 + 1))) fun J10 =>
      jnG (fun (_ : Unit) =>
        J10 l3) fun J11 =>
      if x8 = 0 then
        J11 ()
      else
        invI (some (p7, 24)) (g_X5_has p7 a1) fun x12 =>
        if x12 = 0 then
          J11 ()
        else
          getI 24 p7 0 fun x13 =>
          J10 x13
def g_X1_coupleOf (a0 : Nat) (a1 : Nat) : GF :=
  getP 20 a0 2 fun p1 =>
  itG p1 fun m2 =>
  loopG (b_X1_coupleOf_12 a1 p1 m2) FU ((-1 : Int32), 0)
abbrev md_X1_coupleOf : MD := (yX1_coupleOf, cX1_coupleOf, 5, (some (Jvm.ClassFile.FieldType.int)), RX1, 12, 1, 4)
theorem hm_X1_coupleOf : (md_X1_coupleOf).y.cls ≠ "java/lang/invoke/MethodHandle" ∧ (md_X1_coupleOf).y.cls ≠ "java/lang/invoke/VarHandle" ∧ (parseMethodDescriptor (md_X1_coupleOf).y.desc).map (fun d => d.parameters.length) = some 1 := by decide +kernel
theorem m_X1_coupleOf (a0 : Nat) (a1 : Nat) : CMF md_X1_coupleOf [cR a0, cR a1] (g_X1_coupleOf a0 a1) := by
  refine cm_of (by decide +kernel) rfl (Nat.le_of_ble_eq_true rfl) ?_
  show CWF _ 1 4 0 [(0, cR a0), (1, cR a1)] [] _
  unfold g_X1_coupleOf
  refine cw_iconst (v := -1) dX1_coupleOf_0 (by decide) ?_
  refine cw_istore_n (ls' := [(2, cI (-1 : Int32)), (0, cR a0), (1, cR a1)]) dX1_coupleOf_1 rfl (by decide) rfl ?_
  refine cw_aload_n dX1_coupleOf_2 rfl 1 rfl ?_
  refine cw_getP (ci := 0) (j := 2) (C := RX1) (T := TX1) (N := 11) rfl (by decide) rfl rfl (Or.inl q208) fSame_rfl dX1_coupleOf_3 (fun p1 => ?_)
  refine cw_iter (c := 0) (q := 0) (la := 1) (ls' := [(2, cI (-1 : Int32)), (0, cR a0), (1, cR a1)]) rfl (Or.inl ⟨_, dX1_coupleOf_11, rfl, rfl⟩) (by decide) (okF (x := ⟨"java/util/List", "iterator", "()Ljava/util/Iterator;"⟩) (ci := 14) (C := RJ2) (T0 := TJ2) (N := 3) (n := 0) rfl (Or.inr ⟨rfl, rfl⟩) rfl dX1_coupleOf_6 (lw_F q290 q295 q293 q114 q297) (List.mem_iff_getElem?.mpr ⟨3, rfl⟩) (show ("java/util/List" : String) ≠ _ ∧ ("java/util/List" : String) ≠ _ ∧ (parseMethodDescriptor (md_J2_iterator).y.desc).map (fun d => d.parameters.length) = some 0 from ⟨by decide, by decide, (hm_J2_iterator).2.2⟩) (by decide) (by decide) (Nat.le_of_ble_eq_true rfl)) (fun m2 => ?_)
  refine cw_sub (ls' := [(1, cR a1), (2, cI (-1 : Int32)), (3, cT p1 m2 0)]) [3, 1, 0] rfl ?_
  refine cw_loop0 (lsf := fun (s : Int32 × Nat) => [(1, cR a1), (2, cI s.1), (3, cT p1 m2 s.2)]) (fun rec5 hrec5 s => ?_) FU ((-1 : Int32), 0)
  obtain ⟨l3, l4⟩ := s
  show CWF _ _ _ 12 [(1, cR a1), (2, cI l3), (3, cT p1 m2 l4)] [] _
  dsimp only [b_X1_coupleOf_12]
  refine cw_sub (ls' := [(3, cT p1 m2 l4), (1, cR a1), (2, cI l3)]) [2, 0, 1] rfl ?_
  refine cw_hasNext (la := 1) rfl (Or.inl ⟨_, dX1_coupleOf_12, rfl, rfl⟩) (fun x => okF (x := ⟨"java/util/Iterator", "hasNext", "()Z"⟩) (ci := 15) (C := RJ18) (T0 := TJ18) (N := 4) (n := 0) rfl (Or.inl rfl) rfl dX1_coupleOf_13 (lw_F q318 q339 q337 q134 q341) (List.mem_iff_getElem?.mpr ⟨4, rfl⟩) (show ("java/util/Iterator" : String) ≠ _ ∧ ("java/util/Iterator" : String) ≠ _ ∧ (parseMethodDescriptor (md_J18_hasNext).y.desc).map (fun d => d.parameters.length) = some 0 from ⟨by decide, by decide, (hm_J18_hasNext).2.2⟩) (by decide) (by decide) (Nat.le_of_ble_eq_true rfl)) (fun x6 => ?_)
  refine cw_if_eq (tgt := 62) dX1_coupleOf_18 (by decide) ?_ ?_
  · refine cw_iload_n dX1_coupleOf_62 rfl 2 rfl ?_
    exact cw_iret rfl dX1_coupleOf_63
  · refine cw_next (la := 1) rfl (Or.inl ⟨_, dX1_coupleOf_21, rfl, rfl⟩) (fun x => okF (x := ⟨"java/util/Iterator", "next", "()Ljava/lang/Object;"⟩) (ci := 15) (C := RJ18) (T0 := TJ18) (N := 4) (n := 0) rfl (Or.inl rfl) rfl dX1_coupleOf_22 (lw_F q343 q432 q430 q134 q434) (List.mem_iff_getElem?.mpr ⟨6, rfl⟩) (show ("java/util/Iterator" : String) ≠ _ ∧ ("java/util/Iterator" : String) ≠ _ ∧ (parseMethodDescriptor (md_J18_next).y.desc).map (fun d => d.parameters.length) = some 0 from ⟨by decide, by decide, (hm_J18_next).2.2⟩) (by decide) (by decide) (Nat.le_of_ble_eq_true rfl)) (fun p7 => ?_)
    refine cw_cast (ci := 4) (T := TX5) (N := 5) (C := RX5) rfl rfl q762 (Or.inl rfl) dX1_coupleOf_27 ?_
    refine cw_astore (ls' := [(4, cR p7), (3, cT p1 m2 (l4 + 1)), (1, cR a1), (2, cI l3)]) dX1_coupleOf_30 (by decide) rfl ?_
    refine cw_aload dX1_coupleOf_32 0 rfl ?_
    refine cw_getI (ci := 4) (j := 4) (C := RX5) (T := TX5) (N := 5) rfl (by decide) rfl rfl (Or.inr ⟨_, q1019⟩) fSame_rfl dX1_coupleOf_34 (fun x8 => ?_)
    refine cw_jn (cj := 0) (kj := 0) (pcj := 58) (lsf := fun (s : Int32) => [(3, cT p1 m2 (l4 + 1)), (1, cR a1)]) (stf := fun (s : Int32) => [cI s]) (fun s => ?_) (fun J10 hJ10 => ?_)
    · obtain ⟨v9, e⟩ : ∃ z, z = s := ⟨_, rfl⟩
      subst e
      show CWF _ _ _ 58 [(3, cT p1 m2 (l4 + 1)), (1, cR a1)] [cI v9] _
      refine cw_istore_n (ls' := [(2, cI v9), (3, cT p1 m2 (l4 + 1)), (1, cR a1)]) dX1_coupleOf_58 rfl (by decide) rfl ?_
      refine cw_goto (tgt := 12) dX1_coupleOf_59 (by decide) ?_
      refine cw_sub (ls' := [(1, cR a1), (2, cI v9), (3, cT p1 m2 (l4 + 1))]) [2, 0, 1] rfl ?_
      exact hrec5 (v9, (l4 + 1))
    · refine cw_jn (cj := 0) (kj := 0) (pcj := 57) (lsf := fun (s : Unit) => [(3, cT p1 m2 (l4 + 1)), (1, cR a1), (2, cI l3)]) (stf := fun (s : Unit) => []) (fun s => ?_) (fun J11 hJ11 => ?_)
      · show CWF _ _ _ 57 [(3, cT p1 m2 (l4 + 1)), (1, cR a1), (2, cI l3)] [] _
        refine cw_iload_n dX1_coupleOf_57 rfl 2 rfl ?_
        refine cw_sub (ls' := [(3, cT p1 m2 (l4 + 1)), (1, cR a1)]) [0, 1] rfl ?_
        exact hJ10 l3
      · refine cw_if_eq (tgt := 57) dX1_coupleOf_37 (by decide) ?_ ?_
        · refine cw_sub (ls' := [(3, cT p1 m2 (l4 + 1)), (1, cR a1), (2, cI l3)]) [1, 2, 3] rfl ?_
          exact hJ11 ()
        · refine cw_aload dX1_coupleOf_40 0 rfl ?_
          refine cw_aload_n dX1_coupleOf_42 rfl 2 rfl ?_
          refine cw_invI (d2 := md_X5_has) (c := 0) (q := 0) (as := [cR p7, cR a1]) (mc := 0) (ms := 0) rfl rfl (okV (ci := 4) (C := RX5) (T0 := TX5) (N := 5) (n := 1) rfl rfl rfl dX1_coupleOf_43 (lw_V q995 q996 q997 q136 q998) ⟨rfl, hm_X5_has⟩ (by decide) (by decide) (Nat.le_of_ble_eq_true rfl)) (m_X5_has p7 a1) rfl (fun x12 => ?_)
          refine cw_if_eq (tgt := 57) dX1_coupleOf_46 (by decide) ?_ ?_
          · refine cw_sub (ls' := [(3, cT p1 m2 (l4 + 1)), (1, cR a1), (2, cI l3)]) [1, 2, 3] rfl ?_
            exact hJ11 ()
          · refine cw_aload dX1_coupleOf_49 0 rfl ?_
            refine cw_getI (ci := 4) (j := 0) (C := RX5) (T := TX5) (N := 5) rfl (by decide) rfl rfl (Or.inr ⟨_, q1009⟩) fSame_rfl dX1_coupleOf_51 (fun x13 => ?_)
            refine cw_goto (tgt := 58) dX1_coupleOf_54 (by decide) ?_
            refine cw_sub (ls' := [(3, cT p1 m2 (l4 + 1)), (1, cR a1)]) [1, 2] rfl ?_
            exact hJ10 x13
def b_X1_pupilsOf_12 (a0 : Nat) (a1 : Nat) (p1 : Nat) (m2 : Int32) (rec5 : (Int32 × Nat) → GF) : (Int32 × Nat) → GF := fun (s : Int32 × Nat) => match s with
  | (l3, l4) =>
    hasG p1 l4 fun x6 =>
    if x6 = 0 then
      retG (rI l3)
    else
      nextG p1 m2 l4 fun p7 =>
      castG 22 p7 <|
      invI (some (a0, 20)) (g_X1_isPupil a0 p7 a1) fun x8 =>
      jnG (fun (v9 : Int32) =>
        rec5 ((l3 + v9), (l4 + 1))) fun J10 =>
      if x8 = 0 then
        J10 0
      else
        J10 1
def g_X1_pupilsOf (a0 : Nat) (a1 : Nat) : GF :=
  getP 22 a1 4 fun p1 =>
  itG p1 fun m2 =>
  loopG (b_X1_pupilsOf_12 a0 a1 p1 m2) FU (0, 0)
abbrev md_X1_pupilsOf : MD := (yX1_pupilsOf, cX1_pupilsOf, 5, (some (Jvm.ClassFile.FieldType.int)), RX1, 14, 1, 4)
theorem hm_X1_pupilsOf : (md_X1_pupilsOf).y.cls ≠ "java/lang/invoke/MethodHandle" ∧ (md_X1_pupilsOf).y.cls ≠ "java/lang/invoke/VarHandle" ∧ (parseMethodDescriptor (md_X1_pupilsOf).y.desc).map (fun d => d.parameters.length) = some 1 := by decide +kernel
theorem m_X1_pupilsOf (a0 : Nat) (a1 : Nat) : CMF md_X1_pupilsOf [cR a0, cR a1] (g_X1_pupilsOf a0 a1) := by
  refine cm_of (by decide +kernel) rfl (Nat.le_of_ble_eq_true rfl) ?_
  show CWF _ 1 4 0 [(0, cR a0), (1, cR a1)] [] _
  unfold g_X1_pupilsOf
  refine cw_iconst (v := 0) dX1_pupilsOf_0 (by decide) ?_
  refine cw_istore_n (ls' := [(2, cI 0), (0, cR a0), (1, cR a1)]) dX1_pupilsOf_1 rfl (by decide) rfl ?_
  refine cw_aload_n dX1_pupilsOf_2 rfl 2 rfl ?_
  refine cw_getP (ci := 2) (j := 4) (C := RX3) (T := TX3) (N := 9) rfl (by decide) rfl rfl (Or.inr ⟨_, q815⟩) fSame_rfl dX1_pupilsOf_3 (fun p1 => ?_)
  refine cw_iter (c := 0) (q := 0) (la := 1) (ls' := [(2, cI 0), (0, cR a0), (1, cR a1)]) rfl (Or.inl ⟨_, dX1_pupilsOf_11, rfl, rfl⟩) (by decide) (okF (x := ⟨"java/util/List", "iterator", "()Ljava/util/Iterator;"⟩) (ci := 14) (C := RJ2) (T0 := TJ2) (N := 3) (n := 0) rfl (Or.inr ⟨rfl, rfl⟩) rfl dX1_pupilsOf_6 (lw_F q290 q295 q293 q114 q297) (List.mem_iff_getElem?.mpr ⟨3, rfl⟩) (show ("java/util/List" : String) ≠ _ ∧ ("java/util/List" : String) ≠ _ ∧ (parseMethodDescriptor (md_J2_iterator).y.desc).map (fun d => d.parameters.length) = some 0 from ⟨by decide, by decide, (hm_J2_iterator).2.2⟩) (by decide) (by decide) (Nat.le_of_ble_eq_true rfl)) (fun m2 => ?_)
  refine cw_sub (ls' := [(0, cR a0), (1, cR a1), (2, cI 0), (3, cT p1 m2 0)]) [2, 3, 1, 0] rfl ?_
  refine cw_loop0 (lsf := fun (s : Int32 × Nat) => [(0, cR a0), (1, cR a1), (2, cI s.1), (3, cT p1 m2 s.2)]) (fun rec5 hrec5 s => ?_) FU (0, 0)
  obtain ⟨l3, l4⟩ := s
  show CWF _ _ _ 12 [(0, cR a0), (1, cR a1), (2, cI l3), (3, cT p1 m2 l4)] [] _
  dsimp only [b_X1_pupilsOf_12]
  refine cw_sub (ls' := [(3, cT p1 m2 l4), (0, cR a0), (1, cR a1), (2, cI l3)]) [3, 0, 1, 2] rfl ?_
  refine cw_hasNext (la := 1) rfl (Or.inl ⟨_, dX1_pupilsOf_12, rfl, rfl⟩) (fun x => okF (x := ⟨"java/util/Iterator", "hasNext", "()Z"⟩) (ci := 15) (C := RJ18) (T0 := TJ18) (N := 4) (n := 0) rfl (Or.inl rfl) rfl dX1_pupilsOf_13 (lw_F q318 q339 q337 q134 q341) (List.mem_iff_getElem?.mpr ⟨4, rfl⟩) (show ("java/util/Iterator" : String) ≠ _ ∧ ("java/util/Iterator" : String) ≠ _ ∧ (parseMethodDescriptor (md_J18_hasNext).y.desc).map (fun d => d.parameters.length) = some 0 from ⟨by decide, by decide, (hm_J18_hasNext).2.2⟩) (by decide) (by decide) (Nat.le_of_ble_eq_true rfl)) (fun x6 => ?_)
  refine cw_if_eq (tgt := 53) dX1_pupilsOf_18 (by decide) ?_ ?_
  · refine cw_iload_n dX1_pupilsOf_53 rfl 3 rfl ?_
    exact cw_iret rfl dX1_pupilsOf_54
  · refine cw_next (la := 1) rfl (Or.inl ⟨_, dX1_pupilsOf_21, rfl, rfl⟩) (fun x => okF (x := ⟨"java/util/Iterator", "next", "()Ljava/lang/Object;"⟩) (ci := 15) (C := RJ18) (T0 := TJ18) (N := 4) (n := 0) rfl (Or.inl rfl) rfl dX1_pupilsOf_22 (lw_F q343 q432 q430 q134 q434) (List.mem_iff_getElem?.mpr ⟨6, rfl⟩) (show ("java/util/Iterator" : String) ≠ _ ∧ ("java/util/Iterator" : String) ≠ _ ∧ (parseMethodDescriptor (md_J18_next).y.desc).map (fun d => d.parameters.length) = some 0 from ⟨by decide, by decide, (hm_J18_next).2.2⟩) (by decide) (by decide) (Nat.le_of_ble_eq_true rfl)) (fun p7 => ?_)
    refine cw_cast (ci := 2) (T := TX3) (N := 9) (C := RX3) rfl rfl q733 (Or.inl rfl) dX1_pupilsOf_27 ?_
    refine cw_astore (ls' := [(4, cR p7), (3, cT p1 m2 (l4 + 1)), (0, cR a0), (1, cR a1), (2, cI l3)]) dX1_pupilsOf_30 (by decide) rfl ?_
    refine cw_iload_n dX1_pupilsOf_32 rfl 4 rfl ?_
    refine cw_aload_n dX1_pupilsOf_33 rfl 2 rfl ?_
    refine cw_aload dX1_pupilsOf_34 0 rfl ?_
    refine cw_aload_n dX1_pupilsOf_36 rfl 3 rfl ?_
    refine cw_invI (d2 := md_X1_isPupil) (c := 0) (q := 0) (as := [cR a0, cR p7, cR a1]) (mc := 0) (ms := 0) rfl rfl (okV (ci := 0) (C := RX1) (T0 := TX1) (N := 11) (n := 2) rfl rfl rfl dX1_pupilsOf_37 (lw_V q972 q974 qs9 q111 q975) ⟨rfl, hm_X1_isPupil⟩ (by decide) (by decide) (Nat.le_of_ble_eq_true rfl)) (m_X1_isPupil a0 p7 a1) rfl (fun x8 => ?_)
    refine cw_jn (cj := 0) (kj := 0) (pcj := 48) (lsf := fun (s : Int32) => [(3, cT p1 m2 (l4 + 1)), (0, cR a0), (1, cR a1)]) (stf := fun (s : Int32) => [cI s, cI l3]) (fun s => ?_) (fun J10 hJ10 => ?_)
    · obtain ⟨v9, e⟩ : ∃ z, z = s := ⟨_, rfl⟩
      subst e
      show CWF _ _ _ 48 [(3, cT p1 m2 (l4 + 1)), (0, cR a0), (1, cR a1)] [cI v9, cI l3] _
      refine cw_iadd dX1_pupilsOf_48 ?_
      refine cw_istore_n (ls' := [(2, cI (l3 + v9)), (3, cT p1 m2 (l4 + 1)), (0, cR a0), (1, cR a1)]) dX1_pupilsOf_49 rfl (by decide) rfl ?_
      refine cw_goto (tgt := 12) dX1_pupilsOf_50 (by decide) ?_
      refine cw_sub (ls' := [(0, cR a0), (1, cR a1), (2, cI (l3 + v9)), (3, cT p1 m2 (l4 + 1))]) [2, 3, 0, 1] rfl ?_
      exact hrec5 ((l3 + v9), (l4 + 1))
    · refine cw_if_eq (tgt := 47) dX1_pupilsOf_40 (by decide) ?_ ?_
      · refine cw_iconst (v := 0) dX1_pupilsOf_47 (by decide) ?_
        refine cw_sub (ls' := [(3, cT p1 m2 (l4 + 1)), (0, cR a0), (1, cR a1)]) [1, 2, 3] rfl ?_
        exact hJ10 0
      · refine cw_iconst (v := 1) dX1_pupilsOf_43 (by decide) ?_
        refine cw_goto (tgt := 48) dX1_pupilsOf_44 (by decide) ?_
        refine cw_sub (ls' := [(3, cT p1 m2 (l4 + 1)), (0, cR a0), (1, cR a1)]) [1, 2, 3] rfl ?_
        exact hJ10 1
def g_X1_personAt (a0 : Nat) (a1 : Int32) (a2 : Int32) : GF :=
  getP 20 a0 0 fun p1 =>
  invP none (g_X1_at p1 a1) fun p2 =>
  castG 22 p2 <|
  invI none (g_X1_isBetween a2 0 11) fun x3 =>
  invV none (g_X1_requireArgument x3) <|
  swG a2 0 [
    getI 22 p2 1 fun x4 =>
    retG (rI x4),
    getI 22 p2 5 fun x5 =>
    retG (rI x5),
    invI (some (p2, 22)) (g_X3_isProfessional p2) fun x6 =>
    if x6 = 0 then
      retG (rI 0)
    else
      retG (rI 1),
    getP 22 p2 2 fun p7 =>
    ialdG 1 p7 (a2 - 3) fun x8 =>
    retG (rI x8),
    getP 22 p2 2 fun p9 =>
    ialdG 1 p9 (a2 - 3) fun x10 =>
    retG (rI x10),
    invI (some (p2, 22)) (g_X3_grade p2 (a2 - 5)) fun x11 =>
    retG (rI x11),
    invI (some (p2, 22)) (g_X3_grade p2 (a2 - 5)) fun x12 =>
    retG (rI x12),
    getI 22 p2 6 fun x13 =>
    retG (rI x13),
    getI 22 p2 7 fun x14 =>
    retG (rI x14),
    getI 22 p2 8 fun x15 =>
    retG (rI x15),
    invI (some (a0, 20)) (g_X1_coupleOf a0 p2) fun x16 =>
    retG (rI x16)] <|
  invI (some (a0, 20)) (g_X1_pupilsOf a0 p2) fun x17 =>
  retG (rI x17)
abbrev md_X1_personAt : MD := (yX1_personAt, cX1_personAt, 4, (some (Jvm.ClassFile.FieldType.int)), RX1, 15, 3, 16)
theorem hm_X1_personAt : (md_X1_personAt).y.cls ≠ "java/lang/invoke/MethodHandle" ∧ (md_X1_personAt).y.cls ≠ "java/lang/invoke/VarHandle" ∧ (parseMethodDescriptor (md_X1_personAt).y.desc).map (fun d => d.parameters.length) = some 2 := by decide +kernel
theorem m_X1_personAt (a0 : Nat) (a1 : Int32) (a2 : Int32) : CMF md_X1_personAt [cR a0, cI a1, cI a2] (g_X1_personAt a0 a1 a2) := by
  refine cm_of (by decide +kernel) rfl (Nat.le_of_ble_eq_true rfl) ?_
  show CWF _ 3 16 0 [(0, cR a0), (1, cI a1), (2, cI a2)] [] _
  unfold g_X1_personAt
  refine cw_aload_n dX1_personAt_0 rfl 0 rfl ?_
  refine cw_getP (ci := 0) (j := 0) (C := RX1) (T := TX1) (N := 11) rfl (by decide) rfl rfl (Or.inl q206) fSame_rfl dX1_personAt_1 (fun p1 => ?_)
  refine cw_iload_n dX1_personAt_4 rfl 1 rfl ?_
  refine cw_invP (d2 := md_X1_at) (c := 2) (q := 10) (as := [cR p1, cI a1]) (mc := 1) (ms := 6) rfl rfl (okS (n := 2) rfl dX1_personAt_5 (lw_S q883 q884 q111 q885) hm_X1_at (by decide) (by decide) (Nat.le_of_ble_eq_true rfl)) (m_X1_at p1 a1) rfl (fun p2 => ?_)
  refine cw_cast (ci := 2) (T := TX3) (N := 9) (C := RX3) rfl rfl q733 (Or.inl rfl) dX1_personAt_8 ?_
  refine cw_astore_n (ls' := [(3, cR p2), (0, cR a0), (1, cI a1), (2, cI a2)]) dX1_personAt_11 rfl (by decide) rfl ?_
  refine cw_iload_n dX1_personAt_12 rfl 3 rfl ?_
  refine cw_iconst (v := 0) dX1_personAt_13 (by decide) ?_
  refine cw_bipush (v := 11) dX1_personAt_14 (by decide) ?_
  refine cw_invI (d2 := md_X1_isBetween) (c := 2) (q := 10) (as := [cI a2, cI 0, cI 11]) (mc := 0) (ms := 0) rfl rfl (okS (n := 3) rfl dX1_personAt_16 (lw_S q258 q259 q111 q260) hm_X1_isBetween (by decide) (by decide) (Nat.le_of_ble_eq_true rfl)) (m_X1_isBetween a2 0 11) rfl (fun x3 => ?_)
  refine cw_invV (d2 := md_X1_requireArgument) (c := 1) (q := 4) (as := [cI x3]) (mc := 1) (ms := 6) rfl rfl (okS (n := 1) rfl dX1_personAt_19 (lw_S q744 q745 q111 q746) hm_X1_requireArgument (by decide) (by decide) (Nat.le_of_ble_eq_true rfl)) (m_X1_requireArgument x3) rfl ?_
  refine cw_iload_n dX1_personAt_22 rfl 3 rfl ?_
  refine cw_switch (tgt0 := 159) dX1_personAt_23 [80, 87, 94, 109, 109, 120, 120, 130, 137, 144, 151] (by decide) rfl (by decide) (by decide) ?_ ?_
  · refine ⟨?_, ?_, ?_, ?_, ?_, ?_, ?_, ?_, ?_, ?_, ?_, trivial⟩
    · refine cw_weak (c' := 0) (q' := 0) (by omega) (by omega) ?_
      refine cw_aload_n dX1_personAt_80 rfl 0 rfl ?_
      refine cw_getI (ci := 2) (j := 1) (C := RX3) (T := TX3) (N := 9) rfl (by decide) rfl rfl (Or.inr ⟨_, q808⟩) fSame_rfl dX1_personAt_81 (fun x4 => ?_)
      refine cw_goto (tgt := 164) dX1_personAt_84 (by decide) ?_
      exact cw_iret rfl dX1_personAt_164
    · refine cw_weak (c' := 0) (q' := 0) (by omega) (by omega) ?_
      refine cw_aload_n dX1_personAt_87 rfl 0 rfl ?_
      refine cw_getI (ci := 2) (j := 5) (C := RX3) (T := TX3) (N := 9) rfl (by decide) rfl rfl (Or.inr ⟨_, q816⟩) fSame_rfl dX1_personAt_88 (fun x5 => ?_)
      refine cw_goto (tgt := 164) dX1_personAt_91 (by decide) ?_
      exact cw_iret rfl dX1_personAt_164
    · refine cw_weak (c' := 0) (q' := 0) (by omega) (by omega) ?_
      refine cw_aload_n dX1_personAt_94 rfl 0 rfl ?_
      refine cw_invI (d2 := md_X3_isProfessional) (c := 0) (q := 0) (as := [cR p2]) (mc := 0) (ms := 0) rfl rfl (okV (ci := 2) (C := RX3) (T0 := TX3) (N := 9) (n := 0) rfl rfl rfl dX1_personAt_95 (lw_V q939 q940 q941 q121 q942) ⟨rfl, hm_X3_isProfessional⟩ (by decide) (by decide) (Nat.le_of_ble_eq_true rfl)) (m_X3_isProfessional p2) rfl (fun x6 => ?_)
      refine cw_if_eq (tgt := 105) dX1_personAt_98 (by decide) ?_ ?_
      · refine cw_iconst (v := 0) dX1_personAt_105 (by decide) ?_
        refine cw_goto (tgt := 164) dX1_personAt_106 (by decide) ?_
        exact cw_iret rfl dX1_personAt_164
      · refine cw_iconst (v := 1) dX1_personAt_101 (by decide) ?_
        refine cw_goto (tgt := 164) dX1_personAt_102 (by decide) ?_
        exact cw_iret rfl dX1_personAt_164
    · refine cw_weak (c' := 0) (q' := 0) (by omega) (by omega) ?_
      refine cw_aload_n dX1_personAt_109 rfl 0 rfl ?_
      refine cw_getP (ci := 2) (j := 2) (C := RX3) (T := TX3) (N := 9) rfl (by decide) rfl rfl (Or.inr ⟨_, q811⟩) fSame_rfl dX1_personAt_110 (fun p7 => ?_)
      refine cw_iload_n dX1_personAt_113 rfl 3 rfl ?_
      refine cw_iconst (v := 3) dX1_personAt_114 (by decide) ?_
      refine cw_isub dX1_personAt_115 ?_
      refine cw_iald dX1_personAt_116 (fun x8 => ?_)
      refine cw_goto (tgt := 164) dX1_personAt_117 (by decide) ?_
      exact cw_iret rfl dX1_personAt_164
    · refine cw_weak (c' := 0) (q' := 0) (by omega) (by omega) ?_
      refine cw_aload_n dX1_personAt_109 rfl 0 rfl ?_
      refine cw_getP (ci := 2) (j := 2) (C := RX3) (T := TX3) (N := 9) rfl (by decide) rfl rfl (Or.inr ⟨_, q811⟩) fSame_rfl dX1_personAt_110 (fun p9 => ?_)
      refine cw_iload_n dX1_personAt_113 rfl 3 rfl ?_
      refine cw_iconst (v := 3) dX1_personAt_114 (by decide) ?_
      refine cw_isub dX1_personAt_115 ?_
      refine cw_iald dX1_personAt_116 (fun x10 => ?_)
      refine cw_goto (tgt := 164) dX1_personAt_117 (by decide) ?_
      exact cw_iret rfl dX1_personAt_164
    · refine cw_weak (c' := 0) (q' := 0) (by omega) (by omega) ?_
      refine cw_aload_n dX1_personAt_120 rfl 0 rfl ?_
      refine cw_iload_n dX1_personAt_121 rfl 3 rfl ?_
      refine cw_iconst (v := 5) dX1_personAt_122 (by decide) ?_
      refine cw_isub dX1_personAt_123 ?_
      refine cw_invI (d2 := md_X3_grade) (c := 0) (q := 0) (as := [cR p2, cI (a2 - 5)]) (mc := 0) (ms := 0) rfl rfl (okV (ci := 2) (C := RX3) (T0 := TX3) (N := 9) (n := 1) rfl rfl rfl dX1_personAt_124 (lw_V q1951 q1208 q1209 q121 q1210) ⟨rfl, hm_X3_grade⟩ (by decide) (by decide) (Nat.le_of_ble_eq_true rfl)) (m_X3_grade p2 (a2 - 5)) rfl (fun x11 => ?_)
      refine cw_goto (tgt := 164) dX1_personAt_127 (by decide) ?_
      exact cw_iret rfl dX1_personAt_164
    · refine cw_weak (c' := 0) (q' := 0) (by omega) (by omega) ?_
      refine cw_aload_n dX1_personAt_120 rfl 0 rfl ?_
      refine cw_iload_n dX1_personAt_121 rfl 3 rfl ?_
      refine cw_iconst (v := 5) dX1_personAt_122 (by decide) ?_
      refine cw_isub dX1_personAt_123 ?_
      refine cw_invI (d2 := md_X3_grade) (c := 0) (q := 0) (as := [cR p2, cI (a2 - 5)]) (mc := 0) (ms := 0) rfl rfl (okV (ci := 2) (C := RX3) (T0 := TX3) (N := 9) (n := 1) rfl rfl rfl dX1_personAt_124 (lw_V q1951 q1208 q1209 q121 q1210) ⟨rfl, hm_X3_grade⟩ (by decide) (by decide) (Nat.le_of_ble_eq_true rfl)) (m_X3_grade p2 (a2 - 5)) rfl (fun x12 => ?_)
      refine cw_goto (tgt := 164) dX1_personAt_127 (by decide) ?_
      exact cw_iret rfl dX1_personAt_164
    · refine cw_weak (c' := 0) (q' := 0) (by omega) (by omega) ?_
      refine cw_aload_n dX1_personAt_130 rfl 0 rfl ?_
      refine cw_getI (ci := 2) (j := 6) (C := RX3) (T := TX3) (N := 9) rfl (by decide) rfl rfl (Or.inr ⟨_, q819⟩) fSame_rfl dX1_personAt_131 (fun x13 => ?_)
      refine cw_goto (tgt := 164) dX1_personAt_134 (by decide) ?_
      exact cw_iret rfl dX1_personAt_164
    · refine cw_weak (c' := 0) (q' := 0) (by omega) (by omega) ?_
      refine cw_aload_n dX1_personAt_137 rfl 0 rfl ?_
      refine cw_getI (ci := 2) (j := 7) (C := RX3) (T := TX3) (N := 9) rfl (by decide) rfl rfl (Or.inr ⟨_, q820⟩) fSame_rfl dX1_personAt_138 (fun x14 => ?_)
      refine cw_goto (tgt := 164) dX1_personAt_141 (by decide) ?_
      exact cw_iret rfl dX1_personAt_164
    · refine cw_weak (c' := 0) (q' := 0) (by omega) (by omega) ?_
      refine cw_aload_n dX1_personAt_144 rfl 0 rfl ?_
      refine cw_getI (ci := 2) (j := 8) (C := RX3) (T := TX3) (N := 9) rfl (by decide) rfl rfl (Or.inr ⟨_, q821⟩) fSame_rfl dX1_personAt_145 (fun x15 => ?_)
      refine cw_goto (tgt := 164) dX1_personAt_148 (by decide) ?_
      exact cw_iret rfl dX1_personAt_164
    · refine cw_aload_n dX1_personAt_151 rfl 1 rfl ?_
      refine cw_aload_n dX1_personAt_152 rfl 0 rfl ?_
      refine cw_invI (d2 := md_X1_coupleOf) (c := 0) (q := 0) (as := [cR a0, cR p2]) (mc := 1) (ms := 4) rfl rfl (okV (ci := 0) (C := RX1) (T0 := TX1) (N := 11) (n := 1) rfl rfl rfl dX1_personAt_153 (lw_V q1952 q1954 qs33 q111 q1955) ⟨rfl, hm_X1_coupleOf⟩ (by decide) (by decide) (Nat.le_of_ble_eq_true rfl)) (m_X1_coupleOf a0 p2) rfl (fun x16 => ?_)
      refine cw_goto (tgt := 164) dX1_personAt_156 (by decide) ?_
      exact cw_iret rfl dX1_personAt_164
  · refine cw_aload_n dX1_personAt_159 rfl 1 rfl ?_
    refine cw_aload_n dX1_personAt_160 rfl 0 rfl ?_
    refine cw_invI (d2 := md_X1_pupilsOf) (c := 0) (q := 0) (as := [cR a0, cR p2]) (mc := 1) (ms := 4) rfl rfl (okV (ci := 0) (C := RX1) (T0 := TX1) (N := 11) (n := 1) rfl rfl rfl dX1_personAt_161 (lw_V q1956 q1958 qs34 q111 q1959) ⟨rfl, hm_X1_pupilsOf⟩ (by decide) (by decide) (Nat.le_of_ble_eq_true rfl)) (m_X1_pupilsOf a0 p2) rfl (fun x17 => ?_)
    exact cw_iret rfl dX1_personAt_164
def b_X5_rank_47 (p1 : Nat) (J11 : Int32 → GF) (rec14 : (Int32 × Int32) → GF) : (Int32 × Int32) → GF := fun (s : Int32 × Int32) => match s with
  | (l12, l13) =>
    invI (some (p1, 8)) (s_size p1) fun x15 =>
    if l13 < x15 then
      invP (some (p1, 8)) (s_get p1 l13) fun p16 =>
      castIG p16 <|
      invI (some (p16, 36)) (g_J21_intValue p16) fun x17 =>
      invP (some (p1, 8)) (s_get p1 l12) fun p18 =>
      castIG p18 <|
      invI (some (p18, 36)) (g_J21_intValue p18) fun x19 =>
      jnG (fun (v20 : Int32) =>
        rec14 (v20, (l13 + 1))) fun J21 =>
      if x17 ≤ x19 then
        J21 l12
      else
        J21 l13
    else
      J11 l12
def b_X5_rank_26 (p1 : Nat) (rec6 : (Int32 × Int32) → GF) : (Int32 × Int32) → GF := fun (s : Int32 × Int32) => match s with
  | (l4, l5) =>
    if l5 < 3 then
      invI (some (p1, 8)) (s_isEmpty p1) fun x7 =>
      if x7 = 0 then
        jnG (fun (v8 : Int32) =>
          invP (some (p1, 8)) (s_removeI p1 v8) fun p9 =>
          castIG p9 <|
          invI (some (p9, 36)) (g_J21_intValue p9) fun x10 =>
          rec6 ((l4 + x10), (l5 + 1))) fun J11 =>
        loopG (b_X5_rank_47 p1 J11) FU (0, 1)
      else
        retG (rI l4)
    else
      retG (rI l4)
def g_X5_rank (a0 : Nat) (a1 : Int32) : GF :=
  newG 34 fun p1 =>
  getP 24 a0 3 fun p2 =>
  invP (some (p2, 8)) (s_get p2 a1) fun p3 =>
  castG 8 p3 <|
  invV (some (p1, 34)) (s_init2 p1 p3) <|
  loopG (b_X5_rank_26 p1) FU (0, 0)
abbrev md_X5_rank : MD := (yX5_rank, cX5_rank, 7, (some (Jvm.ClassFile.FieldType.int)), RX5, 14, 2, 67)
theorem hm_X5_rank : (md_X5_rank).y.cls ≠ "java/lang/invoke/MethodHandle" ∧ (md_X5_rank).y.cls ≠ "java/lang/invoke/VarHandle" ∧ (parseMethodDescriptor (md_X5_rank).y.desc).map (fun d => d.parameters.length) = some 1 := by decide +kernel
theorem m_X5_rank (a0 : Nat) (a1 : Int32) : CMF md_X5_rank [cR a0, cI a1] (g_X5_rank a0 a1) := by
  refine cm_of (by decide +kernel) rfl (Nat.le_of_ble_eq_true rfl) ?_
  show CWF _ 2 67 0 [(0, cR a0), (1, cI a1)] [] _
  unfold g_X5_rank
  refine cw_new (c := 1) (q := 64) (ci := 14) (C := RJ2) (T := TJ2) (N := 3) rfl rfl q1004 q162 q114 dX5_rank_0 (fun p1 => ?_)
  refine cw_dup dX5_rank_3 rfl ?_
  refine cw_aload_n dX5_rank_4 rfl 0 rfl ?_
  refine cw_getP (ci := 4) (j := 3) (C := RX5) (T := TX5) (N := 5) rfl (by decide) rfl rfl (Or.inl q1016) fSame_rfl dX5_rank_5 (fun p2 => ?_)
  refine cw_iload_n dX5_rank_8 rfl 1 rfl ?_
  refine cw_invP (d2 := md_J2_get) (c := 1) (q := 64) (as := [cR p2, cI a1]) (mc := 0) (ms := 0) rfl rfl (okF (x := ⟨"java/util/List", "get", "(I)Ljava/lang/Object;"⟩) (ci := 14) (C := RJ2) (T0 := TJ2) (N := 3) (n := 1) rfl (Or.inr ⟨rfl, rfl⟩) rfl dX5_rank_9 (lw_F q1972 q267 q265 q114 q269) (List.mem_iff_getElem?.mpr ⟨2, rfl⟩) (show ("java/util/List" : String) ≠ _ ∧ ("java/util/List" : String) ≠ _ ∧ (parseMethodDescriptor (md_J2_get).y.desc).map (fun d => d.parameters.length) = some 1 from ⟨by decide, by decide, (hm_J2_get).2.2⟩) (by decide) (by decide) (Nat.le_of_ble_eq_true rfl)) (c_get p2 a1) rfl (fun p3 => ?_)
  refine cw_castL q1973 (Or.inr q1757) dX5_rank_14 ?_
  refine cw_invV (d2 := md_J2_init_2) (c := 0) (q := 0) (as := [cR p1, cR p3]) (mc := 1) (ms := 64) rfl rfl (okI (n := 1) rfl rfl dX5_rank_17 (lw_meth q1752) q114 q1974 q1751 rfl hm_J2_init_2 (by decide) (by decide) (Nat.le_of_ble_eq_true rfl) (by decide)) (c_init2 p1 p3) rfl ?_
  refine cw_astore_n (ls' := [(2, cR p1), (0, cR a0), (1, cI a1)]) dX5_rank_20 rfl (by decide) rfl ?_
  refine cw_iconst (v := 0) dX5_rank_21 (by decide) ?_
  refine cw_istore_n (ls' := [(3, cI 0), (2, cR p1), (0, cR a0), (1, cI a1)]) dX5_rank_22 rfl (by decide) rfl ?_
  refine cw_iconst (v := 0) dX5_rank_23 (by decide) ?_
  refine cw_istore (ls' := [(4, cI 0), (3, cI 0), (2, cR p1), (0, cR a0), (1, cI a1)]) dX5_rank_24 (by decide) rfl ?_
  refine cw_sub (ls' := [(2, cR p1), (3, cI 0), (4, cI 0)]) [2, 1, 0] rfl ?_
  refine cw_loop0 (lsf := fun (s : Int32 × Int32) => [(2, cR p1), (3, cI s.1), (4, cI s.2)]) (fun rec6 hrec6 s => ?_) FU (0, 0)
  obtain ⟨l4, l5⟩ := s
  show CWF _ _ _ 26 [(2, cR p1), (3, cI l4), (4, cI l5)] [] _
  dsimp only [b_X5_rank_26]
  refine cw_iload dX5_rank_26 2 rfl ?_
  refine cw_iconst (v := 3) dX5_rank_28 (by decide) ?_
  refine cw_icmp_ge (tgt := 127) dX5_rank_29 (by decide) ?_ ?_
  · refine cw_iload_n dX5_rank_127 rfl 1 rfl ?_
    exact cw_iret rfl dX5_rank_128
  · refine cw_aload_n dX5_rank_32 rfl 0 rfl ?_
    refine cw_invI (d2 := md_J2_isEmpty) (c := 0) (q := 0) (as := [cR p1]) (mc := 0) (ms := 0) rfl rfl (okF (x := ⟨"java/util/List", "isEmpty", "()Z"⟩) (ci := 14) (C := RJ2) (T0 := TJ2) (N := 3) (n := 0) rfl (Or.inr ⟨rfl, rfl⟩) rfl dX5_rank_33 (lw_F q1976 q333 q331 q114 q335) (List.mem_iff_getElem?.mpr ⟨5, rfl⟩) (show ("java/util/List" : String) ≠ _ ∧ ("java/util/List" : String) ≠ _ ∧ (parseMethodDescriptor (md_J2_isEmpty).y.desc).map (fun d => d.parameters.length) = some 0 from ⟨by decide, by decide, (hm_J2_isEmpty).2.2⟩) (by decide) (by decide) (Nat.le_of_ble_eq_true rfl)) (c_isEmpty p1) rfl (fun x7 => ?_)
    refine cw_if_ne (tgt := 127) dX5_rank_38 (by decide) ?_ ?_
    · refine cw_iload_n dX5_rank_127 rfl 1 rfl ?_
      exact cw_iret rfl dX5_rank_128
    · refine cw_iconst (v := 0) dX5_rank_41 (by decide) ?_
      refine cw_istore (ls' := [(5, cI 0), (2, cR p1), (3, cI l4), (4, cI l5)]) dX5_rank_42 (by decide) rfl ?_
      refine cw_iconst (v := 1) dX5_rank_44 (by decide) ?_
      refine cw_istore (ls' := [(6, cI 1), (5, cI 0), (2, cR p1), (3, cI l4), (4, cI l5)]) dX5_rank_45 (by decide) rfl ?_
      refine cw_jn (cj := 0) (kj := 0) (pcj := 104) (lsf := fun (s : Int32) => [(2, cR p1), (3, cI l4), (4, cI l5), (5, cI s)]) (stf := fun (s : Int32) => []) (fun s => ?_) (fun J11 hJ11 => ?_)
      · obtain ⟨v8, e⟩ : ∃ z, z = s := ⟨_, rfl⟩
        subst e
        show CWF _ _ _ 104 [(2, cR p1), (3, cI l4), (4, cI l5), (5, cI v8)] [] _
        refine cw_iload_n dX5_rank_104 rfl 1 rfl ?_
        refine cw_aload_n dX5_rank_105 rfl 0 rfl ?_
        refine cw_iload dX5_rank_106 3 rfl ?_
        refine cw_invP (d2 := md_J2_remove_2) (c := 0) (q := 0) (as := [cR p1, cI v8]) (mc := 0) (ms := 0) rfl rfl (okF (x := ⟨"java/util/List", "remove", "(I)Ljava/lang/Object;"⟩) (ci := 14) (C := RJ2) (T0 := TJ2) (N := 3) (n := 1) rfl (Or.inr ⟨rfl, rfl⟩) rfl dX5_rank_108 (lw_F q1982 q1362 q1360 q114 q1364) (List.mem_iff_getElem?.mpr ⟨11, rfl⟩) (show ("java/util/List" : String) ≠ _ ∧ ("java/util/List" : String) ≠ _ ∧ (parseMethodDescriptor (md_J2_remove_2).y.desc).map (fun d => d.parameters.length) = some 1 from ⟨by decide, by decide, (hm_J2_remove_2).2.2⟩) (by decide) (by decide) (Nat.le_of_ble_eq_true rfl)) (c_removeI p1 v8) rfl (fun p9 => ?_)
        refine cw_castI q1979 dX5_rank_113 ?_
        refine cw_invI (d2 := md_J21_intValue) (c := 0) (q := 0) (as := [cR p9]) (mc := 0) (ms := 0) rfl rfl (okV (ci := 16) (C := RJ21) (T0 := TJ21) (N := 1) (n := 0) rfl rfl rfl dX5_rank_116 (lw_V q1980 q282 q283 q140 q284) ⟨rfl, hm_J21_intValue⟩ (by decide) (by decide) (Nat.le_of_ble_eq_true rfl)) (m_J21_intValue p9) rfl (fun x10 => ?_)
        refine cw_iadd dX5_rank_119 ?_
        refine cw_istore_n (ls' := [(3, cI (l4 + x10)), (2, cR p1), (4, cI l5), (5, cI v8)]) dX5_rank_120 rfl (by decide) rfl ?_
        refine cw_iinc (v := (l5 + 1)) (ls' := [(4, cI (l5 + 1)), (3, cI (l4 + x10)), (2, cR p1), (5, cI v8)]) dX5_rank_121 2 rfl rfl (by decide) rfl ?_
        refine cw_goto (tgt := 26) dX5_rank_124 (by decide) ?_
        refine cw_sub (ls' := [(2, cR p1), (3, cI (l4 + x10)), (4, cI (l5 + 1))]) [2, 1, 0] rfl ?_
        exact hrec6 ((l4 + x10), (l5 + 1))
      · refine cw_sub (ls' := [(2, cR p1), (3, cI l4), (4, cI l5), (5, cI 0), (6, cI 1)]) [2, 3, 4, 1, 0] rfl ?_
        refine cw_loop0 (lsf := fun (s : Int32 × Int32) => [(2, cR p1), (3, cI l4), (4, cI l5), (5, cI s.1), (6, cI s.2)]) (fun rec14 hrec14 s => ?_) FU (0, 1)
        obtain ⟨l12, l13⟩ := s
        show CWF _ _ _ 47 [(2, cR p1), (3, cI l4), (4, cI l5), (5, cI l12), (6, cI l13)] [] _
        dsimp only [b_X5_rank_47]
        refine cw_iload dX5_rank_47 4 rfl ?_
        refine cw_aload_n dX5_rank_49 rfl 0 rfl ?_
        refine cw_invI (d2 := md_J2_size) (c := 0) (q := 0) (as := [cR p1]) (mc := 0) (ms := 0) rfl rfl (okF (x := ⟨"java/util/List", "size", "()I"⟩) (ci := 14) (C := RJ2) (T0 := TJ2) (N := 3) (n := 0) rfl (Or.inr ⟨rfl, rfl⟩) rfl dX5_rank_50 (lw_F q1978 q251 q249 q114 q253) (List.mem_iff_getElem?.mpr ⟨1, rfl⟩) (show ("java/util/List" : String) ≠ _ ∧ ("java/util/List" : String) ≠ _ ∧ (parseMethodDescriptor (md_J2_size).y.desc).map (fun d => d.parameters.length) = some 0 from ⟨by decide, by decide, (hm_J2_size).2.2⟩) (by decide) (by decide) (Nat.le_of_ble_eq_true rfl)) (c_size p1) rfl (fun x15 => ?_)
        refine cw_icmp_ge (tgt := 104) dX5_rank_55 (by decide) ?_ ?_
        · refine cw_sub (ls' := [(2, cR p1), (3, cI l4), (4, cI l5), (5, cI l12)]) [0, 1, 2, 3] rfl ?_
          exact hJ11 l12
        · refine cw_aload_n dX5_rank_58 rfl 0 rfl ?_
          refine cw_iload dX5_rank_59 4 rfl ?_
          refine cw_invP (d2 := md_J2_get) (c := 0) (q := 0) (as := [cR p1, cI l13]) (mc := 0) (ms := 0) rfl rfl (okF (x := ⟨"java/util/List", "get", "(I)Ljava/lang/Object;"⟩) (ci := 14) (C := RJ2) (T0 := TJ2) (N := 3) (n := 1) rfl (Or.inr ⟨rfl, rfl⟩) rfl dX5_rank_61 (lw_F q1972 q267 q265 q114 q269) (List.mem_iff_getElem?.mpr ⟨2, rfl⟩) (show ("java/util/List" : String) ≠ _ ∧ ("java/util/List" : String) ≠ _ ∧ (parseMethodDescriptor (md_J2_get).y.desc).map (fun d => d.parameters.length) = some 1 from ⟨by decide, by decide, (hm_J2_get).2.2⟩) (by decide) (by decide) (Nat.le_of_ble_eq_true rfl)) (c_get p1 l13) rfl (fun p16 => ?_)
          refine cw_castI q1979 dX5_rank_66 ?_
          refine cw_invI (d2 := md_J21_intValue) (c := 0) (q := 0) (as := [cR p16]) (mc := 0) (ms := 0) rfl rfl (okV (ci := 16) (C := RJ21) (T0 := TJ21) (N := 1) (n := 0) rfl rfl rfl dX5_rank_69 (lw_V q1980 q282 q283 q140 q284) ⟨rfl, hm_J21_intValue⟩ (by decide) (by decide) (Nat.le_of_ble_eq_true rfl)) (m_J21_intValue p16) rfl (fun x17 => ?_)
          refine cw_aload_n dX5_rank_72 rfl 0 rfl ?_
          refine cw_iload dX5_rank_73 3 rfl ?_
          refine cw_invP (d2 := md_J2_get) (c := 0) (q := 0) (as := [cR p1, cI l12]) (mc := 0) (ms := 0) rfl rfl (okF (x := ⟨"java/util/List", "get", "(I)Ljava/lang/Object;"⟩) (ci := 14) (C := RJ2) (T0 := TJ2) (N := 3) (n := 1) rfl (Or.inr ⟨rfl, rfl⟩) rfl dX5_rank_75 (lw_F q1972 q267 q265 q114 q269) (List.mem_iff_getElem?.mpr ⟨2, rfl⟩) (show ("java/util/List" : String) ≠ _ ∧ ("java/util/List" : String) ≠ _ ∧ (parseMethodDescriptor (md_J2_get).y.desc).map (fun d => d.parameters.length) = some 1 from ⟨by decide, by decide, (hm_J2_get).2.2⟩) (by decide) (by decide) (Nat.le_of_ble_eq_true rfl)) (c_get p1 l12) rfl (fun p18 => ?_)
          refine cw_castI q1979 dX5_rank_80 ?_
          refine cw_invI (d2 := md_J21_intValue) (c := 0) (q := 0) (as := [cR p18]) (mc := 0) (ms := 0) rfl rfl (okV (ci := 16) (C := RJ21) (T0 := TJ21) (N := 1) (n := 0) rfl rfl rfl dX5_rank_83 (lw_V q1980 q282 q283 q140 q284) ⟨rfl, hm_J21_intValue⟩ (by decide) (by decide) (Nat.le_of_ble_eq_true rfl)) (m_J21_intValue p18) rfl (fun x19 => ?_)
          refine cw_jn (cj := 0) (kj := 0) (pcj := 96) (lsf := fun (s : Int32) => [(2, cR p1), (3, cI l4), (4, cI l5), (6, cI l13)]) (stf := fun (s : Int32) => [cI s]) (fun s => ?_) (fun J21 hJ21 => ?_)
          · obtain ⟨v20, e⟩ : ∃ z, z = s := ⟨_, rfl⟩
            subst e
            show CWF _ _ _ 96 [(2, cR p1), (3, cI l4), (4, cI l5), (6, cI l13)] [cI v20] _
            refine cw_istore (ls' := [(5, cI v20), (2, cR p1), (3, cI l4), (4, cI l5), (6, cI l13)]) dX5_rank_96 (by decide) rfl ?_
            refine cw_iinc (v := (l13 + 1)) (ls' := [(6, cI (l13 + 1)), (5, cI v20), (2, cR p1), (3, cI l4), (4, cI l5)]) dX5_rank_98 4 rfl rfl (by decide) rfl ?_
            refine cw_goto (tgt := 47) dX5_rank_101 (by decide) ?_
            refine cw_sub (ls' := [(2, cR p1), (3, cI l4), (4, cI l5), (5, cI v20), (6, cI (l13 + 1))]) [2, 3, 4, 1, 0] rfl ?_
            exact hrec14 (v20, (l13 + 1))
          · refine cw_icmp_le (tgt := 94) dX5_rank_86 (by decide) ?_ ?_
            · refine cw_iload dX5_rank_94 3 rfl ?_
              refine cw_sub (ls' := [(2, cR p1), (3, cI l4), (4, cI l5), (6, cI l13)]) [0, 1, 2, 4] rfl ?_
              exact hJ21 l12
            · refine cw_iload dX5_rank_89 4 rfl ?_
              refine cw_goto (tgt := 96) dX5_rank_91 (by decide) ?_
              refine cw_sub (ls' := [(2, cR p1), (3, cI l4), (4, cI l5), (6, cI l13)]) [0, 1, 2, 4] rfl ?_
              exact hJ21 l13
def g_X1_coupleAt (a0 : Nat) (a1 : Int32) (a2 : Int32) : GF :=
  getP 20 a0 2 fun p1 =>
  invP none (g_X1_at p1 a1) fun p2 =>
  castG 24 p2 <|
  invI none (g_X1_isBetween a2 0 8) fun x3 =>
  invV none (g_X1_requireArgument x3) <|
  swG a2 0 [
    getP 24 p2 1 fun p4 =>
    getI 22 p4 0 fun x5 =>
    retG (rI x5),
    getP 24 p2 2 fun p6 =>
    getI 22 p6 0 fun x7 =>
    retG (rI x7),
    getI 24 p2 4 fun x8 =>
    if x8 = 0 then
      retG (rI 0)
    else
      retG (rI 1),
    invI (some (p2, 24)) (g_X5_age p2) fun x9 =>
    retG (rI x9),
    invI (some (p2, 24)) (g_X5_grade p2 (a2 - 4)) fun x10 =>
    retG (rI x10),
    invI (some (p2, 24)) (g_X5_grade p2 (a2 - 4)) fun x11 =>
    retG (rI x11),
    invI (some (p2, 24)) (g_X5_isProfessional p2) fun x12 =>
    if x12 = 0 then
      retG (rI 0)
    else
      retG (rI 1)] <|
  invI (some (p2, 24)) (g_X5_rank p2 (a2 - 7)) fun x13 =>
  retG (rI x13)
abbrev md_X1_coupleAt : MD := (yX1_coupleAt, cX1_coupleAt, 4, (some (Jvm.ClassFile.FieldType.int)), RX1, 15, 4, 79)
theorem hm_X1_coupleAt : (md_X1_coupleAt).y.cls ≠ "java/lang/invoke/MethodHandle" ∧ (md_X1_coupleAt).y.cls ≠ "java/lang/invoke/VarHandle" ∧ (parseMethodDescriptor (md_X1_coupleAt).y.desc).map (fun d => d.parameters.length) = some 2 := by decide +kernel
theorem m_X1_coupleAt (a0 : Nat) (a1 : Int32) (a2 : Int32) : CMF md_X1_coupleAt [cR a0, cI a1, cI a2] (g_X1_coupleAt a0 a1 a2) := by
  refine cm_of (by decide +kernel) rfl (Nat.le_of_ble_eq_true rfl) ?_
  show CWF _ 4 79 0 [(0, cR a0), (1, cI a1), (2, cI a2)] [] _
  unfold g_X1_coupleAt
  refine cw_aload_n dX1_coupleAt_0 rfl 0 rfl ?_
  refine cw_getP (ci := 0) (j := 2) (C := RX1) (T := TX1) (N := 11) rfl (by decide) rfl rfl (Or.inl q208) fSame_rfl dX1_coupleAt_1 (fun p1 => ?_)
  refine cw_iload_n dX1_coupleAt_4 rfl 1 rfl ?_
  refine cw_invP (d2 := md_X1_at) (c := 3) (q := 73) (as := [cR p1, cI a1]) (mc := 1) (ms := 6) rfl rfl (okS (n := 2) rfl dX1_coupleAt_5 (lw_S q883 q884 q111 q885) hm_X1_at (by decide) (by decide) (Nat.le_of_ble_eq_true rfl)) (m_X1_at p1 a1) rfl (fun p2 => ?_)
  refine cw_cast (ci := 4) (T := TX5) (N := 5) (C := RX5) rfl rfl q762 (Or.inl rfl) dX1_coupleAt_8 ?_
  refine cw_astore_n (ls' := [(3, cR p2), (0, cR a0), (1, cI a1), (2, cI a2)]) dX1_coupleAt_11 rfl (by decide) rfl ?_
  refine cw_iload_n dX1_coupleAt_12 rfl 3 rfl ?_
  refine cw_iconst (v := 0) dX1_coupleAt_13 (by decide) ?_
  refine cw_bipush (v := 8) dX1_coupleAt_14 (by decide) ?_
  refine cw_invI (d2 := md_X1_isBetween) (c := 3) (q := 73) (as := [cI a2, cI 0, cI 8]) (mc := 0) (ms := 0) rfl rfl (okS (n := 3) rfl dX1_coupleAt_16 (lw_S q258 q259 q111 q260) hm_X1_isBetween (by decide) (by decide) (Nat.le_of_ble_eq_true rfl)) (m_X1_isBetween a2 0 8) rfl (fun x3 => ?_)
  refine cw_invV (d2 := md_X1_requireArgument) (c := 2) (q := 67) (as := [cI x3]) (mc := 1) (ms := 6) rfl rfl (okS (n := 1) rfl dX1_coupleAt_19 (lw_S q744 q745 q111 q746) hm_X1_requireArgument (by decide) (by decide) (Nat.le_of_ble_eq_true rfl)) (m_X1_requireArgument x3) rfl ?_
  refine cw_iload_n dX1_coupleAt_22 rfl 3 rfl ?_
  refine cw_switch (tgt0 := 131) dX1_coupleAt_23 [64, 74, 84, 99, 106, 106, 116] (by decide) rfl (by decide) (by decide) ?_ ?_
  · refine ⟨?_, ?_, ?_, ?_, ?_, ?_, ?_, trivial⟩
    · refine cw_weak (c' := 0) (q' := 0) (by omega) (by omega) ?_
      refine cw_aload_n dX1_coupleAt_64 rfl 0 rfl ?_
      refine cw_getP (ci := 4) (j := 1) (C := RX5) (T := TX5) (N := 5) rfl (by decide) rfl rfl (Or.inr ⟨_, q1011⟩) fSame_rfl dX1_coupleAt_65 (fun p4 => ?_)
      refine cw_getI (ci := 2) (j := 0) (C := RX3) (T := TX3) (N := 9) rfl (by decide) rfl rfl (Or.inr ⟨_, q805⟩) fSame_rfl dX1_coupleAt_68 (fun x5 => ?_)
      refine cw_goto (tgt := 139) dX1_coupleAt_71 (by decide) ?_
      exact cw_iret rfl dX1_coupleAt_139
    · refine cw_weak (c' := 0) (q' := 0) (by omega) (by omega) ?_
      refine cw_aload_n dX1_coupleAt_74 rfl 0 rfl ?_
      refine cw_getP (ci := 4) (j := 2) (C := RX5) (T := TX5) (N := 5) rfl (by decide) rfl rfl (Or.inr ⟨_, q1014⟩) fSame_rfl dX1_coupleAt_75 (fun p6 => ?_)
      refine cw_getI (ci := 2) (j := 0) (C := RX3) (T := TX3) (N := 9) rfl (by decide) rfl rfl (Or.inr ⟨_, q805⟩) fSame_rfl dX1_coupleAt_78 (fun x7 => ?_)
      refine cw_goto (tgt := 139) dX1_coupleAt_81 (by decide) ?_
      exact cw_iret rfl dX1_coupleAt_139
    · refine cw_weak (c' := 0) (q' := 0) (by omega) (by omega) ?_
      refine cw_aload_n dX1_coupleAt_84 rfl 0 rfl ?_
      refine cw_getI (ci := 4) (j := 4) (C := RX5) (T := TX5) (N := 5) rfl (by decide) rfl rfl (Or.inr ⟨_, q1019⟩) fSame_rfl dX1_coupleAt_85 (fun x8 => ?_)
      refine cw_if_eq (tgt := 95) dX1_coupleAt_88 (by decide) ?_ ?_
      · refine cw_iconst (v := 0) dX1_coupleAt_95 (by decide) ?_
        refine cw_goto (tgt := 139) dX1_coupleAt_96 (by decide) ?_
        exact cw_iret rfl dX1_coupleAt_139
      · refine cw_iconst (v := 1) dX1_coupleAt_91 (by decide) ?_
        refine cw_goto (tgt := 139) dX1_coupleAt_92 (by decide) ?_
        exact cw_iret rfl dX1_coupleAt_139
    · refine cw_weak (c' := 0) (q' := 0) (by omega) (by omega) ?_
      refine cw_aload_n dX1_coupleAt_99 rfl 0 rfl ?_
      refine cw_invI (d2 := md_X5_age) (c := 0) (q := 0) (as := [cR p2]) (mc := 0) (ms := 0) rfl rfl (okV (ci := 4) (C := RX5) (T0 := TX5) (N := 5) (n := 0) rfl rfl rfl dX1_coupleAt_100 (lw_V q1198 q1199 q1200 q136 q1201) ⟨rfl, hm_X5_age⟩ (by decide) (by decide) (Nat.le_of_ble_eq_true rfl)) (m_X5_age p2) rfl (fun x9 => ?_)
      refine cw_goto (tgt := 139) dX1_coupleAt_103 (by decide) ?_
      exact cw_iret rfl dX1_coupleAt_139
    · refine cw_weak (c' := 0) (q' := 0) (by omega) (by omega) ?_
      refine cw_aload_n dX1_coupleAt_106 rfl 0 rfl ?_
      refine cw_iload_n dX1_coupleAt_107 rfl 3 rfl ?_
      refine cw_iconst (v := 4) dX1_coupleAt_108 (by decide) ?_
      refine cw_isub dX1_coupleAt_109 ?_
      refine cw_invI (d2 := md_X5_grade) (c := 0) (q := 0) (as := [cR p2, cI (a2 - 4)]) (mc := 0) (ms := 0) rfl rfl (okV (ci := 4) (C := RX5) (T0 := TX5) (N := 5) (n := 1) rfl rfl rfl dX1_coupleAt_110 (lw_V q1203 q1204 q1205 q136 q1206) ⟨rfl, hm_X5_grade⟩ (by decide) (by decide) (Nat.le_of_ble_eq_true rfl)) (m_X5_grade p2 (a2 - 4)) rfl (fun x10 => ?_)
      refine cw_goto (tgt := 139) dX1_coupleAt_113 (by decide) ?_
      exact cw_iret rfl dX1_coupleAt_139
    · refine cw_weak (c' := 0) (q' := 0) (by omega) (by omega) ?_
      refine cw_aload_n dX1_coupleAt_106 rfl 0 rfl ?_
      refine cw_iload_n dX1_coupleAt_107 rfl 3 rfl ?_
      refine cw_iconst (v := 4) dX1_coupleAt_108 (by decide) ?_
      refine cw_isub dX1_coupleAt_109 ?_
      refine cw_invI (d2 := md_X5_grade) (c := 0) (q := 0) (as := [cR p2, cI (a2 - 4)]) (mc := 0) (ms := 0) rfl rfl (okV (ci := 4) (C := RX5) (T0 := TX5) (N := 5) (n := 1) rfl rfl rfl dX1_coupleAt_110 (lw_V q1203 q1204 q1205 q136 q1206) ⟨rfl, hm_X5_grade⟩ (by decide) (by decide) (Nat.le_of_ble_eq_true rfl)) (m_X5_grade p2 (a2 - 4)) rfl (fun x11 => ?_)
      refine cw_goto (tgt := 139) dX1_coupleAt_113 (by decide) ?_
      exact cw_iret rfl dX1_coupleAt_139
    · refine cw_weak (c' := 0) (q' := 0) (by omega) (by omega) ?_
      refine cw_aload_n dX1_coupleAt_116 rfl 0 rfl ?_
      refine cw_invI (d2 := md_X5_isProfessional) (c := 0) (q := 0) (as := [cR p2]) (mc := 0) (ms := 0) rfl rfl (okV (ci := 4) (C := RX5) (T0 := TX5) (N := 5) (n := 0) rfl rfl rfl dX1_coupleAt_117 (lw_V q1193 q1194 q1195 q136 q1196) ⟨rfl, hm_X5_isProfessional⟩ (by decide) (by decide) (Nat.le_of_ble_eq_true rfl)) (m_X5_isProfessional p2) rfl (fun x12 => ?_)
      refine cw_if_eq (tgt := 127) dX1_coupleAt_120 (by decide) ?_ ?_
      · refine cw_iconst (v := 0) dX1_coupleAt_127 (by decide) ?_
        refine cw_goto (tgt := 139) dX1_coupleAt_128 (by decide) ?_
        exact cw_iret rfl dX1_coupleAt_139
      · refine cw_iconst (v := 1) dX1_coupleAt_123 (by decide) ?_
        refine cw_goto (tgt := 139) dX1_coupleAt_124 (by decide) ?_
        exact cw_iret rfl dX1_coupleAt_139
  · refine cw_aload_n dX1_coupleAt_131 rfl 0 rfl ?_
    refine cw_iload_n dX1_coupleAt_132 rfl 3 rfl ?_
    refine cw_bipush (v := 7) dX1_coupleAt_133 (by decide) ?_
    refine cw_isub dX1_coupleAt_135 ?_
    refine cw_invI (d2 := md_X5_rank) (c := 0) (q := 0) (as := [cR p2, cI (a2 - 7)]) (mc := 2) (ms := 67) rfl rfl (okV (ci := 4) (C := RX5) (T0 := TX5) (N := 5) (n := 1) rfl rfl rfl dX1_coupleAt_136 (lw_V q1967 q1968 q1969 q136 q1970) ⟨rfl, hm_X5_rank⟩ (by decide) (by decide) (Nat.le_of_ble_eq_true rfl)) (m_X5_rank p2 (a2 - 7)) rfl (fun x13 => ?_)
    exact cw_iret rfl dX1_coupleAt_139
def g_X1_mayEnter (a0 : Nat) (a1 : Int32) (a2 : Int32) : GF :=
  getP 20 a0 3 fun p1 =>
  invP none (g_X1_at p1 a1) fun p2 =>
  castG 25 p2 <|
  getP 20 a0 2 fun p3 =>
  invP none (g_X1_at p3 a2) fun p4 =>
  castG 24 p4 <|
  invI (some (a0, 20)) (g_X1_against a0 p2 p4) fun x5 =>
  retG (rI x5)
abbrev md_X1_mayEnter : MD := (yX1_mayEnter, cX1_mayEnter, 4, (some (Jvm.ClassFile.FieldType.int)), RX1, 18, 4, 20)
theorem hm_X1_mayEnter : (md_X1_mayEnter).y.cls ≠ "java/lang/invoke/MethodHandle" ∧ (md_X1_mayEnter).y.cls ≠ "java/lang/invoke/VarHandle" ∧ (parseMethodDescriptor (md_X1_mayEnter).y.desc).map (fun d => d.parameters.length) = some 2 := by decide +kernel
theorem m_X1_mayEnter (a0 : Nat) (a1 : Int32) (a2 : Int32) : CMF md_X1_mayEnter [cR a0, cI a1, cI a2] (g_X1_mayEnter a0 a1 a2) := by
  refine cm_of (by decide +kernel) rfl (Nat.le_of_ble_eq_true rfl) ?_
  show CWF _ 4 20 0 [(0, cR a0), (1, cI a1), (2, cI a2)] [] _
  unfold g_X1_mayEnter
  refine cw_aload_n dX1_mayEnter_0 rfl 0 rfl ?_
  refine cw_getP (ci := 0) (j := 3) (C := RX1) (T := TX1) (N := 11) rfl (by decide) rfl rfl (Or.inl q209) fSame_rfl dX1_mayEnter_1 (fun p1 => ?_)
  refine cw_iload_n dX1_mayEnter_4 rfl 1 rfl ?_
  refine cw_invP (d2 := md_X1_at) (c := 3) (q := 14) (as := [cR p1, cI a1]) (mc := 1) (ms := 6) rfl rfl (okS (n := 2) rfl dX1_mayEnter_5 (lw_S q883 q884 q111 q885) hm_X1_at (by decide) (by decide) (Nat.le_of_ble_eq_true rfl)) (m_X1_at p1 a1) rfl (fun p2 => ?_)
  refine cw_cast (ci := 5) (T := TX6) (N := 19) (C := RX6) rfl rfl q524 (Or.inl rfl) dX1_mayEnter_8 ?_
  refine cw_astore_n (ls' := [(3, cR p2), (0, cR a0), (1, cI a1), (2, cI a2)]) dX1_mayEnter_11 rfl (by decide) rfl ?_
  refine cw_aload_n dX1_mayEnter_12 rfl 1 rfl ?_
  refine cw_aload_n dX1_mayEnter_13 rfl 0 rfl ?_
  refine cw_aload_n dX1_mayEnter_14 rfl 1 rfl ?_
  refine cw_getP (ci := 0) (j := 2) (C := RX1) (T := TX1) (N := 11) rfl (by decide) rfl rfl (Or.inl q208) fSame_rfl dX1_mayEnter_15 (fun p3 => ?_)
  refine cw_iload_n dX1_mayEnter_18 rfl 3 rfl ?_
  refine cw_invP (d2 := md_X1_at) (c := 2) (q := 8) (as := [cR p3, cI a2]) (mc := 1) (ms := 6) rfl rfl (okS (n := 2) rfl dX1_mayEnter_19 (lw_S q883 q884 q111 q885) hm_X1_at (by decide) (by decide) (Nat.le_of_ble_eq_true rfl)) (m_X1_at p3 a2) rfl (fun p4 => ?_)
  refine cw_cast (ci := 4) (T := TX5) (N := 5) (C := RX5) rfl rfl q762 (Or.inl rfl) dX1_mayEnter_22 ?_
  refine cw_invI (d2 := md_X1_against) (c := 0) (q := 0) (as := [cR a0, cR p2, cR p4]) (mc := 2) (ms := 8) rfl rfl (okV (ci := 0) (C := RX1) (T0 := TX1) (N := 11) (n := 2) rfl rfl rfl dX1_mayEnter_25 (lw_V q1173 q1175 qs10 q111 q1176) ⟨rfl, hm_X1_against⟩ (by decide) (by decide) (Nat.le_of_ble_eq_true rfl)) (m_X1_against a0 p2 p4) rfl (fun x5 => ?_)
  exact cw_iret rfl dX1_mayEnter_28
def g_X1_eventAt (a0 : Nat) (a1 : Int32) (a2 : Int32) : GF :=
  getP 20 a0 3 fun p1 =>
  invP none (g_X1_at p1 a1) fun p2 =>
  castG 25 p2 <|
  invI none (g_X1_isBetween a2 0 10) fun x3 =>
  invV none (g_X1_requireArgument x3) <|
  swG a2 0 [
    invI (some (p2, 25)) (g_X6_state p2) fun x4 =>
    retG (rI x4),
    invI (some (p2, 25)) (g_X6_valid p2) fun x5 =>
    retG (rI x5),
    getP 25 p2 18 fun p6 =>
    getI 26 p6 0 fun x7 =>
    retG (rI x7),
    getP 25 p2 18 fun p8 =>
    getP 26 p8 2 fun p9 =>
    invI (some (p9, 8)) (s_size p9) fun x10 =>
    retG (rI x10),
    invI (some (p2, 25)) (g_X6_wanted p2) fun x11 =>
    retG (rI x11),
    invP (some (p2, 25)) (g_X6_heats p2) fun p12 =>
    invI (some (p12, 8)) (s_size p12) fun x13 =>
    retG (rI x13),
    invI (some (p2, 25)) (g_X6_missing p2) fun x14 =>
    retG (rI x14),
    getI 25 p2 14 fun x15 =>
    retG (rI x15),
    getP 25 p2 8 fun p16 =>
    invP (some (p16, 8)) (s_get p16 (a2 - 8)) fun p17 =>
    castG 8 p17 <|
    invI (some (p17, 8)) (s_size p17) fun x18 =>
    retG (rI x18),
    getP 25 p2 8 fun p19 =>
    invP (some (p19, 8)) (s_get p19 (a2 - 8)) fun p20 =>
    castG 8 p20 <|
    invI (some (p20, 8)) (s_size p20) fun x21 =>
    retG (rI x21)] <|
  invI (some (a0, 20)) (g_X1_takes a0 p2) fun x22 =>
  retG (rI x22)
abbrev md_X1_eventAt : MD := (yX1_eventAt, cX1_eventAt, 4, (some (Jvm.ClassFile.FieldType.int)), RX1, 18, 836, 7975)
theorem hm_X1_eventAt : (md_X1_eventAt).y.cls ≠ "java/lang/invoke/MethodHandle" ∧ (md_X1_eventAt).y.cls ≠ "java/lang/invoke/VarHandle" ∧ (parseMethodDescriptor (md_X1_eventAt).y.desc).map (fun d => d.parameters.length) = some 2 := by decide +kernel
theorem m_X1_eventAt (a0 : Nat) (a1 : Int32) (a2 : Int32) : CMF md_X1_eventAt [cR a0, cI a1, cI a2] (g_X1_eventAt a0 a1 a2) := by
  refine cm_of (by decide +kernel) rfl (Nat.le_of_ble_eq_true rfl) ?_
  show CWF _ 836 7975 0 [(0, cR a0), (1, cI a1), (2, cI a2)] [] _
  unfold g_X1_eventAt
  refine cw_aload_n dX1_eventAt_0 rfl 0 rfl ?_
  refine cw_getP (ci := 0) (j := 3) (C := RX1) (T := TX1) (N := 11) rfl (by decide) rfl rfl (Or.inl q209) fSame_rfl dX1_eventAt_1 (fun p1 => ?_)
  refine cw_iload_n dX1_eventAt_4 rfl 1 rfl ?_
  refine cw_invP (d2 := md_X1_at) (c := 835) (q := 7969) (as := [cR p1, cI a1]) (mc := 1) (ms := 6) rfl rfl (okS (n := 2) rfl dX1_eventAt_5 (lw_S q883 q884 q111 q885) hm_X1_at (by decide) (by decide) (Nat.le_of_ble_eq_true rfl)) (m_X1_at p1 a1) rfl (fun p2 => ?_)
  refine cw_cast (ci := 5) (T := TX6) (N := 19) (C := RX6) rfl rfl q524 (Or.inl rfl) dX1_eventAt_8 ?_
  refine cw_astore_n (ls' := [(3, cR p2), (0, cR a0), (1, cI a1), (2, cI a2)]) dX1_eventAt_11 rfl (by decide) rfl ?_
  refine cw_iload_n dX1_eventAt_12 rfl 3 rfl ?_
  refine cw_iconst (v := 0) dX1_eventAt_13 (by decide) ?_
  refine cw_bipush (v := 10) dX1_eventAt_14 (by decide) ?_
  refine cw_invI (d2 := md_X1_isBetween) (c := 835) (q := 7969) (as := [cI a2, cI 0, cI 10]) (mc := 0) (ms := 0) rfl rfl (okS (n := 3) rfl dX1_eventAt_16 (lw_S q258 q259 q111 q260) hm_X1_isBetween (by decide) (by decide) (Nat.le_of_ble_eq_true rfl)) (m_X1_isBetween a2 0 10) rfl (fun x3 => ?_)
  refine cw_invV (d2 := md_X1_requireArgument) (c := 834) (q := 7963) (as := [cI x3]) (mc := 1) (ms := 6) rfl rfl (okS (n := 1) rfl dX1_eventAt_19 (lw_S q744 q745 q111 q746) hm_X1_requireArgument (by decide) (by decide) (Nat.le_of_ble_eq_true rfl)) (m_X1_requireArgument x3) rfl ?_
  refine cw_iload_n dX1_eventAt_22 rfl 3 rfl ?_
  refine cw_switch (tgt0 := 172) dX1_eventAt_23 [76, 83, 90, 100, 115, 122, 134, 141, 148, 148] (by decide) rfl (by decide) (by decide) ?_ ?_
  · refine ⟨?_, ?_, ?_, ?_, ?_, ?_, ?_, ?_, ?_, ?_, trivial⟩
    · refine cw_weak (c' := 0) (q' := 0) (by omega) (by omega) ?_
      refine cw_aload_n dX1_eventAt_76 rfl 0 rfl ?_
      refine cw_invI (d2 := md_X6_state) (c := 0) (q := 0) (as := [cR p2]) (mc := 0) (ms := 0) rfl rfl (okV (ci := 5) (C := RX6) (T0 := TX6) (N := 19) (n := 0) rfl rfl rfl dX1_eventAt_77 (lw_V q1177 q1178 q1179 q137 q1180) ⟨rfl, hm_X6_state⟩ (by decide) (by decide) (Nat.le_of_ble_eq_true rfl)) (m_X6_state p2) rfl (fun x4 => ?_)
      refine cw_goto (tgt := 177) dX1_eventAt_80 (by decide) ?_
      exact cw_iret rfl dX1_eventAt_177
    · refine cw_weak (c' := 1) (q' := 4) (by omega) (by omega) ?_
      refine cw_aload_n dX1_eventAt_83 rfl 0 rfl ?_
      refine cw_invI (d2 := md_X6_valid) (c := 0) (q := 0) (as := [cR p2]) (mc := 1) (ms := 4) rfl rfl (okV (ci := 5) (C := RX6) (T0 := TX6) (N := 19) (n := 0) rfl rfl rfl dX1_eventAt_84 (lw_V q526 q527 q528 q137 q529) ⟨rfl, hm_X6_valid⟩ (by decide) (by decide) (Nat.le_of_ble_eq_true rfl)) (m_X6_valid p2) rfl (fun x5 => ?_)
      refine cw_goto (tgt := 177) dX1_eventAt_87 (by decide) ?_
      exact cw_iret rfl dX1_eventAt_177
    · refine cw_weak (c' := 0) (q' := 0) (by omega) (by omega) ?_
      refine cw_aload_n dX1_eventAt_90 rfl 0 rfl ?_
      refine cw_getP (ci := 5) (j := 18) (C := RX6) (T := TX6) (N := 19) rfl (by decide) rfl rfl (Or.inr ⟨_, q1119⟩) fSame_rfl dX1_eventAt_91 (fun p6 => ?_)
      refine cw_getI (ci := 6) (j := 0) (C := RX7) (T := TX7) (N := 5) rfl (by decide) rfl rfl (Or.inr ⟨_, q1062⟩) fSame_rfl dX1_eventAt_94 (fun x7 => ?_)
      refine cw_goto (tgt := 177) dX1_eventAt_97 (by decide) ?_
      exact cw_iret rfl dX1_eventAt_177
    · refine cw_weak (c' := 0) (q' := 0) (by omega) (by omega) ?_
      refine cw_aload_n dX1_eventAt_100 rfl 0 rfl ?_
      refine cw_getP (ci := 5) (j := 18) (C := RX6) (T := TX6) (N := 19) rfl (by decide) rfl rfl (Or.inr ⟨_, q1119⟩) fSame_rfl dX1_eventAt_101 (fun p8 => ?_)
      refine cw_getP (ci := 6) (j := 2) (C := RX7) (T := TX7) (N := 5) rfl (by decide) rfl rfl (Or.inr ⟨_, q1068⟩) fSame_rfl dX1_eventAt_104 (fun p9 => ?_)
      refine cw_invI (d2 := md_J2_size) (c := 0) (q := 0) (as := [cR p9]) (mc := 0) (ms := 0) rfl rfl (okF (x := ⟨"java/util/List", "size", "()I"⟩) (ci := 14) (C := RJ2) (T0 := TJ2) (N := 3) (n := 0) rfl (Or.inr ⟨rfl, rfl⟩) rfl dX1_eventAt_107 (lw_F q246 q251 q249 q114 q253) (List.mem_iff_getElem?.mpr ⟨1, rfl⟩) (show ("java/util/List" : String) ≠ _ ∧ ("java/util/List" : String) ≠ _ ∧ (parseMethodDescriptor (md_J2_size).y.desc).map (fun d => d.parameters.length) = some 0 from ⟨by decide, by decide, (hm_J2_size).2.2⟩) (by decide) (by decide) (Nat.le_of_ble_eq_true rfl)) (c_size p9) rfl (fun x10 => ?_)
      refine cw_goto (tgt := 177) dX1_eventAt_112 (by decide) ?_
      exact cw_iret rfl dX1_eventAt_177
    · refine cw_weak (c' := 0) (q' := 0) (by omega) (by omega) ?_
      refine cw_aload_n dX1_eventAt_115 rfl 0 rfl ?_
      refine cw_invI (d2 := md_X6_wanted) (c := 0) (q := 0) (as := [cR p2]) (mc := 0) (ms := 0) rfl rfl (okV (ci := 5) (C := RX6) (T0 := TX6) (N := 19) (n := 0) rfl rfl rfl dX1_eventAt_116 (lw_V q1406 q1407 q1408 q137 q1409) ⟨rfl, hm_X6_wanted⟩ (by decide) (by decide) (Nat.le_of_ble_eq_true rfl)) (m_X6_wanted p2) rfl (fun x11 => ?_)
      refine cw_goto (tgt := 177) dX1_eventAt_119 (by decide) ?_
      exact cw_iret rfl dX1_eventAt_177
    · refine cw_aload_n dX1_eventAt_122 rfl 0 rfl ?_
      refine cw_invP (d2 := md_X6_heats) (c := 0) (q := 0) (as := [cR p2]) (mc := 834) (ms := 7963) rfl rfl (okV (ci := 5) (C := RX6) (T0 := TX6) (N := 19) (n := 0) rfl rfl rfl dX1_eventAt_123 (lw_V q1325 q1326 q1327 q137 q1328) ⟨rfl, hm_X6_heats⟩ (by decide) (by decide) (Nat.le_of_ble_eq_true rfl)) (m_X6_heats p2) rfl (fun p12 => ?_)
      refine cw_invI (d2 := md_J2_size) (c := 0) (q := 0) (as := [cR p12]) (mc := 0) (ms := 0) rfl rfl (okF (x := ⟨"java/util/List", "size", "()I"⟩) (ci := 14) (C := RJ2) (T0 := TJ2) (N := 3) (n := 0) rfl (Or.inr ⟨rfl, rfl⟩) rfl dX1_eventAt_126 (lw_F q246 q251 q249 q114 q253) (List.mem_iff_getElem?.mpr ⟨1, rfl⟩) (show ("java/util/List" : String) ≠ _ ∧ ("java/util/List" : String) ≠ _ ∧ (parseMethodDescriptor (md_J2_size).y.desc).map (fun d => d.parameters.length) = some 0 from ⟨by decide, by decide, (hm_J2_size).2.2⟩) (by decide) (by decide) (Nat.le_of_ble_eq_true rfl)) (c_size p12) rfl (fun x13 => ?_)
      refine cw_goto (tgt := 177) dX1_eventAt_131 (by decide) ?_
      exact cw_iret rfl dX1_eventAt_177
    · refine cw_weak (c' := 0) (q' := 0) (by omega) (by omega) ?_
      refine cw_aload_n dX1_eventAt_134 rfl 0 rfl ?_
      refine cw_invI (d2 := md_X6_missing) (c := 0) (q := 0) (as := [cR p2]) (mc := 0) (ms := 0) rfl rfl (okV (ci := 5) (C := RX6) (T0 := TX6) (N := 19) (n := 0) rfl rfl rfl dX1_eventAt_135 (lw_V q1424 q1425 q1426 q137 q1427) ⟨rfl, hm_X6_missing⟩ (by decide) (by decide) (Nat.le_of_ble_eq_true rfl)) (m_X6_missing p2) rfl (fun x14 => ?_)
      refine cw_goto (tgt := 177) dX1_eventAt_138 (by decide) ?_
      exact cw_iret rfl dX1_eventAt_177
    · refine cw_weak (c' := 0) (q' := 0) (by omega) (by omega) ?_
      refine cw_aload_n dX1_eventAt_141 rfl 0 rfl ?_
      refine cw_getI (ci := 5) (j := 14) (C := RX6) (T := TX6) (N := 19) rfl (by decide) rfl rfl (Or.inr ⟨_, q1112⟩) fSame_rfl dX1_eventAt_142 (fun x15 => ?_)
      refine cw_goto (tgt := 177) dX1_eventAt_145 (by decide) ?_
      exact cw_iret rfl dX1_eventAt_177
    · refine cw_weak (c' := 0) (q' := 0) (by omega) (by omega) ?_
      refine cw_aload_n dX1_eventAt_148 rfl 0 rfl ?_
      refine cw_getP (ci := 5) (j := 8) (C := RX6) (T := TX6) (N := 19) rfl (by decide) rfl rfl (Or.inr ⟨_, q1102⟩) fSame_rfl dX1_eventAt_149 (fun p16 => ?_)
      refine cw_iload_n dX1_eventAt_152 rfl 3 rfl ?_
      refine cw_bipush (v := 8) dX1_eventAt_153 (by decide) ?_
      refine cw_isub dX1_eventAt_155 ?_
      refine cw_invP (d2 := md_J2_get) (c := 0) (q := 0) (as := [cR p16, cI (a2 - 8)]) (mc := 0) (ms := 0) rfl rfl (okF (x := ⟨"java/util/List", "get", "(I)Ljava/lang/Object;"⟩) (ci := 14) (C := RJ2) (T0 := TJ2) (N := 3) (n := 1) rfl (Or.inr ⟨rfl, rfl⟩) rfl dX1_eventAt_156 (lw_F q262 q267 q265 q114 q269) (List.mem_iff_getElem?.mpr ⟨2, rfl⟩) (show ("java/util/List" : String) ≠ _ ∧ ("java/util/List" : String) ≠ _ ∧ (parseMethodDescriptor (md_J2_get).y.desc).map (fun d => d.parameters.length) = some 1 from ⟨by decide, by decide, (hm_J2_get).2.2⟩) (by decide) (by decide) (Nat.le_of_ble_eq_true rfl)) (c_get p16 (a2 - 8)) rfl (fun p17 => ?_)
      refine cw_castL q1220 (Or.inr q200) dX1_eventAt_161 ?_
      refine cw_invI (d2 := md_J2_size) (c := 0) (q := 0) (as := [cR p17]) (mc := 0) (ms := 0) rfl rfl (okF (x := ⟨"java/util/List", "size", "()I"⟩) (ci := 14) (C := RJ2) (T0 := TJ2) (N := 3) (n := 0) rfl (Or.inr ⟨rfl, rfl⟩) rfl dX1_eventAt_164 (lw_F q246 q251 q249 q114 q253) (List.mem_iff_getElem?.mpr ⟨1, rfl⟩) (show ("java/util/List" : String) ≠ _ ∧ ("java/util/List" : String) ≠ _ ∧ (parseMethodDescriptor (md_J2_size).y.desc).map (fun d => d.parameters.length) = some 0 from ⟨by decide, by decide, (hm_J2_size).2.2⟩) (by decide) (by decide) (Nat.le_of_ble_eq_true rfl)) (c_size p17) rfl (fun x18 => ?_)
      refine cw_goto (tgt := 177) dX1_eventAt_169 (by decide) ?_
      exact cw_iret rfl dX1_eventAt_177
    · refine cw_weak (c' := 0) (q' := 0) (by omega) (by omega) ?_
      refine cw_aload_n dX1_eventAt_148 rfl 0 rfl ?_
      refine cw_getP (ci := 5) (j := 8) (C := RX6) (T := TX6) (N := 19) rfl (by decide) rfl rfl (Or.inr ⟨_, q1102⟩) fSame_rfl dX1_eventAt_149 (fun p19 => ?_)
      refine cw_iload_n dX1_eventAt_152 rfl 3 rfl ?_
      refine cw_bipush (v := 8) dX1_eventAt_153 (by decide) ?_
      refine cw_isub dX1_eventAt_155 ?_
      refine cw_invP (d2 := md_J2_get) (c := 0) (q := 0) (as := [cR p19, cI (a2 - 8)]) (mc := 0) (ms := 0) rfl rfl (okF (x := ⟨"java/util/List", "get", "(I)Ljava/lang/Object;"⟩) (ci := 14) (C := RJ2) (T0 := TJ2) (N := 3) (n := 1) rfl (Or.inr ⟨rfl, rfl⟩) rfl dX1_eventAt_156 (lw_F q262 q267 q265 q114 q269) (List.mem_iff_getElem?.mpr ⟨2, rfl⟩) (show ("java/util/List" : String) ≠ _ ∧ ("java/util/List" : String) ≠ _ ∧ (parseMethodDescriptor (md_J2_get).y.desc).map (fun d => d.parameters.length) = some 1 from ⟨by decide, by decide, (hm_J2_get).2.2⟩) (by decide) (by decide) (Nat.le_of_ble_eq_true rfl)) (c_get p19 (a2 - 8)) rfl (fun p20 => ?_)
      refine cw_castL q1220 (Or.inr q200) dX1_eventAt_161 ?_
      refine cw_invI (d2 := md_J2_size) (c := 0) (q := 0) (as := [cR p20]) (mc := 0) (ms := 0) rfl rfl (okF (x := ⟨"java/util/List", "size", "()I"⟩) (ci := 14) (C := RJ2) (T0 := TJ2) (N := 3) (n := 0) rfl (Or.inr ⟨rfl, rfl⟩) rfl dX1_eventAt_164 (lw_F q246 q251 q249 q114 q253) (List.mem_iff_getElem?.mpr ⟨1, rfl⟩) (show ("java/util/List" : String) ≠ _ ∧ ("java/util/List" : String) ≠ _ ∧ (parseMethodDescriptor (md_J2_size).y.desc).map (fun d => d.parameters.length) = some 0 from ⟨by decide, by decide, (hm_J2_size).2.2⟩) (by decide) (by decide) (Nat.le_of_ble_eq_true rfl)) (c_size p20) rfl (fun x21 => ?_)
      refine cw_goto (tgt := 177) dX1_eventAt_169 (by decide) ?_
      exact cw_iret rfl dX1_eventAt_177
  · refine cw_aload_n dX1_eventAt_172 rfl 1 rfl ?_
    refine cw_aload_n dX1_eventAt_173 rfl 0 rfl ?_
    refine cw_invI (d2 := md_X1_takes) (c := 0) (q := 0) (as := [cR a0, cR p2]) (mc := 834) (ms := 7963) rfl rfl (okV (ci := 0) (C := RX1) (T0 := TX1) (N := 11) (n := 1) rfl rfl rfl dX1_eventAt_174 (lw_V q1905 q1907 qs31 q111 q1908) ⟨rfl, hm_X1_takes⟩ (by decide) (by decide) (Nat.le_of_ble_eq_true rfl)) (m_X1_takes a0 p2) rfl (fun x22 => ?_)
    exact cw_iret rfl dX1_eventAt_177
def b_X1_heatOf_10 (a1 : Nat) (p1 : Nat) (rec4 : (Int32 × Int32) → GF) : (Int32 × Int32) → GF := fun (s : Int32 × Int32) => match s with
  | (l2, l3) =>
    invI (some (p1, 8)) (s_size p1) fun x5 =>
    if l3 < x5 then
      invP (some (p1, 8)) (s_get p1 l3) fun p6 =>
      castG 8 p6 <|
      invI (some (p6, 8)) (s_contains p6 a1) fun x7 =>
      jnG (fun (v8 : Int32) =>
        rec4 (v8, (l3 + 1))) fun J9 =>
      if x7 = 0 then
        J9 l2
      else
        J9 l3
    else
      retG (rI l2)
def g_X1_heatOf (a0 : Nat) (a1 : Nat) : GF :=
  invP (some (a0, 25)) (g_X6_heats a0) fun p1 =>
  loopG (b_X1_heatOf_10 a1 p1) FU ((-1 : Int32), 0)
abbrev md_X1_heatOf : MD := (yX1_heatOf, cX1_heatOf, 5, (some (Jvm.ClassFile.FieldType.int)), RX1, 17, 834, 7963)
theorem hm_X1_heatOf : (md_X1_heatOf).y.cls ≠ "java/lang/invoke/MethodHandle" ∧ (md_X1_heatOf).y.cls ≠ "java/lang/invoke/VarHandle" ∧ (parseMethodDescriptor (md_X1_heatOf).y.desc).map (fun d => d.parameters.length) = some 2 := by decide +kernel
theorem m_X1_heatOf (a0 : Nat) (a1 : Nat) : CMF md_X1_heatOf [cR a0, cR a1] (g_X1_heatOf a0 a1) := by
  refine cm_of (by decide +kernel) rfl (Nat.le_of_ble_eq_true rfl) ?_
  show CWF _ 834 7963 0 [(0, cR a0), (1, cR a1)] [] _
  unfold g_X1_heatOf
  refine cw_aload_n dX1_heatOf_0 rfl 0 rfl ?_
  refine cw_invP (d2 := md_X6_heats) (c := 0) (q := 0) (as := [cR a0]) (mc := 834) (ms := 7963) rfl rfl (okV (ci := 5) (C := RX6) (T0 := TX6) (N := 19) (n := 0) rfl rfl rfl dX1_heatOf_1 (lw_V q1325 q1326 q1327 q137 q1328) ⟨rfl, hm_X6_heats⟩ (by decide) (by decide) (Nat.le_of_ble_eq_true rfl)) (m_X6_heats a0) rfl (fun p1 => ?_)
  refine cw_astore_n (ls' := [(2, cR p1), (0, cR a0), (1, cR a1)]) dX1_heatOf_4 rfl (by decide) rfl ?_
  refine cw_iconst (v := -1) dX1_heatOf_5 (by decide) ?_
  refine cw_istore_n (ls' := [(3, cI (-1 : Int32)), (2, cR p1), (0, cR a0), (1, cR a1)]) dX1_heatOf_6 rfl (by decide) rfl ?_
  refine cw_iconst (v := 0) dX1_heatOf_7 (by decide) ?_
  refine cw_istore (ls' := [(4, cI 0), (3, cI (-1 : Int32)), (2, cR p1), (0, cR a0), (1, cR a1)]) dX1_heatOf_8 (by decide) rfl ?_
  refine cw_sub (ls' := [(2, cR p1), (1, cR a1), (3, cI (-1 : Int32)), (4, cI 0)]) [2, 4, 1, 0] rfl ?_
  refine cw_loop0 (lsf := fun (s : Int32 × Int32) => [(2, cR p1), (1, cR a1), (3, cI s.1), (4, cI s.2)]) (fun rec4 hrec4 s => ?_) FU ((-1 : Int32), 0)
  obtain ⟨l2, l3⟩ := s
  show CWF _ _ _ 10 [(2, cR p1), (1, cR a1), (3, cI l2), (4, cI l3)] [] _
  dsimp only [b_X1_heatOf_10]
  refine cw_iload dX1_heatOf_10 3 rfl ?_
  refine cw_aload_n dX1_heatOf_12 rfl 0 rfl ?_
  refine cw_invI (d2 := md_J2_size) (c := 0) (q := 0) (as := [cR p1]) (mc := 0) (ms := 0) rfl rfl (okF (x := ⟨"java/util/List", "size", "()I"⟩) (ci := 14) (C := RJ2) (T0 := TJ2) (N := 3) (n := 0) rfl (Or.inr ⟨rfl, rfl⟩) rfl dX1_heatOf_13 (lw_F q246 q251 q249 q114 q253) (List.mem_iff_getElem?.mpr ⟨1, rfl⟩) (show ("java/util/List" : String) ≠ _ ∧ ("java/util/List" : String) ≠ _ ∧ (parseMethodDescriptor (md_J2_size).y.desc).map (fun d => d.parameters.length) = some 0 from ⟨by decide, by decide, (hm_J2_size).2.2⟩) (by decide) (by decide) (Nat.le_of_ble_eq_true rfl)) (c_size p1) rfl (fun x5 => ?_)
  refine cw_icmp_ge (tgt := 54) dX1_heatOf_18 (by decide) ?_ ?_
  · refine cw_iload_n dX1_heatOf_54 rfl 2 rfl ?_
    exact cw_iret rfl dX1_heatOf_55
  · refine cw_aload_n dX1_heatOf_21 rfl 0 rfl ?_
    refine cw_iload dX1_heatOf_22 3 rfl ?_
    refine cw_invP (d2 := md_J2_get) (c := 0) (q := 0) (as := [cR p1, cI l3]) (mc := 0) (ms := 0) rfl rfl (okF (x := ⟨"java/util/List", "get", "(I)Ljava/lang/Object;"⟩) (ci := 14) (C := RJ2) (T0 := TJ2) (N := 3) (n := 1) rfl (Or.inr ⟨rfl, rfl⟩) rfl dX1_heatOf_24 (lw_F q262 q267 q265 q114 q269) (List.mem_iff_getElem?.mpr ⟨2, rfl⟩) (show ("java/util/List" : String) ≠ _ ∧ ("java/util/List" : String) ≠ _ ∧ (parseMethodDescriptor (md_J2_get).y.desc).map (fun d => d.parameters.length) = some 1 from ⟨by decide, by decide, (hm_J2_get).2.2⟩) (by decide) (by decide) (Nat.le_of_ble_eq_true rfl)) (c_get p1 l3) rfl (fun p6 => ?_)
    refine cw_castL q1220 (Or.inr q200) dX1_heatOf_29 ?_
    refine cw_aload_n dX1_heatOf_32 rfl 1 rfl ?_
    refine cw_invI (d2 := md_J2_contains) (c := 0) (q := 0) (as := [cR p6, cR a1]) (mc := 0) (ms := 0) rfl rfl (okF (x := ⟨"java/util/List", "contains", "(Ljava/lang/Object;)Z"⟩) (ci := 14) (C := RJ2) (T0 := TJ2) (N := 3) (n := 1) rfl (Or.inr ⟨rfl, rfl⟩) rfl dX1_heatOf_33 (lw_F q912 q686 q684 q114 q688) (List.mem_iff_getElem?.mpr ⟨10, rfl⟩) (show ("java/util/List" : String) ≠ _ ∧ ("java/util/List" : String) ≠ _ ∧ (parseMethodDescriptor (md_J2_contains).y.desc).map (fun d => d.parameters.length) = some 1 from ⟨by decide, by decide, (hm_J2_contains).2.2⟩) (by decide) (by decide) (Nat.le_of_ble_eq_true rfl)) (c_contains p6 a1) rfl (fun x7 => ?_)
    refine cw_jn (cj := 0) (kj := 0) (pcj := 47) (lsf := fun (s : Int32) => [(2, cR p1), (1, cR a1), (4, cI l3)]) (stf := fun (s : Int32) => [cI s]) (fun s => ?_) (fun J9 hJ9 => ?_)
    · obtain ⟨v8, e⟩ : ∃ z, z = s := ⟨_, rfl⟩
      subst e
      show CWF _ _ _ 47 [(2, cR p1), (1, cR a1), (4, cI l3)] [cI v8] _
      refine cw_istore_n (ls' := [(3, cI v8), (2, cR p1), (1, cR a1), (4, cI l3)]) dX1_heatOf_47 rfl (by decide) rfl ?_
      refine cw_iinc (v := (l3 + 1)) (ls' := [(4, cI (l3 + 1)), (3, cI v8), (2, cR p1), (1, cR a1)]) dX1_heatOf_48 3 rfl rfl (by decide) rfl ?_
      refine cw_goto (tgt := 10) dX1_heatOf_51 (by decide) ?_
      refine cw_sub (ls' := [(2, cR p1), (1, cR a1), (3, cI v8), (4, cI (l3 + 1))]) [2, 3, 1, 0] rfl ?_
      exact hrec4 (v8, (l3 + 1))
    · refine cw_if_eq (tgt := 46) dX1_heatOf_38 (by decide) ?_ ?_
      · refine cw_iload_n dX1_heatOf_46 rfl 2 rfl ?_
        refine cw_sub (ls' := [(2, cR p1), (1, cR a1), (4, cI l3)]) [0, 1, 3] rfl ?_
        exact hJ9 l2
      · refine cw_iload dX1_heatOf_41 3 rfl ?_
        refine cw_goto (tgt := 47) dX1_heatOf_43 (by decide) ?_
        refine cw_sub (ls' := [(2, cR p1), (1, cR a1), (4, cI l3)]) [0, 1, 3] rfl ?_
        exact hJ9 l3
def b_X8_brings_13 (p1 : Nat) (J6 : Int32 → GF) (rec9 : (Int32 × Int32) → GF) : (Int32 × Int32) → GF := fun (s : Int32 × Int32) => match s with
  | (l7, l8) =>
    invI (some (p1, 8)) (s_size p1) fun x10 =>
    if l8 < x10 then
      invI (some (p1, 8)) (s_size p1) fun x11 =>
      idivG (x11 - 1) 2 fun x12 =>
      invP (some (p1, 8)) (s_get p1 x12) fun p13 =>
      castIG p13 <|
      invI (some (p13, 36)) (g_J21_intValue p13) fun x14 =>
      invP (some (p1, 8)) (s_get p1 l8) fun p15 =>
      castIG p15 <|
      invI (some (p15, 36)) (g_J21_intValue p15) fun x16 =>
      rec9 ((l7 + (imax (x14 - 15) (imin (x14 + 15) x16))), (l8 + 1))
    else
      J6 l7
def g_X8_brings (a0 : Nat) (a1 : Int32) (a2 : Int32) : GF :=
  invP (some (a0, 27)) (g_X8_given a0 a1 a2) fun p1 =>
  jnG (fun (v2 : Int32) =>
    invI (some (p1, 8)) (s_isEmpty p1) fun x3 =>
    if x3 = 0 then
      invI (some (p1, 8)) (s_size p1) fun x4 =>
      idivG (10 * v2) x4 fun x5 =>
      retG (rI x5)
    else
      retG (rI 0)) fun J6 =>
  loopG (b_X8_brings_13 p1 J6) FU (0, 0)
abbrev md_X8_brings : MD := (yX8_brings, cX8_brings, 7, (some (Jvm.ClassFile.FieldType.int)), RX8, 16, 27, 1667)
theorem hm_X8_brings : (md_X8_brings).y.cls ≠ "java/lang/invoke/MethodHandle" ∧ (md_X8_brings).y.cls ≠ "java/lang/invoke/VarHandle" ∧ (parseMethodDescriptor (md_X8_brings).y.desc).map (fun d => d.parameters.length) = some 2 := by decide +kernel
theorem m_X8_brings (a0 : Nat) (a1 : Int32) (a2 : Int32) : CMF md_X8_brings [cR a0, cI a1, cI a2] (g_X8_brings a0 a1 a2) := by
  refine cm_of (by decide +kernel) rfl (Nat.le_of_ble_eq_true rfl) ?_
  show CWF _ 27 1667 0 [(0, cR a0), (1, cI a1), (2, cI a2)] [] _
  unfold g_X8_brings
  refine cw_aload_n dX8_brings_0 rfl 0 rfl ?_
  refine cw_iload_n dX8_brings_1 rfl 1 rfl ?_
  refine cw_iload_n dX8_brings_2 rfl 2 rfl ?_
  refine cw_invP (d2 := md_X8_given) (c := 0) (q := 0) (as := [cR a0, cI a1, cI a2]) (mc := 27) (ms := 1667) rfl rfl (okV (ci := 7) (C := RX8) (T0 := TX8) (N := 10) (n := 2) rfl rfl rfl dX8_brings_3 (lw_V q2016 q1439 q1440 q142 q1441) ⟨rfl, hm_X8_given⟩ (by decide) (by decide) (Nat.le_of_ble_eq_true rfl)) (m_X8_given a0 a1 a2) rfl (fun p1 => ?_)
  refine cw_astore_n (ls' := [(3, cR p1), (0, cR a0), (1, cI a1), (2, cI a2)]) dX8_brings_6 rfl (by decide) rfl ?_
  refine cw_iconst (v := 0) dX8_brings_7 (by decide) ?_
  refine cw_istore (ls' := [(4, cI 0), (3, cR p1), (0, cR a0), (1, cI a1), (2, cI a2)]) dX8_brings_8 (by decide) rfl ?_
  refine cw_iconst (v := 0) dX8_brings_10 (by decide) ?_
  refine cw_istore (ls' := [(5, cI 0), (4, cI 0), (3, cR p1), (0, cR a0), (1, cI a1), (2, cI a2)]) dX8_brings_11 (by decide) rfl ?_
  refine cw_jn (cj := 0) (kj := 0) (pcj := 89) (lsf := fun (s : Int32) => [(3, cR p1), (4, cI s)]) (stf := fun (s : Int32) => []) (fun s => ?_) (fun J6 hJ6 => ?_)
  · obtain ⟨v2, e⟩ : ∃ z, z = s := ⟨_, rfl⟩
    subst e
    show CWF _ _ _ 89 [(3, cR p1), (4, cI v2)] [] _
    refine cw_aload_n dX8_brings_89 rfl 0 rfl ?_
    refine cw_invI (d2 := md_J2_isEmpty) (c := 0) (q := 0) (as := [cR p1]) (mc := 0) (ms := 0) rfl rfl (okF (x := ⟨"java/util/List", "isEmpty", "()Z"⟩) (ci := 14) (C := RJ2) (T0 := TJ2) (N := 3) (n := 0) rfl (Or.inr ⟨rfl, rfl⟩) rfl dX8_brings_90 (lw_F q2020 q333 q331 q114 q335) (List.mem_iff_getElem?.mpr ⟨5, rfl⟩) (show ("java/util/List" : String) ≠ _ ∧ ("java/util/List" : String) ≠ _ ∧ (parseMethodDescriptor (md_J2_isEmpty).y.desc).map (fun d => d.parameters.length) = some 0 from ⟨by decide, by decide, (hm_J2_isEmpty).2.2⟩) (by decide) (by decide) (Nat.le_of_ble_eq_true rfl)) (c_isEmpty p1) rfl (fun x3 => ?_)
    refine cw_if_eq (tgt := 102) dX8_brings_95 (by decide) ?_ ?_
    · refine cw_bipush (v := 10) dX8_brings_102 (by decide) ?_
      refine cw_iload dX8_brings_104 1 rfl ?_
      refine cw_imul dX8_brings_106 ?_
      refine cw_aload_n dX8_brings_107 rfl 0 rfl ?_
      refine cw_invI (d2 := md_J2_size) (c := 0) (q := 0) (as := [cR p1]) (mc := 0) (ms := 0) rfl rfl (okF (x := ⟨"java/util/List", "size", "()I"⟩) (ci := 14) (C := RJ2) (T0 := TJ2) (N := 3) (n := 0) rfl (Or.inr ⟨rfl, rfl⟩) rfl dX8_brings_108 (lw_F q1450 q251 q249 q114 q253) (List.mem_iff_getElem?.mpr ⟨1, rfl⟩) (show ("java/util/List" : String) ≠ _ ∧ ("java/util/List" : String) ≠ _ ∧ (parseMethodDescriptor (md_J2_size).y.desc).map (fun d => d.parameters.length) = some 0 from ⟨by decide, by decide, (hm_J2_size).2.2⟩) (by decide) (by decide) (Nat.le_of_ble_eq_true rfl)) (c_size p1) rfl (fun x4 => ?_)
      refine cw_idiv dX8_brings_113 (fun x5 => ?_)
      exact cw_iret rfl dX8_brings_114
    · refine cw_iconst (v := 0) dX8_brings_98 (by decide) ?_
      refine cw_goto (tgt := 114) dX8_brings_99 (by decide) ?_
      exact cw_iret rfl dX8_brings_114
  · refine cw_sub (ls' := [(3, cR p1), (4, cI 0), (5, cI 0)]) [2, 1, 0] rfl ?_
    refine cw_loop0 (lsf := fun (s : Int32 × Int32) => [(3, cR p1), (4, cI s.1), (5, cI s.2)]) (fun rec9 hrec9 s => ?_) FU (0, 0)
    obtain ⟨l7, l8⟩ := s
    show CWF _ _ _ 13 [(3, cR p1), (4, cI l7), (5, cI l8)] [] _
    dsimp only [b_X8_brings_13]
    refine cw_iload dX8_brings_13 2 rfl ?_
    refine cw_aload_n dX8_brings_15 rfl 0 rfl ?_
    refine cw_invI (d2 := md_J2_size) (c := 0) (q := 0) (as := [cR p1]) (mc := 0) (ms := 0) rfl rfl (okF (x := ⟨"java/util/List", "size", "()I"⟩) (ci := 14) (C := RJ2) (T0 := TJ2) (N := 3) (n := 0) rfl (Or.inr ⟨rfl, rfl⟩) rfl dX8_brings_16 (lw_F q1450 q251 q249 q114 q253) (List.mem_iff_getElem?.mpr ⟨1, rfl⟩) (show ("java/util/List" : String) ≠ _ ∧ ("java/util/List" : String) ≠ _ ∧ (parseMethodDescriptor (md_J2_size).y.desc).map (fun d => d.parameters.length) = some 0 from ⟨by decide, by decide, (hm_J2_size).2.2⟩) (by decide) (by decide) (Nat.le_of_ble_eq_true rfl)) (c_size p1) rfl (fun x10 => ?_)
    refine cw_icmp_ge (tgt := 89) dX8_brings_21 (by decide) ?_ ?_
    · refine cw_sub (ls' := [(3, cR p1), (4, cI l7)]) [0, 1] rfl ?_
      exact hJ6 l7
    · refine cw_aload_n dX8_brings_24 rfl 0 rfl ?_
      refine cw_aload_n dX8_brings_25 rfl 0 rfl ?_
      refine cw_invI (d2 := md_J2_size) (c := 0) (q := 0) (as := [cR p1]) (mc := 0) (ms := 0) rfl rfl (okF (x := ⟨"java/util/List", "size", "()I"⟩) (ci := 14) (C := RJ2) (T0 := TJ2) (N := 3) (n := 0) rfl (Or.inr ⟨rfl, rfl⟩) rfl dX8_brings_26 (lw_F q1450 q251 q249 q114 q253) (List.mem_iff_getElem?.mpr ⟨1, rfl⟩) (show ("java/util/List" : String) ≠ _ ∧ ("java/util/List" : String) ≠ _ ∧ (parseMethodDescriptor (md_J2_size).y.desc).map (fun d => d.parameters.length) = some 0 from ⟨by decide, by decide, (hm_J2_size).2.2⟩) (by decide) (by decide) (Nat.le_of_ble_eq_true rfl)) (c_size p1) rfl (fun x11 => ?_)
      refine cw_iconst (v := 1) dX8_brings_31 (by decide) ?_
      refine cw_isub dX8_brings_32 ?_
      refine cw_iconst (v := 2) dX8_brings_33 (by decide) ?_
      refine cw_idiv dX8_brings_34 (fun x12 => ?_)
      refine cw_invP (d2 := md_J2_get) (c := 0) (q := 0) (as := [cR p1, cI x12]) (mc := 0) (ms := 0) rfl rfl (okF (x := ⟨"java/util/List", "get", "(I)Ljava/lang/Object;"⟩) (ci := 14) (C := RJ2) (T0 := TJ2) (N := 3) (n := 1) rfl (Or.inr ⟨rfl, rfl⟩) rfl dX8_brings_35 (lw_F q1452 q267 q265 q114 q269) (List.mem_iff_getElem?.mpr ⟨2, rfl⟩) (show ("java/util/List" : String) ≠ _ ∧ ("java/util/List" : String) ≠ _ ∧ (parseMethodDescriptor (md_J2_get).y.desc).map (fun d => d.parameters.length) = some 1 from ⟨by decide, by decide, (hm_J2_get).2.2⟩) (by decide) (by decide) (Nat.le_of_ble_eq_true rfl)) (c_get p1 x12) rfl (fun p13 => ?_)
      refine cw_castI q1453 dX8_brings_40 ?_
      refine cw_invI (d2 := md_J21_intValue) (c := 0) (q := 0) (as := [cR p13]) (mc := 0) (ms := 0) rfl rfl (okV (ci := 16) (C := RJ21) (T0 := TJ21) (N := 1) (n := 0) rfl rfl rfl dX8_brings_43 (lw_V q1454 q282 q283 q140 q284) ⟨rfl, hm_J21_intValue⟩ (by decide) (by decide) (Nat.le_of_ble_eq_true rfl)) (m_J21_intValue p13) rfl (fun x14 => ?_)
      refine cw_istore (ls' := [(6, cI x14), (3, cR p1), (4, cI l7), (5, cI l8)]) dX8_brings_46 (by decide) rfl ?_
      refine cw_iload dX8_brings_48 2 rfl ?_
      refine cw_iload dX8_brings_50 0 rfl ?_
      refine cw_bipush (v := 15) dX8_brings_52 (by decide) ?_
      refine cw_isub dX8_brings_54 ?_
      refine cw_iload dX8_brings_55 0 rfl ?_
      refine cw_bipush (v := 15) dX8_brings_57 (by decide) ?_
      refine cw_iadd dX8_brings_59 ?_
      refine cw_aload_n dX8_brings_60 rfl 1 rfl ?_
      refine cw_iload dX8_brings_61 3 rfl ?_
      refine cw_invP (d2 := md_J2_get) (c := 0) (q := 0) (as := [cR p1, cI l8]) (mc := 0) (ms := 0) rfl rfl (okF (x := ⟨"java/util/List", "get", "(I)Ljava/lang/Object;"⟩) (ci := 14) (C := RJ2) (T0 := TJ2) (N := 3) (n := 1) rfl (Or.inr ⟨rfl, rfl⟩) rfl dX8_brings_63 (lw_F q1452 q267 q265 q114 q269) (List.mem_iff_getElem?.mpr ⟨2, rfl⟩) (show ("java/util/List" : String) ≠ _ ∧ ("java/util/List" : String) ≠ _ ∧ (parseMethodDescriptor (md_J2_get).y.desc).map (fun d => d.parameters.length) = some 1 from ⟨by decide, by decide, (hm_J2_get).2.2⟩) (by decide) (by decide) (Nat.le_of_ble_eq_true rfl)) (c_get p1 l8) rfl (fun p15 => ?_)
      refine cw_castI q1453 dX8_brings_68 ?_
      refine cw_invI (d2 := md_J21_intValue) (c := 0) (q := 0) (as := [cR p15]) (mc := 0) (ms := 0) rfl rfl (okV (ci := 16) (C := RJ21) (T0 := TJ21) (N := 1) (n := 0) rfl rfl rfl dX8_brings_71 (lw_V q1454 q282 q283 q140 q284) ⟨rfl, hm_J21_intValue⟩ (by decide) (by decide) (Nat.le_of_ble_eq_true rfl)) (m_J21_intValue p15) rfl (fun x16 => ?_)
      refine cw_mmin q2017 (by decide) (Nat.le_of_ble_eq_true rfl) dX8_brings_74 ?_
      refine cw_mmax q2018 (by decide) (Nat.le_of_ble_eq_true rfl) dX8_brings_77 ?_
      refine cw_iadd dX8_brings_80 ?_
      refine cw_istore (ls' := [(4, cI (l7 + (imax (x14 - 15) (imin (x14 + 15) x16)))), (6, cI x14), (3, cR p1), (5, cI l8)]) dX8_brings_81 (by decide) rfl ?_
      refine cw_iinc (v := (l8 + 1)) (ls' := [(5, cI (l8 + 1)), (4, cI (l7 + (imax (x14 - 15) (imin (x14 + 15) x16)))), (6, cI x14), (3, cR p1)]) dX8_brings_83 3 rfl rfl (by decide) rfl ?_
      refine cw_goto (tgt := 13) dX8_brings_86 (by decide) ?_
      refine cw_sub (ls' := [(3, cR p1), (4, cI (l7 + (imax (x14 - 15) (imin (x14 + 15) x16)))), (5, cI (l8 + 1))]) [3, 1, 0] rfl ?_
      exact hrec9 ((l7 + (imax (x14 - 15) (imin (x14 + 15) x16))), (l8 + 1))
def b_X8_sum_11 (a0 : Nat) (l2 : Int32) (rec3 : (Int32 × Int32) → GF) (rec6 : (Int32 × Int32) → GF) : (Int32 × Int32) → GF := fun (s : Int32 × Int32) => match s with
  | (l4, l5) =>
    if l5 < 4 then
      invI (some (a0, 27)) (g_X8_brings a0 l2 l5) fun x7 =>
      rec6 ((l4 + x7), (l5 + 1))
    else
      rec3 (l4, (l2 + 1))
def b_X8_sum_4 (a0 : Nat) (rec3 : (Int32 × Int32) → GF) : (Int32 × Int32) → GF := fun (s : Int32 × Int32) => match s with
  | (l1, l2) =>
    if l2 < 5 then
      loopG (b_X8_sum_11 a0 l2 rec3) 26 (l1, 0)
    else
      retG (rI l1)
def g_X8_sum (a0 : Nat) : GF :=
  loopG (b_X8_sum_4 a0) 26 (0, 0)
abbrev md_X8_sum : MD := (yX8_sum, cX8_sum, 4, (some (Jvm.ClassFile.FieldType.int)), RX8, 17, 18252, 1126892)
theorem hm_X8_sum : (md_X8_sum).y.cls ≠ "java/lang/invoke/MethodHandle" ∧ (md_X8_sum).y.cls ≠ "java/lang/invoke/VarHandle" ∧ (parseMethodDescriptor (md_X8_sum).y.desc).map (fun d => d.parameters.length) = some 0 := by decide +kernel
theorem m_X8_sum (a0 : Nat) : CMF md_X8_sum [cR a0] (g_X8_sum a0) := by
  refine cm_of (by decide +kernel) rfl (Nat.le_of_ble_eq_true rfl) ?_
  show CWF _ 18252 1126892 0 [(0, cR a0)] [] _
  unfold g_X8_sum
  refine cw_iconst (v := 0) dX8_sum_0 (by decide) ?_
  refine cw_istore_n (ls' := [(1, cI 0), (0, cR a0)]) dX8_sum_1 rfl (by decide) rfl ?_
  refine cw_iconst (v := 0) dX8_sum_2 (by decide) ?_
  refine cw_istore_n (ls' := [(2, cI 0), (1, cI 0), (0, cR a0)]) dX8_sum_3 rfl (by decide) rfl ?_
  refine cw_sub (ls' := [(0, cR a0), (1, cI 0), (2, cI 0)]) [2, 1, 0] rfl ?_
  refine cw_weak (c' := 0 + 26 * 702) (q' := 0 + 26 * 43342) (by omega) (by omega) ?_
  refine cw_loop (ce := 0) (ke := 0) (cb := 702) (kb := 43342) (lsf := fun (s : Int32 × Int32) => [(0, cR a0), (1, cI s.1), (2, cI s.2)]) (fun Crec3 Krec3 rec3 hCrec3 hKrec3 hrec3 s => ?_) 26 (0, 0)
  obtain ⟨l1, l2⟩ := s
  show CWF _ _ _ 4 [(0, cR a0), (1, cI l1), (2, cI l2)] [] _
  dsimp only [b_X8_sum_4]
  refine cw_iload_n dX8_sum_4 rfl 2 rfl ?_
  refine cw_iconst (v := 5) dX8_sum_5 (by decide) ?_
  refine cw_icmp_ge (tgt := 37) dX8_sum_6 (by decide) ?_ ?_
  · refine cw_weak (c' := Crec3 + 0) (q' := Krec3 + 0) (by omega) (by omega) ?_
    refine cw_iload_n dX8_sum_37 rfl 1 rfl ?_
    exact cw_iret rfl dX8_sum_38
  · refine cw_iconst (v := 0) dX8_sum_9 (by decide) ?_
    refine cw_istore_n (ls' := [(3, cI 0), (0, cR a0), (1, cI l1), (2, cI l2)]) dX8_sum_10 rfl (by decide) rfl ?_
    refine cw_sub (ls' := [(0, cR a0), (2, cI l2), (1, cI l1), (3, cI 0)]) [1, 3, 2, 0] rfl ?_
    refine cw_weak (c' := Crec3 + 0 + 26 * 27) (q' := Krec3 + 0 + 26 * 1667) (by omega) (by omega) ?_
    refine cw_loop (ce := Crec3 + 0) (ke := Krec3 + 0) (cb := 27) (kb := 1667) (lsf := fun (s : Int32 × Int32) => [(0, cR a0), (2, cI l2), (1, cI s.1), (3, cI s.2)]) (fun Crec6 Krec6 rec6 hCrec6 hKrec6 hrec6 s => ?_) 26 (l1, 0)
    obtain ⟨l4, l5⟩ := s
    show CWF _ _ _ 11 [(0, cR a0), (2, cI l2), (1, cI l4), (3, cI l5)] [] _
    dsimp only [b_X8_sum_11]
    refine cw_iload_n dX8_sum_11 rfl 3 rfl ?_
    refine cw_iconst (v := 4) dX8_sum_12 (by decide) ?_
    refine cw_icmp_ge (tgt := 31) dX8_sum_13 (by decide) ?_ ?_
    · refine cw_weak (c' := Crec6 + 0) (q' := Krec6 + 0) (by omega) (by omega) ?_
      refine cw_iinc (v := (l2 + 1)) (ls' := [(2, cI (l2 + 1)), (0, cR a0), (1, cI l4), (3, cI l5)]) dX8_sum_31 1 rfl rfl (by decide) rfl ?_
      refine cw_goto (tgt := 4) dX8_sum_34 (by decide) ?_
      refine cw_weak (c' := Crec3 + 0) (q' := Krec3 + 0) (by omega) (by omega) ?_
      refine cw_sub (ls' := [(0, cR a0), (1, cI l4), (2, cI (l2 + 1))]) [1, 2, 0] rfl ?_
      exact hrec3 (l4, (l2 + 1))
    · refine cw_iload_n dX8_sum_16 rfl 2 rfl ?_
      refine cw_aload_n dX8_sum_17 rfl 0 rfl ?_
      refine cw_iload_n dX8_sum_18 rfl 1 rfl ?_
      refine cw_iload_n dX8_sum_19 rfl 3 rfl ?_
      refine cw_invI (d2 := md_X8_brings) (c := Crec6 + 0) (q := Krec6 + 0) (as := [cR a0, cI l2, cI l5]) (mc := 27) (ms := 1667) rfl rfl (okV (ci := 7) (C := RX8) (T0 := TX8) (N := 10) (n := 2) rfl rfl rfl dX8_sum_20 (lw_V q2012 q2013 q2014 q142 q2015) ⟨rfl, hm_X8_brings⟩ (by decide) (by decide) (Nat.le_of_ble_eq_true rfl)) (m_X8_brings a0 l2 l5) rfl (fun x7 => ?_)
      refine cw_iadd dX8_sum_23 ?_
      refine cw_istore_n (ls' := [(1, cI (l4 + x7)), (0, cR a0), (2, cI l2), (3, cI l5)]) dX8_sum_24 rfl (by decide) rfl ?_
      refine cw_iinc (v := (l5 + 1)) (ls' := [(3, cI (l5 + 1)), (1, cI (l4 + x7)), (0, cR a0), (2, cI l2)]) dX8_sum_25 3 rfl rfl (by decide) rfl ?_
      refine cw_goto (tgt := 11) dX8_sum_28 (by decide) ?_
      refine cw_sub (ls' := [(0, cR a0), (2, cI l2), (1, cI (l4 + x7)), (3, cI (l5 + 1))]) [2, 3, 1, 0] rfl ?_
      exact hrec6 ((l4 + x7), (l5 + 1))
def g_X1_entryAt (a0 : Nat) (a1 : Int32) (a2 : Int32) (a3 : Int32) : GF :=
  getP 20 a0 3 fun p1 =>
  invP none (g_X1_at p1 a1) fun p2 =>
  castG 25 p2 <|
  invP none (g_X1_entryOf p2 a2) fun p3 =>
  invI none (g_X1_isBetween a3 0 9) fun x4 =>
  invV none (g_X1_requireArgument x4) <|
  swG a3 0 [
    getP 27 p3 1 fun p5 =>
    getI 24 p5 0 fun x6 =>
    retG (rI x6),
    getI 27 p3 5 fun x7 =>
    if x7 = 0 then
      retG (rI 0)
    else
      retG (rI 1),
    getP 25 p2 18 fun p8 =>
    getP 26 p8 2 fun p9 =>
    invI (some (p9, 8)) (s_contains p9 p3) fun x10 =>
    if x10 = 0 then
      retG (rI 0)
    else
      retG (rI 1),
    invI none (g_X1_heatOf p2 p3) fun x11 =>
    retG (rI x11),
    getP 25 p2 18 fun p12 =>
    invI (some (p12, 26)) (g_X7_recalls p12 p3) fun x13 =>
    retG (rI x13),
    getI 27 p3 6 fun x14 =>
    retG (rI x14),
    getI 27 p3 7 fun x15 =>
    retG (rI x15),
    getI 27 p3 8 fun x16 =>
    retG (rI x16),
    getI 27 p3 9 fun x17 =>
    retG (rI x17)] <|
  invI (some (p3, 27)) (g_X8_sum p3) fun x18 =>
  retG (rI x18)
abbrev md_X1_entryAt : MD := (yX1_entryAt, cX1_entryAt, 6, (some (Jvm.ClassFile.FieldType.int)), RX1, 18, 18255, 1126910)
theorem hm_X1_entryAt : (md_X1_entryAt).y.cls ≠ "java/lang/invoke/MethodHandle" ∧ (md_X1_entryAt).y.cls ≠ "java/lang/invoke/VarHandle" ∧ (parseMethodDescriptor (md_X1_entryAt).y.desc).map (fun d => d.parameters.length) = some 3 := by decide +kernel
theorem m_X1_entryAt (a0 : Nat) (a1 : Int32) (a2 : Int32) (a3 : Int32) : CMF md_X1_entryAt [cR a0, cI a1, cI a2, cI a3] (g_X1_entryAt a0 a1 a2 a3) := by
  refine cm_of (by decide +kernel) rfl (Nat.le_of_ble_eq_true rfl) ?_
  show CWF _ 18255 1126910 0 [(0, cR a0), (1, cI a1), (2, cI a2), (3, cI a3)] [] _
  unfold g_X1_entryAt
  refine cw_aload_n dX1_entryAt_0 rfl 0 rfl ?_
  refine cw_getP (ci := 0) (j := 3) (C := RX1) (T := TX1) (N := 11) rfl (by decide) rfl rfl (Or.inl q209) fSame_rfl dX1_entryAt_1 (fun p1 => ?_)
  refine cw_iload_n dX1_entryAt_4 rfl 1 rfl ?_
  refine cw_invP (d2 := md_X1_at) (c := 18254) (q := 1126904) (as := [cR p1, cI a1]) (mc := 1) (ms := 6) rfl rfl (okS (n := 2) rfl dX1_entryAt_5 (lw_S q883 q884 q111 q885) hm_X1_at (by decide) (by decide) (Nat.le_of_ble_eq_true rfl)) (m_X1_at p1 a1) rfl (fun p2 => ?_)
  refine cw_cast (ci := 5) (T := TX6) (N := 19) (C := RX6) rfl rfl q524 (Or.inl rfl) dX1_entryAt_8 ?_
  refine cw_astore (ls' := [(4, cR p2), (0, cR a0), (1, cI a1), (2, cI a2), (3, cI a3)]) dX1_entryAt_11 (by decide) rfl ?_
  refine cw_aload dX1_entryAt_13 0 rfl ?_
  refine cw_iload_n dX1_entryAt_15 rfl 3 rfl ?_
  refine cw_invP (d2 := md_X1_entryOf) (c := 18253) (q := 1126898) (as := [cR p2, cI a2]) (mc := 1) (ms := 6) rfl rfl (okS (n := 2) rfl dX1_entryAt_16 (lw_S q1300 q1301 q111 q1302) hm_X1_entryOf (by decide) (by decide) (Nat.le_of_ble_eq_true rfl)) (m_X1_entryOf p2 a2) rfl (fun p3 => ?_)
  refine cw_astore (ls' := [(5, cR p3), (4, cR p2), (0, cR a0), (1, cI a1), (2, cI a2), (3, cI a3)]) dX1_entryAt_19 (by decide) rfl ?_
  refine cw_iload_n dX1_entryAt_21 rfl 5 rfl ?_
  refine cw_iconst (v := 0) dX1_entryAt_22 (by decide) ?_
  refine cw_bipush (v := 9) dX1_entryAt_23 (by decide) ?_
  refine cw_invI (d2 := md_X1_isBetween) (c := 18253) (q := 1126898) (as := [cI a3, cI 0, cI 9]) (mc := 0) (ms := 0) rfl rfl (okS (n := 3) rfl dX1_entryAt_25 (lw_S q258 q259 q111 q260) hm_X1_isBetween (by decide) (by decide) (Nat.le_of_ble_eq_true rfl)) (m_X1_isBetween a3 0 9) rfl (fun x4 => ?_)
  refine cw_invV (d2 := md_X1_requireArgument) (c := 18252) (q := 1126892) (as := [cI x4]) (mc := 1) (ms := 6) rfl rfl (okS (n := 1) rfl dX1_entryAt_28 (lw_S q744 q745 q111 q746) hm_X1_requireArgument (by decide) (by decide) (Nat.le_of_ble_eq_true rfl)) (m_X1_requireArgument x4) rfl ?_
  refine cw_iload_n dX1_entryAt_31 rfl 5 rfl ?_
  refine cw_switch (tgt0 := 192) dX1_entryAt_32 [84, 95, 111, 137, 147, 160, 168, 176, 184] (by decide) rfl (by decide) (by decide) ?_ ?_
  · refine ⟨?_, ?_, ?_, ?_, ?_, ?_, ?_, ?_, ?_, trivial⟩
    · refine cw_weak (c' := 0) (q' := 0) (by omega) (by omega) ?_
      refine cw_aload dX1_entryAt_84 0 rfl ?_
      refine cw_getP (ci := 7) (j := 1) (C := RX8) (T := TX8) (N := 10) rfl (by decide) rfl rfl (Or.inr ⟨_, q1253⟩) fSame_rfl dX1_entryAt_86 (fun p5 => ?_)
      refine cw_getI (ci := 4) (j := 0) (C := RX5) (T := TX5) (N := 5) rfl (by decide) rfl rfl (Or.inr ⟨_, q1009⟩) fSame_rfl dX1_entryAt_89 (fun x6 => ?_)
      refine cw_goto (tgt := 197) dX1_entryAt_92 (by decide) ?_
      exact cw_iret rfl dX1_entryAt_197
    · refine cw_weak (c' := 0) (q' := 0) (by omega) (by omega) ?_
      refine cw_aload dX1_entryAt_95 0 rfl ?_
      refine cw_getI (ci := 7) (j := 5) (C := RX8) (T := TX8) (N := 10) rfl (by decide) rfl rfl (Or.inr ⟨_, q1263⟩) fSame_rfl dX1_entryAt_97 (fun x7 => ?_)
      refine cw_if_eq (tgt := 107) dX1_entryAt_100 (by decide) ?_ ?_
      · refine cw_iconst (v := 0) dX1_entryAt_107 (by decide) ?_
        refine cw_goto (tgt := 197) dX1_entryAt_108 (by decide) ?_
        exact cw_iret rfl dX1_entryAt_197
      · refine cw_iconst (v := 1) dX1_entryAt_103 (by decide) ?_
        refine cw_goto (tgt := 197) dX1_entryAt_104 (by decide) ?_
        exact cw_iret rfl dX1_entryAt_197
    · refine cw_weak (c' := 0) (q' := 0) (by omega) (by omega) ?_
      refine cw_aload dX1_entryAt_111 1 rfl ?_
      refine cw_getP (ci := 5) (j := 18) (C := RX6) (T := TX6) (N := 19) rfl (by decide) rfl rfl (Or.inr ⟨_, q1119⟩) fSame_rfl dX1_entryAt_113 (fun p8 => ?_)
      refine cw_getP (ci := 6) (j := 2) (C := RX7) (T := TX7) (N := 5) rfl (by decide) rfl rfl (Or.inr ⟨_, q1068⟩) fSame_rfl dX1_entryAt_116 (fun p9 => ?_)
      refine cw_aload dX1_entryAt_119 0 rfl ?_
      refine cw_invI (d2 := md_J2_contains) (c := 0) (q := 0) (as := [cR p9, cR p3]) (mc := 0) (ms := 0) rfl rfl (okF (x := ⟨"java/util/List", "contains", "(Ljava/lang/Object;)Z"⟩) (ci := 14) (C := RJ2) (T0 := TJ2) (N := 3) (n := 1) rfl (Or.inr ⟨rfl, rfl⟩) rfl dX1_entryAt_121 (lw_F q912 q686 q684 q114 q688) (List.mem_iff_getElem?.mpr ⟨10, rfl⟩) (show ("java/util/List" : String) ≠ _ ∧ ("java/util/List" : String) ≠ _ ∧ (parseMethodDescriptor (md_J2_contains).y.desc).map (fun d => d.parameters.length) = some 1 from ⟨by decide, by decide, (hm_J2_contains).2.2⟩) (by decide) (by decide) (Nat.le_of_ble_eq_true rfl)) (c_contains p9 p3) rfl (fun x10 => ?_)
      refine cw_if_eq (tgt := 133) dX1_entryAt_126 (by decide) ?_ ?_
      · refine cw_iconst (v := 0) dX1_entryAt_133 (by decide) ?_
        refine cw_goto (tgt := 197) dX1_entryAt_134 (by decide) ?_
        exact cw_iret rfl dX1_entryAt_197
      · refine cw_iconst (v := 1) dX1_entryAt_129 (by decide) ?_
        refine cw_goto (tgt := 197) dX1_entryAt_130 (by decide) ?_
        exact cw_iret rfl dX1_entryAt_197
    · refine cw_weak (c' := 834) (q' := 7963) (by omega) (by omega) ?_
      refine cw_aload dX1_entryAt_137 1 rfl ?_
      refine cw_aload dX1_entryAt_139 0 rfl ?_
      refine cw_invI (d2 := md_X1_heatOf) (c := 0) (q := 0) (as := [cR p2, cR p3]) (mc := 834) (ms := 7963) rfl rfl (okS (n := 2) rfl dX1_entryAt_141 (lw_S q2004 q2005 q111 q2006) hm_X1_heatOf (by decide) (by decide) (Nat.le_of_ble_eq_true rfl)) (m_X1_heatOf p2 p3) rfl (fun x11 => ?_)
      refine cw_goto (tgt := 197) dX1_entryAt_144 (by decide) ?_
      exact cw_iret rfl dX1_entryAt_197
    · refine cw_weak (c' := 0) (q' := 0) (by omega) (by omega) ?_
      refine cw_aload dX1_entryAt_147 1 rfl ?_
      refine cw_getP (ci := 5) (j := 18) (C := RX6) (T := TX6) (N := 19) rfl (by decide) rfl rfl (Or.inr ⟨_, q1119⟩) fSame_rfl dX1_entryAt_149 (fun p12 => ?_)
      refine cw_aload dX1_entryAt_152 0 rfl ?_
      refine cw_invI (d2 := md_X7_recalls) (c := 0) (q := 0) (as := [cR p12, cR p3]) (mc := 0) (ms := 0) rfl rfl (okV (ci := 6) (C := RX7) (T0 := TX7) (N := 5) (n := 1) rfl rfl rfl dX1_entryAt_154 (lw_V q2007 q442 q443 q138 q444) ⟨rfl, hm_X7_recalls⟩ (by decide) (by decide) (Nat.le_of_ble_eq_true rfl)) (m_X7_recalls p12 p3) rfl (fun x13 => ?_)
      refine cw_goto (tgt := 197) dX1_entryAt_157 (by decide) ?_
      exact cw_iret rfl dX1_entryAt_197
    · refine cw_weak (c' := 0) (q' := 0) (by omega) (by omega) ?_
      refine cw_aload dX1_entryAt_160 0 rfl ?_
      refine cw_getI (ci := 7) (j := 6) (C := RX8) (T := TX8) (N := 10) rfl (by decide) rfl rfl (Or.inr ⟨_, q1265⟩) fSame_rfl dX1_entryAt_162 (fun x14 => ?_)
      refine cw_goto (tgt := 197) dX1_entryAt_165 (by decide) ?_
      exact cw_iret rfl dX1_entryAt_197
    · refine cw_weak (c' := 0) (q' := 0) (by omega) (by omega) ?_
      refine cw_aload dX1_entryAt_168 0 rfl ?_
      refine cw_getI (ci := 7) (j := 7) (C := RX8) (T := TX8) (N := 10) rfl (by decide) rfl rfl (Or.inr ⟨_, q1267⟩) fSame_rfl dX1_entryAt_170 (fun x15 => ?_)
      refine cw_goto (tgt := 197) dX1_entryAt_173 (by decide) ?_
      exact cw_iret rfl dX1_entryAt_197
    · refine cw_weak (c' := 0) (q' := 0) (by omega) (by omega) ?_
      refine cw_aload dX1_entryAt_176 0 rfl ?_
      refine cw_getI (ci := 7) (j := 8) (C := RX8) (T := TX8) (N := 10) rfl (by decide) rfl rfl (Or.inr ⟨_, q1269⟩) fSame_rfl dX1_entryAt_178 (fun x16 => ?_)
      refine cw_goto (tgt := 197) dX1_entryAt_181 (by decide) ?_
      exact cw_iret rfl dX1_entryAt_197
    · refine cw_weak (c' := 0) (q' := 0) (by omega) (by omega) ?_
      refine cw_aload dX1_entryAt_184 0 rfl ?_
      refine cw_getI (ci := 7) (j := 9) (C := RX8) (T := TX8) (N := 10) rfl (by decide) rfl rfl (Or.inr ⟨_, q1271⟩) fSame_rfl dX1_entryAt_186 (fun x17 => ?_)
      refine cw_goto (tgt := 197) dX1_entryAt_189 (by decide) ?_
      exact cw_iret rfl dX1_entryAt_197
  · refine cw_aload dX1_entryAt_192 0 rfl ?_
    refine cw_invI (d2 := md_X8_sum) (c := 0) (q := 0) (as := [cR p3]) (mc := 18252) (ms := 1126892) rfl rfl (okV (ci := 7) (C := RX8) (T0 := TX8) (N := 10) (n := 0) rfl rfl rfl dX1_entryAt_194 (lw_V q2008 q2009 q2010 q142 q2011) ⟨rfl, hm_X8_sum⟩ (by decide) (by decide) (Nat.le_of_ble_eq_true rfl)) (m_X8_sum p3) rfl (fun x18 => ?_)
    exact cw_iret rfl dX1_entryAt_197
def g_X1_judge (a0 : Nat) (a1 : Int32) (a2 : Int32) (a3 : Int32) : GF :=
  getP 20 a0 3 fun p1 =>
  invP none (g_X1_at p1 a1) fun p2 =>
  castG 25 p2 <|
  invI none (g_X1_isBetween a2 0 1) fun x3 =>
  invV none (g_X1_requireIndex x3) <|
  getP 25 p2 8 fun p4 =>
  invP (some (p4, 8)) (s_get p4 a2) fun p5 =>
  castG 8 p5 <|
  invP none (g_X1_at p5 a3) fun p6 =>
  castG 22 p6 <|
  getI 22 p6 0 fun x7 =>
  retG (rI x7)
abbrev md_X1_judge : MD := (yX1_judge, cX1_judge, 5, (some (Jvm.ClassFile.FieldType.int)), RX1, 14, 3, 18)
theorem hm_X1_judge : (md_X1_judge).y.cls ≠ "java/lang/invoke/MethodHandle" ∧ (md_X1_judge).y.cls ≠ "java/lang/invoke/VarHandle" ∧ (parseMethodDescriptor (md_X1_judge).y.desc).map (fun d => d.parameters.length) = some 3 := by decide +kernel
theorem m_X1_judge (a0 : Nat) (a1 : Int32) (a2 : Int32) (a3 : Int32) : CMF md_X1_judge [cR a0, cI a1, cI a2, cI a3] (g_X1_judge a0 a1 a2 a3) := by
  refine cm_of (by decide +kernel) rfl (Nat.le_of_ble_eq_true rfl) ?_
  show CWF _ 3 18 0 [(0, cR a0), (1, cI a1), (2, cI a2), (3, cI a3)] [] _
  unfold g_X1_judge
  refine cw_aload_n dX1_judge_0 rfl 0 rfl ?_
  refine cw_getP (ci := 0) (j := 3) (C := RX1) (T := TX1) (N := 11) rfl (by decide) rfl rfl (Or.inl q209) fSame_rfl dX1_judge_1 (fun p1 => ?_)
  refine cw_iload_n dX1_judge_4 rfl 1 rfl ?_
  refine cw_invP (d2 := md_X1_at) (c := 2) (q := 12) (as := [cR p1, cI a1]) (mc := 1) (ms := 6) rfl rfl (okS (n := 2) rfl dX1_judge_5 (lw_S q883 q884 q111 q885) hm_X1_at (by decide) (by decide) (Nat.le_of_ble_eq_true rfl)) (m_X1_at p1 a1) rfl (fun p2 => ?_)
  refine cw_cast (ci := 5) (T := TX6) (N := 19) (C := RX6) rfl rfl q524 (Or.inl rfl) dX1_judge_8 ?_
  refine cw_astore (ls' := [(4, cR p2), (0, cR a0), (1, cI a1), (2, cI a2), (3, cI a3)]) dX1_judge_11 (by decide) rfl ?_
  refine cw_iload_n dX1_judge_13 rfl 3 rfl ?_
  refine cw_iconst (v := 0) dX1_judge_14 (by decide) ?_
  refine cw_iconst (v := 1) dX1_judge_15 (by decide) ?_
  refine cw_invI (d2 := md_X1_isBetween) (c := 2) (q := 12) (as := [cI a2, cI 0, cI 1]) (mc := 0) (ms := 0) rfl rfl (okS (n := 3) rfl dX1_judge_16 (lw_S q258 q259 q111 q260) hm_X1_isBetween (by decide) (by decide) (Nat.le_of_ble_eq_true rfl)) (m_X1_isBetween a2 0 1) rfl (fun x3 => ?_)
  refine cw_invV (d2 := md_X1_requireIndex) (c := 1) (q := 6) (as := [cI x3]) (mc := 1) (ms := 6) rfl rfl (okS (n := 1) rfl dX1_judge_19 (lw_S q886 q887 q111 q888) hm_X1_requireIndex (by decide) (by decide) (Nat.le_of_ble_eq_true rfl)) (m_X1_requireIndex x3) rfl ?_
  refine cw_aload dX1_judge_22 0 rfl ?_
  refine cw_getP (ci := 5) (j := 8) (C := RX6) (T := TX6) (N := 19) rfl (by decide) rfl rfl (Or.inr ⟨_, q1102⟩) fSame_rfl dX1_judge_24 (fun p4 => ?_)
  refine cw_iload_n dX1_judge_27 rfl 3 rfl ?_
  refine cw_invP (d2 := md_J2_get) (c := 1) (q := 6) (as := [cR p4, cI a2]) (mc := 0) (ms := 0) rfl rfl (okF (x := ⟨"java/util/List", "get", "(I)Ljava/lang/Object;"⟩) (ci := 14) (C := RJ2) (T0 := TJ2) (N := 3) (n := 1) rfl (Or.inr ⟨rfl, rfl⟩) rfl dX1_judge_28 (lw_F q262 q267 q265 q114 q269) (List.mem_iff_getElem?.mpr ⟨2, rfl⟩) (show ("java/util/List" : String) ≠ _ ∧ ("java/util/List" : String) ≠ _ ∧ (parseMethodDescriptor (md_J2_get).y.desc).map (fun d => d.parameters.length) = some 1 from ⟨by decide, by decide, (hm_J2_get).2.2⟩) (by decide) (by decide) (Nat.le_of_ble_eq_true rfl)) (c_get p4 a2) rfl (fun p5 => ?_)
  refine cw_castL q1220 (Or.inr q200) dX1_judge_33 ?_
  refine cw_iload_n dX1_judge_36 rfl 4 rfl ?_
  refine cw_invP (d2 := md_X1_at) (c := 0) (q := 0) (as := [cR p5, cI a3]) (mc := 1) (ms := 6) rfl rfl (okS (n := 2) rfl dX1_judge_37 (lw_S q883 q884 q111 q885) hm_X1_at (by decide) (by decide) (Nat.le_of_ble_eq_true rfl)) (m_X1_at p5 a3) rfl (fun p6 => ?_)
  refine cw_cast (ci := 2) (T := TX3) (N := 9) (C := RX3) rfl rfl q733 (Or.inl rfl) dX1_judge_40 ?_
  refine cw_getI (ci := 2) (j := 0) (C := RX3) (T := TX3) (N := 9) rfl (by decide) rfl rfl (Or.inr ⟨_, q805⟩) fSame_rfl dX1_judge_43 (fun x7 => ?_)
  exact cw_iret rfl dX1_judge_46
def g_X1_markAt (a0 : Nat) (a1 : Int32) (a2 : Int32) (a3 : Int32) : GF :=
  getP 20 a0 3 fun p1 =>
  invP none (g_X1_at p1 a1) fun p2 =>
  castG 25 p2 <|
  invV none (g_X1_requireJudge p2 a2 a3) <|
  getP 25 p2 18 fun p3 =>
  getP 26 p3 4 fun p4 =>
  aaldG 6 p4 a2 fun x5 =>
  aaldG 5 x5 a3 fun x6 =>
  if x6 = 0 then
    retG (rI (-1 : Int32))
  else
    toldG x6 fun x7 =>
    retG (rI x7)
abbrev md_X1_markAt : MD := (yX1_markAt, cX1_markAt, 6, (some (Jvm.ClassFile.FieldType.int)), RX1, 15, 2, 12)
theorem hm_X1_markAt : (md_X1_markAt).y.cls ≠ "java/lang/invoke/MethodHandle" ∧ (md_X1_markAt).y.cls ≠ "java/lang/invoke/VarHandle" ∧ (parseMethodDescriptor (md_X1_markAt).y.desc).map (fun d => d.parameters.length) = some 3 := by decide +kernel
theorem m_X1_markAt (a0 : Nat) (a1 : Int32) (a2 : Int32) (a3 : Int32) : CMF md_X1_markAt [cR a0, cI a1, cI a2, cI a3] (g_X1_markAt a0 a1 a2 a3) := by
  refine cm_of (by decide +kernel) rfl (Nat.le_of_ble_eq_true rfl) ?_
  show CWF _ 2 12 0 [(0, cR a0), (1, cI a1), (2, cI a2), (3, cI a3)] [] _
  unfold g_X1_markAt
  refine cw_aload_n dX1_markAt_0 rfl 0 rfl ?_
  refine cw_getP (ci := 0) (j := 3) (C := RX1) (T := TX1) (N := 11) rfl (by decide) rfl rfl (Or.inl q209) fSame_rfl dX1_markAt_1 (fun p1 => ?_)
  refine cw_iload_n dX1_markAt_4 rfl 1 rfl ?_
  refine cw_invP (d2 := md_X1_at) (c := 1) (q := 6) (as := [cR p1, cI a1]) (mc := 1) (ms := 6) rfl rfl (okS (n := 2) rfl dX1_markAt_5 (lw_S q883 q884 q111 q885) hm_X1_at (by decide) (by decide) (Nat.le_of_ble_eq_true rfl)) (m_X1_at p1 a1) rfl (fun p2 => ?_)
  refine cw_cast (ci := 5) (T := TX6) (N := 19) (C := RX6) rfl rfl q524 (Or.inl rfl) dX1_markAt_8 ?_
  refine cw_astore (ls' := [(4, cR p2), (0, cR a0), (1, cI a1), (2, cI a2), (3, cI a3)]) dX1_markAt_11 (by decide) rfl ?_
  refine cw_aload dX1_markAt_13 0 rfl ?_
  refine cw_iload_n dX1_markAt_15 rfl 3 rfl ?_
  refine cw_iload_n dX1_markAt_16 rfl 4 rfl ?_
  refine cw_invV (d2 := md_X1_requireJudge) (c := 0) (q := 0) (as := [cR p2, cI a2, cI a3]) (mc := 1) (ms := 6) rfl rfl (okS (n := 3) rfl dX1_markAt_17 (lw_S q1372 q1373 q111 q1374) hm_X1_requireJudge (by decide) (by decide) (Nat.le_of_ble_eq_true rfl)) (m_X1_requireJudge p2 a2 a3) rfl ?_
  refine cw_aload dX1_markAt_20 0 rfl ?_
  refine cw_getP (ci := 5) (j := 18) (C := RX6) (T := TX6) (N := 19) rfl (by decide) rfl rfl (Or.inr ⟨_, q1119⟩) fSame_rfl dX1_markAt_22 (fun p3 => ?_)
  refine cw_getP (ci := 6) (j := 4) (C := RX7) (T := TX7) (N := 5) rfl (by decide) rfl rfl (Or.inr ⟨_, q1073⟩) fSame_rfl dX1_markAt_25 (fun p4 => ?_)
  refine cw_iload_n dX1_markAt_28 rfl 3 rfl ?_
  refine cw_aald (t := 6) (by decide) dX1_markAt_29 (fun x5 => ?_)
  refine cw_iload_n dX1_markAt_30 rfl 4 rfl ?_
  refine cw_aald (t := 5) (by decide) dX1_markAt_31 (fun x6 => ?_)
  refine cw_astore (ls' := [(5, cR x6), (4, cR p2), (0, cR a0), (1, cI a1), (2, cI a2), (3, cI a3)]) dX1_markAt_32 (by decide) rfl ?_
  refine cw_aload dX1_markAt_34 0 rfl ?_
  refine cw_ifnonnull (tgt := 43) dX1_markAt_36 (by decide) ?_ ?_
  · refine cw_aload dX1_markAt_43 0 rfl ?_
    refine cw_told q2036 dX1_markAt_45 (by decide) (Nat.le_of_ble_eq_true rfl) (fun x7 => ?_)
    exact cw_iret rfl dX1_markAt_50
  · refine cw_iconst (v := -1) dX1_markAt_39 (by decide) ?_
    refine cw_goto (tgt := 50) dX1_markAt_40 (by decide) ?_
    exact cw_iret rfl dX1_markAt_50
def g_X1_placeIn (a0 : Nat) (a1 : Int32) (a2 : Int32) (a3 : Int32) (a4 : Int32) : GF :=
  getP 20 a0 3 fun p1 =>
  invP none (g_X1_at p1 a1) fun p2 =>
  castG 25 p2 <|
  getI 25 p2 2 fun x3 =>
  invI none (g_X1_isBetween a2 0 (x3 - 1)) fun x4 =>
  invV none (g_X1_requireIndex x4) <|
  invP none (g_X1_entryOf p2 a3) fun p5 =>
  getI 25 p2 16 fun x6 =>
  invV none (g_X1_requireState x6) <|
  getP 25 p2 18 fun p7 =>
  getP 26 p7 2 fun p8 =>
  invI (some (p8, 8)) (s_contains p8 p5) fun x9 =>
  if x9 = 0 then
    throwG "java/util/NoSuchElementException"
  else if a4 = 0 then
    getP 27 p5 3 fun p10 =>
    ialdG 1 p10 a2 fun x11 =>
    retG (rI x11)
  else
    getP 27 p5 4 fun p12 =>
    ialdG 1 p12 a2 fun x13 =>
    retG (rI x13)
abbrev md_X1_placeIn : MD := (yX1_placeIn, cX1_placeIn, 7, (some (Jvm.ClassFile.FieldType.int)), RX1, 16, 5, 30)
theorem hm_X1_placeIn : (md_X1_placeIn).y.cls ≠ "java/lang/invoke/MethodHandle" ∧ (md_X1_placeIn).y.cls ≠ "java/lang/invoke/VarHandle" ∧ (parseMethodDescriptor (md_X1_placeIn).y.desc).map (fun d => d.parameters.length) = some 4 := by decide +kernel
theorem m_X1_placeIn (a0 : Nat) (a1 : Int32) (a2 : Int32) (a3 : Int32) (a4 : Int32) : CMF md_X1_placeIn [cR a0, cI a1, cI a2, cI a3, cI a4] (g_X1_placeIn a0 a1 a2 a3 a4) := by
  refine cm_of (by decide +kernel) rfl (Nat.le_of_ble_eq_true rfl) ?_
  show CWF _ 5 30 0 [(0, cR a0), (1, cI a1), (2, cI a2), (3, cI a3), (4, cI a4)] [] _
  unfold g_X1_placeIn
  refine cw_aload_n dX1_placeIn_0 rfl 0 rfl ?_
  refine cw_getP (ci := 0) (j := 3) (C := RX1) (T := TX1) (N := 11) rfl (by decide) rfl rfl (Or.inl q209) fSame_rfl dX1_placeIn_1 (fun p1 => ?_)
  refine cw_iload_n dX1_placeIn_4 rfl 1 rfl ?_
  refine cw_invP (d2 := md_X1_at) (c := 4) (q := 24) (as := [cR p1, cI a1]) (mc := 1) (ms := 6) rfl rfl (okS (n := 2) rfl dX1_placeIn_5 (lw_S q883 q884 q111 q885) hm_X1_at (by decide) (by decide) (Nat.le_of_ble_eq_true rfl)) (m_X1_at p1 a1) rfl (fun p2 => ?_)
  refine cw_cast (ci := 5) (T := TX6) (N := 19) (C := RX6) rfl rfl q524 (Or.inl rfl) dX1_placeIn_8 ?_
  refine cw_astore (ls' := [(5, cR p2), (0, cR a0), (1, cI a1), (2, cI a2), (3, cI a3), (4, cI a4)]) dX1_placeIn_11 (by decide) rfl ?_
  refine cw_iload_n dX1_placeIn_13 rfl 3 rfl ?_
  refine cw_iconst (v := 0) dX1_placeIn_14 (by decide) ?_
  refine cw_aload dX1_placeIn_15 0 rfl ?_
  refine cw_getI (ci := 5) (j := 2) (C := RX6) (T := TX6) (N := 19) rfl (by decide) rfl rfl (Or.inr ⟨_, q1090⟩) fSame_rfl dX1_placeIn_17 (fun x3 => ?_)
  refine cw_iconst (v := 1) dX1_placeIn_20 (by decide) ?_
  refine cw_isub dX1_placeIn_21 ?_
  refine cw_invI (d2 := md_X1_isBetween) (c := 4) (q := 24) (as := [cI a2, cI 0, cI (x3 - 1)]) (mc := 0) (ms := 0) rfl rfl (okS (n := 3) rfl dX1_placeIn_22 (lw_S q258 q259 q111 q260) hm_X1_isBetween (by decide) (by decide) (Nat.le_of_ble_eq_true rfl)) (m_X1_isBetween a2 0 (x3 - 1)) rfl (fun x4 => ?_)
  refine cw_invV (d2 := md_X1_requireIndex) (c := 3) (q := 18) (as := [cI x4]) (mc := 1) (ms := 6) rfl rfl (okS (n := 1) rfl dX1_placeIn_25 (lw_S q886 q887 q111 q888) hm_X1_requireIndex (by decide) (by decide) (Nat.le_of_ble_eq_true rfl)) (m_X1_requireIndex x4) rfl ?_
  refine cw_aload dX1_placeIn_28 0 rfl ?_
  refine cw_iload_n dX1_placeIn_30 rfl 4 rfl ?_
  refine cw_invP (d2 := md_X1_entryOf) (c := 2) (q := 12) (as := [cR p2, cI a3]) (mc := 1) (ms := 6) rfl rfl (okS (n := 2) rfl dX1_placeIn_31 (lw_S q1300 q1301 q111 q1302) hm_X1_entryOf (by decide) (by decide) (Nat.le_of_ble_eq_true rfl)) (m_X1_entryOf p2 a3) rfl (fun p5 => ?_)
  refine cw_astore (ls' := [(6, cR p5), (5, cR p2), (0, cR a0), (1, cI a1), (2, cI a2), (3, cI a3), (4, cI a4)]) dX1_placeIn_34 (by decide) rfl ?_
  refine cw_aload dX1_placeIn_36 1 rfl ?_
  refine cw_getI (ci := 5) (j := 16) (C := RX6) (T := TX6) (N := 19) rfl (by decide) rfl rfl (Or.inr ⟨_, q1116⟩) fSame_rfl dX1_placeIn_38 (fun x6 => ?_)
  refine cw_invV (d2 := md_X1_requireState) (c := 1) (q := 6) (as := [cI x6]) (mc := 1) (ms := 6) rfl rfl (okS (n := 1) rfl dX1_placeIn_41 (lw_S q772 q773 q111 q774) hm_X1_requireState (by decide) (by decide) (Nat.le_of_ble_eq_true rfl)) (m_X1_requireState x6) rfl ?_
  refine cw_aload dX1_placeIn_44 1 rfl ?_
  refine cw_getP (ci := 5) (j := 18) (C := RX6) (T := TX6) (N := 19) rfl (by decide) rfl rfl (Or.inr ⟨_, q1119⟩) fSame_rfl dX1_placeIn_46 (fun p7 => ?_)
  refine cw_getP (ci := 6) (j := 2) (C := RX7) (T := TX7) (N := 5) rfl (by decide) rfl rfl (Or.inr ⟨_, q1068⟩) fSame_rfl dX1_placeIn_49 (fun p8 => ?_)
  refine cw_aload dX1_placeIn_52 0 rfl ?_
  refine cw_invI (d2 := md_J2_contains) (c := 1) (q := 6) (as := [cR p8, cR p5]) (mc := 0) (ms := 0) rfl rfl (okF (x := ⟨"java/util/List", "contains", "(Ljava/lang/Object;)Z"⟩) (ci := 14) (C := RJ2) (T0 := TJ2) (N := 3) (n := 1) rfl (Or.inr ⟨rfl, rfl⟩) rfl dX1_placeIn_54 (lw_F q912 q686 q684 q114 q688) (List.mem_iff_getElem?.mpr ⟨10, rfl⟩) (show ("java/util/List" : String) ≠ _ ∧ ("java/util/List" : String) ≠ _ ∧ (parseMethodDescriptor (md_J2_contains).y.desc).map (fun d => d.parameters.length) = some 1 from ⟨by decide, by decide, (hm_J2_contains).2.2⟩) (by decide) (by decide) (Nat.le_of_ble_eq_true rfl)) (c_contains p8 p5) rfl (fun x9 => ?_)
  refine cw_if_ne (tgt := 70) dX1_placeIn_59 (by decide) ?_ ?_
  · refine cw_weak (c' := 0) (q' := 0) (by omega) (by omega) ?_
    refine cw_iload dX1_placeIn_70 6 rfl ?_
    refine cw_if_eq (tgt := 85) dX1_placeIn_72 (by decide) ?_ ?_
    · refine cw_aload dX1_placeIn_85 0 rfl ?_
      refine cw_getP (ci := 7) (j := 3) (C := RX8) (T := TX8) (N := 10) rfl (by decide) rfl rfl (Or.inr ⟨_, q1258⟩) fSame_rfl dX1_placeIn_87 (fun p10 => ?_)
      refine cw_iload_n dX1_placeIn_90 rfl 4 rfl ?_
      refine cw_iald dX1_placeIn_91 (fun x11 => ?_)
      exact cw_iret rfl dX1_placeIn_92
    · refine cw_aload dX1_placeIn_75 0 rfl ?_
      refine cw_getP (ci := 7) (j := 4) (C := RX8) (T := TX8) (N := 10) rfl (by decide) rfl rfl (Or.inr ⟨_, q1261⟩) fSame_rfl dX1_placeIn_77 (fun p12 => ?_)
      refine cw_iload_n dX1_placeIn_80 rfl 4 rfl ?_
      refine cw_iald dX1_placeIn_81 (fun x13 => ?_)
      refine cw_goto (tgt := 92) dX1_placeIn_82 (by decide) ?_
      exact cw_iret rfl dX1_placeIn_92
  · exact cw_throw0 (c := 0) (q := 0) (ik := 483) (ic := 485) (cls := "java/util/NoSuchElementException") (names := ["java/lang/RuntimeException", "java/lang/Exception"]) (by decide +kernel) (by decide +kernel) q2057 q135 tw_NoSuchElementException tg_NoSuchElementException (by decide +kernel) dX1_placeIn_62 dX1_placeIn_65 dX1_placeIn_66 dX1_placeIn_69 (by decide) (by decide) (Nat.le_of_ble_eq_true rfl)
def b_X1_result_81 (p4 : Nat) (p15 : Nat) (J19 : Int32 → GF) (rec21 : Int32 → GF) : Int32 → GF := fun (l20 : Int32) =>
  if l20 ≤ 0 then
    J19 l20
  else
    invP (some (p4, 8)) (s_get p4 (l20 - 1)) fun p22 =>
    castG 27 p22 <|
    getI 27 p22 7 fun x23 =>
    getI 27 p15 7 fun x24 =>
    if x23 ≤ x24 then
      J19 l20
    else
      rec21 (l20 + (-1))
def b_X1_result_39 (p4 : Nat) (p5 : Nat) (m6 : Int32) (J11 : Unit → GF) (rec13 : Nat → GF) : Nat → GF := fun (l12 : Nat) =>
  hasG p5 l12 fun x14 =>
  if x14 = 0 then
    J11 ()
  else
    nextG p5 m6 l12 fun p15 =>
    castG 27 p15 <|
    getI 27 p15 5 fun x16 =>
    if x16 = 0 then
      invI (some (p4, 8)) (s_size p4) fun x17 =>
      jnG (fun (v18 : Int32) =>
        invV (some (p4, 8)) (s_insert p4 v18 p15) <|
        rec13 (l12 + 1)) fun J19 =>
      loopG (b_X1_result_81 p4 p15 J19) FU x17
    else
      rec13 (l12 + 1)
def g_X1_result (a0 : Nat) (a1 : Int32) (a2 : Int32) : GF :=
  getP 20 a0 3 fun p1 =>
  invP none (g_X1_at p1 a1) fun p2 =>
  castG 25 p2 <|
  getI 25 p2 16 fun x3 =>
  invV none (g_X1_requireState x3) <|
  newG 34 fun p4 =>
  invV (some (p4, 34)) (s_init p4) <|
  getP 25 p2 7 fun p5 =>
  itG p5 fun m6 =>
  jnG (fun (_ : Unit) =>
    invI (some (p4, 8)) (s_size p4) fun x7 =>
    invI none (g_X1_isBetween a2 0 (x7 - 1)) fun x8 =>
    if x8 = 0 then
      throwG "java/util/NoSuchElementException"
    else
      invP (some (p4, 8)) (s_get p4 a2) fun p9 =>
      castG 27 p9 <|
      getI 27 p9 0 fun x10 =>
      retG (rI x10)) fun J11 =>
  loopG (b_X1_result_39 p4 p5 m6 J11) 26 0
abbrev md_X1_result : MD := (yX1_result, cX1_result, 8, (some (Jvm.ClassFile.FieldType.int)), RX1, 15, 31, 1689)
theorem hm_X1_result : (md_X1_result).y.cls ≠ "java/lang/invoke/MethodHandle" ∧ (md_X1_result).y.cls ≠ "java/lang/invoke/VarHandle" ∧ (parseMethodDescriptor (md_X1_result).y.desc).map (fun d => d.parameters.length) = some 2 := by decide +kernel
theorem m_X1_result (a0 : Nat) (a1 : Int32) (a2 : Int32) : CMF md_X1_result [cR a0, cI a1, cI a2] (g_X1_result a0 a1 a2) := by
  refine cm_of (by decide +kernel) rfl (Nat.le_of_ble_eq_true rfl) ?_
  show CWF _ 31 1689 0 [(0, cR a0), (1, cI a1), (2, cI a2)] [] _
  unfold g_X1_result
  refine cw_aload_n dX1_result_0 rfl 0 rfl ?_
  refine cw_getP (ci := 0) (j := 3) (C := RX1) (T := TX1) (N := 11) rfl (by decide) rfl rfl (Or.inl q209) fSame_rfl dX1_result_1 (fun p1 => ?_)
  refine cw_iload_n dX1_result_4 rfl 1 rfl ?_
  refine cw_invP (d2 := md_X1_at) (c := 30) (q := 1683) (as := [cR p1, cI a1]) (mc := 1) (ms := 6) rfl rfl (okS (n := 2) rfl dX1_result_5 (lw_S q883 q884 q111 q885) hm_X1_at (by decide) (by decide) (Nat.le_of_ble_eq_true rfl)) (m_X1_at p1 a1) rfl (fun p2 => ?_)
  refine cw_cast (ci := 5) (T := TX6) (N := 19) (C := RX6) rfl rfl q524 (Or.inl rfl) dX1_result_8 ?_
  refine cw_astore_n (ls' := [(3, cR p2), (0, cR a0), (1, cI a1), (2, cI a2)]) dX1_result_11 rfl (by decide) rfl ?_
  refine cw_aload_n dX1_result_12 rfl 0 rfl ?_
  refine cw_getI (ci := 5) (j := 16) (C := RX6) (T := TX6) (N := 19) rfl (by decide) rfl rfl (Or.inr ⟨_, q1116⟩) fSame_rfl dX1_result_13 (fun x3 => ?_)
  refine cw_invV (d2 := md_X1_requireState) (c := 29) (q := 1677) (as := [cI x3]) (mc := 1) (ms := 6) rfl rfl (okS (n := 1) rfl dX1_result_16 (lw_S q772 q773 q111 q774) hm_X1_requireState (by decide) (by decide) (Nat.le_of_ble_eq_true rfl)) (m_X1_requireState x3) rfl ?_
  refine cw_new (c := 28) (q := 1674) (ci := 14) (C := RJ2) (T := TJ2) (N := 3) rfl rfl q161 q162 q114 dX1_result_19 (fun p4 => ?_)
  refine cw_dup dX1_result_22 rfl ?_
  refine cw_invV (d2 := md_J2_init) (c := 28) (q := 1674) (as := [cR p4]) (mc := 0) (ms := 0) rfl rfl (okI (n := 0) rfl rfl dX1_result_23 (lw_meth q165) q114 q163 q164 rfl hm_J2_init (by decide) (by decide) (Nat.le_of_ble_eq_true rfl) (by decide)) (c_init p4) rfl ?_
  refine cw_astore (ls' := [(4, cR p4), (3, cR p2), (0, cR a0), (1, cI a1), (2, cI a2)]) dX1_result_26 (by decide) rfl ?_
  refine cw_aload_n dX1_result_28 rfl 1 rfl ?_
  refine cw_getP (ci := 5) (j := 7) (C := RX6) (T := TX6) (N := 19) rfl (by decide) rfl rfl (Or.inr ⟨_, q1100⟩) fSame_rfl dX1_result_29 (fun p5 => ?_)
  refine cw_iter (c := 27) (q := 1670) (la := 2) (ls' := [(4, cR p4), (3, cR p2), (0, cR a0), (1, cI a1), (2, cI a2)]) rfl (Or.inr ⟨dX1_result_37, rfl⟩) (by decide) (okF (x := ⟨"java/util/List", "iterator", "()Ljava/util/Iterator;"⟩) (ci := 14) (C := RJ2) (T0 := TJ2) (N := 3) (n := 0) rfl (Or.inr ⟨rfl, rfl⟩) rfl dX1_result_32 (lw_F q290 q295 q293 q114 q297) (List.mem_iff_getElem?.mpr ⟨3, rfl⟩) (show ("java/util/List" : String) ≠ _ ∧ ("java/util/List" : String) ≠ _ ∧ (parseMethodDescriptor (md_J2_iterator).y.desc).map (fun d => d.parameters.length) = some 0 from ⟨by decide, by decide, (hm_J2_iterator).2.2⟩) (by decide) (by decide) (Nat.le_of_ble_eq_true rfl)) (fun m6 => ?_)
  refine cw_jn (cj := 1) (kj := 6) (pcj := 131) (lsf := fun (s : Unit) => [(4, cR p4), (2, cI a2)]) (stf := fun (s : Unit) => []) (fun s => ?_) (fun J11 hJ11 => ?_)
  · show CWF _ _ _ 131 [(4, cR p4), (2, cI a2)] [] _
    refine cw_iload_n dX1_result_131 rfl 1 rfl ?_
    refine cw_iconst (v := 0) dX1_result_132 (by decide) ?_
    refine cw_aload dX1_result_133 0 rfl ?_
    refine cw_invI (d2 := md_J2_size) (c := 1) (q := 6) (as := [cR p4]) (mc := 0) (ms := 0) rfl rfl (okF (x := ⟨"java/util/List", "size", "()I"⟩) (ci := 14) (C := RJ2) (T0 := TJ2) (N := 3) (n := 0) rfl (Or.inr ⟨rfl, rfl⟩) rfl dX1_result_135 (lw_F q246 q251 q249 q114 q253) (List.mem_iff_getElem?.mpr ⟨1, rfl⟩) (show ("java/util/List" : String) ≠ _ ∧ ("java/util/List" : String) ≠ _ ∧ (parseMethodDescriptor (md_J2_size).y.desc).map (fun d => d.parameters.length) = some 0 from ⟨by decide, by decide, (hm_J2_size).2.2⟩) (by decide) (by decide) (Nat.le_of_ble_eq_true rfl)) (c_size p4) rfl (fun x7 => ?_)
    refine cw_iconst (v := 1) dX1_result_140 (by decide) ?_
    refine cw_isub dX1_result_141 ?_
    refine cw_invI (d2 := md_X1_isBetween) (c := 1) (q := 6) (as := [cI a2, cI 0, cI (x7 - 1)]) (mc := 0) (ms := 0) rfl rfl (okS (n := 3) rfl dX1_result_142 (lw_S q258 q259 q111 q260) hm_X1_isBetween (by decide) (by decide) (Nat.le_of_ble_eq_true rfl)) (m_X1_isBetween a2 0 (x7 - 1)) rfl (fun x8 => ?_)
    refine cw_if_ne (tgt := 156) dX1_result_145 (by decide) ?_ ?_
    · refine cw_weak (c' := 0) (q' := 0) (by omega) (by omega) ?_
      refine cw_aload dX1_result_156 0 rfl ?_
      refine cw_iload_n dX1_result_158 rfl 1 rfl ?_
      refine cw_invP (d2 := md_J2_get) (c := 0) (q := 0) (as := [cR p4, cI a2]) (mc := 0) (ms := 0) rfl rfl (okF (x := ⟨"java/util/List", "get", "(I)Ljava/lang/Object;"⟩) (ci := 14) (C := RJ2) (T0 := TJ2) (N := 3) (n := 1) rfl (Or.inr ⟨rfl, rfl⟩) rfl dX1_result_159 (lw_F q262 q267 q265 q114 q269) (List.mem_iff_getElem?.mpr ⟨2, rfl⟩) (show ("java/util/List" : String) ≠ _ ∧ ("java/util/List" : String) ≠ _ ∧ (parseMethodDescriptor (md_J2_get).y.desc).map (fun d => d.parameters.length) = some 1 from ⟨by decide, by decide, (hm_J2_get).2.2⟩) (by decide) (by decide) (Nat.le_of_ble_eq_true rfl)) (c_get p4 a2) rfl (fun p9 => ?_)
      refine cw_cast (ci := 7) (T := TX8) (N := 10) (C := RX8) rfl rfl q525 (Or.inl rfl) dX1_result_164 ?_
      refine cw_getI (ci := 7) (j := 0) (C := RX8) (T := TX8) (N := 10) rfl (by decide) rfl rfl (Or.inr ⟨_, q1250⟩) fSame_rfl dX1_result_167 (fun x10 => ?_)
      exact cw_iret rfl dX1_result_170
    · exact cw_throw0 (c := 0) (q := 0) (ik := 483) (ic := 485) (cls := "java/util/NoSuchElementException") (names := ["java/lang/RuntimeException", "java/lang/Exception"]) (by decide +kernel) (by decide +kernel) q2057 q135 tw_NoSuchElementException tg_NoSuchElementException (by decide +kernel) dX1_result_148 dX1_result_151 dX1_result_152 dX1_result_155 (by decide) (by decide) (Nat.le_of_ble_eq_true rfl)
  · refine cw_sub (ls' := [(4, cR p4), (2, cI a2), (5, cT p5 m6 0)]) [1, 5, 0] rfl ?_
    refine cw_weak (c' := 1 + 26 * 1) (q' := 6 + 26 * 64) (by omega) (by omega) ?_
    refine cw_loop (ce := 1) (ke := 6) (cb := 1) (kb := 64) (lsf := fun (s : Nat) => [(4, cR p4), (2, cI a2), (5, cT p5 m6 s)]) (fun Crec13 Krec13 rec13 hCrec13 hKrec13 hrec13 s => ?_) 26 0
    obtain ⟨l12, e⟩ : ∃ z, z = s := ⟨_, rfl⟩
    subst e
    show CWF _ _ _ 39 [(4, cR p4), (2, cI a2), (5, cT p5 m6 l12)] [] _
    dsimp only [b_X1_result_39]
    refine cw_sub (ls' := [(5, cT p5 m6 l12), (4, cR p4), (2, cI a2)]) [2, 0, 1] rfl ?_
    refine cw_hasNext (la := 2) rfl (Or.inr ⟨dX1_result_39, rfl⟩) (fun x => okF (x := ⟨"java/util/Iterator", "hasNext", "()Z"⟩) (ci := 15) (C := RJ18) (T0 := TJ18) (N := 4) (n := 0) rfl (Or.inl rfl) rfl dX1_result_41 (lw_F q318 q339 q337 q134 q341) (List.mem_iff_getElem?.mpr ⟨4, rfl⟩) (show ("java/util/Iterator" : String) ≠ _ ∧ ("java/util/Iterator" : String) ≠ _ ∧ (parseMethodDescriptor (md_J18_hasNext).y.desc).map (fun d => d.parameters.length) = some 0 from ⟨by decide, by decide, (hm_J18_hasNext).2.2⟩) (by decide) (by decide) (Nat.le_of_ble_eq_true rfl)) (fun x14 => ?_)
    refine cw_if_eq (tgt := 131) dX1_result_46 (by decide) ?_ ?_
    · refine cw_weak (c' := Crec13 + 0) (q' := Krec13 + 0) (by omega) (by omega) ?_
      refine cw_weak (c' := 1) (q' := 6) (by omega) (by omega) ?_
      refine cw_sub (ls' := [(4, cR p4), (2, cI a2)]) [1, 2] rfl ?_
      exact hJ11 ()
    · refine cw_next (la := 2) rfl (Or.inr ⟨dX1_result_49, rfl⟩) (fun x => okF (x := ⟨"java/util/Iterator", "next", "()Ljava/lang/Object;"⟩) (ci := 15) (C := RJ18) (T0 := TJ18) (N := 4) (n := 0) rfl (Or.inl rfl) rfl dX1_result_51 (lw_F q343 q432 q430 q134 q434) (List.mem_iff_getElem?.mpr ⟨6, rfl⟩) (show ("java/util/Iterator" : String) ≠ _ ∧ ("java/util/Iterator" : String) ≠ _ ∧ (parseMethodDescriptor (md_J18_next).y.desc).map (fun d => d.parameters.length) = some 0 from ⟨by decide, by decide, (hm_J18_next).2.2⟩) (by decide) (by decide) (Nat.le_of_ble_eq_true rfl)) (fun p15 => ?_)
      refine cw_cast (ci := 7) (T := TX8) (N := 10) (C := RX8) rfl rfl q525 (Or.inl rfl) dX1_result_56 ?_
      refine cw_astore (ls' := [(6, cR p15), (5, cT p5 m6 (l12 + 1)), (4, cR p4), (2, cI a2)]) dX1_result_59 (by decide) rfl ?_
      refine cw_aload dX1_result_61 0 rfl ?_
      refine cw_getI (ci := 7) (j := 5) (C := RX8) (T := TX8) (N := 10) rfl (by decide) rfl rfl (Or.inr ⟨_, q1263⟩) fSame_rfl dX1_result_63 (fun x16 => ?_)
      refine cw_if_eq (tgt := 72) dX1_result_66 (by decide) ?_ ?_
      · refine cw_aload dX1_result_72 2 rfl ?_
        refine cw_invI (d2 := md_J2_size) (c := Crec13 + 1) (q := Krec13 + 64) (as := [cR p4]) (mc := 0) (ms := 0) rfl rfl (okF (x := ⟨"java/util/List", "size", "()I"⟩) (ci := 14) (C := RJ2) (T0 := TJ2) (N := 3) (n := 0) rfl (Or.inr ⟨rfl, rfl⟩) rfl dX1_result_74 (lw_F q246 q251 q249 q114 q253) (List.mem_iff_getElem?.mpr ⟨1, rfl⟩) (show ("java/util/List" : String) ≠ _ ∧ ("java/util/List" : String) ≠ _ ∧ (parseMethodDescriptor (md_J2_size).y.desc).map (fun d => d.parameters.length) = some 0 from ⟨by decide, by decide, (hm_J2_size).2.2⟩) (by decide) (by decide) (Nat.le_of_ble_eq_true rfl)) (c_size p4) rfl (fun x17 => ?_)
        refine cw_istore (ls' := [(7, cI x17), (6, cR p15), (5, cT p5 m6 (l12 + 1)), (4, cR p4), (2, cI a2)]) dX1_result_79 (by decide) rfl ?_
        refine cw_jn (cj := Crec13 + 1) (kj := Krec13 + 64) (pcj := 117) (lsf := fun (s : Int32) => [(6, cR p15), (5, cT p5 m6 (l12 + 1)), (4, cR p4), (2, cI a2), (7, cI s)]) (stf := fun (s : Int32) => []) (fun s => ?_) (fun J19 hJ19 => ?_)
        · obtain ⟨v18, e⟩ : ∃ z, z = s := ⟨_, rfl⟩
          subst e
          show CWF _ _ _ 117 [(6, cR p15), (5, cT p5 m6 (l12 + 1)), (4, cR p4), (2, cI a2), (7, cI v18)] [] _
          refine cw_aload dX1_result_117 2 rfl ?_
          refine cw_iload dX1_result_119 4 rfl ?_
          refine cw_aload dX1_result_121 0 rfl ?_
          refine cw_invV (d2 := md_J2_add_3) (c := Crec13 + 0) (q := Krec13 + 0) (as := [cR p4, cI v18, cR p15]) (mc := 1) (ms := 64) rfl rfl (okF (x := ⟨"java/util/List", "add", "(ILjava/lang/Object;)V"⟩) (ci := 14) (C := RJ2) (T0 := TJ2) (N := 3) (n := 2) rfl (Or.inr ⟨rfl, rfl⟩) rfl dX1_result_123 (lw_F q2067 q1462 q1460 q114 q1464) (List.mem_iff_getElem?.mpr ⟨12, rfl⟩) (show ("java/util/List" : String) ≠ _ ∧ ("java/util/List" : String) ≠ _ ∧ (parseMethodDescriptor (md_J2_add_3).y.desc).map (fun d => d.parameters.length) = some 2 from ⟨by decide, by decide, (hm_J2_add_3).2.2⟩) (by decide) (by decide) (Nat.le_of_ble_eq_true rfl)) (c_insert p4 v18 p15) rfl ?_
          refine cw_goto (tgt := 39) dX1_result_128 (by decide) ?_
          refine cw_sub (ls' := [(4, cR p4), (2, cI a2), (5, cT p5 m6 (l12 + 1))]) [2, 3, 1] rfl ?_
          exact hrec13 (l12 + 1)
        · refine cw_sub (ls' := [(6, cR p15), (5, cT p5 m6 (l12 + 1)), (4, cR p4), (2, cI a2), (7, cI x17)]) [1, 2, 3, 4, 0] rfl ?_
          refine cw_loop0 (lsf := fun (s : Int32) => [(6, cR p15), (5, cT p5 m6 (l12 + 1)), (4, cR p4), (2, cI a2), (7, cI s)]) (fun rec21 hrec21 s => ?_) FU x17
          obtain ⟨l20, e⟩ : ∃ z, z = s := ⟨_, rfl⟩
          subst e
          show CWF _ _ _ 81 [(6, cR p15), (5, cT p5 m6 (l12 + 1)), (4, cR p4), (2, cI a2), (7, cI l20)] [] _
          dsimp only [b_X1_result_81]
          refine cw_iload dX1_result_81 4 rfl ?_
          refine cw_if_le (tgt := 117) dX1_result_83 (by decide) ?_ ?_
          · exact hJ19 l20
          · refine cw_aload dX1_result_86 2 rfl ?_
            refine cw_iload dX1_result_88 4 rfl ?_
            refine cw_iconst (v := 1) dX1_result_90 (by decide) ?_
            refine cw_isub dX1_result_91 ?_
            refine cw_invP (d2 := md_J2_get) (c := Crec13 + 1) (q := Krec13 + 64) (as := [cR p4, cI (l20 - 1)]) (mc := 0) (ms := 0) rfl rfl (okF (x := ⟨"java/util/List", "get", "(I)Ljava/lang/Object;"⟩) (ci := 14) (C := RJ2) (T0 := TJ2) (N := 3) (n := 1) rfl (Or.inr ⟨rfl, rfl⟩) rfl dX1_result_92 (lw_F q262 q267 q265 q114 q269) (List.mem_iff_getElem?.mpr ⟨2, rfl⟩) (show ("java/util/List" : String) ≠ _ ∧ ("java/util/List" : String) ≠ _ ∧ (parseMethodDescriptor (md_J2_get).y.desc).map (fun d => d.parameters.length) = some 1 from ⟨by decide, by decide, (hm_J2_get).2.2⟩) (by decide) (by decide) (Nat.le_of_ble_eq_true rfl)) (c_get p4 (l20 - 1)) rfl (fun p22 => ?_)
            refine cw_cast (ci := 7) (T := TX8) (N := 10) (C := RX8) rfl rfl q525 (Or.inl rfl) dX1_result_97 ?_
            refine cw_getI (ci := 7) (j := 7) (C := RX8) (T := TX8) (N := 10) rfl (by decide) rfl rfl (Or.inr ⟨_, q1267⟩) fSame_rfl dX1_result_100 (fun x23 => ?_)
            refine cw_aload dX1_result_103 0 rfl ?_
            refine cw_getI (ci := 7) (j := 7) (C := RX8) (T := TX8) (N := 10) rfl (by decide) rfl rfl (Or.inr ⟨_, q1267⟩) fSame_rfl dX1_result_105 (fun x24 => ?_)
            refine cw_icmp_le (tgt := 117) dX1_result_108 (by decide) ?_ ?_
            · exact hJ19 l20
            · refine cw_iinc (v := (l20 + (-1))) (ls' := [(7, cI (l20 + (-1))), (6, cR p15), (5, cT p5 m6 (l12 + 1)), (4, cR p4), (2, cI a2)]) dX1_result_111 4 rfl rfl (by decide) rfl ?_
              refine cw_goto (tgt := 81) dX1_result_114 (by decide) ?_
              refine cw_sub (ls' := [(6, cR p15), (5, cT p5 m6 (l12 + 1)), (4, cR p4), (2, cI a2), (7, cI (l20 + (-1)))]) [1, 2, 3, 4, 0] rfl ?_
              exact hrec21 (l20 + (-1))
      · refine cw_weak (c' := Crec13 + 0) (q' := Krec13 + 0) (by omega) (by omega) ?_
        refine cw_goto (tgt := 39) dX1_result_69 (by decide) ?_
        refine cw_sub (ls' := [(4, cR p4), (2, cI a2), (5, cT p5 m6 (l12 + 1))]) [2, 3, 1] rfl ?_
        exact hrec13 (l12 + 1)
def g_X1_areAlike (a0 : Nat) (a1 : Nat) : GF :=
  getI 27 a0 7 fun x1 =>
  getI 27 a1 7 fun x2 =>
  invI none (g_J21_compare x1 x2) fun x3 =>
  invI (some (a1, 27)) (g_X8_sum a1) fun x4 =>
  invI (some (a0, 27)) (g_X8_sum a0) fun x5 =>
  invI none (g_J21_compare x4 x5) fun x6 =>
  if x3 = x6 then
    retZ 1
  else
    retZ 0
abbrev md_X1_areAlike : MD := (yX1_areAlike, cX1_areAlike, 2, (some (Jvm.ClassFile.FieldType.boolean)), RX1, 18, 36504, 2253784)
theorem hm_X1_areAlike : (md_X1_areAlike).y.cls ≠ "java/lang/invoke/MethodHandle" ∧ (md_X1_areAlike).y.cls ≠ "java/lang/invoke/VarHandle" ∧ (parseMethodDescriptor (md_X1_areAlike).y.desc).map (fun d => d.parameters.length) = some 2 := by decide +kernel
theorem m_X1_areAlike (a0 : Nat) (a1 : Nat) : CMF md_X1_areAlike [cR a0, cR a1] (g_X1_areAlike a0 a1) := by
  refine cm_of (by decide +kernel) rfl (Nat.le_of_ble_eq_true rfl) ?_
  show CWF _ 36504 2253784 0 [(0, cR a0), (1, cR a1)] [] _
  unfold g_X1_areAlike
  refine cw_aload_n dX1_areAlike_0 rfl 0 rfl ?_
  refine cw_getI (ci := 7) (j := 7) (C := RX8) (T := TX8) (N := 10) rfl (by decide) rfl rfl (Or.inr ⟨_, q1267⟩) fSame_rfl dX1_areAlike_1 (fun x1 => ?_)
  refine cw_aload_n dX1_areAlike_4 rfl 1 rfl ?_
  refine cw_getI (ci := 7) (j := 7) (C := RX8) (T := TX8) (N := 10) rfl (by decide) rfl rfl (Or.inr ⟨_, q1267⟩) fSame_rfl dX1_areAlike_5 (fun x2 => ?_)
  refine cw_invI (d2 := md_J21_compare) (c := 36504) (q := 2253784) (as := [cI x1, cI x2]) (mc := 0) (ms := 0) rfl rfl (okS (n := 2) rfl dX1_areAlike_8 (lw_S q725 q726 q140 q727) hm_J21_compare (by decide) (by decide) (Nat.le_of_ble_eq_true rfl)) (m_J21_compare x1 x2) rfl (fun x3 => ?_)
  refine cw_aload_n dX1_areAlike_11 rfl 1 rfl ?_
  refine cw_invI (d2 := md_X8_sum) (c := 18252) (q := 1126892) (as := [cR a1]) (mc := 18252) (ms := 1126892) rfl rfl (okV (ci := 7) (C := RX8) (T0 := TX8) (N := 10) (n := 0) rfl rfl rfl dX1_areAlike_12 (lw_V q2008 q2009 q2010 q142 q2011) ⟨rfl, hm_X8_sum⟩ (by decide) (by decide) (Nat.le_of_ble_eq_true rfl)) (m_X8_sum a1) rfl (fun x4 => ?_)
  refine cw_aload_n dX1_areAlike_15 rfl 0 rfl ?_
  refine cw_invI (d2 := md_X8_sum) (c := 0) (q := 0) (as := [cR a0]) (mc := 18252) (ms := 1126892) rfl rfl (okV (ci := 7) (C := RX8) (T0 := TX8) (N := 10) (n := 0) rfl rfl rfl dX1_areAlike_16 (lw_V q2008 q2009 q2010 q142 q2011) ⟨rfl, hm_X8_sum⟩ (by decide) (by decide) (Nat.le_of_ble_eq_true rfl)) (m_X8_sum a0) rfl (fun x5 => ?_)
  refine cw_invI (d2 := md_J21_compare) (c := 0) (q := 0) (as := [cI x4, cI x5]) (mc := 0) (ms := 0) rfl rfl (okS (n := 2) rfl dX1_areAlike_19 (lw_S q725 q726 q140 q727) hm_J21_compare (by decide) (by decide) (Nat.le_of_ble_eq_true rfl)) (m_J21_compare x4 x5) rfl (fun x6 => ?_)
  refine cw_icmp_ne (tgt := 29) dX1_areAlike_22 (by decide) ?_ ?_
  · refine cw_iconst (v := 0) dX1_areAlike_29 (by decide) ?_
    exact cw_zret rfl dX1_areAlike_30
  · refine cw_iconst (v := 1) dX1_areAlike_25 (by decide) ?_
    refine cw_goto (tgt := 30) dX1_areAlike_26 (by decide) ?_
    exact cw_zret rfl dX1_areAlike_30
