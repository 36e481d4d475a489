/-! THE JDK: ArrayList(Collection) -/
set_option maxRecDepth 100000
def g_J2_init_2 (a0 : Nat) (a1 : Nat) : GF :=
  invV (some (a0, 34)) (g_J1_init a0) <|
  invP (some (a1, 8)) (s_toArray a1) fun p1 =>
  alenKG p1 fun x2 =>
  putI 34 a0 2 x2 <|
  if x2 = 0 then
    gsG 2 10 fun p3 =>
    putP 34 a0 1 p3 <|
    retG rV
  else
    gcLG a1 fun p4 =>
    mirG 261 fun p5 =>
    acG p4 p5
      (putP 34 a0 1 p1 <|
        retG rV)
      (noneG)
abbrev md_J2_init_2 : MD := (yJ2_init_2, cJ2_init_2, 3, none, RJ2, 13, 1, 64)
theorem hm_J2_init_2 : (md_J2_init_2).y.cls ≠ "java/lang/invoke/MethodHandle" ∧ (md_J2_init_2).y.cls ≠ "java/lang/invoke/VarHandle" ∧ (parseMethodDescriptor (md_J2_init_2).y.desc).map (fun d => d.parameters.length) = some 1 := by decide +kernel
theorem m_J2_init_2 (a0 : Nat) (a1 : Nat) : CMF md_J2_init_2 [cR a0, cR a1] (g_J2_init_2 a0 a1) := by
  refine cm_of (by decide +kernel) rfl (Nat.le_of_ble_eq_true rfl) ?_
  show CWF _ 1 64 0 [(0, cR a0), (1, cR a1)] [] _
  unfold g_J2_init_2
  refine cw_aload_n dJ2_init_2_0 rfl 0 rfl ?_
  refine cw_invV (d2 := md_J1_init) (c := 1) (q := 64) (as := [cR a0]) (mc := 0) (ms := 0) rfl rfl (okI (n := 0) rfl rfl dJ2_init_2_1 (lw_meth q168) q113 q166 q167 rfl hm_J1_init (by decide) (by decide) (Nat.le_of_ble_eq_true rfl) (by decide)) (m_J1_init a0) rfl ?_
  refine cw_aload_n dJ2_init_2_4 rfl 1 rfl ?_
  refine cw_invP (d2 := md_J2_toArray) (c := 0) (q := 0) (as := [cR a1]) (mc := 1) (ms := 64) rfl rfl (okF (x := ⟨"java/util/Collection", "toArray", "()[Ljava/lang/Object;"⟩) (ci := 14) (C := RJ2) (T0 := TJ2) (N := 3) (n := 0) rfl (Or.inr ⟨rfl, rfl⟩) rfl dJ2_init_2_5 (lw_F q1754 q1760 q1758 q114 q1762) (List.mem_iff_getElem?.mpr ⟨13, rfl⟩) (show ("java/util/Collection" : String) ≠ _ ∧ ("java/util/Collection" : String) ≠ _ ∧ (parseMethodDescriptor (md_J2_toArray).y.desc).map (fun d => d.parameters.length) = some 0 from ⟨by decide, by decide, (hm_J2_toArray).2.2⟩) (by decide) (by decide) (Nat.le_of_ble_eq_true rfl)) (c_toArray a1) rfl (fun p1 => ?_)
  refine cw_astore_n (ls' := [(2, cR p1), (0, cR a0), (1, cR a1)]) dJ2_init_2_10 rfl (by decide) rfl ?_
  refine cw_aload_n dJ2_init_2_11 rfl 1 rfl ?_
  refine cw_aload_n dJ2_init_2_12 rfl 0 rfl ?_
  refine cw_alenK dJ2_init_2_13 (fun x2 => ?_)
  refine cw_dup_x1 dJ2_init_2_14 rfl rfl ?_
  refine cw_putI (ci := 14) (j := 2) (C := RJ2) (T := TJ2) (N := 3) rfl (by decide) rfl rfl (Or.inl q178) fSame_rfl (Or.inl rfl) dJ2_init_2_15 ?_
  refine cw_if_eq (tgt := 57) dJ2_init_2_18 (by decide) ?_ ?_
  · refine cw_aload_n dJ2_init_2_57 rfl 1 rfl ?_
    refine cw_gs (a := 2) (t := 10) (by decide) (fun γ U H h => h.2.2.1.2.1) q1772 dJ2_init_2_58 (fun p3 => ?_)
    refine cw_putP (ci := 14) (j := 1) (C := RJ2) (T := TJ2) (N := 3) rfl (by decide) rfl rfl (Or.inl q175) fSame_rfl (Or.inl rfl) dJ2_init_2_61 ?_
    exact cw_vret rfl dJ2_init_2_64
  · refine cw_aload_n dJ2_init_2_21 rfl 2 rfl ?_
    refine cw_gcL q1764 (by decide) (Nat.le_of_ble_eq_true rfl) dJ2_init_2_22 (fun p4 => ?_)
    refine cw_ldcM (a := 261) (fun γ U H h => h.1.2.2.2.2.2.1) q1769 dJ2_init_2_27 (fun p5 => ?_)
    refine cw_acmp_ne (tgt := 40) dJ2_init_2_29 (by decide) ?_ ?_
    · exact cw_none
    · refine cw_aload_n dJ2_init_2_32 rfl 1 rfl ?_
      refine cw_aload_n dJ2_init_2_33 rfl 0 rfl ?_
      refine cw_putP (ci := 14) (j := 1) (C := RJ2) (T := TJ2) (N := 3) rfl (by decide) rfl rfl (Or.inl q175) fSame_rfl (Or.inl rfl) dJ2_init_2_34 ?_
      refine cw_goto (tgt := 64) dJ2_init_2_37 (by decide) ?_
      exact cw_vret rfl dJ2_init_2_64
