/-! RULES of the clean machine: arraycopy, calls through interfaces, equals -/
set_option maxRecDepth 100000
def HP.wR (h : HP) (a : Nat) (row : Nat → Nat) : HP := HP.mk h.n h.t h.l h.i (up1 h.p a row) h.j h.s h.m
theorem wR_self {h : HP} {a : Nat} {row : Nat → Nat} : (h.wR a row).p a = row := if_pos rfl
theorem wR_oth {h : HP} {a : Nat} {row : Nat → Nat} : ∀ b, b ≠ a → (h.wR a row).l b = h.l b ∧ (h.wR a row).i b = h.i b ∧ (h.wR a row).p b = h.p b ∧ (h.wR a row).j b = h.j b ∧ (h.wR a row).s b = h.s b ∧ (h.wR a row).m b = h.m b :=
  fun b hb => ⟨rfl, rfl, if_neg hb, rfl, rfl, rfl⟩
abbrev acpOK (h : HP) (a0 : Nat) (sp : Int32) (a1 : Nat) (dp n : Int32) : Prop := (h.t a0 = 4 ∨ h.t a0 = 10) ∧ h.t a1 = 4 ∧ ¬ (sp < 0) ∧ ¬ (dp < 0) ∧ ¬ (n < 0) ∧ sp.toNatClampNeg + n.toNatClampNeg ≤ h.l a0 ∧ dp.toNatClampNeg + n.toNatClampNeg ≤ h.l a1 ∧ ∀ i, i < n.toNatClampNeg → elOK h (h.p a0 (sp.toNatClampNeg + i))
def acpG (a0 : Nat) (sp : Int32) (a1 : Nat) (dp n : Int32) (f : GF) : GF := fun h => if acpOK h a0 sp a1 dp n then f (h.wR a1 (va_cpy (h.p a0) (h.p a1) sp.toNatClampNeg dp.toNatClampNeg n.toNatClampNeg)) else none
theorem nn_toInt {z : Int32} (hz : ¬ z < 0) : z.toInt = (z.toNatClampNeg : Int) := by
  have hz0 : (0 : Int) ≤ z.toInt := by
    have := Int32.not_lt.mp hz
    simpa using Int32.le_iff_toInt_le.mp this
  show z.toInt = ((z.toInt.toNat : Nat) : Int)
  omega
theorem acp_room {ρ : Nat → Nat} {st : List CV} {n : Nat} (hs : (st.map cat).sum ≤ 8) : 2 * 0 + ((st.map (pv ρ)).map fun v => v.category).sum + (nativeFrameWords "java/lang/System" "arraycopy" 5 + 11) ≤ 4096 + 64 * n := by
  rw [pvs_cat]
  have : nativeFrameWords "java/lang/System" "arraycopy" 5 + 11 ≤ 100 := by decide
  omega
/-- the array copied from: what it holds -/
theorem src_arr {d : MD} {c k : Nat} {γ : GC} {ρ0 β0 : Nat → Nat} {h0 : HP} {p : Program} {l : Launch} {s : State} {m : MethodId} {args : Array Value} {meth : Method} {cd : Code} {ρ β τ : Nat → Nat} {ls : List (Nat × CV)} {h : HP} {H : Heap} {locs : List Loc} {cells slots : Nat} {lsA : Array Slot} (hx : Fx d γ p l s m args meth cd) (hv : Vy d c k γ ρ0 β0 h0 s ρ β τ ls h H locs cells slots lsA) {a : Nat} (ht : h.t a = 4 ∨ h.t a = 10) :
    ∃ (cs : Cell) (ks : Class) (cm : ClassId), H[ρ a]? = some cs ∧ (∀ q, cs.vm ≠ .statics q) ∧ cs.vm ≠ .unknown ∧ s.vm.classes[cs.cls]? = some ks ∧ ks.kind = .array cm (.object "java/lang/Object") ∧ h.l a ≤ cs.slots.size ∧ ∀ j, j < h.l a → cs.slots[j]? = some (va_rf (ro ρ (h.p a j))) := by
  rcases ht with ht | ht
  · have hc := (hv.2.2.1.2.2.1 a).2.2.2.1 (by omega) (by omega)
    rw [vp_cell_q, ht] at hc
    obtain ⟨-, k0, hk0, cm0, hkk0⟩ := ((fx_gs hx).1.1.2 3 _ rfl).1 (h.l a) (fun j => va_rf (ro ρ (h.p a j)))
    exact ⟨_, k0, cm0, hc, (fun _ h => by cases h), (fun h => by cases h), hk0, hkk0, by rw [arrV_size]; exact Nat.le_refl _, fun j hj => arrV_read _ _ hj⟩
  · obtain ⟨cell, t1, ⟨t2, k0, hk0, cm0, hkk0⟩, t3, t4, t5, t6, t7⟩ := (emb_e hx hv ht).1
    have hl := (emb_k hv.2.2.1 ht (by omega) (by omega)).2.2.2.2.1 rfl
    exact ⟨cell, k0, cm0, t1, t2, t3, hk0, hkk0, by omega, fun j hj => by omega⟩
theorem cw_acp {d : MD} {c q pc : Nat} {ls : List (Nat × CV)} {st : List CV} {f : GF} {a0 a1 index : Nat} {sp dp n : Int32} (hl : Cond.methodLink d.own index arraycopyName ∈ lw_all) (hdep : 1 ≤ d.dep) (hs : (st.map cat).sum ≤ 8) (hd : decode d.cc pc = .ok (.invokestatic index, 3)) (k : CWF d c q (pc + 3) ls st f) : CWF d c q pc ls (cI n :: cI dp :: cR a1 :: cI sp :: cR a0 :: st) (acpG a0 sp a1 dp n f) := by
  intro h r h' hf p l e s m args below meth cd γ ρ0 β0 h0 ρ β τ H locs cells slots lsA hx hv hw
  unfold acpG at hf
  by_cases ht : acpOK h a0 sp a1 dp n
  · rw [if_pos ht] at hf
    obtain ⟨ht0, ht1, hsp, hdp, hn, hl0, hl1, hel⟩ := ht
    have hE := hv.2.2.1
    obtain ⟨cs, ks, cm, s1, s2, s3, s4, s5, s6, s7⟩ := src_arr hx hv ht0
    have hc1 := (hE.2.2.1 a1).2.2.2.1 (by omega) (by omega)
    rw [vp_cell_q, ht1] at hc1
    obtain ⟨hT1, kA, comp, r1, r2, r3, -⟩ := (fx_gs hx).1.1.2 3 _ rfl
    obtain ⟨-, k1, hk1, cm1, hkk1⟩ := hT1 (h.l a1) (fun j => va_rf (ro ρ (h.p a1 j)))
    show W _ _ _ _ _ _ _ _ _ _ _ _ _ _ _ (F0 m pc lsA (.int n :: .int dp :: pv ρ (cR a1) :: .int sp :: pv ρ (cR a0) :: st.map (pv ρ)))
    rw [pv_ref hE (a := a1) (by omega), pv_ref hE (a := a0) (by rcases ht0 with q | q <;> omega)]
    have w := hx.2.2.2.2.2.1
    have hsz : lsA.size = cd.maxLocals := (hv.2.2.2.2.2.2.1.1.trans hx.2.2.2.1.symm)
    intro T hT X
    obtain ⟨vm', X', step⟩ := X.arraycopy hx.1 hx.2.2.2.2.1 (w _ hl) (w _ q523) (w _ q522) (w _ q125) (src := ρ a0) (dst := ρ a1) (cs := cs) (cd := arrV (γ.cA 4) (h.l a1) (fun k => va_rf (ro ρ (h.p a1 k)))) (srcPos := sp) (destPos := dp) (n := n) (by rw [hT]; exact s1) (by rw [hT]; exact hc1)
      s2 (fun _ h => by cases h) s3 (fun h => by cases h) s4 hk1 s5 hkk1 rfl hsp hdp hn
      (by rw [nn_toInt hsp, nn_toInt hn]; omega)
      (by rw [nn_toInt hdp, nn_toInt hn, arrV_size]; omega)
      (fun vm₁ hal i hi => by
        have e : cs.slots.getD (sp.toNatClampNeg + i) .null = va_rf (ro ρ (h.p a0 (sp.toNatClampNeg + i))) := by
          rw [Array.getD_eq_getD_getElem?, s7 _ (by omega)]
          rfl
        rw [e]
        by_cases h0x : h.p a0 (sp.toNatClampNeg + i) = 0
        · unfold ro
          rw [if_pos h0x]
          exact ⟨rfl, trivial⟩
        · obtain ⟨-, C, cellV, g1, g2, g3, g4⟩ := el_cls hx hv h0x (hel i hi)
          cases hk1.symm.trans r1
          cases hkk1.symm.trans r2
          obtain ⟨kC, hkC, -⟩ := Vm.findClass_spec g3
          obtain ⟨kE, hkE, -⟩ := Vm.findClass_spec r3
          obtain ⟨kC', hkC', -⟩ := hal.2.2 _ _ hkC
          obtain ⟨kE', hkE', -⟩ := hal.2.2 _ _ hkE
          obtain ⟨c0, t1, f1, f2, f3⟩ := Cond.castable_spec (va_Nw.use (A := args) rfl (fx_tbl hx g4 rfl))
          cases g3.symm.trans f1
          cases r3.symm.trans f2
          unfold ro
          rw [if_neg h0x]
          exact ⟨rfl, cellV, (show T.heap[ρ _]? = some cellV by rw [hT]; exact g1), (fun q h => by rw [h] at g2; cases g2), ⟨kC', hkC'⟩, ⟨kE', hkE'⟩, (show vm₁.assignable _ _ = true by rw [hal.assignable]; exact f3)⟩)
      (g := F0 m pc lsA (.int n :: .int dp :: .ref (ρ a1) :: .int sp :: .ref (ρ a0) :: st.map (pv ρ))) rfl hsz (rest := st.map (pv ρ)) rfl (by rw [hx.2.1]; exact hd) (show 1 ≤ d.dep from hdep) (acp_room hs)
    have e1 : copied cs (arrV (γ.cA 4) (h.l a1) (fun k => va_rf (ro ρ (h.p a1 k)))) sp dp n = arrV (γ.cA 4) (h.l a1) (fun k => va_rf (ro ρ (va_cpy (h.p a0) (h.p a1) sp.toNatClampNeg dp.toNatClampNeg n.toNatClampNeg k))) := by
      refine (va_copiedX (fun z => va_rf (ro ρ z)) cs (γ.cA 4) (h.p a0) (h.p a1) s7 hl0)
    rw [e1] at X' step
    have hlt : ρ a1 < H.size := (Array.getElem?_eq_some_iff.mp hc1).1
    have hheap : ((T.setVm vm').setCell (ρ a1) (arrV (γ.cA 4) (h.l a1) (fun k => va_rf (ro ρ (va_cpy (h.p a0) (h.p a1) sp.toNatClampNeg dp.toNatClampNeg n.toNatClampNeg k))))).heap = H.setIfInBounds (ρ a1) (arrV (γ.cA 4) (h.l a1) (fun k => va_rf (ro ρ (va_cpy (h.p a0) (h.p a1) sp.toNatClampNeg dp.toNatClampNeg n.toNatClampNeg k)))) := by rw [← hT]; rfl
    have hwf1 := emb_wf hE (a := a1) (by omega)
    have hwf0 := emb_wf hE (a := a0) (by rcases ht0 with q | q <;> omega)
    have hta : (h.wR a1 (va_cpy (h.p a0) (h.p a1) sp.toNatClampNeg dp.toNatClampNeg n.toNatClampNeg)).t a1 = 4 := ht1
    have hv2 : ∀ i, Vy d c q γ ρ0 β0 h0 s ρ β τ ls (h.wR a1 (va_cpy (h.p a0) (h.p a1) sp.toNatClampNeg dp.toNatClampNeg n.toNatClampNeg)) _ (locs ++ [⟨ρ a1, i⟩]) cells slots lsA := fun i => vy_write (H2 := H.setIfInBounds (ρ a1) (arrV (γ.cA 4) (h.l a1) (fun k => va_rf (ro ρ (va_cpy (h.p a0) (h.p a1) sp.toNatClampNeg dp.toNatClampNeg n.toNatClampNeg k))))) hv (by rw [ht1]; exact Or.inl (by omega)) rfl rfl wR_oth ⟨fun i => by
        rw [wR_self]
        unfold va_cpy
        split
        · exact hwf0.1 _
        · exact hwf1.1 _, hwf1.2⟩ (by simp) (fun q hq => by simp [Array.getElem?_setIfInBounds, Ne.symm hq]) (embAt_arr (by omega) (fun q => by omega) (fun q => by omega) (fun q => by omega) (fun _ => by
        rw [vp_cell_q, hta, wR_self]
        simp [Array.getElem?_setIfInBounds, hlt]
        rfl))
    have hvS : ∀ L : List Loc, (∀ z ∈ L, z.base = ρ a1) → va_S (ASet γ ρ0 β0 h0 s.heap.size) s.heap (H.setIfInBounds (ρ a1) (arrV (γ.cA 4) (h.l a1) (fun k => va_rf (ro ρ (va_cpy (h.p a0) (h.p a1) sp.toNatClampNeg dp.toNatClampNeg n.toNatClampNeg k))))) (locs ++ L) := by
      intro L hL
      obtain ⟨-, -, -, -, -, w6, -⟩ := hv2 0
      obtain ⟨-, -, -, -, -, u6, -⟩ := hv
      refine ⟨w6.1, w6.2.1, fun z hz => ?_⟩
      rcases List.mem_append.mp hz with h1 | h1
      · exact u6.2.2 z h1
      · rw [hL z h1]
        exact w6.2.2 ⟨ρ a1, 0⟩ (List.mem_append_right _ List.mem_cons_self)
    obtain ⟨u1, u2, u3, u4, u5, u6, u7⟩ := hv2 0
    obtain ⟨t, a9, b9⟩ := k _ r h' hf p l e s m args below meth cd γ ρ0 β0 h0 ρ β τ _ _ cells slots lsA hx ⟨u1, u2, u3, u4, u5, hvS _ (fun z hz => by
      obtain ⟨_, _, hz⟩ := List.mem_map.mp hz
      rw [← hz]), u7⟩ hw.2.2.2.2.2 _ hheap X'
    exact ⟨t, step t a9, b9⟩
  · rw [if_neg ht] at hf
    cases hf
