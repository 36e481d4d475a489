/-! RULES of the clean machine: new reference arrays, arraycopy, class objects, calls through interfaces -/
set_option maxRecDepth 100000
theorem cw_anew {d : MD} {c q pc B : Nat} {ls : List (Nat × CV)} {st : List CV} {f : Nat → GF} {n : Int32} {index : Nat} (hB : B ≤ 10000) (hl : Cond.classLink d.own index "java/lang/Object" ∈ lw_all) (hd : decode d.cc pc = .ok (.anewarray index, 3)) (k : ∀ a, CWF d c q (pc + 3) ls (cR a :: st) (f a)) : CWF d (c + 1) (q + B) pc ls (cI n :: st) (newaG 4 B n f) := by
  intro h r h' hf p l e s m args below meth cd γ ρ0 β0 h0 ρ β τ H locs cells slots lsA hx hv hw
  unfold newaG at hf
  by_cases hn : ¬ (n < 0) ∧ n.toNatClampNeg ≤ B
  · rw [if_pos hn] at hf
    obtain ⟨hN, hs1, hs2⟩ := fx_sa hx
    obtain ⟨x1, x2, x3, x4, x5, x6, x7, x8, x9, x10, x11, hG⟩ := id hx
    obtain ⟨v1, v2, v3, v4, v5, v6, v7, v8, v9⟩ := id hv
    have hrm : d.rm.cells = d.mc := rfl
    have hrs : d.rm.slots = d.ms := rfl
    show W _ _ _ _ _ _ _ _ _ _ _ _ _ _ _ (F0 m pc lsA (.int n :: st.map (pv ρ)))
    refine W.anew x1 x2 x5 (x6 _ hl) (va_AO.use (fx_tbl hx q648 rfl)) rfl hd rfl hn.1 (by omega) (by rw [hrm]; omega) (by rw [hrs]; omega) fun cA kA comp f1 f2 f3 f4 => ?_
    generalize hH1 : Array.push H ({ cls := cA, slots := Array.replicate n.toNatClampNeg Value.null } : Cell) = H1
    have z1 : H1.size = H.size + 1 := by rw [← hH1, Array.size_push]
    have e1 : H1[H.size]? = some (arrV cA n.toNatClampNeg (fun _ => .null)) := by rw [← hH1, Array.getElem?_push_size, ← arrV_new]
    have o1 : ∀ q : Nat, q < H.size → H1[q]? = H[q]? := fun q hq => by rw [← hH1, Array.getElem?_push, if_neg (Nat.ne_of_lt hq)]
    obtain ⟨kA2, comp2, k1, k2, k3, k5⟩ := (hG.1.1.2 3 _ rfl).2
    have hcA : cA = γ.cA 4 := Option.some.inj (f1.symm.trans k5)
    subst hcA
    have hem : EmbAt γ (up1 ρ h.n H.size) β (h.mkc 4 n.toNatClampNeg) H1 h.n := by
      obtain ⟨m1, m2, m3, m4, m5, m6, m7⟩ := mkc_at (h := h) (t := 4) (len := n.toNatClampNeg)
      exact embAt_arr (by omega) (fun q => by omega) (fun q => by omega) (fun q => by omega) (fun _ => by rw [up_self, m1, m2, m4, vp_cell_q]; exact e1)
    have hv2 := vy_alloc (c := c) (k := q) (cells2 := cells + 1) (slots2 := slots + n.toNatClampNeg) hv hN hs1 hs2 (Or.inl (by omega)) (by omega) z1 o1 hem (by omega) (by omega)
    have hk := k h.n _ r h' hf p l e s m args below meth cd γ ρ0 β0 h0 _ β τ H1 locs (cells + 1) (slots + n.toNatClampNeg) lsA hx hv2 ⟨Nat.lt_succ_self _, wfS_mono (Nat.le_succ _) hw.2⟩
    rw [pv_new v3.1 hw.2] at hk
    exact hk
  · rw [if_neg hn] at hf
    cases hf
/-! class objects -/
def mirG (a : Nat) (f : Nat → GF) : GF := fun h => if h.t a = 12 then f a h else none
theorem cw_ldcM {d : MD} {c q pc : Nat} {ls : List (Nat × CV)} {st : List CV} {f : Nat → GF} {a index : Nat} {C : String} (hM : ∀ (γ : GC) (U : State) (H : Heap), GS γ U H → va_Mi C (γ.sa a) U) (hl : Cond.classLink d.own index C ∈ lw_all) (hd : decode d.cc pc = .ok (.ldc index, 2)) (k : ∀ x, CWF d c q (pc + 2) ls (cR x :: st) (f x)) : CWF d c q pc ls st (mirG a f) := by
  intro h r h' hf p l e s m args below meth cd γ ρ0 β0 h0 ρ β τ H locs cells slots lsA hx hv hw
  unfold mirG at hf
  by_cases ht : h.t a = 12
  · rw [if_pos ht] at hf
    have hk := k a h r h' hf p l e s m args below meth cd γ ρ0 β0 h0 ρ β τ H locs cells slots lsA hx hv ⟨(emb_k hv.2.2.1 ht (by omega) (by omega)).2.2.1, hw⟩
    rw [List.map_cons, pv_k hv.2.2.1 ht (by omega) (by omega)] at hk
    exact va_ldcM hx.1 hx.2.1 hx.2.2.2.2.1 (hx.2.2.2.2.2.1 _ hl) (hM γ s s.heap (fx_gs hx)) hd hk
  · rw [if_neg ht] at hf
    cases hf
/-- getClass() of an Object[] -/
def gcAG (a : Nat) (f : Nat → GF) : GF := fun h => if (h.t a = 4 ∨ h.t a = 10) ∧ h.t 3 = 12 then f 3 h else none
theorem cls_arr {d : MD} {c k : Nat} {γ : GC} {ρ0 β0 : Nat → Nat} {h0 : HP} {p : Program} {l : Launch} {s : State} {m : MethodId} {args : Array Value} {meth : Method} {cd : Code} {ρ β τ : Nat → Nat} {ls : List (Nat × CV)} {h : HP} {H : Heap} {locs : List Loc} {cells slots : Nat} {lsA : Array Slot} (hx : Fx d γ p l s m args meth cd) (hv : Vy d c k γ ρ0 β0 h0 s ρ β τ ls h H locs cells slots lsA) {a : Nat} (ht : h.t a = 4 ∨ h.t a = 10) : ∃ cell : Cell, H[ρ a]? = some cell ∧ cell.vm.isStatics = false ∧ s.vm.findClass "[Ljava/lang/Object;" = some cell.cls := by
  rcases ht with ht | ht
  · have hc := (hv.2.2.1.2.2.1 a).2.2.2.1 (by omega) (by omega)
    obtain ⟨kA2, comp2, k1, k2, k3, k5⟩ := ((fx_gs hx).1.1.2 3 _ rfl).2
    rw [ht] at hc
    exact ⟨_, hc, rfl, k5⟩
  · obtain ⟨cell, q1, q2, q3, -⟩ := (emb_e hx hv ht).2
    exact ⟨cell, q1, q2, q3⟩
theorem cw_gcA {d : MD} {c q pc : Nat} {ls : List (Nat × CV)} {st : List CV} {f : Nat → GF} {a index : Nat} (hl : Cond.methodLink d.own index ⟨"java/lang/Object", "getClass", "()Ljava/lang/Class;"⟩ ∈ lw_all) (hdep : 1 ≤ d.dep) (hs : (st.map cat).sum ≤ 8) (hd : decode d.cc pc = .ok (.invokevirtual index, 3)) (k : ∀ x, CWF d c q (pc + 3) ls (cR x :: st) (f x)) : CWF d c q pc ls (cR a :: st) (gcAG a f) := by
  intro h r h' hf p l e s m args below meth cd γ ρ0 β0 h0 ρ β τ H locs cells slots lsA hx hv hw
  unfold gcAG at hf
  by_cases ht : (h.t a = 4 ∨ h.t a = 10) ∧ h.t 3 = 12
  · rw [if_pos ht] at hf
    have hk := k 3 h r h' hf p l e s m args below meth cd γ ρ0 β0 h0 ρ β τ H locs cells slots lsA hx hv ⟨(emb_k hv.2.2.1 ht.2 (by omega) (by omega)).2.2.1, hw.2⟩
    rw [List.map_cons, pv_k hv.2.2.1 ht.2 (by omega) (by omega)] at hk
    obtain ⟨cell, q1, q2, q3⟩ := cls_arr hx hv ht.1
    show W _ _ _ _ _ _ _ _ _ _ _ _ _ _ _ (F0 m pc lsA (pv ρ (cR a) :: st.map (pv ρ)))
    rw [pv_ref hv.2.2.1 (by rcases ht.1 with q | q <;> omega)]
    have w := hx.2.2.2.2.2.1
    refine va_getC hx.1 hx.2.1 (hx.2.2.2.1.trans hv.2.2.2.2.2.2.1.1.symm) (C := "[Ljava/lang/Object;") hx.2.2.2.2.1 (w _ hl) ((fx_gs hx).1.2.2.2.1.use) (w _ q2890) (w _ q616) (w _ q643) ((fx_gs hx).1.2.2.2.2.1) ⟨cell, q1, q2, q3⟩ (show 1 ≤ d.dep from hdep) (by show _ ≤ 4096 + 64 * d.dep; rw [pvs_cat]; omega) hd hk
  · rw [if_neg ht] at hf
    cases hf
theorem gc_room {ρ : Nat → Nat} {st : List CV} {n : Nat} (hs : (st.map cat).sum ≤ 8) : 2 * 0 + ((st.map (pv ρ)).map fun v => v.category).sum + (nativeFrameWords "java/lang/Object" "getClass" 1 + 11) ≤ 4096 + 64 * n := by
  rw [pvs_cat]
  have : nativeFrameWords "java/lang/Object" "getClass" 1 + 11 ≤ 100 := by decide
  omega
theorem sel_gc {args : Array Value} {s : State} (h1 : (Cond.selects RJ2 ⟨"java/lang/Object", "getClass", "()Ljava/lang/Class;"⟩ ⟨"java/lang/Object", "getClass", "()Ljava/lang/Class;"⟩).before args s = true) (h2 : (Cond.interfaceMethod "java/util/Collection" "java/lang/Object" "getClass" "()Ljava/lang/Class;").before args s = true) (h3 : (Cond.sameMethod "java/lang/Object" "java/lang/Object" "getClass" "()Ljava/lang/Class;").before args s = true) :
    (Cond.selects RJ2 ⟨"java/util/Collection", "getClass", "()Ljava/lang/Class;"⟩ ⟨"java/lang/Object", "getClass", "()Ljava/lang/Class;"⟩).before args s = true := by
  obtain ⟨cL, kL, r1, -, -, -, f1, n1⟩ := Cond.interfaceMethod_spec h2
  obtain ⟨c9, r2, m9, a1, f2, a3, -, -⟩ := Cond.selects_spec h1
  have n2 := (Cond.sameMethod_spec (findClass_of_methodNamed a3) f2 h3).1
  cases n1.symm.trans n2
  have e : s.methodFound? "java/util/Collection" "getClass" "()Ljava/lang/Class;" = s.methodFound? "java/lang/Object" "getClass" "()Ljava/lang/Class;" := f1.trans f2.symm
  simp only [Cond.before, Cond.holds, Cond.value] at h1 ⊢
  rw [e]
  exact h1
/-- getClass() of a list, told through Collection -/
def gcLG (a : Nat) (f : Nat → GF) : GF := fun h => if h.t a = 8 ∧ h.t 261 = 12 then f 261 h else none
theorem cw_gcL {d : MD} {c q pc : Nat} {ls : List (Nat × CV)} {st : List CV} {f : Nat → GF} {a index count : Nat} (hl : Cond.methodLink d.own index ⟨"java/util/Collection", "getClass", "()Ljava/lang/Class;"⟩ ∈ lw_all) (hdep : 1 ≤ d.dep) (hs : (st.map cat).sum ≤ 8) (hd : decode d.cc pc = .ok (.invokeinterface index count, 5)) (k : ∀ x, CWF d c q (pc + 5) ls (cR x :: st) (f x)) : CWF d c q pc ls (cR a :: st) (gcLG a f) := by
  intro h r h' hf p l e s m args below meth cd γ ρ0 β0 h0 ρ β τ H locs cells slots lsA hx hv hw
  unfold gcLG at hf
  by_cases ht : h.t a = 8 ∧ h.t 261 = 12
  · rw [if_pos ht] at hf
    have hk := k 261 h r h' hf p l e s m args below meth cd γ ρ0 β0 h0 ρ β τ H locs cells slots lsA hx hv ⟨(emb_k hv.2.2.1 ht.2 (by omega) (by omega)).2.2.1, hw.2⟩
    rw [List.map_cons, pv_k hv.2.2.1 ht.2 (by omega) (by omega)] at hk
    obtain ⟨cell, q1, q2, q3⟩ := emb_clsL hx hv.2.2.1 ht.1
    show W _ _ _ _ _ _ _ _ _ _ _ _ _ _ _ (F0 m pc lsA (pv ρ (cR a) :: st.map (pv ρ)))
    rw [pv_ref hv.2.2.1 (by omega)]
    have w := hx.2.2.2.2.2.1
    obtain ⟨cM, kM, m1, m2, m3⟩ := (fx_gs hx).1.2.2.2.2.2.1
    cases m1.symm.trans q3
    obtain ⟨-, -, -, -, -, -, ig⟩ := (fx_gs hx).2.2.1
    intro T hT X
    have hsz : lsA.size = cd.maxLocals := (hv.2.2.2.2.2.2.1.1.trans hx.2.2.2.1.symm)
    obtain ⟨vm₁, X', step⟩ := X.getClassOfI hx.1 (own := d.own) (C := RJ2) (index := index) (count := count) (xi := ⟨"java/util/Collection", "getClass", "()Ljava/lang/Class;"⟩) hx.2.2.2.2.1 (w _ hl) ((fx_gs hx).1.2.2.2.1.use) (va_any rfl ig) (sel_gc (w _ q640) (va_any rfl ig) (w _ q617)) (w _ q616) (va_Nw.use (A := args) rfl (fx_tbl hx q1768 rfl)) (va_Nw.use (A := args) rfl (fx_tbl hx q1767 rfl)) (va_Nw.use (A := args) rfl (fx_tbl hx q1757 rfl)) (w _ q643) ⟨by decide, by decide⟩ (by decide) rfl rfl m1 m2 ⟨cell, by rw [hT]; exact q1, rfl, q2⟩ m3 (g := F0 m pc lsA (.ref (ρ a) :: st.map (pv ρ))) rfl hsz rfl (by rw [hx.2.1]; exact hd) (show 1 ≤ d.dep from hdep) (gc_room hs)
    obtain ⟨t, a1, b1⟩ := hk (T.setVm vm₁) hT X'
    exact ⟨t, step t a1, b1⟩
  · rw [if_neg ht] at hf
    cases hf
