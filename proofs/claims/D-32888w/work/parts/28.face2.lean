/-! RULES of the clean machine: calls through interfaces, equals -/
set_option maxRecDepth 100000
theorem cw_ite {d : MD} {c q pc : Nat} {ls : List (Nat × CV)} {st : List CV} {f g : GF} {P : HP → Prop} [DecidablePred P] (k1 : CWF d c q pc ls st f) (k2 : CWF d c q pc ls st g) : CWF d c q pc ls st (fun h => if P h then f h else g h) := by
  intro h r h' hf
  by_cases hp : P h
  · have hf : (if P h then f h else g h) = some (r, h') := hf
    rw [if_pos hp] at hf
    exact k1 h r h' hf
  · have hf : (if P h then f h else g h) = some (r, h') := hf
    rw [if_neg hp] at hf
    exact k2 h r h' hf
/-- an inherited method, called on an object of a class below -/
theorem okVX {d d2 : MD} {a : Nat} {as : List CV} {pc n index t ci : Nat} {st : List CV} {C : String} {T0 : u_T} {N : Nat} (hc0 : vwCl[ci]? = some (C, T0, N)) (ht0 : t = 20 + ci) (hn : as.length = n) (hd : decode d.cc pc = .ok (.invokevirtual index, 3)) (hl : Cond.methodLink d.own index d2.y ∈ lw_all) (hin : Cond.instanceMethod d2.y ∈ lw_all) (hsel : Cond.selects C d2.y d2.y ∈ lw_all) (hini : Cond.initialized d2.y.cls ∈ lw_all) (hw : GoodIn lw_all (ws_ d2.y d2.cc d2.nL d2.ret))
    (hm : d2.y.cls ≠ "java/lang/invoke/MethodHandle" ∧ d2.y.cls ≠ "java/lang/invoke/VarHandle" ∧ (parseMethodDescriptor d2.y.desc).map (fun d => d.parameters.length) = some n) (hdep : d2.dep + 1 ≤ d.dep) (hL : d2.nL ≤ 40) (hc : (st.map cat).sum ≤ 8) : CallOK d d2 (cR a :: as) pc 3 st (some (a, t)) := by
  intro p l e s m args below meth cd γ ρ0 β0 h0 ρ β τ H locs cells slots lsA ls c k h r1 h1 hx hv hwa hws hr hM T hT X
  obtain ⟨x1, x2, x3, x4, x5, x6, x7, x8, x9, x10, x11, hG⟩ := id hx
  obtain ⟨v1, v2, v3, v4, v5, v6, v7, v8, v9⟩ := id hv
  have hrm : d.rm.cells = d.mc := rfl
  have hrs : d.rm.slots = d.ms := rfl
  have hta : h.t a = 20 + ci := by rw [← ht0]; exact eq_of_beq hr
  have hpa : pv ρ (cR a) = .ref (ρ a) := pv_ref v3 (by omega)
  have hpa2 : (cR a :: as).map (pv ρ) = .ref (ρ a) :: as.map (pv ρ) := by rw [List.map_cons, hpa]
  have hM2 := hM l x9 γ ρ β H.size hwa
  rw [hpa2] at hM2
  have hrun := vx_runV (R := d.rm) (meth := meth) (locs := locs) (cells := cells) (slots := slots) (e := e) (below := below) (As := as.map (pv ρ)) (b := ρ a) (rest := st.map (pv ρ)) (g := F0 m pc lsA (((cR a :: as).reverse ++ st).map (pv ρ))) ⟨x1, x2, x4, x5, x6⟩ hM2
    ⟨callB_of n x6 hw rfl rfl rfl (x6 _ hini) (x6 _ hl) hm ⟨by show d2.dep + 1 ≤ d.dep; exact hdep, by show 8 + (d2.nL + 11) + (4096 + 64 * d2.dep) ≤ 4096 + 64 * d.dep; omega⟩, x6 _ hin, x6 _ hsel⟩ ⟨pre_blind, emb_cls hx v3 hc0 hta, fun U hU hW => pre_at hx hv hU hW⟩ rfl (by rw [List.length_map]; exact hn) v7.1 (by show ((cR a :: as).reverse ++ st).map (pv ρ) = _; rw [map_rev, hpa2, List.reverse_cons, List.append_assoc]; rfl) (by show 2 * 0 + _ ≤ 8; rw [pvs_cat]; omega) hd ⟨by rw [hrm]; omega, by rw [hrs]; omega⟩
  exact hrun T hT X
theorem lw_F {own : String} {idx : Nat} {C : String} {x y : MethodName} {b : ByteArray} {L : Nat} {r : Option FieldType} (h1 : Cond.methodLink own idx x ∈ lw_all) (h2 : Cond.instanceMethod y ∈ lw_all) (h3 : Cond.selects C x y ∈ lw_all) (h4 : Cond.initialized y.cls ∈ lw_all) (h5 : Cond.code y b L r ∈ lw_all) : GoodIn lw_all (va_wsF own idx C x y (ws_ y b L r)) := by
  refine lw_app ?_ (lw_meth h5)
  intro w hw
  simp only [List.mem_cons, List.not_mem_nil, or_false] at hw
  rcases hw with e | e | e | e
  · rw [e]; exact h1
  · rw [e]; exact h3
  · rw [e]; exact h2
  · rw [e]; exact h4
theorem okF {d d2 : MD} {a : Nat} {as : List CV} {pc n index count t ci : Nat} {st : List CV} {C : String} {T0 : u_T} {N : Nat} {x : MethodName} (hc0 : vwCl[ci]? = some (C, T0, N)) (ht0 : t = 20 + ci ∨ (t = 8 ∧ ci = 14)) (hn : as.length = n) (hd : decode d.cc pc = .ok (.invokeinterface index count, 5)) (hw : GoodIn lw_all (va_wsF d.own index C x d2.y (ws_ d2.y d2.cc d2.nL d2.ret))) (hF : (C, x, d2.y) ∈ ifT)
    (hm : x.cls ≠ "java/lang/invoke/MethodHandle" ∧ x.cls ≠ "java/lang/invoke/VarHandle" ∧ (parseMethodDescriptor x.desc).map (fun d => d.parameters.length) = some n) (hdep : d2.dep + 1 ≤ d.dep) (hL : d2.nL ≤ 40) (hc : (st.map cat).sum ≤ 8) : CallOK d d2 (cR a :: as) pc 5 st (some (a, t)) := by
  intro p l e s m args below meth cd γ ρ0 β0 h0 ρ β τ H locs cells slots lsA ls c k h r1 h1 hx hv hwa hws hr hM T hT X
  obtain ⟨x1, x2, x3, x4, x5, x6, x7, x8, x9, x10, x11, hG⟩ := id hx
  obtain ⟨v1, v2, v3, v4, v5, v6, v7, v8, v9⟩ := id hv
  have hrm : d.rm.cells = d.mc := rfl
  have hrs : d.rm.slots = d.ms := rfl
  have hta : h.t a = t := eq_of_beq hr
  have hpa : pv ρ (cR a) = .ref (ρ a) := pv_ref v3 (by omega)
  have hpa2 : (cR a :: as).map (pv ρ) = .ref (ρ a) :: as.map (pv ρ) := by rw [List.map_cons, hpa]
  have hM2 := hM l x9 γ ρ β H.size hwa
  rw [hpa2] at hM2
  have hcls : ∃ cell : Cell, H[ρ a]? = some cell ∧ cell.vm.isStatics = false ∧ s.vm.findClass C = some cell.cls := by
    rcases ht0 with q | ⟨q, rfl⟩
    · exact emb_cls hx v3 hc0 (hta.trans q)
    · cases hc0
      exact emb_clsL hx v3 (hta.trans q)
  have hrun := vx_runF (R := d.rm) (meth := meth) (locs := locs) (cells := cells) (slots := slots) (e := e) (below := below) (As := as.map (pv ρ)) (b := ρ a) (rest := st.map (pv ρ)) (g := F0 m pc lsA (((cR a :: as).reverse ++ st).map (pv ρ))) (hG.1.1.1 ci _ hc0).2 ⟨x1, x2, x4, x5, x6⟩ hM2
    (va_cwF n x6 hw rfl rfl rfl (hG.1.2.2.1 _ hF) hm ⟨by show d2.dep + 1 ≤ d.dep; exact hdep, by show 8 + (d2.nL + 11) + (4096 + 64 * d2.dep) ≤ 4096 + 64 * d.dep; omega⟩) ⟨pre_blind, hcls, fun U hU hW => pre_at hx hv hU hW⟩ rfl (by rw [List.length_map]; exact hn) v7.1 (by show ((cR a :: as).reverse ++ st).map (pv ρ) = _; rw [map_rev, hpa2, List.reverse_cons, List.append_assoc]; rfl) (by show 2 * 0 + _ ≤ 8; rw [pvs_cat]; omega) hd ⟨by rw [hrm]; omega, by rw [hrs]; omega⟩
  exact hrun T hT X
