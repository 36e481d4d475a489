/-! RULES of the clean machine: constants, arrays of references, class objects -/
set_option maxRecDepth 100000
def noneG : GF := fun _ => none
theorem cw_none {d : MD} {c q pc : Nat} {ls : List (Nat × CV)} {st : List CV} : CWF d c q pc ls st noneG := fun h r h' hf => by cases hf
theorem vy_A0 {d : MD} {c k : Nat} {γ : GC} {ρ0 β0 : Nat → Nat} {h0 : HP} {s : State} {ρ β τ : Nat → Nat} {ls : List (Nat × CV)} {h : HP} {H : Heap} {locs : List Loc} {cells slots : Nat} {lsA : Array Slot} (hv : Vy d c k γ ρ0 β0 h0 s ρ β τ ls h H locs cells slots lsA) : va_S (A0 γ) s.heap H locs := by
  obtain ⟨-, -, -, -, -, v6, -⟩ := hv
  exact ⟨v6.1, fun q h1 h2 => v6.2.1 q h1 (fun z => h2 z.1), fun z hz => (v6.2.2 z hz).1⟩
theorem fx_gs {d : MD} {γ : GC} {p : Program} {l : Launch} {s : State} {m : MethodId} {args : Array Value} {meth : Method} {cd : Code} (hx : Fx d γ p l s m args meth cd) : GS γ s s.heap := hx.2.2.2.2.2.2.2.2.2.2.2
theorem fx_tbl {d : MD} {γ : GC} {p : Program} {l : Launch} {s : State} {m : MethodId} {args : Array Value} {meth : Method} {cd : Code} (hx : Fx d γ p l s m args meth cd) {w : Cond} (hw : w ∈ lw_tbl) (hs : stw w = true) : va_Nw w s := (fx_gs hx).1.2.1 w hw hs
theorem emb_k {γ : GC} {ρ β : Nat → Nat} {h : HP} {A : Nat → Prop} {H : Heap} (hE : Emb γ ρ β h A H) {a t : Nat} (ht : h.t a = t) (h9 : 9 ≤ t) (h14 : t < 14) : ρ a = γ.sa a ∧ a ≠ 0 ∧ a < h.n ∧ (t = 9 → 5 ≤ a ∧ a < 261) ∧ (t = 10 → (a = 1 ∨ a = 2) ∧ h.l a = 0) ∧ (t = 11 → a = 4 ∧ h.l a = 256 ∧ ∀ k, k < 256 → h.p a k = 5 + k) ∧ (t = 12 → a = 3 ∨ a = 261) := by
  obtain ⟨-, -, -, -, -, -, -, e8⟩ := hE.2.2.1 a
  obtain ⟨q1, q2, q3, q4, q5, q6, q7⟩ := e8 (by omega) (by omega)
  obtain ⟨w1, w2, -⟩ := hE.2.1 a (by omega)
  exact ⟨q1, by omega, w2, fun q => ⟨(q3 (by omega)).1, (q3 (by omega)).2.1⟩, fun q => q4 (by omega), fun q => q5 (by omega), fun q => q6 (by omega)⟩
theorem pv_k {γ : GC} {ρ β : Nat → Nat} {h : HP} {A : Nat → Prop} {H : Heap} (hE : Emb γ ρ β h A H) {a t : Nat} (ht : h.t a = t) (h9 : 9 ≤ t) (h14 : t < 14) : pv ρ (cR a) = .ref (γ.sa a) := by
  rw [pv_ref hE (by omega), (emb_k hE ht h9 h14).1]
def gsG (a t : Nat) (f : Nat → GF) : GF := fun h => if h.t a = t then f a h else none
theorem cw_gs {d : MD} {c q pc : Nat} {ls : List (Nat × CV)} {st : List CV} {f : Nat → GF} {a t index : Nat} {C n dd : String} (h9 : 9 ≤ t ∧ t < 14) (hZ : ∀ (γ : GC) (U : State) (H : Heap), GS γ U H → va_Z C n dd (.ref (γ.sa a)) (A0 γ) U H) (hl : Cond.fieldLink d.own index C n dd ∈ lw_all) (hd : decode d.cc pc = .ok (.getstatic index, 3)) (k : ∀ x, CWF d c q (pc + 3) ls (cR x :: st) (f x)) : CWF d c q pc ls st (gsG a t f) := by
  intro h r h' hf p l e s m args below meth cd γ ρ0 β0 h0 ρ β τ H locs cells slots lsA hx hv hw
  unfold gsG at hf
  by_cases ht : h.t a = t
  · rw [if_pos ht] at hf
    have hk := k a h r h' hf p l e s m args below meth cd γ ρ0 β0 h0 ρ β τ H locs cells slots lsA hx hv ⟨(emb_k hv.2.2.1 ht h9.1 h9.2).2.2.1, hw⟩
    rw [List.map_cons, pv_k hv.2.2.1 ht h9.1 h9.2] at hk
    exact va_gets hx.1 hx.2.1 (hZ γ s s.heap (fx_gs hx)) (vy_A0 hv) hx.2.2.2.2.1 (hx.2.2.2.2.2.1 _ hl) (fun _ h => h) hd hk
  · rw [if_neg ht] at hf
    cases hf
theorem cw_gsI {d : MD} {c q pc : Nat} {ls : List (Nat × CV)} {st : List CV} {f : GF} {v : Int32} {index : Nat} {C n dd : String} (hZ : ∀ (γ : GC) (U : State) (H : Heap), GS γ U H → va_Z C n dd (.int v) (A0 γ) U H) (hl : Cond.fieldLink d.own index C n dd ∈ lw_all) (hd : decode d.cc pc = .ok (.getstatic index, 3)) (k : CWF d c q (pc + 3) ls (cI v :: st) f) : CWF d c q pc ls st f := by
  intro h r h' hf p l e s m args below meth cd γ ρ0 β0 h0 ρ β τ H locs cells slots lsA hx hv hw
  exact va_gets hx.1 hx.2.1 (hZ γ s s.heap (fx_gs hx)) (vy_A0 hv) hx.2.2.2.2.1 (hx.2.2.2.2.2.1 _ hl) (fun _ h => h) hd (k h r h' hf p l e s m args below meth cd γ ρ0 β0 h0 ρ β τ H locs cells slots lsA hx hv ⟨trivial, hw⟩)
/-- an empty constant array -/
theorem emb_e {d : MD} {c k : Nat} {γ : GC} {ρ0 β0 : Nat → Nat} {h0 : HP} {p : Program} {l : Launch} {s : State} {m : MethodId} {args : Array Value} {meth : Method} {cd : Code} {ρ β τ : Nat → Nat} {ls : List (Nat × CV)} {h : HP} {H : Heap} {locs : List Loc} {cells slots : Nat} {lsA : Array Slot} (hx : Fx d γ p l s m args meth cd) (hv : Vy d c k γ ρ0 β0 h0 s ρ β τ ls h H locs cells slots lsA) {a : Nat} (ht : h.t a = 10) : va_T (.object "java/lang/Object") (ρ a) 0 (fun _ => .null) (A0 γ) s H ∧ va_O "[Ljava/lang/Object;" (ρ a) (A0 γ) s H := by
  obtain ⟨q1, -, -, -, q2, -⟩ := emb_k hv.2.2.1 ht (by omega) (by omega)
  have hS := vy_A0 hv
  obtain ⟨-, -, g3, g4, g5, g6, -⟩ := (fx_gs hx).2.2.1
  rw [q1]
  rcases (q2 rfl).1 with rfl | rfl
  · exact ⟨g3.kept hS.2.1, g5.kept hS.2.1⟩
  · exact ⟨g4.kept hS.2.1, g6.kept hS.2.1⟩
def alenKG (a : Nat) (f : Int32 → GF) : GF := fun h => if h.t a = 10 then f 0 h else alenG a f h
theorem cw_alenK {d : MD} {c q pc : Nat} {ls : List (Nat × CV)} {st : List CV} {f : Int32 → GF} {a : Nat} (hd : decode d.cc pc = .ok (.arraylength, 1)) (k : ∀ x, CWF d c q (pc + 1) ls (cI x :: st) (f x)) : CWF d c q pc ls (cR a :: st) (alenKG a f) := by
  intro h r h' hf p l e s m args below meth cd γ ρ0 β0 h0 ρ β τ H locs cells slots lsA hx hv hw
  unfold alenKG at hf
  by_cases ht : h.t a = 10
  · rw [if_pos ht] at hf
    obtain ⟨cell, t1, t2, t3, t4, t5, t6, t7⟩ := (emb_e hx hv ht).1
    show W _ _ _ _ _ _ _ _ _ _ _ _ _ _ _ (F0 m pc lsA (pv ρ (cR a) :: st.map (pv ρ)))
    rw [pv_ref hv.2.2.1 (by omega)]
    exact W.alen hx.1 hx.2.1 t1 t2 (t5.trans (by decide)) rfl rfl hd (k 0 h r h' hf p l e s m args below meth cd γ ρ0 β0 h0 ρ β τ H locs cells slots lsA hx hv ⟨trivial, hw.2⟩)
  · rw [if_neg ht] at hf
    exact cw_alen hd k h r h' hf p l e s m args below meth cd γ ρ0 β0 h0 ρ β τ H locs cells slots lsA hx hv hw
/-- an element of the box cache -/
def aaldKG (a : Nat) (j : Int32) (f : Nat → GF) : GF := fun h => if h.t a = 11 ∧ ¬ (j < 0) ∧ j.toNatClampNeg < 256 ∧ h.t (5 + j.toNatClampNeg) = 9 then f (5 + j.toNatClampNeg) h else none
theorem cw_aaldK {d : MD} {c q pc : Nat} {ls : List (Nat × CV)} {st : List CV} {f : Nat → GF} {a : Nat} {j : Int32} (hd : decode d.cc pc = .ok (.aaload, 1)) (k : ∀ x, CWF d c q (pc + 1) ls (cR x :: st) (f x)) : CWF d c q pc ls (cI j :: cR a :: st) (aaldKG a j f) := by
  intro h r h' hf p l e s m args below meth cd γ ρ0 β0 h0 ρ β τ H locs cells slots lsA hx hv hw
  unfold aaldKG at hf
  by_cases ht : h.t a = 11 ∧ ¬ (j < 0) ∧ j.toNatClampNeg < 256 ∧ h.t (5 + j.toNatClampNeg) = 9
  · rw [if_pos ht] at hf
    obtain ⟨t11, t1, t2, t9⟩ := ht
    obtain ⟨q1, -, -, -, -, q2, -⟩ := emb_k hv.2.2.1 t11 (by omega) (by omega)
    have hS := vy_A0 hv
    obtain ⟨-, -, g3, -⟩ := (fx_gs hx).2.2.2.1
    obtain ⟨cell, c1, c2, c3, c4, c5, c6, c7⟩ := g3.kept hS.2.1
    show W _ _ _ _ _ _ _ _ _ _ _ _ _ _ _ (F0 m pc lsA (.int j :: pv ρ (cR a) :: st.map (pv ρ)))
    rw [pv_ref hv.2.2.1 (by omega), q1, (q2 rfl).1]
    have hk := k (5 + j.toNatClampNeg) h r h' hf p l e s m args below meth cd γ ρ0 β0 h0 ρ β τ H locs cells slots lsA hx hv ⟨(emb_k hv.2.2.1 t9 (by omega) (by omega)).2.2.1, hw.2.2⟩
    rw [List.map_cons, pv_k hv.2.2.1 t9 (by omega) (by omega)] at hk
    exact W.aald (v := .ref (γ.sa (5 + j.toNatClampNeg))) hx.1 hx.2.1 c1 c2 rfl c3 (fun q => q.elim t1 (fun q => by omega)) (c6 _ t2) rfl rfl hd hk
  · rw [if_neg ht] at hf
    cases hf
/-! references as elements -/
abbrev elOK (h : HP) (x : Nat) : Prop := x = 0 ∨ h.t x = 8 ∨ h.t x = 9 ∨ (20 ≤ h.t x ∧ h.t x < 37)
theorem vw_cast : ∀ (c : Nat) (q : vw_C), vwCl[c]? = some q → Cond.castable q.1 "java/lang/Object" ∈ lw_tbl := by
  intro c q hq
  match c, hq with
  | 0, hq => cases hq; exact q2863
  | 1, hq => cases hq; exact q2865
  | 2, hq => cases hq; exact q2868
  | 3, hq => cases hq; exact q2871
  | 4, hq => cases hq; exact q2874
  | 5, hq => cases hq; exact q2875
  | 6, hq => cases hq; exact q2876
  | 7, hq => cases hq; exact q2878
  | 8, hq => cases hq; exact q2879
  | 9, hq => cases hq; exact q2880
  | 10, hq => cases hq; exact q2881
  | 11, hq => cases hq; exact q2884
  | 12, hq => cases hq; exact q2886
  | 13, hq => cases hq; exact q2887
  | 14, hq => cases hq; exact q2864
  | 15, hq => cases hq; exact q2872
  | 16, hq => cases hq; exact q2877
  | c + 17, hq => simp [vwCl] at hq
theorem vwCl_get {c : Nat} (hc : c < 17) : ∃ q, vwCl[c]? = some q := ⟨_, List.getElem?_eq_getElem (show c < vwCl.length from hc)⟩
theorem el_cls {d : MD} {c k : Nat} {γ : GC} {ρ0 β0 : Nat → Nat} {h0 : HP} {p : Program} {l : Launch} {s : State} {m : MethodId} {args : Array Value} {meth : Method} {cd : Code} {ρ β τ : Nat → Nat} {ls : List (Nat × CV)} {h : HP} {H : Heap} {locs : List Loc} {cells slots : Nat} {lsA : Array Slot} (hx : Fx d γ p l s m args meth cd) (hv : Vy d c k γ ρ0 β0 h0 s ρ β τ ls h H locs cells slots lsA) {x : Nat} (h0x : x ≠ 0) (ho : elOK h x) :
    h.t x ≠ 0 ∧ ∃ (C : String) (cell : Cell), H[ρ x]? = some cell ∧ cell.vm.isStatics = false ∧ s.vm.findClass C = some cell.cls ∧ Cond.castable C "java/lang/Object" ∈ lw_tbl := by
  rcases ho with q | q | q | q
  · exact absurd q h0x
  · obtain ⟨cell, q1, q2, q3⟩ := emb_clsL hx hv.2.2.1 q
    exact ⟨by omega, _, cell, q1, q2, q3, q2864⟩
  · obtain ⟨cell, q1, q2, q3⟩ := emb_clsI hx hv (Or.inr q)
    exact ⟨by omega, _, cell, q1, q2, q3, q2877⟩
  · obtain ⟨⟨C, T, N⟩, hc⟩ := vwCl_get (show h.t x - 20 < 17 by omega)
    obtain ⟨cell, q1, q2, q3⟩ := emb_cls hx hv.2.2.1 hc (show h.t x = 20 + (h.t x - 20) by omega)
    exact ⟨by omega, _, cell, q1, q2, q3, vw_cast _ _ hc⟩
theorem w_aast {d : MD} {c k : Nat} {γ : GC} {ρ0 β0 : Nat → Nat} {h0 : HP} {p : Program} {l : Launch} {e : Env} {s : State} {m : MethodId} {args : Array Value} {below : List Frame} {meth : Method} {cd : Code} {ρ β τ : Nat → Nat} {ls : List (Nat × CV)} {h : HP} {H : Heap} {locs : List Loc} {cells slots : Nat} {lsA : Array Slot} {Q : State → Prop} {pc : Nat} {rest : List Value}
    (hx : Fx d γ p l s m args meth cd) (hv : Vy d c k γ ρ0 β0 h0 s ρ β τ ls h H locs cells slots lsA) {t a x : Nat} {j : Int32} {E : String} (h4 : 4 ≤ t ∧ t < 8) (hty : γ.tys[t - 1]? = some (γ.cA t, .object E)) (ht : h.t a = t) (hj : ¬ (j < 0)) (hjl : j.toNatClampNeg < h.l a) (hxn : x < h.n)
    (hxe : x ≠ 0 → ∃ (C : String) (cell : Cell), H[ρ x]? = some cell ∧ cell.vm.isStatics = false ∧ s.vm.findClass C = some cell.cls ∧ Cond.castable C E ∈ lw_tbl) (hd : decode d.cc pc = .ok (.aastore, 1))
    (k9 : ∀ (H2 : Heap) (i : Nat), Vy d c k γ ρ0 β0 h0 s ρ β τ ls (h.wP a j.toNatClampNeg x) H2 (locs ++ [⟨ρ a, i⟩]) cells slots lsA → W p l e d.rm s m args below meth cd H2 (locs ++ [⟨ρ a, i⟩]) cells slots Q (F0 m (pc + 1) lsA rest)) :
    W p l e d.rm s m args below meth cd H locs cells slots Q (F0 m pc lsA (pv ρ (cR x) :: .int j :: pv ρ (cR a) :: rest)) := by
  have hE := hv.2.2.1
  have hc := (hE.2.2.1 a).2.2.2.1 (by omega) (by omega)
  rw [vp_cell_q, ht] at hc
  have hwf := emb_wf hE (a := a) (by omega)
  have hT := (fx_gs hx).1.1.2 _ _ hty
  have fin : ∀ (H2 : Heap), H2[ρ a]? = some ((arrV (γ.cA t) (h.l a) (fun k => va_rf (ro ρ (h.p a k)))).setSlot j.toNatClampNeg (pv ρ (cR x))) → H2.size = H.size → (∀ q, q ≠ ρ a → H2[q]? = H[q]?) → Vy d c k γ ρ0 β0 h0 s ρ β τ ls (h.wP a j.toNatClampNeg x) H2 (locs ++ [⟨ρ a, j.toNatClampNeg⟩]) cells slots lsA := by
    intro H2 eH z oq
    have hta : (h.wP a j.toNatClampNeg x).t a = t := ht
    refine vy_write hv (by rw [ht]; exact Or.inl (by omega)) rfl rfl wP_oth ⟨fun i => ?_, hwf.2⟩ z oq (embAt_arr (by omega) (fun q => by omega) (fun q => by omega) (fun q => by omega) (fun _ => ?_))
    · rw [wP_self]
      split
      · exact hxn
      · exact hwf.1 i
    · rw [eH, vp_cell_q, arrV_store, hta]
      congr 2
      funext q
      by_cases hq : q = j.toNatClampNeg
      · subst hq
        simp [updV, wP_self, pv]
      · simp [updV, wP_self, hq]
  rw [pv_ref hE (a := a) (by omega)]
  by_cases h0x : x = 0
  · subst h0x
    exact va_WaastN (C := E) hx.1 hx.2.1 hc (hT.1 _ _) (fun h => by cases h) (by rw [arrV_size]; exact nin hj hjl) rfl rfl hd fun H2 eH z oq => k9 H2 _ (fin H2 eH z oq)
  · obtain ⟨C, cell, g1, g2, g3, g4⟩ := hxe h0x
    obtain ⟨kA, comp, k1, k2, k3, -⟩ := hT.2
    obtain ⟨kE, hkE, -⟩ := Vm.findClass_spec k3
    obtain ⟨kC, hkC, -⟩ := Vm.findClass_spec g3
    obtain ⟨c0, t1, f1, f2, f3⟩ := Cond.castable_spec (va_Nw.use (A := args) rfl (fx_tbl hx g4 rfl))
    cases g3.symm.trans f1
    cases k3.symm.trans f2
    have hpx : pv ρ (cR x) = .ref (ρ x) := by
      show va_rf (ro ρ x) = _
      unfold ro
      rw [if_neg h0x]
      rfl
    rw [hpx] at fin ⊢
    exact W.aast hx.1 hx.2.1 hc (fun q h => by cases h) (fun h => by cases h) k1 k2 rfl hkE ⟨hj, by rw [arrV_size]; exact hjl⟩ g1 (fun q h => by rw [h] at g2; cases g2) hkC f3 rfl rfl hd fun H2 eH z oq => k9 H2 _ (fin H2 eH z oq)
def aastG (a : Nat) (j : Int32) (x : Nat) (f : GF) : GF := fun h => if (h.t a = 4 ∧ ¬ (j < 0) ∧ j.toNatClampNeg < h.l a) ∧ elOK h x then f (h.wP a j.toNatClampNeg x) else none
theorem cw_aast {d : MD} {c q pc : Nat} {ls : List (Nat × CV)} {st : List CV} {f : GF} {a x : Nat} {j : Int32} (hd : decode d.cc pc = .ok (.aastore, 1)) (k : CWF d c q (pc + 1) ls st f) : CWF d c q pc ls (cR x :: cI j :: cR a :: st) (aastG a j x f) := by
  intro h r h' hf p l e s m args below meth cd γ ρ0 β0 h0 ρ β τ H locs cells slots lsA hx hv hw
  unfold aastG at hf
  by_cases ht : (h.t a = 4 ∧ ¬ (j < 0) ∧ j.toNatClampNeg < h.l a) ∧ elOK h x
  · rw [if_pos ht] at hf
    exact w_aast hx hv (t := 4) (E := "java/lang/Object") (by omega) rfl ht.1.1 ht.1.2.1 ht.1.2.2 hw.1 (fun h0x => (el_cls hx hv h0x ht.2).2) hd (fun H2 i hv2 => k _ r h' hf p l e s m args below meth cd γ ρ0 β0 h0 ρ β τ H2 _ cells slots lsA hx hv2 hw.2.2.2)
  · rw [if_neg ht] at hf
    cases hf
/-- an array of marks: the judge's places or crosses -/
def aastMG (a : Nat) (j : Int32) (x : Nat) (f : GF) : GF := fun h => if (h.t a = 5 ∧ ¬ (j < 0) ∧ j.toNatClampNeg < h.l a) ∧ (h.t x = 29 ∨ h.t x = 30) then f (h.wP a j.toNatClampNeg x) else none
theorem cw_aastM {d : MD} {c q pc : Nat} {ls : List (Nat × CV)} {st : List CV} {f : GF} {a x : Nat} {j : Int32} (hd : decode d.cc pc = .ok (.aastore, 1)) (k : CWF d c q (pc + 1) ls st f) : CWF d c q pc ls (cR x :: cI j :: cR a :: st) (aastMG a j x f) := by
  intro h r h' hf p l e s m args below meth cd γ ρ0 β0 h0 ρ β τ H locs cells slots lsA hx hv hw
  unfold aastMG at hf
  by_cases ht : (h.t a = 5 ∧ ¬ (j < 0) ∧ j.toNatClampNeg < h.l a) ∧ (h.t x = 29 ∨ h.t x = 30)
  · rw [if_pos ht] at hf
    refine w_aast hx hv (t := 5) (E := "Scrutineery$Marks") (by omega) rfl ht.1.1 ht.1.2.1 ht.1.2.2 hw.1 (fun h0x => ?_) hd (fun H2 i hv2 => k _ r h' hf p l e s m args below meth cd γ ρ0 β0 h0 ρ β τ H2 _ cells slots lsA hx hv2 hw.2.2.2)
    rcases ht.2 with q | q
    · obtain ⟨cell, q1, q2, q3⟩ := emb_cls hx hv.2.2.1 (ci := 9) rfl q
      exact ⟨_, cell, q1, q2, q3, q2043⟩
    · obtain ⟨cell, q1, q2, q3⟩ := emb_cls hx hv.2.2.1 (ci := 10) rfl q
      exact ⟨_, cell, q1, q2, q3, q2039⟩
  · rw [if_neg ht] at hf
    cases hf
