/-! RULES of the clean machine: new objects and arrays, casts -/
set_option maxRecDepth 100000
theorem vw_def : ∀ c, c < 17 → ∀ k, k < 75 → defaultValue (vwTy c k) = if vwRef c k = true then .null else .int 0 := by decide +kernel
theorem vw_n : ∀ c, c < 17 → ∀ q : vw_C, vwCl[c]? = some q → q.2.2 ≤ 75 := by
  intro c hc q hq
  rcases (show c = 0 ∨ c = 1 ∨ c = 2 ∨ c = 3 ∨ c = 4 ∨ c = 5 ∨ c = 6 ∨ c = 7 ∨ c = 8 ∨ c = 9 ∨ c = 10 ∨ c = 11 ∨ c = 12 ∨ c = 13 ∨ c = 14 ∨ c = 15 ∨ c = 16 by omega) with rfl | rfl | rfl | rfl | rfl | rfl | rfl | rfl | rfl | rfl | rfl | rfl | rfl | rfl | rfl | rfl | rfl <;> cases hq <;> decide
def newG (t : Nat) (f : Nat → GF) : GF := fun h => f h.n (h.mkc t 0)
def newaG (t B : Nat) (n : Int32) (f : Nat → GF) : GF := fun h => if ¬ (n < 0) ∧ n.toNatClampNeg ≤ B then f h.n (h.mkc t n.toNatClampNeg) else none
theorem fx_sa {d : MD} {γ : GC} {p : Program} {l : Launch} {s : State} {m : MethodId} {args : Array Value} {meth : Method} {cd : Code} (hx : Fx d γ p l s m args meth cd) : γ.N0 ≤ s.heap.size ∧ γ.sa 1 < γ.N0 ∧ γ.sa 2 < γ.N0 := by
  obtain ⟨-, -, -, -, -, -, -, -, -, -, hN, hG⟩ := hx
  exact ⟨hN, hG.1.2.2.2.2.2.2.2.2.2.1, hG.1.2.2.2.2.2.2.2.2.2.2⟩
theorem up_agree {ρ : Nat → Nat} {n q : Nat} : ∀ b, b < n → up1 ρ n q b = ρ b := fun b hb => by unfold up1; rw [if_neg (by omega)]
theorem up_self {ρ : Nat → Nat} {n q : Nat} : up1 ρ n q n = q := by unfold up1; rw [if_pos rfl]
theorem mkc_at {h : HP} {t len : Nat} : (h.mkc t len).t h.n = t ∧ (h.mkc t len).l h.n = len ∧ (h.mkc t len).i h.n = (fun _ => 0) ∧ (h.mkc t len).p h.n = (fun _ => 0) ∧ (h.mkc t len).j h.n = (fun _ => 0) ∧ (h.mkc t len).s h.n = [] ∧ (h.mkc t len).m h.n = 0 :=
  ⟨if_pos rfl, if_pos rfl, if_pos rfl, if_pos rfl, if_pos rfl, if_pos rfl, if_pos rfl⟩
theorem embAt_obj {γ : GC} {ρ β : Nat → Nat} {h : HP} {H : Heap} {a ci : Nat} {C : String} {T : u_T} {N : Nat} (hc : vwCl[ci]? = some (C, T, N)) (ht : h.t a = 20 + ci) (hOB : t_OB (ρ a) (γ.D.1 ci) N (γ.D.2 ci) H (fv ρ h ci a)) : EmbAt γ ρ β h H a := by
  have hl := vwCl_lt hc
  refine ⟨fun q => ?_, fun q => ?_, fun q => ?_, fun q qq => ?_, fun q => ?_, fun q qq => ?_, fun q => ?_, fun q qq => ?_⟩
  · omega
  · omega
  · omega
  · omega
  · omega
  · rw [ht, Nat.add_sub_cancel_left]
    exact ⟨_, hc, hOB⟩
  · omega
  · omega
theorem cw_new {d : MD} {c q pc : Nat} {ls : List (Nat × CV)} {st : List CV} {f : Nat → GF} {ci index t : Nat} {C : String} {T : u_T} {N : Nat} (hc : vwCl[ci]? = some (C, T, N)) (ht0 : t = 20 + ci) (hcl : Cond.classLink d.own index C ∈ lw_all) (hins : Cond.instantiable C N ∈ lw_all) (hini : Cond.initialized C ∈ lw_all) (hd : decode d.cc pc = .ok (.new index, 3))
    (k : ∀ a, CWF d c q (pc + 3) ls (cR a :: st) (f a)) : CWF d (c + 1) (q + N) pc ls st (newG t f) := by
  intro h r h' hf p l e s m args below meth cd γ ρ0 β0 h0 ρ β τ H locs cells slots lsA hx hv hw
  unfold newG at hf
  subst ht0
  have hci := vwCl_lt hc
  obtain ⟨hN, hs1, hs2⟩ := fx_sa hx
  obtain ⟨x1, x2, x3, x4, x5, x6, x7, x8, x9, x10, x11, hG⟩ := id hx
  obtain ⟨v1, v2, v3, v4, v5, v6, v7, v8, v9⟩ := id hv
  have hKn := hG.1.1.1 ci _ hc
  have hrm : d.rm.cells = d.mc := rfl
  have hrs : d.rm.slots = d.ms := rfl
  obtain ⟨hin, hty, -⟩ := vw_ok ci _ hc
  refine W.newcK x1 x2 x5 (x6 _ hcl) (x6 _ hins) (x6 _ hini) rfl hd (by rw [hrm]; omega) (by rw [hrs]; omega) hKn.2.1 rfl fun H1 kC hkC e1 z1 o1 => ?_
  have hb := u_born (vwTy ci) x6 hin hKn hkC e1 hty
  have hOB : t_OB (up1 ρ h.n H.size h.n) (γ.D.1 ci) N (γ.D.2 ci) H1 (fv (up1 ρ h.n H.size) (h.mkc (20 + ci) 0) ci h.n) := by
    rw [up_self]
    refine hb.to fun j hj => ?_
    have hj75 := vw_n ci hci _ hc
    rw [vw_def ci hci j (Nat.lt_of_lt_of_le hj hj75)]
    unfold fv
    rw [mkc_at.2.2.1, mkc_at.2.2.2.1]
    rfl
  have hv2 := vy_alloc (c := c) (k := q) (cells2 := cells + 1) (slots2 := slots + N) hv hN hs1 hs2 (Or.inr (Or.inl (by omega))) (by omega) z1 o1 (embAt_obj (h := h.mkc (20 + ci) 0) hc mkc_at.1 hOB) (by omega) (by omega)
  have hk := k h.n _ r h' hf p l e s m args below meth cd γ ρ0 β0 h0 _ β τ H1 locs (cells + 1) (slots + N) lsA hx hv2 ⟨Nat.lt_succ_self _, wfS_mono (Nat.le_succ _) hw⟩
  have e2 : (cR h.n :: st).map (pv (up1 ρ h.n H.size)) = .ref H.size :: st.map (pv ρ) := by
    rw [List.map_cons, pvs_agree up_agree hw]
    congr 1
    show va_rf (ro _ h.n) = _
    unfold ro
    rw [if_neg (by have := v3.1; omega), up_self]
    rfl
  rw [e2] at hk
  exact hk
theorem vy_count {d : MD} {c k c' k' : Nat} {γ : GC} {ρ0 β0 : Nat → Nat} {h0 : HP} {s : State} {ρ β τ : Nat → Nat} {ls : List (Nat × CV)} {h : HP} {H : Heap} {locs : List Loc} {cells slots : Nat} {lsA : Array Slot} (hv : Vy d c k γ ρ0 β0 h0 s ρ β τ ls h H locs cells slots lsA) (hc : c' ≤ c) (hk : k' ≤ k) : Vy d c' k' γ ρ0 β0 h0 s ρ β τ ls h H locs cells slots lsA := by
  obtain ⟨v1, v2, v3, v4, v5, v6, v7, v8, v9⟩ := hv
  exact ⟨v1, v2, v3, v4, v5, v6, v7, by omega, by omega⟩
theorem pv_new {ρ : Nat → Nat} {n q : Nat} {st : List CV} (hn : 270 ≤ n) (hw : wfS n st) : (cR n :: st).map (pv (up1 ρ n q)) = .ref q :: st.map (pv ρ) := by
  rw [List.map_cons, pvs_agree up_agree hw]
  congr 1
  show va_rf (ro _ n) = _
  unfold ro
  rw [if_neg (by omega), up_self]
  rfl
theorem cw_newarr {d : MD} {c q pc B : Nat} {ls : List (Nat × CV)} {st : List CV} {f : Nat → GF} {n : Int32} {atype : ArrayType} {t : Nat} (hat : (atype = .int ∧ t = 1) ∨ (atype = .boolean ∧ t = 2) ∨ (atype = .long ∧ t = 3)) (hB : B ≤ 10000) (ha : Cond.arrayClass (Op.newarray.typeOf atype) ∈ lw_all) (hd : decode d.cc pc = .ok (.newarray atype, 2))
    (k : ∀ a, CWF d c q (pc + 2) ls (cR a :: st) (f a)) : CWF d (c + 1) (q + B) pc ls (cI n :: st) (newaG t B n f) := by
  intro h r h' hf p l e s m args below meth cd γ ρ0 β0 h0 ρ β τ H locs cells slots lsA hx hv hw
  unfold newaG at hf
  by_cases hn : ¬ (n < 0) ∧ n.toNatClampNeg ≤ B
  · rw [if_pos hn] at hf
    obtain ⟨hN, hs1, hs2⟩ := fx_sa hx
    obtain ⟨x1, x2, x3, x4, x5, x6, x7, x8, x9, x10, x11, hG⟩ := id hx
    obtain ⟨v1, v2, v3, v4, v5, v6, v7, v8, v9⟩ := id hv
    have hrm : d.rm.cells = d.mc := rfl
    have hrs : d.rm.slots = d.ms := rfl
    have hby : n.toNatClampNeg * componentBytes (Op.newarray.typeOf atype) ≤ 536870912 := by
      have h8 : componentBytes (Op.newarray.typeOf atype) ≤ 8 := by rcases hat with ⟨rfl, -⟩ | ⟨rfl, -⟩ | ⟨rfl, -⟩ <;> decide
      exact Nat.le_trans (Nat.mul_le_mul (Nat.le_trans hn.2 hB) h8) (by decide)
    show W _ _ _ _ _ _ _ _ _ _ _ _ _ _ _ (F0 m pc lsA (.int n :: st.map (pv ρ)))
    refine va_newaK x1 x2 (x6 _ ha) rfl hd rfl hn.1 rfl hby (by rw [hrm]; omega) (by rw [hrs]; omega) rfl fun H1 cA e1 z1 o1 hAr hNm => ?_
    have hcA : cA = γ.cA t := by
      rcases hat with ⟨rfl, rfl⟩ | ⟨rfl, rfl⟩ | ⟨rfl, rfl⟩
      · exact Option.some.inj (hNm.symm.trans (hG.1.1.2 0 _ rfl).2)
      · exact Option.some.inj (hNm.symm.trans (hG.1.1.2 1 _ rfl).2)
      · exact Option.some.inj (hNm.symm.trans (hG.1.1.2 2 _ rfl).2)
    subst hcA
    have hem : EmbAt γ (up1 ρ h.n H.size) β (h.mkc t n.toNatClampNeg) H1 h.n := by
      obtain ⟨m1, m2, m3, m4, m5, m6, m7⟩ := mkc_at (h := h) (t := t) (len := n.toNatClampNeg)
      rcases hat with ⟨rfl, rfl⟩ | ⟨rfl, rfl⟩ | ⟨rfl, rfl⟩
      · exact embAt_arr (by omega) (fun _ => by rw [up_self, m2, m3]; exact e1) (fun q => by omega) (fun q => by omega) (fun q => by omega)
      · exact embAt_arr (by omega) (fun q => by omega) (fun _ => by rw [up_self, m2, m3]; exact e1) (fun q => by omega) (fun q => by omega)
      · exact embAt_arr (by omega) (fun q => by omega) (fun q => by omega) (fun _ => by rw [up_self, m2, m5]; exact e1) (fun q => by omega)
    have hv2 := vy_alloc (c := c) (k := q) (cells2 := cells + 1) (slots2 := slots + n.toNatClampNeg) hv hN hs1 hs2 (Or.inl (by omega)) (by omega) z1 o1 hem (by omega) (by omega)
    have hk := k h.n _ r h' hf p l e s m args below meth cd γ ρ0 β0 h0 _ β τ H1 locs (cells + 1) (slots + n.toNatClampNeg) lsA hx hv2 ⟨Nat.lt_succ_self _, wfS_mono (Nat.le_succ _) hw.2⟩
    rw [pv_new v3.1 hw.2] at hk
    exact hk
  · rw [if_neg hn] at hf
    cases hf
/-! casts -/
theorem emb_cls {d : MD} {γ : GC} {p : Program} {l : Launch} {s : State} {m : MethodId} {args : Array Value} {meth : Method} {cd : Code} (hx : Fx d γ p l s m args meth cd) {ρ β : Nat → Nat} {h : HP} {A : Nat → Prop} {H : Heap} (hE : Emb γ ρ β h A H) {a ci : Nat} {C : String} {T : u_T} {N : Nat} (hc : vwCl[ci]? = some (C, T, N)) (ht : h.t a = 20 + ci) : ∃ cell : Cell, H[ρ a]? = some cell ∧ cell.vm.isStatics = false ∧ s.vm.findClass C = some cell.cls := by
  obtain ⟨-, -, -, cell, q1, q2, q3, q4⟩ := emb_obj hE hc ht
  exact ⟨cell, q1, by rw [q3]; rfl, by rw [q2]; exact (hx.2.2.2.2.2.2.2.2.2.2.2.1.1.1 ci _ hc).2.1⟩
theorem emb_clsL {d : MD} {γ : GC} {p : Program} {l : Launch} {s : State} {m : MethodId} {args : Array Value} {meth : Method} {cd : Code} (hx : Fx d γ p l s m args meth cd) {ρ β : Nat → Nat} {h : HP} {A : Nat → Prop} {H : Heap} (hE : Emb γ ρ β h A H) {a : Nat} (ht : h.t a = 8) : ∃ cell : Cell, H[ρ a]? = some cell ∧ cell.vm.isStatics = false ∧ s.vm.findClass RJ2 = some cell.cls := by
  obtain ⟨-, -, -, -, e5, -⟩ := hE.2.2.1 a
  obtain ⟨-, ⟨cell, q1, q2, q3, -⟩, -⟩ := e5 ht
  exact ⟨cell, q1, by rw [q3]; rfl, by rw [q2]; exact (hx.2.2.2.2.2.2.2.2.2.2.2.1.1.1 14 _ rfl).2.1⟩
def castG (t a : Nat) (f : GF) : GF := fun h => if a = 0 ∨ h.t a = t then f h else none
/-- the class name of a cell's kind -/
theorem cw_castW {d : MD} {c q pc : Nat} {ls : List (Nat × CV)} {st : List CV} {f : GF} {a index t : Nat} {C nm : String} (ht0 : t ≠ 0) (hrec : ∀ (γ : GC) (p : Program) (l : Launch) (s : State) (m : MethodId) (args : Array Value) (meth : Method) (cd : Code), Fx d γ p l s m args meth cd → ∀ (ρ β : Nat → Nat) (h : HP) (A : Nat → Prop) (H : Heap), Emb γ ρ β h A H → h.t a = t → ∃ cell : Cell, H[ρ a]? = some cell ∧ cell.vm.isStatics = false ∧ s.vm.findClass C = some cell.cls)
    (hl : Cond.classLink d.own index nm ∈ lw_all) (hcast : C = nm ∨ Cond.castable C nm ∈ lw_tbl) (hd : decode d.cc pc = .ok (.checkcast index, 3)) (k : CWF d c q (pc + 3) ls (cR a :: st) f) : CWF d c q pc ls (cR a :: st) (castG t a f) := by
  intro h r h' hf p l e s m args below meth cd γ ρ0 β0 h0 ρ β τ H locs cells slots lsA hx hv hw
  unfold castG at hf
  have hlk := hx.2.2.2.2.2.1 _ hl
  by_cases ha : a = 0 ∨ h.t a = t
  · rw [if_pos ha] at hf
    have hk := k h r h' hf p l e s m args below meth cd γ ρ0 β0 h0 ρ β τ H locs cells slots lsA hx hv hw
    show W _ _ _ _ _ _ _ _ _ _ _ _ _ _ _ (F0 m pc lsA (pv ρ (cR a) :: st.map (pv ρ)))
    have e2 : (cR a :: st).map (pv ρ) = pv ρ (cR a) :: st.map (pv ρ) := rfl
    rw [e2] at hk
    by_cases hz : a = 0
    · subst hz
      exact lv_castN hx.1 hx.2.1 hd hk
    · have hta : h.t a = t := ha.resolve_left hz
      have hr2 := hrec _ _ _ _ _ _ _ _ hx ρ β h _ H hv.2.2.1 hta
      rw [pv_ref hv.2.2.1 (by omega)] at hk ⊢
      rcases hcast with rfl | hcast
      · obtain ⟨cell, g1, g2, g3⟩ := hr2
        obtain ⟨kC, hkC, -⟩ := Vm.findClass_spec g3
        intro T hT X
        obtain ⟨vm', X', st'⟩ := X.checkcastYes hx.1 hx.2.2.2.2.1 hlk (by rw [hT]; exact g1) g2 g3 (va_asg _ _) (g := F0 m pc lsA (.ref (ρ a) :: st.map (pv ρ))) rfl rfl (by rw [hx.2.1]; exact hd)
        obtain ⟨t9, a1, b1⟩ := hk (T.setVm vm') hT X'
        exact ⟨t9, st' t9 a1, b1⟩
      · exact va_castY hx.1 hx.2.1 hx.2.2.2.2.1 hlk (hx.2.2.2.2.2.2.2.2.2.2.2.1.2.1 _ hcast rfl) hr2 hd hk
  · rw [if_neg ha] at hf
    cases hf
theorem cw_cast {d : MD} {c q pc : Nat} {ls : List (Nat × CV)} {st : List CV} {f : GF} {a index t ci : Nat} {C nm : String} {T : u_T} {N : Nat} (hc : vwCl[ci]? = some (C, T, N)) (ht0 : t = 20 + ci) (hl : Cond.classLink d.own index nm ∈ lw_all) (hcast : C = nm ∨ Cond.castable C nm ∈ lw_tbl) (hd : decode d.cc pc = .ok (.checkcast index, 3)) (k : CWF d c q (pc + 3) ls (cR a :: st) f) : CWF d c q pc ls (cR a :: st) (castG t a f) :=
  cw_castW (by omega) (fun _ _ _ _ _ _ _ _ hx _ _ _ _ _ hE ht => emb_cls hx hE hc (ht.trans ht0)) hl hcast hd k
theorem cw_castL {d : MD} {c q pc : Nat} {ls : List (Nat × CV)} {st : List CV} {f : GF} {a index : Nat} {nm : String} (hl : Cond.classLink d.own index nm ∈ lw_all) (hcast : RJ2 = nm ∨ Cond.castable RJ2 nm ∈ lw_tbl) (hd : decode d.cc pc = .ok (.checkcast index, 3)) (k : CWF d c q (pc + 3) ls (cR a :: st) f) : CWF d c q pc ls (cR a :: st) (castG 8 a f) :=
  cw_castW (by decide) (fun _ _ _ _ _ _ _ _ hx _ _ _ _ _ hE ht => emb_clsL hx hE ht) hl hcast hd k
/-- a boxed int: one that was made, or one of the cache -/
def castIG (a : Nat) (f : GF) : GF := fun h => if h.t a = 36 ∨ h.t a = 9 then f h else none
theorem emb_clsI {d : MD} {c k : Nat} {γ : GC} {ρ0 β0 : Nat → Nat} {h0 : HP} {p : Program} {l : Launch} {s : State} {m : MethodId} {args : Array Value} {meth : Method} {cd : Code} {ρ β τ : Nat → Nat} {ls : List (Nat × CV)} {h : HP} {H : Heap} {locs : List Loc} {cells slots : Nat} {lsA : Array Slot} (hx : Fx d γ p l s m args meth cd) (hv : Vy d c k γ ρ0 β0 h0 s ρ β τ ls h H locs cells slots lsA) {a : Nat} (ht : h.t a = 36 ∨ h.t a = 9) : ∃ cell : Cell, H[ρ a]? = some cell ∧ cell.vm.isStatics = false ∧ s.vm.findClass "java/lang/Integer" = some cell.cls := by
  rcases ht with ht | ht
  · exact emb_cls hx hv.2.2.1 (ci := 16) rfl ht
  · obtain ⟨-, -, -, -, -, -, -, e8⟩ := hv.2.2.1.2.2.1 a
    obtain ⟨r1, r2, r3, -⟩ := e8 (by omega) (by omega)
    obtain ⟨r4, r5, r6⟩ := r3 ht
    obtain ⟨-, -, -, ⟨-, -, -, hC⟩, -⟩ := hx.2.2.2.2.2.2.2.2.2.2.2
    have hva : va_S (A0 γ) s.heap H locs := ⟨hv.2.2.2.2.2.1.1, fun q h1 h2 => hv.2.2.2.2.2.1.2.1 q h1 (fun z => h2 z.1), fun z hz => (hv.2.2.2.2.2.1.2.2 z hz).1⟩
    obtain ⟨cell, g1, g2, g3, -⟩ := (hC.1 (a - 5) (by omega)).kept hva.2.1
    refine ⟨cell, ?_, g2, g3⟩
    rw [r1]
    have g1 : H[γ.sa (5 + (a - 5))]? = some cell := g1
    rw [show 5 + (a - 5) = a by omega] at g1
    exact g1
theorem cw_castI {d : MD} {c q pc : Nat} {ls : List (Nat × CV)} {st : List CV} {f : GF} {a index : Nat} (hl : Cond.classLink d.own index "java/lang/Integer" ∈ lw_all) (hd : decode d.cc pc = .ok (.checkcast index, 3)) (k : CWF d c q (pc + 3) ls (cR a :: st) f) : CWF d c q pc ls (cR a :: st) (castIG a f) := by
  intro h r h' hf p l e s m args below meth cd γ ρ0 β0 h0 ρ β τ H locs cells slots lsA hx hv hw
  unfold castIG at hf
  have hlk := hx.2.2.2.2.2.1 _ hl
  by_cases ha : h.t a = 36 ∨ h.t a = 9
  · rw [if_pos ha] at hf
    have hk := k h r h' hf p l e s m args below meth cd γ ρ0 β0 h0 ρ β τ H locs cells slots lsA hx hv hw
    have e2 : (cR a :: st).map (pv ρ) = pv ρ (cR a) :: st.map (pv ρ) := rfl
    rw [e2] at hk ⊢
    rw [pv_ref hv.2.2.1 (by omega)] at hk ⊢
    obtain ⟨cell, g1, g2, g3⟩ := emb_clsI hx hv ha
    intro T hT X
    obtain ⟨vm', X', st'⟩ := X.checkcastYes hx.1 hx.2.2.2.2.1 hlk (by rw [hT]; exact g1) g2 g3 (va_asg _ _) (g := F0 m pc lsA (.ref (ρ a) :: st.map (pv ρ))) rfl rfl (by rw [hx.2.1]; exact hd)
    obtain ⟨t9, a1, b1⟩ := hk (T.setVm vm') hT X'
    exact ⟨t9, st' t9 a1, b1⟩
  · rw [if_neg ha] at hf
    cases hf
/-- instanceof: yes for kind t, no for null and kind t2 -/
def instG (t t2 a : Nat) (f g : GF) : GF := fun h => if a = 0 then g h else if h.t a = t then f h else if h.t a = t2 then g h else none
theorem cw_inst {d : MD} {c q pc : Nat} {ls : List (Nat × CV)} {st : List CV} {f g : GF} {a index t t2 ci ci2 : Nat} {C C2 : String} {T T2 : u_T} {N N2 : Nat} (hc : vwCl[ci]? = some (C, T, N)) (ht0 : t = 20 + ci) (hc2 : vwCl[ci2]? = some (C2, T2, N2)) (ht2 : t2 = 20 + ci2) (hnc : (C2, C) ∈ ncT ∨ t2 = t) (hl : Cond.classLink d.own index C ∈ lw_all) (hd : decode d.cc pc = .ok (.instanceof index, 3))
    (k1 : CWF d c q (pc + 3) ls (cI 1 :: st) f) (k0 : CWF d c q (pc + 3) ls (cI 0 :: st) g) : CWF d c q pc ls (cR a :: st) (instG t t2 a f g) := by
  intro h r h' hf p l e s m args below meth cd γ ρ0 β0 h0 ρ β τ H locs cells slots lsA hx hv hw
  unfold instG at hf
  have hlk := hx.2.2.2.2.2.1 _ hl
  show W _ _ _ _ _ _ _ _ _ _ _ _ _ _ _ (F0 m pc lsA (pv ρ (cR a) :: st.map (pv ρ)))
  by_cases hz : a = 0
  · rw [if_pos hz] at hf
    subst hz
    exact lv_instN hx.1 hx.2.1 hd (k0 h r h' hf p l e s m args below meth cd γ ρ0 β0 h0 ρ β τ H locs cells slots lsA hx hv ⟨trivial, hw.2⟩)
  · rw [if_neg hz] at hf
    by_cases h1 : h.t a = t
    · rw [if_pos h1] at hf
      rw [pv_ref hv.2.2.1 (by omega)]
      obtain ⟨cell, g1, g2, g3⟩ := emb_cls hx hv.2.2.1 hc (h1.trans ht0)
      have hk := k1 h r h' hf p l e s m args below meth cd γ ρ0 β0 h0 ρ β τ H locs cells slots lsA hx hv ⟨trivial, hw.2⟩
      intro T hT X
      obtain ⟨vm', X', st'⟩ := X.instanceofYes hx.1 hx.2.2.2.2.1 hlk (by rw [hT]; exact g1) g2 g3 (va_asg _ _) (g := F0 m pc lsA (.ref (ρ a) :: st.map (pv ρ))) rfl rfl (by rw [hx.2.1]; exact hd)
      obtain ⟨t9, a1, b1⟩ := hk (T.setVm vm') hT X'
      exact ⟨t9, st' t9 a1, b1⟩
    · rw [if_neg h1] at hf
      by_cases h2 : h.t a = t2
      · rw [if_pos h2] at hf
        rw [pv_ref hv.2.2.1 (by omega)]
        rcases hnc with hnc | hnc
        · exact va_instNo hx.1 hx.2.1 hx.2.2.2.2.1 hlk (hx.2.2.2.2.2.2.2.2.2.2.2.1.2.2.2.2.2.2.2.1 _ hnc) (emb_cls hx hv.2.2.1 hc2 (h2.trans ht2)) hd (k0 h r h' hf p l e s m args below meth cd γ ρ0 β0 h0 ρ β τ H locs cells slots lsA hx hv ⟨trivial, hw.2⟩)
        · exact absurd (h2.trans hnc) h1
      · rw [if_neg h2] at hf
        cases hf
