/-! RULES of the clean machine: fields, arrays -/
set_option maxRecDepth 100000
theorem vwCl_lt {ci : Nat} {q : vw_C} (hc : vwCl[ci]? = some q) : ci < 17 := (List.getElem?_eq_some_iff.mp hc).1
theorem emb_obj {γ : GC} {ρ β : Nat → Nat} {h : HP} {A : Nat → Prop} {H : Heap} (hE : Emb γ ρ β h A H) {a ci : Nat} {C : String} {T : u_T} {N : Nat} (hc : vwCl[ci]? = some (C, T, N)) (ht : h.t a = 20 + ci) : ro ρ a = some (ρ a) ∧ dyn (h.t a) ∧ a < h.n ∧ t_OB (ρ a) (γ.D.1 ci) N (γ.D.2 ci) H (fv ρ h ci a) := by
  have hl := vwCl_lt hc
  obtain ⟨-, -, -, -, -, e6, -⟩ := hE.2.2.1 a
  obtain ⟨r, r1, r2⟩ := e6 (by omega) (by omega)
  rw [ht, Nat.add_sub_cancel_left] at r1 r2
  cases hc.symm.trans r1
  exact ⟨emb_ro hE (by omega), Or.inr (Or.inl (by omega)), (hE.2.1 a (by omega)).2.1, r2⟩
def getI (t a k : Nat) (f : Int32 → GF) : GF := fun h => if h.t a = t then f (h.i a k) h else none
def getP (t a k : Nat) (f : Nat → GF) : GF := fun h => if h.t a = t then f (h.p a k) h else none
def putI (t a k : Nat) (v : Int32) (f : GF) : GF := fun h => if h.t a = t then f (h.wI a k v) else none
def putZ (t a k : Nat) (v : Int32) (f : GF) : GF := fun h => if h.t a = t ∧ (v = 0 ∨ v = 1) then f (h.wI a k v) else none
def putP (t a k : Nat) (v : Nat) (f : GF) : GF := fun h => if h.t a = t then f (h.wP a k v) else none
/-- what a link of a field says: the field's own class, or a nest mate's -/
def fLink (d : MD) (index : Nat) (ref name desc : String) : Prop := Cond.fieldLink d.own index ref name desc ∈ lw_all ∨ ∃ host, Cond.fieldLinkNest d.own index ref name desc host ∈ lw_tbl
/-- the field found under its declarer's name is found under the link's -/
def fSame (ref o n dsc : String) : Prop := ∀ (s : State) (args : Array Value), (∀ w ∈ lw_all, w.before args s = true) → ∀ x, s.fieldFound? o n dsc = some x → s.fieldFound? ref n dsc = some x
theorem fSame_rfl {o n dsc : String} : fSame o o n dsc := fun _ _ _ _ h => h
theorem w_get {d : MD} {c k : Nat} {γ : GC} {ρ0 β0 : Nat → Nat} {h0 : HP} {p : Program} {l : Launch} {e : Env} {s : State} {m : MethodId} {args : Array Value} {below : List Frame} {meth : Method} {cd : Code} {ρ β τ : Nat → Nat} {ls : List (Nat × CV)} {h : HP} {H : Heap} {locs : List Loc} {cells slots : Nat} {lsA : Array Slot} {Q : State → Prop} {R : Room} {pc : Nat} {rest : List Value}
    (hx : Fx d γ p l s m args meth cd) (hv : Vy d c k γ ρ0 β0 h0 s ρ β τ ls h H locs cells slots lsA) {ci j index : Nat} {C ref : String} {T : u_T} {N : Nat} (hc : vwCl[ci]? = some (C, T, N)) (hj : j < N) {a : Nat} (ht : h.t a = 20 + ci) (hl : fLink d index ref (T j).2.1 (T j).2.2.1) (hs : fSame ref (T j).1 (T j).2.1 (T j).2.2.1) (hd : decode d.cc pc = .ok (.getfield index, 3))
    (kk : W p l e R s m args below meth cd H locs cells slots Q (F0 m (pc + 3) lsA (fv ρ h ci a j :: rest))) : W p l e R s m args below meth cd H locs cells slots Q (F0 m pc lsA (pv ρ (cR a) :: rest)) := by
  obtain ⟨o1, -, -, cell, q1, q2, q3, q4⟩ := emb_obj hv.2.2.1 hc ht
  have e1 : pv ρ (cR a) = .ref (ρ a) := by show va_rf (ro ρ a) = _; rw [o1]; rfl
  rw [e1]
  obtain ⟨x1, x2, x3, x4, x5, x6, x7, x8, x9, x10, x11, hG⟩ := hx
  obtain ⟨hS, hfc, kC, hkC, hkind⟩ := hG.1.1.1 ci _ hc
  obtain ⟨cf, kf, fi, f, hi, hsl⟩ := hS j hj
  have hin := (vw_ok ci _ hc).1
  have hsl2 : cell.slots[f.slot]? = some (fv ρ h ci a j) := by rw [hsl]; exact q4 j hj
  have hst := (u_facts hfc hkC (u_lays x6 hin hj) hi).1
  rcases hl with hl | ⟨host, hl⟩
  · exact W.getf x1 x2 x5 (x6 _ hl) (hs s args x6 _ hi) hst q1 (by rw [q3]; exact fun h => by cases h) hsl2 rfl rfl hd kk
  · exact va_Wgetf x1 x2 x5 (va_Nw.use rfl (hG.1.2.1 _ hl rfl)) (hs s args x6 _ hi) hst q1 (by rw [q3]; exact fun h => by cases h) hsl2 rfl rfl hd kk
theorem cw_getI {d : MD} {c q pc : Nat} {ls : List (Nat × CV)} {st : List CV} {f : Int32 → GF} {ci j index a t : Nat} {C ref : String} {T : u_T} {N : Nat} (hc : vwCl[ci]? = some (C, T, N)) (hj : j < N) (hr : vwRef ci j = false) (ht0 : t = 20 + ci) (hl : fLink d index ref (T j).2.1 (T j).2.2.1) (hs : fSame ref (T j).1 (T j).2.1 (T j).2.2.1) (hd : decode d.cc pc = .ok (.getfield index, 3))
    (k : ∀ x, CWF d c q (pc + 3) ls (cI x :: st) (f x)) : CWF d c q pc ls (cR a :: st) (getI t a j f) := by
  intro h r h' hf p l e s m args below meth cd γ ρ0 β0 h0 ρ β τ H locs cells slots lsA hx hv hw
  unfold getI at hf
  subst ht0
  by_cases ht : h.t a = 20 + ci
  · rw [if_pos ht] at hf
    refine w_get hx hv hc hj ht hl hs hd ?_
    have e1 : fv ρ h ci a j = .int (h.i a j) := by unfold fv; rw [hr]; rfl
    rw [e1]
    exact k _ h r h' hf p l e s m args below meth cd γ ρ0 β0 h0 ρ β τ H locs cells slots lsA hx hv ⟨trivial, hw.2⟩
  · rw [if_neg ht] at hf
    cases hf
theorem cw_getP {d : MD} {c q pc : Nat} {ls : List (Nat × CV)} {st : List CV} {f : Nat → GF} {ci j index a t : Nat} {C ref : String} {T : u_T} {N : Nat} (hc : vwCl[ci]? = some (C, T, N)) (hj : j < N) (hr : vwRef ci j = true) (ht0 : t = 20 + ci) (hl : fLink d index ref (T j).2.1 (T j).2.2.1) (hs : fSame ref (T j).1 (T j).2.1 (T j).2.2.1) (hd : decode d.cc pc = .ok (.getfield index, 3))
    (k : ∀ x, CWF d c q (pc + 3) ls (cR x :: st) (f x)) : CWF d c q pc ls (cR a :: st) (getP t a j f) := by
  intro h r h' hf p l e s m args below meth cd γ ρ0 β0 h0 ρ β τ H locs cells slots lsA hx hv hw
  unfold getP at hf
  subst ht0
  by_cases ht : h.t a = 20 + ci
  · rw [if_pos ht] at hf
    refine w_get hx hv hc hj ht hl hs hd ?_
    have e1 : fv ρ h ci a j = pv ρ (cR (h.p a j)) := by unfold fv; rw [hr]; rfl
    rw [e1]
    exact k _ h r h' hf p l e s m args below meth cd γ ρ0 β0 h0 ρ β τ H locs cells slots lsA hx hv ⟨(hv.2.2.1.2.1 a (by omega)).2.2.1 j, hw.2⟩
  · rw [if_neg ht] at hf
    cases hf
theorem w_put {d : MD} {c k : Nat} {γ : GC} {ρ0 β0 : Nat → Nat} {h0 : HP} {p : Program} {l : Launch} {e : Env} {s : State} {m : MethodId} {args : Array Value} {below : List Frame} {meth : Method} {cd : Code} {ρ β τ : Nat → Nat} {ls : List (Nat × CV)} {h h2 : HP} {H : Heap} {locs : List Loc} {cells slots : Nat} {lsA : Array Slot} {Q : State → Prop} {R : Room} {pc : Nat} {rest : List Value}
    (hx : Fx d γ p l s m args meth cd) (hv : Vy d c k γ ρ0 β0 h0 s ρ β τ ls h H locs cells slots lsA) {ci j index : Nat} {C ref : String} {T : u_T} {N : Nat} (hc : vwCl[ci]? = some (C, T, N)) (hj : j < N) {a : Nat} (ht : h.t a = 20 + ci) (hl : fLink d index ref (T j).2.1 (T j).2.2.1) (hs : fSame ref (T j).1 (T j).2.1 (T j).2.2.1)
    (hfin : (T j).2.2.2 = false ∨ ((T j).2.2.2 = true ∧ d.y.name = "<init>" ∧ (T j).1 = d.own)) {v : Value} (hn : narrow (vwTy ci j) v = v) (hfit : fits (vwTy ci j) v = true)
    (h2n : h2.n = h.n) (h2t : h2.t = h.t) (hoth : ∀ b, b ≠ a → h2.l b = h.l b ∧ h2.i b = h.i b ∧ h2.p b = h.p b ∧ h2.j b = h.j b ∧ h2.s b = h.s b ∧ h2.m b = h.m b) (hwf : (∀ k, h2.p a k < h.n) ∧ ∀ x ∈ h2.s a, x < h.n) (hfv : ∀ i, i < N → fv ρ h2 ci a i = if i = j then v else fv ρ h ci a i)
    (hd : decode d.cc pc = .ok (.putfield index, 3))
    (kk : ∀ (H2 : Heap) (i : Nat), Vy d c k γ ρ0 β0 h0 s ρ β τ ls h2 H2 (locs ++ [⟨ρ a, i⟩]) cells slots lsA → W p l e R s m args below meth cd H2 (locs ++ [⟨ρ a, i⟩]) cells slots Q (F0 m (pc + 3) lsA rest)) : W p l e R s m args below meth cd H locs cells slots Q (F0 m pc lsA (v :: pv ρ (cR a) :: rest)) := by
  obtain ⟨o1, o2, o3, cell, q1, q2, q3, q4⟩ := emb_obj hv.2.2.1 hc ht
  have hci := vwCl_lt hc
  have e1 : pv ρ (cR a) = .ref (ρ a) := by show va_rf (ro ρ a) = _; rw [o1]; rfl
  rw [e1]
  obtain ⟨x1, x2, x3, x4, x5, x6, x7, x8, x9, x10, x11, hG⟩ := hx
  have hK := hG.1.1
  obtain ⟨hS, hfc, kC, hkC, hkind⟩ := hK.1 ci _ hc
  obtain ⟨cf, kf, fi, f, hi, hsl⟩ := hS j hj
  obtain ⟨hin, hty, hnm⟩ := vw_ok ci _ hc
  have hap := va_apart (own := d.own) x6 hin (vwTy ci) hty hnm hK hc
  have hst := (u_facts hfc hkC (u_lays x6 hin hj) hi).1
  have hcell2 : ∀ H2 : Heap, H2[ρ a]? = some (cell.setSlot f.slot v) → EmbAt γ ρ β h2 H2 a := by
    intro H2 g1
    rw [hsl] at g1
    have hOB : t_OB (ρ a) (γ.D.1 ci) N (γ.D.2 ci) H2 (fv ρ h2 ci a) := by
      refine t_OB.to (V := updV (fv ρ h ci a) j v) ⟨_, g1, q2, q3, t_set q4 hap hj v⟩ (fun i hi => ?_)
      rw [hfv i hi]
      rfl
    refine ⟨fun q => ?_, fun q => ?_, fun q => ?_, fun q qq => ?_, fun q => ?_, fun q qq => ?_, fun q => ?_, fun q qq => ?_⟩
    · rw [h2t, ht] at q; omega
    · rw [h2t, ht] at q; omega
    · rw [h2t, ht] at q; omega
    · rw [h2t, ht] at qq; omega
    · rw [h2t, ht] at q; omega
    · rw [h2t, ht, Nat.add_sub_cancel_left]
      exact ⟨_, hc, hOB⟩
    · rw [h2t, ht] at q; omega
    · rw [h2t, ht] at qq; omega
  have hlt : f.slot < cell.slots.size := by rw [hsl]; exact k2_hasslot (q4 j hj)
  have fin2 : ∀ H2 : Heap, H2[ρ a]? = some (cell.setSlot f.slot v) → H2.size = H.size → (∀ q, q ≠ ρ a → H2[q]? = H[q]?) → W p l e R s m args below meth cd H2 (locs ++ [⟨ρ a, f.slot⟩]) cells slots Q (F0 m (pc + 3) lsA rest) := fun H2 g1 g2 g3 => kk H2 f.slot (vy_write hv o2 h2n h2t hoth hwf g2 g3 (hcell2 H2 g1))
  have hlay := x6 _ (hin _ (u_in_lay hj))
  unfold u_lay at hlay
  rcases hfin with hfin | ⟨hfin, hinit, hdecl⟩
  · rw [if_neg (by rw [hfin]; decide)] at hlay
    have h6 := u_store hfc hkC hkind hlay hi (hty j hj) hn hfit
    rcases hl with hl | ⟨host, hl⟩
    · exact W.putK x1 x2 (f := f) ⟨x5, x6 _ hl, ⟨_, _, _, hs s args x6 _ hi⟩, hst⟩ (by rw [q2]; exact h6) q1 q3 hlt rfl rfl hd fin2
    · exact va_WputK x1 x2 x5 (va_Nw.use rfl (hG.1.2.1 _ hl rfl)) (hs s args x6 _ hi) hst (by rw [q2]; exact h6) q1 q3 hlt rfl rfl hd fin2
  · rw [if_pos hfin] at hlay
    have hcf : m.cls = cf := by
      obtain ⟨_, _, c', _, _, _, -, -, hf', -, -, -, hown2, -⟩ := Cond.laysFinal_spec hlay
      have e1 : c' = cf := by have := hi.symm.trans hf'; simp at this; exact this.1.symm
      rw [hdecl] at hown2
      rw [← e1]; exact Option.some.inj (x5.symm.trans hown2)
    have h6 := u_fits hfc hkC hkind (Or.inr hlay) hi (hty j hj) hn hfit
    rcases hl with hl | ⟨host, hl⟩
    · exact W.putFinK x1 x2 x5 (x6 _ hl) (hs s args x6 _ hi) hst hcf (x10.trans hinit) (by rw [q2]; exact h6) q1 q3 hlt rfl rfl hd fin2
    · have ha : ρ a < H.size := (Array.getElem?_eq_some_iff.mp q1).1
      refine va_Wputf x1 x2 x5 (va_Nw.use rfl (hG.1.2.1 _ hl rfl)) (hs s args x6 _ hi) hst (Or.inr ⟨hcf, x10.trans hinit⟩) q1 (by rw [q3]; exact fun h => by cases h) hlt h6.1 (by rw [q2, q3]; exact h6.2) rfl rfl hd (fin2 _ ?_ ?_ ?_)
      · simp [Array.getElem?_setIfInBounds, ha]
      · simp
      · intro q hq
        simp [Array.getElem?_setIfInBounds, Ne.symm hq]
theorem wI_oth {h : HP} {a j : Nat} {x : Int32} : ∀ b, b ≠ a → (h.wI a j x).l b = h.l b ∧ (h.wI a j x).i b = h.i b ∧ (h.wI a j x).p b = h.p b ∧ (h.wI a j x).j b = h.j b ∧ (h.wI a j x).s b = h.s b ∧ (h.wI a j x).m b = h.m b := by
  intro b hb
  refine ⟨rfl, ?_, rfl, rfl, rfl, rfl⟩
  funext i
  exact if_neg fun q => hb q.1
theorem wP_oth {h : HP} {a j x : Nat} : ∀ b, b ≠ a → (h.wP a j x).l b = h.l b ∧ (h.wP a j x).i b = h.i b ∧ (h.wP a j x).p b = h.p b ∧ (h.wP a j x).j b = h.j b ∧ (h.wP a j x).s b = h.s b ∧ (h.wP a j x).m b = h.m b := by
  intro b hb
  refine ⟨rfl, rfl, ?_, rfl, rfl, rfl⟩
  funext i
  exact if_neg fun q => hb q.1
theorem wJ_oth {h : HP} {a j : Nat} {x : Int64} : ∀ b, b ≠ a → (h.wJ a j x).l b = h.l b ∧ (h.wJ a j x).i b = h.i b ∧ (h.wJ a j x).p b = h.p b ∧ (h.wJ a j x).j b = h.j b ∧ (h.wJ a j x).s b = h.s b ∧ (h.wJ a j x).m b = h.m b := by
  intro b hb
  refine ⟨rfl, rfl, rfl, ?_, rfl, rfl⟩
  funext i
  exact if_neg fun q => hb q.1
theorem wI_self {h : HP} {a j i : Nat} {x : Int32} : (h.wI a j x).i a i = if i = j then x else h.i a i := by
  show (if a = a ∧ i = j then x else h.i a i) = _
  by_cases hij : i = j
  · rw [if_pos ⟨rfl, hij⟩, if_pos hij]
  · rw [if_neg (fun q => hij q.2), if_neg hij]
theorem wP_self {h : HP} {a j i x : Nat} : (h.wP a j x).p a i = if i = j then x else h.p a i := by
  show (if a = a ∧ i = j then x else h.p a i) = _
  by_cases hij : i = j
  · rw [if_pos ⟨rfl, hij⟩, if_pos hij]
  · rw [if_neg (fun q => hij q.2), if_neg hij]
theorem wJ_self {h : HP} {a j i : Nat} {x : Int64} : (h.wJ a j x).j a i = if i = j then x else h.j a i := by
  show (if a = a ∧ i = j then x else h.j a i) = _
  by_cases hij : i = j
  · rw [if_pos ⟨rfl, hij⟩, if_pos hij]
  · rw [if_neg (fun q => hij q.2), if_neg hij]
theorem emb_wf {γ : GC} {ρ β : Nat → Nat} {h : HP} {A : Nat → Prop} {H : Heap} (hE : Emb γ ρ β h A H) {a : Nat} (ht : h.t a ≠ 0) : (∀ k, h.p a k < h.n) ∧ ∀ x ∈ h.s a, x < h.n := (hE.2.1 a ht).2.2
/-- the field may be written here -/
def fFin (d : MD) (T : u_T) (j : Nat) : Prop := (T j).2.2.2 = false ∨ ((T j).2.2.2 = true ∧ d.y.name = "<init>" ∧ (T j).1 = d.own)
theorem w_putI {d : MD} {c k : Nat} {γ : GC} {ρ0 β0 : Nat → Nat} {h0 : HP} {p : Program} {l : Launch} {e : Env} {s : State} {m : MethodId} {args : Array Value} {below : List Frame} {meth : Method} {cd : Code} {ρ β τ : Nat → Nat} {ls : List (Nat × CV)} {h : HP} {H : Heap} {locs : List Loc} {cells slots : Nat} {lsA : Array Slot} {Q : State → Prop} {R : Room} {pc : Nat} {rest : List Value}
    (hx : Fx d γ p l s m args meth cd) (hv : Vy d c k γ ρ0 β0 h0 s ρ β τ ls h H locs cells slots lsA) {ci j index : Nat} {C ref : String} {T : u_T} {N : Nat} (hc : vwCl[ci]? = some (C, T, N)) (hj : j < N) {a : Nat} (ht : h.t a = 20 + ci) (hl : fLink d index ref (T j).2.1 (T j).2.2.1) (hs : fSame ref (T j).1 (T j).2.1 (T j).2.2.1)
    (hfin : fFin d T j) {x : Int32} (hty : vwTy ci j = .int ∨ (vwTy ci j = .boolean ∧ (x = 0 ∨ x = 1))) (hd : decode d.cc pc = .ok (.putfield index, 3))
    (kk : ∀ (H2 : Heap) (i : Nat), Vy d c k γ ρ0 β0 h0 s ρ β τ ls (h.wI a j x) H2 (locs ++ [⟨ρ a, i⟩]) cells slots lsA → W p l e R s m args below meth cd H2 (locs ++ [⟨ρ a, i⟩]) cells slots Q (F0 m (pc + 3) lsA rest)) : W p l e R s m args below meth cd H locs cells slots Q (F0 m pc lsA (.int x :: pv ρ (cR a) :: rest)) := by
  have hr : vwRef ci j = false := by unfold vwRef; rcases hty with q | q <;> simp [q, tyRef]
  refine w_put hx hv hc hj ht hl hs hfin (h2 := h.wI a j x) (v := .int x) ?_ ?_ rfl rfl wI_oth (emb_wf hv.2.2.1 (by omega)) (fun i hi => ?_) hd kk
  · rcases hty with q | ⟨q, q2⟩
    · rw [q]; rfl
    · rw [q]; exact narrow01 q2
  · rcases hty with q | ⟨q, q2⟩
    · rw [q]; rfl
    · rw [q]; rcases q2 with rfl | rfl <;> rfl
  · unfold fv
    by_cases hij : i = j
    · subst hij
      rw [if_pos rfl, hr, if_neg (by decide), wI_self, if_pos rfl]
    · rw [if_neg hij, wI_self, if_neg hij]
      rfl
theorem cw_putI {d : MD} {c q pc : Nat} {ls : List (Nat × CV)} {st : List CV} {f : GF} {ci j index a t : Nat} {x : Int32} {C ref : String} {T : u_T} {N : Nat} (hc : vwCl[ci]? = some (C, T, N)) (hj : j < N) (hty : vwTy ci j = .int) (ht0 : t = 20 + ci) (hl : fLink d index ref (T j).2.1 (T j).2.2.1) (hs : fSame ref (T j).1 (T j).2.1 (T j).2.2.1) (hfin : fFin d T j) (hd : decode d.cc pc = .ok (.putfield index, 3))
    (k : CWF d c q (pc + 3) ls st f) : CWF d c q pc ls (cI x :: cR a :: st) (putI t a j x f) := by
  intro h r h' hf p l e s m args below meth cd γ ρ0 β0 h0 ρ β τ H locs cells slots lsA hx hv hw
  unfold putI at hf
  subst ht0
  by_cases ht : h.t a = 20 + ci
  · rw [if_pos ht] at hf
    exact w_putI hx hv hc hj ht hl hs hfin (Or.inl hty) hd (fun H2 i hv2 => k _ r h' hf p l e s m args below meth cd γ ρ0 β0 h0 ρ β τ H2 _ cells slots lsA hx hv2 hw.2.2)
  · rw [if_neg ht] at hf
    cases hf
theorem cw_putZ {d : MD} {c q pc : Nat} {ls : List (Nat × CV)} {st : List CV} {f : GF} {ci j index a t : Nat} {x : Int32} {C ref : String} {T : u_T} {N : Nat} (hc : vwCl[ci]? = some (C, T, N)) (hj : j < N) (hty : vwTy ci j = .boolean) (ht0 : t = 20 + ci) (hl : fLink d index ref (T j).2.1 (T j).2.2.1) (hs : fSame ref (T j).1 (T j).2.1 (T j).2.2.1) (hfin : fFin d T j) (hd : decode d.cc pc = .ok (.putfield index, 3))
    (k : CWF d c q (pc + 3) ls st f) : CWF d c q pc ls (cI x :: cR a :: st) (putZ t a j x f) := by
  intro h r h' hf p l e s m args below meth cd γ ρ0 β0 h0 ρ β τ H locs cells slots lsA hx hv hw
  unfold putZ at hf
  subst ht0
  by_cases ht : h.t a = 20 + ci ∧ (x = 0 ∨ x = 1)
  · rw [if_pos ht] at hf
    exact w_putI hx hv hc hj ht.1 hl hs hfin (Or.inr ⟨hty, ht.2⟩) hd (fun H2 i hv2 => k _ r h' hf p l e s m args below meth cd γ ρ0 β0 h0 ρ β τ H2 _ cells slots lsA hx hv2 hw.2.2)
  · rw [if_neg ht] at hf
    cases hf
theorem cw_putP {d : MD} {c q pc : Nat} {ls : List (Nat × CV)} {st : List CV} {f : GF} {ci j index a t x : Nat} {C ref : String} {T : u_T} {N : Nat} (hc : vwCl[ci]? = some (C, T, N)) (hj : j < N) (hty : vwRef ci j = true) (ht0 : t = 20 + ci) (hl : fLink d index ref (T j).2.1 (T j).2.2.1) (hs : fSame ref (T j).1 (T j).2.1 (T j).2.2.1) (hfin : fFin d T j) (hd : decode d.cc pc = .ok (.putfield index, 3))
    (k : CWF d c q (pc + 3) ls st f) : CWF d c q pc ls (cR x :: cR a :: st) (putP t a j x f) := by
  intro h r h' hf p l e s m args below meth cd γ ρ0 β0 h0 ρ β τ H locs cells slots lsA hx hv hw
  unfold putP at hf
  subst ht0
  by_cases ht : h.t a = 20 + ci
  · rw [if_pos ht] at hf
    have hwf := emb_wf hv.2.2.1 (a := a) (by omega)
    have hty2 : (∃ n, vwTy ci j = .object n) ∨ ∃ n, vwTy ci j = .array n := by
      unfold vwRef at hty
      cases hq : vwTy ci j with
      | object n => exact Or.inl ⟨n, rfl⟩
      | array n => exact Or.inr ⟨n, rfl⟩
      | _ => rw [hq] at hty; cases hty
    refine w_put hx hv hc hj ht hl hs hfin (h2 := h.wP a j x) (v := va_rf (ro ρ x)) ?_ ?_ rfl rfl wP_oth ⟨fun i => ?_, hwf.2⟩ (fun i hi => ?_) hd (fun H2 i hv2 => k _ r h' hf p l e s m args below meth cd γ ρ0 β0 h0 ρ β τ H2 _ cells slots lsA hx hv2 hw.2.2)
    · rcases hty2 with ⟨n, hn⟩ | ⟨n, hn⟩ <;> rw [hn] <;> cases ro ρ x <;> rfl
    · rcases hty2 with ⟨n, hn⟩ | ⟨n, hn⟩ <;> rw [hn] <;> cases ro ρ x <;> rfl
    · rw [wP_self]
      split
      · exact hw.1
      · exact hwf.1 i
    · unfold fv
      by_cases hij : i = j
      · subst hij
        rw [if_pos rfl, hty, if_pos rfl, wP_self, if_pos rfl]
      · rw [if_neg hij, wP_self, if_neg hij]
        rfl
  · rw [if_neg ht] at hf
    cases hf
/-! arrays -/
def alenG (a : Nat) (f : Int32 → GF) : GF := fun h => if 1 ≤ h.t a ∧ h.t a < 8 then f (nI (h.l a)) h else none
def inA (h : HP) (t a : Nat) (j : Int32) : Prop := h.t a = t ∧ ¬ (j < 0) ∧ j.toNatClampNeg < h.l a
def ialdG (t a : Nat) (j : Int32) (f : Int32 → GF) : GF := fun h => if h.t a = t ∧ ¬ (j < 0) ∧ j.toNatClampNeg < h.l a then f (h.i a j.toNatClampNeg) h else none
def laldG (a : Nat) (j : Int32) (f : Int64 → GF) : GF := fun h => if h.t a = 3 ∧ ¬ (j < 0) ∧ j.toNatClampNeg < h.l a then f (h.j a j.toNatClampNeg) h else none
def aaldG (t a : Nat) (j : Int32) (f : Nat → GF) : GF := fun h => if h.t a = t ∧ ¬ (j < 0) ∧ j.toNatClampNeg < h.l a then f (h.p a j.toNatClampNeg) h else none
def iastG (a : Nat) (j : Int32) (v : Int32) (f : GF) : GF := fun h => if h.t a = 1 ∧ ¬ (j < 0) ∧ j.toNatClampNeg < h.l a then f (h.wI a j.toNatClampNeg v) else none
def zastG (a : Nat) (j : Int32) (v : Int32) (f : GF) : GF := fun h => if (h.t a = 2 ∧ ¬ (j < 0) ∧ j.toNatClampNeg < h.l a) ∧ (v = 0 ∨ v = 1) then f (h.wI a j.toNatClampNeg v) else none
def lastG (a : Nat) (j : Int32) (v : Int64) (f : GF) : GF := fun h => if h.t a = 3 ∧ ¬ (j < 0) ∧ j.toNatClampNeg < h.l a then f (h.wJ a j.toNatClampNeg v) else none
theorem fx_arr {d : MD} {γ : GC} {p : Program} {l : Launch} {s : State} {m : MethodId} {args : Array Value} {meth : Method} {cd : Code} (hx : Fx d γ p l s m args meth cd) {k : Nat} {ct : ClassId} {ty : FieldType} (hk : γ.tys[k]? = some (ct, ty)) (n : Nat) (z : Nat → Value) : s.isArrayOf (arrV ct n z) ty := ((hx.2.2.2.2.2.2.2.2.2.2.2.1.1.2 k _ hk).1 n z)
theorem nin {j : Int32} {n : Nat} (h1 : ¬ (j < 0)) (h2 : j.toNatClampNeg < n) : ¬ (j < 0 ∨ n ≤ j.toNatClampNeg) := fun q => q.elim h1 (fun q => absurd h2 (by omega))
theorem pv_ref {γ : GC} {ρ β : Nat → Nat} {h : HP} {A : Nat → Prop} {H : Heap} (hE : Emb γ ρ β h A H) {a : Nat} (ht : h.t a ≠ 0) : pv ρ (cR a) = .ref (ρ a) := by
  show va_rf (ro ρ a) = _
  rw [emb_ro hE ht]
  rfl
theorem cw_iald {d : MD} {c q pc : Nat} {ls : List (Nat × CV)} {st : List CV} {f : Int32 → GF} {a : Nat} {j : Int32} (hd : decode d.cc pc = .ok (.iaload, 1)) (k : ∀ x, CWF d c q (pc + 1) ls (cI x :: st) (f x)) : CWF d c q pc ls (cI j :: cR a :: st) (ialdG 1 a j f) := by
  intro h r h' hf p l e s m args below meth cd γ ρ0 β0 h0 ρ β τ H locs cells slots lsA hx hv hw
  unfold ialdG at hf
  by_cases ht : h.t a = 1 ∧ ¬ (j < 0) ∧ j.toNatClampNeg < h.l a
  · rw [if_pos ht] at hf
    have hE := hv.2.2.1
    have hc := (hE.2.2.1 a).1 ht.1
    rw [vp_cell_i] at hc
    show W _ _ _ _ _ _ _ _ _ _ _ _ _ _ _ (F0 m pc lsA (.int j :: pv ρ (cR a) :: st.map (pv ρ)))
    rw [pv_ref hE (by omega)]
    exact W.iald hx.1 hx.2.1 hc (fx_arr hx (k := 0) rfl _ _) (fun q => by cases q) (by rw [arrV_size]; exact nin ht.2.1 ht.2.2) (arrV_read _ _ ht.2.2) rfl rfl hd (k _ h r h' hf p l e s m args below meth cd γ ρ0 β0 h0 ρ β τ H locs cells slots lsA hx hv ⟨trivial, hw.2.2⟩)
  · rw [if_neg ht] at hf
    cases hf
theorem cw_zald {d : MD} {c q pc : Nat} {ls : List (Nat × CV)} {st : List CV} {f : Int32 → GF} {a : Nat} {j : Int32} (hd : decode d.cc pc = .ok (.baload, 1)) (k : ∀ x, CWF d c q (pc + 1) ls (cI x :: st) (f x)) : CWF d c q pc ls (cI j :: cR a :: st) (ialdG 2 a j f) := by
  intro h r h' hf p l e s m args below meth cd γ ρ0 β0 h0 ρ β τ H locs cells slots lsA hx hv hw
  unfold ialdG at hf
  by_cases ht : h.t a = 2 ∧ ¬ (j < 0) ∧ j.toNatClampNeg < h.l a
  · rw [if_pos ht] at hf
    have hE := hv.2.2.1
    have hc := (hE.2.2.1 a).2.1 ht.1
    rw [vp_cell_i] at hc
    show W _ _ _ _ _ _ _ _ _ _ _ _ _ _ _ (F0 m pc lsA (.int j :: pv ρ (cR a) :: st.map (pv ρ)))
    rw [pv_ref hE (by omega)]
    exact W.zald hx.1 hx.2.1 hc (fx_arr hx (k := 1) rfl _ _) (fun q => by cases q) (by rw [arrV_size]; exact nin ht.2.1 ht.2.2) (arrV_read _ _ ht.2.2) rfl rfl hd (k _ h r h' hf p l e s m args below meth cd γ ρ0 β0 h0 ρ β τ H locs cells slots lsA hx hv ⟨trivial, hw.2.2⟩)
  · rw [if_neg ht] at hf
    cases hf
theorem cw_lald {d : MD} {c q pc : Nat} {ls : List (Nat × CV)} {st : List CV} {f : Int64 → GF} {a : Nat} {j : Int32} (hd : decode d.cc pc = .ok (.laload, 1)) (k : ∀ x, CWF d c q (pc + 1) ls (cJ x :: st) (f x)) : CWF d c q pc ls (cI j :: cR a :: st) (laldG a j f) := by
  intro h r h' hf p l e s m args below meth cd γ ρ0 β0 h0 ρ β τ H locs cells slots lsA hx hv hw
  unfold laldG at hf
  by_cases ht : h.t a = 3 ∧ ¬ (j < 0) ∧ j.toNatClampNeg < h.l a
  · rw [if_pos ht] at hf
    have hE := hv.2.2.1
    have hc := (hE.2.2.1 a).2.2.1 ht.1
    rw [vp_cell_l] at hc
    show W _ _ _ _ _ _ _ _ _ _ _ _ _ _ _ (F0 m pc lsA (.int j :: pv ρ (cR a) :: st.map (pv ρ)))
    rw [pv_ref hE (by omega)]
    exact W.lald hx.1 hx.2.1 hc (fx_arr hx (k := 2) rfl _ _) (fun q => by cases q) (by rw [arrV_size]; exact nin ht.2.1 ht.2.2) (arrV_read _ _ ht.2.2) rfl rfl hd (k _ h r h' hf p l e s m args below meth cd γ ρ0 β0 h0 ρ β τ H locs cells slots lsA hx hv ⟨trivial, hw.2.2⟩)
  · rw [if_neg ht] at hf
    cases hf
theorem tys_at {γ : GC} {t : Nat} (h1 : 4 ≤ t) (h2 : t < 8) : ∃ ty, γ.tys[t - 1]? = some (γ.cA t, ty) ∧ ty.isReference = true := by
  rcases (show t = 4 ∨ t = 5 ∨ t = 6 ∨ t = 7 by omega) with rfl | rfl | rfl | rfl
  · exact ⟨_, rfl, rfl⟩
  · exact ⟨_, rfl, rfl⟩
  · exact ⟨_, rfl, rfl⟩
  · exact ⟨_, rfl, rfl⟩
theorem cw_aald {d : MD} {c q pc : Nat} {ls : List (Nat × CV)} {st : List CV} {f : Nat → GF} {t a : Nat} {j : Int32} (h4 : 4 ≤ t ∧ t < 8) (hd : decode d.cc pc = .ok (.aaload, 1)) (k : ∀ x, CWF d c q (pc + 1) ls (cR x :: st) (f x)) : CWF d c q pc ls (cI j :: cR a :: st) (aaldG t a j f) := by
  intro h r h' hf p l e s m args below meth cd γ ρ0 β0 h0 ρ β τ H locs cells slots lsA hx hv hw
  unfold aaldG at hf
  by_cases ht : h.t a = t ∧ ¬ (j < 0) ∧ j.toNatClampNeg < h.l a
  · rw [if_pos ht] at hf
    have hE := hv.2.2.1
    have hc := (hE.2.2.1 a).2.2.2.1 (by omega) (by omega)
    rw [vp_cell_q, ht.1] at hc
    obtain ⟨ty, hty, href⟩ := tys_at (γ := γ) h4.1 h4.2
    show W _ _ _ _ _ _ _ _ _ _ _ _ _ _ _ (F0 m pc lsA (.int j :: pv ρ (cR a) :: st.map (pv ρ)))
    rw [pv_ref hE (by omega)]
    exact W.aald (v := pv ρ (cR (h.p a j.toNatClampNeg))) hx.1 hx.2.1 hc (fx_arr hx hty _ _) href (fun q => by cases q) (by rw [arrV_size]; exact nin ht.2.1 ht.2.2) (arrV_read _ _ ht.2.2) rfl rfl hd (k _ h r h' hf p l e s m args below meth cd γ ρ0 β0 h0 ρ β τ H locs cells slots lsA hx hv ⟨(emb_wf hE (a := a) (by omega)).1 _, hw.2.2⟩)
  · rw [if_neg ht] at hf
    cases hf
theorem cw_alen {d : MD} {c q pc : Nat} {ls : List (Nat × CV)} {st : List CV} {f : Int32 → GF} {a : Nat} (hd : decode d.cc pc = .ok (.arraylength, 1)) (k : ∀ x, CWF d c q (pc + 1) ls (cI x :: st) (f x)) : CWF d c q pc ls (cR a :: st) (alenG a f) := by
  intro h r h' hf p l e s m args below meth cd γ ρ0 β0 h0 ρ β τ H locs cells slots lsA hx hv hw
  unfold alenG at hf
  by_cases ht : 1 ≤ h.t a ∧ h.t a < 8
  · rw [if_pos ht] at hf
    have hE := hv.2.2.1
    show W _ _ _ _ _ _ _ _ _ _ _ _ _ _ _ (F0 m pc lsA (pv ρ (cR a) :: st.map (pv ρ)))
    rw [pv_ref hE (by omega)]
    have hk := k _ h r h' hf p l e s m args below meth cd γ ρ0 β0 h0 ρ β τ H locs cells slots lsA hx hv ⟨trivial, hw.2⟩
    obtain ⟨e1, e2, e3, e4, -⟩ := hE.2.2.1 a
    rcases (show h.t a = 1 ∨ h.t a = 2 ∨ h.t a = 3 ∨ 4 ≤ h.t a by omega) with ht2 | ht2 | ht2 | ht2
    · have hc := e1 ht2
      rw [vp_cell_i] at hc
      exact W.alen hx.1 hx.2.1 hc (fx_arr hx (k := 0) rfl _ _) (by rw [arrV_size]; rfl) rfl rfl hd hk
    · have hc := e2 ht2
      rw [vp_cell_i] at hc
      exact W.alen hx.1 hx.2.1 hc (fx_arr hx (k := 1) rfl _ _) (by rw [arrV_size]; rfl) rfl rfl hd hk
    · have hc := e3 ht2
      rw [vp_cell_l] at hc
      exact W.alen hx.1 hx.2.1 hc (fx_arr hx (k := 2) rfl _ _) (by rw [arrV_size]; rfl) rfl rfl hd hk
    · have hc := e4 ht2 ht.2
      rw [vp_cell_q] at hc
      obtain ⟨ty, hty, href⟩ := tys_at (γ := γ) ht2 ht.2
      exact W.alen hx.1 hx.2.1 hc (fx_arr hx hty _ _) (by rw [arrV_size]; rfl) rfl rfl hd hk
  · rw [if_neg ht] at hf
    cases hf
theorem embAt_arr {γ : GC} {ρ β : Nat → Nat} {h : HP} {H : Heap} {a : Nat} (hlt : h.t a < 8) (h1 : h.t a = 1 → H[ρ a]? = some (vp_cell (γ.cA 1) (h.l a, .inl (h.i a)))) (h2 : h.t a = 2 → H[ρ a]? = some (vp_cell (γ.cA 2) (h.l a, .inl (h.i a)))) (h3 : h.t a = 3 → H[ρ a]? = some (vp_cell (γ.cA 3) (h.l a, .inr (.inl (h.j a)))))
    (h4 : 4 ≤ h.t a → H[ρ a]? = some (vp_cell (γ.cA (h.t a)) (h.l a, .inr (.inr (.inr (.inr (fun k => ro ρ (h.p a k)))))))) : EmbAt γ ρ β h H a :=
  ⟨h1, h2, h3, fun q _ => h4 q, fun q => by omega, fun q => by omega, fun q => by omega, fun q => by omega⟩
theorem cw_iast {d : MD} {c q pc : Nat} {ls : List (Nat × CV)} {st : List CV} {f : GF} {a : Nat} {j v : Int32} (hd : decode d.cc pc = .ok (.iastore, 1)) (k : CWF d c q (pc + 1) ls st f) : CWF d c q pc ls (cI v :: cI j :: cR a :: st) (iastG a j v f) := by
  intro h r h' hf p l e s m args below meth cd γ ρ0 β0 h0 ρ β τ H locs cells slots lsA hx hv hw
  unfold iastG at hf
  by_cases ht : h.t a = 1 ∧ ¬ (j < 0) ∧ j.toNatClampNeg < h.l a
  · rw [if_pos ht] at hf
    have hE := hv.2.2.1
    have hc := (hE.2.2.1 a).1 ht.1
    rw [vp_cell_i] at hc
    show W _ _ _ _ _ _ _ _ _ _ _ _ _ _ _ (F0 m pc lsA (.int v :: .int j :: pv ρ (cR a) :: st.map (pv ρ)))
    rw [pv_ref hE (by omega)]
    refine W.iast hx.1 hx.2.1 hc (fx_arr hx (k := 0) rfl _ _) (fun q => by cases q) (by rw [arrV_size]; exact nin ht.2.1 ht.2.2) rfl rfl hd fun H2 eH z oq => ?_
    have hta : (h.wI a j.toNatClampNeg v).t a = 1 := ht.1
    refine k _ r h' hf p l e s m args below meth cd γ ρ0 β0 h0 ρ β τ H2 _ cells slots lsA hx (vy_write hv (by rw [ht.1]; exact Or.inl (by omega)) rfl rfl wI_oth (emb_wf hE (by omega)) z oq (embAt_arr (by omega) (fun _ => ?_) (fun q => by omega) (fun q => by omega) (fun q => by omega))) hw.2.2.2
    rw [eH, vp_cell_i, arrV_store]
    congr 2
    funext q
    by_cases hq : q = j.toNatClampNeg
    · subst hq
      simp [updV, wI_self]
    · simp [updV, wI_self, hq]
  · rw [if_neg ht] at hf
    cases hf
theorem nar01 {x : Int32} (h : x = 0 ∨ x = 1) : vp_nar .boolean x = x := by
  rcases h with rfl | rfl <;> decide
theorem cw_zast {d : MD} {c q pc : Nat} {ls : List (Nat × CV)} {st : List CV} {f : GF} {a : Nat} {j v : Int32} (hd : decode d.cc pc = .ok (.bastore, 1)) (k : CWF d c q (pc + 1) ls st f) : CWF d c q pc ls (cI v :: cI j :: cR a :: st) (zastG a j v f) := by
  intro h r h' hf p l e s m args below meth cd γ ρ0 β0 h0 ρ β τ H locs cells slots lsA hx hv hw
  unfold zastG at hf
  by_cases ht : (h.t a = 2 ∧ ¬ (j < 0) ∧ j.toNatClampNeg < h.l a) ∧ (v = 0 ∨ v = 1)
  · rw [if_pos ht] at hf
    obtain ⟨ht, hv01⟩ := ht
    have hE := hv.2.2.1
    have hc := (hE.2.2.1 a).2.1 ht.1
    rw [vp_cell_i] at hc
    show W _ _ _ _ _ _ _ _ _ _ _ _ _ _ _ (F0 m pc lsA (.int v :: .int j :: pv ρ (cR a) :: st.map (pv ρ)))
    rw [pv_ref hE (by omega)]
    refine W.zast hx.1 hx.2.1 hc (fx_arr hx (k := 1) rfl _ _) (fun q => by cases q) (by rw [arrV_size]; exact nin ht.2.1 ht.2.2) rfl rfl hd fun H2 eH z oq => ?_
    have hta : (h.wI a j.toNatClampNeg v).t a = 2 := ht.1
    refine k _ r h' hf p l e s m args below meth cd γ ρ0 β0 h0 ρ β τ H2 _ cells slots lsA hx (vy_write hv (by rw [ht.1]; exact Or.inl (by omega)) rfl rfl wI_oth (emb_wf hE (by omega)) z oq (embAt_arr (by omega) (fun q => by omega) (fun _ => ?_) (fun q => by omega) (fun q => by omega))) hw.2.2.2
    rw [eH, vp_cell_i, narrow01 hv01, arrV_store]
    congr 2
    funext q
    by_cases hq : q = j.toNatClampNeg
    · subst hq
      simp [updV, wI_self]
    · simp [updV, wI_self, hq]
  · rw [if_neg ht] at hf
    cases hf
theorem cw_last {d : MD} {c q pc : Nat} {ls : List (Nat × CV)} {st : List CV} {f : GF} {a : Nat} {j : Int32} {v : Int64} (hd : decode d.cc pc = .ok (.lastore, 1)) (k : CWF d c q (pc + 1) ls st f) : CWF d c q pc ls (cJ v :: cI j :: cR a :: st) (lastG a j v f) := by
  intro h r h' hf p l e s m args below meth cd γ ρ0 β0 h0 ρ β τ H locs cells slots lsA hx hv hw
  unfold lastG at hf
  by_cases ht : h.t a = 3 ∧ ¬ (j < 0) ∧ j.toNatClampNeg < h.l a
  · rw [if_pos ht] at hf
    have hE := hv.2.2.1
    have hc := (hE.2.2.1 a).2.2.1 ht.1
    rw [vp_cell_l] at hc
    show W _ _ _ _ _ _ _ _ _ _ _ _ _ _ _ (F0 m pc lsA (.long v :: .int j :: pv ρ (cR a) :: st.map (pv ρ)))
    rw [pv_ref hE (by omega)]
    refine W.last hx.1 hx.2.1 hc (fx_arr hx (k := 2) rfl _ _) (fun q => by cases q) (by rw [arrV_size]; exact nin ht.2.1 ht.2.2) rfl rfl hd fun H2 eH z oq => ?_
    have hta : (h.wJ a j.toNatClampNeg v).t a = 3 := ht.1
    refine k _ r h' hf p l e s m args below meth cd γ ρ0 β0 h0 ρ β τ H2 _ cells slots lsA hx (vy_write hv (by rw [ht.1]; exact Or.inl (by omega)) rfl rfl wJ_oth (emb_wf hE (by omega)) z oq (embAt_arr (by omega) (fun q => by omega) (fun q => by omega) (fun _ => ?_) (fun q => by omega))) hw.2.2.2
    rw [eH, vp_cell_l, arrV_store]
    congr 2
    funext q
    by_cases hq : q = j.toNatClampNeg
    · subst hq
      simp [updV, wJ_self]
    · simp [updV, wJ_self, hq]
  · rw [if_neg ht] at hf
    cases hf
