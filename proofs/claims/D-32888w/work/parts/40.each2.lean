/-! RULES of the clean machine: for-each loops, the three calls; constructors of lists -/
set_option maxRecDepth 100000
theorem ni_of {ls : List (Nat × CV)} {i : Nat} (h : (ls.map fun q => q.1 == i).any id = false) : ∀ q ∈ ls, q.1 ≠ i := by
  intro q hq he
  have h2 := List.any_eq_false.mp h (q.1 == i) (List.mem_map.mpr ⟨q, hq, rfl⟩)
  rw [he] at h2
  simp at h2
theorem itr_weak {h h1 : HP} {a : Nat} (hw : WFh h) (hs : ∀ x, x ≠ h.n → SameC h h1 x) : Weak h1 h := by
  refine ⟨hw.1, fun x hx => ?_⟩
  obtain ⟨w1, w2, w3, w4⟩ := hw.2.1 x hx
  obtain ⟨s1, s2, s3, s4, s5, s6, s7⟩ := hs x (by omega)
  exact ⟨s1.symm, s2.symm, s3.symm, s4.symm, s5.symm, s6.symm, s7.symm, w2, fun k => by rw [s4]; exact w3 k, fun y hy => w4 y (by rw [← s6]; exact hy)⟩
/-- a call on the loop's iterator -/
theorem w_itc {d d2 : MD} {c k : Nat} {γ : GC} {ρ0 β0 : Nat → Nat} {h0 : HP} {p : Program} {l : Launch} {e : Env} {s : State} {m : MethodId} {args : Array Value} {below : List Frame} {meth : Method} {cd : Code} {ρ β τ : Nat → Nat} {ls : List (Nat × CV)} {h : HP} {H : Heap} {locs : List Loc} {cells slots : Nat} {lsA : Array Slot} {Q : State → Prop} {pc la i a j j' : Nat} {mm : Int32} {st : List CV} {v1 : CV}
    (hx : Fx d γ p l s m args meth cd) (hv : Vy d c k γ ρ0 β0 h0 s ρ β τ ((i, cT a mm j) :: ls) h H locs cells slots lsA) (hni : ∀ q ∈ ls, q.1 ≠ i) (hw : wfS h.n st) (hl : ldOK d pc la i) (hC : ∀ x, CallOK d d2 [cR x] (pc + la) 5 st (some (x, 35))) (hmc : d2.mc = 0) (hms : d2.ms = 0) (hv1 : wfv h.n v1)
    (hM : ∀ lr, ∃ h1, CM d2 [cR h.n] (h.itr a mm j lr) (.inl (some v1)) h1 ∧ h1.t h.n = 35 ∧ h1.i h.n 0 = nI j' ∧ h1.i h.n 2 = mm ∧ h1.p h.n 3 = a ∧ ∀ x, x ≠ h.n → SameC h h1 x)
    (k9 : ∀ (ρ' β' τ' : Nat → Nat) (H' : Heap) (locs' : List Loc), Vy d c k γ ρ0 β0 h0 s ρ' β' τ' ((i, cT a mm j') :: ls) h H' locs' cells slots lsA → W p l e d.rm s m args below meth cd H' locs' cells slots Q (F0 m (pc + la + 5) lsA ((v1 :: st).map (pv ρ')))) :
    W p l e d.rm s m args below meth cd H locs cells slots Q (F0 m pc lsA (st.map (pv ρ))) := by
  have hE := hv.2.2.1
  have hwf := emb_wfh hE
  have han : a < h.n := hv.2.2.2.2.1 _ List.mem_cons_self
  obtain ⟨lr, hvT⟩ := vy_thaw hv hni
  obtain ⟨h1, hM1, x1, x2, x3, x4, x5⟩ := hM lr
  have hlA : lsA[i]? = some (.val (.ref (τ i))) := lv_at hv.2.2.2.2.2.2.1 0 rfl
  have hst : st.map (pv (up1 ρ h.n (τ i))) = st.map (pv ρ) := pvs_agree up_agree hw
  have hpx : pv (up1 ρ h.n (τ i)) (cR h.n) = .ref (τ i) := by
    show va_rf (ro (up1 ρ h.n (τ i)) h.n) = _
    unfold ro
    rw [if_neg (by have := hwf.1; omega), up_self]
    rfl
  have e3 : ([cR h.n].reverse ++ st).map (pv (up1 ρ h.n (τ i))) = .ref (τ i) :: st.map (pv ρ) := by
    show pv (up1 ρ h.n (τ i)) (cR h.n) :: st.map (pv (up1 ρ h.n (τ i))) = _
    rw [hpx, hst]
  have main : W p l e d.rm s m args below meth cd H locs cells slots Q (F0 m (pc + la) lsA (.ref (τ i) :: st.map (pv ρ))) := by
    have hrun := hC h.n p l e s m args below meth cd γ ρ0 β0 h0 (up1 ρ h.n (τ i)) β τ H locs cells slots lsA _ c k (h.itr a mm j lr) (.inl (some v1)) h1 hx (by rw [hmc, hms]; exact hvT) ⟨Nat.lt_succ_self _, trivial⟩ (wfS_mono (Nat.le_succ _) hw) (ev_rcv itr_at.1) hM1
    intro T hT X
    rcases hrun T hT X with ⟨v, st₀, t, T', L, e0, X', hL, e1, e1v, ⟨⟨ρ1, β1, v1', hr, hag, hn, ho, hwo, hE1⟩, hz, hk⟩, go⟩ | ⟨q1, st₀, t, T', L, E, ce, e0, X', hL, e1, e1v, ⟨⟨ρ1, β1, hr, -⟩, -⟩, -⟩
    · cases hr
      rw [e3] at go
      rw [e0] at hz hk
      have hv2 := vy_back (mc2 := 0) (ms2 := 0) hvT hag hn hE1 hz hk hL
      have hρx : ρ1 h.n = τ i := by rw [hag h.n (Nat.lt_succ_self _), up_self]
      have hag2 : ∀ b, b < h.n → ρ1 b = ρ b := fun b hb => (hag b (Nat.lt_succ_of_lt hb)).trans (up_agree b hb)
      have hτ : up1 τ i (ρ1 h.n) = τ := by
        funext z
        unfold up1
        split
        · rename_i q; rw [q, hρx]
        · rfl
      have hv3 := vy_freeze (i := i) (ls' := ls) (lsB := lsA) (h := h) hv2 x1 x2 x3 x4 (itr_weak (a := a) hwf x5) (wf_t0 hwf (Nat.le_refl _)) hv.1 han (fun q hq => hv.2.2.2.2.1 q (List.mem_cons_of_mem _ hq)) (fun q hq => List.mem_cons_of_mem _ hq) hni (by
        rw [hτ, pls_agree hag2 (fun q hq => ?_)]
        · exact hv.2.2.2.2.2.2.1
        · rcases List.mem_cons.mp hq with rfl | hq
          · exact han
          · exact hv.2.2.2.2.1 q (List.mem_cons_of_mem _ hq))
      obtain ⟨t2, a1, b1⟩ := k9 ρ1 β1 _ t.heap _ hv3 T' e1 (by rw [hmc, hms] at X'; exact X')
      refine ⟨t2, go t2 ?_, b1⟩
      have hv9 : v = some (pv ρ1 v1) := by injection ho
      subst hv9
      have e2 : (some (pv ρ1 v1)).toList ++ st.map (pv (up1 ρ h.n (τ i))) = (v1 :: st).map (pv ρ1) := by
        rw [hst, List.map_cons, pvs_agree hag2 hw]
        rfl
      rw [e2]
      exact a1
    · cases hr
  rcases hl with ⟨jn, hd, hi, rfl⟩ | ⟨hd, rfl⟩
  · exact lv_aload_n hx.1 hx.2.1 hd hi hlA main
  · exact lv_aload hx.1 hx.2.1 hd hlA main
def hasG (a j : Nat) (f : Int32 → GF) : GF := fun h => if (h.t a = 8 ∧ kC h) ∧ j ≤ (h.s a).length then f (if j = (h.s a).length then 0 else 1) h else none
theorem cw_hasNext {d : MD} {c q pc la i a j : Nat} {mm : Int32} {ls : List (Nat × CV)} {st : List CV} {f : Int32 → GF} (hni : (ls.map fun q => q.1 == i).any id = false) (hl : ldOK d pc la i) (hC : ∀ x, CallOK d md_J18_hasNext [cR x] (pc + la) 5 st (some (x, 35))) (k : ∀ x, CWF d c q (pc + la + 5) ((i, cT a mm j) :: ls) (cI x :: st) (f x)) : CWF d c q pc ((i, cT a mm j) :: ls) st (hasG a j f) := by
  intro h r h' hf p l e s m args below meth cd γ ρ0 β0 h0 ρ β τ H locs cells slots lsA hx hv hw
  unfold hasG at hf
  split at hf
  · rename_i hg
    obtain ⟨⟨ht, hkc⟩, hjl⟩ := hg
    have hwf := emb_wfh hv.2.2.1
    have han : a < h.n := hv.2.2.2.2.1 _ List.mem_cons_self
    have h64 := hwf.2.2.2 a ht
    refine w_itc (v1 := cI (if j = (h.s a).length then 0 else 1)) (j' := j) hx hv (ni_of hni) hw hl hC rfl rfl trivial (fun lr => ⟨_, c_hasNext h.n _ _ (h.itr a mm j lr) ?_, itr_at.1, itr_at.2.1, itr_at.2.2.2.1, ?_, fun x hx => itr_oth hx⟩) (fun ρ' β' τ' H' locs' hv' => k _ h r h' hf p l e s m args below meth cd γ ρ0 β0 h0 ρ' β' τ' H' locs' cells slots lsA hx hv' ⟨trivial, hw⟩)
    · obtain ⟨i1, i2, i3, i4, i5, i6⟩ := itr_at (h := h) (a := a) (m := mm) (j := j) (lr := lr)
      have hp : (h.itr a mm j lr).p h.n 3 = a := by rw [i5]; rfl
      have ha : a ≠ h.n := by omega
      obtain ⟨s1, s2, s3, s4, s5, s6, s7⟩ := itr_oth (a := a) (m := mm) (j := j) (lr := lr) ha
      have hc : ∀ z, z < 270 → (h.itr a mm j lr).t z = h.t z := fun z hz => (itr_oth (by have := hwf.1; omega)).1
      unfold s_hasNext
      rw [if_pos ⟨i1, by rw [hp, s1]; exact ht, by rw [hc 1 (by omega)]; exact hkc.1, by rw [hc 2 (by omega)]; exact hkc.2.1, by rw [hc 3 (by omega)]; exact hkc.2.2.1, by rw [hc 261 (by omega)]; exact hkc.2.2.2⟩, hp, i2, s6]
      by_cases q : j = (h.s a).length
      · rw [if_pos q, if_pos (by rw [q])]
      · rw [if_neg q, if_neg (fun z => q ((nI_eq (by omega) (by omega)).mp z))]
    · rw [itr_at.2.2.2.2.1]
      rfl
  · cases hf
def nextG (a : Nat) (mm : Int32) (j : Nat) (f : Nat → GF) : GF := fun h => if (h.t a = 8 ∧ kC h) ∧ h.m a = mm ∧ j < (h.s a).length then f ((h.s a).getD j 0) h else none
theorem ev_next {x a j : Nat} {g : HP} (i1 : g.t x = 35) (hp : g.p x 3 = a) (ht : g.t a = 8) (hk : kC g) (i0 : g.i x 0 = nI j) (i2 : g.i x 2 = g.m a) (hj : j < (g.s a).length) (h64 : (g.s a).length ≤ 64) : s_next x g = some (rR ((g.s a).getD j 0), (g.wI x 0 (nI j + 1)).wI x 1 (nI j)) := by
  subst hp
  have hc : (nI j).toNatClampNeg = j := nI_clamp (by omega)
  have hn : ¬ (nI j < 0) := nI_pos (by omega)
  unfold s_next
  rw [i0, hc]
  exact if_pos ⟨i1, ⟨ht, hk⟩, i2, hn, hj⟩
theorem it_next0 {h g : HP} {a j x : Nat} {mm : Int32} (i1 : g.t x = 35) (i2 : g.i x 0 = nI j) (i4 : g.i x 2 = mm) (hp : g.p x 3 = a) (hs : SameC h g a) (hk2 : kC g) (ht : h.t a = 8) (hm : h.m a = mm) (hjl : j < (h.s a).length) (h64 : (h.s a).length ≤ 64) : CM md_J18_next [cR x] g (rR ((h.s a).getD j 0)) ((g.wI x 0 (nI j + 1)).wI x 1 (nI j)) := by
  obtain ⟨s1, s2, s3, s4, s5, s6, s7⟩ := hs
  have e := ev_next i1 hp (s1.trans ht) hk2 i2 (i4.trans (hm.symm.trans s7.symm)) (by rw [s6]; exact hjl) (by rw [s6]; exact h64)
  rw [s6] at e
  exact c_next x g _ _ e
theorem it_w {g : HP} {x j : Nat} {mm : Int32} (i4 : g.i x 2 = mm) : ((g.wI x 0 (nI j + 1)).wI x 1 (nI j)).i x 0 = nI (j + 1) ∧ ((g.wI x 0 (nI j + 1)).wI x 1 (nI j)).i x 2 = mm := by
  constructor
  · show (if x = x ∧ 0 = 1 then nI j else if x = x ∧ 0 = 0 then nI j + 1 else g.i x 0) = nI (j + 1)
    rw [if_neg (by omega), if_pos ⟨rfl, rfl⟩, nI_1]
  · show (if x = x ∧ 2 = 1 then nI j else if x = x ∧ 2 = 0 then nI j + 1 else g.i x 2) = mm
    rw [if_neg (by omega), if_neg (by omega)]
    exact i4
theorem it_w2 {g : HP} {x j a : Nat} (i1 : g.t x = 35) (hp : g.p x 3 = a) : ((g.wI x 0 (nI j + 1)).wI x 1 (nI j)).t x = 35 ∧ ((g.wI x 0 (nI j + 1)).wI x 1 (nI j)).p x 3 = a := ⟨i1, hp⟩
theorem it_ex {h g : HP} {a j : Nat} {mm : Int32} (hg : ∀ x, x ≠ h.n → SameC h g x) (i1 : g.t h.n = 35) (i2 : g.i h.n 0 = nI j) (i4 : g.i h.n 2 = mm) (hp : g.p h.n 3 = a) (han : a ≠ h.n) (hk2 : kC g) (ht : h.t a = 8) (hm : h.m a = mm) (hjl : j < (h.s a).length) (h64 : (h.s a).length ≤ 64) : ∃ h1, CM md_J18_next [cR h.n] g (rR ((h.s a).getD j 0)) h1 ∧ h1.t h.n = 35 ∧ h1.i h.n 0 = nI (j + 1) ∧ h1.i h.n 2 = mm ∧ h1.p h.n 3 = a ∧ ∀ x, x ≠ h.n → SameC h h1 x :=
  ⟨(g.wI h.n 0 (nI j + 1)).wI h.n 1 (nI j), it_next0 i1 i2 i4 hp (hg a han) hk2 ht hm hjl h64, (it_w2 i1 hp).1, (it_w i4).1, (it_w i4).2, (it_w2 i1 hp).2, fun x hx => ((hg x hx).trans (sc_wI hx)).trans (sc_wI hx)⟩
theorem it_kc {h : HP} {a j : Nat} {mm lr : Int32} (hn : 270 ≤ h.n) (hkc : kC h) : kC (h.itr a mm j lr) :=
  ⟨(itr_oth (by omega)).1.trans hkc.1, (itr_oth (by omega)).1.trans hkc.2.1, (itr_oth (by omega)).1.trans hkc.2.2.1, (itr_oth (by omega)).1.trans hkc.2.2.2⟩
theorem cw_next {d : MD} {c q pc la i a j : Nat} {mm : Int32} {ls : List (Nat × CV)} {st : List CV} {f : Nat → GF} (hni : (ls.map fun q => q.1 == i).any id = false) (hl : ldOK d pc la i) (hC : ∀ x, CallOK d md_J18_next [cR x] (pc + la) 5 st (some (x, 35))) (k : ∀ x, CWF d c q (pc + la + 5) ((i, cT a mm (j + 1)) :: ls) (cR x :: st) (f x)) : CWF d c q pc ((i, cT a mm j) :: ls) st (nextG a mm j f) := by
  intro h r h' hf p l e s m args below meth cd γ ρ0 β0 h0 ρ β τ H locs cells slots lsA hx hv hw
  unfold nextG at hf
  split at hf
  · rename_i hg
    obtain ⟨⟨ht, hkc⟩, hm, hjl⟩ := hg
    have hwf := emb_wfh hv.2.2.1
    have han : a < h.n := hv.2.2.2.2.1 _ List.mem_cons_self
    have h64 := hwf.2.2.2 a ht
    have hys := (hwf.2.1 a (by omega)).2.2.2
    have hxw : (h.s a).getD j 0 < h.n := getD_lt hys (by omega)
    have hp : ∀ {lr : Int32}, (h.itr a mm j lr).p h.n 3 = a := by
      intro lr
      rw [itr_at.2.2.2.2.1]
      rfl
    exact w_itc (v1 := cR ((h.s a).getD j 0)) (j' := j + 1) hx hv (ni_of hni) hw hl hC rfl rfl hxw (fun lr => it_ex (g := h.itr a mm j lr) (fun x hx => itr_oth hx) itr_at.1 itr_at.2.1 itr_at.2.2.2.1 hp (by omega) (it_kc hwf.1 hkc) ht hm hjl h64) (fun ρ' β' τ' H' locs' hv' => k _ h r h' hf p l e s m args below meth cd γ ρ0 β0 h0 ρ' β' τ' H' locs' cells slots lsA hx hv' ⟨hxw, hw⟩)
  · cases hf
