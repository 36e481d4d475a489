/-! RULES of the clean machine: a loop begins; constructors of lists -/
set_option maxRecDepth 100000
def itG (a : Nat) (f : Int32 → GF) : GF := fun h => if h.t a = 8 ∧ kC h then f (h.m a) h else none
theorem iter_at {h : HP} {a : Nat} (g : HP) (hg : g = (((h.bmp.mkc 35 0).wP (h.n + 1) 3 a).wI (h.n + 1) 1 (-1)).wI (h.n + 1) 2 (h.m a)) : g.t (h.n + 1) = 35 ∧ g.i (h.n + 1) 0 = nI 0 ∧ g.i (h.n + 1) 2 = h.m a ∧ g.p (h.n + 1) 3 = a ∧ (∀ x, x < h.n → SameC h g x) ∧ g.n = h.n + 2 := by
  subst hg
  refine ⟨if_pos rfl, ?_, if_pos ⟨rfl, rfl⟩, if_pos ⟨rfl, rfl⟩, fun x hx => ((((sc_bmp (by omega)).trans (sc_mkc (by show x ≠ h.n + 1; omega))).trans (sc_wP (by omega))).trans (sc_wI (by omega))).trans (sc_wI (by omega)), rfl⟩
  show (if h.n + 1 = h.n + 1 ∧ 0 = 2 then h.m a else if h.n + 1 = h.n + 1 ∧ 0 = 1 then -1 else (h.bmp.mkc 35 0).i (h.n + 1) 0) = nI 0
  rw [if_neg (by omega), if_neg (by omega), show (h.bmp.mkc 35 0).i (h.n + 1) = fun _ => 0 from if_pos rfl, nI_0]
theorem cw_iter {d : MD} {c q pc la i a : Nat} {ls ls' : List (Nat × CV)} {st : List CV} {f : Int32 → GF} (hl : stL i (cR 0) ls = (i, cR 0) :: ls') (hs : stOK d (pc + 5) la i) (hnL : i < d.nL) (hC : CallOK d md_J2_iterator [cR a] pc 5 st (some (a, 8))) (k : ∀ mm, CWF d c q (pc + 5 + la) ((i, cT a mm 0) :: ls') st (f mm)) : CWF d (c + 1) (q + 4) pc ls (cR a :: st) (itG a f) := by
  intro h r h' hf p l e s m args below meth cd γ ρ0 β0 h0 ρ β τ H locs cells slots lsA hx hv hw
  unfold itG at hf
  split at hf
  · rename_i hg
    obtain ⟨ht, hkc⟩ := hg
    have hwf := emb_wfh hv.2.2.1
    have han : a < h.n := (hwf.2.1 a (by omega)).2.1
    have hn0 : h0.n ≤ h.n := hv.1
    obtain ⟨h1, hh1⟩ : ∃ z, z = (((h.bmp.mkc 35 0).wP (h.n + 1) 3 a).wI (h.n + 1) 1 (-1)).wI (h.n + 1) 2 (h.m a) := ⟨_, rfl⟩
    have hM1 : CM md_J2_iterator [cR a] h (rR (h.n + 1)) h1 := c_iter a _ _ _ (by unfold s_iter; rw [if_pos ⟨ht, hkc⟩, hh1])
    obtain ⟨x1, x2, x3, x4, x5, x6⟩ := iter_at h1 hh1
    have hrun := hC p l e s m args below meth cd γ ρ0 β0 h0 ρ β τ H locs cells slots lsA ls c q h (rR (h.n + 1)) h1 hx hv ⟨han, trivial⟩ hw.2 (ev_rcv ht) hM1
    intro T hT X
    rcases hrun T hT X with ⟨v, st₀, t, T', L, e0, X', hL, e1, e1v, ⟨⟨ρ1, β1, v1, hr, hag, hn, ho, hwo, hE1⟩, hz, hk⟩, go⟩ | ⟨q1, st₀, t, T', L, E, ce, e0, X', hL, e1, e1v, ⟨⟨ρ1, β1, hr, -⟩, -⟩, -⟩
    · cases hr
      rw [e0] at hz hk
      have hv2 := vy_back hv hag hn hE1 hz hk hL
      have hW : Weak h1 h := by
        refine ⟨hwf.1, fun x hx => ?_⟩
        obtain ⟨w1, w2, w3, w4⟩ := hwf.2.1 x hx
        obtain ⟨s1, s2, s3, s4, s5, s6, s7⟩ := x5 x w2
        exact ⟨s1.symm, s2.symm, s3.symm, s4.symm, s5.symm, s6.symm, s7.symm, w2, fun k => by rw [s4]; exact w3 k, fun y hy => w4 y (by rw [← s6]; exact hy)⟩
      have hls' : ls' = ls.filter (fun q => !(q.1 == i) && !(q.1 + 1 == i && cat q.2 == 2)) := by
        unfold stL at hl
        exact (List.cons.inj hl).2.symm
      have hsub : ∀ q ∈ ls', q ∈ ls := fun q hq => by rw [hls'] at hq; exact (List.mem_filter.mp hq).1
      have hni : ∀ q ∈ ls', q.1 ≠ i := fun q hq he => by
        rw [hls'] at hq
        have := (List.mem_filter.mp hq).2
        rw [he] at this
        simp at this
      have hpx : pv ρ1 (cR (h.n + 1)) = .ref (ρ1 (h.n + 1)) := pv_ref hE1 (by omega)
      have hst2 : st.map (pv ρ1) = st.map (pv ρ) := pvs_agree hag hw.2
      have hm := stL_map (ρ := ρ1) (τ := τ) (v := cR (h.n + 1)) (i := i) (ls := ls) (ls' := (i, cR (h.n + 1)) :: ls') (by unfold stL; rw [hls'])
      have e5 : ((i, cR (h.n + 1)) :: ls').map (pl ρ1 τ) = ((i, cT a (h.m a) 0) :: ls').map (pl ρ1 (up1 τ i (ρ1 (h.n + 1)))) := by
        rw [List.map_cons, List.map_cons, pls_tau hni]
        congr 1
        show (i, pv ρ1 (cR (h.n + 1))) = (i, Value.ref (up1 τ i (ρ1 (h.n + 1)) i))
        rw [hpx, up_self]
      rw [e5] at hm
      have e6 : pl ρ1 τ (i, cR (h.n + 1)) = (i, .ref (ρ1 (h.n + 1))) := by
        show (i, pv ρ1 (cR (h.n + 1))) = _
        rw [hpx]
      rw [e6] at hm
      have hk2 : ∀ lsB, lv_has lsB d.nL (((i, cT a (h.m a) 0) :: ls').map (pl ρ1 (up1 τ i (ρ1 (h.n + 1))))) → W p l e d.rm s m args below meth cd t.heap _ _ _ (vx_MQ below (QE γ ρ0 β0 h0 s.heap.size r h') (XE γ ρ0 β0 h0 s.heap.size r h') args s d.mc d.ms (ASet γ ρ0 β0 h0 s.heap.size)) (F0 m (pc + 5 + la) lsB (st.map (pv ρ1))) := fun lsB hB =>
        k (h.m a) h r h' hf p l e s m args below meth cd γ ρ0 β0 h0 ρ1 β1 _ t.heap (locs ++ L) (cells + md_J2_iterator.mc) (slots + md_J2_iterator.ms) lsB hx (vy_freeze hv2 x1 x2 x3 x4 hW (wf_t0 hwf (by omega)) hn0 han (fun q hq => hv.2.2.2.2.1 q (hsub q hq)) hsub hni hB) hw.2
      have main : W p l e d.rm s m args below meth cd t.heap (locs ++ L) (cells + md_J2_iterator.mc) (slots + md_J2_iterator.ms) (vx_MQ below (QE γ ρ0 β0 h0 s.heap.size r h') (XE γ ρ0 β0 h0 s.heap.size r h') args s d.mc d.ms (ASet γ ρ0 β0 h0 s.heap.size)) (F0 m (pc + 5) lsA (.ref (ρ1 (h.n + 1)) :: st.map (pv ρ1))) := by
        rcases hs with ⟨jn, hd, hi, rfl⟩ | ⟨hd, rfl⟩
        · exact lv_astore_n hx.1 hx.2.1 hd hi hv2.2.2.2.2.2.2.1 hnL hm hk2
        · exact lv_astore hx.1 hx.2.1 hd hv2.2.2.2.2.2.2.1 hnL hm hk2
      obtain ⟨t2, a1, b1⟩ := main T' e1 X'
      refine ⟨t2, go t2 ?_, b1⟩
      have hv9 : v = some (pv ρ1 (cR (h.n + 1))) := by injection ho
      subst hv9
      have e2 : (some (pv ρ1 (cR (h.n + 1)))).toList ++ st.map (pv ρ) = .ref (ρ1 (h.n + 1)) :: st.map (pv ρ1) := by
        rw [hst2, hpx]
        rfl
      rw [e2]
      exact a1
    · cases hr
  · cases hf
/-! constructors -/
theorem cm_close {d : MD} {args : List CV} {h h1 h' : HP} {r : RV} {a : Nat} (hr : wfo h'.n r) (hn : h.n ≤ h'.n) (hM : CM d args h r h1) (hC : ClsTo h1 a h') (hwf : wfS h.n args) : CM d args h r h' :=
  cm_map fun γ ρ β sz H _ _ hs1 hs2 hE => ⟨hr, hn, ρ, β, h, h1, hM, hwf, Nat.le_refl _, fun _ _ => rfl, fun _ => Iff.rfl, hE, fun ρ' β' H' hE' => ⟨_, emb_cls0 hE' (fun q hq => hq.1) ⟨hs1, hs2⟩ hC⟩⟩
/-- an object becomes a list -/
def HP.lst (h : HP) (a : Nat) (xs : List Nat) (m : Int32) : HP := HP.mk h.n (up1 h.t a 8) h.l h.i h.p h.j (up1 h.s a xs) (up1 h.m a m)
def s_init (a : Nat) : GF := fun h => if (h.t a = 34 ∧ kC h) ∧ h.i a 2 = 0 then some (rV, h.lst a [] 0) else none
theorem ev_J1 {a : Nat} {h : HP} (ht : h.t a = 34) : g_J1_init a h = some (rV, h.wI a 0 0) := by
  unfold g_J1_init
  rw [ev_invV (h1 := h) (ev_rcv ht) (by unfold g_J0_init; rw [ev_obj (by omega)]; rfl), ev_putI ht]
  rfl
theorem c_init (a : Nat) : CMF md_J2_init [cR a] (s_init a) := by
  intro h r h' hf
  unfold s_init at hf
  split at hf
  · rename_i hg
    obtain ⟨⟨ht, hkc⟩, h2⟩ := hg
    cases hf
    refine cm_pre fun γ ρ β A H hwfS hE => ?_
    have hw := emb_wfh hE
    have han : a < h.n := (hw.2.1 a (by omega)).2.1
    have e : g_J2_init a h = some (rV, (h.wI a 0 0).wP a 1 1) := by
      unfold g_J2_init
      rw [ev_invV (ev_rcv ht) (ev_J1 ht), ev_gs (by exact hkc.1), ev_putP (by exact ht)]
      rfl
    obtain ⟨-, -, -, l6⟩ := emb_obj hE (ci := 14) rfl ht
    refine ⟨trivial, Nat.le_refl _, ?_⟩
    refine cm_close (a := a) trivial (Nat.le_refl _) (m_J2_init a _ _ _ e) ?_ hwfS
    obtain ⟨w1, w2, w3, w4⟩ := hw.2.1 a (by omega)
    refine ⟨hw.1, ht, if_pos rfl, han, ?_, ?_, by rw [show (h.lst a [] 0).s a = [] from if_pos rfl]; exact Nat.zero_le _, w3, (fun x hx => by rw [show (h.lst a [] 0).s a = [] from if_pos rfl] at hx; cases hx), Or.inl ⟨Or.inl (if_pos ⟨rfl, rfl⟩), ?_, if_pos rfl⟩, fun x hx hx0 => ?_⟩
    · exact (if_pos rfl).trans (if_pos ⟨rfl, rfl⟩).symm
    · rw [show (h.lst a [] 0).s a = [] from if_pos rfl]
      exact (if_neg (by omega)).trans (h2.trans nI_0.symm)
    · rw [show ((h.wI a 0 0).wP a 1 1).p a 1 = 1 from if_pos ⟨rfl, rfl⟩]
      exact hkc.1
    · have hx0 : h.t x ≠ 0 := fun q => hx0 ((if_neg hx).trans q)
      obtain ⟨u1, u2, u3, u4⟩ := hw.2.1 x hx0
      obtain ⟨s1, s2, s3, s4, s5, s6, s7⟩ := (sc_wI (h := h) (b := a) (k := 0) (v := 0) hx).trans (sc_wP (b := a) (k := 1) (v := 1) hx)
      exact ⟨(if_neg hx).trans s1.symm, s2.symm, s3.symm, s4.symm, s5.symm, (if_neg hx).trans s6.symm, (if_neg hx).trans s7.symm, u2, fun k => by rw [s4]; exact u3 k, fun y hy => by rw [s6] at hy; exact u4 y hy⟩
  · cases hf
