/-! LISTS: iterators -/
set_option maxRecDepth 100000
theorem ev_obj {a : Nat} {f : GF} {h : HP} (ht : h.t a ≠ 0) : objG a f h = f h := if_neg ht
def s_iter (a : Nat) : GF := fun h => if h.t a = 8 ∧ kC h then some (rR (h.n + 1), (((h.bmp.mkc 35 0).wP (h.n + 1) 3 a).wI (h.n + 1) 1 (-1)).wI (h.n + 1) 2 (h.m a)) else none
theorem c_iter (a : Nat) : CMF md_J2_iterator [cR a] (s_iter a) := by
  refine cmf_rl (a := a) (m_J2_iterator a) fun h r h' hf => ?_
  unfold s_iter at hf
  split at hf
  · rename_i hg
    obtain ⟨ht, hk⟩ := hg
    cases hf
    refine ⟨ht, hk.1, hk.2.1, fun _ hw => ⟨Nat.lt_succ_self _, by show h.n ≤ h.n + 1 + 1; omega, fun h1 b cap hR hn => ?_⟩⟩
    have han : a < h.n := (hw.2.1 a (by omega)).2.1
    obtain ⟨r1, r2, r3, r4, r5, r6, r7, r8, r9⟩ := id hR
    have h2a : ∀ x : Nat, x ≠ h1.n → (h1.mkc 35 0).t x = h1.t x := fun x hx => if_neg hx
    have hself : (h1.mkc 35 0).t h1.n = 35 := if_pos rfl
    refine ⟨(((h1.mkc 35 0).wP h1.n 3 a).wI h1.n 1 (-1)).wI h1.n 2 (h.m a), ?_, rl_clsN hw ht hR hn (fun x hx => (((sc_mkc (by omega)).trans (sc_wP (by omega))).trans (sc_wI (by omega))).trans (sc_wI (by omega))) rfl (fun x hx => ((((sc_bmp (by omega)).trans (sc_mkc (by show x ≠ h.n + 1; omega))).trans (sc_wP (by omega))).trans (sc_wI (by omega))).trans (sc_wI (by omega))) ?_ (fun x hx => ?_) ?_ (fun k => ?_) (fun y hy => ?_)⟩
    · have e : g_J18_init h1.n a (h1.mkc 35 0) = some (rV, (((h1.mkc 35 0).wP h1.n 3 a).wI h1.n 1 (-1)).wI h1.n 2 (h.m a)) := by
        unfold g_J18_init
        rw [ev_putP hself, ev_obj (by show (h1.mkc 35 0).t h1.n ≠ 0; omega), ev_putI (by exact hself), ev_getP (by exact hself)]
        rw [show (((h1.mkc 35 0).wP h1.n 3 a).wI h1.n 1 (-1)).p h1.n 3 = a from if_pos ⟨rfl, rfl⟩]
        rw [ev_getI (show (((h1.mkc 35 0).wP h1.n 3 a).wI h1.n 1 (-1)).t a = 34 from (h2a a (by omega)).trans r3)]
        rw [show (((h1.mkc 35 0).wP h1.n 3 a).wI h1.n 1 (-1)).i a 0 = h.m a from (if_neg (by omega)).trans ((congrFun (show (h1.mkc 35 0).i a = h1.i a from if_neg (by omega)) 0).trans r4)]
        rw [ev_putI (by exact hself)]
        rfl
      show (fun p1 => invV (some (p1, 35)) (g_J18_init p1 a) (retG (rR p1))) h1.n (h1.mkc 35 0) = _
      dsimp only
      rw [ev_invV (ev_rcv hself) e, hn]
      rfl
    · show up1 (up1 h.t h.n 0) (h.n + 1) 35 h.n = 0
      unfold up1
      rw [if_neg (by omega), if_pos rfl]
    · show up1 (up1 h.t h.n 0) (h.n + 1) 35 x = 0
      unfold up1
      rw [if_neg (by omega), if_neg (by omega)]
      exact wf_t0 hw (by omega)
    · rw [hn]
      have q0 : ∀ {α : Type} (f g : Nat → α) (v : α), up1 f (h.n + 1) v (h.n + 1) = up1 g h1.n v (h.n + 1) := fun f g v => by rw [hn]; exact (if_pos rfl).trans (if_pos rfl).symm
      have ei : (h.bmp.mkc 35 0).i (h.n + 1) = (h1.mkc 35 0).i (h.n + 1) := q0 _ _ _
      have ep : (h.bmp.mkc 35 0).p (h.n + 1) = (h1.mkc 35 0).p (h.n + 1) := q0 _ _ _
      refine ⟨q0 _ _ _, q0 _ _ _, funext fun k => ?_, funext fun k => ?_, q0 _ _ _, q0 _ _ _, q0 _ _ _⟩
      · show (if h.n + 1 = h.n + 1 ∧ k = 2 then h.m a else if h.n + 1 = h.n + 1 ∧ k = 1 then -1 else (h.bmp.mkc 35 0).i (h.n + 1) k) = (if h.n + 1 = h.n + 1 ∧ k = 2 then h.m a else if h.n + 1 = h.n + 1 ∧ k = 1 then -1 else (h1.mkc 35 0).i (h.n + 1) k)
        rw [ei]
      · show (if h.n + 1 = h.n + 1 ∧ k = 3 then a else (h.bmp.mkc 35 0).p (h.n + 1) k) = (if h.n + 1 = h.n + 1 ∧ k = 3 then a else (h1.mkc 35 0).p (h.n + 1) k)
        rw [ep]
    · show (if h.n + 1 = h1.n ∧ k = 3 then a else (h1.mkc 35 0).p (h.n + 1) k) < h.n + 2
      have : (h1.mkc 35 0).p (h.n + 1) = fun _ => 0 := by rw [← hn]; exact if_pos rfl
      rw [this]
      show (if _ then a else 0) < _
      split <;> omega
    · have : (h1.mkc 35 0).s (h.n + 1) = [] := by rw [← hn]; exact if_pos rfl
      rw [show ((((h1.mkc 35 0).wP h1.n 3 a).wI h1.n 1 (-1)).wI h1.n 2 (h.m a)).s (h.n + 1) = [] from this] at hy
      cases hy
  · cases hf
def s_hasNext (x : Nat) : GF := fun h => if h.t x = 35 ∧ h.t (h.p x 3) = 8 ∧ kC h then some (rI (if h.i x 0 = nI (h.s (h.p x 3)).length then 0 else 1), h) else none
theorem c_hasNext (x : Nat) : CMF md_J18_hasNext [cR x] (s_hasNext x) := by
  refine cmf_rlE (m_J18_hasNext x) fun h r h' hf => ?_
  unfold s_hasNext at hf
  split at hf
  · rename_i hg
    obtain ⟨hx, ht, hk⟩ := hg
    cases hf
    refine ⟨h.p x 3, ht, hk.1, hk.2.1, fun _ hw => ⟨trivial, Nat.le_refl _, fun h1 b cap hR hn => ⟨h1, ?_, rl_same hw ht hR⟩⟩⟩
    have hxa : x ≠ h.p x 3 := fun q => by rw [← q] at ht; omega
    have hxn : x < h.n := (hw.2.1 x (by omega)).2.1
    obtain ⟨r1, r2, r3, r4, r5, r6, r7, r8, r9⟩ := id hR
    obtain ⟨s1, s2, s3, s4, s5, s6, s7⟩ := r1 x hxa hxn
    unfold g_J18_hasNext
    rw [ev_getI (s1.trans hx), ev_getP (s1.trans hx), s3, s4, ev_getI r3, r5]
    by_cases q : h.i x 0 = nI (h.s (h.p x 3)).length
    · rw [if_pos q, if_pos q]
      rfl
    · rw [if_neg q, if_neg q]
      rfl
  · cases hf
def s_next (x : Nat) : GF := fun h => if h.t x = 35 ∧ (h.t (h.p x 3) = 8 ∧ kC h) ∧ h.i x 2 = h.m (h.p x 3) ∧ ¬ (h.i x 0 < 0) ∧ (h.i x 0).toNatClampNeg < (h.s (h.p x 3)).length then some (rR ((h.s (h.p x 3)).getD (h.i x 0).toNatClampNeg 0), (h.wI x 0 (h.i x 0 + 1)).wI x 1 (h.i x 0)) else none
theorem c_next (x : Nat) : CMF md_J18_next [cR x] (s_next x) := by
  refine cmf_rlE (m_J18_next x) fun h r h' hf => ?_
  unfold s_next at hf
  split at hf
  · rename_i hg
    obtain ⟨hx, ⟨ht, hk⟩, hm, hj, hjl⟩ := hg
    obtain ⟨u, hu, hju⟩ := nI_of hj
    rw [hju] at hf hjl
    rw [nI_clamp hu] at hf hjl
    cases hf
    refine ⟨h.p x 3, ht, hk.1, hk.2.1, fun _ hw => ?_⟩
    have hxa : x ≠ h.p x 3 := fun q => by rw [← q] at ht; omega
    have hxn : x < h.n := (hw.2.1 x (by omega)).2.1
    have h64 := hw.2.2.2 _ ht
    have hys := (hw.2.1 (h.p x 3) (by omega)).2.2.2
    have hw1 := hw.1
    refine ⟨getD_lt hys (by show 0 < h.n; omega), Nat.le_refl _, fun h1 b cap hR hn => ⟨(h1.wI x 0 (nI u + 1)).wI x 1 (nI u), ?_, ?_⟩⟩
    · obtain ⟨r1, r2, r3, r4, r5, r6, r7, r8, r9⟩ := id hR
      obtain ⟨s1, s2, s3, s4, s5, s6, s7⟩ := r1 x hxa hxn
      have e : g_J18_checkForComodification x h1 = some (rV, h1) := by
        unfold g_J18_checkForComodification
        rw [ev_getP (s1.trans hx), s4, ev_getI r3, r4, ev_getI (s1.trans hx), s3, hm]
        rw [if_pos rfl]
        rfl
      have hx1 : (h1.wI x 0 (nI u + 1)).t x = 35 := s1.trans hx
      unfold g_J18_next
      rw [ev_invV (ev_rcv (s1.trans hx)) e, ev_getI (s1.trans hx), ev_getP (s1.trans hx), s3, s4, ev_getI r3, r5, hju, if_pos (nI_lt hjl (by omega)), ev_getP (s1.trans hx), s4, ev_getP r3, r6]
      rcases r9 with ⟨-, q2, -⟩ | ⟨q1, q2, q3, q4, q5, q6⟩
      · omega
      · rw [ev_alenK4 q1, q5, if_pos (nI_lt (by omega) (by omega)), ev_putI (s1.trans hx), ev_putI hx1, ev_aald u rfl hu (by exact q1) (by show u < h1.l b; omega)]
        rw [show ((h1.wI x 0 (nI u + 1)).wI x 1 (nI u)).p b u = h1.p b u from rfl, q6]
        rfl
    · have hw' : WFh ((h.wI x 0 (nI u + 1)).wI x 1 (nI u)) := hw
      refine rl_same (b := b) (cap := cap) hw' ht ?_
      obtain ⟨r1, r2, r3, r4, r5, r6, r7, r8, r9⟩ := hR
      refine ⟨fun y hy hyn => ?_, r2, r3, ?_, ?_, r6, r7, r8, r9⟩
      · obtain ⟨s1, s2, s3, s4, s5, s6, s7⟩ := r1 y hy hyn
        refine ⟨s1, s2, funext fun k => ?_, s4, s5, s6, s7⟩
        show (if y = x ∧ k = 1 then nI u else if y = x ∧ k = 0 then nI u + 1 else h1.i y k) = (if y = x ∧ k = 1 then nI u else if y = x ∧ k = 0 then nI u + 1 else h.i y k)
        rw [s3]
      · show (if h.p x 3 = x ∧ 0 = 1 then nI u else if h.p x 3 = x ∧ 0 = 0 then nI u + 1 else h1.i (h.p x 3) 0) = h.m (h.p x 3)
        rw [if_neg (fun q => hxa q.1.symm), if_neg (fun q => hxa q.1.symm), r4]
      · show (if h.p x 3 = x ∧ 2 = 1 then nI u else if h.p x 3 = x ∧ 2 = 0 then nI u + 1 else h1.i (h.p x 3) 2) = _
        rw [if_neg (fun q => hxa q.1.symm), if_neg (fun q => hxa q.1.symm)]
        exact r5
  · cases hf
