/-! LISTS: a list made of another; marks told -/
set_option maxRecDepth 100000
theorem toA_at {h : HP} {xs : List Nat} (g : HP) (hg : g = (h.bmp.mkc 4 xs.length).wR (h.n + 1) (fun k => xs.getD k 0)) : g.t (h.n + 1) = 4 ∧ g.l (h.n + 1) = xs.length ∧ (∀ k, g.p (h.n + 1) k = xs.getD k 0) ∧ (∀ x, x < h.n → SameC h g x) ∧ g.n = h.n + 2 := by
  subst hg
  exact ⟨if_pos rfl, if_pos rfl, fun k => congrFun (if_pos rfl) k, fun x hx => ((sc_bmp (by omega)).trans (sc_mkc (by show x ≠ h.n + 1; omega))).trans (sc_wR (by omega)), rfl⟩
def s_init2 (a c : Nat) : GF := fun h => if (h.t a = 34 ∧ kC h) ∧ h.i a 2 = 0 ∧ h.t c = 8 ∧ (∀ y ∈ h.s c, elOK h y) then some (rV, h.lst a (h.s c) 0) else none
theorem lst_cls {h h3 : HP} {a b : Nat} {xs : List Nat} (hw : WFh h) (ht : h.t a = 34) (hxs : ∀ x ∈ xs, x < h.n) (h64 : xs.length ≤ 64) (t3 : h3.t a = 34) (i0 : h3.i a 0 = 0) (i2 : h3.i a 2 = nI xs.length) (p1 : h3.p a 1 = b) (hb : ((b = 1 ∨ b = 2) ∧ h3.t b = 10 ∧ xs = []) ∨ (h3.t b = 4 ∧ h.n ≤ b ∧ 0 < xs.length ∧ h3.l b = xs.length ∧ ∀ k, h3.p b k = xs.getD k 0)) (hs : ∀ x, x ≠ a → x < h.n → SameC h h3 x) : ClsTo h3 a (h.lst a xs 0) := by
  obtain ⟨w1, w2, w3, w4⟩ := hw.2.1 a (by omega)
  have es : (h.lst a xs 0).s a = xs := if_pos rfl
  have em : (h.lst a xs 0).m a = 0 := if_pos rfl
  refine ⟨hw.1, t3, if_pos rfl, w2, by rw [em, i0], by rw [es, i2], by rw [es]; exact h64, w3, by rw [es]; exact hxs, ?_, fun x hx hx0 => ?_⟩
  · rw [p1, es]
    rcases hb with ⟨q1, q2, q3⟩ | ⟨q1, q2, q3, q4, q5⟩
    · exact Or.inl ⟨q1, q2, q3⟩
    · refine Or.inr ⟨q1, (if_neg (by omega)).trans (wf_t0 hw q2), by omega, by omega, by omega, q5⟩
  · have hx0 : h.t x ≠ 0 := fun q => hx0 ((if_neg hx).trans q)
    obtain ⟨u1, u2, u3, u4⟩ := hw.2.1 x hx0
    obtain ⟨s1, s2, s3, s4, s5, s6, s7⟩ := hs x hx u2
    exact ⟨(if_neg hx).trans s1.symm, s2.symm, s3.symm, s4.symm, s5.symm, (if_neg hx).trans s6.symm, (if_neg hx).trans s7.symm, u2, fun k => by rw [s4]; exact u3 k, fun y hy => by rw [s6] at hy; exact u4 y hy⟩
theorem wf_wI {h : HP} {a k : Nat} {v : Int32} (hw : WFh h) : WFh (h.wI a k v) := hw
theorem c_init2 (a c : Nat) : CMF md_J2_init_2 [cR a, cR c] (s_init2 a c) := by
  intro h r h' hf
  unfold s_init2 at hf
  split at hf
  · rename_i hg
    obtain ⟨⟨ht, hkc⟩, h2, htc, hel⟩ := hg
    cases hf
    refine cm_pre fun γ ρ β A H hwfS hE => ?_
    have hw := emb_wfh hE
    have hw1 := hw.1
    have hac : c ≠ a := fun q => by rw [q, ht] at htc; omega
    have han : a < h.n := (hw.2.1 a (by omega)).2.1
    have hcn : c < h.n := (hw.2.1 c (by omega)).2.1
    have hys := (hw.2.1 c (by omega)).2.2.2
    have h64 := hw.2.2.2 c htc
    refine ⟨trivial, Nat.le_refl _, ?_⟩
    obtain ⟨g, hg⟩ : ∃ g, g = ((h.wI a 0 0).bmp.mkc 4 (h.s c).length).wR ((h.wI a 0 0).n + 1) (fun k => (h.s c).getD k 0) := ⟨_, rfl⟩
    have eT : s_toArray c (h.wI a 0 0) = some (rR (h.n + 1), g) := by
      rw [hg]
      exact if_pos ⟨htc, hkc, hel⟩
    obtain ⟨g1, g2, g3, g4, g5⟩ := toA_at g hg
    have g1 : g.t (h.n + 1) = 4 := g1
    have g2 : g.l (h.n + 1) = (h.s c).length := g2
    have g3 : ∀ k, g.p (h.n + 1) k = (h.s c).getD k 0 := g3
    have g4 : ∀ x, x < h.n → SameC (h.wI a 0 0) g x := g4
    obtain ⟨s1, s2, s3, s4, s5, s6, s7⟩ := g4 a han
    have ta : g.t a = 34 := s1.trans ht
    have ia0 : g.i a 0 = 0 := by
      rw [s3]
      exact if_pos ⟨rfl, rfl⟩
    have hso : ∀ x, x ≠ a → x < h.n → SameC h g x := fun x hx hn => (sc_wI hx).trans (g4 x hn)
    have hkt : ∀ z, z < 270 → z ≠ a → g.t z = h.t z := fun z hz hza => (hso z hza (by omega)).1
    have a1 : 1 ≠ a := fun q => by have := hkc.1; rw [q] at this; omega
    have a2 : 2 ≠ a := fun q => by have := hkc.2.1; rw [q] at this; omega
    have a3 : 261 ≠ a := fun q => by have := hkc.2.2.2; rw [q] at this; omega
    by_cases hz : h.s c = []
    · have hl0 : (h.s c).length = 0 := by rw [hz]; rfl
      have e : g_J2_init_2 a c h = some (rV, (g.wI a 2 (nI 0)).wP a 1 2) := by
        unfold g_J2_init_2
        rw [ev_invV (ev_rcv ht) (ev_J1 ht), ev_invP (ev_rcv (show (h.wI a 0 0).t c = 8 from htc)) eT, ev_alenK4 g1, g2, hl0, ev_putI ta, if_pos nI_0, ev_gs (show (g.wI a 2 (nI 0)).t 2 = 10 from (hkt 2 (by omega) a2).trans hkc.2.1), ev_putP (by exact ta)]
        rfl
      refine cm_close (a := a) trivial (Nat.le_refl _) (m_J2_init_2 a c _ _ _ e) (lst_cls (b := 2) hw ht hys h64 ta ?_ ?_ (if_pos ⟨rfl, rfl⟩) (Or.inl ⟨Or.inr rfl, (hkt 2 (by omega) a2).trans hkc.2.1, hz⟩) (fun x hx hn => ((hso x hx hn).trans (sc_wI hx)).trans (sc_wP hx))) hwfS
      · exact (if_neg (by omega)).trans ia0
      · rw [hl0]
        exact if_pos ⟨rfl, rfl⟩
    · have hl0 : 0 < (h.s c).length := List.length_pos_iff.mpr hz
      have hna : a ≠ h.n + 1 := by omega
      have e : g_J2_init_2 a c h = some (rV, (g.wI a 2 (nI (h.s c).length)).wP a 1 (h.n + 1)) := by
        unfold g_J2_init_2
        rw [ev_invV (ev_rcv ht) (ev_J1 ht), ev_invP (ev_rcv (show (h.wI a 0 0).t c = 8 from htc)) eT, ev_alenK4 g1, g2, ev_putI ta, if_neg (nI_ne0 hl0 (by omega))]
        have t8 : (g.wI a 2 (nI (h.s c).length)).t c = 8 := (hso c hac hcn).1.trans htc
        have t12 : (g.wI a 2 (nI (h.s c).length)).t 261 = 12 := (hkt 261 (by omega) a3).trans hkc.2.2.2
        rw [show ∀ f : Nat → GF, gcLG c f (g.wI a 2 (nI (h.s c).length)) = f 261 (g.wI a 2 (nI (h.s c).length)) from fun f => if_pos ⟨t8, t12⟩, ev_mir t12, ev_acEq rfl, ev_putP (by exact ta)]
        rfl
      refine cm_close (a := a) trivial (Nat.le_refl _) (m_J2_init_2 a c _ _ _ e) (lst_cls (b := h.n + 1) hw ht hys h64 ta ?_ (if_pos ⟨rfl, rfl⟩) (if_pos ⟨rfl, rfl⟩) (Or.inr ⟨g1, by omega, hl0, g2, fun k => ?_⟩) (fun x hx hn => ((hso x hx hn).trans (sc_wI hx)).trans (sc_wP hx))) hwfS
      · exact (if_neg (by omega)).trans ia0
      · exact (if_neg (fun q => hna q.1.symm)).trans (g3 k)
  · cases hf
/-! marks told: by their class -/
