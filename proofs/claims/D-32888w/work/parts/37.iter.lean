/-! LISTS: arrays and iterators made from a list; constructors -/
set_option maxRecDepth 100000
theorem cmf_rlE {d : MD} {args : List CV} {f g : GF} (hM : CMF d args g) (key : ∀ h r h', f h = some (r, h') → ∃ a, h.t a = 8 ∧ h.t 1 = 10 ∧ h.t 2 = 10 ∧ (wfS h.n args → WFh h → wfo h'.n r ∧ h.n ≤ h'.n ∧ ∀ h1 b cap, RL h a h1 b cap (h.s a) (h.m a) → h1.n = h.n + 1 → ∃ h2, g h1 = some (r, h2) ∧ ClsTo h2 a h')) : CMF d args f := by
  intro h r h' hf
  obtain ⟨a, ht, ht1, ht2, hk⟩ := key h r h' hf
  refine cm_pre fun γ ρ β A H hwf hE => ?_
  have hw := emb_wfh hE
  obtain ⟨hr, hn, hR⟩ := hk hwf hw
  refine ⟨hr, hn, cm_list hr hn hwf ht ht1 ht2 (fun b hb hs => ?_) (fun cap c1 c2 c3 => ?_)⟩
  · obtain ⟨h2, e1, e2⟩ := hR (h.opK a b) b 0 (rl_opK hw ht (by rcases hb with rfl | rfl; exact ht1; exact ht2) hs) rfl
    exact ⟨h2, hM _ _ _ e1, e2⟩
  · obtain ⟨h2, e1, e2⟩ := hR (h.opA a cap) h.n cap (rl_opA hw ht c1 c2 c3) rfl
    exact ⟨h2, hM _ _ _ e1, e2⟩
def HP.bmp (h : HP) : HP := HP.mk (h.n + 1) (up1 h.t h.n 0) h.l h.i h.p h.j h.s h.m
/-- the same cell at x -/
def SameC (h h1 : HP) (x : Nat) : Prop := h1.t x = h.t x ∧ h1.l x = h.l x ∧ h1.i x = h.i x ∧ h1.p x = h.p x ∧ h1.j x = h.j x ∧ h1.s x = h.s x ∧ h1.m x = h.m x
theorem rl_clsN {h h1 h2 h' : HP} {a b cap : Nat} (hw : WFh h) (ht : h.t a = 8) (hR : RL h a h1 b cap (h.s a) (h.m a)) (hn : h1.n = h.n + 1) (h2s : ∀ x, x < h.n + 1 → SameC h1 h2 x) (hn' : h'.n = h.n + 2) (hs' : ∀ x, x < h.n → SameC h h' x) (h0 : h'.t h.n = 0) (hx0 : ∀ x, h.n + 2 ≤ x → h'.t x = 0)
    (hc : SameC h2 h' (h.n + 1)) (hp : ∀ k, h2.p (h.n + 1) k < h.n + 2) (hsx : ∀ y ∈ h2.s (h.n + 1), y < h.n + 2) : ClsTo h2 a h' := by
  obtain ⟨r1, r2, r3, r4, r5, r6, r7, r8, r9⟩ := hR
  obtain ⟨w1, w2, w3, w4⟩ := id hw
  obtain ⟨a1, a2, a3, a4⟩ := w2 a (by omega)
  obtain ⟨u1, u2, u3, u4, u5, u6, u7⟩ := h2s a (by omega)
  obtain ⟨v1, v2, v3, v4, v5, v6, v7⟩ := hs' a a2
  have h64 := w4 a ht
  refine ⟨by omega, by rw [u1]; exact r3, by rw [v1]; exact ht, by omega, by rw [v7, u3, r4], by rw [u3, v6, r5], by rw [v6]; exact h64, fun k => by rw [v4]; have := a3 k; omega, fun x hx => by rw [v6] at hx; have := a4 x hx; omega, ?_, fun x hxa hx => ?_⟩
  · rw [u4, r6, v6]
    rcases r9 with ⟨q1, q2, q3, q4⟩ | ⟨q1, q2, q3, q4, q5, q6⟩
    · refine Or.inl ⟨q1, ?_, List.eq_nil_of_length_eq_zero (by omega)⟩
      rw [(h2s b (by omega)).1]
      exact q3
    · have hb : b = h.n := by omega
      obtain ⟨z1, z2, z3, z4, z5, z6, z7⟩ := h2s b (by omega)
      refine Or.inr ⟨by rw [z1]; exact q1, by rw [hb]; exact h0, by rw [z2]; omega, by rw [z2]; omega, by rw [z2]; omega, fun k => by rw [z4]; exact q6 k⟩
  · by_cases hx1 : x < h.n
    · obtain ⟨c1, c2, c3, c4, c5, c6, c7⟩ := hs' x hx1
      obtain ⟨d1, d2, d3, d4, d5, d6, d7⟩ := h2s x (by omega)
      obtain ⟨e1, e2, e3, e4, e5, e6, e7⟩ := r1 x hxa hx1
      obtain ⟨-, -, f3, f4⟩ := w2 x (by rw [← c1]; exact hx)
      refine ⟨by rw [c1, d1, e1], by rw [c2, d2, e2], by rw [c3, d3, e3], by rw [c4, d4, e4], by rw [c5, d5, e5], by rw [c6, d6, e6], by rw [c7, d7, e7], by omega, fun k => ?_, fun y hy => ?_⟩
      · rw [d4, e4]
        have := f3 k
        omega
      · rw [d6, e6] at hy
        have := f4 y hy
        omega
    · by_cases hx2 : x = h.n
      · rw [hx2] at hx
        exact absurd h0 hx
      · by_cases hx3 : x = h.n + 1
        · rw [hx3]
          obtain ⟨c1, c2, c3, c4, c5, c6, c7⟩ := hc
          exact ⟨c1, c2, c3, c4, c5, c6, c7, by omega, fun k => by rw [hn']; exact hp k, fun y hy => by rw [hn']; exact hsx y hy⟩
        · exact absurd (hx0 x (by omega)) hx
theorem sc_mkc {h : HP} {t l x : Nat} (hx : x ≠ h.n) : SameC h (h.mkc t l) x := ⟨if_neg hx, if_neg hx, if_neg hx, if_neg hx, if_neg hx, if_neg hx, if_neg hx⟩
theorem sc_wR {h : HP} {b x : Nat} {row : Nat → Nat} (hx : x ≠ b) : SameC h (h.wR b row) x := ⟨rfl, rfl, rfl, if_neg hx, rfl, rfl, rfl⟩
theorem sc_wI {h : HP} {b k x : Nat} {v : Int32} (hx : x ≠ b) : SameC h (h.wI b k v) x := ⟨rfl, rfl, funext fun _ => if_neg (fun q => hx q.1), rfl, rfl, rfl, rfl⟩
theorem sc_wP {h : HP} {b k x : Nat} {v : Nat} (hx : x ≠ b) : SameC h (h.wP b k v) x := ⟨rfl, rfl, rfl, funext fun _ => if_neg (fun q => hx q.1), rfl, rfl, rfl⟩
theorem sc_bmp {h : HP} {x : Nat} (hx : x ≠ h.n) : SameC h h.bmp x := ⟨if_neg hx, rfl, rfl, rfl, rfl, rfl, rfl⟩
theorem SameC.trans {h h1 h2 : HP} {x : Nat} (a : SameC h h1 x) (b : SameC h1 h2 x) : SameC h h2 x := by
  obtain ⟨a1, a2, a3, a4, a5, a6, a7⟩ := a
  obtain ⟨b1, b2, b3, b4, b5, b6, b7⟩ := b
  exact ⟨b1.trans a1, b2.trans a2, b3.trans a3, b4.trans a4, b5.trans a5, b6.trans a6, b7.trans a7⟩
/-! toArray -/
def s_toArray (a : Nat) : GF := fun h => if h.t a = 8 ∧ kC h ∧ (∀ y ∈ h.s a, elOK h y) then some (rR (h.n + 1), (h.bmp.mkc 4 (h.s a).length).wR (h.n + 1) (fun k => (h.s a).getD k 0)) else none
theorem wf_t0 {h : HP} (hw : WFh h) {x : Nat} (hx : h.n ≤ x) : h.t x = 0 := by
  by_cases q : h.t x = 0
  · exact q
  · have := (hw.2.1 x q).2.1
    omega
theorem c_toArray (a : Nat) : CMF md_J2_toArray [cR a] (s_toArray a) := by
  refine cmf_rl (a := a) (m_J2_toArray a) fun h r h' hf => ?_
  unfold s_toArray at hf
  split at hf
  · rename_i hg
    obtain ⟨ht, hk, he⟩ := hg
    cases hf
    refine ⟨ht, hk.1, hk.2.1, fun _ hw => ⟨Nat.lt_succ_self _, by show h.n ≤ h.n + 1 + 1; omega, fun h1 b cap hR hn => ?_⟩⟩
    have h64 := hw.2.2.2 a ht
    have hys := (hw.2.1 a (by omega)).2.2.2
    have hw1 := hw.1
    have a3 : 3 ≠ a := fun q => by have := hk.2.2.1; rw [q] at this; omega
    obtain ⟨r1, r2, r3, r4, r5, r6, r7, r8, r9⟩ := id hR
    have t3 : h1.t 3 = 12 := (rl_t hR a3 (by omega)).trans hk.2.2.1
    refine ⟨(h1.mkc 4 (h.s a).length).wR h1.n (fun k => (h.s a).getD k 0), ?_, rl_clsN hw ht hR hn (fun x hx => (sc_mkc (by omega)).trans (sc_wR (by omega))) rfl (fun x hx => ((sc_bmp (by omega)).trans (sc_mkc (by show x ≠ h.n + 1; omega))).trans (sc_wR (by omega))) ?_ (fun x hx => ?_) ?_ (fun k => ?_) (fun y hy => ?_)⟩
    · unfold g_J2_toArray
      rw [ev_getP r3, r6, ev_getI r3, r5]
      have hb : (h1.t b = 4 ∨ h1.t b = 10) ∧ h1.l b = cap ∧ b ≠ h1.n ∧ (h1.t b = 10 → h1.l b = 0) ∧ ∀ i, i < (h.s a).length → h1.p b i = (h.s a).getD i 0 := by
        rcases r9 with ⟨q1, q2, q3, q4⟩ | ⟨q1, q2, q3, q4, q5, q6⟩
        · exact ⟨Or.inr q3, by omega, by omega, fun _ => q4, fun i hi => by omega⟩
        · exact ⟨Or.inl q1, q5, by omega, fun q => by omega, fun i _ => q6 i⟩
      obtain ⟨b1, b2, b3, b4, b5⟩ := hb
      have hmem : ∀ i, i < min cap (h.s a).length → h1.p b i ∈ h.s a := fun i hi => by
        rw [b5 i (by omega), List.getD_eq_getElem?_getD, List.getElem?_eq_getElem (by omega)]
        exact List.getElem_mem _
      rw [ev_invP rfl (ev_copyOf (cap := cap) (n2 := (h.s a).length) (row := fun k => (h.s a).getD k 0) t3 ⟨b1, b2⟩ b4 b3 r8 h64 (by omega) (fun i hi => rl_el hR (hys _ (hmem i hi)) (he _ (hmem i hi))) (fun i hi => Nat.lt_of_lt_of_le (hys _ (hmem i hi)) r2) (fun k => by
        by_cases z : k < min cap (h.s a).length
        · rw [if_pos z, b5 k (by omega)]
        · rw [if_neg z]
          exact getD_ge (by omega))), hn]
      rfl
    · show up1 (up1 h.t h.n 0) (h.n + 1) 4 h.n = 0
      unfold up1
      rw [if_neg (by omega), if_pos rfl]
    · show up1 (up1 h.t h.n 0) (h.n + 1) 4 x = 0
      unfold up1
      rw [if_neg (by omega), if_neg (by omega)]
      exact wf_t0 hw (by omega)
    · rw [hn]
      refine ⟨?_, ?_, ?_, ?_, ?_, ?_, ?_⟩
      · show up1 _ (h.n + 1) 4 (h.n + 1) = up1 _ h1.n 4 (h.n + 1)
        rw [hn, up_self, up_self]
      · show up1 _ (h.n + 1) _ (h.n + 1) = up1 _ h1.n _ (h.n + 1)
        rw [hn]
        exact (if_pos rfl).trans (if_pos rfl).symm
      · show up1 _ (h.n + 1) _ (h.n + 1) = up1 _ h1.n _ (h.n + 1)
        rw [hn]
        exact (if_pos rfl).trans (if_pos rfl).symm
      · show up1 _ (h.n + 1) _ (h.n + 1) = up1 _ (h.n + 1) _ (h.n + 1)
        exact (if_pos rfl).trans (if_pos rfl).symm
      · show up1 _ (h.n + 1) _ (h.n + 1) = up1 _ h1.n _ (h.n + 1)
        rw [hn]
        exact (if_pos rfl).trans (if_pos rfl).symm
      · show up1 _ (h.n + 1) _ (h.n + 1) = up1 _ h1.n _ (h.n + 1)
        rw [hn]
        exact (if_pos rfl).trans (if_pos rfl).symm
      · show up1 _ (h.n + 1) _ (h.n + 1) = up1 _ h1.n _ (h.n + 1)
        rw [hn]
        exact (if_pos rfl).trans (if_pos rfl).symm
    · rw [show ((h1.mkc 4 (h.s a).length).wR h1.n (fun k => (h.s a).getD k 0)).p (h.n + 1) = fun k => (h.s a).getD k 0 from by rw [← hn]; exact if_pos rfl]
      have := getD_lt (n := h.n) (k := k) hys (by omega)
      show (h.s a).getD k 0 < _
      omega
    · rw [show ((h1.mkc 4 (h.s a).length).wR h1.n (fun k => (h.s a).getD k 0)).s (h.n + 1) = [] from by rw [← hn]; exact if_pos rfl] at hy
      cases hy
  · cases hf
