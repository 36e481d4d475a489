/-! LISTS: growth, add, insert -/
set_option maxRecDepth 100000
theorem wR_mkc0 {h : HP} {t l : Nat} : (h.mkc t l).wR h.n (fun _ => 0) = h.mkc t l := by
  have : up1 (up1 h.p h.n (fun _ => 0)) h.n (fun _ => 0) = up1 h.p h.n (fun _ => 0) := by
    funext x
    unfold up1
    split <;> rfl
  show HP.mk _ _ _ _ (up1 (up1 h.p h.n (fun _ => 0)) h.n (fun _ => 0)) _ _ _ = _
  rw [this]
  rfl
theorem rl_new {h h1 : HP} {a b cap n2 : Nat} {xs : List Nat} {m : Int32} {row : Nat → Nat} (ha : a < h.n) (hR : RL h a h1 b cap xs m) (h2 : xs.length ≤ n2) (h3 : 0 < n2) (h4 : n2 ≤ 64) (hrow : ∀ k, row k = xs.getD k 0) : RL h a (((h1.mkc 4 n2).wR h1.n row).wP a 1 h1.n) h1.n n2 xs m := by
  obtain ⟨r1, r2, r3, r4, r5, r6, r7, r8, r9⟩ := hR
  have han : a ≠ h1.n := by omega
  refine ⟨((r1.mkc r2).wR (Or.inr r2)).wP (Or.inl rfl), by show h.n ≤ h1.n + 1; omega, ?_, ?_, ?_, ?_, h2, h4, Or.inr ⟨?_, r2, Nat.lt_succ_self _, h3, ?_, fun k => ?_⟩⟩
  · exact (if_neg han).trans r3
  · show up1 h1.i h1.n _ a 0 = m
    unfold up1
    rw [if_neg han, r4]
  · show up1 h1.i h1.n _ a 2 = _
    unfold up1
    rw [if_neg han, r5]
  · exact if_pos ⟨rfl, rfl⟩
  · exact if_pos rfl
  · exact if_pos rfl
  · show up2 (up1 _ h1.n row) a 1 h1.n h1.n k = _
    unfold up2
    rw [if_neg (by omega), ← hrow]
    unfold up1
    rw [if_pos rfl]
theorem ev_newLength {x y z : Int32} {k : Nat} {h : HP} (hk : x + imax y z = nI k) (h0 : 0 < k) (h1 : k ≤ 1000) : g_J8_newLength x y z h = some (rI (nI k), h) := by
  unfold g_J8_newLength
  rw [hk, if_pos (show (0 : Int32) < nI k by rw [← nI_0]; exact nI_lt h0 (by omega)), if_pos (show nI k ≤ (2147483639 : Int32) by rw [show (2147483639 : Int32) = nI 2147483639 by decide]; exact nI_le (by omega) (by omega))]
  rfl
theorem rl_grow {h h1 : HP} {a b cap : Nat} {xs : List Nat} {m : Int32} (hw : WFh h) (ht : h.t a = 8) (hk : kC h) (hR : RL h a h1 b cap xs m) (hf : xs.length = cap) (hc : cap < 40) (hx : ∀ x ∈ xs, x < h.n) (he : ∀ x ∈ xs, elOK h x) : ∃ h2 b2 cap2, g_J2_grow a h1 = some (rR b2, h2) ∧ RL h a h2 b2 cap2 xs m ∧ xs.length < cap2 := by
  have hw1 := hw.1
  have han : a < h.n := (hw.2.1 a (by omega)).2.1
  obtain ⟨r1, r2, r3, r4, r5, r6, r7, r8, r9⟩ := id hR
  obtain ⟨k1, k2, k3, -⟩ := hk
  have a1 : 1 ≠ a := fun q => by rw [q] at k1; omega
  have a3 : 3 ≠ a := fun q => by rw [q] at k3; omega
  have t1 : h1.t 1 = 10 := (rl_t hR a1 (by omega)).trans k1
  have t3 : h1.t 3 = 12 := (rl_t hR a3 (by omega)).trans k3
  have fin : ∀ (h2 : HP) (b2 cap2 : Nat), g_J2_grow_2 a (nI xs.length + 1) h1 = some (rR b2, h2) → RL h a h2 b2 cap2 xs m → xs.length < cap2 → ∃ h2 b2 cap2, g_J2_grow a h1 = some (rR b2, h2) ∧ RL h a h2 b2 cap2 xs m ∧ xs.length < cap2 := by
    intro h2 b2 cap2 e1 e2 e3
    refine ⟨h2, b2, cap2, ?_, e2, e3⟩
    unfold g_J2_grow
    rw [ev_getI r3, r5]
    exact (ev_invP (ev_rcv r3) e1).trans rfl
  have hput : ∀ (row : Nat → Nat) (n2 : Nat), (((h1.mkc 4 n2).wR h1.n row)).t a = 34 := fun row n2 => (if_neg (show a ≠ h1.n by omega)).trans r3
  rcases r9 with ⟨q1, q2, q3, q4⟩ | ⟨q1, q2, q3, q4, q5, q6⟩
  · subst q2
    have hxs : xs = [] := List.eq_nil_of_length_eq_zero hf
    subst hxs
    by_cases hb : b = 1
    · have hR2 := rl_new (n2 := 10) (row := fun _ => 0) han hR (Nat.zero_le _) (by omega) (by omega) (fun k => rfl)
      refine fin _ _ _ ?_ hR2 (by show 0 < 10; omega)
      unfold g_J2_grow_2
      rw [ev_getP r3, r6, ev_alenK0 q3]
      dsimp only [jnG]
      rw [if_pos (show (0 : Int32) ≤ 0 by decide), ev_getP r3, r6, ev_gs t1, ev_acEq hb, ev_newa (k := 10) (by decide) (by omega) (by omega), ev_putP (by exact hput (fun _ => 0) 10), wR_mkc0]
      rfl
    · have hb2 : b = 2 := by omega
      have hR2 := rl_new (n2 := 1) (row := fun _ => 0) han hR (Nat.zero_le _) (by omega) (by omega) (fun k => rfl)
      refine fin _ _ _ ?_ hR2 (by show 0 < 1; omega)
      unfold g_J2_grow_2
      rw [ev_getP r3, r6, ev_alenK0 q3]
      dsimp only [jnG]
      rw [if_pos (show (0 : Int32) ≤ 0 by decide), ev_getP r3, r6, ev_gs t1, ev_acNe hb (Or.inr (Or.inr q3)) (Or.inr (Or.inr t1))]
      rw [ev_invI (h1 := h1) (x := nI 1) rfl (ev_newLength (by decide) (by omega) (by omega)), ev_getP r3, r6]
      rw [ev_invP rfl (ev_copyOf (cap := 0) (n2 := 1) (row := fun _ => 0) t3 ⟨Or.inr q3, q4⟩ (fun _ => q4) (by omega) (by omega) (by omega) (by omega) (fun i hi => by omega) (fun i hi => by omega) (fun k => by rw [if_neg (by omega)])), ev_putP (hput _ _)]
      rfl
  · have hg := grow_ar cap (by omega) q4
    generalize hgg : (if cap < 4 then 1 else cap / 2) = g at hg
    have hg1 : 0 < g ∧ g ≤ 20 := by
      by_cases z : cap < 4
      · rw [if_pos z] at hgg; omega
      · rw [if_neg z] at hgg; omega
    have hR2 := rl_new (n2 := cap + g) (row := fun k => xs.getD k 0) han hR (by omega) (by omega) (by omega) (fun k => rfl)
    refine fin _ _ _ ?_ hR2 (by omega)
    unfold g_J2_grow_2
    rw [ev_getP r3, r6, ev_alenK4 q1, q5]
    dsimp only [jnG]
    rw [if_neg (nI_nle q4 (by omega)), hf]
    rw [ev_invI (h1 := h1) (x := nI (cap + g)) rfl (ev_newLength (by rw [hg, nI_add]) (by omega) (by omega)), ev_getP r3, r6]
    have hmem : ∀ i, i < min cap (cap + g) → h1.p b i ∈ xs := fun i hi => by
      rw [q6, List.getD_eq_getElem?_getD, List.getElem?_eq_getElem (by omega)]
      exact List.getElem_mem _
    rw [ev_invP rfl (ev_copyOf (cap := cap) (n2 := cap + g) (row := fun k => xs.getD k 0) t3 ⟨Or.inl q1, q5⟩ (fun q => by omega) (by omega) (by omega) (by omega) (by omega) (fun i hi => rl_el hR (hx _ (hmem i hi)) (he _ (hmem i hi))) (fun i hi => Nat.lt_of_lt_of_le (hx _ (hmem i hi)) r2) (fun k => by
      by_cases z : k < min cap (cap + g)
      · rw [if_pos z, q6]
      · rw [if_neg z]
        exact getD_ge (by omega))), ev_putP (hput _ _)]
    rfl
/-- the count of changes goes up -/
theorem rl_m {h h1 : HP} {a b cap : Nat} {xs : List Nat} {m m2 : Int32} (hR : RL h a h1 b cap xs m) : RL h a (h1.wI a 0 m2) b cap xs m2 := by
  obtain ⟨r1, r2, r3, r4, r5, r6, r7, r8, r9⟩ := hR
  refine ⟨r1.wI (Or.inl rfl), r2, r3, if_pos ⟨rfl, rfl⟩, (if_neg (by omega)).trans r5, r6, r7, r8, r9⟩
/-- another row, another length -/
theorem rl_put {h h1 h2 : HP} {a b cap : Nat} {xs ys : List Nat} {m : Int32} (hR : RL h a h1 b cap xs m) (hb : h1.t b = 4) (hs : SameB h a h2) (hn : h2.n = h1.n) (ht : h2.t = h1.t) (hl : h2.l = h1.l) (hi0 : h2.i a 0 = h1.i a 0) (hi2 : h2.i a 2 = nI ys.length) (hp : h2.p a 1 = h1.p a 1) (hy : ys.length ≤ cap) (hrow : ∀ k, h2.p b k = ys.getD k 0) : RL h a h2 b cap ys m := by
  obtain ⟨r1, r2, r3, r4, r5, r6, r7, r8, r9⟩ := hR
  refine ⟨hs, by rw [hn]; exact r2, by rw [ht]; exact r3, by rw [hi0, r4], hi2, by rw [hp, r6], hy, r8, Or.inr ?_⟩
  rcases r9 with ⟨q1, q2, q3, q4⟩ | ⟨q1, q2, q3, q4, q5, q6⟩
  · omega
  · exact ⟨by rw [ht]; exact q1, q2, by rw [hn]; exact q3, q4, by rw [hl]; exact q5, hrow⟩
theorem getD_push {xs : List Nat} {x k : Nat} : (xs ++ [x]).getD k 0 = if k = xs.length then x else xs.getD k 0 := by
  rw [List.getD_eq_getElem?_getD, List.getD_eq_getElem?_getD]
  by_cases h : k = xs.length
  · rw [if_pos h, h]
    simp
  · rw [if_neg h]
    by_cases h2 : k < xs.length
    · rw [List.getElem?_append_left h2]
    · rw [List.getElem?_eq_none (by simp; omega), List.getElem?_eq_none (by omega)]
def s_add (a x : Nat) : GF := fun h => if (h.t a = 8 ∧ kC h) ∧ (h.s a).length < 40 ∧ elOK h x ∧ ∀ y ∈ h.s a, elOK h y then some (rI 1, h.wS a (h.s a ++ [x]) (h.m a + 1)) else none
theorem c_add (a x : Nat) : CMF md_J2_add [cR a, cR x] (s_add a x) := by
  refine cmf_rl (a := a) (m_J2_add a x) fun h r h' hf => ?_
  unfold s_add at hf
  split at hf
  · rename_i hg
    obtain ⟨hg, hl40, hxe, hye⟩ := hg
    cases hf
    refine ⟨hg.1, hg.2.1, hg.2.2.1, fun hwf hw => ⟨trivial, Nat.le_refl _, fun h1 b cap hR hn => ?_⟩⟩
    have hxn : x < h.n := hwf.2.1
    have hys := (hw.2.1 a (by omega)).2.2.2
    have han : a < h.n := (hw.2.1 a (by omega)).2.1
    have key : ∃ h2 b2 cap2, g_J2_add_2 a x b (nI (h.s a).length) (h1.wI a 0 (h.m a + 1)) = some (rV, h2) ∧ RL h a h2 b2 cap2 (h.s a ++ [x]) (h.m a + 1) := by
      have hR1 : RL h a (h1.wI a 0 (h.m a + 1)) b cap (h.s a) (h.m a + 1) := rl_m hR
      generalize h1.wI a 0 (h.m a + 1) = g1 at hR1
      have push : ∀ (g2 : HP) (b2 cap2 : Nat), RL h a g2 b2 cap2 (h.s a) (h.m a + 1) → (h.s a).length < cap2 → ∃ h2 b3 cap3, (aastG b2 (nI (h.s a).length) x <| putI 34 a 2 (nI (h.s a).length + 1) <| retG rV) g2 = some (rV, h2) ∧ RL h a h2 b3 cap3 (h.s a ++ [x]) (h.m a + 1) := by
        intro g2 b2 cap2 hR2 hlt
        obtain ⟨r1, r2, r3, r4, r5, r6, r7, r8, r9⟩ := id hR2
        rcases r9 with ⟨q1, q2, q3, q4⟩ | ⟨q1, q2, q3, q4, q5, q6⟩
        · omega
        · refine ⟨(g2.wP b2 (h.s a).length x).wI a 2 (nI ((h.s a).length + 1)), b2, cap2, ?_, rl_put hR2 q1 ((r1.wP (Or.inr q2)).wI (Or.inl rfl)) rfl rfl rfl (if_neg (by omega)) ((if_pos ⟨rfl, rfl⟩).trans (by rw [List.length_append]; rfl)) (if_neg (by omega)) (by rw [List.length_append]; exact hlt) (fun k => ?_)⟩
          · rw [ev_aast _ rfl (by omega) q1 (by omega) (rl_el hR2 hxn hxe), ev_putI (by exact r3), nI_1]
            rfl
          · show (g2.wP b2 (h.s a).length x).p b2 k = _
            rw [wP_self, getD_push, q6]
      unfold g_J2_add_2
      obtain ⟨r1, r2, r3, r4, r5, r6, r7, r8, r9⟩ := id hR1
      have r9' := r9
      rcases r9 with ⟨q1, q2, q3, q4⟩ | ⟨q1, q2, q3, q4, q5, q6⟩
      · obtain ⟨g2, b2, cap2, e1, e2, e3⟩ := rl_grow hw hg.1 hg.2 hR1 (by omega) (by omega) hys hye
        rw [ev_alenK0 q3]
        dsimp only [jnG]
        rw [if_pos (show nI (h.s a).length = 0 by rw [show (h.s a).length = 0 by omega]; rfl), ev_invP (ev_rcv r3) e1]
        exact push g2 b2 cap2 e2 e3
      · rw [ev_alenK4 q1, q5]
        dsimp only [jnG]
        by_cases hfull : (h.s a).length = cap
        · obtain ⟨g2, b2, cap2, e1, e2, e3⟩ := rl_grow hw hg.1 hg.2 hR1 hfull (by omega) hys hye
          rw [if_pos (by rw [hfull]), ev_invP (ev_rcv r3) e1]
          exact push g2 b2 cap2 e2 e3
        · rw [if_neg (fun q => hfull ((nI_eq (by omega) (by omega)).mp q))]
          exact push g1 b cap hR1 (by omega)
    obtain ⟨r1, r2, r3, r4, r5, r6, r7, r8, r9⟩ := hR
    obtain ⟨h2, b2, cap2, e1, e2⟩ := key
    refine ⟨h2, ?_, rl_cls hw hg.1 e2 (fun y hy => ?_)⟩
    · unfold g_J2_add
      rw [ev_getI r3, r4, ev_putI r3, ev_getP (show (h1.wI a 0 _).t a = 34 from r3), ev_getI (show (h1.wI a 0 _).t a = 34 from r3)]
      rw [show (h1.wI a 0 (h.m a + 1)).p a 1 = b from r6, show (h1.wI a 0 (h.m a + 1)).i a 2 = nI (h.s a).length from (if_neg (by omega)).trans r5]
      rw [ev_invV (ev_rcv (show (h1.wI a 0 _).t a = 34 from r3)) e1]
      rfl
    · rcases List.mem_append.mp hy with q | q
      · exact hys y q
      · rw [List.mem_singleton.mp q]
        exact hxn
  · cases hf
