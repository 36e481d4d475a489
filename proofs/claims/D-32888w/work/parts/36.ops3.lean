/-! LISTS: the contracts of indexOf, contains, remove, add at a place -/
set_option maxRecDepth 100000
theorem rl_ok {h h1 : HP} {a b cap x : Nat} {xs : List Nat} {m : Int32} (hR : RL h a h1 b cap xs m) (hn : x < h.n) (he : elOK h x) (h9 : h.t x ≠ 9) : okA h1 x := by
  rcases rl_el hR hn he with q | q | q | q
  · exact Or.inl q
  · exact Or.inr (Or.inl (Or.inl (by omega)))
  · by_cases hx : x = a
    · subst hx
      obtain ⟨-, -, r3, -⟩ := hR
      omega
    · rw [rl_t hR hx hn] at q
      exact absurd q h9
  · exact Or.inr (Or.inl (Or.inr (Or.inl (by omega))))
/-- the elements are people, or entries, or so -/
abbrev lsE (h : HP) (a : Nat) : Prop := ∀ y ∈ h.s a, elOK h y ∧ h.t y ≠ 9
theorem ix_loop {h h1 : HP} {a b cap x : Nat} {xs : List Nat} {m : Int32} (hR : RL h a h1 b cap xs m) (h64 : xs.length ≤ 64) (hx : ∀ y ∈ xs, y < h.n) (he : ∀ y ∈ xs, elOK h y ∧ h.t y ≠ 9) (ht : h1.t x = 22 ∨ h1.t x = 27) : ∀ (n k : Nat), xs.length < k + n → k ≤ fnd x xs → loopG (b_J2_indexOfRange_42 x (nI xs.length) b) n (nI k) h1 = some (rI (if x ∈ xs then nI (fnd x xs) else -1), h1) := by
  have hf := fnd_le x xs
  intro n
  induction n with
  | zero => intro k h2 h3; omega
  | succ n ih =>
    intro k h2 h3
    show b_J2_indexOfRange_42 x (nI xs.length) b (loopG (b_J2_indexOfRange_42 x (nI xs.length) b) n) (nI k) h1 = _
    unfold b_J2_indexOfRange_42
    by_cases hk : k < xs.length
    · rw [if_pos (nI_lt hk (by omega))]
      obtain ⟨r1, r2, r3, r4, r5, r6, r7, r8, r9⟩ := id hR
      rcases r9 with ⟨q1, q2, q3, q4⟩ | ⟨q1, q2, q3, q4, q5, q6⟩
      · omega
      have hm : xs.getD k 0 ∈ xs := by
        rw [List.getD_eq_getElem?_getD, List.getElem?_eq_getElem hk]
        exact List.getElem_mem hk
      rw [ev_aald k rfl (by omega) q1 (by omega), q6, ev_eqv ht (rl_ok hR (hx _ hm) (he _ hm).1 (he _ hm).2)]
      by_cases hkf : k = fnd x xs
      · have hmem : x ∈ xs := fnd_mem.mp (by omega)
        have hat := fnd_at x xs (by omega)
        rw [← hkf] at hat
        rw [hat, if_pos rfl, if_neg (by decide), if_pos hmem, hkf]
        rfl
      · have hne := fnd_lt x xs k (by omega)
        rw [show (if x = xs.getD k 0 then (1 : Int32) else 0) = 0 from if_neg (fun q => hne q.symm), if_pos rfl, nI_1]
        exact ih (k + 1) (by omega) (by omega)
    · rw [if_neg (nI_nlt (by omega) (by omega)), if_neg (fun q => by have := fnd_mem.mpr q; omega)]
      rfl
def s_indexOf (a x : Nat) : GF := fun h => if (h.t a = 8 ∧ kC h) ∧ (h.t x = 22 ∨ h.t x = 27) ∧ lsE h a then some (rI (if x ∈ h.s a then nI (fnd x (h.s a)) else -1), h) else none
theorem ev_indexOf {h h1 : HP} {a b cap x : Nat} {m : Int32} (hw : WFh h) (hR : RL h a h1 b cap (h.s a) m) (ht8 : h.t a = 8) (ht : h.t x = 22 ∨ h.t x = 27) (he : lsE h a) : g_J2_indexOf a x h1 = some (rI (if x ∈ h.s a then nI (fnd x (h.s a)) else -1), h1) := by
  obtain ⟨r1, r2, r3, r4, r5, r6, r7, r8, r9⟩ := id hR
  have h64 := hw.2.2.2 a ht8
  have hxa : x ≠ a := fun q => by rw [q] at ht; omega
  have hx0 := hw.2.1 x (by omega)
  unfold g_J2_indexOf
  rw [ev_getI r3, r5]
  refine (ev_invI (ev_rcv r3) ?_).trans rfl
  unfold g_J2_indexOfRange
  rw [ev_getP r3, r6, if_neg (by omega)]
  have := ix_loop hR h64 (hw.2.1 a (by omega)).2.2.2 he (by rw [rl_t hR hxa hx0.2.1]; exact ht) FU 0 (by unfold FU; omega) (Nat.zero_le _)
  exact this
theorem c_indexOf (a x : Nat) : CMF md_J2_indexOf [cR a, cR x] (s_indexOf a x) := by
  refine cmf_rl (a := a) (m_J2_indexOf a x) fun h r h' hf => ?_
  unfold s_indexOf at hf
  split at hf
  · rename_i hg
    obtain ⟨hg, hx, he⟩ := hg
    cases hf
    exact ⟨hg.1, hg.2.1, hg.2.2.1, fun _ hw => ⟨trivial, Nat.le_refl _, fun h1 b cap hR hn => ⟨h1, ev_indexOf hw hR hg.1 hx he, rl_same hw hg.1 hR⟩⟩⟩
  · cases hf
def s_contains (a x : Nat) : GF := fun h => if (h.t a = 8 ∧ kC h) ∧ (h.t x = 22 ∨ h.t x = 27) ∧ lsE h a then some (rI (if x ∈ h.s a then 1 else 0), h) else none
theorem c_contains (a x : Nat) : CMF md_J2_contains [cR a, cR x] (s_contains a x) := by
  refine cmf_rl (a := a) (m_J2_contains a x) fun h r h' hf => ?_
  unfold s_contains at hf
  split at hf
  · rename_i hg
    obtain ⟨hg, hx, he⟩ := hg
    cases hf
    refine ⟨hg.1, hg.2.1, hg.2.2.1, fun _ hw => ⟨trivial, Nat.le_refl _, fun h1 b cap hR hn => ⟨h1, ?_, rl_same hw hg.1 hR⟩⟩⟩
    have h64 := hw.2.2.2 a hg.1
    have hf := fnd_le x (h.s a)
    have r3 : h1.t a = 34 := hR.2.2.1
    unfold g_J2_contains
    rw [ev_invI (ev_rcv r3) (ev_indexOf hw hR hg.1 hx he)]
    by_cases q : x ∈ h.s a
    · rw [if_pos q, if_pos q, if_neg (nI_pos (by omega))]
      rfl
    · rw [if_neg q, if_neg q, if_pos (by decide)]
      rfl
  · cases hf
/-! remove(Object) -/
theorem rm_loop {h h1 : HP} {a b cap x : Nat} {xs : List Nat} {m : Int32} {J : Int32 → GF} (hR : RL h a h1 b cap xs m) (h64 : xs.length ≤ 64) (hx : ∀ y ∈ xs, y < h.n) (he : ∀ y ∈ xs, elOK h y ∧ h.t y ≠ 9) (ht : h1.t x = 22 ∨ h1.t x = 27) : ∀ (n k : Nat), xs.length < k + n → k ≤ fnd x xs → loopG (b_J2_remove_39 x b (nI xs.length) J) n (nI k) h1 = if x ∈ xs then J (nI (fnd x xs)) h1 else some (rI 0, h1) := by
  have hf := fnd_le x xs
  intro n
  induction n with
  | zero => intro k h2 h3; omega
  | succ n ih =>
    intro k h2 h3
    show b_J2_remove_39 x b (nI xs.length) J (loopG (b_J2_remove_39 x b (nI xs.length) J) n) (nI k) h1 = _
    unfold b_J2_remove_39
    by_cases hk : k < xs.length
    · rw [if_pos (nI_lt hk (by omega))]
      obtain ⟨r1, r2, r3, r4, r5, r6, r7, r8, r9⟩ := id hR
      rcases r9 with ⟨q1, q2, q3, q4⟩ | ⟨q1, q2, q3, q4, q5, q6⟩
      · omega
      have hm : xs.getD k 0 ∈ xs := by
        rw [List.getD_eq_getElem?_getD, List.getElem?_eq_getElem hk]
        exact List.getElem_mem hk
      rw [ev_aald k rfl (by omega) q1 (by omega), q6, ev_eqv ht (rl_ok hR (hx _ hm) (he _ hm).1 (he _ hm).2)]
      by_cases hkf : k = fnd x xs
      · have hmem : x ∈ xs := fnd_mem.mp (by omega)
        have hat := fnd_at x xs (by omega)
        rw [← hkf] at hat
        rw [hat, if_pos rfl, if_neg (by decide), if_pos hmem, hkf]
      · have hne := fnd_lt x xs k (by omega)
        rw [show (if x = xs.getD k 0 then (1 : Int32) else 0) = 0 from if_neg (fun q => hne q.symm), if_pos rfl, nI_1]
        exact ih (k + 1) (by omega) (by omega)
    · rw [if_neg (nI_nlt (by omega) (by omega)), if_neg (fun q => by have := fnd_mem.mpr q; omega)]
      rfl
def s_removeO (a x : Nat) : GF := fun h => if (h.t a = 8 ∧ kC h) ∧ (h.t x = 22 ∨ h.t x = 27) ∧ lsE h a then (if x ∈ h.s a then some (rI 1, h.wS a ((h.s a).eraseIdx (fnd x (h.s a))) (h.m a + 1)) else some (rI 0, h)) else none
theorem c_removeO (a x : Nat) : CMF md_J2_remove [cR a, cR x] (s_removeO a x) := by
  refine cmf_rl (a := a) (m_J2_remove a x) fun h r h' hf => ?_
  unfold s_removeO at hf
  split at hf
  · rename_i hg
    obtain ⟨hg, hx, he⟩ := hg
    refine ⟨hg.1, hg.2.1, hg.2.2.1, fun _ hw => ?_⟩
    have h64 := hw.2.2.2 a hg.1
    have hxa : x ≠ a := fun q => by rw [q] at hx; omega
    have hx0 := hw.2.1 x (by omega)
    have hys := (hw.2.1 a (by omega)).2.2.2
    have step : ∀ h1 b cap, RL h a h1 b cap (h.s a) (h.m a) → g_J2_remove a x h1 = if x ∈ h.s a then (invV (some (a, 34)) (g_J2_fastRemove a b (nI (fnd x (h.s a)))) <| retZ 1) h1 else some (rI 0, h1) := by
      intro h1 b cap hR
      obtain ⟨r1, r2, r3, r4, r5, r6, r7, r8, r9⟩ := id hR
      unfold g_J2_remove
      rw [ev_getP r3, r6, ev_getI r3, r5]
      dsimp only [jnG]
      rw [if_neg (by omega)]
      have := rm_loop (J := fun v3 => invV (some (a, 34)) (g_J2_fastRemove a b v3) (retZ 1)) hR h64 hys he (by rw [rl_t hR hxa hx0.2.1]; exact hx) FU 0 (by unfold FU; omega) (Nat.zero_le _)
      exact this
    by_cases q : x ∈ h.s a
    · rw [if_pos q] at hf
      cases hf
      refine ⟨trivial, Nat.le_refl _, fun h1 b cap hR hn => ?_⟩
      obtain ⟨h2, e1, e2⟩ := rl_fastRemove hR (fnd_mem.mpr q) hys (fun y hy => (he y hy).1)
      refine ⟨h2, ?_, rl_cls hw hg.1 e2 (fun y hy => hys y (List.mem_of_mem_eraseIdx hy))⟩
      rw [step h1 b cap hR, if_pos q, ev_invV (ev_rcv hR.2.2.1) e1]
      rfl
    · rw [if_neg q] at hf
      cases hf
      refine ⟨trivial, Nat.le_refl _, fun h1 b cap hR hn => ⟨h1, ?_, rl_same hw hg.1 hR⟩⟩
      rw [step h1 b cap hR, if_neg q]
  · cases hf
/-! remove(int) -/
def s_removeI (a : Nat) (j : Int32) : GF := fun h => if (h.t a = 8 ∧ kC h) ∧ (¬ (j < 0) ∧ j.toNatClampNeg < (h.s a).length) ∧ (∀ y ∈ h.s a, elOK h y) then some (rR ((h.s a).getD j.toNatClampNeg 0), h.wS a ((h.s a).eraseIdx j.toNatClampNeg) (h.m a + 1)) else none
theorem c_removeI (a : Nat) (j : Int32) : CMF md_J2_remove_2 [cR a, cI j] (s_removeI a j) := by
  refine cmf_rl (a := a) (m_J2_remove_2 a j) fun h r h' hf => ?_
  unfold s_removeI at hf
  split at hf
  · rename_i hg
    obtain ⟨hg, ⟨hj, hjl⟩, he⟩ := hg
    cases hf
    obtain ⟨u, hu, rfl⟩ := nI_of hj
    rw [nI_clamp hu] at hjl ⊢
    refine ⟨hg.1, hg.2.1, hg.2.2.1, fun _ hw => ?_⟩
    have h64 := hw.2.2.2 a hg.1
    have hys := (hw.2.1 a (by omega)).2.2.2
    refine ⟨getD_lt hys (by have := hw.1; show 0 < h.n; omega), Nat.le_refl _, fun h1 b cap hR hn => ?_⟩
    obtain ⟨h2, e1, e2⟩ := rl_fastRemove hR hjl hys he
    refine ⟨h2, ?_, rl_cls hw hg.1 e2 (fun y hy => hys y (List.mem_of_mem_eraseIdx hy))⟩
    obtain ⟨r1, r2, r3, r4, r5, r6, r7, r8, r9⟩ := hR
    unfold g_J2_remove_2
    rw [ev_getI r3, r5, ev_invI rfl (ev_checkIndex hjl (by omega)), ev_getP r3, r6]
    rcases r9 with ⟨-, q2, -⟩ | ⟨q1, q2, q3, q4, q5, q6⟩
    · omega
    · rw [ev_aald u rfl hu q1 (by omega), q6, ev_invV (ev_rcv r3) e1]
      rfl
  · cases hf
/-! add at a place -/
def ins (xs : List Nat) (j x : Nat) : List Nat := xs.take j ++ x :: xs.drop j
theorem ins_len {xs : List Nat} {j x : Nat} (hj : j ≤ xs.length) : (ins xs j x).length = xs.length + 1 := by
  unfold ins
  rw [List.length_append, List.length_cons, List.length_take, List.length_drop]
  omega
theorem ins_getD {xs : List Nat} {j x k : Nat} (hj : j ≤ xs.length) : (ins xs j x).getD k 0 = if k < j then xs.getD k 0 else if k = j then x else xs.getD (k - 1) 0 := by
  unfold ins
  rw [List.getD_eq_getElem?_getD]
  have hl : (xs.take j).length = j := by rw [List.length_take]; omega
  by_cases h1 : k < j
  · rw [if_pos h1, List.getElem?_append_left (by omega), List.getElem?_take_of_lt h1, List.getD_eq_getElem?_getD]
  · rw [if_neg h1, List.getElem?_append_right (by omega), hl]
    by_cases h2 : k = j
    · rw [if_pos h2, h2, Nat.sub_self]
      rfl
    · rw [if_neg h2, show k - j = (k - j - 1) + 1 by omega, List.getElem?_cons_succ, List.getElem?_drop, List.getD_eq_getElem?_getD]
      congr 2
      omega
def s_insert (a : Nat) (j : Int32) (x : Nat) : GF := fun h => if (h.t a = 8 ∧ kC h) ∧ (¬ (j < 0) ∧ j.toNatClampNeg ≤ (h.s a).length) ∧ (h.s a).length < 40 ∧ elOK h x ∧ (∀ y ∈ h.s a, elOK h y) then some (rV, h.wS a (ins (h.s a) j.toNatClampNeg x) (h.m a + 1)) else none
theorem c_insert (a : Nat) (j : Int32) (x : Nat) : CMF md_J2_add_3 [cR a, cI j, cR x] (s_insert a j x) := by
  refine cmf_rl (a := a) (m_J2_add_3 a j x) fun h r h' hf => ?_
  unfold s_insert at hf
  split at hf
  · rename_i hg
    obtain ⟨hg, ⟨hj, hjl⟩, hl40, hxe, he⟩ := hg
    cases hf
    obtain ⟨u, hu, rfl⟩ := nI_of hj
    rw [nI_clamp hu] at hjl ⊢
    refine ⟨hg.1, hg.2.1, hg.2.2.1, fun hwf hw => ⟨trivial, Nat.le_refl _, fun h1 b cap hR hn => ?_⟩⟩
    have h64 := hw.2.2.2 a hg.1
    have hys := (hw.2.1 a (by omega)).2.2.2
    have hxn : x < h.n := hwf.2.2.1
    have push : ∀ (g2 : HP) (b2 cap2 : Nat), RL h a g2 b2 cap2 (h.s a) (h.m a + 1) → (h.s a).length < cap2 → ∃ h2 b3 cap3, (acpG b2 (nI u) b2 (nI u + 1) (nI (h.s a).length - nI u) <| aastG b2 (nI u) x <| putI 34 a 2 (nI (h.s a).length + 1) <| retG rV) g2 = some (rV, h2) ∧ RL h a h2 b3 cap3 (ins (h.s a) u x) (h.m a + 1) := by
      intro g2 b2 cap2 hR2 hlt
      obtain ⟨r1, r2, r3, r4, r5, r6, r7, r8, r9⟩ := id hR2
      rcases r9 with ⟨q1, q2, q3, q4⟩ | ⟨q1, q2, q3, q4, q5, q6⟩
      · omega
      · have hab : a ≠ b2 := fun z => by rw [z, q1] at r3; omega
        refine ⟨((g2.wR b2 (va_cpy (g2.p b2) (g2.p b2) u (u + 1) ((h.s a).length - u))).wP b2 u x).wI a 2 (nI ((h.s a).length + 1)), b2, cap2, ?_, rl_put hR2 q1 (((r1.wR (Or.inr q2)).wP (Or.inr q2)).wI (Or.inl rfl)) rfl rfl rfl (if_neg (by omega)) ((if_pos ⟨rfl, rfl⟩).trans (by rw [ins_len hjl])) ?_ (by rw [ins_len hjl]; exact hlt) (fun k => ?_)⟩
        · rw [nI_1, pk_sub hjl, ev_acp u (u + 1) ((h.s a).length - u) rfl rfl rfl hu (by omega) (by omega) (Or.inl q1) q1 (by omega) (by omega) (fun i hi => ?_), ev_aast u rfl hu (by exact q1) (by show u < g2.l b2; omega) ?_, ev_putI (by exact r3), nI_1]
          · rfl
          · exact (show elOK g2 x from rl_el hR2 hxn hxe)
          · rw [q6, List.getD_eq_getElem?_getD, List.getElem?_eq_getElem (by omega)]
            exact rl_el hR2 (hys _ (List.getElem_mem _)) (he _ (List.getElem_mem _))
        · show up2 (up1 g2.p b2 _) b2 u x a 1 = g2.p a 1
          unfold up2
          rw [if_neg (fun z => hab z.1)]
          unfold up1
          rw [if_neg hab]
        · show ((g2.wR b2 (va_cpy (g2.p b2) (g2.p b2) u (u + 1) ((h.s a).length - u))).wP b2 u x).p b2 k = _
          rw [wP_self, wR_self, ins_getD hjl]
          unfold va_cpy
          by_cases z : k = u
          · rw [if_pos z, if_neg (by omega), if_pos z]
          · rw [if_neg z]
            by_cases z2 : k < u
            · rw [if_neg (by omega), if_pos z2, q6]
            · rw [if_neg z2, if_neg z]
              by_cases z3 : u + 1 ≤ k ∧ k < u + 1 + ((h.s a).length - u)
              · rw [if_pos z3, q6]
                congr 1
                omega
              · rw [if_neg z3, q6, getD_ge (by omega), getD_ge (by omega)]
    have hR1 : RL h a (h1.wI a 0 (h.m a + 1)) b cap (h.s a) (h.m a + 1) := rl_m hR
    obtain ⟨r1, r2, r3, r4, r5, r6, r7, r8, r9⟩ := hR
    have e0 : g_J2_rangeCheckForAdd a (nI u) h1 = some (rV, h1) := by
      unfold g_J2_rangeCheckForAdd
      rw [ev_getI r3, r5, if_pos (nI_le hjl (by omega)), if_neg (nI_pos hu)]
      rfl
    have key : ∃ h2 b3 cap3, g_J2_add_3 a (nI u) x h1 = some (rV, h2) ∧ RL h a h2 b3 cap3 (ins (h.s a) u x) (h.m a + 1) := by
      unfold g_J2_add_3
      rw [ev_invV (ev_rcv r3) e0, ev_getI r3, r4, ev_putI r3, ev_getI (show (h1.wI a 0 _).t a = 34 from r3), ev_getP (show (h1.wI a 0 _).t a = 34 from r3)]
      rw [show (h1.wI a 0 (h.m a + 1)).p a 1 = b from r6, show (h1.wI a 0 (h.m a + 1)).i a 2 = nI (h.s a).length from (if_neg (by omega)).trans r5]
      generalize h1.wI a 0 (h.m a + 1) = g1 at hR1
      obtain ⟨u1, u2, u3, u4, u5, u6, u7, u8, u9⟩ := id hR1
      rcases u9 with ⟨q1, q2, q3, q4⟩ | ⟨q1, q2, q3, q4, q5, q6⟩
      · obtain ⟨g2, b2, cap2, e1, e2, e3⟩ := rl_grow hw hg.1 hg.2 hR1 (by omega) (by omega) hys he
        rw [ev_alenK0 q3]
        dsimp only [jnG]
        rw [if_pos (show nI (h.s a).length = 0 by rw [show (h.s a).length = 0 by omega]; rfl), ev_invP (ev_rcv u3) e1]
        exact push g2 b2 cap2 e2 e3
      · rw [ev_alenK4 q1, q5]
        dsimp only [jnG]
        by_cases hfull : (h.s a).length = cap
        · obtain ⟨g2, b2, cap2, e1, e2, e3⟩ := rl_grow hw hg.1 hg.2 hR1 hfull (by omega) hys he
          rw [if_pos (by rw [hfull]), ev_invP (ev_rcv u3) e1]
          exact push g2 b2 cap2 e2 e3
        · rw [if_neg (fun q => hfull ((nI_eq (by omega) (by omega)).mp q))]
          exact push g1 b cap hR1 (by omega)
    obtain ⟨h2, b3, cap3, e1, e2⟩ := key
    refine ⟨h2, e1, rl_cls hw hg.1 e2 (fun y hy => ?_)⟩
    unfold ins at hy
    rcases List.mem_append.mp hy with q | q
    · exact hys y (List.mem_of_mem_take q)
    · rcases List.mem_cons.mp q with q | q
      · rw [q]; exact hxn
      · exact hys y (List.mem_of_mem_drop q)
  · cases hf
