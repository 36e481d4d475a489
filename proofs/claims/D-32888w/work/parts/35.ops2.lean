/-! LISTS: remove, insert, find -/
set_option maxRecDepth 100000
theorem getD_erase {xs : List Nat} {i k : Nat} (hi : i < xs.length) : (xs.eraseIdx i).getD k 0 = if k < i then xs.getD k 0 else xs.getD (k + 1) 0 := by
  rw [List.getD_eq_getElem?_getD, List.getElem?_eraseIdx]
  by_cases h : k < i
  · rw [if_pos h, if_pos h, List.getD_eq_getElem?_getD]
  · rw [if_neg h, if_neg h, List.getD_eq_getElem?_getD]
theorem rl_fastRemove {h h1 : HP} {a b cap i : Nat} {xs : List Nat} {m : Int32} (hR : RL h a h1 b cap xs m) (hi : i < xs.length) (hx : ∀ x ∈ xs, x < h.n) (he : ∀ x ∈ xs, elOK h x) : ∃ h2, g_J2_fastRemove a b (nI i) h1 = some (rV, h2) ∧ RL h a h2 b cap (xs.eraseIdx i) (m + 1) := by
  have hR1 : RL h a (h1.wI a 0 (m + 1)) b cap xs (m + 1) := rl_m hR
  obtain ⟨r1, r2, r3, r4, r5, r6, r7, r8, r9⟩ := hR
  have h5 : (h1.wI a 0 (m + 1)).i a 2 = nI xs.length := hR1.2.2.2.2.1
  have h3 : (h1.wI a 0 (m + 1)).t a = 34 := r3
  unfold g_J2_fastRemove
  rw [ev_getI r3, r4, ev_putI r3, ev_getI h3, h5]
  dsimp only [jnG]
  generalize h1.wI a 0 (m + 1) = g1 at hR1 h5 h3
  obtain ⟨u1, u2, u3, u4, u5, u6, u7, u8, u9⟩ := id hR1
  rcases u9 with ⟨q1, q2, q3, q4⟩ | ⟨q1, q2, q3, q4, q5, q6⟩
  · omega
  have hl1 : nI xs.length - 1 = nI (xs.length - 1) := by
    have := nI_pred (xs.length - 1)
    rwa [show xs.length - 1 + 1 = xs.length by omega] at this
  have fin : ∀ g2 : HP, SameB h a g2 → g2.n = g1.n → g2.t = g1.t → g2.l = g1.l → g2.i = g1.i → g2.p a = g1.p a → (∀ k, k < xs.length - 1 → g2.p b k = (xs.eraseIdx i).getD k 0) → (∀ k, xs.length ≤ k → g2.p b k = 0) →
      ∃ h2, (putI 34 a 2 (nI xs.length - 1) <| aastG b (nI xs.length - 1) 0 <| retG rV) g2 = some (rV, h2) ∧ RL h a h2 b cap (xs.eraseIdx i) (m + 1) := by
    intro g2 s1 s2 s3 s4 s5 s6 s7 s8
    have hlen : (xs.eraseIdx i).length = xs.length - 1 := List.length_eraseIdx_of_lt hi
    refine ⟨(g2.wI a 2 (nI (xs.length - 1))).wP b (xs.length - 1) 0, ?_, rl_put hR1 q1 ((s1.wI (Or.inl rfl)).wP (Or.inr q2)) s2 s3 s4 ?_ ?_ ?_ (by omega) (fun k => ?_)⟩
    · rw [hl1, ev_putI (by rw [s3]; exact u3), ev_aast _ rfl (by omega) (by show g2.t b = 4; rw [s3]; exact q1) (by show _ < g2.l b; rw [s4, q5]; omega) (Or.inl rfl)]
      rfl
    · show (if a = a ∧ 0 = 2 then _ else g2.i a 0) = _
      rw [if_neg (by omega), s5]
    · rw [hlen]
      exact if_pos ⟨rfl, rfl⟩
    · show (if a = b ∧ 1 = xs.length - 1 then 0 else g2.p a 1) = _
      rw [if_neg (fun z => by rw [z.1, q1] at u3; omega), s6]
    · rw [wP_self]
      show (if k = xs.length - 1 then 0 else g2.p b k) = _
      by_cases z : k = xs.length - 1
      · rw [if_pos z]
        exact (getD_ge (by omega)).symm
      · rw [if_neg z]
        by_cases z2 : k < xs.length - 1
        · exact s7 k z2
        · rw [s8 k (by omega)]
          exact (getD_ge (by omega)).symm
  by_cases hlast : xs.length - 1 ≤ i
  · rw [hl1, if_pos (nI_le hlast (by omega)), ← hl1]
    refine fin g1 u1 rfl rfl rfl rfl rfl (fun k hk => ?_) (fun k hk => ?_)
    · rw [getD_erase hi, if_pos (by omega), q6]
    · rw [q6]
      exact getD_ge hk
  · rw [hl1, if_neg (nI_ge (by omega) (by omega)), nI_1, pk_sub (by omega)]
    rw [ev_acp (i + 1) i (xs.length - 1 - i) rfl rfl rfl (by omega) (by omega) (by omega) (Or.inl q1) q1 (by omega) (by omega) (fun j hj => ?_), ← hl1]
    · refine fin _ (u1.wR (Or.inr q2)) rfl rfl rfl rfl (if_neg (fun z => by rw [z, q1] at u3; omega)) (fun k hk => ?_) (fun k hk => ?_)
      · rw [wR_self, getD_erase hi]
        unfold va_cpy
        by_cases z : k < i
        · rw [if_neg (by omega), if_pos z, q6]
        · rw [if_pos (by omega), if_neg z, q6]
          congr 1
          omega
      · rw [wR_self]
        unfold va_cpy
        rw [if_neg (by omega), q6]
        exact getD_ge hk
    · rw [q6, List.getD_eq_getElem?_getD, List.getElem?_eq_getElem (by omega)]
      exact rl_el hR1 (hx _ (List.getElem_mem _)) (he _ (List.getElem_mem _))
/-! where an element stands -/
def fnd (x : Nat) : List Nat → Nat
  | [] => 0
  | y :: ys => if y = x then 0 else fnd x ys + 1
theorem fnd_le (x : Nat) : ∀ xs : List Nat, fnd x xs ≤ xs.length
  | [] => Nat.le_refl _
  | y :: ys => by
    have := fnd_le x ys
    unfold fnd
    split
    · omega
    · rw [List.length_cons]; omega
theorem fnd_at (x : Nat) : ∀ xs : List Nat, fnd x xs < xs.length → xs.getD (fnd x xs) 0 = x
  | [], h => by cases h
  | y :: ys, h => by
    unfold fnd at h ⊢
    split at h
    · rename_i q
      rw [if_pos q]
      exact q
    · rename_i q
      rw [if_neg q]
      exact fnd_at x ys (by rw [List.length_cons] at h; omega)
theorem fnd_lt (x : Nat) : ∀ (xs : List Nat) (j : Nat), j < fnd x xs → xs.getD j 0 ≠ x
  | [], j, h => by cases h
  | y :: ys, j, h => by
    unfold fnd at h
    split at h
    · cases h
    · rename_i q
      cases j with
      | zero => exact q
      | succ j => exact fnd_lt x ys j (by omega)
theorem fnd_mem {x : Nat} : ∀ {xs : List Nat}, fnd x xs < xs.length ↔ x ∈ xs
  | [] => by simp [fnd]
  | y :: ys => by
    have ih := fnd_mem (x := x) (xs := ys)
    unfold fnd
    by_cases q : y = x
    · rw [if_pos q]
      simp [q]
    · rw [if_neg q, List.length_cons, List.mem_cons]
      constructor
      · intro h
        exact Or.inr (ih.mp (by omega))
      · rintro (h | h)
        · exact absurd h.symm q
        · have := ih.mpr h
          omega
theorem ev_eqv {x y : Nat} {f : Int32 → GF} {h : HP} (ht : h.t x = 22 ∨ h.t x = 27) (hy : okA h y) : eqvG x y f h = f (if x = y then 1 else 0) h := by
  have e : g_J25_equals x y h = some (rI (if x = y then 1 else 0), h) := by
    unfold g_J25_equals
    by_cases q : x = y
    · rw [ev_acEq q, if_pos q]
      rfl
    · rw [ev_acNe q (Or.inr (Or.inl (by rcases ht with z | z <;> omega))) hy, if_neg q]
      rfl
  unfold eqvG
  rcases ht with q | q
  · rw [if_pos q, ev_invI (ev_rcv q) e]
  · rw [if_neg (by omega), if_pos q, ev_invI (ev_rcv q) e]
