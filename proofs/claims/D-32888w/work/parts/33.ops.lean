/-! LISTS: clear, add -/
set_option maxRecDepth 100000
theorem clear_loop {b len : Nat} (hlen : len ≤ 64) : ∀ (n k : Nat) (h1 : HP), len < k + n → k ≤ len → (k < len → h1.t b = 4 ∧ len ≤ h1.l b) → ∃ h2, loopG (b_J2_clear_27 b (nI len)) n (nI k) h1 = some (rV, h2) ∧ h2.n = h1.n ∧ h2.t = h1.t ∧ h2.l = h1.l ∧ h2.i = h1.i ∧ h2.j = h1.j ∧ h2.s = h1.s ∧ h2.m = h1.m ∧ (∀ x, x ≠ b → h2.p x = h1.p x) ∧ ∀ j, h2.p b j = if k ≤ j ∧ j < len then 0 else h1.p b j := by
  intro n
  induction n with
  | zero => intro k h1 h2 h3; omega
  | succ n ih =>
    intro k h1 hk1 hk2 hb
    show ∃ h2, b_J2_clear_27 b (nI len) (loopG (b_J2_clear_27 b (nI len)) n) (nI k) h1 = _ ∧ _
    unfold b_J2_clear_27
    by_cases hkl : k < len
    · rw [if_pos (nI_lt hkl (by omega))]
      obtain ⟨b1, b2⟩ := hb hkl
      rw [ev_aast k rfl (by omega) b1 (by omega) (Or.inl rfl), nI_1 k]
      obtain ⟨h2, e1, e2, e3, e4, e5, e6, e7, e8, e9, e10⟩ := ih (k + 1) (h1.wP b k 0) (by omega) (by omega) (fun _ => ⟨b1, b2⟩)
      refine ⟨h2, e1, e2, e3, e4, e5, e6, e7, e8, fun x hx => ?_, fun j => ?_⟩
      · rw [e9 x hx]
        exact (wP_oth x hx).2.2.1
      · rw [e10 j, wP_self]
        by_cases q : j = k
        · rw [if_pos q, if_neg (by omega), if_pos (by omega)]
        · rw [if_neg q]
          by_cases q2 : k + 1 ≤ j ∧ j < len
          · rw [if_pos q2, if_pos (by omega)]
          · rw [if_neg q2, if_neg (by omega)]
    · rw [if_neg (nI_nlt (by omega) (by omega))]
      refine ⟨h1, rfl, rfl, rfl, rfl, rfl, rfl, rfl, rfl, fun _ _ => rfl, fun j => ?_⟩
      rw [if_neg (by omega)]
theorem getD_ge {xs : List Nat} {k : Nat} (h : xs.length ≤ k) : xs.getD k 0 = 0 := by
  rw [List.getD_eq_getElem?_getD, List.getElem?_eq_none h]
  rfl
def s_clear (a : Nat) : GF := fun h => if h.t a = 8 ∧ kC h then some (rV, h.wS a [] (h.m a + 1)) else none
theorem c_clear (a : Nat) : CMF md_J2_clear [cR a] (s_clear a) := by
  refine cmf_rl (a := a) (m_J2_clear a) fun h r h' hf => ?_
  unfold s_clear at hf
  split at hf
  · rename_i hg
    cases hf
    refine ⟨hg.1, hg.2.1, hg.2.2.1, fun _ hw => ⟨trivial, Nat.le_refl _, fun h1 b cap hR hn => ?_⟩⟩
    have h64 := hw.2.2.2 a hg.1
    obtain ⟨r1, r2, r3, r4, r5, r6, r7, r8, r9⟩ := hR
    unfold g_J2_clear
    rw [ev_getI r3, ev_putI r3, ev_getP (show (h1.wI a 0 _).t a = 34 from r3), ev_getI (show (h1.wI a 0 _).t a = 34 from r3), ev_putI (show (h1.wI a 0 _).t a = 34 from r3)]
    rw [show (h1.wI a 0 (h1.i a 0 + 1)).p a 1 = b from r6, show (h1.wI a 0 (h1.i a 0 + 1)).i a 2 = nI (h.s a).length from (if_neg (by omega)).trans r5, r4]
    obtain ⟨h2, e1, e2, e3, e4, e5, e6, e7, e8, e9, e10⟩ := clear_loop (b := b) h64 FU 0 ((h1.wI a 0 (h.m a + 1)).wI a 2 0) (by unfold FU; omega) (Nat.zero_le _) (fun q => by
      rcases r9 with ⟨-, q2, -⟩ | ⟨q1, q2, q3, q4, q5, q6⟩
      · omega
      · exact ⟨q1, by show _ ≤ h1.l b; omega⟩)
    refine ⟨h2, e1, rl_cls (b := b) (cap := cap) hw hg.1 ⟨?_, by rw [e2]; exact r2, by rw [e3]; exact r3, ?_, ?_, ?_, Nat.zero_le _, r8, ?_⟩ (fun x hx => by cases hx)⟩
    · intro x hx hxn
      obtain ⟨q1, q2, q3, q4, q5, q6, q7⟩ := ((r1.wI (k := 0) (v := h.m a + 1) (Or.inl rfl)).wI (k := 2) (v := 0) (Or.inl rfl)) x hx hxn
      refine ⟨by rw [e3]; exact q1, by rw [e4]; exact q2, by rw [e5]; exact q3, ?_, by rw [e6]; exact q5, by rw [e7]; exact q6, by rw [e8]; exact q7⟩
      rcases r9 with ⟨-, u2, -⟩ | ⟨u1, u2, -⟩
      · funext j
        by_cases hxb : x = b
        · rw [hxb, e10, if_neg (by omega), ← hxb]
          exact congrFun q4 j
        · rw [e9 x hxb]
          exact congrFun q4 j
      · rw [e9 x (by omega)]
        exact q4
    · rw [e5]
      show (if a = a ∧ 0 = 2 then (0 : Int32) else if a = a ∧ 0 = 0 then h.m a + 1 else _) = _
      rw [if_neg (by omega), if_pos ⟨rfl, rfl⟩]
    · rw [e5]
      show (if a = a ∧ 2 = 2 then (0 : Int32) else _) = _
      rw [if_pos ⟨rfl, rfl⟩]
      rfl
    · have hab : a ≠ b := by
        rcases r9 with ⟨-, -, q, -⟩ | ⟨q, -⟩ <;> exact fun z => by rw [← z, r3] at q; omega
      rw [e9 a hab]
      exact r6
    · rcases r9 with ⟨q1, q2, q3, q4⟩ | ⟨q1, q2, q3, q4, q5, q6⟩
      · exact Or.inl ⟨q1, q2, by rw [e3]; exact q3, by rw [e4]; exact q4⟩
      · refine Or.inr ⟨by rw [e3]; exact q1, q2, by rw [e2]; exact q3, q4, by rw [e4]; exact q5, fun k => ?_⟩
        rw [e10]
        by_cases hk : 0 ≤ k ∧ k < (h.s a).length
        · rw [if_pos hk]
          rfl
        · rw [if_neg hk]
          exact (q6 k).trans (getD_ge (by omega))
  · cases hf
/-! growth -/
theorem rl_t {h h1 : HP} {a b cap x : Nat} {xs : List Nat} {m : Int32} (hR : RL h a h1 b cap xs m) (hx : x ≠ a) (hn : x < h.n) : h1.t x = h.t x := (hR.1 x hx hn).1
theorem rl_el {h h1 : HP} {a b cap x : Nat} {xs : List Nat} {m : Int32} (hR : RL h a h1 b cap xs m) (hn : x < h.n) (he : elOK h x) : elOK h1 x := by
  by_cases hx : x = a
  · subst hx
    obtain ⟨-, -, r3, -⟩ := hR
    exact Or.inr (Or.inr (Or.inr (by omega)))
  · unfold elOK
    rw [rl_t hR hx hn]
    exact he
theorem el_mkc {h : HP} {t l x : Nat} (hn : x < h.n) (he : elOK h x) : elOK (h.mkc t l) x := by
  have : (h.mkc t l).t x = h.t x := if_neg (by omega)
  unfold elOK
  rw [this]
  exact he
theorem grow_ar : ∀ c, c < 41 → 0 < c → imax (nI c + 1 - nI c) (nI c >>> (1 &&& 31)) = nI (if c < 4 then 1 else c / 2) := by decide +kernel
/-- Arrays.copyOf: an array is copied into a longer one or one as long -/
theorem ev_copyOf {b cap n2 : Nat} {row : Nat → Nat} {h1 : HP} (h3 : h1.t 3 = 12) (hb : (h1.t b = 4 ∨ h1.t b = 10) ∧ h1.l b = cap) (h10 : h1.t b = 10 → h1.l b = 0) (hbn : b ≠ h1.n) (hcap : cap ≤ 64) (hn : n2 ≤ 64) (h3n : 3 ≠ h1.n) (he : ∀ i, i < min cap n2 → elOK h1 (h1.p b i)) (hex : ∀ i, i < min cap n2 → h1.p b i < h1.n) (hrow : ∀ k, row k = if k < min cap n2 then h1.p b k else 0) :
    g_J10_copyOf b (nI n2) h1 = some (rR h1.n, (h1.mkc 4 n2).wR h1.n row) := by
  unfold g_J10_copyOf
  rw [ev_gcA hb.1 h3]
  refine (ev_invP (x := h1.n) (h1 := (h1.mkc 4 n2).wR h1.n row) rfl ?_).trans rfl
  unfold g_J10_copyOf_2
  rw [ev_mir h3, ev_acEq rfl, ev_newa rfl (by omega) hn]
  have tb : (h1.mkc 4 n2).t b = h1.t b := if_neg hbn
  have lb : (h1.mkc 4 n2).l b = h1.l b := if_neg hbn
  have pb : (h1.mkc 4 n2).p b = h1.p b := if_neg hbn
  have tn : (h1.mkc 4 n2).t h1.n = 4 := if_pos rfl
  have ln : (h1.mkc 4 n2).l h1.n = n2 := if_pos rfl
  have pn : (h1.mkc 4 n2).p h1.n = fun _ => 0 := if_pos rfl
  have key : ∀ x : Int32, x = nI cap → acpG b 0 h1.n 0 (imin x (nI n2)) (retG (rR h1.n)) (h1.mkc 4 n2) = some (rR h1.n, (h1.mkc 4 n2).wR h1.n row) := by
    rintro x rfl
    have e : imin (nI cap) (nI n2) = nI (min cap n2) := by
      unfold imin
      by_cases q : n2 < cap
      · rw [if_pos (nI_lt q (by omega)), Nat.min_eq_right (by omega)]
      · rw [if_neg (nI_nlt (by omega) (by omega)), Nat.min_eq_left (by omega)]
    rw [e, ev_acp 0 0 (min cap n2) nI_0.symm nI_0.symm rfl (by omega) (by omega) (by omega) (by rw [tb]; exact hb.1) tn (by rw [lb, hb.2]; omega) (by rw [ln]; omega) (fun i hi => by rw [pb, Nat.zero_add]; exact el_mkc (hex i hi) (he i hi)), pb, pn]
    have : va_cpy (h1.p b) (fun _ => 0) 0 0 (min cap n2) = row := by
      funext k
      rw [hrow]
      unfold va_cpy
      by_cases q : k < min cap n2
      · rw [if_pos (by omega), if_pos q, Nat.zero_add, Nat.sub_zero]
      · rw [if_neg (by omega), if_neg q]
    rw [this]
    rfl
  rcases hb.1 with q | q
  · rw [ev_alenK4 (tb.trans q), lb, hb.2]
    exact key _ rfl
  · rw [ev_alenK0 (tb.trans q)]
    exact key _ (by rw [← hb.2, h10 q]; rfl)
