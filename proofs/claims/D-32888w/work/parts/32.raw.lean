/-! LISTS: what the JDK's methods do to an open list -/
set_option maxRecDepth 100000
theorem ev_getI {t a j : Nat} {f : Int32 → GF} {h : HP} (ht : h.t a = t) : getI t a j f h = f (h.i a j) h := if_pos ht
theorem ev_getP {t a j : Nat} {f : Nat → GF} {h : HP} (ht : h.t a = t) : getP t a j f h = f (h.p a j) h := if_pos ht
theorem ev_putI {t a j : Nat} {x : Int32} {f : GF} {h : HP} (ht : h.t a = t) : putI t a j x f h = f (h.wI a j x) := if_pos ht
theorem ev_putP {t a j x : Nat} {f : GF} {h : HP} (ht : h.t a = t) : putP t a j x f h = f (h.wP a j x) := if_pos ht
theorem ev_alenK0 {a : Nat} {f : Int32 → GF} {h : HP} (ht : h.t a = 10) : alenKG a f h = f 0 h := if_pos ht
theorem ev_alenK4 {a : Nat} {f : Int32 → GF} {h : HP} (ht : h.t a = 4) : alenKG a f h = f (nI (h.l a)) h := by
  unfold alenKG alenG
  rw [if_neg (by omega), if_pos (by omega)]
theorem ev_invV {rc : Option (Nat × Nat)} {g f : GF} {h h1 : HP} (hr : rcv rc h = true) (hg : g h = some (rV, h1)) : invV rc g f h = f h1 := by
  unfold invV invG
  rw [if_pos hr, hg]
theorem ev_invI {rc : Option (Nat × Nat)} {g : GF} {f : Int32 → GF} {h h1 : HP} {x : Int32} (hr : rcv rc h = true) (hg : g h = some (rI x, h1)) : invI rc g f h = f x h1 := by
  unfold invI invG
  rw [if_pos hr, hg]
theorem ev_invP {rc : Option (Nat × Nat)} {g : GF} {f : Nat → GF} {h h1 : HP} {x : Nat} (hr : rcv rc h = true) (hg : g h = some (rR x, h1)) : invP rc g f h = f x h1 := by
  unfold invP invG
  rw [if_pos hr, hg]
theorem ev_rcv {a t : Nat} {h : HP} (ht : h.t a = t) : rcv (some (a, t)) h = true := by
  show (h.t a == t) = true
  rw [ht]
  exact beq_self_eq_true t
theorem ev_aast {a x : Nat} {j : Int32} {f : GF} {h : HP} (k : Nat) (hj : j = nI k) (hk : k < 2 ^ 31) (ht : h.t a = 4) (hl : k < h.l a) (he : elOK h x) : aastG a j x f h = f (h.wP a k x) := by
  subst hj
  unfold aastG
  rw [nI_clamp hk, if_pos ⟨⟨ht, nI_pos hk, hl⟩, he⟩]
theorem ev_aald {a t : Nat} {j : Int32} {f : Nat → GF} {h : HP} (k : Nat) (hj : j = nI k) (hk : k < 2 ^ 31) (ht : h.t a = t) (hl : k < h.l a) : aaldG t a j f h = f (h.p a k) h := by
  subst hj
  unfold aaldG
  rw [nI_clamp hk, if_pos ⟨ht, nI_pos hk, hl⟩]
theorem ev_newa {t B k : Nat} {n : Int32} {f : Nat → GF} {h : HP} (hj : n = nI k) (hk : k < 2 ^ 31) (hB : k ≤ B) : newaG t B n f h = f h.n (h.mkc t k) := by
  subst hj
  unfold newaG
  rw [nI_clamp hk, if_pos ⟨nI_pos hk, hB⟩]
theorem ev_acp {a0 a1 : Nat} {sp dp n : Int32} {f : GF} {h : HP} (u v w : Nat) (hu : sp = nI u) (hv : dp = nI v) (hw : n = nI w) (bu : u < 2 ^ 31) (bv : v < 2 ^ 31) (bw : w < 2 ^ 31) (t0 : h.t a0 = 4 ∨ h.t a0 = 10) (t1 : h.t a1 = 4) (l0 : u + w ≤ h.l a0) (l1 : v + w ≤ h.l a1) (he : ∀ i, i < w → elOK h (h.p a0 (u + i))) :
    acpG a0 sp a1 dp n f h = f (h.wR a1 (va_cpy (h.p a0) (h.p a1) u v w)) := by
  subst hu hv hw
  unfold acpG
  rw [if_pos (show acpOK h a0 (nI u) a1 (nI v) (nI w) by
    unfold acpOK
    rw [nI_clamp bu, nI_clamp bv, nI_clamp bw]
    exact ⟨t0, t1, nI_pos bu, nI_pos bv, nI_pos bw, l0, l1, he⟩), nI_clamp bu, nI_clamp bv, nI_clamp bw]
theorem ev_acEq {a b : Nat} {f g : GF} {h : HP} (hab : a = b) : acG a b f g h = f h := if_pos hab
theorem ev_acNe {a b : Nat} {f g : GF} {h : HP} (hab : a ≠ b) (ha : okA h a) (hb : okA h b) : acG a b f g h = g h := by
  unfold acG
  rw [if_neg hab]
  exact if_pos ⟨ha, hb⟩
theorem ev_gs {a t : Nat} {f : Nat → GF} {h : HP} (ht : h.t a = t) : gsG a t f h = f a h := if_pos ht
theorem ev_mir {a : Nat} {f : Nat → GF} {h : HP} (ht : h.t a = 12) : mirG a f h = f a h := if_pos ht
theorem ev_gcA {a : Nat} {f : Nat → GF} {h : HP} (ht : h.t a = 4 ∨ h.t a = 10) (h3 : h.t 3 = 12) : gcAG a f h = f 3 h := if_pos ⟨ht, h3⟩
/-! a heap that is the other's but for the open list -/
def WFh (h : HP) : Prop := 270 ≤ h.n ∧ (∀ x, h.t x ≠ 0 → 0 < x ∧ x < h.n ∧ (∀ k, h.p x k < h.n) ∧ ∀ y ∈ h.s x, y < h.n) ∧ (∀ b, h.t b = 10 → (b = 1 ∨ b = 2) ∧ h.l b = 0) ∧ ∀ x, h.t x = 8 → (h.s x).length ≤ 64
theorem emb_wfh {γ : GC} {ρ β : Nat → Nat} {h : HP} {A : Nat → Prop} {H : Heap} (hE : Emb γ ρ β h A H) : WFh h := by
  refine ⟨hE.1, hE.2.1, fun b hb => (emb_k hE hb (by omega) (by omega)).2.2.2.2.1 rfl, fun x hx => ?_⟩
  obtain ⟨-, -, -, -, l5, -⟩ := hE.2.2.1 x
  exact (l5 hx).1
def SameB (h : HP) (a : Nat) (h1 : HP) : Prop := ∀ x, x ≠ a → x < h.n → h1.t x = h.t x ∧ h1.l x = h.l x ∧ h1.i x = h.i x ∧ h1.p x = h.p x ∧ h1.j x = h.j x ∧ h1.s x = h.s x ∧ h1.m x = h.m x
theorem SameB.wI {h h1 : HP} {a b k : Nat} {v : Int32} (hs : SameB h a h1) (hb : b = a ∨ h.n ≤ b) : SameB h a (h1.wI b k v) := by
  intro x hx hn
  obtain ⟨q1, q2, q3, q4, q5, q6, q7⟩ := hs x hx hn
  refine ⟨q1, q2, ?_, q4, q5, q6, q7⟩
  rw [← q3]
  funext j
  exact if_neg (fun q => by omega)
theorem SameB.wP {h h1 : HP} {a b k v : Nat} (hs : SameB h a h1) (hb : b = a ∨ h.n ≤ b) : SameB h a (h1.wP b k v) := by
  intro x hx hn
  obtain ⟨q1, q2, q3, q4, q5, q6, q7⟩ := hs x hx hn
  refine ⟨q1, q2, q3, ?_, q5, q6, q7⟩
  rw [← q4]
  funext j
  exact if_neg (fun q => by omega)
theorem SameB.wR {h h1 : HP} {a b : Nat} {row : Nat → Nat} (hs : SameB h a h1) (hb : b = a ∨ h.n ≤ b) : SameB h a (h1.wR b row) := by
  intro x hx hn
  obtain ⟨q1, q2, q3, q4, q5, q6, q7⟩ := hs x hx hn
  refine ⟨q1, q2, q3, ?_, q5, q6, q7⟩
  rw [← q4]
  exact if_neg (fun q => by omega)
theorem SameB.mkc {h h1 : HP} {a t l : Nat} (hs : SameB h a h1) (hb : h.n ≤ h1.n) : SameB h a (h1.mkc t l) := by
  intro x hx hn
  obtain ⟨q1, q2, q3, q4, q5, q6, q7⟩ := hs x hx hn
  have hne : x ≠ h1.n := by omega
  exact ⟨(if_neg hne).trans q1, (if_neg hne).trans q2, (if_neg hne).trans q3, (if_neg hne).trans q4, (if_neg hne).trans q5, (if_neg hne).trans q6, (if_neg hne).trans q7⟩
/-- h1 is h with the list a open: its array b of cap places, its elements xs, its count m -/
def RL (h : HP) (a : Nat) (h1 : HP) (b cap : Nat) (xs : List Nat) (m : Int32) : Prop :=
  SameB h a h1 ∧ h.n ≤ h1.n ∧ h1.t a = 34 ∧ h1.i a 0 = m ∧ h1.i a 2 = nI xs.length ∧ h1.p a 1 = b ∧ xs.length ≤ cap ∧ cap ≤ 64 ∧
  (((b = 1 ∨ b = 2) ∧ cap = 0 ∧ h1.t b = 10 ∧ h1.l b = 0) ∨ (h1.t b = 4 ∧ h.n ≤ b ∧ b < h1.n ∧ 0 < cap ∧ h1.l b = cap ∧ ∀ k, h1.p b k = xs.getD k 0))
theorem rl_opK {h : HP} {a b : Nat} (hw : WFh h) (ht : h.t a = 8) (hb : h.t b = 10) (hs : h.s a = []) : RL h a (h.opK a b) b 0 (h.s a) (h.m a) := by
  have hba : b ≠ a := fun q => by rw [q] at hb; omega
  obtain ⟨q1, q2⟩ := hw.2.2.1 b hb
  refine ⟨fun x hx hn => ⟨if_neg hx, rfl, if_neg hx, if_neg hx, rfl, rfl, rfl⟩, Nat.le_succ _, if_pos rfl, ?_, ?_, ?_, by rw [hs]; exact Nat.le_refl _, by omega, Or.inl ⟨q1, rfl, (if_neg hba).trans hb, q2⟩⟩
  · show opI h a a 0 = _
    unfold opI up1
    rw [if_pos rfl, if_pos rfl]
  · show opI h a a 2 = _
    unfold opI up1
    rw [if_pos rfl, if_neg (by omega)]
  · show up1 h.p a _ a 1 = _
    unfold up1
    rw [if_pos rfl, if_pos rfl]
theorem rl_opA {h : HP} {a cap : Nat} (hw : WFh h) (ht : h.t a = 8) (h1 : (h.s a).length ≤ cap) (h2 : 0 < cap) (h3 : cap ≤ 64) : RL h a (h.opA a cap) h.n cap (h.s a) (h.m a) := by
  have han : a < h.n := (hw.2.1 a (by omega)).2.1
  have hne : a ≠ h.n := by omega
  refine ⟨fun x hx hn => ?_, Nat.le_succ _, ?_, ?_, ?_, ?_, h1, h3, Or.inr ⟨if_pos rfl, Nat.le_refl _, Nat.lt_succ_self _, h2, if_pos rfl, fun k => ?_⟩⟩
  · have hxn : x ≠ h.n := by omega
    refine ⟨?_, if_neg hxn, if_neg hx, ?_, rfl, if_neg hxn, rfl⟩
    · show up1 (up1 h.t a 34) h.n 4 x = _
      unfold up1
      rw [if_neg hxn, if_neg hx]
    · show up1 (up1 h.p a _) h.n _ x = _
      unfold up1
      rw [if_neg hxn, if_neg hx]
  · show up1 (up1 h.t a 34) h.n 4 a = _
    unfold up1
    rw [if_neg hne, if_pos rfl]
  · show opI h a a 0 = _
    unfold opI up1
    rw [if_pos rfl, if_pos rfl]
  · show opI h a a 2 = _
    unfold opI up1
    rw [if_pos rfl, if_neg (by omega)]
  · show up1 (up1 h.p a _) h.n _ a 1 = _
    unfold up1
    rw [if_neg hne, if_pos rfl, if_pos rfl]
  · show up1 (up1 h.p a _) h.n _ h.n k = _
    unfold up1
    rw [if_pos rfl]
theorem rl_cls {h h1 : HP} {a b cap : Nat} {xs : List Nat} {m : Int32} (hw : WFh h) (ht : h.t a = 8) (hR : RL h a h1 b cap xs m) (hxs : ∀ x ∈ xs, x < h.n) : ClsTo h1 a (h.wS a xs m) := by
  obtain ⟨r1, r2, r3, r4, r5, r6, r7, r8, r9⟩ := hR
  obtain ⟨w1, w2, w3, w4⟩ := hw
  obtain ⟨a1, a2, a3, a4⟩ := w2 a (by omega)
  have hs : (h.wS a xs m).s a = xs := if_pos rfl
  have hm : (h.wS a xs m).m a = m := if_pos rfl
  refine ⟨w1, r3, ht, a2, by rw [hm, r4], by rw [hs, r5], by rw [hs]; omega, a3, by rw [hs]; exact hxs, ?_, fun x hx h0 => ?_⟩
  · rw [r6, hs]
    rcases r9 with ⟨q1, q2, q3, -⟩ | ⟨q1, q2, q3, q4, q5, q6⟩
    · exact Or.inl ⟨q1, q3, List.eq_nil_of_length_eq_zero (by omega)⟩
    · refine Or.inr ⟨q1, ?_, by omega, by omega, by omega, q6⟩
      show h.t b = 0
      by_cases q : h.t b = 0
      · exact q
      · have := (w2 b q).2.1
        omega
  · have h0 : h.t x ≠ 0 := h0
    obtain ⟨u1, u2, u3, u4⟩ := w2 x h0
    obtain ⟨q1, q2, q3, q4, q5, q6, q7⟩ := r1 x hx u2
    exact ⟨q1.symm, q2.symm, q3.symm, q4.symm, q5.symm, (if_neg hx).trans q6.symm, (if_neg hx).trans q7.symm, u2, fun k => by rw [q4]; exact u3 k, fun y hy => u4 y (by rw [← q6]; exact hy)⟩
/-- a list's method -/
theorem cmf_rl {d : MD} {args : List CV} {f g : GF} {a : Nat} (hM : CMF d args g) (key : ∀ h r h', f h = some (r, h') → h.t a = 8 ∧ h.t 1 = 10 ∧ h.t 2 = 10 ∧ (wfS h.n args → WFh h → wfo h'.n r ∧ h.n ≤ h'.n ∧ ∀ h1 b cap, RL h a h1 b cap (h.s a) (h.m a) → h1.n = h.n + 1 → ∃ h2, g h1 = some (r, h2) ∧ ClsTo h2 a h')) : CMF d args f := by
  intro h r h' hf
  obtain ⟨ht, ht1, ht2, hk⟩ := key h r h' hf
  refine cm_pre fun γ ρ β A H hwf hE => ?_
  have hw := emb_wfh hE
  obtain ⟨hr, hn, hR⟩ := hk hwf hw
  refine ⟨hr, hn, cm_list hr hn hwf ht ht1 ht2 (fun b hb hs => ?_) (fun cap c1 c2 c3 => ?_)⟩
  · obtain ⟨h2, e1, e2⟩ := hR (h.opK a b) b 0 (rl_opK hw ht (by rcases hb with rfl | rfl; exact ht1; exact ht2) hs) rfl
    exact ⟨h2, hM _ _ _ e1, e2⟩
  · obtain ⟨h2, e1, e2⟩ := hR (h.opA a cap) h.n cap (rl_opA hw ht c1 c2 c3) rfl
    exact ⟨h2, hM _ _ _ e1, e2⟩
/-- the list is read alone -/
theorem wS_self {h : HP} {a : Nat} : h.wS a (h.s a) (h.m a) = h := by
  have e1 : up1 h.s a (h.s a) = h.s := by
    funext x
    unfold up1
    split
    · rename_i q; rw [q]
    · rfl
  have e2 : up1 h.m a (h.m a) = h.m := by
    funext x
    unfold up1
    split
    · rename_i q; rw [q]
    · rfl
  show HP.mk h.n h.t h.l h.i h.p h.j (up1 h.s a (h.s a)) (up1 h.m a (h.m a)) = h
  rw [e1, e2]
  rfl
theorem rl_same {h h1 : HP} {a b cap : Nat} (hw : WFh h) (ht : h.t a = 8) (hR : RL h a h1 b cap (h.s a) (h.m a)) : ClsTo h1 a h := by
  have := rl_cls hw ht hR (hw.2.1 a (by omega)).2.2.2
  rwa [wS_self] at this
abbrev kC (h : HP) : Prop := h.t 1 = 10 ∧ h.t 2 = 10 ∧ h.t 3 = 12 ∧ h.t 261 = 12
/-! size, isEmpty, get -/
def s_size (a : Nat) : GF := fun h => if h.t a = 8 ∧ kC h then some (rI (nI (h.s a).length), h) else none
theorem c_size (a : Nat) : CMF md_J2_size [cR a] (s_size a) := by
  refine cmf_rl (a := a) (m_J2_size a) fun h r h' hf => ?_
  unfold s_size at hf
  split at hf
  · rename_i hg
    cases hf
    refine ⟨hg.1, hg.2.1, hg.2.2.1, fun _ hw => ⟨trivial, Nat.le_refl _, fun h1 b cap hR hn => ⟨h1, ?_, rl_same hw hg.1 hR⟩⟩⟩
    obtain ⟨-, -, r3, -, r5, -⟩ := hR
    unfold g_J2_size
    rw [ev_getI r3, r5]
    rfl
  · cases hf
def s_isEmpty (a : Nat) : GF := fun h => if h.t a = 8 ∧ kC h then some (rI (if h.s a = [] then 1 else 0), h) else none
theorem c_isEmpty (a : Nat) : CMF md_J2_isEmpty [cR a] (s_isEmpty a) := by
  refine cmf_rl (a := a) (m_J2_isEmpty a) fun h r h' hf => ?_
  unfold s_isEmpty at hf
  split at hf
  · rename_i hg
    cases hf
    refine ⟨hg.1, hg.2.1, hg.2.2.1, fun _ hw => ⟨trivial, Nat.le_refl _, fun h1 b cap hR hn => ⟨h1, ?_, rl_same hw hg.1 hR⟩⟩⟩
    obtain ⟨-, -, r3, -, r5, -⟩ := hR
    have h64 := hw.2.2.2 a hg.1
    unfold g_J2_isEmpty
    rw [ev_getI r3, r5]
    by_cases hs : h.s a = []
    · rw [if_pos hs, hs]
      rfl
    · have : 0 < (h.s a).length := List.length_pos_iff.mpr hs
      rw [if_neg hs]
      rw [if_neg (nI_ne0 this (by omega))]
      rfl
  · cases hf
def s_get (a : Nat) (j : Int32) : GF := fun h => if (h.t a = 8 ∧ kC h) ∧ ¬ (j < 0) ∧ j.toNatClampNeg < (h.s a).length then some (rR ((h.s a).getD j.toNatClampNeg 0), h) else none
theorem ev_checkIndex {u n : Nat} {h : HP} (hu : u < n) (hn : n < 2 ^ 31) : g_J14_checkIndex (nI u) (nI n) h = some (rI (nI u), h) := by
  unfold g_J14_checkIndex
  refine (ev_invI (h1 := h) (x := nI u) rfl ?_).trans rfl
  unfold g_J15_checkIndex
  rw [if_neg (nI_pos (by omega)), if_pos (nI_lt hu hn)]
  rfl
theorem getD_lt {xs : List Nat} {n k : Nat} (hx : ∀ x ∈ xs, x < n) (hn : 0 < n) : xs.getD k 0 < n := by
  rw [List.getD_eq_getElem?_getD]
  by_cases hk : k < xs.length
  · rw [List.getElem?_eq_getElem hk]
    exact hx _ (List.getElem_mem hk)
  · rw [List.getElem?_eq_none (by omega)]
    exact hn
theorem c_get (a : Nat) (j : Int32) : CMF md_J2_get [cR a, cI j] (s_get a j) := by
  refine cmf_rl (a := a) (m_J2_get a j) fun h r h' hf => ?_
  unfold s_get at hf
  split at hf
  · rename_i hg
    obtain ⟨hg, hj, hjl⟩ := hg
    cases hf
    obtain ⟨u, hu, rfl⟩ := nI_of hj
    rw [nI_clamp hu] at hjl ⊢
    refine ⟨hg.1, hg.2.1, hg.2.2.1, fun _ hw => ⟨getD_lt (hw.2.1 a (by omega)).2.2.2 (by have := hw.1; omega), Nat.le_refl _, fun h1 b cap hR hn => ⟨h1, ?_, rl_same hw hg.1 hR⟩⟩⟩
    obtain ⟨-, -, r3, -, r5, r6, r7, r8, r9⟩ := hR
    have h64 := hw.2.2.2 a hg.1
    unfold g_J2_get
    rw [ev_getI r3, r5, ev_invI rfl (ev_checkIndex hjl (by omega))]
    rcases r9 with ⟨-, q2, -⟩ | ⟨q1, q2, q3, q4, q5, q6⟩
    · omega
    · refine (ev_invP (h1 := h1) (x := (h.s a).getD u 0) (ev_rcv r3) ?_).trans rfl
      unfold g_J2_elementData
      rw [ev_getP r3, r6, ev_aald u rfl hu q1 (by omega), q6]
      rfl
  · cases hf
