/-! RULES of the clean machine: objects and arrays -/
set_option maxRecDepth 100000
theorem fv_congr {ρ ρ2 : Nat → Nat} {h h2 : HP} {a : Nat} (hi : h2.i a = h.i a) (hp : h2.p a = h.p a) (hro : ∀ k, ro ρ2 (h.p a k) = ro ρ (h.p a k)) (c : Nat) : fv ρ2 h2 c a = fv ρ h c a := by
  funext k
  unfold fv
  rw [hi, hp, hro]
theorem lamV_congr {ρ ρ2 : Nat → Nat} {h h2 : HP} {a : Nat} (hi : h2.i a = h.i a) (hp : h2.p a = h.p a) (hro : ∀ k, ro ρ2 (h.p a k) = ro ρ (h.p a k)) (c : Nat) : lamV ρ2 h2 a c = lamV ρ h a c := by
  unfold lamV
  split <;> simp only [hi, hp, hro]
theorem embAt_congr {γ : GC} {ρ ρ2 β β2 : Nat → Nat} {h h2 : HP} {H H2 : Heap} {a : Nat} (ht : h2.t a = h.t a) (hl : h2.l a = h.l a) (hi : h2.i a = h.i a) (hp : h2.p a = h.p a) (hj : h2.j a = h.j a) (hs : h2.s a = h.s a) (hm : h2.m a = h.m a)
    (hρ : h.t a ≠ 0 → ρ2 a = ρ a) (hro : h.t a ≠ 0 → ∀ k, ro ρ2 (h.p a k) = ro ρ (h.p a k)) (hrs : h.t a ≠ 0 → ∀ x ∈ h.s a, ro ρ2 x = ro ρ x) (hβ : h.t a = 8 → β2 a = β a) (hH : dyn (h.t a) → H2[ρ a]? = H[ρ a]?) (hHβ : h.t a = 8 → H2[β a]? = H[β a]?) (hE : EmbAt γ ρ β h H a) : EmbAt γ ρ2 β2 h2 H2 a := by
  obtain ⟨e1, e2, e3, e4, e5, e6, e7, e8⟩ := hE
  unfold EmbAt
  rw [ht, hl, hi, hp, hj, hs]
  refine ⟨fun q => ?_, fun q => ?_, fun q => ?_, fun q q2 => ?_, fun q => ?_, fun q q2 => ?_, fun q => ?_, fun q q2 => ?_⟩
  · rw [hρ (by omega), hH (by unfold dyn; omega)]; exact e1 q
  · rw [hρ (by omega), hH (by unfold dyn; omega)]; exact e2 q
  · rw [hρ (by omega), hH (by unfold dyn; omega)]; exact e3 q
  · rw [hρ (by omega), hH (by unfold dyn; omega), show (fun k => ro ρ2 (h.p a k)) = fun k => ro ρ (h.p a k) from funext (hro (by omega))]
    exact e4 q q2
  · obtain ⟨l1, l2, l3⟩ := e5 q
    have hlv : lsV ρ2 β2 h2 a = lsV ρ β h a := by
      funext k
      unfold lsV
      split
      · rw [hm]
      · rw [hβ q]
      · rw [hs]
    refine ⟨l1, ?_, ?_⟩
    · rw [hρ (by omega), hlv]
      exact l2.kept (hH (by unfold dyn; omega))
    · rw [hβ q]
      rcases l3 with l3 | ⟨l3, cap, l4, l5, l6, l7⟩
      · exact Or.inl l3
      · refine Or.inr ⟨l3, cap, l4, l5, l6, ?_⟩
        rw [hHβ q, l7]
        congr 3
        congr 1
        congr 1
        congr 1
        congr 1
        funext k
        by_cases hk : k < (h.s a).length
        · rw [List.getD_eq_getElem?_getD, List.getElem?_eq_getElem hk]
          exact (hrs (by omega) _ (List.getElem_mem hk)).symm
        · rw [List.getD_eq_getElem?_getD, List.getElem?_eq_none (by omega)]
          rfl
  · obtain ⟨r, r1, r2⟩ := e6 q q2
    refine ⟨r, r1, ?_⟩
    rw [hρ (by omega), fv_congr hi hp (hro (by omega))]
    exact r2.kept (hH (by unfold dyn; omega))
  · rw [hρ (by omega), hH (by unfold dyn; omega), lamV_congr hi hp (hro (by omega))]
    exact e7 q
  · obtain ⟨r1, r2, r3⟩ := e8 q q2
    exact ⟨by rw [hρ (by omega)]; exact r1, r2, r3⟩
/-- one live cell changes -/
theorem emb_write {γ : GC} {ρ β : Nat → Nat} {h h2 : HP} {A : Nat → Prop} {H H2 : Heap} {a : Nat} (hE : Emb γ ρ β h A H) (ha : dyn (h.t a)) (hn : h2.n = h.n) (ht : h2.t = h.t) (hoth : ∀ b, b ≠ a → h2.l b = h.l b ∧ h2.i b = h.i b ∧ h2.p b = h.p b ∧ h2.j b = h.j b ∧ h2.s b = h.s b ∧ h2.m b = h.m b)
    (hwf : (∀ k, h2.p a k < h.n) ∧ ∀ x ∈ h2.s a, x < h.n) (hH : ∀ q, q ≠ ρ a → H2[q]? = H[q]?) (hat : EmbAt γ ρ β h2 H2 a) : Emb γ ρ β h2 A H2 := by
  obtain ⟨e1, e2, e3, e4, e5, e6, e7, e8⟩ := hE
  refine ⟨by rw [hn]; exact e1, fun b hb => ?_, fun b => ?_, fun b hb => e4 b (by rw [← ht]; exact hb), fun b hb => e5 b (by rw [← ht]; exact hb), fun b c hb hc => e6 b c (by rw [← ht]; exact hb) (by rw [← ht]; exact hc), fun b c hb hc => e7 b c (by rw [← ht]; exact hb) (by rw [← ht]; exact hc), fun b c hb hc => e8 b c (by rw [← ht]; exact hb) (by rw [← ht]; exact hc)⟩
  · rw [ht] at hb
    rw [hn]
    obtain ⟨q1, q2, q3, q4⟩ := e2 b hb
    by_cases hba : b = a
    · subst hba
      exact ⟨q1, q2, hwf⟩
    · obtain ⟨-, -, o3, -, o5, -⟩ := hoth b hba
      rw [o3, o5]
      exact ⟨q1, q2, q3, q4⟩
  · by_cases hba : b = a
    · subst hba
      exact hat
    · obtain ⟨o1, o2, o3, o4, o5, o6⟩ := hoth b hba
      exact embAt_congr (by rw [ht]) o1 o2 o3 o4 o5 o6 (fun _ => rfl) (fun _ _ => rfl) (fun _ _ _ => rfl) (fun _ => rfl) (fun hb => hH _ fun q => hba (e6 b a hb ha q)) (fun hb => hH _ fun q => e8 a b ha hb q.symm) (e3 b)
theorem vy_write {d : MD} {c k : Nat} {γ : GC} {ρ0 β0 : Nat → Nat} {h0 : HP} {s : State} {ρ β τ : Nat → Nat} {ls : List (Nat × CV)} {h h2 : HP} {H H2 : Heap} {locs : List Loc} {cells slots : Nat} {lsA : Array Slot} {a i : Nat} (hv : Vy d c k γ ρ0 β0 h0 s ρ β τ ls h H locs cells slots lsA)
    (ha : dyn (h.t a)) (hn : h2.n = h.n) (ht : h2.t = h.t) (hoth : ∀ b, b ≠ a → h2.l b = h.l b ∧ h2.i b = h.i b ∧ h2.p b = h.p b ∧ h2.j b = h.j b ∧ h2.s b = h.s b ∧ h2.m b = h.m b) (hwf : (∀ k, h2.p a k < h.n) ∧ ∀ x ∈ h2.s a, x < h.n) (hz : H2.size = H.size) (hH : ∀ q, q ≠ ρ a → H2[q]? = H[q]?) (hat : EmbAt γ ρ β h2 H2 a) :
    Vy d c k γ ρ0 β0 h0 s ρ β τ ls h2 H2 (locs ++ [⟨ρ a, i⟩]) cells slots lsA := by
  obtain ⟨v1, v2, v3, ⟨v4, v4b⟩, v5, v6, v7, v8⟩ := hv
  refine ⟨by rw [hn]; exact v1, v2, emb_write v3 ha hn ht hoth hwf hH hat, ⟨fun i a2 m j hq => ?_, v4b⟩, by rw [hn]; exact v5, v6.put hz hH (v3.2.2.2.1 a ha).1, v7, v8⟩
  obtain ⟨t1, t2, t3, lr, t4⟩ := v4 i a2 m j hq
  exact ⟨t1, by rw [ht]; exact t2, by rw [ht]; exact t3, lr, t4.kept (hH _ fun q => t2 a ha q.symm)⟩
theorem itV_agree {ρ ρ2 : Nat → Nat} {a : Nat} (h : ro ρ2 a = ro ρ a) (m : Int32) (j : Nat) (lr : Int32) : itV ρ2 a m j lr = itV ρ a m j lr := by
  funext k
  unfold itV
  split <;> simp only [h]
theorem dyn_cases {t : Nat} (h : dyn t) : t = 1 ∨ t = 2 ∨ t = 3 ∨ (4 ≤ t ∧ t < 8) ∨ t = 8 ∨ (20 ≤ t ∧ t < 100) ∨ 200 ≤ t := by
  unfold dyn at h
  omega
/-- a cell is made -/
theorem vy_alloc {d : MD} {c k c1 k1 : Nat} {γ : GC} {ρ0 β0 : Nat → Nat} {h0 : HP} {s : State} {ρ β τ : Nat → Nat} {ls : List (Nat × CV)} {h : HP} {H H2 : Heap} {locs : List Loc} {cells slots cells2 slots2 : Nat} {lsA : Array Slot} {tag len : Nat} (hv : Vy d c1 k1 γ ρ0 β0 h0 s ρ β τ ls h H locs cells slots lsA) (hN : γ.N0 ≤ s.heap.size) (hs1 : γ.sa 1 < γ.N0) (hs2 : γ.sa 2 < γ.N0)
    (htag : dyn tag) (htag8 : tag ≠ 8) (hz : H2.size = H.size + 1) (hH : ∀ q, q < H.size → H2[q]? = H[q]?) (hat : EmbAt γ (up1 ρ h.n H.size) β (h.mkc tag len) H2 h.n) (hc : cells2 + c ≤ d.mc) (hk : slots2 + k ≤ d.ms) :
    Vy d c k γ ρ0 β0 h0 s (up1 ρ h.n H.size) β τ ls (h.mkc tag len) H2 locs cells2 slots2 lsA := by
  obtain ⟨v1, v2, ⟨e1, e2, e3, e4, e5, e6, e7, e8⟩, ⟨v4, v4b⟩, v5, v6, v7, v8⟩ := hv
  have hag : ∀ b, b < h.n → up1 ρ h.n H.size b = ρ b := fun b hb => by unfold up1; rw [if_neg (by omega)]
  have hself : up1 ρ h.n H.size h.n = H.size := by unfold up1; rw [if_pos rfl]
  have ht0 : h.t h.n = 0 := by
    by_cases q : h.t h.n = 0
    · exact q
    · have := (e2 _ q).2.1; omega
  have hoth : ∀ b, b ≠ h.n → (h.mkc tag len).t b = h.t b ∧ (h.mkc tag len).l b = h.l b ∧ (h.mkc tag len).i b = h.i b ∧ (h.mkc tag len).p b = h.p b ∧ (h.mkc tag len).j b = h.j b ∧ (h.mkc tag len).s b = h.s b ∧ (h.mkc tag len).m b = h.m b := by
    intro b hb
    simp only [HP.mkc, HP.mk, HP.t, HP.l, HP.i, HP.p, HP.j, HP.s, HP.m, up1]
    refine ⟨if_neg hb, if_neg hb, if_neg hb, if_neg hb, if_neg hb, if_neg hb, if_neg hb⟩
  have hnew : (h.mkc tag len).t h.n = tag ∧ (h.mkc tag len).p h.n = (fun _ => 0) ∧ (h.mkc tag len).s h.n = [] :=
    ⟨if_pos rfl, if_pos rfl, if_pos rfl⟩
  have hlt : ∀ b, dyn (h.t b) → ρ b < H.size := by
    intro b hb
    have ha := e3 b
    obtain ⟨a1, a2, a3, a4, a5, a6, a7, a8⟩ := ha
    have key : ∃ cell, H[ρ b]? = some cell := by
      rcases dyn_cases hb with q | q | q | q | q | q | q
      · exact ⟨_, a1 q⟩
      · exact ⟨_, a2 q⟩
      · exact ⟨_, a3 q⟩
      · exact ⟨_, a4 q.1 q.2⟩
      · obtain ⟨-, ⟨cell, q, -⟩, -⟩ := a5 q
        exact ⟨cell, q⟩
      · obtain ⟨r, -, cell, q, -⟩ := a6 q.1 q.2
        exact ⟨cell, q⟩
      · exact ⟨_, a7 q⟩
    obtain ⟨cell, q⟩ := key
    exact (Array.getElem?_eq_some_iff.mp q).1
  have hsz : s.heap.size ≤ H.size := v6.1
  have hb8 : ∀ b, h.t b = 8 → β b < H.size := by
    intro b hb
    obtain ⟨-, -, -, -, a5, -⟩ := e3 b
    obtain ⟨-, -, ⟨q | q, -⟩ | ⟨q1, cap, -, -, -, q2⟩⟩ := a5 hb
    · rw [q]
      exact Nat.lt_of_lt_of_le hs1 (Nat.le_trans hN hsz)
    · rw [q]
      exact Nat.lt_of_lt_of_le hs2 (Nat.le_trans hN hsz)
    · exact (Array.getElem?_eq_some_iff.mp q2).1
  have ho : ∀ b, (h.mkc tag len).t b ≠ 0 → b ≠ h.n → (h.mkc tag len).t b = h.t b ∧ h.t b ≠ 0 ∧ b < h.n := by
    intro b hb hbn
    have q := (hoth b hbn).1
    rw [q] at hb
    exact ⟨q, hb, (e2 b hb).2.1⟩
  have hd0 : ∀ b, dyn ((h.mkc tag len).t b) → b ≠ h.n → dyn (h.t b) ∧ b < h.n := by
    intro b hb hbn
    obtain ⟨q1, q2, q3⟩ := ho b (by unfold dyn at hb; omega) hbn
    rw [q1] at hb
    exact ⟨hb, q3⟩
  have hl0 : ∀ b, (h.mkc tag len).t b = 8 → h.t b = 8 ∧ b < h.n ∧ b ≠ h.n := by
    intro b hb
    by_cases hbn : b = h.n
    · rw [hbn, hnew.1] at hb
      exact absurd hb htag8
    · obtain ⟨q1, q2, q3⟩ := ho b (by omega) hbn
      exact ⟨by rw [← q1]; exact hb, q3, hbn⟩
  have hq : ρ0 = ρ0 := rfl
  have hro : ∀ x, x < h.n → ro (up1 ρ h.n H.size) x = ro ρ x := fun x hx => ro_agree hag hx
  refine ⟨Nat.le_succ_of_le v1, fun b hb => by rw [hag b (by omega)]; exact v2 b hb, ⟨Nat.le_succ_of_le e1, fun b hb => ?_, fun b => ?_, fun b hb => ?_, fun b hb hb2 => ?_, fun b b' hb hb' hbb => ?_, fun b b' hb hb' h1 h2 => ?_, fun b b' hb hb' => ?_⟩, ⟨fun i a m j hi => ?_, v4b⟩, fun q hq => wfl_mono (Nat.le_succ _) (v5 q hq), ⟨by rw [hz]; exact Nat.le_succ_of_le hsz, fun q h1 h2 => (hH q (Nat.lt_of_lt_of_le h1 hsz)).trans (v6.2.1 q h1 h2), v6.2.2⟩, ?_, hc, hk⟩
  · show 0 < b ∧ b < h.n + 1 ∧ _
    by_cases hbn : b = h.n
    · subst hbn
      refine ⟨by omega, by omega, fun k => ?_, fun x hx => ?_⟩
      · rw [hnew.2.1]
        exact Nat.succ_pos _
      · rw [hnew.2.2] at hx
        cases hx
    · obtain ⟨q1, q2, q3⟩ := ho b hb hbn
      obtain ⟨-, -, -, o4, -, o6, -⟩ := hoth b hbn
      obtain ⟨w1, w2, w3, w4⟩ := e2 b q2
      refine ⟨w1, by omega, fun k => ?_, fun x hx => ?_⟩
      · rw [o4]
        exact Nat.lt_succ_of_lt (w3 k)
      · rw [o6] at hx
        exact Nat.lt_succ_of_lt (w4 x hx)
  · by_cases hbn : b = h.n
    · subst hbn
      exact hat
    · obtain ⟨o1, o2, o3, o4, o5, o6, o7⟩ := hoth b hbn
      refine embAt_congr o1 o2 o3 o4 o5 o6 o7 (fun q => hag b (e2 b q).2.1) (fun q k => hro _ ((e2 b q).2.2.1 k)) (fun q x hx => hro _ ((e2 b q).2.2.2 x hx)) (fun _ => rfl) (fun q => hH _ (hlt b q)) (fun q => hH _ (hb8 b q)) (e3 b)
  · by_cases hbn : b = h.n
    · subst hbn
      rw [hself]
      exact ⟨⟨Nat.le_trans hN hsz, Or.inr (Or.inr hsz)⟩, e1⟩
    · obtain ⟨q1, q2⟩ := hd0 b hb hbn
      rw [hag b q2]
      exact e4 b q1
  · exact e5 b (hl0 b hb).1 hb2
  · by_cases hbn : b = h.n
    · by_cases hbn' : b' = h.n
      · rw [hbn, hbn']
      · obtain ⟨q1, q2⟩ := hd0 b' hb' hbn'
        rw [hbn, hself, hag b' q2] at hbb
        have := hlt b' q1
        omega
    · obtain ⟨q1, q2⟩ := hd0 b hb hbn
      by_cases hbn' : b' = h.n
      · rw [hbn', hself, hag b q2] at hbb
        have := hlt b q1
        omega
      · obtain ⟨q3, q4⟩ := hd0 b' hb' hbn'
        rw [hag b q2, hag b' q4] at hbb
        exact e6 b b' q1 q3 hbb
  · exact e7 b b' (hl0 b hb).1 (hl0 b' hb').1 h1 h2
  · by_cases hbn : b = h.n
    · rw [hbn, hself]
      have := hb8 b' (hl0 b' hb').1
      omega
    · obtain ⟨q1, q2⟩ := hd0 b hb hbn
      rw [hag b q2]
      exact e8 b b' q1 (hl0 b' hb').1
  · obtain ⟨t1, t2, t3, lr, t4⟩ := v4 i a m j hi
    have ht4 : τ i < H.size := by
      obtain ⟨cell, q, -⟩ := t4
      exact (Array.getElem?_eq_some_iff.mp q).1
    refine ⟨t1, fun b hb => ?_, fun b hb => t3 b (hl0 b hb).1, lr, ?_⟩
    · by_cases hbn : b = h.n
      · rw [hbn, hself]
        omega
      · obtain ⟨q1, q2⟩ := hd0 b hb hbn
        rw [hag b q2]
        exact t2 b q1
    · rw [itV_agree (hro a (v5 _ hi))]
      exact t4.kept (hH _ ht4)
  · rw [pls_agree hag v5]
    exact v7
