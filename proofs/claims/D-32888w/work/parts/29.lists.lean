/-! LISTS: a list's cell opened into its object and its array, and closed again -/
set_option maxRecDepth 100000
theorem emb_re {γ : GC} {ρ β ρ2 β2 : Nat → Nat} {h h2 : HP} {A : Nat → Prop} {H : Heap} (hE : Emb γ ρ β h A H) (S : Nat → Prop) (hn : 270 ≤ h2.n)
    (hs : ∀ b, ¬ S b → h2.t b ≠ 0 → h.t b ≠ 0 ∧ h2.t b = h.t b ∧ h2.l b = h.l b ∧ h2.i b = h.i b ∧ h2.p b = h.p b ∧ h2.j b = h.j b ∧ h2.s b = h.s b ∧ h2.m b = h.m b ∧ ρ2 b = ρ b ∧ (h.t b = 8 → β2 b = β b) ∧ b < h2.n ∧ (∀ k, h.p b k < h2.n ∧ ro ρ2 (h.p b k) = ro ρ (h.p b k)) ∧ ∀ x ∈ h.s b, x < h2.n ∧ ro ρ2 x = ro ρ x)
    (hS : ∀ b, S b → h2.t b ≠ 0 → 0 < b ∧ b < h2.n ∧ (∀ k, h2.p b k < h2.n) ∧ (∀ x ∈ h2.s b, x < h2.n) ∧ EmbAt γ ρ2 β2 h2 H b ∧ (dyn (h2.t b) → A (ρ2 b) ∧ 270 ≤ b) ∧ (h2.t b = 8 → γ.N0 ≤ β2 b → A (β2 b)))
    (i6 : ∀ b, S b → dyn (h2.t b) → ∀ b', dyn (h2.t b') → ρ2 b = ρ2 b' → b = b')
    (i7 : ∀ b, S b → h2.t b = 8 → ∀ b', h2.t b' = 8 → γ.N0 ≤ β2 b → β2 b = β2 b' → b = b')
    (i8 : ∀ b b', S b ∨ S b' → dyn (h2.t b) → h2.t b' = 8 → ρ2 b ≠ β2 b') : Emb γ ρ2 β2 h2 A H := by
  obtain ⟨e1, e2, e3, e4, e5, e6, e7, e8⟩ := hE
  have hd : ∀ t, dyn t → t ≠ 0 := fun t ht => by unfold dyn at ht; omega
  refine ⟨hn, fun b hb => ?_, fun b => ?_, fun b hb => ?_, fun b hb hN => ?_, fun b b' hb hb' he => ?_, fun b b' hb hb' hN he => ?_, fun b b' hb hb' => ?_⟩
  · by_cases hSb : S b
    · obtain ⟨q1, q2, q3, q4, -⟩ := hS b hSb hb
      exact ⟨q1, q2, q3, q4⟩
    · obtain ⟨q0, q1, q2, q3, q4, q5, q6, q7, q8, q9, q10, q11, q12⟩ := hs b hSb hb
      rw [q4, q6]
      exact ⟨(e2 b q0).1, q10, fun k => (q11 k).1, fun x hx => (q12 x hx).1⟩
  · by_cases hb : h2.t b = 0
    · refine ⟨fun q => by omega, fun q => by omega, fun q => by omega, fun q q2 => by omega, fun q => by omega, fun q q2 => by omega, fun q => by omega, fun q q2 => by omega⟩
    · by_cases hSb : S b
      · exact (hS b hSb hb).2.2.2.2.1
      · obtain ⟨q0, q1, q2, q3, q4, q5, q6, q7, q8, q9, q10, q11, q12⟩ := hs b hSb hb
        exact embAt_congr q1 q2 q3 q4 q5 q6 q7 (fun _ => q8) (fun _ k => (q11 k).2) (fun _ x hx => (q12 x hx).2) q9 (fun _ => rfl) (fun _ => rfl) (e3 b)
  · by_cases hSb : S b
    · exact (hS b hSb (hd _ hb)).2.2.2.2.2.1 hb
    · obtain ⟨q0, q1, q2, q3, q4, q5, q6, q7, q8, q9, q10, q11, q12⟩ := hs b hSb (hd _ hb)
      rw [q8]
      rw [q1] at hb
      exact e4 b hb
  · by_cases hSb : S b
    · exact (hS b hSb (by omega)).2.2.2.2.2.2 hb hN
    · obtain ⟨q0, q1, q2, q3, q4, q5, q6, q7, q8, q9, q10, q11, q12⟩ := hs b hSb (by omega)
      rw [q1] at hb
      rw [q9 hb] at hN ⊢
      exact e5 b hb hN
  · by_cases hSb : S b
    · exact i6 b hSb hb b' hb' he
    · by_cases hSb' : S b'
      · exact (i6 b' hSb' hb' b hb he.symm).symm
      · obtain ⟨q0, q1, q2, q3, q4, q5, q6, q7, q8, q9, q10, q11, q12⟩ := hs b hSb (hd _ hb)
        obtain ⟨u0, u1, u2, u3, u4, u5, u6, u7, u8, u9, u10, u11, u12⟩ := hs b' hSb' (hd _ hb')
        rw [q1] at hb
        rw [u1] at hb'
        rw [q8, u8] at he
        exact e6 b b' hb hb' he
  · by_cases hSb : S b
    · exact i7 b hSb hb b' hb' hN he
    · by_cases hSb' : S b'
      · exact (i7 b' hSb' hb' b hb (by rw [← he]; exact hN) he.symm).symm
      · obtain ⟨q0, q1, q2, q3, q4, q5, q6, q7, q8, q9, q10, q11, q12⟩ := hs b hSb (by omega)
        obtain ⟨u0, u1, u2, u3, u4, u5, u6, u7, u8, u9, u10, u11, u12⟩ := hs b' hSb' (by omega)
        rw [q1] at hb
        rw [u1] at hb'
        rw [q9 hb] at hN he
        rw [u9 hb'] at he
        exact e7 b b' hb hb' hN he
  · by_cases hSb : S b ∨ S b'
    · exact i8 b b' hSb hb hb'
    · have n1 : ¬ S b := fun q => hSb (Or.inl q)
      have n2 : ¬ S b' := fun q => hSb (Or.inr q)
      obtain ⟨q0, q1, q2, q3, q4, q5, q6, q7, q8, q9, q10, q11, q12⟩ := hs b n1 (hd _ hb)
      obtain ⟨u0, u1, u2, u3, u4, u5, u6, u7, u8, u9, u10, u11, u12⟩ := hs b' n2 (by omega)
      rw [q1] at hb
      rw [u1] at hb'
      rw [q8, u9 hb']
      exact e8 b b' hb hb'
/-- the opened list's object -/
def opI (h : HP) (a : Nat) : Nat → Nat → Int32 := up1 h.i a (fun k => if k = 0 then h.m a else nI (h.s a).length)
def HP.opK (h : HP) (a b : Nat) : HP := HP.mk (h.n + 1) (up1 h.t a 34) h.l (opI h a) (up1 h.p a (fun k => if k = 1 then b else 0)) h.j h.s h.m
def HP.opA (h : HP) (a cap : Nat) : HP := HP.mk (h.n + 1) (up1 (up1 h.t a 34) h.n 4) (up1 h.l h.n cap) (opI h a) (up1 (up1 h.p a (fun k => if k = 1 then h.n else 0)) h.n (fun k => (h.s a).getD k 0)) h.j (up1 h.s h.n []) h.m
theorem tOB3 {o : Nat} {cC : ClassId} {iS : Nat → Nat} {H : Heap} {V V2 : Nat → Value} (h : t_OB o cC 3 iS H V) (h0 : V2 0 = V 0) (h1 : V2 1 = V 1) (h2 : V2 2 = V 2) : t_OB o cC 3 iS H V2 := by
  obtain ⟨cell, q1, q2, q3, q4⟩ := h
  refine ⟨cell, q1, q2, q3, fun k hk => ?_⟩
  rcases (show k = 0 ∨ k = 1 ∨ k = 2 by omega) with rfl | rfl | rfl
  · rw [h0]; exact q4 0 (by omega)
  · rw [h1]; exact q4 1 (by omega)
  · rw [h2]; exact q4 2 (by omega)
theorem vwRef14 : vwRef 14 0 = false ∧ vwRef 14 1 = true ∧ vwRef 14 2 = false := by decide +kernel
theorem emb_opK {γ : GC} {ρ β : Nat → Nat} {h : HP} {A : Nat → Prop} {H : Heap} {a b : Nat} (hE : Emb γ ρ β h A H) (ht : h.t a = 8) (hb : h.t b = 10) (hβ : β a = γ.sa b) (hs : h.s a = []) : Emb γ ρ β (h.opK a b) A H := by
  obtain ⟨e1, e2, e3, e4, e5, e6, e7, e8⟩ := id hE
  obtain ⟨a1, a2, a3, a4⟩ := e2 a (by omega)
  obtain ⟨b1, b2, -, -⟩ := e2 b (by omega)
  have hta : (h.opK a b).t a = 34 := if_pos rfl
  have htb : ∀ x, x ≠ a → (h.opK a b).t x = h.t x := fun x hx => if_neg hx
  have hdy : ∀ x, dyn ((h.opK a b).t x) → dyn (h.t x) := by
    intro x hx
    by_cases q : x = a
    · rw [q, ht]; exact Or.inl (by omega)
    · rwa [htb x q] at hx
  refine emb_re hE (fun x => x = a) (by show 270 ≤ h.n + 1; omega) (fun x hx h0 => ?_) (fun x hx h0 => ?_) (fun x hx hd x' hd' he => e6 x x' (hdy x hd) (hdy x' hd') he) (fun x hx h8 => ?_) (fun x x' hx hd h8 => ?_)
  · have hx : x ≠ a := hx
    rw [htb x hx] at h0
    obtain ⟨w1, w2, w3, w4⟩ := e2 x h0
    exact ⟨h0, htb x hx, rfl, if_neg hx, if_neg hx, rfl, rfl, rfl, rfl, fun _ => rfl, Nat.lt_succ_of_lt w2, fun k => ⟨Nat.lt_succ_of_lt (w3 k), rfl⟩, fun y hy => ⟨Nat.lt_succ_of_lt (w4 y hy), rfl⟩⟩
  · have hx : x = a := hx
    subst hx
    have hp : (h.opK x b).p x = fun k => if k = 1 then b else 0 := if_pos rfl
    have hi : (h.opK x b).i x = fun k => if k = 0 then h.m x else nI (h.s x).length := if_pos rfl
    refine ⟨a1, Nat.lt_succ_of_lt a2, fun k => ?_, fun y hy => Nat.lt_succ_of_lt (a4 y hy), ?_, fun _ => e4 x (by rw [ht]; exact Or.inl (by omega)), fun h8 => ?_⟩
    · rw [hp]
      show (if k = 1 then b else 0) < h.n + 1
      split <;> omega
    · obtain ⟨-, -, -, -, l5, -⟩ := e3 x
      obtain ⟨-, l5, -⟩ := l5 ht
      refine embAt_obj (ci := 14) rfl hta (tOB3 l5 ?_ ?_ ?_)
      · unfold fv
        rw [vwRef14.1, hi]
        rfl
      · unfold fv
        rw [vwRef14.2.1, if_pos rfl, hp]
        show va_rf (ro ρ b) = .ref (β x)
        rw [emb_ro hE (a := b) (by omega), (emb_k hE hb (by omega) (by omega)).1, hβ]
        rfl
      · unfold fv
        rw [vwRef14.2.2, hi]
        rfl
    · rw [hta] at h8
      omega
  · have hx : x = a := hx
    rw [hx, hta] at h8
    omega
  · have h8' : x' ≠ a := fun q => by rw [q, hta] at h8; omega
    rw [htb x' h8'] at h8
    exact e8 x x' (hdy x hd) h8
theorem emb_opA {γ : GC} {ρ β : Nat → Nat} {h : HP} {A : Nat → Prop} {H : Heap} {a cap : Nat} (hE : Emb γ ρ β h A H) (ht : h.t a = 8) (hN : γ.N0 ≤ β a) (hcell : H[β a]? = some (vp_cell (γ.cA 4) (cap, .inr (.inr (.inr (.inr (fun k => ro ρ ((h.s a).getD k 0)))))))) : Emb γ (up1 ρ h.n (β a)) β (h.opA a cap) A H := by
  obtain ⟨e1, e2, e3, e4, e5, e6, e7, e8⟩ := id hE
  obtain ⟨a1, a2, a3, a4⟩ := e2 a (by omega)
  have han : a ≠ h.n := by omega
  have hta : (h.opA a cap).t a = 34 := by
    show up1 (up1 h.t a 34) h.n 4 a = 34
    unfold up1
    rw [if_neg han, if_pos rfl]
  have htn : (h.opA a cap).t h.n = 4 := if_pos rfl
  have htb : ∀ x, x ≠ a → x ≠ h.n → (h.opA a cap).t x = h.t x := fun x hx hxn => by
    show up1 (up1 h.t a 34) h.n 4 x = h.t x
    unfold up1
    rw [if_neg hxn, if_neg hx]
  have hag : ∀ b, b < h.n → up1 ρ h.n (β a) b = ρ b := up_agree
  have hself : up1 ρ h.n (β a) h.n = β a := up_self
  have hdy : ∀ x, x ≠ h.n → dyn ((h.opA a cap).t x) → dyn (h.t x) ∧ x < h.n := by
    intro x hxn hx
    by_cases q : x = a
    · rw [q, ht]; exact ⟨Or.inl (by omega), a2⟩
    · rw [htb x q hxn] at hx
      exact ⟨hx, (e2 x (by unfold dyn at hx; omega)).2.1⟩
  have h80 : ∀ x, (h.opA a cap).t x = 8 → x ≠ a ∧ h.t x = 8 := by
    intro x hx
    have q1 : x ≠ a := fun q => by rw [q, hta] at hx; omega
    have q2 : x ≠ h.n := fun q => by rw [q, htn] at hx; omega
    rw [htb x q1 q2] at hx
    exact ⟨q1, hx⟩
  have hd8 : dyn (h.t a) := by rw [ht]; exact Or.inl (by omega)
  refine emb_re hE (fun x => x = a ∨ x = h.n) (by show 270 ≤ h.n + 1; omega) (fun x hx h0 => ?_) (fun x hx h0 => ?_) (fun x hx hd x' hd' he => ?_) (fun x hx h8 => ?_) (fun x x' hx hd h8 => ?_)
  · have hxa : x ≠ a := fun q => hx (Or.inl q)
    have hxn : x ≠ h.n := fun q => hx (Or.inr q)
    rw [htb x hxa hxn] at h0
    obtain ⟨w1, w2, w3, w4⟩ := e2 x h0
    refine ⟨h0, htb x hxa hxn, if_neg hxn, if_neg hxa, ?_, rfl, if_neg hxn, rfl, hag x w2, fun _ => rfl, Nat.lt_succ_of_lt w2, fun k => ⟨Nat.lt_succ_of_lt (w3 k), ro_agree hag (w3 k)⟩, fun y hy => ⟨Nat.lt_succ_of_lt (w4 y hy), ro_agree hag (w4 y hy)⟩⟩
    show up1 (up1 h.p a _) h.n _ x = h.p x
    unfold up1
    rw [if_neg hxn, if_neg hxa]
  · by_cases hxa : x = a
    · subst hxa
      have hp : (h.opA x cap).p x = fun k => if k = 1 then h.n else 0 := by
        show up1 (up1 h.p x _) h.n _ x = _
        unfold up1
        rw [if_neg han, if_pos rfl]
      have hi : (h.opA x cap).i x = fun k => if k = 0 then h.m x else nI (h.s x).length := if_pos rfl
      refine ⟨a1, Nat.lt_succ_of_lt a2, fun k => ?_, fun y hy => ?_, ?_, fun _ => ?_, fun h8 => ?_⟩
      · rw [hp]
        show (if k = 1 then h.n else 0) < h.n + 1
        split <;> omega
      · rw [show (h.opA x cap).s x = h.s x from if_neg han] at hy
        exact Nat.lt_succ_of_lt (a4 y hy)
      · obtain ⟨-, -, -, -, l5, -⟩ := e3 x
        obtain ⟨-, l5, -⟩ := l5 ht
        refine embAt_obj (ci := 14) rfl hta ?_
        rw [hag x a2]
        refine tOB3 l5 ?_ ?_ ?_
        · unfold fv
          rw [vwRef14.1, hi]
          rfl
        · unfold fv
          rw [vwRef14.2.1, if_pos rfl, hp]
          show va_rf (ro (up1 ρ h.n (β x)) h.n) = .ref (β x)
          unfold ro
          rw [if_neg (by omega), hself]
          rfl
        · unfold fv
          rw [vwRef14.2.2, hi]
          rfl
      · rw [hag x a2]
        exact e4 x hd8
      · rw [hta] at h8
        omega
    · have hxn : x = h.n := hx.resolve_left hxa
      subst hxn
      have hp : (h.opA a cap).p h.n = fun k => (h.s a).getD k 0 := if_pos rfl
      refine ⟨by omega, Nat.lt_succ_self _, fun k => ?_, fun y hy => ?_, ?_, fun _ => ?_, fun h8 => ?_⟩
      · rw [hp]
        show (h.s a).getD k 0 < h.n + 1
        rw [List.getD_eq_getElem?_getD]
        by_cases hk : k < (h.s a).length
        · rw [List.getElem?_eq_getElem hk]
          exact Nat.lt_succ_of_lt (a4 _ (List.getElem_mem hk))
        · rw [List.getElem?_eq_none (by omega)]
          exact Nat.succ_pos _
      · rw [show (h.opA a cap).s h.n = [] from if_pos rfl] at hy
        cases hy
      · refine embAt_arr (by omega) (fun q => by omega) (fun q => by omega) (fun q => by omega) (fun _ => ?_)
        rw [hself, htn, hp, show (h.opA a cap).l h.n = cap from if_pos rfl, hcell]
        congr 2
        refine congrArg (fun z => (cap, (Sum.inr (Sum.inr (Sum.inr (Sum.inr z))) : _))) ?_
        funext k
        refine (ro_agree hag ?_).symm
        rw [List.getD_eq_getElem?_getD]
        by_cases hk : k < (h.s a).length
        · rw [List.getElem?_eq_getElem hk]
          exact a4 _ (List.getElem_mem hk)
        · rw [List.getElem?_eq_none (by omega)]
          show 0 < h.n
          omega
      · rw [hself]
        exact ⟨e5 a ht hN, e1⟩
      · rw [htn] at h8
        omega
  · by_cases hxn : x = h.n
    · by_cases hxn' : x' = h.n
      · rw [hxn, hxn']
      · obtain ⟨q1, q2⟩ := hdy x' hxn' hd'
        rw [hxn, hself, hag x' q2] at he
        exact absurd he.symm (e8 x' a q1 ht)
    · obtain ⟨q1, q2⟩ := hdy x hxn hd
      by_cases hxn' : x' = h.n
      · rw [hxn', hself, hag x q2] at he
        exact absurd he (e8 x a q1 ht)
      · obtain ⟨u1, u2⟩ := hdy x' hxn' hd'
        rw [hag x q2, hag x' u2] at he
        exact e6 x x' q1 u1 he
  · obtain ⟨q1, q2⟩ := h80 x h8
    rcases hx with q | q
    · exact absurd q q1
    · rw [q, htn] at h8
      omega
  · obtain ⟨q1, q2⟩ := h80 x' h8
    by_cases hxn : x = h.n
    · rw [hxn, hself]
      exact fun q => q1 (e7 a x' ht q2 hN q).symm
    · obtain ⟨u1, u2⟩ := hdy x hxn hd
      rw [hag x u2]
      exact e8 x x' u1 q2
