/-! LISTS: closing; contracts of list methods -/
set_option maxRecDepth 100000
/-- h2 is h1 with the list a closed, and what else is dead forgotten -/
def ClsTo (h1 : HP) (a : Nat) (h2 : HP) : Prop :=
  270 ≤ h2.n ∧ h1.t a = 34 ∧ h2.t a = 8 ∧ a < h2.n ∧ h2.m a = h1.i a 0 ∧ h1.i a 2 = nI (h2.s a).length ∧ (h2.s a).length ≤ 64 ∧ (∀ k, h2.p a k < h2.n) ∧ (∀ x ∈ h2.s a, x < h2.n) ∧
  (((h1.p a 1 = 1 ∨ h1.p a 1 = 2) ∧ h1.t (h1.p a 1) = 10 ∧ h2.s a = []) ∨ (h1.t (h1.p a 1) = 4 ∧ h2.t (h1.p a 1) = 0 ∧ 0 < h1.l (h1.p a 1) ∧ h1.l (h1.p a 1) ≤ 64 ∧ (h2.s a).length ≤ h1.l (h1.p a 1) ∧ ∀ k, h1.p (h1.p a 1) k = (h2.s a).getD k 0)) ∧
  ∀ x, x ≠ a → h2.t x ≠ 0 → h2.t x = h1.t x ∧ h2.l x = h1.l x ∧ h2.i x = h1.i x ∧ h2.p x = h1.p x ∧ h2.j x = h1.j x ∧ h2.s x = h1.s x ∧ h2.m x = h1.m x ∧ x < h2.n ∧ (∀ k, h1.p x k < h2.n) ∧ ∀ y ∈ h1.s x, y < h2.n
theorem emb_cls0 {γ : GC} {ρ β : Nat → Nat} {h1 h2 : HP} {A : Nat → Prop} {H : Heap} {a : Nat} (hE : Emb γ ρ β h1 A H) (hA : ∀ q, A q → γ.N0 ≤ q) (hN : γ.sa 1 < γ.N0 ∧ γ.sa 2 < γ.N0) (hC : ClsTo h1 a h2) : Emb γ ρ (up1 β a (ρ (h1.p a 1))) h2 A H := by
  obtain ⟨c0, c1, c2, c3, c4, c5, c6, c7, c8, c9, c10⟩ := hC
  obtain ⟨e1, e2, e3, e4, e5, e6, e7, e8⟩ := id hE
  obtain ⟨a1, a2, a3, a4⟩ := e2 a (by omega)
  have hβa : up1 β a (ρ (h1.p a 1)) a = ρ (h1.p a 1) := if_pos rfl
  have hβo : ∀ x, x ≠ a → up1 β a (ρ (h1.p a 1)) x = β x := fun x hx => if_neg hx
  have hda : dyn (h1.t a) := by rw [c1]; exact Or.inr (Or.inl (by omega))
  have hdy : ∀ x, dyn (h2.t x) → dyn (h1.t x) := by
    intro x hx
    by_cases q : x = a
    · rw [q]; exact hda
    · rw [(c10 x q (by unfold dyn at hx; omega)).1] at hx
      exact hx
  refine emb_re hE (fun x => x = a) c0 (fun x hx h0 => ?_) (fun x hx h0 => ?_) (fun x hx hd x' hd' he => e6 x x' (hdy x hd) (hdy x' hd') he) (fun x hx h8 x' h8' hNb he => ?_) (fun x x' hx hd h8 => ?_)
  · have hx : x ≠ a := hx
    obtain ⟨q1, q2, q3, q4, q5, q6, q7, q8, q9, q10⟩ := c10 x hx h0
    exact ⟨by rw [← q1]; exact h0, q1, q2, q3, q4, q5, q6, q7, rfl, fun _ => hβo x hx, q8, fun k => ⟨q9 k, rfl⟩, fun y hy => ⟨q10 y hy, rfl⟩⟩
  · have hx : x = a := hx
    subst hx
    refine ⟨a1, c3, c7, c8, ?_, fun _ => e4 x hda, fun _ hNb => ?_⟩
    · refine ⟨fun q => by omega, fun q => by omega, fun q => by omega, fun q q2 => by omega, fun _ => ⟨c6, ?_, ?_⟩, fun q q2 => by omega, fun q => by omega, fun q q2 => by omega⟩
      · obtain ⟨-, -, -, l6⟩ := emb_obj hE (ci := 14) rfl c1
        refine tOB3 l6 ?_ ?_ ?_
        · unfold fv
          rw [vwRef14.1]
          show Value.int (h2.m x) = _
          rw [c4]
          rfl
        · unfold fv
          rw [vwRef14.2.1, if_pos rfl]
          show Value.ref (up1 β x (ρ (h1.p x 1)) x) = _
          rw [hβa]
          rcases c9 with ⟨-, q, -⟩ | ⟨q, -⟩
          · rw [emb_ro hE (a := h1.p x 1) (by omega)]
            rfl
          · rw [emb_ro hE (a := h1.p x 1) (by omega)]
            rfl
        · unfold fv
          rw [vwRef14.2.2]
          show Value.int (nI (h2.s x).length) = _
          rw [← c5]
          rfl
      · rw [hβa]
        rcases c9 with ⟨q1, q2, q3⟩ | ⟨q1, q2, q3, q4, q5, q6⟩
        · left
          refine ⟨?_, q3⟩
          rw [(emb_k hE q2 (by omega) (by omega)).1]
          rcases q1 with q | q <;> rw [q] <;> simp
        · right
          have hdb : dyn (h1.t (h1.p x 1)) := by rw [q1]; exact Or.inl (by omega)
          refine ⟨hA _ (e4 _ hdb).1, _, q5, q3, q4, ?_⟩
          obtain ⟨-, -, -, l4, -⟩ := e3 (h1.p x 1)
          have l4 := l4 (by omega) (by omega)
          rw [q1] at l4
          rw [l4]
          congr 2
          refine congrArg (fun z => (h1.l (h1.p x 1), (Sum.inr (Sum.inr (Sum.inr (Sum.inr z))) : _))) ?_
          funext k
          rw [q6]
    · rw [hβa] at hNb ⊢
      rcases c9 with ⟨q1, q2, q3⟩ | ⟨q1, -⟩
      · rw [(emb_k hE q2 (by omega) (by omega)).1] at hNb
        rcases q1 with q | q <;> rw [q] at hNb <;> omega
      · exact (e4 _ (by rw [q1]; exact Or.inl (by omega))).1
  · have hx : x = a := hx
    subst hx
    by_cases hx' : x' = x
    · exact hx'.symm
    · rw [hβa] at hNb
      rw [hβa, hβo x' hx'] at he
      have h81 : h1.t x' = 8 := by rw [← (c10 x' hx' (by omega)).1]; exact h8'
      rcases c9 with ⟨q1, q2, q3⟩ | ⟨q1, -⟩
      · rw [(emb_k hE q2 (by omega) (by omega)).1] at hNb
        rcases q1 with q | q <;> rw [q] at hNb <;> omega
      · exact absurd he (e8 _ x' (by rw [q1]; exact Or.inl (by omega)) h81)
  · by_cases hx' : x' = a
    · subst hx'
      rw [hβa]
      rcases c9 with ⟨q1, q2, q3⟩ | ⟨q1, q2, -⟩
      · have h9 := hA _ (e4 x (hdy x hd)).1
        rw [(emb_k hE q2 (by omega) (by omega)).1]
        intro he
        rw [he] at h9
        rcases q1 with q | q <;> rw [q] at h9 <;> omega
      · intro he
        have := e6 x (h1.p x' 1) (hdy x hd) (by rw [q1]; exact Or.inl (by omega)) he
        rw [this, q2] at hd
        unfold dyn at hd
        omega
    · rw [hβo x' hx']
      have h81 : h1.t x' = 8 := by rw [← (c10 x' hx' (by omega)).1]; exact h8
      exact e8 x x' (hdy x hd) h81
/-- forgetting dead cells -/
def Weak (h h2 : HP) : Prop := 270 ≤ h2.n ∧ ∀ x, h2.t x ≠ 0 → h2.t x = h.t x ∧ h2.l x = h.l x ∧ h2.i x = h.i x ∧ h2.p x = h.p x ∧ h2.j x = h.j x ∧ h2.s x = h.s x ∧ h2.m x = h.m x ∧ x < h2.n ∧ (∀ k, h.p x k < h2.n) ∧ ∀ y ∈ h.s x, y < h2.n
theorem emb_weak {γ : GC} {ρ β : Nat → Nat} {h h2 : HP} {A : Nat → Prop} {H : Heap} (hE : Emb γ ρ β h A H) (hW : Weak h h2) : Emb γ ρ β h2 A H := by
  refine emb_re hE (fun _ => False) hW.1 (fun x _ h0 => ?_) (fun _ q => q.elim) (fun _ q => q.elim) (fun _ q => q.elim) (fun _ _ q => (q.elim id id).elim)
  obtain ⟨q1, q2, q3, q4, q5, q6, q7, q8, q9, q10⟩ := hW.2 x h0
  exact ⟨by rw [← q1]; exact h0, q1, q2, q3, q4, q5, q6, q7, rfl, fun _ => rfl, q8, fun k => ⟨q9 k, rfl⟩, fun y hy => ⟨q10 y hy, rfl⟩⟩
/-- a contract from contracts over other views of the same heap -/
theorem cm_map {d : MD} {args : List CV} {h h' : HP} {r : RV}
    (key : ∀ (γ : GC) (ρ β : Nat → Nat) (sz : Nat) (H : Heap), wfS h.n args → γ.N0 ≤ sz → γ.sa 1 < γ.N0 → γ.sa 2 < γ.N0 → Emb γ ρ β h (ASet γ ρ β h sz) H → wfo h'.n r ∧ h.n ≤ h'.n ∧ ∃ (ρ1 β1 : Nat → Nat) (h1 h1' : HP), CM d args h1 r h1' ∧ wfS h1.n args ∧ h.n ≤ h1.n ∧ (∀ a, a < h.n → ρ1 a = ρ a) ∧ (∀ q, ASet γ ρ1 β1 h1 sz q ↔ ASet γ ρ β h sz q) ∧ Emb γ ρ1 β1 h1 (ASet γ ρ β h sz) H ∧
      ∀ (ρ' β' : Nat → Nat) (H' : Heap), Emb γ ρ' β' h1' (ASet γ ρ β h sz) H' → ∃ β'', Emb γ ρ' β'' h' (ASet γ ρ β h sz) H') : CM d args h r h' := by
  intro l hl γ ρ β sz hwf p e hadm hf1 hf2 s m args9 below hfr hsp hP hK
  obtain ⟨rfl, hsz, hN, hG, hE⟩ := hP
  have hG9 := hG
  obtain ⟨⟨-, -, -, -, -, -, -, -, -, hs1, hs2⟩, -⟩ := hG9
  obtain ⟨hr, hn, ρ1, β1, h1, h1', hM, hw1, hn1, hag, hAA, hE1, hback⟩ := key γ ρ β sz s.heap hwf hN hs1 hs2 hE
  have hAe : ASet γ ρ1 β1 h1 sz = ASet γ ρ β h sz := funext fun q => propext (hAA q)
  have hargs : args.map (pv ρ1) = args.map (pv ρ) := pvs_agree hag hwf
  have hM2 := hM l hl γ ρ1 β1 sz hw1
  rw [hAe, hargs] at hM2
  obtain ⟨n, o, w1, w2, w3, w4⟩ := hM2 p e hadm hf1 hf2 s m _ below hfr hsp ⟨rfl, hsz, hN, hG, hE1⟩ hK
  refine ⟨n, o, w1, w2, w3, ?_⟩
  have hF : ∀ (b : Nat), b < h.n → b < h1.n := fun b hb => Nat.lt_of_lt_of_le hb hn1
  rcases w4 with ⟨⟨⟨ρ', β', v, y1, y2, y3, y4, y5, y6⟩, y7⟩, y8⟩ | ⟨q, y1, y2⟩
  · rw [hAe] at y6 y7
    obtain ⟨β'', hE2⟩ := hback ρ' β' _ y6
    exact Or.inl ⟨⟨⟨ρ', β'', v, y1, fun a ha => (y2 a (hF a ha)).trans (hag a ha), hn, y4, hr, hE2⟩, y7⟩, y8⟩
  · refine Or.inr ⟨q, y1, ?_⟩
    obtain ⟨E, ce, L, ⟨⟨ρ', β', u1, u2, u3, u4⟩, u5⟩, z6⟩ := y2
    rw [hAe] at u4 u5
    obtain ⟨β'', hE2⟩ := hback ρ' β' _ u4
    exact ⟨E, ce, L, ⟨⟨ρ', β'', u1, fun a ha => (u2 a (hF a ha)).trans (hag a ha), hn, hE2⟩, u5⟩, z6⟩
/-- forget what is dead -/
theorem cm_weak {d : MD} {args : List CV} {h h1 h' : HP} {r : RV} (hr : wfo h'.n r) (hn : h.n ≤ h'.n) (hM : CM d args h r h1) (hW : Weak h1 h') (hwf : wfS h.n args) : CM d args h r h' :=
  cm_map fun γ ρ β sz H _ _ _ _ hE => ⟨hr, hn, ρ, β, h, h1, hM, hwf, Nat.le_refl _, fun _ _ => rfl, fun _ => Iff.rfl, hE, fun ρ' β' H' hE' => ⟨β', emb_weak hE' hW⟩⟩
/-- a list's method, from what it does to the list's object and array -/
theorem cm_list {d : MD} {args : List CV} {h h' : HP} {r : RV} {a : Nat} (hr : wfo h'.n r) (hn : h.n ≤ h'.n) (hwf : wfS h.n args) (ht : h.t a = 8) (ht1 : h.t 1 = 10) (ht2 : h.t 2 = 10)
    (hK : ∀ b, b = 1 ∨ b = 2 → h.s a = [] → ∃ h1, CM d args (h.opK a b) r h1 ∧ ClsTo h1 a h') (hA : ∀ cap, (h.s a).length ≤ cap → 0 < cap → cap ≤ 64 → ∃ h1, CM d args (h.opA a cap) r h1 ∧ ClsTo h1 a h') : CM d args h r h' := by
  refine cm_map fun γ ρ β sz H _ hN hs1 hs2 hE => ⟨hr, hn, ?_⟩
  have hA0 : ∀ q, ASet γ ρ β h sz q → γ.N0 ≤ q := fun q hq => hq.1
  have han : a < h.n := (hE.2.1 a (by omega)).2.1
  have hd8 : dyn (h.t a) := by rw [ht]; exact Or.inl (by omega)
  obtain ⟨-, -, -, -, l5, -⟩ := hE.2.2.1 a
  obtain ⟨-, -, ⟨hb, hs⟩ | ⟨hb, cap, l6, l7, l8, l9⟩⟩ := l5 ht
  · obtain ⟨b, hb12, hbt, hβ⟩ : ∃ b, (b = 1 ∨ b = 2) ∧ h.t b = 10 ∧ β a = γ.sa b := by
      rcases hb with q | q
      · exact ⟨1, Or.inl rfl, ht1, q⟩
      · exact ⟨2, Or.inr rfl, ht2, q⟩
    obtain ⟨h1, hM, hC⟩ := hK b hb12 hs
    have hβN : ¬ γ.N0 ≤ β a := by rcases hb with q | q <;> omega
    refine ⟨ρ, β, _, h1, hM, wfS_mono (Nat.le_succ _) hwf, Nat.le_succ _, fun _ _ => rfl, fun q => ?_, emb_opK hE ht hbt hβ hs, fun ρ' β' H' hE' => ⟨_, emb_cls0 hE' hA0 ⟨hs1, hs2⟩ hC⟩⟩
    have hta : (h.opK a b).t a = 34 := if_pos rfl
    have htb : ∀ x, x ≠ a → (h.opK a b).t x = h.t x := fun x hx => if_neg hx
    constructor
    · rintro ⟨q1, ⟨x, hx, rfl⟩ | ⟨x, hx, rfl⟩ | hq⟩
      · refine ⟨q1, Or.inl ⟨x, ?_, rfl⟩⟩
        by_cases hxa : x = a
        · rw [hxa]; exact hd8
        · rw [htb x hxa] at hx; exact hx
      · have hxa : x ≠ a := fun z => by rw [z, hta] at hx; omega
        rw [htb x hxa] at hx
        exact ⟨q1, Or.inr (Or.inl ⟨x, hx, rfl⟩)⟩
      · exact ⟨q1, Or.inr (Or.inr hq)⟩
    · rintro ⟨q1, ⟨x, hx, rfl⟩ | ⟨x, hx, rfl⟩ | hq⟩
      · refine ⟨q1, Or.inl ⟨x, ?_, rfl⟩⟩
        by_cases hxa : x = a
        · rw [hxa, hta]; exact Or.inr (Or.inl (by omega))
        · rw [htb x hxa]; exact hx
      · have hxa : x ≠ a := fun z => hβN (by rw [z] at q1; exact q1)
        exact ⟨q1, Or.inr (Or.inl ⟨x, by rw [htb x hxa]; exact hx, rfl⟩)⟩
      · exact ⟨q1, Or.inr (Or.inr hq)⟩
  · obtain ⟨h1, hM, hC⟩ := hA cap l6 l7 l8
    refine ⟨up1 ρ h.n (β a), β, _, h1, hM, wfS_mono (Nat.le_succ _) hwf, Nat.le_succ _, up_agree, fun q => ?_, emb_opA hE ht hb l9, fun ρ' β' H' hE' => ⟨_, emb_cls0 hE' hA0 ⟨hs1, hs2⟩ hC⟩⟩
    have hanx : a ≠ h.n := by omega
    have hta : (h.opA a cap).t a = 34 := by
      show up1 (up1 h.t a 34) h.n 4 a = 34
      unfold up1
      rw [if_neg hanx, if_pos rfl]
    have htn : (h.opA a cap).t h.n = 4 := if_pos rfl
    have htb : ∀ x, x ≠ a → x ≠ h.n → (h.opA a cap).t x = h.t x := fun x hx hxn => by
      show up1 (up1 h.t a 34) h.n 4 x = h.t x
      unfold up1
      rw [if_neg hxn, if_neg hx]
    have hlt : ∀ x, h.t x ≠ 0 → x < h.n := fun x hx => (hE.2.1 x hx).2.1
    have hself : up1 ρ h.n (β a) h.n = β a := up_self
    constructor
    · rintro ⟨q1, ⟨x, hx, rfl⟩ | ⟨x, hx, rfl⟩ | hq⟩
      · by_cases hxn : x = h.n
        · rw [hxn, hself] at q1 ⊢
          exact ⟨q1, Or.inr (Or.inl ⟨a, ht, rfl⟩)⟩
        · by_cases hxa : x = a
          · rw [hxa, up_agree a han] at q1 ⊢
            exact ⟨q1, Or.inl ⟨a, hd8, rfl⟩⟩
          · rw [htb x hxa hxn] at hx
            rw [up_agree x (hlt x (by unfold dyn at hx; omega))] at q1 ⊢
            exact ⟨q1, Or.inl ⟨x, hx, rfl⟩⟩
      · have hxa : x ≠ a := fun z => by rw [z, hta] at hx; omega
        have hxn : x ≠ h.n := fun z => by rw [z, htn] at hx; omega
        rw [htb x hxa hxn] at hx
        exact ⟨q1, Or.inr (Or.inl ⟨x, hx, rfl⟩)⟩
      · exact ⟨q1, Or.inr (Or.inr hq)⟩
    · rintro ⟨q1, ⟨x, hx, rfl⟩ | ⟨x, hx, rfl⟩ | hq⟩
      · have hxl := hlt x (by unfold dyn at hx; omega)
        refine ⟨q1, Or.inl ⟨x, ?_, up_agree x hxl⟩⟩
        by_cases hxa : x = a
        · rw [hxa, hta]; exact Or.inr (Or.inl (by omega))
        · rw [htb x hxa (by omega)]; exact hx
      · by_cases hxa : x = a
        · rw [hxa] at q1 ⊢
          exact ⟨q1, Or.inl ⟨h.n, by rw [htn]; exact Or.inl (by omega), hself⟩⟩
        · have hxl := hlt x (by omega)
          exact ⟨q1, Or.inr (Or.inl ⟨x, by rw [htb x hxa (by omega)]; exact hx, rfl⟩)⟩
      · exact ⟨q1, Or.inr (Or.inr hq)⟩
/-- what holds of every heap may be taken for granted -/
theorem cm_pre {d : MD} {args : List CV} {h h' : HP} {r : RV} (key : ∀ (γ : GC) (ρ β : Nat → Nat) (A : Nat → Prop) (H : Heap), wfS h.n args → Emb γ ρ β h A H → wfo h'.n r ∧ h.n ≤ h'.n ∧ CM d args h r h') : CM d args h r h' :=
  cm_map fun γ ρ β sz H hwf _ _ _ hE => by
    obtain ⟨k1, k2, k3⟩ := key γ ρ β _ H hwf hE
    exact ⟨k1, k2, ρ, β, h, h', k3, hwf, Nat.le_refl _, fun _ _ => rfl, fun _ => Iff.rfl, hE, fun ρ' β' H' hE' => ⟨β', hE'⟩⟩
theorem wfS_le {n n' : Nat} (h : n ≤ n') {st : List CV} (hv : wfS n st) : wfS n' st := wfS_mono h hv
theorem same_modCount : fSame "java/util/ArrayList" "java/util/AbstractList" "modCount" "I" := fun _ _ hw x ho => u_same (hw _ q181) x ho
theorem cw_ldcw {d : MD} {c q pc : Nat} {ls : List (Nat × CV)} {st : List CV} {f : GF} {index : Nat} {v : Int32} (hd : decode d.cc pc = .ok (.ldc_w index, 3)) (hc : Cond.constant d.own index v ∈ lw_all) (k : CWF d c q (pc + 3) ls (cI v :: st) f) : CWF d c q pc ls st f := by
  intro h r h' hf p l e s m args below meth cd γ ρ0 β0 h0 ρ β τ H locs cells slots lsA hx hv hw
  exact lv_ldcw hx.1 hx.2.1 hx.2.2.2.2.1 (hx.2.2.2.2.2.1 _ hc) hd (k h r h' hf p l e s m args below meth cd γ ρ0 β0 h0 ρ β τ H locs cells slots lsA hx hv ⟨trivial, hw⟩)
/-- as vx_ofW, for a method of Object -/
theorem vx_ofWF {l : Launch} {y : MethodName} {ws ws' : List Cond} {rm : Room} {Pc : Array Value → State → Prop} {Qc : Array Value → State → Outcome → State → Prop} {XC : String → State → State → Prop} {mc ms : Nat} {free : Addr → Prop} {cc : ByteArray} {maxL : Nat} {ret : Option FieldType}
    (hy : plainFor y = true) (hw : ws = Cond.code y cc maxL ret :: ws')
    (body : ∀ p e s m args below meth c s₁, BodyLoose p l y (headSpec ws rm) cc maxL ret e s m args below meth c s₁ → c.maxLocals = maxL → (∀ x ∈ c.exceptionTable.toList, False) → Pc args s →
      W p l e (headSpec ws rm).room s m args below meth c s.heap [] 0 0 (vx_MQ below Qc XC args s mc ms free) (entryFrame m args maxL)) : vx_Met l y ws rm Pc Qc XC mc ms free := by
  refine MetFree.of_bodySF (code := cc) (maxLocals := maxL) (ret := ret) hy ?_ ?_
  · intro args s m h hn
    obtain ⟨meth, c, h1, h2, h3, h4, h5, h6, -, -⟩ := Cond.code_spec hn (atoms_spec (ws := ws) h _ (by rw [hw]; exact List.mem_cons_self))
    exact ⟨meth, c, h1, h2, h3, h4, h5, h6⟩
  · intro p e s m args below meth c s₁ B hml hP _
    have hh0 : s₁.heap = s.heap := by rw [B.state]; rfl
    have ht : ∀ x ∈ c.exceptionTable.toList, False := by
      obtain ⟨meth9, c9, h1, h2, -, -, -, -, h7, -⟩ := Cond.code_spec B.named (atoms_spec (ws := ws) B.pre _ (by rw [hw]; exact List.mem_cons_self))
      cases Option.some.inj (h1.symm.trans B.method)
      cases Option.some.inj (h2.symm.trans (Stand.of_body B).code)
      intro x hx
      rw [Array.isEmpty_iff.mp h7] at hx
      cases hx
    obtain ⟨t, a1, o, b1, b2, b3⟩ := body p e s m args below meth c s₁ B hml ht hP s₁ hh0 (Stand.of_body B)
    exact ⟨t, o, a1, b1, b2, b3⟩
theorem cm_ofF {d : MD} {args : List CV} {f : GF} (hy : plainFor d.y = true) (ho : d.own = d.y.cls) (hw : cwords args ≤ d.nL) (k : CWF d d.mc d.ms 0 (cargs 0 args) [] f) : CMF d args f := by
  intro h r h' hf l hl γ ρ β sz hwf
  refine vx_ofWF (cc := d.cc) (maxL := d.nL) (ret := d.ret) hy rfl ?_
  intro p e s m args9 below meth cd s₁ B hml ht hv
  obtain ⟨rfl, rfl, hN, hGS, hE⟩ := hv
  have hts := atoms_spec (ws := ws_ d.y d.cc d.nL d.ret) B.pre
  have hts : ∀ w ∈ lw_all, w.before _ s = true := fun w h => hts w (List.mem_cons_of_mem _ h)
  have hown : s.vm.findClass d.own = some m.cls := by rw [ho]; exact findClass_of_methodNamed B.named
  have hl0 := lv_entry (args.map (pv ρ)) (n := d.nL) (by rw [cwords_len]; exact hw)
  rw [lg_entry_eq]
  generalize (lg_sl (args.map (pv ρ)) ++ List.replicate (d.nL - (lg_sl (args.map (pv ρ))).length) Slot.unset).toArray = lsA at hl0 ⊢
  rw [cargs_map (τ := fun _ => 0) args 0 hwf] at hl0
  refine k h r h' hf p l e s m _ below meth cd γ ρ β h ρ β (fun _ => 0) s.heap [] 0 0 lsA ⟨B.exec, B.bytes, B.returns, hml, hown, hts, B.notSynchronized, ht, hl, (name_of_methodNamed B.named B.method).1, hN, hGS⟩ ⟨Nat.le_refl _, fun _ _ => rfl, hE, ⟨fun i a m j hq => ?_, fun i i' v v' h1 h2 t1 t2 => ?_⟩, fun q hq => (cargs_wf args 0 hwf q hq).1, va_S.rf, hl0, by omega, by omega⟩ trivial
  · exact absurd (cargs_wf args 0 hwf _ hq).2 (by simp [isT])
  · exact absurd t1 (by rw [(cargs_wf args 0 hwf _ h1).2]; decide)
def imax (x y : Int32) : Int32 := if x < y then y else x
theorem cw_mmax {d : MD} {c q pc : Nat} {ls : List (Nat × CV)} {st : List CV} {f : GF} {index : Nat} {x y : Int32} (hl : Cond.methodLink d.own index Lib.Math.max.name ∈ lw_all) (hdep : 1 ≤ d.dep) (hs : (st.map cat).sum ≤ 8) (hd : decode d.cc pc = .ok (.invokestatic index, 3)) (k : CWF d c q (pc + 3) ls (cI (imax x y) :: st) f) : CWF d c q pc ls (cI y :: cI x :: st) f := by
  intro h r h' hf p l e s m args below meth cd γ ρ0 β0 h0 ρ β τ H locs cells slots lsA hx hv hw
  have w := hx.2.2.2.2.2.1
  have hrm : d.rm.cells = d.mc := rfl
  have hrs : d.rm.slots = d.ms := rfl
  exact va_mmax hx.1 hx.2.1 (hx.2.2.2.1.trans hv.2.2.2.2.2.2.1.1.symm) hx.2.2.2.2.1 (w _ hl) (w _ q606) (w _ q123) (w _ q607) (show 1 ≤ d.dep from hdep) (by show _ ≤ 4096 + 64 * d.dep; rw [pvs_cat]; omega) (by rw [hrm]; exact Nat.le_trans (Nat.le_add_right _ _) hv.2.2.2.2.2.2.2.1) (by rw [hrs]; exact Nat.le_trans (Nat.le_add_right _ _) hv.2.2.2.2.2.2.2.2) hd (k h r h' hf p l e s m args below meth cd γ ρ0 β0 h0 ρ β τ H locs cells slots lsA hx hv ⟨trivial, hw.2.2⟩)
def imin (x y : Int32) : Int32 := if y < x then y else x
theorem cw_mmin {d : MD} {c q pc : Nat} {ls : List (Nat × CV)} {st : List CV} {f : GF} {index : Nat} {x y : Int32} (hl : Cond.methodLink d.own index Lib.Math.min.name ∈ lw_all) (hdep : 1 ≤ d.dep) (hs : (st.map cat).sum ≤ 8) (hd : decode d.cc pc = .ok (.invokestatic index, 3)) (k : CWF d c q (pc + 3) ls (cI (imin x y) :: st) f) : CWF d c q pc ls (cI y :: cI x :: st) f := by
  intro h r h' hf p l e s m args below meth cd γ ρ0 β0 h0 ρ β τ H locs cells slots lsA hx hv hw
  have w := hx.2.2.2.2.2.1
  have hrm : d.rm.cells = d.mc := rfl
  have hrs : d.rm.slots = d.ms := rfl
  exact va_mmin hx.1 hx.2.1 (hx.2.2.2.1.trans hv.2.2.2.2.2.2.1.1.symm) hx.2.2.2.2.1 (w _ hl) (w _ q651) (w _ q123) (w _ q652) (show 1 ≤ d.dep from hdep) (by show _ ≤ 4096 + 64 * d.dep; rw [pvs_cat]; omega) (by rw [hrm]; exact Nat.le_trans (Nat.le_add_right _ _) hv.2.2.2.2.2.2.2.1) (by rw [hrs]; exact Nat.le_trans (Nat.le_add_right _ _) hv.2.2.2.2.2.2.2.2) hd (k h r h' hf p l e s m args below meth cd γ ρ0 β0 h0 ρ β τ H locs cells slots lsA hx hv ⟨trivial, hw.2.2⟩)
