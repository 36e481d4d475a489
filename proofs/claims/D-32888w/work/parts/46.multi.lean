/-! RULES of the clean machine: arrays of arrays -/
set_option maxRecDepth 100000
theorem emb_lt {γ : GC} {ρ β : Nat → Nat} {h : HP} {A : Nat → Prop} {H : Heap} (hE : Emb γ ρ β h A H) : ∀ b, dyn (h.t b) → ρ b < H.size := by
  intro b hb
  obtain ⟨a1, a2, a3, a4, a5, a6, a7, a8⟩ := hE.2.2.1 b
  rcases dyn_cases hb with q | q | q | q | q | q | q
  · exact (Array.getElem?_eq_some_iff.mp (a1 q)).1
  · exact (Array.getElem?_eq_some_iff.mp (a2 q)).1
  · exact (Array.getElem?_eq_some_iff.mp (a3 q)).1
  · exact (Array.getElem?_eq_some_iff.mp (a4 q.1 q.2)).1
  · obtain ⟨-, ⟨cell, q, -⟩, -⟩ := a5 q
    exact (Array.getElem?_eq_some_iff.mp q).1
  · obtain ⟨r, -, cell, q, -⟩ := a6 q.1 q.2
    exact (Array.getElem?_eq_some_iff.mp q).1
  · exact (Array.getElem?_eq_some_iff.mp (a7 q)).1
theorem emb_ltL {γ : GC} {ρ β : Nat → Nat} {h : HP} {A : Nat → Prop} {H : Heap} (hE : Emb γ ρ β h A H) (h1 : γ.sa 1 < H.size) (h2 : γ.sa 2 < H.size) : ∀ b, h.t b = 8 → β b < H.size := by
  intro b hb
  obtain ⟨-, -, -, -, a5, -⟩ := hE.2.2.1 b
  obtain ⟨-, -, ⟨q | q, -⟩ | ⟨q1, cap, -, -, -, q2⟩⟩ := a5 hb
  · omega
  · omega
  · exact (Array.getElem?_eq_some_iff.mp q2).1
theorem emb_ext {γ : GC} {ρ β : Nat → Nat} {h : HP} {A : Nat → Prop} {H H2 : Heap} (hE : Emb γ ρ β h A H) (h1 : γ.sa 1 < H.size) (h2 : γ.sa 2 < H.size) (hH : ∀ q, q < H.size → H2[q]? = H[q]?) : Emb γ ρ β h A H2 := by
  obtain ⟨e1, e2, e3, e4, e5, e6⟩ := id hE
  exact ⟨e1, e2, fun a => embAt_congr rfl rfl rfl rfl rfl rfl rfl (fun _ => rfl) (fun _ _ => rfl) (fun _ _ _ => rfl) (fun _ => rfl) (fun hd => hH _ (emb_lt hE a hd)) (fun h8 => hH _ (emb_ltL hE h1 h2 a h8)) (e3 a), e4, e5, e6⟩
/-- many cells are made -/
theorem vy_allocs {d : MD} {c k c1 k1 : Nat} {γ : GC} {ρ0 β0 : Nat → Nat} {h0 : HP} {s : State} {ρ ρ2 β τ : Nat → Nat} {ls : List (Nat × CV)} {h h2 : HP} {H H2 : Heap} {locs : List Loc} {cells slots cells2 slots2 : Nat} {lsA : Array Slot} (hv : Vy d c1 k1 γ ρ0 β0 h0 s ρ β τ ls h H locs cells slots lsA) (hN : γ.N0 ≤ s.heap.size) (hs1 : γ.sa 1 < γ.N0) (hs2 : γ.sa 2 < γ.N0)
    (hn2 : h.n ≤ h2.n) (hold : ∀ x, x < h.n → SameC h h2 x) (hag : ∀ x, x < h.n → ρ2 x = ρ x) (hz : H.size ≤ H2.size) (hH : ∀ q, q < H.size → H2[q]? = H[q]?)
    (hnew : ∀ x, h.n ≤ x → h2.t x ≠ 0 → x < h2.n ∧ h2.t x ≠ 8 ∧ H.size ≤ ρ2 x ∧ (∀ k, h2.p x k < h2.n) ∧ h2.s x = [] ∧ EmbAt γ ρ2 β h2 H2 x) (hinj : ∀ x y, h.n ≤ x → h.n ≤ y → h2.t x ≠ 0 → h2.t y ≠ 0 → ρ2 x = ρ2 y → x = y) (hc : cells2 + c ≤ d.mc) (hk : slots2 + k ≤ d.ms) :
    Vy d c k γ ρ0 β0 h0 s ρ2 β τ ls h2 H2 locs cells2 slots2 lsA := by
  obtain ⟨v1, v2, v3, ⟨v4, v4b⟩, v5, v6, v7, v8⟩ := hv
  have hsz : s.heap.size ≤ H.size := v6.1
  have l1 : γ.sa 1 < H.size := by omega
  have l2 : γ.sa 2 < H.size := by omega
  have hlt := emb_lt v3
  have hlt8 := emb_ltL v3 l1 l2
  have v3' := emb_ext v3 l1 l2 hH
  obtain ⟨e1, e2, e3, e4, e5, e6, e7, e8⟩ := id v3
  have hd0 : ∀ t, dyn t → t ≠ 0 := fun t ht => by unfold dyn at ht; omega
  have hdy : ∀ x, x < h.n → dyn (h2.t x) → dyn (h.t x) := fun x hx hd => by rw [(hold x hx).1] at hd; exact hd
  have h80 : ∀ x, h2.t x = 8 → h.t x = 8 ∧ x < h.n := by
    intro x hx
    by_cases q : x < h.n
    · rw [(hold x q).1] at hx
      exact ⟨hx, q⟩
    · exact absurd hx (hnew x (by omega) (by omega)).2.1
  refine ⟨Nat.le_trans v1 hn2, fun b hb => (hag b (by omega)).trans (v2 b hb), emb_re v3' (fun x => h.n ≤ x) (by omega) (fun x hx hx0 => ?_) (fun x hx hx0 => ?_) (fun x hx hd x' hd' he => ?_) (fun x hx hx8 => ?_) (fun x x' hx hd hx8 => ?_), ⟨fun i a m j hi => ?_, v4b⟩, fun q hq => wfl_mono hn2 (v5 q hq), ⟨Nat.le_trans hsz hz, fun q h1 h2 => (hH q (by omega)).trans (v6.2.1 q h1 h2), v6.2.2⟩, ?_, hc, hk⟩
  · have hx : x < h.n := by
      have hx : ¬ h.n ≤ x := hx
      omega
    obtain ⟨s1, s2, s3, s4, s5, s6, s7⟩ := hold x hx
    rw [s1] at hx0
    obtain ⟨w1, w2, w3, w4⟩ := e2 x hx0
    exact ⟨hx0, s1, s2, s3, s4, s5, s6, s7, hag x hx, fun _ => rfl, by omega, fun k => ⟨by have := w3 k; omega, ro_agree hag (w3 k)⟩, fun y hy => ⟨by have := w4 y hy; omega, ro_agree hag (w4 y hy)⟩⟩
  · obtain ⟨q1, q2, q3, q4, q5, q6⟩ := hnew x hx hx0
    have hx : h.n ≤ x := hx
    exact ⟨by omega, q1, q4, (fun y hy => by rw [q5] at hy; cases hy), q6, fun _ => ⟨⟨by omega, Or.inr (Or.inr (by omega))⟩, by omega⟩, fun q => absurd q q2⟩
  · have hx : h.n ≤ x := hx
    by_cases hx' : h.n ≤ x'
    · exact hinj x x' hx hx' (hd0 _ hd) (hd0 _ hd') he
    · have := (hnew x hx (hd0 _ hd)).2.2.1
      rw [he, hag x' (by omega)] at this
      have := hlt x' (hdy x' (by omega) hd')
      omega
  · exact absurd hx8 (hnew x hx (by omega)).2.1
  · obtain ⟨q1, q2⟩ := h80 x' hx8
    by_cases hxn : h.n ≤ x
    · have := (hnew x hxn (hd0 _ hd)).2.2.1
      have := hlt8 x' q1
      omega
    · rw [hag x (by omega)]
      exact e8 x x' (hdy x (by omega) hd) q1
  · obtain ⟨t1, t2, t3, lr, t4⟩ := v4 i a m j hi
    have ht4 : τ i < H.size := by
      obtain ⟨cell, q, -⟩ := t4
      exact (Array.getElem?_eq_some_iff.mp q).1
    refine ⟨t1, fun b hb => ?_, fun b hb => t3 b (h80 b hb).1, lr, ?_⟩
    · by_cases hbn : h.n ≤ b
      · have := (hnew b hbn (hd0 _ hb)).2.2.1
        omega
      · rw [hag b (by omega)]
        exact t2 b (hdy b (by omega) hb)
    · rw [itV_agree (ro_agree hag (v5 _ hi))]
      exact t4.kept (hH _ ht4)
  · rw [pls_agree hag v5]
    exact v7
def HP.mul (h : HP) (t1 t2 n k : Nat) : HP := HP.mk (h.n + 1 + n) (fun x => if x = h.n then t1 else if h.n < x ∧ x < h.n + 1 + n then t2 else h.t x) (fun x => if x = h.n then n else if h.n < x ∧ x < h.n + 1 + n then k else h.l x) (fun x => if h.n ≤ x ∧ x < h.n + 1 + n then fun _ => 0 else h.i x)
  (fun x => if x = h.n then (fun j => if j < n then h.n + 1 + j else 0) else if h.n < x ∧ x < h.n + 1 + n then fun _ => 0 else h.p x) (fun x => if h.n ≤ x ∧ x < h.n + 1 + n then fun _ => 0 else h.j x) (fun x => if h.n ≤ x ∧ x < h.n + 1 + n then [] else h.s x) (fun x => if h.n ≤ x ∧ x < h.n + 1 + n then 0 else h.m x)
theorem mul_old {h : HP} {t1 t2 n k x : Nat} (hx : x < h.n) : SameC h (h.mul t1 t2 n k) x :=
  ⟨(if_neg (by omega)).trans (if_neg (by omega)), (if_neg (by omega)).trans (if_neg (by omega)), if_neg (by omega), (if_neg (by omega)).trans (if_neg (by omega)), if_neg (by omega), if_neg (by omega), if_neg (by omega)⟩
theorem outer_arr (c : ClassId) (N h0 : Nat) : ∀ i, Jvm.Free.Multi.outerC c N h0 i = arrV c N (fun j => if j < i then .ref (h0 + 1 + j) else .null)
  | 0 => by
    show ({ cls := c, slots := Array.replicate N .null, vm := .none } : Cell) = _
    rw [show (fun j : Nat => if j < 0 then Value.ref (h0 + 1 + j) else Value.null) = fun _ => Value.null from funext fun j => if_neg (Nat.not_lt_zero j), ← arrV_new]
  | i + 1 => by
    show (Jvm.Free.Multi.outerC c N h0 i).setSlot i (.ref (h0 + 1 + i)) = _
    rw [outer_arr c N h0 i, arrV_store]
    congr 1
    funext j
    unfold updV
    by_cases q : j = i
    · rw [if_pos q, if_pos (by omega), q]
    · rw [if_neg q]
      dsimp only
      by_cases q2 : j < i
      · rw [if_pos q2, if_pos (by omega)]
      · rw [if_neg q2, if_neg (by omega)]
def mulG (t1 t2 n k : Nat) (f : Nat → GF) : GF := fun h => f h.n (h.mul t1 t2 n k)
theorem cw_mul {d : MD} {c q pc : Nat} {ls : List (Nat × CV)} {st : List CV} {f : Nat → GF} {t1 t2 n k index : Nat} {ty : FieldType} {x y : Int32} (hxy : x = nI n ∧ y = nI k) (hnk : n ≤ 10 ∧ k ≤ 10) (ht : (t1 = 7 ∧ t2 = 1 ∧ ty = .int) ∨ (t1 = 6 ∧ t2 = 5 ∧ ty = .object "Scrutineery$Marks")) (hl : Cond.classLink d.own index ("[" ++ (FieldType.array ty).toString) ∈ lw_all) (hov : Cond.arrayOver (.array ty) ∈ lw_tbl) (har : Cond.arrayClass ty ∈ lw_all) (hd : decode d.cc pc = .ok (.multianewarray index 2, 4))
    (kk : ∀ a, CWF d c q (pc + 4) ls (cR a :: st) (f a)) : CWF d (c + (1 + n)) (q + (n + n * k)) pc ls (cI y :: cI x :: st) (mulG t1 t2 n k f) := by
  intro h r h' hf p l e s m args below meth cd γ ρ0 β0 h0 ρ β τ H locs cells slots lsA hx hv hw
  obtain ⟨rfl, rfl⟩ := hxy
  unfold mulG at hf
  obtain ⟨hN, hs1, hs2⟩ := fx_sa hx
  obtain ⟨x1, x2, x3, x4, x5, x6, x7, x8, x9, x10, x11, hG⟩ := id hx
  obtain ⟨v1, v2, v3, v4, v5, v6, v7, v8, v9⟩ := id hv
  have hrm : d.rm.cells = d.mc := rfl
  have hrs : d.rm.slots = d.ms := rfl
  have cn : (nI n).toNatClampNeg = n := nI_clamp (by omega)
  have ck : (nI k).toNatClampNeg = k := nI_clamp (by omega)
  have hcb : componentBytes ty ≤ 8 := by rcases ht with ⟨-, -, rfl⟩ | ⟨-, -, rfl⟩ <;> decide
  have hkb : k * componentBytes ty ≤ 536870912 := Nat.le_trans (Nat.mul_le_mul hnk.2 hcb) (by decide)
  intro T hT X
  obtain ⟨vm₁, cA, comp, hW, f1, f2, f3, f4, X', step⟩ := X.multianewarray2F x1 (own := d.own) (index := index) (ty := ty) x5 (x6 _ hl) (show (Cond.arrayOver (.array ty)).before args s = true from fx_tbl hx hov rfl) (x6 _ har) (g := F0 m pc lsA (.int (nI k) :: .int (nI n) :: st.map (pv ρ))) rfl (by rw [x2]; exact hd) (n := nI n) (k := nI k) (rest := st.map (pv ρ)) rfl (nI_pos (by omega)) (nI_pos (by omega)) (by rw [cn]; omega) (by rw [ck]; exact hkb) (by rw [ck]; omega)
    (by rcases ht with ⟨-, -, rfl⟩ | ⟨-, -, rfl⟩ <;> rfl) (by rcases ht with ⟨-, -, rfl⟩ | ⟨-, -, rfl⟩ <;> rfl) (by rw [cn, hrm]; omega) (by rw [cn, ck, hrs]; omega)
  rw [cn, ck] at X' step
  generalize hF : Jvm.Free.Multi.fill (T.setVm vm₁) cA comp n k (defaultValue ty) n = F at X' step
  have hTs : (T.setVm vm₁).heap = H := hT
  have ff := Jvm.Free.Multi.fill_facts (T.setVm vm₁) cA comp n k (defaultValue ty) n
  have fo : ∀ a, a < H.size → F.heap[a]? = H[a]? := fun a ha => by
    have := Jvm.Free.Multi.fill_old (T.setVm vm₁) cA comp n k (defaultValue ty) (a := a) (by rw [hTs]; exact ha) n
    rw [hF, hTs] at this
    exact this
  have fi : ∀ j, j < n → F.heap[H.size + 1 + j]? = some (Jvm.Free.Multi.innerC comp k (defaultValue ty)) := fun j hj => by
    have := Jvm.Free.Multi.fill_inner (T.setVm vm₁) cA comp n k (defaultValue ty) n j hj
    rw [hF, hTs] at this
    exact this
  rw [hF, hTs] at ff
  obtain ⟨fs, fout, -⟩ := ff
  rw [outer_arr] at fout
  have hcA : cA = γ.cA t1 ∧ comp = γ.cA t2 := by
    rcases ht with ⟨rfl, rfl, rfl⟩ | ⟨rfl, rfl, rfl⟩
    · exact ⟨Option.some.inj (f1.symm.trans (hG.1.1.2 6 _ rfl).2), Option.some.inj (f2.symm.trans (hG.1.1.2 0 _ rfl).2)⟩
    · obtain ⟨kA2, comp2, k1, k2, k3, k5⟩ := (hG.1.1.2 4 _ rfl).2
      exact ⟨Option.some.inj (f1.symm.trans (hG.1.1.2 5 _ rfl).2), Option.some.inj (f2.symm.trans k5)⟩
  obtain ⟨rfl, rfl⟩ := hcA
  have hwf := emb_wfh v3
  have ht12 : 1 ≤ t2 ∧ t2 < 8 ∧ 4 ≤ t1 ∧ t1 < 8 := by rcases ht with ⟨rfl, rfl, -⟩ | ⟨rfl, rfl, -⟩ <;> omega
  have mt : ∀ z, h.n ≤ z → (h.mul t1 t2 n k).t z ≠ 0 → z < h.n + 1 + n := by
    intro z hz h0
    by_cases q : z < h.n + 1 + n
    · exact q
    · exact absurd ((if_neg (by omega)).trans ((if_neg (by omega)).trans (wf_t0 hwf hz))) h0
  obtain ⟨ρ2, hρ2⟩ : ∃ ρ2 : Nat → Nat, ∀ z, ρ2 z = if h.n ≤ z then H.size + (z - h.n) else ρ z := ⟨_, fun _ => rfl⟩
  have hag : ∀ z, z < h.n → ρ2 z = ρ z := fun z hz => by rw [hρ2, if_neg (by omega)]
  have hnw : ∀ z, h.n ≤ z → ρ2 z = H.size + (z - h.n) := fun z hz => by rw [hρ2, if_pos hz]
  have m1 : (h.mul t1 t2 n k).t h.n = t1 ∧ (h.mul t1 t2 n k).l h.n = n ∧ (h.mul t1 t2 n k).p h.n = (fun j => if j < n then h.n + 1 + j else 0) := ⟨if_pos rfl, if_pos rfl, if_pos rfl⟩
  have m2 : ∀ z, h.n < z → z < h.n + 1 + n → (h.mul t1 t2 n k).t z = t2 ∧ (h.mul t1 t2 n k).l z = k ∧ (h.mul t1 t2 n k).p z = (fun _ => 0) ∧ (h.mul t1 t2 n k).i z = fun _ => 0 := fun z z1 z2 => ⟨(if_neg (by omega)).trans (if_pos ⟨z1, z2⟩), (if_neg (by omega)).trans (if_pos ⟨z1, z2⟩), (if_neg (by omega)).trans (if_pos ⟨z1, z2⟩), if_pos (by omega)⟩
  have hv2 : Vy d c q γ ρ0 β0 h0 s ρ2 β τ ls (h.mul t1 t2 n k) F.heap locs (cells + 1 + n) (slots + n + n * k) lsA := by
    refine vy_allocs hv hN hs1 hs2 (by show h.n ≤ h.n + 1 + n; omega) (fun z hz => mul_old hz) hag (by rw [fs]; omega) fo (fun z hz h0 => ?_) (fun z z' hz hz' h0 h0' he => ?_) (by omega) (by omega)
    · have hzl := mt z hz h0
      refine ⟨hzl, ?_, by rw [hnw z hz]; omega, fun j => ?_, if_pos ⟨hz, hzl⟩, ?_⟩
      · by_cases q : z = h.n
        · rw [q, m1.1]; omega
        · rw [(m2 z (by omega) hzl).1]; omega
      · show _ < h.n + 1 + n
        by_cases q : z = h.n
        · rw [q, m1.2.2]
          show (if j < n then h.n + 1 + j else 0) < _
          split <;> omega
        · rw [(m2 z (by omega) hzl).2.2.1]
          show 0 < _
          omega
      · by_cases q : z = h.n
        · subst q
          refine embAt_arr (by rw [m1.1]; omega) (fun u => by rw [m1.1] at u; omega) (fun u => by rw [m1.1] at u; omega) (fun u => by rw [m1.1] at u; omega) (fun _ => ?_)
          rw [hnw _ (Nat.le_refl _), Nat.sub_self, Nat.add_zero, m1.1, m1.2.1, m1.2.2, vp_cell_q, fout]
          congr 2
          funext j
          by_cases qj : j < n
          · rw [if_pos qj]
            show Value.ref (H.size + 1 + j) = va_rf (ro ρ2 (if j < n then h.n + 1 + j else 0))
            rw [if_pos qj]
            unfold ro
            rw [if_neg (by omega), hnw _ (by omega)]
            exact congrArg Value.ref (show H.size + 1 + j = H.size + (h.n + 1 + j - h.n) by omega)
          · rw [if_neg qj]
            show Value.null = va_rf (ro ρ2 (if j < n then h.n + 1 + j else 0))
            rw [if_neg qj]
            rfl
        · obtain ⟨u1, u2, u3, u4⟩ := m2 z (by omega) hzl
          have e1 := fi (z - h.n - 1) (by omega)
          rw [show H.size + 1 + (z - h.n - 1) = ρ2 z by rw [hnw z hz]; omega] at e1
          rcases ht with ⟨rfl, rfl, rfl⟩ | ⟨rfl, rfl, rfl⟩
          · refine embAt_arr (by omega) (fun _ => ?_) (fun w => by omega) (fun w => by omega) (fun w => by omega)
            rw [e1, u2, u4, vp_cell_i]
            congr 1
            exact arrV_new _ _ (.int 0)
          · refine embAt_arr (by omega) (fun w => by omega) (fun w => by omega) (fun w => by omega) (fun _ => ?_)
            rw [e1, u1, u2, u3, vp_cell_q]
            congr 1
            exact arrV_new _ _ .null
    · rw [hnw z hz, hnw z' hz'] at he
      omega
  have hk9 := kk h.n _ r h' hf p l e s m args below meth cd γ ρ0 β0 h0 ρ2 β τ F.heap locs (cells + 1 + n) (slots + n + n * k) lsA hx hv2 ⟨by show h.n < h.n + 1 + n; omega, wfS_mono (by show h.n ≤ h.n + 1 + n; omega) hw.2.2⟩
  obtain ⟨t, a9, b9⟩ := hk9 F rfl X'
  refine ⟨t, step t ?_, b9⟩
  have e5 : (cR h.n :: st).map (pv ρ2) = .ref (T.heap.size) :: st.map (pv ρ) := by
    rw [List.map_cons, pvs_agree hag hw.2.2, hT]
    congr 1
    show va_rf (ro ρ2 h.n) = _
    unfold ro
    rw [if_neg (show ¬ h.n = 0 by have := hwf.1; omega), hnw _ (Nat.le_refl _), Nat.sub_self]
    rfl
  rw [e5] at a9
  exact a9
