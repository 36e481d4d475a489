/-! RULES of the clean machine: for-each loops -/
set_option maxRecDepth 100000
def HP.itr (h : HP) (a : Nat) (m : Int32) (j : Nat) (lr : Int32) : HP := ((((h.mkc 35 0).wP h.n 3 a).wI h.n 1 lr).wI h.n 2 m).wI h.n 0 (nI j)
theorem itr_at {h : HP} {a j : Nat} {m lr : Int32} : (h.itr a m j lr).t h.n = 35 ∧ (h.itr a m j lr).i h.n 0 = nI j ∧ (h.itr a m j lr).i h.n 1 = lr ∧ (h.itr a m j lr).i h.n 2 = m ∧ (h.itr a m j lr).p h.n = (fun k => if k = 3 then a else 0) ∧ (h.itr a m j lr).s h.n = [] := by
  refine ⟨if_pos rfl, if_pos ⟨rfl, rfl⟩, ?_, ?_, ?_, if_pos rfl⟩
  · show (if h.n = h.n ∧ 1 = 0 then nI j else if h.n = h.n ∧ 1 = 2 then m else if h.n = h.n ∧ 1 = 1 then lr else _) = lr
    rw [if_neg (by omega), if_neg (by omega), if_pos ⟨rfl, rfl⟩]
  · show (if h.n = h.n ∧ 2 = 0 then nI j else if h.n = h.n ∧ 2 = 2 then m else _) = m
    rw [if_neg (by omega), if_pos ⟨rfl, rfl⟩]
  · funext k
    show (if h.n = h.n ∧ k = 3 then a else (h.mkc 35 0).p h.n k) = _
    rw [show (h.mkc 35 0).p h.n = fun _ => 0 from if_pos rfl]
    by_cases q : k = 3
    · rw [if_pos ⟨rfl, q⟩, if_pos q]
    · rw [if_neg (fun z => q z.2), if_neg q]
theorem itr_oth {h : HP} {a j x : Nat} {m lr : Int32} (hx : x ≠ h.n) : SameC h (h.itr a m j lr) x := ((((sc_mkc hx).trans (sc_wP hx)).trans (sc_wI hx)).trans (sc_wI hx)).trans (sc_wI hx)
theorem tOB4 {o : Nat} {cC : ClassId} {iS : Nat → Nat} {H : Heap} {V V2 : Nat → Value} (h : t_OB o cC 4 iS H V) (h0 : V2 0 = V 0) (h1 : V2 1 = V 1) (h2 : V2 2 = V 2) (h3 : V2 3 = V 3) : t_OB o cC 4 iS H V2 := by
  obtain ⟨cell, q1, q2, q3, q4⟩ := h
  refine ⟨cell, q1, q2, q3, fun k hk => ?_⟩
  rcases (show k = 0 ∨ k = 1 ∨ k = 2 ∨ k = 3 by omega) with rfl | rfl | rfl | rfl
  · rw [h0]; exact q4 0 (by omega)
  · rw [h1]; exact q4 1 (by omega)
  · rw [h2]; exact q4 2 (by omega)
  · rw [h3]; exact q4 3 (by omega)
theorem vwRef15 : vwRef 15 0 = false ∧ vwRef 15 1 = false ∧ vwRef 15 2 = false ∧ vwRef 15 3 = true := by decide +kernel
theorem vy_thaw {d : MD} {c k : Nat} {γ : GC} {ρ0 β0 : Nat → Nat} {h0 : HP} {s : State} {ρ β τ : Nat → Nat} {ls : List (Nat × CV)} {h : HP} {H : Heap} {locs : List Loc} {cells slots : Nat} {lsA : Array Slot} {i a j : Nat} {m : Int32} (hv : Vy d c k γ ρ0 β0 h0 s ρ β τ ((i, cT a m j) :: ls) h H locs cells slots lsA) (hni : ∀ q ∈ ls, q.1 ≠ i) :
    ∃ lr, Vy d c k γ ρ0 β0 h0 s (up1 ρ h.n (τ i)) β τ ((i, cR h.n) :: ls) (h.itr a m j lr) H locs cells slots lsA := by
  obtain ⟨v1, v2, v3, ⟨v4, v4b⟩, v5, v6, v7, v8⟩ := hv
  obtain ⟨t1, t2, t3, lr, t4⟩ := v4 i a m j List.mem_cons_self
  have han : a < h.n := v5 _ List.mem_cons_self
  obtain ⟨e1, e2, e3, e4, e5, e6, e7, e8⟩ := id v3
  have hag : ∀ b, b < h.n → up1 ρ h.n (τ i) b = ρ b := up_agree
  have hself : up1 ρ h.n (τ i) h.n = τ i := up_self
  obtain ⟨i1, i2, i3, i4, i5, i6⟩ := itr_at (h := h) (a := a) (m := m) (j := j) (lr := lr)
  have hdy : ∀ x, x ≠ h.n → dyn ((h.itr a m j lr).t x) → dyn (h.t x) ∧ x < h.n := by
    intro x hx hd
    rw [(itr_oth hx).1] at hd
    exact ⟨hd, (e2 x (by unfold dyn at hd; omega)).2.1⟩
  have h80 : ∀ x, (h.itr a m j lr).t x = 8 → h.t x = 8 ∧ x < h.n := by
    intro x hx
    have hxn : x ≠ h.n := fun q => by rw [q, i1] at hx; omega
    rw [(itr_oth hxn).1] at hx
    exact ⟨hx, (e2 x (by omega)).2.1⟩
  refine ⟨lr, Nat.le_succ_of_le v1, fun b hb => (hag b (by omega)).trans (v2 b hb), emb_re v3 (fun x => x = h.n) (by show 270 ≤ h.n + 1; omega) (fun x hx hx0 => ?_) (fun x hx hx0 => ?_) (fun x hx hd x' hd' he => ?_) (fun x hx hx8 => ?_) (fun x x' hx hd hx8 => ?_), ⟨fun i' a' m' j' hq => ?_, fun i1 i2 w1 w2 q1 q2 q3 q4 => ?_⟩, fun q hq => ?_, v6, ?_, v8⟩
  · have hx : x ≠ h.n := hx
    obtain ⟨s1, s2, s3, s4, s5, s6, s7⟩ := itr_oth (a := a) (m := m) (j := j) (lr := lr) hx
    rw [s1] at hx0
    obtain ⟨w1, w2, w3, w4⟩ := e2 x hx0
    exact ⟨hx0, s1, s2, s3, s4, s5, s6, s7, hag x w2, fun _ => rfl, Nat.lt_succ_of_lt w2, fun k => ⟨Nat.lt_succ_of_lt (w3 k), ro_agree hag (w3 k)⟩, fun y hy => ⟨Nat.lt_succ_of_lt (w4 y hy), ro_agree hag (w4 y hy)⟩⟩
  · have hx : x = h.n := hx
    subst hx
    refine ⟨by omega, Nat.lt_succ_self _, fun k => ?_, fun y hy => ?_, embAt_obj (ci := 15) rfl i1 ?_, fun _ => ?_, fun q => by omega⟩
    · rw [i5]
      show (if k = 3 then a else 0) < h.n + 1
      split <;> omega
    · rw [i6] at hy
      cases hy
    · rw [hself]
      refine tOB4 t4 ?_ ?_ ?_ ?_
      · unfold fv
        rw [vwRef15.1, i2]
        rfl
      · unfold fv
        rw [vwRef15.2.1, i3]
        rfl
      · unfold fv
        rw [vwRef15.2.2.1, i4]
        rfl
      · unfold fv
        rw [vwRef15.2.2.2, if_pos rfl, i5]
        show va_rf (ro (up1 ρ h.n (τ i)) a) = va_rf (ro ρ a)
        rw [ro_agree hag han]
    · rw [hself]
      exact ⟨t1, e1⟩
  · have hx : x = h.n := hx
    subst hx
    by_cases hx' : x' = h.n
    · exact hx'.symm
    · obtain ⟨q1, q2⟩ := hdy x' hx' hd'
      rw [hself, hag x' q2] at he
      exact absurd he.symm (t2 x' q1)
  · have hx : x = h.n := hx
    rw [hx, i1] at hx8
    omega
  · obtain ⟨q1, q2⟩ := h80 x' hx8
    by_cases hxn : x = h.n
    · rw [hxn, hself]
      exact fun q => t3 x' q1 q.symm
    · obtain ⟨u1, u2⟩ := hdy x hxn hd
      rw [hag x u2]
      exact e8 x x' u1 q1
  · rcases List.mem_cons.mp hq with hq | hq
    · cases hq
    · obtain ⟨y1, y2, y3, lr', y4⟩ := v4 i' a' m' j' (List.mem_cons_of_mem _ hq)
      refine ⟨y1, fun b hb => ?_, fun b hb => y3 b (h80 b hb).1, lr', ?_⟩
      · by_cases hbn : b = h.n
        · rw [hbn, hself]
          intro q
          exact hni _ hq (v4b i i' _ _ List.mem_cons_self (List.mem_cons_of_mem _ hq) rfl rfl q).symm
        · obtain ⟨u1, u2⟩ := hdy b hbn hb
          rw [hag b u2]
          exact y2 b u1
      · rw [itV_agree (ro_agree hag (v5 _ (List.mem_cons_of_mem _ hq)))]
        exact y4
  · rcases List.mem_cons.mp q1 with z1 | z1
    · cases z1; cases q3
    · rcases List.mem_cons.mp q2 with z2 | z2
      · cases z2; cases q4
      · exact v4b i1 i2 w1 w2 (List.mem_cons_of_mem _ z1) (List.mem_cons_of_mem _ z2) q3 q4
  · rcases List.mem_cons.mp hq with rfl | hq
    · exact Nat.lt_succ_self _
    · exact wfl_mono (Nat.le_succ _) (v5 q (List.mem_cons_of_mem _ hq))
  · rw [List.map_cons] at v7 ⊢
    rw [pls_agree hag (fun q hq => v5 q (List.mem_cons_of_mem _ hq))]
    have : pl (up1 ρ h.n (τ i)) τ (i, cR h.n) = pl ρ τ (i, cT a m j) := by
      show (i, va_rf (ro (up1 ρ h.n (τ i)) h.n)) = (i, Value.ref (τ i))
      unfold ro
      rw [if_neg (by omega), hself]
      rfl
    rw [this]
    exact v7
theorem vy_freeze {d : MD} {c k : Nat} {γ : GC} {ρ0 β0 : Nat → Nat} {h0 : HP} {s : State} {ρ β τ : Nat → Nat} {ls ls' : List (Nat × CV)} {h1 h : HP} {H : Heap} {locs : List Loc} {cells slots : Nat} {lsA lsB : Array Slot} {i a j x : Nat} {m : Int32} (hv : Vy d c k γ ρ0 β0 h0 s ρ β τ ls h1 H locs cells slots lsA)
    (hx : h1.t x = 35) (i0 : h1.i x 0 = nI j) (i2 : h1.i x 2 = m) (p3 : h1.p x 3 = a) (hW : Weak h1 h) (hx0 : h.t x = 0) (hn0 : h0.n ≤ h.n) (han : a < h.n) (hls : ∀ q ∈ ls', wfl h.n q.2) (hsub : ∀ q ∈ ls', q ∈ ls) (hni : ∀ q ∈ ls', q.1 ≠ i) (hlv : lv_has lsB d.nL (((i, cT a m j) :: ls').map (pl ρ (up1 τ i (ρ x))))) :
    Vy d c k γ ρ0 β0 h0 s ρ β (up1 τ i (ρ x)) ((i, cT a m j) :: ls') h H locs cells slots lsB := by
  obtain ⟨v1, v2, v3, ⟨v4, v4b⟩, v5, v6, v7, v8⟩ := hv
  obtain ⟨e1, e2, e3, e4, e5, e6, e7, e8⟩ := id v3
  have hdx : dyn (h1.t x) := by rw [hx]; exact Or.inr (Or.inl (by omega))
  have hdy : ∀ b, dyn (h.t b) → dyn (h1.t b) ∧ b ≠ x := by
    intro b hb
    have hb0 : h.t b ≠ 0 := by unfold dyn at hb; omega
    refine ⟨by rw [← (hW.2 b hb0).1]; exact hb, fun q => by rw [q] at hb0; exact hb0 hx0⟩
  have h80 : ∀ b, h.t b = 8 → h1.t b = 8 := fun b hb => by rw [← (hW.2 b (by omega)).1]; exact hb
  have hself : up1 τ i (ρ x) i = ρ x := up_self
  have hoth : ∀ i', i' ≠ i → up1 τ i (ρ x) i' = τ i' := fun i' hi => if_neg hi
  refine ⟨hn0, v2, emb_weak v3 hW, ⟨fun i' a' m' j' hq => ?_, fun i1 i2 w1 w2 q1 q2 q3 q4 he => ?_⟩, fun q hq => ?_, v6, hlv, v8⟩
  · rcases List.mem_cons.mp hq with hq | hq
    · cases hq
      rw [hself]
      refine ⟨(e4 x hdx).1, fun b hb q => (hdy b hb).2 (e6 b x (hdy b hb).1 hdx q), fun b hb q => e8 x b hdx (h80 b hb) q.symm, h1.i x 1, ?_⟩
      obtain ⟨-, -, -, l6⟩ := emb_obj v3 (ci := 15) rfl hx
      refine tOB4 l6 ?_ ?_ ?_ ?_
      · unfold fv
        rw [vwRef15.1, i0]
        rfl
      · unfold fv
        rw [vwRef15.2.1]
        rfl
      · unfold fv
        rw [vwRef15.2.2.1, i2]
        rfl
      · unfold fv
        rw [vwRef15.2.2.2, if_pos rfl, p3]
        rfl
    · have hni' : i' ≠ i := hni _ hq
      rw [hoth i' hni']
      obtain ⟨y1, y2, y3, lr', y4⟩ := v4 i' a' m' j' (hsub _ hq)
      exact ⟨y1, fun b hb => y2 b (hdy b hb).1, fun b hb => y3 b (h80 b hb), lr', y4⟩
  · have hne : ∀ i' w', (i', w') ∈ ls' → isT w' = true → ρ x ≠ τ i' := by
      intro i' w' hq ht
      rcases w' with z | z | z | z | z | ⟨a', m', j'⟩
      · cases ht
      · cases ht
      · cases ht
      · cases ht
      · cases ht
      · exact (v4 i' a' m' j' (hsub _ hq)).2.1 x hdx
    rcases List.mem_cons.mp q1 with z1 | z1
    · rcases List.mem_cons.mp q2 with z2 | z2
      · cases z1; cases z2; rfl
      · cases z1
        rw [hself, hoth i2 (hni _ z2)] at he
        exact absurd he (hne i2 w2 z2 q4)
    · rcases List.mem_cons.mp q2 with z2 | z2
      · cases z2
        rw [hself, hoth i1 (hni _ z1)] at he
        exact absurd he.symm (hne i1 w1 z1 q3)
      · rw [hoth i1 (hni _ z1), hoth i2 (hni _ z2)] at he
        exact v4b i1 i2 w1 w2 (hsub _ z1) (hsub _ z2) q3 q4 he
  · rcases List.mem_cons.mp hq with rfl | hq
    · exact han
    · exact hls q hq
/-- the locals told anew -/
theorem pls_tau {ρ τ : Nat → Nat} {i v : Nat} {ls : List (Nat × CV)} (hni : ∀ q ∈ ls, q.1 ≠ i) : ls.map (pl ρ (up1 τ i v)) = ls.map (pl ρ τ) := by
  refine List.map_congr_left fun q hq => ?_
  have h1 := hni q hq
  obtain ⟨i', w⟩ := q
  rcases w with z | z | z | z | z | z
  · rfl
  · rfl
  · rfl
  · rfl
  · rfl
  · show (i', Value.ref (up1 τ i v i')) = (i', Value.ref (τ i'))
    rw [show up1 τ i v i' = τ i' from if_neg h1]
def ldOK (d : MD) (pc la i : Nat) : Prop := (∃ j : Fin 4, decode d.cc pc = .ok (.aload_n j, 1) ∧ (j : Nat) = i ∧ la = 1) ∨ (decode d.cc pc = .ok (.aload i, 2) ∧ la = 2)
def stOK (d : MD) (pc la i : Nat) : Prop := (∃ j : Fin 4, decode d.cc pc = .ok (.astore_n j, 1) ∧ (j : Nat) = i ∧ la = 1) ∨ (decode d.cc pc = .ok (.astore i, 2) ∧ la = 2)
