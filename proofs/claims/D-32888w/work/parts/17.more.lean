/-! RULES of the clean machine: free loops, Object's constructor, throws -/
set_option maxRecDepth 100000
theorem cw_loop0 {σ : Type} {d : MD} {c k pc : Nat} {lsf : σ → List (Nat × CV)} {body : (σ → GF) → σ → GF} (hb : ∀ (rec : σ → GF), (∀ s, CWF d c k pc (lsf s) [] (rec s)) → ∀ s, CWF d c k pc (lsf s) [] (body rec s)) : ∀ (n : Nat) (s : σ), CWF d c k pc (lsf s) [] (loopG body n s) := by
  intro n
  induction n with
  | zero =>
    intro s h r h' hf
    cases hf
  | succ n ih => exact fun s => hb (loopG body n) ih s
def FU : Nat := 10000
def objG (a : Nat) (f : GF) : GF := fun h => if h.t a = 0 then none else f h
theorem cw_objInit {d : MD} {c q pc idx a : Nat} {ls : List (Nat × CV)} {st : List CV} {f : GF} (hl : Cond.methodLink d.own idx Lib.objectInit ∈ lw_all) (hi : Cond.instanceMethod Lib.objectInit ∈ lw_all) (hc : Cond.code Lib.objectInit ⟨#[0xb1]⟩ 1 none ∈ lw_all) (hd : decode d.cc pc = .ok (.invokespecial idx, 3)) (hdep : 1 ≤ d.dep) (hs : (st.map cat).sum ≤ 8) (k : CWF d c q (pc + 3) ls st f) : CWF d c q pc ls (cR a :: st) (objG a f) := by
  intro h r h' hf p l e s m args below meth cd γ ρ0 β0 h0 ρ β τ H locs cells slots lsA hx hv hw
  unfold objG at hf
  by_cases ht : h.t a = 0
  · rw [if_pos ht] at hf
    cases hf
  · rw [if_neg ht] at hf
    obtain ⟨x1, x2, x3, x4, x5, x6, x7, x8, x9, x10, x11, hG⟩ := id hx
    show W _ _ _ _ _ _ _ _ _ _ _ _ _ _ _ (F0 m pc lsA (pv ρ (cR a) :: st.map (pv ρ)))
    rw [pv_ref hv.2.2.1 ht]
    exact W.objInit x1 x2 x5 (x6 _ hl) (x6 _ hi) (x6 _ hc) rfl (by rw [x4]; exact hv.2.2.2.2.2.2.1.1) rfl hd (show 1 ≤ d.dep from hdep) (by show 2 * 0 + _ + 12 ≤ 4096 + 64 * d.dep; rw [pvs_cat]; omega) (k h r h' hf p l e s m args below meth cd γ ρ0 β0 h0 ρ β τ H locs cells slots lsA hx hv hw.2)
/-- words that a throw asks, told by their places in the tables -/
theorem thr_in (ws : List Cond) (ps : List Nat) (hp : ws = ps.filterMap (fun i => lw_tbl[i]?)) : ∀ w ∈ ws, w ∈ lw_tbl := by
  intro w h
  rw [hp] at h
  obtain ⟨i, -, hi⟩ := List.mem_filterMap.mp h
  exact List.mem_of_getElem? hi
theorem fx_w {d : MD} {γ : GC} {p : Program} {l : Launch} {s : State} {m : MethodId} {args : Array Value} {meth : Method} {cd : Code} (hx : Fx d γ p l s m args meth cd) {w : Cond} (hw : w ∈ lw_tbl) (hg : (goodWord w || (stw w && w.onTables)) = true) : w.before args s = true := by
  rcases (Bool.or_eq_true _ _).mp hg with h | h
  · exact hx.2.2.2.2.2.1 _ (lw_g hw h)
  · obtain ⟨h1, h2⟩ := (Bool.and_eq_true _ _).mp h
    exact va_Nw.use h2 (hx.2.2.2.2.2.2.2.2.2.2.2.1.2.1 _ hw h1)
theorem cw_throw0 {d : MD} {c q pc ik ic : Nat} {ls : List (Nat × CV)} {st : List CV} {cls : String} {names : List String} (hcls : Bundle.fit cls = true) (hnames : ∀ n ∈ names, Bundle.fit n = true) (hk : Cond.classLink d.own ik cls ∈ lw_all) (hini : Cond.initialized cls ∈ lw_all) (hat : ∀ w ∈ vx_at0 d.own ic cls names, w ∈ lw_tbl) (hg : ∀ w ∈ vx_at0 d.own ic cls names, (goodWord w || (stw w && w.onTables)) = true)
    (hgood : ∀ w ∈ Cond.classLink d.own ik cls :: Cond.initialized cls :: vx_at0 d.own ic cls names, vx_ot w = true) (d0 : decode d.cc pc = .ok (.new ik, 3)) (d3 : decode d.cc (pc + 3) = .ok (.dup, 1)) (d4 : decode d.cc (pc + 4) = .ok (.invokespecial ic, 3)) (d7 : decode d.cc (pc + 7) = .ok (.athrow, 1)) (hdep : names.length + 4 ≤ d.dep) (hn3 : names.length ≤ 20) (hs : (st.map cat).sum ≤ 8) : CWF d (c + 1) (q + 6) pc ls st (throwG cls) := by
  intro h r h' hf p l e s m args below meth cd γ ρ0 β0 h0 ρ β τ H locs cells slots lsA hx hv hw
  cases hf
  obtain ⟨x1, x2, x3, x4, x5, x6, x7, x8, x9, x10, x11, hG⟩ := id hx
  obtain ⟨v1, v2, v3, v4, v5, v6, v7, v8, v9⟩ := id hv
  have hrm : d.rm.cells = d.mc := rfl
  have hrs : d.rm.slots = d.ms := rfl
  have hva : va_S (A0 γ) s.heap H locs := ⟨v6.1, fun q h1 h2 => v6.2.1 q h1 (fun z => h2 z.1), fun z hz => (v6.2.2 z hz).1⟩
  refine vx_throw0 (names := names) (A := A0 γ) x1 x2 x9 x5 hcls hnames (x6 _ hk) (x6 _ hini) (fun w hw => fx_w hx (hat w hw) (hg w hw)) hgood hG.2.1.1 hG.2.1.2 hva (by rw [x4]; exact v7.1) d0 d3 d4 d7 (fun x h9 => (x8 x h9).elim)
    (show names.length + 3 < d.dep by omega) (by show _ ≤ 4096 + 64 * d.dep; rw [pvs_cat]; omega) (by rw [hrm]; omega) (by rw [hrs]; omega) x7 (fun t hvm hz9 hq9 => ⟨⟨ρ, β, rfl, v2, v1, ?_⟩, ⟨Nat.le_trans v6.1 hz9, fun q h1 h2 => (hq9 q (Nat.lt_of_lt_of_le h1 v6.1)).trans (v6.2.1 q h1 h2)⟩⟩) v6.2.2 (by omega) (by omega)
  obtain ⟨e1, e2, e3, e4, e5, e6⟩ := v3
  refine ⟨e1, e2, fun a => ?_, e4, e5, e6⟩
  have key := e3 a
  refine embAt_congr rfl rfl rfl rfl rfl rfl rfl (fun _ => rfl) (fun _ _ => rfl) (fun _ _ _ => rfl) (fun _ => rfl) (fun hd9 => ?_) (fun h8 => ?_) key
  · obtain ⟨a1, a2, a3, a4, a5, a6, a7, a8⟩ := key
    refine hq9 _ ?_
    rcases dyn_cases hd9 with q | q | q | q | q | q | q
    · exact (Array.getElem?_eq_some_iff.mp (a1 q)).1
    · exact (Array.getElem?_eq_some_iff.mp (a2 q)).1
    · exact (Array.getElem?_eq_some_iff.mp (a3 q)).1
    · exact (Array.getElem?_eq_some_iff.mp (a4 q.1 q.2)).1
    · obtain ⟨-, ⟨cell, q, -⟩, -⟩ := a5 q
      exact (Array.getElem?_eq_some_iff.mp q).1
    · obtain ⟨r, -, cell, q, -⟩ := a6 q.1 q.2
      exact (Array.getElem?_eq_some_iff.mp q).1
    · exact (Array.getElem?_eq_some_iff.mp (a7 q)).1
  · obtain ⟨-, -, -, -, a5, -⟩ := key
    obtain ⟨f1, f2, f3⟩ := fx_sa hx
    obtain ⟨-, -, ⟨q | q, -⟩ | ⟨q1, cap, -, -, -, q2⟩⟩ := a5 h8
    · rw [q]
      exact hq9 _ (Nat.lt_of_lt_of_le f2 (Nat.le_trans f1 v6.1))
    · rw [q]
      exact hq9 _ (Nat.lt_of_lt_of_le f3 (Nat.le_trans f1 v6.1))
    · exact hq9 _ (Array.getElem?_eq_some_iff.mp q2).1
