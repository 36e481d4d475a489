/-! RULES of the clean machine: calls -/
set_option maxRecDepth 100000
theorem aset_sub {γ : GC} {ρ0 β0 ρ β : Nat → Nat} {h0 h : HP} {sz : Nat} {H : Heap} (hE : Emb γ ρ β h (ASet γ ρ0 β0 h0 sz) H) (hz : sz ≤ H.size) : ∀ q, ASet γ ρ β h H.size q → ASet γ ρ0 β0 h0 sz q := by
  rintro q ⟨hN, ⟨a, ha, rfl⟩ | ⟨a, ha, rfl⟩ | hq⟩
  · exact (hE.2.2.2.1 a ha).1
  · exact hE.2.2.2.2.1 a ha hN
  · exact ⟨hN, Or.inr (Or.inr (Nat.le_trans hz hq))⟩
theorem emb_mono {γ : GC} {ρ β : Nat → Nat} {h : HP} {A B : Nat → Prop} {H : Heap} (hE : Emb γ ρ β h A H) (hAB : ∀ q, A q → B q) : Emb γ ρ β h B H := by
  obtain ⟨e1, e2, e3, e4, e5, e6⟩ := hE
  exact ⟨e1, e2, e3, fun a ha => ⟨hAB _ (e4 a ha).1, (e4 a ha).2⟩, fun a ha hb => hAB _ (e5 a ha hb), e6⟩
theorem emb_own {γ : GC} {ρ0 β0 ρ β : Nat → Nat} {h0 h : HP} {sz sz2 : Nat} {H : Heap} (hE : Emb γ ρ β h (ASet γ ρ0 β0 h0 sz) H) : Emb γ ρ β h (ASet γ ρ β h sz2) H := by
  obtain ⟨e1, e2, e3, e4, e5, e6⟩ := hE
  exact ⟨e1, e2, e3, fun a ha => ⟨⟨(e4 a ha).1.1, Or.inl ⟨a, ha, rfl⟩⟩, (e4 a ha).2⟩, fun a ha hb => ⟨hb, Or.inr (Or.inl ⟨a, ha, rfl⟩)⟩, e6⟩
theorem vy_back {d : MD} {c k mc2 ms2 : Nat} {γ : GC} {ρ0 β0 : Nat → Nat} {h0 : HP} {s : State} {ρ β τ : Nat → Nat} {ls : List (Nat × CV)} {h : HP} {H : Heap} {locs : List Loc} {cells slots : Nat} {lsA : Array Slot} (hv : Vy d (c + mc2) (k + ms2) γ ρ0 β0 h0 s ρ β τ ls h H locs cells slots lsA)
    {ρ1 β1 : Nat → Nat} {h1 : HP} {H1 : Heap} {L : List Loc} (hag : ∀ a, a < h.n → ρ1 a = ρ a) (hn : h.n ≤ h1.n) (hE : Emb γ ρ1 β1 h1 (ASet γ ρ β h H.size) H1) (hz : H.size ≤ H1.size) (hk : ∀ q, q < H.size → ¬ ASet γ ρ β h H.size q → H1[q]? = H[q]?) (hL : ∀ q ∈ L, ASet γ ρ β h H.size q.base) :
    Vy d c k γ ρ0 β0 h0 s ρ1 β1 τ ls h1 H1 (locs ++ L) (cells + mc2) (slots + ms2) lsA := by
  obtain ⟨v1, v2, v3, ⟨v4, v4b⟩, v5, v6, v7, v8, v9⟩ := hv
  have hsub := aset_sub v3 v6.1
  refine ⟨Nat.le_trans v1 hn, fun a ha => (hag a (by omega)).trans (v2 a ha), emb_mono hE hsub, ⟨fun i a m j hq => ?_, v4b⟩, fun q hq => wfl_mono hn (v5 q hq), ⟨Nat.le_trans v6.1 hz, fun q h1 h2 => (hk q (Nat.lt_of_lt_of_le h1 v6.1) (fun z => h2 (hsub q z))).trans (v6.2.1 q h1 h2), fun q hq => ?_⟩, ?_, by omega, by omega⟩
  · obtain ⟨t1, t2, t3, lr, t4⟩ := v4 i a m j hq
    have hlt : τ i < H.size := by
      obtain ⟨cell, q, -⟩ := t4
      exact (Array.getElem?_eq_some_iff.mp q).1
    have hnA : ¬ ASet γ ρ β h H.size (τ i) := by
      rintro ⟨-, ⟨b, hb, e⟩ | ⟨b, hb, e⟩ | hq⟩
      · exact t2 b hb e
      · exact t3 b hb e
      · omega
    refine ⟨t1, fun b hb e => hnA (e ▸ (hE.2.2.2.1 b hb).1), fun b hb e => ?_, lr, ?_⟩
    · by_cases hN : γ.N0 ≤ β1 b
      · exact hnA (e ▸ hE.2.2.2.2.1 b hb hN)
      · have := t1.1
        omega
    · rw [itV_agree (ro_agree hag (v5 _ hq))]
      exact t4.kept (hk _ hlt hnA)
  · rcases List.mem_append.mp hq with h1 | h1
    · exact v6.2.2 q h1
    · exact hsub _ (hL q h1)
  · rw [pls_agree hag v5]
    exact v7
/-- which cell must be of which kind: the receiver -/
def rcv (rc : Option (Nat × Nat)) (h : HP) : Bool := match rc with
  | none => true
  | some q => h.t q.1 == q.2
def CallOK (d d2 : MD) (as : List CV) (pc n : Nat) (st : List CV) (rc : Option (Nat × Nat)) : Prop :=
  ∀ (p : Program) (l : Launch) (e : Env) (s : State) (m : MethodId) (args : Array Value) (below : List Frame) (meth : Method) (cd : Code) (γ : GC) (ρ0 β0 : Nat → Nat) (h0 : HP) (ρ β τ : Nat → Nat) (H : Heap) (locs : List Loc) (cells slots : Nat) (lsA : Array Slot) (ls : List (Nat × CV)) (c k : Nat) (h : HP) (r1 : RV) (h1 : HP),
    Fx d γ p l s m args meth cd → Vy d (c + d2.mc) (k + d2.ms) γ ρ0 β0 h0 s ρ β τ ls h H locs cells slots lsA → wfS h.n as → wfS h.n st → rcv rc h = true → CM d2 as h r1 h1 →
    ∀ T : State, T.heap = H → Stand p l e d.rm s m args below meth cd T locs cells slots →
      (∃ (v : Option Value) (st₀ t T' : State) (L : List Loc), st₀.heap = H ∧ Stand p l e d.rm s m args below meth cd T' (locs ++ L) (cells + d2.mc) (slots + d2.ms) ∧ (∀ q ∈ L, ASet γ ρ β h H.size q.base) ∧ T'.heap = t.heap ∧ T'.vm = t.vm ∧ QE γ ρ β h H.size r1 h1 #[] st₀ (.returned v) t ∧
        Goes p e below T (F0 m pc lsA ((as.reverse ++ st).map (pv ρ))) T' (F0 m (pc + n) lsA (v.toList ++ st.map (pv ρ)))) ∨
      (∃ (q : Addr) (st₀ t T' : State) (L : List Loc) (E : String) (ce : Cell), st₀.heap = H ∧ Stand p l e d.rm s m args below meth cd T' (locs ++ L) (cells + d2.mc) (slots + d2.ms) ∧ (∀ z ∈ L, ASet γ ρ β h H.size z.base) ∧ T'.heap = t.heap ∧ T'.vm = t.vm ∧ XE γ ρ β h H.size r1 h1 E st₀ t ∧ t.heap[q]? = some ce ∧ ce.vm = .none ∧ s.vm.findClass E = some ce.cls ∧
        Steps p.tables e below (T.setTop (F0 m pc lsA ((as.reverse ++ st).map (pv ρ)))) ((T'.setTop (F0 m pc lsA (st.map (pv ρ)))).pushFrame (.throwing q)))
theorem wfS_app {n : Nat} : ∀ {a b : List CV}, wfS n (a ++ b) → wfS n a ∧ wfS n b
  | [], _, h => ⟨trivial, h⟩
  | _ :: _, _, h => ⟨⟨h.1, (wfS_app h.2).1⟩, (wfS_app h.2).2⟩
theorem wfS_of {n : Nat} : ∀ {a : List CV}, (∀ v ∈ a, wfv n v) → wfS n a
  | [], _ => trivial
  | v :: a, h => ⟨h v List.mem_cons_self, wfS_of fun w hw => h w (List.mem_cons_of_mem _ hw)⟩
theorem wfS_mem {n : Nat} : ∀ {a : List CV}, wfS n a → ∀ v ∈ a, wfv n v
  | [], _, v, hv => by cases hv
  | w :: a, h, v, hv => by
    rcases List.mem_cons.mp hv with rfl | hv
    · exact h.1
    · exact wfS_mem h.2 v hv
theorem wfS_rev {n : Nat} {a : List CV} (h : wfS n a.reverse) : wfS n a := wfS_of fun v hv => wfS_mem h v (List.mem_reverse.mpr hv)
/-- what follows a call, whatever it answers -/
def invG (rc : Option (Nat × Nat)) (g : GF) (f : RV → GF) : GF := fun h => if rcv rc h = true then (match g h with
  | some (r, h1) => f r h1
  | none => none) else none
theorem cw_invG {d d2 : MD} {as : List CV} {pc n c q : Nat} {ls : List (Nat × CV)} {st stk : List CV} {rc : Option (Nat × Nat)} {g : GF} {f : RV → GF} (hC : CallOK d d2 as pc n st rc) (hM : CMF d2 as g) (hst : stk = as.reverse ++ st)
    (k : ∀ v : Option CV, CWF d c q (pc + n) ls (v.toList ++ st) (f (.inl v))) (kx : ∀ (E : String) (h1 : HP), f (.inr E) h1 = some (rX E, h1)) : CWF d (c + d2.mc) (q + d2.ms) pc ls stk (invG rc g f) := by
  intro h r h' hf p l e s m args below meth cd γ ρ0 β0 h0 ρ β τ H locs cells slots lsA hx hv hw
  subst hst
  unfold invG at hf
  by_cases hr : rcv rc h = true
  · rw [if_pos hr] at hf
    cases hg : g h with
    | none => rw [hg] at hf; cases hf
    | some q9 =>
      obtain ⟨r1, h1⟩ := q9
      rw [hg] at hf
      obtain ⟨w1, w2⟩ := wfS_app hw
      have hrun := hC p l e s m args below meth cd γ ρ0 β0 h0 ρ β τ H locs cells slots lsA ls c q h r1 h1 hx hv (wfS_rev w1) w2 hr (hM h r1 h1 hg)
      intro T hT X
      rcases hrun T hT X with ⟨v, st₀, t, T', L, e0, X', hL, e1, e1v, ⟨⟨ρ1, β1, v1, rfl, hag, hn, ho, hwo, hE⟩, hz, hk⟩, go⟩ | ⟨q1, st₀, t, T', L, E, ce, e0, X', hL, e1, e1v, ⟨⟨ρ1, β1, rfl, hag, hn, hE⟩, hz, hk⟩, hce, hcv, hcl, go⟩
      · rw [e0] at hz hk
        have hv2 := vy_back hv hag hn hE hz hk hL
        have hv9 : v = v1.map (pv ρ1) := by injection ho
        subst hv9
        have hwst : wfS h1.n (v1.toList ++ st) := by
          cases v1 with
          | none => exact wfS_mono hn w2
          | some x => exact ⟨hwo, wfS_mono hn w2⟩
        have hk2 := k v1 h1 r h' hf p l e s m args below meth cd γ ρ0 β0 h0 ρ1 β1 τ t.heap _ _ _ lsA hx hv2 hwst
        obtain ⟨t2, a1, b1⟩ := hk2 T' e1 X'
        refine ⟨t2, go t2 ?_, b1⟩
        have e2 : (v1.map (pv ρ1)).toList ++ st.map (pv ρ) = (v1.toList ++ st).map (pv ρ1) := by
          rw [List.map_append, pvs_agree hag w2]
          cases v1 <;> rfl
        rw [e2]
        exact a1
      · rw [e0] at hz hk
        have hv2 := vy_back hv hag hn hE hz hk hL
        have hf : f (.inr E) h1 = some (r, h') := hf
        rw [kx] at hf
        cases hf
        obtain ⟨u1, u2, u3, u4, u5, u6, u7, u8, u9⟩ := hv2
        have hout := vx_out (p := p) (l := l) (e := e) (R := d.rm) (s := s) (m := m) (args := args) (below := below) (meth := meth) (c := cd) (H := t.heap) (locs := locs ++ L) (cells := cells + d2.mc) (slots := slots + d2.ms) (ls := lsA) (rest := st.map (pv ρ)) (pc := pc) (E := E) (ce := ce) (q := q1) (mc := d.mc) (ms := d.ms) (free := ASet γ ρ0 β0 h0 s.heap.size)
          (Qc := QE γ ρ0 β0 h0 s.heap.size (rX E) h') (XC := XE γ ρ0 β0 h0 s.heap.size (rX E) h') (fun x hx9 => (hx.2.2.2.2.2.2.2.1 x hx9).elim) hx.2.2.2.2.2.2.1 hce hcv hcl (fun t9 h9 _ => ⟨⟨ρ1, β1, rfl, u2, u1, by rw [h9]; exact u3⟩, u6.F h9⟩) u6.2.2 (by omega) (by omega)
        obtain ⟨t2, a1, b1⟩ := hout T' e1 X'
        exact ⟨t2, go.trans a1, b1⟩
  · rw [if_neg hr] at hf
    cases hf
def invI (rc : Option (Nat × Nat)) (g : GF) (f : Int32 → GF) : GF := invG rc g fun r => match r with
  | .inl (some (.inl x)) => f x
  | .inr E => fun h => some (.inr E, h)
  | _ => fun _ => none
def invP (rc : Option (Nat × Nat)) (g : GF) (f : Nat → GF) : GF := invG rc g fun r => match r with
  | .inl (some (.inr (.inr (.inr (.inr (.inl a)))))) => f a
  | .inr E => fun h => some (.inr E, h)
  | _ => fun _ => none
def invV (rc : Option (Nat × Nat)) (g : GF) (f : GF) : GF := invG rc g fun r => match r with
  | .inl none => f
  | .inr E => fun h => some (.inr E, h)
  | _ => fun _ => none
def invF (rc : Option (Nat × Nat)) (g : GF) (f : UInt32 → GF) : GF := invG rc g fun r => match r with
  | .inl (some (.inr (.inr (.inl x)))) => f x
  | .inr E => fun h => some (.inr E, h)
  | _ => fun _ => none
def invD (rc : Option (Nat × Nat)) (g : GF) (f : UInt64 → GF) : GF := invG rc g fun r => match r with
  | .inl (some (.inr (.inr (.inr (.inl x))))) => f x
  | .inr E => fun h => some (.inr E, h)
  | _ => fun _ => none
theorem cwf_none {d : MD} {c k pc : Nat} {ls : List (Nat × CV)} {st : List CV} : CWF d c k pc ls st (fun _ => none) := by
  intro h r h' hf
  cases hf
theorem cw_invI {d d2 : MD} {as : List CV} {pc n c q : Nat} {ls : List (Nat × CV)} {st stk : List CV} {rc : Option (Nat × Nat)} {mc ms : Nat} (hmc : d2.mc = mc) (hms : d2.ms = ms) {g : GF} {f : Int32 → GF} (hC : CallOK d d2 as pc n st rc) (hM : CMF d2 as g) (hst : stk = as.reverse ++ st) (k : ∀ x, CWF d c q (pc + n) ls (cI x :: st) (f x)) : CWF d (c + mc) (q + ms) pc ls stk (invI rc g f) := by
  subst hmc; subst hms
  refine cw_invG hC hM hst (fun v => ?_) (fun E h1 => rfl)
  rcases v with _ | x | x | x | x | a | z
  · exact cwf_none
  · exact k x
  · exact cwf_none
  · exact cwf_none
  · exact cwf_none
  · exact cwf_none
  · exact cwf_none
theorem cw_invP {d d2 : MD} {as : List CV} {pc n c q : Nat} {ls : List (Nat × CV)} {st stk : List CV} {rc : Option (Nat × Nat)} {mc ms : Nat} (hmc : d2.mc = mc) (hms : d2.ms = ms) {g : GF} {f : Nat → GF} (hC : CallOK d d2 as pc n st rc) (hM : CMF d2 as g) (hst : stk = as.reverse ++ st) (k : ∀ x, CWF d c q (pc + n) ls (cR x :: st) (f x)) : CWF d (c + mc) (q + ms) pc ls stk (invP rc g f) := by
  subst hmc; subst hms
  refine cw_invG hC hM hst (fun v => ?_) (fun E h1 => rfl)
  rcases v with _ | x | x | x | x | a | z
  · exact cwf_none
  · exact cwf_none
  · exact cwf_none
  · exact cwf_none
  · exact cwf_none
  · exact k a
  · exact cwf_none
theorem cw_invV {d d2 : MD} {as : List CV} {pc n c q : Nat} {ls : List (Nat × CV)} {st stk : List CV} {rc : Option (Nat × Nat)} {mc ms : Nat} (hmc : d2.mc = mc) (hms : d2.ms = ms) {g f : GF} (hC : CallOK d d2 as pc n st rc) (hM : CMF d2 as g) (hst : stk = as.reverse ++ st) (k : CWF d c q (pc + n) ls st f) : CWF d (c + mc) (q + ms) pc ls stk (invV rc g f) := by
  subst hmc; subst hms
  refine cw_invG hC hM hst (fun v => ?_) (fun E h1 => rfl)
  rcases v with _ | x | x | x | x | a | z
  · exact k
  · exact cwf_none
  · exact cwf_none
  · exact cwf_none
  · exact cwf_none
  · exact cwf_none
  · exact cwf_none
theorem cw_invF {d d2 : MD} {as : List CV} {pc n c q : Nat} {ls : List (Nat × CV)} {st stk : List CV} {rc : Option (Nat × Nat)} {mc ms : Nat} (hmc : d2.mc = mc) (hms : d2.ms = ms) {g : GF} {f : UInt32 → GF} (hC : CallOK d d2 as pc n st rc) (hM : CMF d2 as g) (hst : stk = as.reverse ++ st) (k : ∀ x, CWF d c q (pc + n) ls (cF x :: st) (f x)) : CWF d (c + mc) (q + ms) pc ls stk (invF rc g f) := by
  subst hmc; subst hms
  refine cw_invG hC hM hst (fun v => ?_) (fun E h1 => rfl)
  rcases v with _ | x | x | x | x | a | z
  · exact cwf_none
  · exact cwf_none
  · exact cwf_none
  · exact k x
  · exact cwf_none
  · exact cwf_none
  · exact cwf_none
theorem cw_invD {d d2 : MD} {as : List CV} {pc n c q : Nat} {ls : List (Nat × CV)} {st stk : List CV} {rc : Option (Nat × Nat)} {mc ms : Nat} (hmc : d2.mc = mc) (hms : d2.ms = ms) {g : GF} {f : UInt64 → GF} (hC : CallOK d d2 as pc n st rc) (hM : CMF d2 as g) (hst : stk = as.reverse ++ st) (k : ∀ x, CWF d c q (pc + n) ls (cD x :: st) (f x)) : CWF d (c + mc) (q + ms) pc ls stk (invD rc g f) := by
  subst hmc; subst hms
  refine cw_invG hC hM hst (fun v => ?_) (fun E h1 => rfl)
  rcases v with _ | x | x | x | x | a | z
  · exact cwf_none
  · exact cwf_none
  · exact cwf_none
  · exact cwf_none
  · exact k x
  · exact cwf_none
  · exact cwf_none
/-! which calls go -/
theorem pre_blind {γ : GC} {ρ β : Nat → Nat} {h : HP} {sz : Nat} {av : List Value} {A : Nat → Prop} : FrameBlind (va_Pc av (fun U => U.heap.size = sz ∧ γ.N0 ≤ sz ∧ GS γ U U.heap ∧ Emb γ ρ β h A U.heap)) := fun a U g mk q => by
  obtain ⟨q0, q1, q2, q3, q4⟩ := q
  exact ⟨q0, q1, q2, q3.calling, q4⟩
theorem pre_at {d : MD} {c k : Nat} {γ : GC} {ρ0 β0 : Nat → Nat} {h0 : HP} {p : Program} {l : Launch} {s : State} {m : MethodId} {args : Array Value} {meth : Method} {cd : Code} {ρ β τ : Nat → Nat} {ls : List (Nat × CV)} {h : HP} {H : Heap} {locs : List Loc} {cells slots : Nat} {lsA : Array Slot} (hx : Fx d γ p l s m args meth cd) (hv : Vy d c k γ ρ0 β0 h0 s ρ β τ ls h H locs cells slots lsA) {U : State} (hU : U.heap = H) (hW : s.WarmedH U.vm) {av : List Value} :
    va_Pc av (fun U => U.heap.size = H.size ∧ γ.N0 ≤ H.size ∧ GS γ U U.heap ∧ Emb γ ρ β h (ASet γ ρ β h H.size) U.heap) av.toArray U := by
  obtain ⟨v1, v2, v3, v4, v5, v6, v7, v8, v9⟩ := hv
  have hN := hx.2.2.2.2.2.2.2.2.2.2.1
  have hG := hx.2.2.2.2.2.2.2.2.2.2.2
  refine ⟨rfl, by rw [hU], Nat.le_trans hN v6.1, ?_, by rw [hU]; exact emb_own v3⟩
  rw [hU]
  exact (hG.kept fun a h1 h2 => v6.2.1 a h1 fun z => h2 z.1).moved hW
theorem map_rev {ρ : Nat → Nat} {as st : List CV} : (as.reverse ++ st).map (pv ρ) = (as.map (pv ρ)).reverse ++ st.map (pv ρ) := by
  rw [List.map_append, List.map_reverse]
theorem pvs_cat {ρ : Nat → Nat} {st : List CV} : ((st.map (pv ρ)).map fun v => v.category).sum = (st.map cat).sum := by
  rw [List.map_map]
  congr 1
  exact List.map_congr_left fun v _ => pv_cat ρ v
theorem okS {d d2 : MD} {as : List CV} {pc n index : Nat} {st : List CV} (hn : as.length = n) (hd : decode d.cc pc = .ok (.invokestatic index, 3)) (hw : GoodIn lw_all (va_wsS d.own index d2.y (ws_ d2.y d2.cc d2.nL d2.ret)))
    (hm : d2.y.cls ≠ "java/lang/invoke/MethodHandle" ∧ d2.y.cls ≠ "java/lang/invoke/VarHandle" ∧ (parseMethodDescriptor d2.y.desc).map (fun d => d.parameters.length) = some n) (hdep : d2.dep + 1 ≤ d.dep) (hL : d2.nL ≤ 40) (hc : (st.map cat).sum ≤ 8) : CallOK d d2 as pc 3 st none := by
  intro p l e s m args below meth cd γ ρ0 β0 h0 ρ β τ H locs cells slots lsA ls c k h r1 h1 hx hv hwa hws _ hM T hT X
  obtain ⟨x1, x2, x3, x4, x5, x6, x7, x8, x9, x10, x11, hG⟩ := id hx
  obtain ⟨v1, v2, v3, v4, v5, v6, v7, v8, v9⟩ := id hv
  have hrm : d.rm.cells = d.mc := rfl
  have hrs : d.rm.slots = d.ms := rfl
  have hrun := vx_runS (R := d.rm) (meth := meth) (locs := locs) (cells := cells) (slots := slots) (e := e) (below := below) (As := as.map (pv ρ)) (rest := st.map (pv ρ)) (g := F0 m pc lsA ((as.reverse ++ st).map (pv ρ))) ⟨x1, x2, x4, x5, x6⟩ (hM l x9 γ ρ β H.size hwa)
    (va_cwS n x6 hw rfl rfl rfl hm ⟨by show d2.dep + 1 ≤ d.dep; exact hdep, by show 8 + (d2.nL + 11) + (4096 + 64 * d2.dep) ≤ 4096 + 64 * d.dep; omega⟩) ⟨pre_blind, fun U hU hW => pre_at hx hv hU hW⟩ rfl (by rw [List.length_map]; exact hn) v7.1 map_rev (by show 2 * 0 + _ ≤ 8; rw [pvs_cat]; omega) hd ⟨by rw [hrm]; omega, by rw [hrs]; omega⟩
  exact hrun T hT X
theorem okV {d d2 : MD} {a : Nat} {as : List CV} {pc n index t ci : Nat} {st : List CV} {C : String} {T0 : u_T} {N : Nat} (hc0 : vwCl[ci]? = some (C, T0, N)) (ht0 : t = 20 + ci) (hn : as.length = n) (hd : decode d.cc pc = .ok (.invokevirtual index, 3)) (hw : GoodIn lw_all (wsV d.own index C d2.y (ws_ d2.y d2.cc d2.nL d2.ret)))
    (hm : d2.y.cls = C ∧ d2.y.cls ≠ "java/lang/invoke/MethodHandle" ∧ d2.y.cls ≠ "java/lang/invoke/VarHandle" ∧ (parseMethodDescriptor d2.y.desc).map (fun d => d.parameters.length) = some n) (hdep : d2.dep + 1 ≤ d.dep) (hL : d2.nL ≤ 40) (hc : (st.map cat).sum ≤ 8) : CallOK d d2 (cR a :: as) pc 3 st (some (a, t)) := by
  intro p l e s m args below meth cd γ ρ0 β0 h0 ρ β τ H locs cells slots lsA ls c k h r1 h1 hx hv hwa hws hr hM T hT X
  obtain ⟨x1, x2, x3, x4, x5, x6, x7, x8, x9, x10, x11, hG⟩ := id hx
  obtain ⟨v1, v2, v3, v4, v5, v6, v7, v8, v9⟩ := id hv
  have hrm : d.rm.cells = d.mc := rfl
  have hrs : d.rm.slots = d.ms := rfl
  have hta : h.t a = 20 + ci := by rw [← ht0]; exact eq_of_beq hr
  have hpa : pv ρ (cR a) = .ref (ρ a) := pv_ref v3 (by omega)
  have hpa2 : (cR a :: as).map (pv ρ) = .ref (ρ a) :: as.map (pv ρ) := by rw [List.map_cons, hpa]
  have hM2 := hM l x9 γ ρ β H.size hwa
  rw [hpa2] at hM2
  have hrun := vx_runV (R := d.rm) (meth := meth) (locs := locs) (cells := cells) (slots := slots) (e := e) (below := below) (As := as.map (pv ρ)) (b := ρ a) (rest := st.map (pv ρ)) (g := F0 m pc lsA (((cR a :: as).reverse ++ st).map (pv ρ))) ⟨x1, x2, x4, x5, x6⟩ hM2
    (cwV n x6 hw rfl rfl rfl hm ⟨by show d2.dep + 1 ≤ d.dep; exact hdep, by show 8 + (d2.nL + 11) + (4096 + 64 * d2.dep) ≤ 4096 + 64 * d.dep; omega⟩) ⟨pre_blind, emb_cls hx v3 hc0 hta, fun U hU hW => pre_at hx hv hU hW⟩ rfl (by rw [List.length_map]; exact hn) v7.1 (by show ((cR a :: as).reverse ++ st).map (pv ρ) = _; rw [map_rev, hpa2, List.reverse_cons, List.append_assoc]; rfl) (by show 2 * 0 + _ ≤ 8; rw [pvs_cat]; omega) hd ⟨by rw [hrm]; omega, by rw [hrs]; omega⟩
  exact hrun T hT X
/-- a constructor: of a cell just made, or of the superclass on this -/
theorem okI {d d2 : MD} {a t : Nat} {as : List CV} {pc n index : Nat} {st : List CV} (hr0 : d2.ret = none) (hn : as.length = n) (hd : decode d.cc pc = .ok (.invokespecial index, 3)) (hw : GoodIn lw_all (ws_ d2.y d2.cc d2.nL d2.ret)) (hini : Cond.initialized d2.y.cls ∈ lw_all) (hl : Cond.methodLink d.own index d2.y ∈ lw_all) (hin : Cond.instanceMethod d2.y ∈ lw_all) (hy1 : d2.y.name = "<init>")
    (hm : d2.y.cls ≠ "java/lang/invoke/MethodHandle" ∧ d2.y.cls ≠ "java/lang/invoke/VarHandle" ∧ (parseMethodDescriptor d2.y.desc).map (fun d => d.parameters.length) = some n) (hdep : d2.dep + 1 ≤ d.dep) (hL : d2.nL ≤ 40) (hc : (st.map cat).sum ≤ 8) (ht0 : t ≠ 0) : CallOK d d2 (cR a :: as) pc 3 st (some (a, t)) := by
  intro p l e s m args below meth cd γ ρ0 β0 h0 ρ β τ H locs cells slots lsA ls c k h r1 h1 hx hv hwa hws hr hM T hT X
  obtain ⟨x1, x2, x3, x4, x5, x6, x7, x8, x9, x10, x11, hG⟩ := id hx
  obtain ⟨v1, v2, v3, v4, v5, v6, v7, v8, v9⟩ := id hv
  have hrm : d.rm.cells = d.mc := rfl
  have hrs : d.rm.slots = d.ms := rfl
  have hta : h.t a = t := eq_of_beq hr
  have hpa : pv ρ (cR a) = .ref (ρ a) := pv_ref v3 (by omega)
  have hpa2 : (cR a :: as).map (pv ρ) = .ref (ρ a) :: as.map (pv ρ) := by rw [List.map_cons, hpa]
  have hM2 := hM l x9 γ ρ β H.size hwa
  rw [hpa2, hr0] at hM2
  rw [hr0] at hw
  have hrun := vx_runI (R := d.rm) (meth := meth) (locs := locs) (cells := cells) (slots := slots) (e := e) (below := below) (As := as.map (pv ρ)) (b := ρ a) (rest := st.map (pv ρ)) (g := F0 m pc lsA (((cR a :: as).reverse ++ st).map (pv ρ))) ⟨x1, x2, x4, x5, x6⟩ hM2
    (cwI n x6 hw rfl rfl rfl (x6 _ hini) (x6 _ hl) (x6 _ hin) hy1 hm ⟨by show d2.dep + 1 ≤ d.dep; exact hdep, by show 8 + (d2.nL + 11) + (4096 + 64 * d2.dep) ≤ 4096 + 64 * d.dep; omega⟩) ⟨pre_blind, fun U hU hW => pre_at hx hv hU hW⟩ rfl (by rw [List.length_map]; exact hn) v7.1 (by show ((cR a :: as).reverse ++ st).map (pv ρ) = _; rw [map_rev, hpa2, List.reverse_cons, List.append_assoc]; rfl) (by show 2 * 0 + _ ≤ 8; rw [pvs_cat]; omega) hd ⟨by rw [hrm]; omega, by rw [hrs]; omega⟩
  exact hrun T hT X
/-- a nest mate's private constructor -/
theorem okIN {d d2 : MD} {a t : Nat} {as : List CV} {pc n index : Nat} {host : String} {st : List CV} (hr0 : d2.ret = none) (hn : as.length = n) (hd : decode d.cc pc = .ok (.invokespecial index, 3)) (hw : GoodIn lw_all (ws_ d2.y d2.cc d2.nL d2.ret)) (hini : Cond.initialized d2.y.cls ∈ lw_all) (hl : Cond.methodLinkNest d.own index d2.y host ∈ lw_tbl) (hin : Cond.instanceMethod d2.y ∈ lw_all) (hy1 : d2.y.name = "<init>")
    (hm : d2.y.cls ≠ "java/lang/invoke/MethodHandle" ∧ d2.y.cls ≠ "java/lang/invoke/VarHandle" ∧ (parseMethodDescriptor d2.y.desc).map (fun d => d.parameters.length) = some n) (hdep : d2.dep + 1 ≤ d.dep) (hL : d2.nL ≤ 40) (hc : (st.map cat).sum ≤ 8) (ht0 : t ≠ 0) : CallOK d d2 (cR a :: as) pc 3 st (some (a, t)) := by
  intro p l e s m args below meth cd γ ρ0 β0 h0 ρ β τ H locs cells slots lsA ls c k h r1 h1 hx hv hwa hws hr hM T hT X
  obtain ⟨x1, x2, x3, x4, x5, x6, x7, x8, x9, x10, x11, hG⟩ := id hx
  obtain ⟨v1, v2, v3, v4, v5, v6, v7, v8, v9⟩ := id hv
  have hrm : d.rm.cells = d.mc := rfl
  have hrs : d.rm.slots = d.ms := rfl
  have hta : h.t a = t := eq_of_beq hr
  have hpa : pv ρ (cR a) = .ref (ρ a) := pv_ref v3 (by omega)
  have hpa2 : (cR a :: as).map (pv ρ) = .ref (ρ a) :: as.map (pv ρ) := by rw [List.map_cons, hpa]
  have hM2 := hM l x9 γ ρ β H.size hwa
  rw [hpa2, hr0] at hM2
  rw [hr0] at hw
  have hrun := vx_runIN (R := d.rm) (meth := meth) (locs := locs) (cells := cells) (slots := slots) (e := e) (below := below) (As := as.map (pv ρ)) (b := ρ a) (rest := st.map (pv ρ)) (g := F0 m pc lsA (((cR a :: as).reverse ++ st).map (pv ρ))) ⟨x1, x2, x4, x5, x6⟩ hM2
    ⟨va_cnB n x6 hw rfl rfl rfl (hG.1.2.1 _ hl rfl) (x6 _ hini) hm ⟨by show d2.dep + 1 ≤ d.dep; exact hdep, by show 8 + (d2.nL + 11) + (4096 + 64 * d2.dep) ≤ 4096 + 64 * d.dep; omega⟩, hy1, x6 _ hin⟩ ⟨pre_blind, fun U hU hW => pre_at hx hv hU hW⟩ rfl (by rw [List.length_map]; exact hn) v7.1 (by show ((cR a :: as).reverse ++ st).map (pv ρ) = _; rw [map_rev, hpa2, List.reverse_cons, List.append_assoc]; rfl) (by show 2 * 0 + _ ≤ 8; rw [pvs_cat]; omega) hd ⟨by rw [hrm]; omega, by rw [hrs]; omega⟩
  exact hrun T hT X
/-- a nest mate's private static method -/
theorem okSN {d d2 : MD} {as : List CV} {pc n index : Nat} {host : String} {st : List CV} (hn : as.length = n) (hd : decode d.cc pc = .ok (.invokestatic index, 3)) (hw : GoodIn lw_all (ws_ d2.y d2.cc d2.nL d2.ret)) (hini : Cond.initialized d2.y.cls ∈ lw_all) (hl : Cond.methodLinkNest d.own index d2.y host ∈ lw_tbl) (hst : Cond.static d2.y ∈ lw_all)
    (hm : d2.y.cls ≠ "java/lang/invoke/MethodHandle" ∧ d2.y.cls ≠ "java/lang/invoke/VarHandle" ∧ (parseMethodDescriptor d2.y.desc).map (fun d => d.parameters.length) = some n) (hdep : d2.dep + 1 ≤ d.dep) (hL : d2.nL ≤ 40) (hc : (st.map cat).sum ≤ 8) : CallOK d d2 as pc 3 st none := by
  intro p l e s m args below meth cd γ ρ0 β0 h0 ρ β τ H locs cells slots lsA ls c k h r1 h1 hx hv hwa hws _ hM T hT X
  obtain ⟨x1, x2, x3, x4, x5, x6, x7, x8, x9, x10, x11, hG⟩ := id hx
  obtain ⟨v1, v2, v3, v4, v5, v6, v7, v8, v9⟩ := id hv
  have hrm : d.rm.cells = d.mc := rfl
  have hrs : d.rm.slots = d.ms := rfl
  have hrun := vx_runSN (R := d.rm) (meth := meth) (locs := locs) (cells := cells) (slots := slots) (e := e) (below := below) (As := as.map (pv ρ)) (rest := st.map (pv ρ)) (g := F0 m pc lsA ((as.reverse ++ st).map (pv ρ))) ⟨x1, x2, x4, x5, x6⟩ (hM l x9 γ ρ β H.size hwa)
    ⟨va_cnB n x6 hw rfl rfl rfl (hG.1.2.1 _ hl rfl) (x6 _ hini) hm ⟨by show d2.dep + 1 ≤ d.dep; exact hdep, by show 8 + (d2.nL + 11) + (4096 + 64 * d2.dep) ≤ 4096 + 64 * d.dep; omega⟩, x6 _ hst, trivial⟩ ⟨pre_blind, fun U hU hW => pre_at hx hv hU hW⟩ rfl (by rw [List.length_map]; exact hn) v7.1 map_rev (by show 2 * 0 + _ ≤ 8; rw [pvs_cat]; omega) hd ⟨by rw [hrm]; omega, by rw [hrs]; omega⟩
  exact hrun T hT X
