/-! RULES of the clean machine: ends, entry, loops, joins, switches, comparisons of references -/
set_option maxRecDepth 100000
def retG (r : RV) : GF := fun h => some (r, h)
def retZ (x : Int32) : GF := fun h => if x = 0 ∨ x = 1 then some (rI x, h) else none
theorem emb_ro {γ : GC} {ρ β : Nat → Nat} {h : HP} {A : Nat → Prop} {H : Heap} (hE : Emb γ ρ β h A H) {a : Nat} (ht : h.t a ≠ 0) : ro ρ a = some (ρ a) := by
  have := (hE.2.1 a ht).1
  unfold ro
  rw [if_neg (by omega)]
theorem cw_iret {d : MD} {c q pc : Nat} {ls : List (Nat × CV)} {x : Int32} (hr : d.ret = some .int) (hd : decode d.cc pc = .ok (.ireturn, 1)) : CWF d c q pc ls [cI x] (retG (rI x)) := by
  intro h r h' hf p l e s m args below meth cd γ ρ0 β0 h0 ρ β τ H locs cells slots lsA hx hv hw
  cases hf
  obtain ⟨v1, v2, v3, v4, v5, v6, v7, v8, v9⟩ := hv
  refine vx_ret (W.widen (k := d.mc) (n := d.ms) (by omega) (by omega) ?_)
  exact W.iret hx.1 hx.2.1 (hx.2.2.1.trans hr) (fun t ht hW => ⟨⟨ρ, β, some (cI x), rfl, v2, v1, rfl, trivial, by rw [ht]; exact v3⟩, v6.F ht⟩) v6.2.2 hd hx.2.2.2.2.2.2.1
theorem narrow01 {x : Int32} (h : x = 0 ∨ x = 1) : narrow .boolean (.int x) = .int x := by
  rcases h with rfl | rfl <;> decide
theorem cw_zret {d : MD} {c q pc : Nat} {ls : List (Nat × CV)} {x : Int32} (hr : d.ret = some .boolean) (hd : decode d.cc pc = .ok (.ireturn, 1)) : CWF d c q pc ls [cI x] (retZ x) := by
  intro h r h' hf p l e s m args below meth cd γ ρ0 β0 h0 ρ β τ H locs cells slots lsA hx hv hw
  unfold retZ at hf
  by_cases hz : x = 0 ∨ x = 1
  · rw [if_pos hz] at hf
    cases hf
    obtain ⟨v1, v2, v3, v4, v5, v6, v7, v8, v9⟩ := hv
    refine vx_ret (W.widen (k := d.mc) (n := d.ms) (by omega) (by omega) ?_)
    exact W.zret hx.1 hx.2.1 (hx.2.2.1.trans hr) (narrow01 hz) (fun t ht hW => ⟨⟨ρ, β, some (cI x), rfl, v2, v1, rfl, trivial, by rw [ht]; exact v3⟩, v6.F ht⟩) v6.2.2 hd hx.2.2.2.2.2.2.1
  · rw [if_neg hz] at hf
    cases hf
theorem cw_fret {d : MD} {c q pc : Nat} {ls : List (Nat × CV)} {x : UInt32} (hr : d.ret = some .float) (hd : decode d.cc pc = .ok (.freturn, 1)) : CWF d c q pc ls [cF x] (retG (rF x)) := by
  intro h r h' hf p l e s m args below meth cd γ ρ0 β0 h0 ρ β τ H locs cells slots lsA hx hv hw
  cases hf
  obtain ⟨v1, v2, v3, v4, v5, v6, v7, v8, v9⟩ := hv
  refine vx_ret (W.widen (k := d.mc) (n := d.ms) (by omega) (by omega) ?_)
  exact W.fret hx.1 hx.2.1 (hx.2.2.1.trans hr) (fun t ht hW => ⟨⟨ρ, β, some (cF x), rfl, v2, v1, rfl, trivial, by rw [ht]; exact v3⟩, v6.F ht⟩) v6.2.2 hd hx.2.2.2.2.2.2.1
theorem cw_dret {d : MD} {c q pc : Nat} {ls : List (Nat × CV)} {x : UInt64} (hr : d.ret = some .double) (hd : decode d.cc pc = .ok (.dreturn, 1)) : CWF d c q pc ls [cD x] (retG (rD x)) := by
  intro h r h' hf p l e s m args below meth cd γ ρ0 β0 h0 ρ β τ H locs cells slots lsA hx hv hw
  cases hf
  obtain ⟨v1, v2, v3, v4, v5, v6, v7, v8, v9⟩ := hv
  refine vx_ret (W.widen (k := d.mc) (n := d.ms) (by omega) (by omega) ?_)
  exact W.dret hx.1 hx.2.1 (hx.2.2.1.trans hr) (fun t ht hW => ⟨⟨ρ, β, some (cD x), rfl, v2, v1, rfl, trivial, by rw [ht]; exact v3⟩, v6.F ht⟩) v6.2.2 hd hx.2.2.2.2.2.2.1
theorem cw_vret {d : MD} {c q pc : Nat} {ls : List (Nat × CV)} (hr : d.ret = none) (hd : decode d.cc pc = .ok (.return_, 1)) : CWF d c q pc ls [] (retG rV) := by
  intro h r h' hf p l e s m args below meth cd γ ρ0 β0 h0 ρ β τ H locs cells slots lsA hx hv hw
  cases hf
  obtain ⟨v1, v2, v3, v4, v5, v6, v7, v8, v9⟩ := hv
  refine vx_ret (W.widen (k := d.mc) (n := d.ms) (by omega) (by omega) ?_)
  exact W.vret hx.1 hx.2.1 (hx.2.2.1.trans hr) (fun t ht hW => ⟨⟨ρ, β, none, rfl, v2, v1, rfl, trivial, by rw [ht]; exact v3⟩, v6.F ht⟩) v6.2.2 hd hx.2.2.2.2.2.2.1
theorem cw_aret {d : MD} {c q pc : Nat} {ls : List (Nat × CV)} {x : Nat} {rt : FieldType} (hr : d.ret = some rt) (hrt : tyRef rt = true) (hd : decode d.cc pc = .ok (.areturn, 1)) : CWF d c q pc ls [cR x] (retG (rR x)) := by
  intro h r h' hf p l e s m args below meth cd γ ρ0 β0 h0 ρ β τ H locs cells slots lsA hx hv hw
  cases hf
  obtain ⟨v1, v2, v3, v4, v5, v6, v7, v8, v9⟩ := hv
  refine vx_ret (W.widen (k := d.mc) (n := d.ms) (by omega) (by omega) ?_)
  refine W.aret (v := va_rf (ro ρ x)) hx.1 hx.2.1 (hx.2.2.1.trans hr) ?_ ?_ (fun t ht hW => ⟨⟨ρ, β, some (cR x), rfl, v2, v1, rfl, hw.1, by rw [ht]; exact v3⟩, v6.F ht⟩) v6.2.2 hd hx.2.2.2.2.2.2.1
  · cases rt with
    | object n => exact Or.inl ⟨n, rfl⟩
    | array t => exact Or.inr ⟨t, rfl⟩
    | _ => cases hrt
  · cases ro ρ x with
    | none => exact Or.inl rfl
    | some b => exact Or.inr ⟨b, rfl⟩
/-! entry -/
def cargs : Nat → List CV → List (Nat × CV)
  | _, [] => []
  | i, v :: vs => (i, v) :: cargs (if cat v = 2 then i + 2 else i + 1) vs
def cwords : List CV → Nat
  | [] => 0
  | v :: vs => cat v + cwords vs
theorem cargs_map {ρ τ : Nat → Nat} {n : Nat} : ∀ (vs : List CV) (i : Nat), wfS n vs → lv_args i (vs.map (pv ρ)) = (cargs i vs).map (pl ρ τ)
  | [], _, _ => rfl
  | v :: vs, i, hw => by
    show (i, pv ρ v) :: lv_args (if (pv ρ v).category = 2 then i + 2 else i + 1) (vs.map (pv ρ)) = pl ρ τ (i, v) :: (cargs (if cat v = 2 then i + 2 else i + 1) vs).map (pl ρ τ)
    rw [pv_cat, cargs_map vs _ hw.2]
    congr 1
    rcases v with x | x | x | x | a | q
    · rfl
    · rfl
    · rfl
    · rfl
    · rfl
    · exact hw.1.elim
theorem cargs_wf {n : Nat} : ∀ (vs : List CV) (i : Nat), wfS n vs → ∀ q ∈ cargs i vs, wfl n q.2 ∧ isT q.2 = false
  | [], _, _, q, hq => by cases hq
  | v :: vs, i, hw, q, hq => by
    rcases List.mem_cons.mp hq with rfl | hq
    · have h1 := hw.1
      rcases v with x | x | x | x | a | q
      · exact ⟨trivial, rfl⟩
      · exact ⟨trivial, rfl⟩
      · exact ⟨trivial, rfl⟩
      · exact ⟨trivial, rfl⟩
      · exact ⟨h1, rfl⟩
      · exact h1.elim
    · exact cargs_wf vs _ hw.2 q hq
theorem cwords_len (ρ : Nat → Nat) : ∀ vs : List CV, (lg_sl (vs.map (pv ρ))).length = cwords vs
  | [] => rfl
  | v :: vs => by
    have ih := cwords_len ρ vs
    unfold lg_sl at ih ⊢
    rw [List.map_cons, List.flatMap_cons, List.length_append, ih]
    show _ = cat v + cwords vs
    congr 1
    rw [pv_cat]
    rcases v with x | x | x | x | a | q <;> rfl
theorem cm_of {d : MD} {args : List CV} {f : GF} (hy : plainName d.y.cls = true) (ho : d.own = d.y.cls) (hw : cwords args ≤ d.nL) (k : CWF d d.mc d.ms 0 (cargs 0 args) [] f) : CMF d args f := by
  intro h r h' hf l hl γ ρ β sz hwf
  refine vx_ofW (cc := d.cc) (maxL := d.nL) (ret := d.ret) hy rfl ?_
  intro p e s m args9 below meth cd s₁ B hml ht hv
  obtain ⟨rfl, rfl, hN, hGS, hE⟩ := hv
  have hts := atoms_spec (ws := ws_ d.y d.cc d.nL d.ret) B.pre
  have hts : ∀ w ∈ lw_all, w.before _ s = true := fun w h => hts w (List.mem_cons_of_mem _ h)
  have hown : s.vm.findClass d.own = some m.cls := by rw [ho]; exact findClass_of_methodNamed B.named
  have hl0 := lv_entry (args.map (pv ρ)) (n := d.nL) (by rw [cwords_len]; exact hw)
  rw [lg_entry_eq]
  generalize (lg_sl (args.map (pv ρ)) ++ List.replicate (d.nL - (lg_sl (args.map (pv ρ))).length) Slot.unset).toArray = lsA at hl0 ⊢
  rw [cargs_map (τ := fun _ => 0) args 0 hwf] at hl0
  refine k h r h' hf p l e s m _ below meth cd γ ρ β h ρ β (fun _ => 0) s.heap [] 0 0 lsA ⟨B.exec, B.bytes, B.returns, hml, hown, hts, B.notSynchronized, ht, hl, (name_of_methodNamed B.named B.method).1, hN, hGS⟩ ⟨Nat.le_refl _, fun _ _ => rfl, hE, ⟨fun i a m j hq => ?_, fun i i' v v' h1 h2 t1 t2 => ?_⟩, fun q hq => (cargs_wf args 0 hwf q hq).1, va_S.rf, hl0, by omega, by omega⟩ trivial
  · exact absurd (cargs_wf args 0 hwf _ hq).2 (by simp [isT])
  · exact absurd t1 (by rw [(cargs_wf args 0 hwf _ h1).2]; decide)
/-! loops and joins -/
def loopG {σ : Type} (body : (σ → GF) → σ → GF) : Nat → σ → GF
  | 0, _ => fun _ => none
  | n + 1, s => body (loopG body n) s
theorem cw_loop {σ : Type} {d : MD} {ce ke cb kb pc : Nat} {lsf : σ → List (Nat × CV)} {body : (σ → GF) → σ → GF} (hb : ∀ (C K : Nat) (rec : σ → GF), ce ≤ C → ke ≤ K → (∀ s, CWF d C K pc (lsf s) [] (rec s)) → ∀ s, CWF d (C + cb) (K + kb) pc (lsf s) [] (body rec s)) : ∀ (n : Nat) (s : σ), CWF d (ce + n * cb) (ke + n * kb) pc (lsf s) [] (loopG body n s) := by
  intro n
  induction n with
  | zero =>
    intro s h r h' hf
    cases hf
  | succ n ih =>
    intro s
    have h1 := hb (ce + n * cb) (ke + n * kb) (loopG body n) (Nat.le_add_right _ _) (Nat.le_add_right _ _) ih s
    rw [Nat.succ_mul, Nat.succ_mul, ← Nat.add_assoc, ← Nat.add_assoc]
    exact h1
def jnG {σ : Type} (j : σ → GF) (u : (σ → GF) → GF) : GF := u j
theorem cw_jn {σ : Type} {d : MD} {c k cj kj pcj pc : Nat} {lsf : σ → List (Nat × CV)} {stf : σ → List CV} {ls : List (Nat × CV)} {st : List CV} {j : σ → GF} {u : (σ → GF) → GF} (hj : ∀ s, CWF d cj kj pcj (lsf s) (stf s) (j s)) (hu : ∀ J : σ → GF, (∀ s, CWF d cj kj pcj (lsf s) (stf s) (J s)) → CWF d c k pc ls st (u J)) : CWF d c k pc ls st (jnG j u) := hu j hj
/-! switches -/
def swAll (P : Nat → GF → Prop) : List Nat → List GF → Prop
  | [], [] => True
  | t :: ts, f :: fs => P t f ∧ swAll P ts fs
  | _, _ => False
def swG (x lo : Int32) (fs : List GF) (f : GF) : GF := if lo.toInt ≤ x.toInt ∧ x.toInt < lo.toInt + fs.length then fs.getD (x.toInt - lo.toInt).toNat f else f
theorem swAll_at {P : Nat → GF → Prop} {f0 : GF} : ∀ {ts : List Nat} {fs : List GF}, swAll P ts fs → ts.length = fs.length ∧ ∀ i, i < fs.length → ∃ t, ts[i]? = some t ∧ P t (fs.getD i f0)
  | [], [], _ => ⟨rfl, fun i hi => absurd hi (Nat.not_lt_zero i)⟩
  | [], _ :: _, h => h.elim
  | _ :: _, [], h => h.elim
  | t :: ts, f :: fs, h => by
    obtain ⟨h1, h2⟩ := swAll_at (f0 := f0) h.2
    refine ⟨by rw [List.length_cons, List.length_cons, h1], fun i hi => ?_⟩
    cases i with
    | zero => exact ⟨t, rfl, h.1⟩
    | succ i => exact h2 i (Nat.lt_of_succ_lt_succ hi)
theorem cw_switch {d : MD} {c q pc tgt0 : Nat} {ls : List (Nat × CV)} {st : List CV} {x lo : Int32} {dflt loI hi : Int} {offs : Array Int} {len : Nat} {fs : List GF} {f0 : GF} (hd : decode d.cc pc = .ok (.tableswitch dflt loI hi offs, len)) (ts : List Nat) (hlo : lo.toInt = loI) (hhi : loI + fs.length = hi + 1) (hts : offs.toList.map (fun o => (pc : Int) + o) = ts.map Int.ofNat) (ht0 : (pc : Int) + dflt = (tgt0 : Int))
    (hk : swAll (fun t f => CWF d c q t ls st f) ts fs) (k0 : CWF d c q tgt0 ls st f0) : CWF d c q pc ls (cI x :: st) (swG x lo fs f0) := by
  intro h r h' hf p l e s m args below meth cd γ ρ0 β0 h0 ρ β τ H locs cells slots lsA hx hv hw
  unfold swG at hf
  subst hlo
  by_cases hin : lo.toInt ≤ x.toInt ∧ x.toInt < lo.toInt + fs.length
  · rw [if_pos hin] at hf
    obtain ⟨hl, hat⟩ := swAll_at (f0 := f0) hk
    have hi1 : (x.toInt - lo.toInt).toNat < fs.length := by omega
    obtain ⟨t, e1, e2⟩ := hat _ hi1
    have e3 : (offs.toList.map (fun o => (pc : Int) + o))[(x.toInt - lo.toInt).toNat]? = some (Int.ofNat t) := by rw [hts, List.getElem?_map, e1]; rfl
    rw [List.getElem?_map, Array.getElem?_toList] at e3
    cases ho : offs[(x.toInt - lo.toInt).toNat]? with
    | none => rw [ho] at e3; cases e3
    | some off =>
      rw [ho] at e3
      have e4 : (pc : Int) + off = (t : Int) := Option.some.inj e3
      exact lv_tableIn hx.1 hx.2.1 hd (by omega) (by omega) ho e4 (e2 h r h' hf p l e s m args below meth cd γ ρ0 β0 h0 ρ β τ H locs cells slots lsA hx hv hw.2)
  · rw [if_neg hin] at hf
    exact lv_tableOut hx.1 hx.2.1 hd (by omega) ht0 (k0 h r h' hf p l e s m args below meth cd γ ρ0 β0 h0 ρ β τ H locs cells slots lsA hx hv hw.2)
/-! null, == of references -/
theorem cw_ifnonnull {d : MD} {c q pc tgt : Nat} {off : Int} {ls : List (Nat × CV)} {st : List CV} {f g : GF} {a : Nat} (hd : decode d.cc pc = .ok (.ifnonnull off, 3)) (ht : (pc : Int) + off = (tgt : Int)) (kt : CWF d c q tgt ls st g) (kf : CWF d c q (pc + 3) ls st f) : CWF d c q pc ls (cR a :: st) (if a = 0 then f else g) := by
  intro h r h' hf p l e s m args below meth cd γ ρ0 β0 h0 ρ β τ H locs cells slots lsA hx hv hw
  show W _ _ _ _ _ _ _ _ _ _ _ _ _ _ _ (F0 m pc lsA (va_rf (ro ρ a) :: st.map (pv ρ)))
  unfold ro
  by_cases hz0 : a = 0
  · rw [if_pos hz0] at hf ⊢
    exact lv_ifnonnullN hx.1 hx.2.1 hd (kf h r h' hf p l e s m args below meth cd γ ρ0 β0 h0 ρ β τ H locs cells slots lsA hx hv hw.2)
  · rw [if_neg hz0] at hf ⊢
    exact lv_ifnonnull hx.1 hx.2.1 hd ht (kt h r h' hf p l e s m args below meth cd γ ρ0 β0 h0 ρ β τ H locs cells slots lsA hx hv hw.2)
theorem cw_ifnull {d : MD} {c q pc tgt : Nat} {off : Int} {ls : List (Nat × CV)} {st : List CV} {f g : GF} {a : Nat} (hd : decode d.cc pc = .ok (.ifnull off, 3)) (ht : (pc : Int) + off = (tgt : Int)) (kt : CWF d c q tgt ls st f) (kf : CWF d c q (pc + 3) ls st g) : CWF d c q pc ls (cR a :: st) (if a = 0 then f else g) := by
  intro h r h' hf p l e s m args below meth cd γ ρ0 β0 h0 ρ β τ H locs cells slots lsA hx hv hw
  show W _ _ _ _ _ _ _ _ _ _ _ _ _ _ _ (F0 m pc lsA (va_rf (ro ρ a) :: st.map (pv ρ)))
  unfold ro
  by_cases hz0 : a = 0
  · rw [if_pos hz0] at hf ⊢
    exact lv_ifnullN hx.1 hx.2.1 hd ht (kt h r h' hf p l e s m args below meth cd γ ρ0 β0 h0 ρ β τ H locs cells slots lsA hx hv hw.2)
  · rw [if_neg hz0] at hf ⊢
    exact lv_ifnull hx.1 hx.2.1 hd (kf h r h' hf p l e s m args below meth cd γ ρ0 β0 h0 ρ β τ H locs cells slots lsA hx hv hw.2)
/-- cells that may be compared: null, a live cell, one of the two constant arrays -/
def okA (h : HP) (a : Nat) : Prop := a = 0 ∨ ((0 < h.t a ∧ h.t a < 9) ∨ (20 ≤ h.t a ∧ h.t a < 100) ∨ 200 ≤ h.t a) ∨ h.t a = 10
def acG (a b : Nat) (f g : GF) : GF := fun h => if a = b then f h else if (a = 0 ∨ ((0 < h.t a ∧ h.t a < 9) ∨ (20 ≤ h.t a ∧ h.t a < 100) ∨ 200 ≤ h.t a) ∨ h.t a = 10) ∧ (b = 0 ∨ ((0 < h.t b ∧ h.t b < 9) ∨ (20 ≤ h.t b ∧ h.t b < 100) ∨ 200 ≤ h.t b) ∨ h.t b = 10) then g h else none
theorem emb_ne {γ : GC} {ρ β : Nat → Nat} {h : HP} {ρ0 β0 : Nat → Nat} {h0 : HP} {sz : Nat} {U : State} {H1 H : Heap} (hG : GS γ U H1) (hE : Emb γ ρ β h (ASet γ ρ0 β0 h0 sz) H) {a b : Nat} (ha : okA h a) (hb : okA h b) (hn : ¬ a = b) : ¬ ro ρ a = ro ρ b := by
  obtain ⟨⟨-, -, -, -, -, -, -, -, hs12, hs1, hs2⟩, -⟩ := hG
  obtain ⟨e1, e2, e3, e4, e5, e6, -, -⟩ := hE
  have hst : ∀ z, h.t z = 10 → z ≠ 0 ∧ ρ z < γ.N0 ∧ (ρ z = γ.sa z) ∧ (z = 1 ∨ z = 2) := by
    intro z hz
    obtain ⟨-, -, -, -, -, -, -, q⟩ := e3 z
    obtain ⟨q1, -, -, q2, -⟩ := q (by omega) (by omega)
    have q3 := (q2 hz).1
    refine ⟨by omega, ?_, q1, q3⟩
    rw [q1]
    rcases q3 with rfl | rfl
    · exact hs1
    · exact hs2
  have hdy : ∀ z, dyn (h.t z) → z ≠ 0 ∧ dyn (h.t z) ∧ γ.N0 ≤ ρ z := by
    intro z hd
    have := (e2 z (by unfold dyn at hd; omega)).1
    exact ⟨by omega, hd, (e4 z hd).1.1⟩
  unfold ro
  rcases ha with rfl | ha | ha
  · rw [if_pos rfl]
    rw [if_neg (fun q => hn q.symm)]
    exact fun q => by cases q
  · obtain ⟨a1, a2, a3⟩ := hdy a ha
    rw [if_neg a1]
    rcases hb with rfl | hb | hb
    · rw [if_pos rfl]
      exact fun q => by cases q
    · obtain ⟨b1, b2, b3⟩ := hdy b hb
      rw [if_neg b1]
      exact fun q => hn (e6 a b a2 b2 (Option.some.inj q))
    · obtain ⟨b1, b2, b3⟩ := hst b hb
      rw [if_neg b1]
      exact fun q => by have := Option.some.inj q; omega
  · obtain ⟨a1, a2, a3, a4⟩ := hst a ha
    rw [if_neg a1]
    rcases hb with rfl | hb | hb
    · rw [if_pos rfl]
      exact fun q => by cases q
    · obtain ⟨b1, b2, b3⟩ := hdy b hb
      rw [if_neg b1]
      exact fun q => by have := Option.some.inj q; omega
    · obtain ⟨b1, b2, b3, b4⟩ := hst b hb
      rw [if_neg b1]
      intro q
      have q := Option.some.inj q
      rw [a3, b3] at q
      rcases a4 with rfl | rfl <;> rcases b4 with rfl | rfl
      · exact hn rfl
      · exact hs12 q
      · exact hs12 q.symm
      · exact hn rfl
theorem cw_acmp_eq {d : MD} {c q pc tgt : Nat} {off : Int} {ls : List (Nat × CV)} {st : List CV} {f g : GF} {a b : Nat} (hd : decode d.cc pc = .ok (.if_acmp .eq off, 3)) (ht : (pc : Int) + off = (tgt : Int)) (kt : CWF d c q tgt ls st f) (kf : CWF d c q (pc + 3) ls st g) : CWF d c q pc ls (cR b :: cR a :: st) (acG a b f g) := by
  intro h r h' hf p l e s m args below meth cd γ ρ0 β0 h0 ρ β τ H locs cells slots lsA hx hv hw
  show W _ _ _ _ _ _ _ _ _ _ _ _ _ _ _ (F0 m pc lsA (va_rf (ro ρ b) :: va_rf (ro ρ a) :: st.map (pv ρ)))
  unfold acG at hf
  by_cases hab : a = b
  · rw [if_pos hab] at hf
    exact lv_acmp_eq hx.1 hx.2.1 hd ht (fun _ => kt h r h' hf p l e s m args below meth cd γ ρ0 β0 h0 ρ β τ H locs cells slots lsA hx hv hw.2.2) (fun hn => absurd (by rw [hab]) hn)
  · rw [if_neg hab] at hf
    split at hf
    · rename_i hok
      exact lv_acmp_eq hx.1 hx.2.1 hd ht (fun he => absurd he (emb_ne hx.2.2.2.2.2.2.2.2.2.2.2 hv.2.2.1 hok.1 hok.2 hab)) (fun _ => kf h r h' hf p l e s m args below meth cd γ ρ0 β0 h0 ρ β τ H locs cells slots lsA hx hv hw.2.2)
    · cases hf
theorem cw_acmp_ne {d : MD} {c q pc tgt : Nat} {off : Int} {ls : List (Nat × CV)} {st : List CV} {f g : GF} {a b : Nat} (hd : decode d.cc pc = .ok (.if_acmp .ne off, 3)) (ht : (pc : Int) + off = (tgt : Int)) (kt : CWF d c q tgt ls st g) (kf : CWF d c q (pc + 3) ls st f) : CWF d c q pc ls (cR b :: cR a :: st) (acG a b f g) := by
  intro h r h' hf p l e s m args below meth cd γ ρ0 β0 h0 ρ β τ H locs cells slots lsA hx hv hw
  show W _ _ _ _ _ _ _ _ _ _ _ _ _ _ _ (F0 m pc lsA (va_rf (ro ρ b) :: va_rf (ro ρ a) :: st.map (pv ρ)))
  unfold acG at hf
  by_cases hab : a = b
  · rw [if_pos hab] at hf
    exact lv_acmp_ne hx.1 hx.2.1 hd ht (fun hn => absurd (by rw [hab]) hn) (fun _ => kf h r h' hf p l e s m args below meth cd γ ρ0 β0 h0 ρ β τ H locs cells slots lsA hx hv hw.2.2)
  · rw [if_neg hab] at hf
    split at hf
    · rename_i hok
      exact lv_acmp_ne hx.1 hx.2.1 hd ht (fun _ => kt h r h' hf p l e s m args below meth cd γ ρ0 β0 h0 ρ β τ H locs cells slots lsA hx hv hw.2.2) (fun he => absurd he (emb_ne hx.2.2.2.2.2.2.2.2.2.2.2 hv.2.2.1 hok.1 hok.2 hab))
    · cases hf
/-! throw new E() -/
def throwG (E : String) : GF := fun h => some (rX E, h)
