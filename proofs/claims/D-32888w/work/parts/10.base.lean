/-! THE CLEAN MACHINE: an abstract heap, its embedding, the judgement -/
set_option maxRecDepth 100000
def HP : Type := Nat × (Nat → Nat) × (Nat → Nat) × (Nat → Nat → Int32) × (Nat → Nat → Nat) × (Nat → Nat → Int64) × (Nat → List Nat) × (Nat → Int32)
def HP.mk (n : Nat) (t l : Nat → Nat) (i : Nat → Nat → Int32) (p : Nat → Nat → Nat) (j : Nat → Nat → Int64) (s : Nat → List Nat) (m : Nat → Int32) : HP := (n, t, l, i, p, j, s, m)
/-- next address -/
def HP.n (h : HP) : Nat := h.1
/-- kind of cell: 0 none, 1 int[], 2 boolean[], 3 long[], 4 Object[], 5 Marks[], 6 Marks[][], 7 int[][], 8 a list, 9..13 constants, 20 + c an object of the c-th class, 200 + k a lambda's object -/
def HP.t (h : HP) : Nat → Nat := h.2.1
def HP.l (h : HP) : Nat → Nat := h.2.2.1
def HP.i (h : HP) : Nat → Nat → Int32 := h.2.2.2.1
def HP.p (h : HP) : Nat → Nat → Nat := h.2.2.2.2.1
def HP.j (h : HP) : Nat → Nat → Int64 := h.2.2.2.2.2.1
def HP.s (h : HP) : Nat → List Nat := h.2.2.2.2.2.2.1
def HP.m (h : HP) : Nat → Int32 := h.2.2.2.2.2.2.2
def up1 {α : Type} (f : Nat → α) (a : Nat) (v : α) : Nat → α := fun b => if b = a then v else f b
def up2 {α : Type} (f : Nat → Nat → α) (a k : Nat) (v : α) : Nat → Nat → α := fun b j => if b = a ∧ j = k then v else f b j
def HP.wI (h : HP) (a k : Nat) (v : Int32) : HP := HP.mk h.n h.t h.l (up2 h.i a k v) h.p h.j h.s h.m
def HP.wP (h : HP) (a k : Nat) (v : Nat) : HP := HP.mk h.n h.t h.l h.i (up2 h.p a k v) h.j h.s h.m
def HP.wJ (h : HP) (a k : Nat) (v : Int64) : HP := HP.mk h.n h.t h.l h.i h.p (up2 h.j a k v) h.s h.m
def HP.wS (h : HP) (a : Nat) (xs : List Nat) (m : Int32) : HP := HP.mk h.n h.t h.l h.i h.p h.j (up1 h.s a xs) (up1 h.m a m)
def HP.mkc (h : HP) (tag len : Nat) : HP := HP.mk (h.n + 1) (up1 h.t h.n tag) (up1 h.l h.n len) (up1 h.i h.n (fun _ => 0)) (up1 h.p h.n (fun _ => 0)) (up1 h.j h.n (fun _ => 0)) (up1 h.s h.n []) (up1 h.m h.n 0)
/-- values: int, long, float, double, a reference (0 is null), a loop's iterator (list, its count, cursor) -/
abbrev CV : Type := Int32 ⊕ Int64 ⊕ UInt32 ⊕ UInt64 ⊕ Nat ⊕ (Nat × Int32 × Nat)
abbrev cI (x : Int32) : CV := .inl x
abbrev cJ (x : Int64) : CV := .inr (.inl x)
abbrev cF (x : UInt32) : CV := .inr (.inr (.inl x))
abbrev cD (x : UInt64) : CV := .inr (.inr (.inr (.inl x)))
abbrev cR (a : Nat) : CV := .inr (.inr (.inr (.inr (.inl a))))
abbrev cT (a : Nat) (m : Int32) (j : Nat) : CV := .inr (.inr (.inr (.inr (.inr (a, m, j)))))
/-- an answer: a value or none, or the name of the thrown class -/
abbrev RV : Type := Option CV ⊕ String
abbrev rI (x : Int32) : RV := .inl (some (cI x))
abbrev rF (x : UInt32) : RV := .inl (some (cF x))
abbrev rD (x : UInt64) : RV := .inl (some (cD x))
abbrev rR (a : Nat) : RV := .inl (some (cR a))
abbrev rV : RV := .inl none
abbrev rX (E : String) : RV := .inr E
abbrev GF : Type := HP → Option (RV × HP)
def ro (ρ : Nat → Nat) (x : Nat) : Option Nat := if x = 0 then none else some (ρ x)
def pv (ρ : Nat → Nat) : CV → Value
  | .inl x => .int x
  | .inr (.inl x) => .long x
  | .inr (.inr (.inl x)) => .float x
  | .inr (.inr (.inr (.inl x))) => .double x
  | .inr (.inr (.inr (.inr (.inl a)))) => va_rf (ro ρ a)
  | .inr (.inr (.inr (.inr (.inr _)))) => .null
def cat : CV → Nat
  | .inr (.inl _) => 2
  | .inr (.inr (.inr (.inl _))) => 2
  | _ => 1
def pl (ρ τ : Nat → Nat) (q : Nat × CV) : Nat × Value := match q.2 with
  | .inr (.inr (.inr (.inr (.inr _)))) => (q.1, .ref (τ q.1))
  | v => (q.1, pv ρ v)
def wfv (n : Nat) : CV → Prop
  | .inr (.inr (.inr (.inr (.inl a)))) => a < n
  | .inr (.inr (.inr (.inr (.inr _)))) => False
  | _ => True
def wfS (n : Nat) : List CV → Prop
  | [] => True
  | v :: st => wfv n v ∧ wfS n st
def wfl (n : Nat) : CV → Prop
  | .inr (.inr (.inr (.inr (.inl a)))) => a < n
  | .inr (.inr (.inr (.inr (.inr q)))) => q.1 < n
  | _ => True
def wfo (n : Nat) : RV → Prop
  | .inl (some v) => wfv n v
  | _ => True
theorem pv_cat (ρ : Nat → Nat) (v : CV) : (pv ρ v).category = cat v := by
  rcases v with x | x | x | x | a | q
  · rfl
  · rfl
  · rfl
  · rfl
  · show (va_rf (ro ρ a)).category = 1
    unfold ro
    split <;> rfl
  · rfl
theorem pl_fst (ρ τ : Nat → Nat) (q : Nat × CV) : (pl ρ τ q).1 = q.1 := by
  obtain ⟨i, v⟩ := q
  rcases v with x | x | x | x | a | q <;> rfl
theorem pl_cat (ρ τ : Nat → Nat) (q : Nat × CV) : (pl ρ τ q).2.category = cat q.2 := by
  obtain ⟨i, v⟩ := q
  rcases v with x | x | x | x | a | q
  · rfl
  · rfl
  · rfl
  · rfl
  · exact pv_cat ρ (cR a)
  · rfl
theorem ro_agree {ρ ρ' : Nat → Nat} {n a : Nat} (h : ∀ b, b < n → ρ' b = ρ b) (ha : a < n) : ro ρ' a = ro ρ a := by
  unfold ro
  rw [h a ha]
theorem pv_agree {ρ ρ' : Nat → Nat} {n : Nat} {v : CV} (h : ∀ b, b < n → ρ' b = ρ b) (hv : wfv n v) : pv ρ' v = pv ρ v := by
  rcases v with x | x | x | x | a | q
  · rfl
  · rfl
  · rfl
  · rfl
  · show va_rf (ro ρ' a) = va_rf (ro ρ a)
    rw [ro_agree h hv]
  · exact hv.elim
theorem pvs_agree {ρ ρ' : Nat → Nat} {n : Nat} (h : ∀ b, b < n → ρ' b = ρ b) : ∀ {st : List CV}, wfS n st → st.map (pv ρ') = st.map (pv ρ)
  | [], _ => rfl
  | v :: st, hv => by
    rw [List.map_cons, List.map_cons, pv_agree h hv.1, pvs_agree h hv.2]
theorem pl_agree {ρ ρ' τ τ' : Nat → Nat} {n : Nat} {q : Nat × CV} (h : ∀ b, b < n → ρ' b = ρ b) (hv : wfl n q.2) (ht : τ' q.1 = τ q.1) : pl ρ' τ' q = pl ρ τ q := by
  obtain ⟨i, v⟩ := q
  rcases v with x | x | x | x | a | q
  · rfl
  · rfl
  · rfl
  · rfl
  · show (i, va_rf (ro ρ' a)) = (i, va_rf (ro ρ a))
    rw [ro_agree h hv]
  · show (i, Value.ref (τ' i)) = (i, Value.ref (τ i))
    rw [show τ' i = τ i from ht]
theorem pls_agree {ρ ρ' τ : Nat → Nat} {n : Nat} {ls : List (Nat × CV)} (h : ∀ b, b < n → ρ' b = ρ b) (hv : ∀ q ∈ ls, wfl n q.2) : ls.map (pl ρ' τ) = ls.map (pl ρ τ) :=
  List.map_congr_left fun q hq => pl_agree h (hv q hq) rfl
theorem wfv_mono {n n' : Nat} (h : n ≤ n') {v : CV} (hv : wfv n v) : wfv n' v := by
  rcases v with x | x | x | x | a | q
  · trivial
  · trivial
  · trivial
  · trivial
  · exact Nat.lt_of_lt_of_le hv h
  · exact hv
theorem wfS_mono {n n' : Nat} (h : n ≤ n') : ∀ {st : List CV}, wfS n st → wfS n' st
  | [], _ => trivial
  | _ :: _, hv => ⟨wfv_mono h hv.1, wfS_mono h hv.2⟩
theorem wfl_mono {n n' : Nat} (h : n ≤ n') {v : CV} (hv : wfl n v) : wfl n' v := by
  rcases v with x | x | x | x | a | q
  · trivial
  · trivial
  · trivial
  · trivial
  · exact Nat.lt_of_lt_of_le hv h
  · exact Nat.lt_of_lt_of_le hv h
/-- classes by their places, their fields' types -/
def vwCl : List vw_C := [(RX1, TX1, 11), (RX2, TX2, 75), (RX3, TX3, 9), (RX4, TX4, 3), (RX5, TX5, 5), (RX6, TX6, 19), (RX7, TX7, 5), (RX8, TX8, 10), (RX9, TX9, 2), (RX10, TX10, 2), (RX11, TX11, 1), (RX12, TX12, 2), (RX14, TX14, 1), (RX15, TX15, 5), (RJ2, TJ2, 3), (RJ18, TJ18, 4), (RJ21, TJ21, 1)]
def vwTy : Nat → Nat → FieldType := fun c => match c with
  | 0 => tyX1
  | 1 => tyX2
  | 2 => tyX3
  | 3 => tyX4
  | 4 => tyX5
  | 5 => tyX6
  | 6 => tyX7
  | 7 => tyX8
  | 8 => tyX9
  | 9 => tyX10
  | 10 => tyX11
  | 11 => tyX12
  | 12 => tyX14
  | 13 => tyX15
  | 14 => tyJ2
  | 15 => tyJ18
  | _ => tyJ21
def tyRef : FieldType → Bool
  | .object _ => true
  | .array _ => true
  | _ => false
def vwRef (c k : Nat) : Bool := tyRef (vwTy c k)
theorem vw_ok : ∀ (c : Nat) (q : vw_C), vwCl[c]? = some q → (∀ w ∈ u_ws q.1 q.2.1 q.2.2, w ∈ lw_all) ∧ (∀ k, k < q.2.2 → parseFieldDescriptor (q.2.1 k).2.2.1 = some (vwTy c k)) ∧ (∀ a, a < q.2.2 → ∀ b, b < q.2.2 → a ≠ b → (q.2.1 a).2.1 ≠ (q.2.1 b).2.1) := by
  intro c q hq
  match c, hq with
  | 0, hq => cases hq; exact ⟨in_X1, tyX1_ok, nmX1⟩
  | 1, hq => cases hq; exact ⟨in_X2, tyX2_ok, nmX2⟩
  | 2, hq => cases hq; exact ⟨in_X3, tyX3_ok, nmX3⟩
  | 3, hq => cases hq; exact ⟨in_X4, tyX4_ok, nmX4⟩
  | 4, hq => cases hq; exact ⟨in_X5, tyX5_ok, nmX5⟩
  | 5, hq => cases hq; exact ⟨in_X6, tyX6_ok, nmX6⟩
  | 6, hq => cases hq; exact ⟨in_X7, tyX7_ok, nmX7⟩
  | 7, hq => cases hq; exact ⟨in_X8, tyX8_ok, nmX8⟩
  | 8, hq => cases hq; exact ⟨in_X9, tyX9_ok, nmX9⟩
  | 9, hq => cases hq; exact ⟨in_X10, tyX10_ok, nmX10⟩
  | 10, hq => cases hq; exact ⟨in_X11, tyX11_ok, nmX11⟩
  | 11, hq => cases hq; exact ⟨in_X12, tyX12_ok, nmX12⟩
  | 12, hq => cases hq; exact ⟨in_X14, tyX14_ok, nmX14⟩
  | 13, hq => cases hq; exact ⟨in_X15, tyX15_ok, nmX15⟩
  | 14, hq => cases hq; exact ⟨in_J2, tyJ2_ok, nmJ2⟩
  | 15, hq => cases hq; exact ⟨in_J18, tyJ18_ok, nmJ18⟩
  | 16, hq => cases hq; exact ⟨in_J21, tyJ21_ok, nmJ21⟩
  | c + 17, hq => simp [vwCl] at hq
/-- what is fixed for a run: classes' numbers and slots, array classes, constants' addresses, lambda classes, where the law's own cells begin -/
def GC : Type := va_G × (Nat → ClassId) × (Nat → Nat) × (Nat → ClassId) × Nat
def GC.D (γ : GC) : va_G := γ.1
def GC.cA (γ : GC) : Nat → ClassId := γ.2.1
def GC.sa (γ : GC) : Nat → Nat := γ.2.2.1
def GC.cL (γ : GC) : Nat → ClassId := γ.2.2.2.1
def GC.N0 (γ : GC) : Nat := γ.2.2.2.2
def GC.tys (γ : GC) : List (ClassId × FieldType) := [(γ.cA 1, .int), (γ.cA 2, .boolean), (γ.cA 3, .long), (γ.cA 4, .object "java/lang/Object"), (γ.cA 5, .object "Scrutineery$Marks"), (γ.cA 6, .array (.object "Scrutineery$Marks")), (γ.cA 7, .array .int)]
/-- a field's value -/
def fv (ρ : Nat → Nat) (h : HP) (c a k : Nat) : Value := if vwRef c k = true then va_rf (ro ρ (h.p a k)) else .int (h.i a k)
/-- the values that a lambda's object holds: by its site (1: none; 2: a list; 3: this, an int; 4: this, two ints) -/
def lamK : Nat → Nat
  | 0 => 3
  | 1 => 3
  | 2 => 3
  | 3 => 3
  | 4 => 1
  | 5 => 2
  | 6 => 4
  | 7 => 4
  | _ => 2
def lamV (ρ : Nat → Nat) (h : HP) (a : Nat) : Nat → Array Value
  | 2 => #[va_rf (ro ρ (h.p a 0))]
  | 3 => #[va_rf (ro ρ (h.p a 0)), .int (h.i a 1)]
  | 4 => #[va_rf (ro ρ (h.p a 0)), .int (h.i a 1), .int (h.i a 2)]
  | _ => #[]
def dyn (t : Nat) : Prop := (0 < t ∧ t < 9) ∨ (20 ≤ t ∧ t < 100) ∨ 200 ≤ t
def lsV (ρ β : Nat → Nat) (h : HP) (a : Nat) : Nat → Value
  | 0 => .int (h.m a)
  | 1 => .ref (β a)
  | _ => .int (nI (h.s a).length)
def EmbAt (γ : GC) (ρ β : Nat → Nat) (h : HP) (H : Heap) (a : Nat) : Prop :=
  (h.t a = 1 → H[ρ a]? = some (vp_cell (γ.cA 1) (h.l a, .inl (h.i a)))) ∧
  (h.t a = 2 → H[ρ a]? = some (vp_cell (γ.cA 2) (h.l a, .inl (h.i a)))) ∧
  (h.t a = 3 → H[ρ a]? = some (vp_cell (γ.cA 3) (h.l a, .inr (.inl (h.j a))))) ∧
  (4 ≤ h.t a → h.t a < 8 → H[ρ a]? = some (vp_cell (γ.cA (h.t a)) (h.l a, .inr (.inr (.inr (.inr (fun k => ro ρ (h.p a k)))))))) ∧
  (h.t a = 8 → (h.s a).length ≤ 64 ∧ t_OB (ρ a) (γ.D.1 14) 3 (γ.D.2 14) H (lsV ρ β h a) ∧
    (((β a = γ.sa 1 ∨ β a = γ.sa 2) ∧ h.s a = []) ∨ (γ.N0 ≤ β a ∧ ∃ cap, (h.s a).length ≤ cap ∧ 0 < cap ∧ cap ≤ 64 ∧ H[β a]? = some (vp_cell (γ.cA 4) (cap, .inr (.inr (.inr (.inr (fun k => ro ρ ((h.s a).getD k 0))))))))) ) ∧
  (20 ≤ h.t a → h.t a < 100 → ∃ r, vwCl[h.t a - 20]? = some r ∧ t_OB (ρ a) (γ.D.1 (h.t a - 20)) r.2.2 (γ.D.2 (h.t a - 20)) H (fv ρ h (h.t a - 20) a)) ∧
  (200 ≤ h.t a → H[ρ a]? = some { cls := γ.cL (h.t a - 200), slots := lamV ρ h a (lamK (h.t a - 200)), vm := .none }) ∧
  (9 ≤ h.t a → h.t a < 14 → ρ a = γ.sa a ∧ a < 270 ∧ (h.t a = 9 → 5 ≤ a ∧ a < 261 ∧ h.i a 0 = vb_c (a - 5)) ∧ (h.t a = 10 → (a = 1 ∨ a = 2) ∧ h.l a = 0) ∧ (h.t a = 11 → a = 4 ∧ h.l a = 256 ∧ ∀ k, k < 256 → h.p a k = 5 + k) ∧ (h.t a = 12 → a = 3 ∨ a = 261) ∧ (h.t a = 13 → a = 262))
def Emb (γ : GC) (ρ β : Nat → Nat) (h : HP) (A : Nat → Prop) (H : Heap) : Prop :=
  270 ≤ h.n ∧ (∀ a, h.t a ≠ 0 → 0 < a ∧ a < h.n ∧ (∀ k, h.p a k < h.n) ∧ ∀ x ∈ h.s a, x < h.n) ∧ (∀ a, EmbAt γ ρ β h H a) ∧
  (∀ a, dyn (h.t a) → A (ρ a) ∧ 270 ≤ a) ∧ (∀ a, h.t a = 8 → γ.N0 ≤ β a → A (β a)) ∧
  (∀ a b, dyn (h.t a) → dyn (h.t b) → ρ a = ρ b → a = b) ∧ (∀ a b, h.t a = 8 → h.t b = 8 → γ.N0 ≤ β a → β a = β b → a = b) ∧ (∀ a b, dyn (h.t a) → h.t b = 8 → ρ a ≠ β b)
/-- what a run from the heap h at size sz may write -/
def ASet (γ : GC) (ρ β : Nat → Nat) (h : HP) (sz : Nat) : Nat → Prop := fun q => γ.N0 ≤ q ∧ ((∃ a, dyn (h.t a) ∧ ρ a = q) ∨ (∃ a, h.t a = 8 ∧ β a = q) ∨ sz ≤ q)
def itV (ρ : Nat → Nat) (a : Nat) (m : Int32) (j : Nat) (lr : Int32) : Nat → Value
  | 0 => .int (nI j)
  | 1 => .int lr
  | 2 => .int m
  | _ => va_rf (ro ρ a)
def isT : CV → Bool
  | .inr (.inr (.inr (.inr (.inr _)))) => true
  | _ => false
def itOK (γ : GC) (ρ β : Nat → Nat) (h : HP) (A : Nat → Prop) (τ : Nat → Nat) (ls : List (Nat × CV)) (H : Heap) : Prop :=
  (∀ i a m j, (i, cT a m j) ∈ ls → A (τ i) ∧ (∀ b, dyn (h.t b) → ρ b ≠ τ i) ∧ (∀ b, h.t b = 8 → β b ≠ τ i) ∧ ∃ lr, t_OB (τ i) (γ.D.1 15) 4 (γ.D.2 15) H (itV ρ a m j lr)) ∧
  (∀ i i' v v', (i, v) ∈ ls → (i', v') ∈ ls → isT v = true → isT v' = true → τ i = τ i' → i = i')
/-- words of the tables that no list carries, and that every method may use -/
def stw : Cond → Bool
  | .fieldLinkNest _ _ _ _ _ _ => true
  | .methodLinkNest _ _ _ _ => true
  | .castable _ _ => true
  | .arrayOver _ => true
  | .declares _ => true
  | .publicMethod _ => true
  | .unhidden _ _ _ => true
  | _ => false
theorem ao_moved {t : FieldType} {u U : State} (hvm : u.vm.Alike U.vm) (h : (Cond.arrayOver (.array t)).before #[] u = true) : (Cond.arrayOver (.array t)).before #[] U = true := by
  simp only [Cond.before, Cond.holds, Cond.value, beq_iff_eq] at h ⊢
  rw [hvm.findClass]
  cases hc : u.vm.findClass (FieldType.array t).toString with
  | none => simp [hc] at h
  | some comp =>
    simp only [hc, Option.bind_some, Option.bind_eq_some_iff, Option.map_eq_some_iff] at h ⊢
    obtain ⟨c, hi, k, hk, hb⟩ := h
    obtain ⟨k', hk', he⟩ := hvm.2.2 _ _ hk
    refine ⟨c, ?_, k', hk', ?_⟩
    · refine (va_idx_bare U.vm comp).symm.trans ?_
      first | rw [hvm.bare_eq] | rw [← hvm.bare_eq]
      exact (va_idx_bare u.vm comp).trans hi
    · rw [he]
      simp only [hvm.findClass]
      exact hb
theorem stw_moved {w : Cond} (hw : stw w = true) {s U : State} (hW : s.WarmedH U.vm) (h : va_Nw w s) : va_Nw w U := by
  cases w with
  | fieldLinkNest a b c d e f => exact va_Nw.warmF hW h
  | methodLinkNest a b c d => exact va_Nw.warmM hW h
  | castable a b => exact va_Nw.warmC hW h
  | declares a => exact va_Nw.warmD hW h
  | publicMethod a => exact va_tabs rfl (rfl : (s.setVm U.vm).vm = U.vm) (by rw [Cond.publicMethod_setVm hW.alike]; exact h)
  | unhidden a b c => exact va_tabs rfl (rfl : (s.setVm U.vm).vm = U.vm) (by rw [Cond.unhidden_setVm hW.alike]; exact h)
  | arrayOver t =>
    cases t with
    | object n => exact va_AO.moved hW.alike h
    | array t => exact ao_moved hW.alike h
    | _ => simp [va_Nw, Cond.before, Cond.holds, Cond.value] at h
  | _ => simp [stw] at hw
def A0 (γ : GC) : Nat → Prop := fun q => γ.N0 ≤ q
/-- interface calls whose receiver's class is known: class, the interface's method, the method that runs -/
def ifT : List (String × MethodName × MethodName) := [
  (RJ2, ⟨"java/util/List", "clear", "()V"⟩, ⟨RJ2, "clear", "()V"⟩),
  (RJ2, ⟨"java/util/List", "size", "()I"⟩, ⟨RJ2, "size", "()I"⟩),
  (RJ2, ⟨"java/util/List", "get", "(I)Ljava/lang/Object;"⟩, ⟨RJ2, "get", "(I)Ljava/lang/Object;"⟩),
  (RJ2, ⟨"java/util/List", "iterator", "()Ljava/util/Iterator;"⟩, ⟨RJ2, "iterator", "()Ljava/util/Iterator;"⟩),
  (RJ18, ⟨"java/util/Iterator", "hasNext", "()Z"⟩, ⟨RJ18, "hasNext", "()Z"⟩),
  (RJ2, ⟨"java/util/List", "isEmpty", "()Z"⟩, ⟨RJ2, "isEmpty", "()Z"⟩),
  (RJ18, ⟨"java/util/Iterator", "next", "()Ljava/lang/Object;"⟩, ⟨RJ18, "next", "()Ljava/lang/Object;"⟩),
  (RJ2, ⟨"java/util/List", "remove", "(Ljava/lang/Object;)Z"⟩, ⟨RJ2, "remove", "(Ljava/lang/Object;)Z"⟩),
  (RJ2, ⟨"java/util/List", "indexOf", "(Ljava/lang/Object;)I"⟩, ⟨RJ2, "indexOf", "(Ljava/lang/Object;)I"⟩),
  (RJ2, ⟨"java/util/List", "add", "(Ljava/lang/Object;)Z"⟩, ⟨RJ2, "add", "(Ljava/lang/Object;)Z"⟩),
  (RJ2, ⟨"java/util/List", "contains", "(Ljava/lang/Object;)Z"⟩, ⟨RJ2, "contains", "(Ljava/lang/Object;)Z"⟩),
  (RJ2, ⟨"java/util/List", "remove", "(I)Ljava/lang/Object;"⟩, ⟨RJ2, "remove", "(I)Ljava/lang/Object;"⟩),
  (RJ2, ⟨"java/util/List", "add", "(ILjava/lang/Object;)V"⟩, ⟨RJ2, "add", "(ILjava/lang/Object;)V"⟩),
  (RJ2, ⟨"java/util/Collection", "toArray", "()[Ljava/lang/Object;"⟩, ⟨RJ2, "toArray", "()[Ljava/lang/Object;"⟩),
  (RX10, ⟨"Scrutineery$Marks", "told", "()I"⟩, ⟨RX10, "told", "()I"⟩),
  (RX11, ⟨"Scrutineery$Marks", "told", "()I"⟩, ⟨RX11, "told", "()I"⟩)]
/-- a lambda's site: method, pc, entry, shape -/
def lamX : Nat → MethodName
  | 0 => yX6_byAllMarks
  | 1 => yX6_byAllMarks
  | 2 => yX6_shares
  | 3 => yX6_shares
  | 4 => yX6_decides
  | 5 => yX6_decides
  | _ => yX6_allocated
def lamPc : Nat → Nat
  | 0 => 137
  | 1 => 150
  | 2 => 50
  | 3 => 65
  | 4 => 114
  | 5 => 132
  | 6 => 176
  | 7 => 192
  | _ => 312
def lamIx : Nat → Nat
  | 0 => 200
  | 1 => 207
  | 2 => 214
  | 3 => 215
  | 4 => 238
  | 5 => 245
  | 6 => 306
  | 7 => 309
  | _ => 314
def lamSh (k : Nat) : Lambda.Shape :=
  if k = 5 ∨ 8 ≤ k then
    { iface := "java/util/function/Predicate", name := "test", sam := ({ parameters := [(Jvm.ClassFile.FieldType.object "java/lang/Object")], returnType := (Option.some Jvm.ClassFile.FieldType.boolean) } : Jvm.ClassFile.MethodDescriptor), captured := [(Jvm.ClassFile.FieldType.object "java/util/List")], kind := 6, implClass := "Scrutineery$Event", implName := (if k = 5 then "lambda$decides$5" else "lambda$allocated$8"), implDesc := ({ parameters := [(Jvm.ClassFile.FieldType.object "java/util/List"), (Jvm.ClassFile.FieldType.object "Scrutineery$Entry")], returnType := (Option.some Jvm.ClassFile.FieldType.boolean) } : Jvm.ClassFile.MethodDescriptor), implItf := false, inst := ({ parameters := [(Jvm.ClassFile.FieldType.object "Scrutineery$Entry")], returnType := (Option.some Jvm.ClassFile.FieldType.boolean) } : Jvm.ClassFile.MethodDescriptor) }
  else
    let cp : List Jvm.ClassFile.FieldType := if k = 4 then [] else if k < 4 then [(Jvm.ClassFile.FieldType.object "Scrutineery$Event"), Jvm.ClassFile.FieldType.int] else [(Jvm.ClassFile.FieldType.object "Scrutineery$Event"), Jvm.ClassFile.FieldType.int, Jvm.ClassFile.FieldType.int]
    { iface := "Scrutineery$Event$Measure", name := "of", sam := ({ parameters := [(Jvm.ClassFile.FieldType.object "Scrutineery$Entry")], returnType := (Option.some Jvm.ClassFile.FieldType.int) } : Jvm.ClassFile.MethodDescriptor), captured := cp, kind := (if k = 4 then 6 else 5), implClass := "Scrutineery$Event",
      implName := (match k with
        | 0 => "lambda$byAllMarks$0"
        | 1 => "lambda$byAllMarks$1"
        | 2 => "lambda$shares$2"
        | 3 => "lambda$shares$3"
        | 4 => "lambda$decides$4"
        | 6 => "lambda$allocated$6"
        | _ => "lambda$allocated$7"),
      implDesc := ({ parameters := cp.drop 1 ++ [(Jvm.ClassFile.FieldType.object "Scrutineery$Entry")], returnType := (Option.some Jvm.ClassFile.FieldType.int) } : Jvm.ClassFile.MethodDescriptor), implItf := false, inst := ({ parameters := [(Jvm.ClassFile.FieldType.object "Scrutineery$Entry")], returnType := (Option.some Jvm.ClassFile.FieldType.int) } : Jvm.ClassFile.MethodDescriptor) }
/-- what the tables say of a site, and where its constant lies -/
def lamF (k : Nat) (c : ClassId) (one : Nat) (A : Nat → Prop) (U : State) (H : Heap) : Prop :=
  ∃ (m : MethodId) (kc : Class) (cf : ClassFile) (i0 p0 : Nat) (l : Linked), U.methodNamed? (lamX k) = some m ∧ U.vm.classes[m.cls]? = some kc ∧ kc.cf = some cf ∧ Lambda.shapeOf? cf (lamIx k) = some (lamSh k) ∧
      (kc.callSites.find? fun y => y.1 == m.idx && y.2.1 == lamPc k) = some (i0, p0, l) ∧ Lambda.isMade { classPath := fun _ => none } U.vm m.cls (lamSh k) c = true ∧ U.lambdaCallable (lamSh k) c = true ∧
      ((∃ cell, l = .constant one ∧ (lamSh k).captured = [] ∧ H[one]? = some cell ∧ cell.cls = c ∧ cell.vm = .none ∧ cell.slots = #[] ∧ ¬ A one) ∨ (l = .makes c ∧ (lamSh k).captured ≠ []))
theorem lamF.moved {k : Nat} {c : ClassId} {one : Nat} {A : Nat → Prop} {s t : State} {H : Heap} (hW : s.WarmedH t.vm) (h : lamF k c one A s H) : lamF k c one A t H := by
  obtain ⟨m, kc, cf, i0, p0, l, hm, hk, hcf, hsh, hfind, hmade, hcall, hl⟩ := h
  have hcall' : t.lambdaCallable (lamSh k) c = true := by
    have hA := hW.alike
    simp only [State.lambdaCallable, hA.findClass, hA.assignable, hA.superclasses, hA.declaredIn] at hcall ⊢
    exact hcall
  obtain ⟨kc', hk', he⟩ := hW.alike.2.2 _ _ hk
  have hm' : t.methodNamed? (lamX k) = some m := by
    have := State.methodNamed?_setVm (s := s) hW.alike (lamX k)
    rw [hm] at this
    exact this
  exact ⟨m, kc', cf, i0, p0, l, hm', hk', by rw [he]; exact hcf, hsh, by rw [he]; exact hfind, Lambda.isMade_warmer hW hmade, hcall', hl⟩
theorem lamF.kept {k : Nat} {c : ClassId} {one : Nat} {A : Nat → Prop} {s : State} {H H1 : Heap} (h : lamF k c one A s H) (hq : ∀ a : Nat, a < H.size → ¬ A a → H1[a]? = H[a]?) : lamF k c one A s H1 := by
  obtain ⟨m, kc, cf, i0, p0, l, hm, hk, hcf, hsh, hfind, hmade, hcall, hl⟩ := h
  refine ⟨m, kc, cf, i0, p0, l, hm, hk, hcf, hsh, hfind, hmade, hcall, ?_⟩
  rcases hl with ⟨cell, e1, e2, e3, e4, e5, e6, e7⟩ | hl
  · exact Or.inl ⟨cell, e1, e2, by rw [hq _ (Array.getElem?_eq_some_iff.mp e3).1 e7]; exact e3, e4, e5, e6, e7⟩
  · exact Or.inr hl
/-- classes of which the one is not the other's -/
def ncT : List (String × String) := [(RX10, RX11), (RX11, RX10), ("java/lang/IllegalArgumentException", "java/lang/IndexOutOfBoundsException"), ("java/lang/IllegalStateException", "java/lang/IndexOutOfBoundsException"), ("java/lang/IllegalStateException", "java/lang/IllegalArgumentException"), ("java/util/NoSuchElementException", "java/lang/IndexOutOfBoundsException"), ("java/util/NoSuchElementException", "java/lang/IllegalStateException"), ("java/util/NoSuchElementException", "java/lang/IllegalArgumentException")]
/-- Collection's getClass is Object's -/
def va_Ig (U : State) : Prop := (Cond.interfaceMethod "java/util/Collection" "java/lang/Object" "getClass" "()Ljava/lang/Class;").before #[] U = true
theorem va_Ig.moved {u U : State} (hvm : u.vm.Alike U.vm) (hD : va_Dc u) (h : va_Ig u) : va_Ig U := by
  obtain ⟨r, meth, hn, -⟩ := Cond.declares_spec hD
  have tr : ∀ {c : Cond}, c.onTables = true → c.before #[] (u.setVm U.vm) = true → c.before #[] U = true := by
    intro c hc h
    have e := Cond.onTables_vm (A := #[]) (A' := #[]) (U := u) (U' := U) U.vm c hc
    have hU : U.setVm U.vm = U := rfl
    rw [hU] at e
    rw [← e]
    exact h
  refine tr rfl ?_
  unfold va_Ig at h
  simp only [Cond.before, Cond.holds, Cond.value, State.vm_setVm, hvm.findClass, State.methodFound?_setVm hvm, State.methodNamed?_setVm hvm, arm_isInterface_setVm hvm] at h ⊢
  exact h
/-- what holds of a run's tables and constants -/
def GS (γ : GC) (U : State) (H : Heap) : Prop :=
  (va_K γ.D vwCl γ.tys U ∧ (∀ w ∈ lw_tbl, stw w = true → va_Nw w U) ∧ (∀ q ∈ ifT, va_Fw q.1 q.2.1 q.2.2 U) ∧ va_Dc U ∧ va_Mi "[Ljava/lang/Object;" (γ.sa 3) U ∧ va_Mi "java/util/ArrayList" (γ.sa 261) U ∧
    (Cond.methodLink RX6 249 ⟨"java/util/List", "removeIf", "(Ljava/util/function/Predicate;)Z"⟩).before #[] U = true ∧ (∀ q ∈ ncT, va_Nc q.1 q.2 U) ∧ γ.sa 1 ≠ γ.sa 2 ∧ γ.sa 1 < γ.N0 ∧ γ.sa 2 < γ.N0) ∧
  (vx_Zq Bundle.tN "UNASSIGNED_STACK" Bundle.steD (A0 γ) U H ∧ vx_Zq Bundle.tN "SUPPRESSED_SENTINEL" Bundle.listD (A0 γ) U H) ∧
  (va_Z RJ2 "DEFAULTCAPACITY_EMPTY_ELEMENTDATA" "[Ljava/lang/Object;" (.ref (γ.sa 1)) (A0 γ) U H ∧ va_Z RJ2 "EMPTY_ELEMENTDATA" "[Ljava/lang/Object;" (.ref (γ.sa 2)) (A0 γ) U H ∧ va_T (.object "java/lang/Object") (γ.sa 1) 0 (fun _ => .null) (A0 γ) U H ∧ va_T (.object "java/lang/Object") (γ.sa 2) 0 (fun _ => .null) (A0 γ) U H ∧ va_O "[Ljava/lang/Object;" (γ.sa 1) (A0 γ) U H ∧ va_O "[Ljava/lang/Object;" (γ.sa 2) (A0 γ) U H ∧ va_Ig U) ∧
  (va_Z "java/lang/Integer$IntegerCache" "high" "I" (.int 127) (A0 γ) U H ∧ va_Z "java/lang/Integer$IntegerCache" "cache" "[Ljava/lang/Integer;" (.ref (γ.sa 4)) (A0 γ) U H ∧ va_T (.object "java/lang/Integer") (γ.sa 4) 256 (fun k => .ref (γ.sa (5 + k))) (A0 γ) U H ∧ vb_C (fun k => γ.sa (5 + k)) (A0 γ) U H) ∧
  (∀ k, k < 9 → lamF k (γ.cL k) (γ.sa 262) (A0 γ) U H)
theorem GS.moved {γ : GC} {s U : State} {H : Heap} (hW : s.WarmedH U.vm) (h : GS γ s H) : GS γ U H := by
  obtain ⟨⟨k1, k2, k3, k4, k5, k6, k7, kn, k8⟩, ⟨x1, x2⟩, ⟨a1, a2, a3, a4, a5, a6, a7⟩, ⟨i1, i2, i3, i4⟩, hl⟩ := h
  have hA := hW.alike
  refine ⟨⟨va_K.moved hA k1, fun w hw hs => stw_moved hs hW (k2 w hw hs), fun q hq => va_Fw.moved ?_ hA (k3 q hq), va_Dc.moved hA k4, va_Mi.moved hA k5, va_Mi.moved hA k6, word_at hW (Or.inl rfl) k7, fun q hq => (kn q hq).moved hA, k8⟩, ⟨vx_Zq.moved hA x1, vx_Zq.moved hA x2⟩, ⟨va_Z.moved hA a1, va_Z.moved hA a2, va_T.moved hA a3, va_T.moved hA a4, va_O.moved hA a5, va_O.moved hA a6, va_Ig.moved hA k4 a7⟩, ⟨va_Z.moved hA i1, va_Z.moved hA i2, va_T.moved hA i3, vb_C.moved hA i4⟩, fun k hk => (hl k hk).moved hW⟩
  simp only [ifT, List.mem_cons, List.not_mem_nil, or_false] at hq
  rcases hq with rfl | rfl | rfl | rfl | rfl | rfl | rfl | rfl | rfl | rfl | rfl | rfl | rfl | rfl | rfl | rfl <;> exact ⟨by decide +kernel, by decide +kernel⟩
theorem GS.kept {γ : GC} {U : State} {H H1 : Heap} (h : GS γ U H) (hq : ∀ a : Nat, a < H.size → ¬ A0 γ a → H1[a]? = H[a]?) : GS γ U H1 := by
  obtain ⟨k, ⟨x1, x2⟩, ⟨a1, a2, a3, a4, a5, a6, a7⟩, ⟨i1, i2, i3, i4⟩, hl⟩ := h
  exact ⟨k, ⟨x1.kept hq, x2.kept hq⟩, ⟨a1.kept hq, a2.kept hq, a3.kept hq, a4.kept hq, a5.kept hq, a6.kept hq, a7⟩, ⟨i1.kept hq, i2.kept hq, i3.kept hq, i4.kept hq⟩, fun k hk => (hl k hk).kept hq⟩
theorem GS.calling {γ : GC} {U : State} {H : Heap} {g : JFrame} {mk : MethodId} {a : Array Value} (h : GS γ U H) : GS γ (U.calling g mk a) H := GS.moved (U := U.calling g mk a) (State.WarmedH.refl U) h
/-- a method: its name, code, locals, answer, class, depth, its cells and slots at most -/
def MD : Type := MethodName × ByteArray × Nat × Option FieldType × String × Nat × Nat × Nat
def MD.y (d : MD) : MethodName := d.1
def MD.cc (d : MD) : ByteArray := d.2.1
def MD.nL (d : MD) : Nat := d.2.2.1
def MD.ret (d : MD) : Option FieldType := d.2.2.2.1
def MD.own (d : MD) : String := d.2.2.2.2.1
def MD.dep (d : MD) : Nat := d.2.2.2.2.2.1
def MD.mc (d : MD) : Nat := d.2.2.2.2.2.2.1
def MD.ms (d : MD) : Nat := d.2.2.2.2.2.2.2
def MD.rm (d : MD) : Room := { frames := d.dep, cells := d.mc, slots := d.ms, locals := 4096 + 64 * d.dep }
/-- the start's heap, its valuations -/
def QE (γ : GC) (ρ β : Nat → Nat) (h : HP) (sz : Nat) (r : RV) (h' : HP) : Array Value → State → Outcome → State → Prop := fun _ st o t =>
  (∃ (ρ' β' : Nat → Nat) (v : Option CV), r = .inl v ∧ (∀ a, a < h.n → ρ' a = ρ a) ∧ h.n ≤ h'.n ∧ o = .returned (v.map (pv ρ')) ∧ wfo h'.n r ∧ Emb γ ρ' β' h' (ASet γ ρ β h sz) t.heap) ∧ va_F (ASet γ ρ β h sz) st t
def XE (γ : GC) (ρ β : Nat → Nat) (h : HP) (sz : Nat) (r : RV) (h' : HP) : String → State → State → Prop := fun E st t =>
  (∃ (ρ' β' : Nat → Nat), r = .inr E ∧ (∀ a, a < h.n → ρ' a = ρ a) ∧ h.n ≤ h'.n ∧ Emb γ ρ' β' h' (ASet γ ρ β h sz) t.heap) ∧ va_F (ASet γ ρ β h sz) st t
/-- the method, called with args in the heap h, answers r and leaves h' -/
def CM (d : MD) (args : List CV) (h : HP) (r : RV) (h' : HP) : Prop :=
  ∀ (l : Launch), l.stackTraces = false → ∀ (γ : GC) (ρ β : Nat → Nat) (sz : Nat), wfS h.n args →
    vx_Met l d.y (ws_ d.y d.cc d.nL d.ret) d.rm (va_Pc (args.map (pv ρ)) (fun U => U.heap.size = sz ∧ γ.N0 ≤ sz ∧ GS γ U U.heap ∧ Emb γ ρ β h (ASet γ ρ β h sz) U.heap)) (QE γ ρ β h sz r h') (XE γ ρ β h sz r h') d.mc d.ms (ASet γ ρ β h sz)
def CMF (d : MD) (args : List CV) (f : GF) : Prop := ∀ h r h', f h = some (r, h') → CM d args h r h'
/-- fixed while a method runs -/
def Fx (d : MD) (γ : GC) (p : Program) (l : Launch) (s : State) (m : MethodId) (args : Array Value) (meth : Method) (cd : Code) : Prop :=
  p.tables.exec = Jvm.exec ∧ cd.code = d.cc ∧ meth.sig.returnType = d.ret ∧ cd.maxLocals = d.nL ∧ s.vm.findClass d.own = some m.cls ∧ (∀ w ∈ lw_all, w.before args s = true) ∧ meth.locks = false ∧ (∀ x ∈ cd.exceptionTable.toList, False) ∧ l.stackTraces = false ∧ meth.name = d.y.name ∧ γ.N0 ≤ s.heap.size ∧ GS γ s s.heap
/-- varying while a method runs; c, k: cells and slots still to be had -/
def Vy (d : MD) (c k : Nat) (γ : GC) (ρ0 β0 : Nat → Nat) (h0 : HP) (s : State) (ρ β τ : Nat → Nat) (ls : List (Nat × CV)) (h : HP) (H : Heap) (locs : List Loc) (cells slots : Nat) (lsA : Array Slot) : Prop :=
  h0.n ≤ h.n ∧ (∀ a, a < h0.n → ρ a = ρ0 a) ∧ Emb γ ρ β h (ASet γ ρ0 β0 h0 s.heap.size) H ∧ itOK γ ρ β h (ASet γ ρ0 β0 h0 s.heap.size) τ ls H ∧ (∀ q ∈ ls, wfl h.n q.2) ∧ va_S (ASet γ ρ0 β0 h0 s.heap.size) s.heap H locs ∧ lv_has lsA d.nL (ls.map (pl ρ τ)) ∧ cells + c ≤ d.mc ∧ slots + k ≤ d.ms
def CW (d : MD) (c k pc : Nat) (ls : List (Nat × CV)) (st : List CV) (h : HP) (r : RV) (h' : HP) : Prop :=
  ∀ (p : Program) (l : Launch) (e : Env) (s : State) (m : MethodId) (args : Array Value) (below : List Frame) (meth : Method) (cd : Code) (γ : GC) (ρ0 β0 : Nat → Nat) (h0 : HP) (ρ β τ : Nat → Nat) (H : Heap) (locs : List Loc) (cells slots : Nat) (lsA : Array Slot),
    Fx d γ p l s m args meth cd → Vy d c k γ ρ0 β0 h0 s ρ β τ ls h H locs cells slots lsA → wfS h.n st →
    W p l e d.rm s m args below meth cd H locs cells slots (vx_MQ below (QE γ ρ0 β0 h0 s.heap.size r h') (XE γ ρ0 β0 h0 s.heap.size r h') args s d.mc d.ms (ASet γ ρ0 β0 h0 s.heap.size)) (F0 m pc lsA (st.map (pv ρ)))
/-- the frame computes f -/
def CWF (d : MD) (c k pc : Nat) (ls : List (Nat × CV)) (st : List CV) (f : GF) : Prop := ∀ h r h', f h = some (r, h') → CW d c k pc ls st h r h'
