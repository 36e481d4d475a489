/-! RULES of the clean machine: one instruction, no heap (printed by tools/gen_rules.py) -/
set_option maxRecDepth 100000
theorem cw_iadd {d : MD} {c q pc : Nat} {ls : List (Nat × CV)} {st : List CV} {f : GF} {x y : Int32} (hd : decode d.cc pc = .ok (.iadd, 1)) (k : CWF d c q (pc + 1) ls (cI (x + y) :: st) f) : CWF d c q pc ls (cI y :: cI x :: st) f := by
  intro h r h' hf p l e s m args below meth cd γ ρ0 β0 h0 ρ β τ H locs cells slots lsA hx hv hw
  exact lv_iadd hx.1 hx.2.1 hd (k h r h' hf p l e s m args below meth cd γ ρ0 β0 h0 ρ β τ H locs cells slots lsA hx hv ⟨trivial, hw.2.2⟩)
theorem cw_isub {d : MD} {c q pc : Nat} {ls : List (Nat × CV)} {st : List CV} {f : GF} {x y : Int32} (hd : decode d.cc pc = .ok (.isub, 1)) (k : CWF d c q (pc + 1) ls (cI (x - y) :: st) f) : CWF d c q pc ls (cI y :: cI x :: st) f := by
  intro h r h' hf p l e s m args below meth cd γ ρ0 β0 h0 ρ β τ H locs cells slots lsA hx hv hw
  exact lv_isub hx.1 hx.2.1 hd (k h r h' hf p l e s m args below meth cd γ ρ0 β0 h0 ρ β τ H locs cells slots lsA hx hv ⟨trivial, hw.2.2⟩)
theorem cw_imul {d : MD} {c q pc : Nat} {ls : List (Nat × CV)} {st : List CV} {f : GF} {x y : Int32} (hd : decode d.cc pc = .ok (.imul, 1)) (k : CWF d c q (pc + 1) ls (cI (x * y) :: st) f) : CWF d c q pc ls (cI y :: cI x :: st) f := by
  intro h r h' hf p l e s m args below meth cd γ ρ0 β0 h0 ρ β τ H locs cells slots lsA hx hv hw
  exact lv_imul hx.1 hx.2.1 hd (k h r h' hf p l e s m args below meth cd γ ρ0 β0 h0 ρ β τ H locs cells slots lsA hx hv ⟨trivial, hw.2.2⟩)
theorem cw_iand {d : MD} {c q pc : Nat} {ls : List (Nat × CV)} {st : List CV} {f : GF} {x y : Int32} (hd : decode d.cc pc = .ok (.iand, 1)) (k : CWF d c q (pc + 1) ls (cI (x &&& y) :: st) f) : CWF d c q pc ls (cI y :: cI x :: st) f := by
  intro h r h' hf p l e s m args below meth cd γ ρ0 β0 h0 ρ β τ H locs cells slots lsA hx hv hw
  exact lv_iand hx.1 hx.2.1 hd (k h r h' hf p l e s m args below meth cd γ ρ0 β0 h0 ρ β τ H locs cells slots lsA hx hv ⟨trivial, hw.2.2⟩)
theorem cw_ior {d : MD} {c q pc : Nat} {ls : List (Nat × CV)} {st : List CV} {f : GF} {x y : Int32} (hd : decode d.cc pc = .ok (.ior, 1)) (k : CWF d c q (pc + 1) ls (cI (x ||| y) :: st) f) : CWF d c q pc ls (cI y :: cI x :: st) f := by
  intro h r h' hf p l e s m args below meth cd γ ρ0 β0 h0 ρ β τ H locs cells slots lsA hx hv hw
  exact lv_ior hx.1 hx.2.1 hd (k h r h' hf p l e s m args below meth cd γ ρ0 β0 h0 ρ β τ H locs cells slots lsA hx hv ⟨trivial, hw.2.2⟩)
theorem cw_ixor {d : MD} {c q pc : Nat} {ls : List (Nat × CV)} {st : List CV} {f : GF} {x y : Int32} (hd : decode d.cc pc = .ok (.ixor, 1)) (k : CWF d c q (pc + 1) ls (cI (x ^^^ y) :: st) f) : CWF d c q pc ls (cI y :: cI x :: st) f := by
  intro h r h' hf p l e s m args below meth cd γ ρ0 β0 h0 ρ β τ H locs cells slots lsA hx hv hw
  exact lv_ixor hx.1 hx.2.1 hd (k h r h' hf p l e s m args below meth cd γ ρ0 β0 h0 ρ β τ H locs cells slots lsA hx hv ⟨trivial, hw.2.2⟩)
theorem cw_ishl {d : MD} {c q pc : Nat} {ls : List (Nat × CV)} {st : List CV} {f : GF} {x y : Int32} (hd : decode d.cc pc = .ok (.ishl, 1)) (k : CWF d c q (pc + 1) ls (cI (x <<< (y &&& 31)) :: st) f) : CWF d c q pc ls (cI y :: cI x :: st) f := by
  intro h r h' hf p l e s m args below meth cd γ ρ0 β0 h0 ρ β τ H locs cells slots lsA hx hv hw
  exact lv_ishl hx.1 hx.2.1 hd (k h r h' hf p l e s m args below meth cd γ ρ0 β0 h0 ρ β τ H locs cells slots lsA hx hv ⟨trivial, hw.2.2⟩)
theorem cw_ishr {d : MD} {c q pc : Nat} {ls : List (Nat × CV)} {st : List CV} {f : GF} {x y : Int32} (hd : decode d.cc pc = .ok (.ishr, 1)) (k : CWF d c q (pc + 1) ls (cI (x >>> (y &&& 31)) :: st) f) : CWF d c q pc ls (cI y :: cI x :: st) f := by
  intro h r h' hf p l e s m args below meth cd γ ρ0 β0 h0 ρ β τ H locs cells slots lsA hx hv hw
  exact lv_ishr hx.1 hx.2.1 hd (k h r h' hf p l e s m args below meth cd γ ρ0 β0 h0 ρ β τ H locs cells slots lsA hx hv ⟨trivial, hw.2.2⟩)
theorem cw_iushr {d : MD} {c q pc : Nat} {ls : List (Nat × CV)} {st : List CV} {f : GF} {x y : Int32} (hd : decode d.cc pc = .ok (.iushr, 1)) (k : CWF d c q (pc + 1) ls (cI ((x.toUInt32 >>> (y.toUInt32 &&& Int32.toUInt32 31)).toInt32) :: st) f) : CWF d c q pc ls (cI y :: cI x :: st) f := by
  intro h r h' hf p l e s m args below meth cd γ ρ0 β0 h0 ρ β τ H locs cells slots lsA hx hv hw
  exact lv_iushr hx.1 hx.2.1 hd rfl (k h r h' hf p l e s m args below meth cd γ ρ0 β0 h0 ρ β τ H locs cells slots lsA hx hv ⟨trivial, hw.2.2⟩)
theorem cw_ladd {d : MD} {c q pc : Nat} {ls : List (Nat × CV)} {st : List CV} {f : GF} {x y : Int64} (hd : decode d.cc pc = .ok (.ladd, 1)) (k : CWF d c q (pc + 1) ls (cJ (x + y) :: st) f) : CWF d c q pc ls (cJ y :: cJ x :: st) f := by
  intro h r h' hf p l e s m args below meth cd γ ρ0 β0 h0 ρ β τ H locs cells slots lsA hx hv hw
  exact lv_ladd hx.1 hx.2.1 hd (k h r h' hf p l e s m args below meth cd γ ρ0 β0 h0 ρ β τ H locs cells slots lsA hx hv ⟨trivial, hw.2.2⟩)
theorem cw_lmul {d : MD} {c q pc : Nat} {ls : List (Nat × CV)} {st : List CV} {f : GF} {x y : Int64} (hd : decode d.cc pc = .ok (.lmul, 1)) (k : CWF d c q (pc + 1) ls (cJ (x * y) :: st) f) : CWF d c q pc ls (cJ y :: cJ x :: st) f := by
  intro h r h' hf p l e s m args below meth cd γ ρ0 β0 h0 ρ β τ H locs cells slots lsA hx hv hw
  exact lv_lmul hx.1 hx.2.1 hd (k h r h' hf p l e s m args below meth cd γ ρ0 β0 h0 ρ β τ H locs cells slots lsA hx hv ⟨trivial, hw.2.2⟩)
theorem cw_lcmp {d : MD} {c q pc : Nat} {ls : List (Nat × CV)} {st : List CV} {f : GF} {x y : Int64} (hd : decode d.cc pc = .ok (.lcmp, 1)) (k : CWF d c q (pc + 1) ls (cI (lg_cmp x y) :: st) f) : CWF d c q pc ls (cJ y :: cJ x :: st) f := by
  intro h r h' hf p l e s m args below meth cd γ ρ0 β0 h0 ρ β τ H locs cells slots lsA hx hv hw
  exact W.lcmp hx.1 hx.2.1 hd (k h r h' hf p l e s m args below meth cd γ ρ0 β0 h0 ρ β τ H locs cells slots lsA hx hv ⟨trivial, hw.2.2⟩)
theorem cw_ineg {d : MD} {c q pc : Nat} {ls : List (Nat × CV)} {st : List CV} {f : GF} {x : Int32} (hd : decode d.cc pc = .ok (.ineg, 1)) (k : CWF d c q (pc + 1) ls (cI (-x) :: st) f) : CWF d c q pc ls (cI x :: st) f := by
  intro h r h' hf p l e s m args below meth cd γ ρ0 β0 h0 ρ β τ H locs cells slots lsA hx hv hw
  exact lv_ineg hx.1 hx.2.1 hd (k h r h' hf p l e s m args below meth cd γ ρ0 β0 h0 ρ β τ H locs cells slots lsA hx hv ⟨trivial, hw.2⟩)
theorem cw_i2l {d : MD} {c q pc : Nat} {ls : List (Nat × CV)} {st : List CV} {f : GF} {x : Int32} (hd : decode d.cc pc = .ok (.i2l, 1)) (k : CWF d c q (pc + 1) ls (cJ (x.toInt64) :: st) f) : CWF d c q pc ls (cI x :: st) f := by
  intro h r h' hf p l e s m args below meth cd γ ρ0 β0 h0 ρ β τ H locs cells slots lsA hx hv hw
  exact lv_i2l hx.1 hx.2.1 hd rfl (k h r h' hf p l e s m args below meth cd γ ρ0 β0 h0 ρ β τ H locs cells slots lsA hx hv ⟨trivial, hw.2⟩)
theorem cw_l2i {d : MD} {c q pc : Nat} {ls : List (Nat × CV)} {st : List CV} {f : GF} {x : Int64} (hd : decode d.cc pc = .ok (.l2i, 1)) (k : CWF d c q (pc + 1) ls (cI (x.toInt32) :: st) f) : CWF d c q pc ls (cJ x :: st) f := by
  intro h r h' hf p l e s m args below meth cd γ ρ0 β0 h0 ρ β τ H locs cells slots lsA hx hv hw
  exact lv_l2i hx.1 hx.2.1 hd rfl (k h r h' hf p l e s m args below meth cd γ ρ0 β0 h0 ρ β τ H locs cells slots lsA hx hv ⟨trivial, hw.2⟩)
theorem cw_i2f {d : MD} {c q pc : Nat} {ls : List (Nat × CV)} {st : List CV} {f : GF} {x : Int32} (hd : decode d.cc pc = .ok (.i2f, 1)) (k : CWF d c q (pc + 1) ls (cF (FP.i2f x) :: st) f) : CWF d c q pc ls (cI x :: st) f := by
  intro h r h' hf p l e s m args below meth cd γ ρ0 β0 h0 ρ β τ H locs cells slots lsA hx hv hw
  exact lv_i2f hx.1 hx.2.1 hd (k h r h' hf p l e s m args below meth cd γ ρ0 β0 h0 ρ β τ H locs cells slots lsA hx hv ⟨trivial, hw.2⟩)
theorem cw_i2d {d : MD} {c q pc : Nat} {ls : List (Nat × CV)} {st : List CV} {f : GF} {x : Int32} (hd : decode d.cc pc = .ok (.i2d, 1)) (k : CWF d c q (pc + 1) ls (cD (FP.i2d x) :: st) f) : CWF d c q pc ls (cI x :: st) f := by
  intro h r h' hf p l e s m args below meth cd γ ρ0 β0 h0 ρ β τ H locs cells slots lsA hx hv hw
  exact lv_i2d hx.1 hx.2.1 hd (k h r h' hf p l e s m args below meth cd γ ρ0 β0 h0 ρ β τ H locs cells slots lsA hx hv ⟨trivial, hw.2⟩)
def idivG (x y : Int32) (k : Int32 → GF) : GF := if ¬ y = 0 then k (x / y) else fun _ => none
theorem cw_idiv {d : MD} {c q pc : Nat} {ls : List (Nat × CV)} {st : List CV} {f : Int32 → GF} {x y : Int32} (hd : decode d.cc pc = .ok (.idiv, 1)) (k : ∀ z, CWF d c q (pc + 1) ls (cI z :: st) (f z)) : CWF d c q pc ls (cI y :: cI x :: st) (idivG x y f) := by
  intro h r h' hf p l e s m args below meth cd γ ρ0 β0 h0 ρ β τ H locs cells slots lsA hx hv hw
  unfold idivG at hf
  by_cases hz : ¬ y = 0
  · rw [if_pos hz] at hf
    exact lv_idiv hx.1 hx.2.1 hd hz (k _ h r h' hf p l e s m args below meth cd γ ρ0 β0 h0 ρ β τ H locs cells slots lsA hx hv ⟨trivial, hw.2.2⟩)
  · rw [if_neg hz] at hf
    cases hf
def iremG (x y : Int32) (k : Int32 → GF) : GF := if ¬ y = 0 then k (x - x / y * y) else fun _ => none
theorem cw_irem {d : MD} {c q pc : Nat} {ls : List (Nat × CV)} {st : List CV} {f : Int32 → GF} {x y : Int32} (hd : decode d.cc pc = .ok (.irem, 1)) (k : ∀ z, CWF d c q (pc + 1) ls (cI z :: st) (f z)) : CWF d c q pc ls (cI y :: cI x :: st) (iremG x y f) := by
  intro h r h' hf p l e s m args below meth cd γ ρ0 β0 h0 ρ β τ H locs cells slots lsA hx hv hw
  unfold iremG at hf
  by_cases hz : ¬ y = 0
  · rw [if_pos hz] at hf
    exact lv_irem hx.1 hx.2.1 hd hz (k _ h r h' hf p l e s m args below meth cd γ ρ0 β0 h0 ρ β τ H locs cells slots lsA hx hv ⟨trivial, hw.2.2⟩)
  · rw [if_neg hz] at hf
    cases hf
def ldivG (x y : Int64) (k : Int64 → GF) : GF := if ¬ y = 0 then k (x / y) else fun _ => none
theorem cw_ldiv {d : MD} {c q pc : Nat} {ls : List (Nat × CV)} {st : List CV} {f : Int64 → GF} {x y : Int64} (hd : decode d.cc pc = .ok (.ldiv, 1)) (k : ∀ z, CWF d c q (pc + 1) ls (cJ z :: st) (f z)) : CWF d c q pc ls (cJ y :: cJ x :: st) (ldivG x y f) := by
  intro h r h' hf p l e s m args below meth cd γ ρ0 β0 h0 ρ β τ H locs cells slots lsA hx hv hw
  unfold ldivG at hf
  by_cases hz : ¬ y = 0
  · rw [if_pos hz] at hf
    exact lv_ldiv hx.1 hx.2.1 hd hz (k _ h r h' hf p l e s m args below meth cd γ ρ0 β0 h0 ρ β τ H locs cells slots lsA hx hv ⟨trivial, hw.2.2⟩)
  · rw [if_neg hz] at hf
    cases hf
def lremG (x y : Int64) (k : Int64 → GF) : GF := if ¬ y = 0 then k (x - x / y * y) else fun _ => none
theorem cw_lrem {d : MD} {c q pc : Nat} {ls : List (Nat × CV)} {st : List CV} {f : Int64 → GF} {x y : Int64} (hd : decode d.cc pc = .ok (.lrem, 1)) (k : ∀ z, CWF d c q (pc + 1) ls (cJ z :: st) (f z)) : CWF d c q pc ls (cJ y :: cJ x :: st) (lremG x y f) := by
  intro h r h' hf p l e s m args below meth cd γ ρ0 β0 h0 ρ β τ H locs cells slots lsA hx hv hw
  unfold lremG at hf
  by_cases hz : ¬ y = 0
  · rw [if_pos hz] at hf
    exact lv_lrem hx.1 hx.2.1 hd hz (k _ h r h' hf p l e s m args below meth cd γ ρ0 β0 h0 ρ β τ H locs cells slots lsA hx hv ⟨trivial, hw.2.2⟩)
  · rw [if_neg hz] at hf
    cases hf
def fdivG (x y : UInt32) (k : UInt32 → GF) : GF := if FP.fdiv x y &&& 0x7fffffff ≤ 0x7f800000 then k (FP.fdiv x y) else fun _ => none
theorem cw_fdiv {d : MD} {c q pc : Nat} {ls : List (Nat × CV)} {st : List CV} {f : UInt32 → GF} {x y : UInt32} (hd : decode d.cc pc = .ok (.fdiv, 1)) (k : ∀ z, CWF d c q (pc + 1) ls (cF z :: st) (f z)) : CWF d c q pc ls (cF y :: cF x :: st) (fdivG x y f) := by
  intro h r h' hf p l e s m args below meth cd γ ρ0 β0 h0 ρ β τ H locs cells slots lsA hx hv hw
  unfold fdivG at hf
  by_cases hz : FP.fdiv x y &&& 0x7fffffff ≤ 0x7f800000
  · rw [if_pos hz] at hf
    exact lv_fdiv hx.1 hx.2.1 hd hz (k _ h r h' hf p l e s m args below meth cd γ ρ0 β0 h0 ρ β τ H locs cells slots lsA hx hv ⟨trivial, hw.2.2⟩)
  · rw [if_neg hz] at hf
    cases hf
def ddivG (x y : UInt64) (k : UInt64 → GF) : GF := if FP.ddiv x y &&& 0x7fffffffffffffff ≤ 0x7ff0000000000000 then k (FP.ddiv x y) else fun _ => none
theorem cw_ddiv {d : MD} {c q pc : Nat} {ls : List (Nat × CV)} {st : List CV} {f : UInt64 → GF} {x y : UInt64} (hd : decode d.cc pc = .ok (.ddiv, 1)) (k : ∀ z, CWF d c q (pc + 1) ls (cD z :: st) (f z)) : CWF d c q pc ls (cD y :: cD x :: st) (ddivG x y f) := by
  intro h r h' hf p l e s m args below meth cd γ ρ0 β0 h0 ρ β τ H locs cells slots lsA hx hv hw
  unfold ddivG at hf
  by_cases hz : FP.ddiv x y &&& 0x7fffffffffffffff ≤ 0x7ff0000000000000
  · rw [if_pos hz] at hf
    exact lv_ddiv hx.1 hx.2.1 hd hz (k _ h r h' hf p l e s m args below meth cd γ ρ0 β0 h0 ρ β τ H locs cells slots lsA hx hv ⟨trivial, hw.2.2⟩)
  · rw [if_neg hz] at hf
    cases hf
def f2dG (x : UInt32) (k : UInt64 → GF) : GF := if FP.f2d x &&& 0x7fffffffffffffff ≤ 0x7ff0000000000000 then k (FP.f2d x) else fun _ => none
theorem cw_f2d {d : MD} {c q pc : Nat} {ls : List (Nat × CV)} {st : List CV} {f : UInt64 → GF} {x : UInt32} (hd : decode d.cc pc = .ok (.f2d, 1)) (k : ∀ z, CWF d c q (pc + 1) ls (cD z :: st) (f z)) : CWF d c q pc ls (cF x :: st) (f2dG x f) := by
  intro h r h' hf p l e s m args below meth cd γ ρ0 β0 h0 ρ β τ H locs cells slots lsA hx hv hw
  unfold f2dG at hf
  by_cases hz : FP.f2d x &&& 0x7fffffffffffffff ≤ 0x7ff0000000000000
  · rw [if_pos hz] at hf
    exact lv_f2d hx.1 hx.2.1 hd hz (k _ h r h' hf p l e s m args below meth cd γ ρ0 β0 h0 ρ β τ H locs cells slots lsA hx hv ⟨trivial, hw.2⟩)
  · rw [if_neg hz] at hf
    cases hf
theorem cw_dcmp {d : MD} {c q pc : Nat} {ls : List (Nat × CV)} {st : List CV} {f : GF} {x y : UInt64} {op : CmpOp} (hd : decode d.cc pc = .ok (.dcmp op, 1)) (k : CWF d c q (pc + 1) ls (cI (Op.cmpValue (FP.dcmp x y) op) :: st) f) : CWF d c q pc ls (cD y :: cD x :: st) f := by
  intro h r h' hf p l e s m args below meth cd γ ρ0 β0 h0 ρ β τ H locs cells slots lsA hx hv hw
  exact lv_dcmp hx.1 hx.2.1 hd (k h r h' hf p l e s m args below meth cd γ ρ0 β0 h0 ρ β τ H locs cells slots lsA hx hv ⟨trivial, hw.2.2⟩)
theorem cw_iconst {d : MD} {c q pc : Nat} {ls : List (Nat × CV)} {st : List CV} {f : GF} {n : Int} {v : Int32} (hd : decode d.cc pc = .ok (.iconst n, 1)) (hv0 : Int32.ofInt n = v) (k : CWF d c q (pc + 1) ls (cI v :: st) f) : CWF d c q pc ls st f := by
  intro h r h' hf p l e s m args below meth cd γ ρ0 β0 h0 ρ β τ H locs cells slots lsA hx hv hw
  exact lv_iconst hx.1 hx.2.1 hd hv0 (k h r h' hf p l e s m args below meth cd γ ρ0 β0 h0 ρ β τ H locs cells slots lsA hx hv ⟨trivial, hw⟩)
theorem cw_bipush {d : MD} {c q pc : Nat} {ls : List (Nat × CV)} {st : List CV} {f : GF} {n : Int} {v : Int32} (hd : decode d.cc pc = .ok (.bipush n, 2)) (hv0 : (Int8.ofInt n).toInt32 = v) (k : CWF d c q (pc + 2) ls (cI v :: st) f) : CWF d c q pc ls st f := by
  intro h r h' hf p l e s m args below meth cd γ ρ0 β0 h0 ρ β τ H locs cells slots lsA hx hv hw
  exact lv_bipush hx.1 hx.2.1 hd hv0 (k h r h' hf p l e s m args below meth cd γ ρ0 β0 h0 ρ β τ H locs cells slots lsA hx hv ⟨trivial, hw⟩)
theorem cw_sipush {d : MD} {c q pc : Nat} {ls : List (Nat × CV)} {st : List CV} {f : GF} {n : Int} {v : Int32} (hd : decode d.cc pc = .ok (.sipush n, 3)) (hv0 : (Int16.ofInt n).toInt32 = v) (k : CWF d c q (pc + 3) ls (cI v :: st) f) : CWF d c q pc ls st f := by
  intro h r h' hf p l e s m args below meth cd γ ρ0 β0 h0 ρ β τ H locs cells slots lsA hx hv hw
  exact lv_sipush hx.1 hx.2.1 hd hv0 (k h r h' hf p l e s m args below meth cd γ ρ0 β0 h0 ρ β τ H locs cells slots lsA hx hv ⟨trivial, hw⟩)
theorem cw_lconst {d : MD} {c q pc : Nat} {ls : List (Nat × CV)} {st : List CV} {f : GF} {n : Fin 2} {v : Int64} (hd : decode d.cc pc = .ok (.lconst n, 1)) (hv0 : Int64.ofNat (n : Nat) = v) (k : CWF d c q (pc + 1) ls (cJ v :: st) f) : CWF d c q pc ls st f := by
  intro h r h' hf p l e s m args below meth cd γ ρ0 β0 h0 ρ β τ H locs cells slots lsA hx hv hw
  exact lv_lconst hx.1 hx.2.1 hd hv0 (k h r h' hf p l e s m args below meth cd γ ρ0 β0 h0 ρ β τ H locs cells slots lsA hx hv ⟨trivial, hw⟩)
theorem cw_fconst0 {d : MD} {c q pc : Nat} {ls : List (Nat × CV)} {st : List CV} {f : GF}  (hd : decode d.cc pc = .ok (.fconst 0, 1)) (k : CWF d c q (pc + 1) ls (cF FP.fconst0 :: st) f) : CWF d c q pc ls st f := by
  intro h r h' hf p l e s m args below meth cd γ ρ0 β0 h0 ρ β τ H locs cells slots lsA hx hv hw
  exact lv_fconst0 hx.1 hx.2.1 hd (k h r h' hf p l e s m args below meth cd γ ρ0 β0 h0 ρ β τ H locs cells slots lsA hx hv ⟨trivial, hw⟩)
theorem cw_dconst0 {d : MD} {c q pc : Nat} {ls : List (Nat × CV)} {st : List CV} {f : GF}  (hd : decode d.cc pc = .ok (.dconst 0, 1)) (k : CWF d c q (pc + 1) ls (cD FP.dconst0 :: st) f) : CWF d c q pc ls st f := by
  intro h r h' hf p l e s m args below meth cd γ ρ0 β0 h0 ρ β τ H locs cells slots lsA hx hv hw
  exact lv_dconst0 hx.1 hx.2.1 hd (k h r h' hf p l e s m args below meth cd γ ρ0 β0 h0 ρ β τ H locs cells slots lsA hx hv ⟨trivial, hw⟩)
theorem cw_ldc {d : MD} {c q pc : Nat} {ls : List (Nat × CV)} {st : List CV} {f : GF} {index : Nat} {v : Int32} (hd : decode d.cc pc = .ok (.ldc index, 2)) (hc : Cond.constant d.own index v ∈ lw_all) (k : CWF d c q (pc + 2) ls (cI v :: st) f) : CWF d c q pc ls st f := by
  intro h r h' hf p l e s m args below meth cd γ ρ0 β0 h0 ρ β τ H locs cells slots lsA hx hv hw
  exact lv_ldc hx.1 hx.2.1 hx.2.2.2.2.1 (hx.2.2.2.2.2.1 _ hc) hd (k h r h' hf p l e s m args below meth cd γ ρ0 β0 h0 ρ β τ H locs cells slots lsA hx hv ⟨trivial, hw⟩)
theorem cw_ldc2 {d : MD} {c q pc : Nat} {ls : List (Nat × CV)} {st : List CV} {f : GF} {index : Nat} {v : Int64} (hd : decode d.cc pc = .ok (.ldc2_w index, 3)) (hc : Cond.constantLong d.own index v ∈ lw_all) (k : CWF d c q (pc + 3) ls (cJ v :: st) f) : CWF d c q pc ls st f := by
  intro h r h' hf p l e s m args below meth cd γ ρ0 β0 h0 ρ β τ H locs cells slots lsA hx hv hw
  exact lv_ldc2 hx.1 hx.2.1 hx.2.2.2.2.1 (hx.2.2.2.2.2.1 _ hc) hd (k h r h' hf p l e s m args below meth cd γ ρ0 β0 h0 ρ β τ H locs cells slots lsA hx hv ⟨trivial, hw⟩)
theorem at_map {α β : Type} {l : List α} {f : α → β} {u : Nat} {x : α} (h : l[u]? = some x) : (l.map f)[u]? = some (f x) := by rw [List.getElem?_map, h]; rfl
theorem cw_iload_n {d : MD} {c q pc : Nat} {ls : List (Nat × CV)} {st : List CV} {f : GF} {j : Fin 4} {i : Nat} {x : Int32} (hd : decode d.cc pc = .ok (.iload_n j, 1)) (hi : (j : Nat) = i) (u : Nat) (hu : ls[u]? = some (i, cI x)) (k : CWF d c q (pc + 1) ls (cI x :: st) f) : CWF d c q pc ls st f := by
  intro h r h' hf p l e s m args below meth cd γ ρ0 β0 h0 ρ β τ H locs cells slots lsA hx hv hw
  exact lv_iload_n hx.1 hx.2.1 hd hi (lv_at hv.2.2.2.2.2.2.1 u (at_map hu)) (k h r h' hf p l e s m args below meth cd γ ρ0 β0 h0 ρ β τ H locs cells slots lsA hx hv ⟨trivial, hw⟩)
theorem cw_iload {d : MD} {c q pc : Nat} {ls : List (Nat × CV)} {st : List CV} {f : GF} {i : Nat} {x : Int32} (hd : decode d.cc pc = .ok (.iload i, 2)) (u : Nat) (hu : ls[u]? = some (i, cI x)) (k : CWF d c q (pc + 2) ls (cI x :: st) f) : CWF d c q pc ls st f := by
  intro h r h' hf p l e s m args below meth cd γ ρ0 β0 h0 ρ β τ H locs cells slots lsA hx hv hw
  exact lv_iload hx.1 hx.2.1 hd (lv_at hv.2.2.2.2.2.2.1 u (at_map hu)) (k h r h' hf p l e s m args below meth cd γ ρ0 β0 h0 ρ β τ H locs cells slots lsA hx hv ⟨trivial, hw⟩)
theorem cw_lload_n {d : MD} {c q pc : Nat} {ls : List (Nat × CV)} {st : List CV} {f : GF} {j : Fin 4} {i : Nat} {x : Int64} (hd : decode d.cc pc = .ok (.lload_n j, 1)) (hi : (j : Nat) = i) (u : Nat) (hu : ls[u]? = some (i, cJ x)) (k : CWF d c q (pc + 1) ls (cJ x :: st) f) : CWF d c q pc ls st f := by
  intro h r h' hf p l e s m args below meth cd γ ρ0 β0 h0 ρ β τ H locs cells slots lsA hx hv hw
  exact lv_lload_n hx.1 hx.2.1 hd hi (lv_at hv.2.2.2.2.2.2.1 u (at_map hu)) (k h r h' hf p l e s m args below meth cd γ ρ0 β0 h0 ρ β τ H locs cells slots lsA hx hv ⟨trivial, hw⟩)
theorem cw_lload {d : MD} {c q pc : Nat} {ls : List (Nat × CV)} {st : List CV} {f : GF} {i : Nat} {x : Int64} (hd : decode d.cc pc = .ok (.lload i, 2)) (u : Nat) (hu : ls[u]? = some (i, cJ x)) (k : CWF d c q (pc + 2) ls (cJ x :: st) f) : CWF d c q pc ls st f := by
  intro h r h' hf p l e s m args below meth cd γ ρ0 β0 h0 ρ β τ H locs cells slots lsA hx hv hw
  exact lv_lload hx.1 hx.2.1 hd (lv_at hv.2.2.2.2.2.2.1 u (at_map hu)) (k h r h' hf p l e s m args below meth cd γ ρ0 β0 h0 ρ β τ H locs cells slots lsA hx hv ⟨trivial, hw⟩)
theorem cw_dload_n {d : MD} {c q pc : Nat} {ls : List (Nat × CV)} {st : List CV} {f : GF} {j : Fin 4} {i : Nat} {x : UInt64} (hd : decode d.cc pc = .ok (.dload_n j, 1)) (hi : (j : Nat) = i) (u : Nat) (hu : ls[u]? = some (i, cD x)) (k : CWF d c q (pc + 1) ls (cD x :: st) f) : CWF d c q pc ls st f := by
  intro h r h' hf p l e s m args below meth cd γ ρ0 β0 h0 ρ β τ H locs cells slots lsA hx hv hw
  exact lv_dload_n hx.1 hx.2.1 hd hi (lv_at hv.2.2.2.2.2.2.1 u (at_map hu)) (k h r h' hf p l e s m args below meth cd γ ρ0 β0 h0 ρ β τ H locs cells slots lsA hx hv ⟨trivial, hw⟩)
theorem cw_dload {d : MD} {c q pc : Nat} {ls : List (Nat × CV)} {st : List CV} {f : GF} {i : Nat} {x : UInt64} (hd : decode d.cc pc = .ok (.dload i, 2)) (u : Nat) (hu : ls[u]? = some (i, cD x)) (k : CWF d c q (pc + 2) ls (cD x :: st) f) : CWF d c q pc ls st f := by
  intro h r h' hf p l e s m args below meth cd γ ρ0 β0 h0 ρ β τ H locs cells slots lsA hx hv hw
  exact lv_dload hx.1 hx.2.1 hd (lv_at hv.2.2.2.2.2.2.1 u (at_map hu)) (k h r h' hf p l e s m args below meth cd γ ρ0 β0 h0 ρ β τ H locs cells slots lsA hx hv ⟨trivial, hw⟩)
theorem cw_aload_n {d : MD} {c q pc : Nat} {ls : List (Nat × CV)} {st : List CV} {f : GF} {j : Fin 4} {i x : Nat} (hd : decode d.cc pc = .ok (.aload_n j, 1)) (hi : (j : Nat) = i) (u : Nat) (hu : ls[u]? = some (i, cR x)) (k : CWF d c q (pc + 1) ls (cR x :: st) f) : CWF d c q pc ls st f := by
  intro h r h' hf p l e s m args below meth cd γ ρ0 β0 h0 ρ β τ H locs cells slots lsA hx hv hw
  have hm := List.mem_of_getElem? hu
  have hk := k h r h' hf p l e s m args below meth cd γ ρ0 β0 h0 ρ β τ H locs cells slots lsA hx hv ⟨hv.2.2.2.2.1 _ hm, hw⟩
  have hl : lsA[i]? = some (.val (va_rf (ro ρ x))) := lv_at hv.2.2.2.2.2.2.1 u (at_map hu)
  have e2 : (cR x :: st).map (pv ρ) = va_rf (ro ρ x) :: st.map (pv ρ) := rfl
  rw [e2] at hk
  cases hr : ro ρ x with
  | none =>
    rw [hr] at hl hk
    exact lv_aload_nN hx.1 hx.2.1 hd hi hl hk
  | some b =>
    rw [hr] at hl hk
    exact lv_aload_n hx.1 hx.2.1 hd hi hl hk
theorem cw_aload {d : MD} {c q pc : Nat} {ls : List (Nat × CV)} {st : List CV} {f : GF} {i x : Nat} (hd : decode d.cc pc = .ok (.aload i, 2)) (u : Nat) (hu : ls[u]? = some (i, cR x)) (k : CWF d c q (pc + 2) ls (cR x :: st) f) : CWF d c q pc ls st f := by
  intro h r h' hf p l e s m args below meth cd γ ρ0 β0 h0 ρ β τ H locs cells slots lsA hx hv hw
  have hm := List.mem_of_getElem? hu
  have hk := k h r h' hf p l e s m args below meth cd γ ρ0 β0 h0 ρ β τ H locs cells slots lsA hx hv ⟨hv.2.2.2.2.1 _ hm, hw⟩
  have hl : lsA[i]? = some (.val (va_rf (ro ρ x))) := lv_at hv.2.2.2.2.2.2.1 u (at_map hu)
  have e2 : (cR x :: st).map (pv ρ) = va_rf (ro ρ x) :: st.map (pv ρ) := rfl
  rw [e2] at hk
  cases hr : ro ρ x with
  | none =>
    rw [hr] at hl hk
    exact lv_aloadN hx.1 hx.2.1 hd hl hk
  | some b =>
    rw [hr] at hl hk
    exact lv_aload hx.1 hx.2.1 hd hl hk
/-- the locals after a store into place i -/
def stL (i : Nat) (v : CV) (ls : List (Nat × CV)) : List (Nat × CV) := (i, v) :: ls.filter (fun q => !(q.1 == i) && !(q.1 + 1 == i && cat q.2 == 2))
def stL2 (i : Nat) (v : CV) (ls : List (Nat × CV)) : List (Nat × CV) := (i, v) :: ls.filter (fun q => !(q.1 == i) && (!(q.1 == i + 1) && !(q.1 + 1 == i && cat q.2 == 2)))
theorem stL_map {ρ τ : Nat → Nat} {i : Nat} {v : CV} {ls ls' : List (Nat × CV)} (hl : stL i v ls = ls') : (pl ρ τ (i, v)) :: (ls.map (pl ρ τ)).filter (fun q => !(q.1 == i) && !(q.1 + 1 == i && q.2.category == 2)) = ls'.map (pl ρ τ) := by
  subst hl
  unfold stL
  rw [List.map_cons, List.filter_map]
  congr 3
  funext q
  simp only [Function.comp, pl_fst, pl_cat]
theorem stL2_map {ρ τ : Nat → Nat} {i : Nat} {v : CV} {ls ls' : List (Nat × CV)} (hl : stL2 i v ls = ls') : (pl ρ τ (i, v)) :: (ls.map (pl ρ τ)).filter (fun q => !(q.1 == i) && (!(q.1 == i + 1) && !(q.1 + 1 == i && q.2.category == 2))) = ls'.map (pl ρ τ) := by
  subst hl
  unfold stL2
  rw [List.map_cons, List.filter_map]
  congr 3
  funext q
  simp only [Function.comp, pl_fst, pl_cat]
theorem vy_ls {d : MD} {c k : Nat} {γ : GC} {ρ0 β0 : Nat → Nat} {h0 : HP} {s : State} {ρ β τ : Nat → Nat} {ls ls' : List (Nat × CV)} {h : HP} {H : Heap} {locs : List Loc} {cells slots : Nat} {lsA lsB : Array Slot} (hv : Vy d c k γ ρ0 β0 h0 s ρ β τ ls h H locs cells slots lsA)
    (hs : ∀ q ∈ ls', q ∈ ls ∨ (isT q.2 = false ∧ wfl h.n q.2)) (hl : lv_has lsB d.nL (ls'.map (pl ρ τ))) : Vy d c k γ ρ0 β0 h0 s ρ β τ ls' h H locs cells slots lsB := by
  obtain ⟨v1, v2, v3, ⟨v4, v4b⟩, v5, v6, -, v8⟩ := hv
  refine ⟨v1, v2, v3, ⟨fun i a m j hq => ?_, fun i i' v v' h1 h2 t1 t2 => ?_⟩, fun q hq => ?_, v6, hl, v8⟩
  · rcases hs _ hq with h1 | h1
    · exact v4 i a m j h1
    · exact absurd h1.1 (by simp [isT])
  · rcases hs _ h1 with g1 | g1
    · rcases hs _ h2 with g2 | g2
      · exact v4b i i' v v' g1 g2 t1 t2
      · exact absurd t2 (by rw [g2.1]; decide)
    · exact absurd t1 (by rw [g1.1]; decide)
  · rcases hs _ hq with h1 | h1
    · exact v5 q h1
    · exact h1.2
theorem stL_sub {h : HP} {i : Nat} {v : CV} {ls ls' : List (Nat × CV)} (hl : stL i v ls = ls') (ht : isT v = false) (hw : wfl h.n v) : ∀ q ∈ ls', q ∈ ls ∨ (isT q.2 = false ∧ wfl h.n q.2) := by
  subst hl
  intro q hq
  rcases List.mem_cons.mp hq with rfl | hq
  · exact Or.inr ⟨ht, hw⟩
  · exact Or.inl (List.mem_filter.mp hq).1
theorem stL2_sub {h : HP} {i : Nat} {v : CV} {ls ls' : List (Nat × CV)} (hl : stL2 i v ls = ls') (ht : isT v = false) (hw : wfl h.n v) : ∀ q ∈ ls', q ∈ ls ∨ (isT q.2 = false ∧ wfl h.n q.2) := by
  subst hl
  intro q hq
  rcases List.mem_cons.mp hq with rfl | hq
  · exact Or.inr ⟨ht, hw⟩
  · exact Or.inl (List.mem_filter.mp hq).1
theorem cw_istore_n {d : MD} {c q pc : Nat} {ls ls' : List (Nat × CV)} {st : List CV} {f : GF} {j : Fin 4} {i : Nat} {x : Int32} (hd : decode d.cc pc = .ok (.istore_n j, 1)) (hi : (j : Nat) = i) (hn : i < d.nL) (hl : stL i (cI x) ls = ls') (k : CWF d c q (pc + 1) ls' st f) : CWF d c q pc ls (cI x :: st) f := by
  intro h r h' hf p l e s m args below meth cd γ ρ0 β0 h0 ρ β τ H locs cells slots lsA hx hv hw
  exact lv_istore_n hx.1 hx.2.1 hd hi hv.2.2.2.2.2.2.1 hn (stL_map hl) (fun lsB hB => k h r h' hf p l e s m args below meth cd γ ρ0 β0 h0 ρ β τ H locs cells slots lsB hx (vy_ls hv (stL_sub hl rfl trivial) hB) hw.2)
theorem cw_istore {d : MD} {c q pc : Nat} {ls ls' : List (Nat × CV)} {st : List CV} {f : GF} {i : Nat} {x : Int32} (hd : decode d.cc pc = .ok (.istore i, 2)) (hn : i < d.nL) (hl : stL i (cI x) ls = ls') (k : CWF d c q (pc + 2) ls' st f) : CWF d c q pc ls (cI x :: st) f := by
  intro h r h' hf p l e s m args below meth cd γ ρ0 β0 h0 ρ β τ H locs cells slots lsA hx hv hw
  exact lv_istore hx.1 hx.2.1 hd hv.2.2.2.2.2.2.1 hn (stL_map hl) (fun lsB hB => k h r h' hf p l e s m args below meth cd γ ρ0 β0 h0 ρ β τ H locs cells slots lsB hx (vy_ls hv (stL_sub hl rfl trivial) hB) hw.2)
theorem cw_lstore_n {d : MD} {c q pc : Nat} {ls ls' : List (Nat × CV)} {st : List CV} {f : GF} {j : Fin 4} {i : Nat} {x : Int64} (hd : decode d.cc pc = .ok (.lstore_n j, 1)) (hi : (j : Nat) = i) (hn : i + 1 < d.nL) (hl : stL2 i (cJ x) ls = ls') (k : CWF d c q (pc + 1) ls' st f) : CWF d c q pc ls (cJ x :: st) f := by
  intro h r h' hf p l e s m args below meth cd γ ρ0 β0 h0 ρ β τ H locs cells slots lsA hx hv hw
  exact lv_lstore_n hx.1 hx.2.1 hd hi hv.2.2.2.2.2.2.1 hn (stL2_map hl) (fun lsB hB => k h r h' hf p l e s m args below meth cd γ ρ0 β0 h0 ρ β τ H locs cells slots lsB hx (vy_ls hv (stL2_sub hl rfl trivial) hB) hw.2)
theorem cw_lstore {d : MD} {c q pc : Nat} {ls ls' : List (Nat × CV)} {st : List CV} {f : GF} {i : Nat} {x : Int64} (hd : decode d.cc pc = .ok (.lstore i, 2)) (hn : i + 1 < d.nL) (hl : stL2 i (cJ x) ls = ls') (k : CWF d c q (pc + 2) ls' st f) : CWF d c q pc ls (cJ x :: st) f := by
  intro h r h' hf p l e s m args below meth cd γ ρ0 β0 h0 ρ β τ H locs cells slots lsA hx hv hw
  exact lv_lstore hx.1 hx.2.1 hd hv.2.2.2.2.2.2.1 hn (stL2_map hl) (fun lsB hB => k h r h' hf p l e s m args below meth cd γ ρ0 β0 h0 ρ β τ H locs cells slots lsB hx (vy_ls hv (stL2_sub hl rfl trivial) hB) hw.2)
theorem cw_dstore_n {d : MD} {c q pc : Nat} {ls ls' : List (Nat × CV)} {st : List CV} {f : GF} {j : Fin 4} {i : Nat} {x : UInt64} (hd : decode d.cc pc = .ok (.dstore_n j, 1)) (hi : (j : Nat) = i) (hn : i + 1 < d.nL) (hl : stL2 i (cD x) ls = ls') (k : CWF d c q (pc + 1) ls' st f) : CWF d c q pc ls (cD x :: st) f := by
  intro h r h' hf p l e s m args below meth cd γ ρ0 β0 h0 ρ β τ H locs cells slots lsA hx hv hw
  exact lv_dstore_n hx.1 hx.2.1 hd hi hv.2.2.2.2.2.2.1 hn (stL2_map hl) (fun lsB hB => k h r h' hf p l e s m args below meth cd γ ρ0 β0 h0 ρ β τ H locs cells slots lsB hx (vy_ls hv (stL2_sub hl rfl trivial) hB) hw.2)
theorem cw_dstore {d : MD} {c q pc : Nat} {ls ls' : List (Nat × CV)} {st : List CV} {f : GF} {i : Nat} {x : UInt64} (hd : decode d.cc pc = .ok (.dstore i, 2)) (hn : i + 1 < d.nL) (hl : stL2 i (cD x) ls = ls') (k : CWF d c q (pc + 2) ls' st f) : CWF d c q pc ls (cD x :: st) f := by
  intro h r h' hf p l e s m args below meth cd γ ρ0 β0 h0 ρ β τ H locs cells slots lsA hx hv hw
  exact lv_dstore hx.1 hx.2.1 hd hv.2.2.2.2.2.2.1 hn (stL2_map hl) (fun lsB hB => k h r h' hf p l e s m args below meth cd γ ρ0 β0 h0 ρ β τ H locs cells slots lsB hx (vy_ls hv (stL2_sub hl rfl trivial) hB) hw.2)
theorem cw_astore_n {d : MD} {c q pc : Nat} {ls ls' : List (Nat × CV)} {st : List CV} {f : GF} {j : Fin 4} {i x : Nat} (hd : decode d.cc pc = .ok (.astore_n j, 1)) (hi : (j : Nat) = i) (hn : i < d.nL) (hl : stL i (cR x) ls = ls') (k : CWF d c q (pc + 1) ls' st f) : CWF d c q pc ls (cR x :: st) f := by
  intro h r h' hf p l e s m args below meth cd γ ρ0 β0 h0 ρ β τ H locs cells slots lsA hx hv hw
  have hk := fun lsB hB => k h r h' hf p l e s m args below meth cd γ ρ0 β0 h0 ρ β τ H locs cells slots lsB hx (vy_ls hv (stL_sub hl rfl hw.1) hB) hw.2
  have hm := stL_map (ρ := ρ) (τ := τ) hl
  have e1 : (pl ρ τ (i, cR x)) = (i, va_rf (ro ρ x)) := rfl
  rw [e1] at hm
  show W _ _ _ _ _ _ _ _ _ _ _ _ _ _ _ (F0 m pc lsA (va_rf (ro ρ x) :: st.map (pv ρ)))
  cases hr : ro ρ x with
  | none =>
    rw [hr] at hm
    exact lv_astore_nN hx.1 hx.2.1 hd hi hv.2.2.2.2.2.2.1 hn hm hk
  | some b =>
    rw [hr] at hm
    exact lv_astore_n hx.1 hx.2.1 hd hi hv.2.2.2.2.2.2.1 hn hm hk
theorem cw_astore {d : MD} {c q pc : Nat} {ls ls' : List (Nat × CV)} {st : List CV} {f : GF} {i x : Nat} (hd : decode d.cc pc = .ok (.astore i, 2)) (hn : i < d.nL) (hl : stL i (cR x) ls = ls') (k : CWF d c q (pc + 2) ls' st f) : CWF d c q pc ls (cR x :: st) f := by
  intro h r h' hf p l e s m args below meth cd γ ρ0 β0 h0 ρ β τ H locs cells slots lsA hx hv hw
  have hk := fun lsB hB => k h r h' hf p l e s m args below meth cd γ ρ0 β0 h0 ρ β τ H locs cells slots lsB hx (vy_ls hv (stL_sub hl rfl hw.1) hB) hw.2
  have hm := stL_map (ρ := ρ) (τ := τ) hl
  have e1 : (pl ρ τ (i, cR x)) = (i, va_rf (ro ρ x)) := rfl
  rw [e1] at hm
  show W _ _ _ _ _ _ _ _ _ _ _ _ _ _ _ (F0 m pc lsA (va_rf (ro ρ x) :: st.map (pv ρ)))
  cases hr : ro ρ x with
  | none =>
    rw [hr] at hm
    exact lv_astoreN hx.1 hx.2.1 hd hv.2.2.2.2.2.2.1 hn hm hk
  | some b =>
    rw [hr] at hm
    exact lv_astore hx.1 hx.2.1 hd hv.2.2.2.2.2.2.1 hn hm hk
theorem cw_iinc {d : MD} {c q pc : Nat} {ls ls' : List (Nat × CV)} {st : List CV} {f : GF} {i : Nat} {n : Int} {x v : Int32} (hd : decode d.cc pc = .ok (.iinc i n, 3)) (u : Nat) (hu : ls[u]? = some (i, cI x)) (hv0 : x + Int32.ofInt n = v) (hn : i < d.nL) (hl : stL i (cI v) ls = ls') (k : CWF d c q (pc + 3) ls' st f) : CWF d c q pc ls st f := by
  intro h r h' hf p l e s m args below meth cd γ ρ0 β0 h0 ρ β τ H locs cells slots lsA hx hv hw
  exact lv_iinc hx.1 hx.2.1 hd hv.2.2.2.2.2.2.1 (at_map hu) hv0 hn (stL_map hl) (fun lsB hB => k h r h' hf p l e s m args below meth cd γ ρ0 β0 h0 ρ β τ H locs cells slots lsB hx (vy_ls hv (stL_sub hl rfl trivial) hB) hw)
/-- fewer locals, in another order -/
theorem cw_sub {d : MD} {c q pc : Nat} {ls ls' : List (Nat × CV)} {st : List CV} {f : GF} (ks : List Nat) (hl : ks.filterMap (fun i => ls[i]?) = ls') (k : CWF d c q pc ls' st f) : CWF d c q pc ls st f := by
  intro h r h' hf p l e s m args below meth cd γ ρ0 β0 h0 ρ β τ H locs cells slots lsA hx hv hw
  refine k h r h' hf p l e s m args below meth cd γ ρ0 β0 h0 ρ β τ H locs cells slots lsA hx (vy_ls hv ?_ ?_) hw
  · subst hl
    intro z hz
    obtain ⟨i, -, hi⟩ := List.mem_filterMap.mp hz
    exact Or.inl (List.mem_of_getElem? hi)
  · refine lv_sub hv.2.2.2.2.2.2.1 ks ?_
    subst hl
    unfold lv_pick
    rw [List.map_filterMap]
    congr 1
    funext i
    rw [List.getElem?_map]
/-- more cells and slots asked than needed -/
theorem cw_weak {d : MD} {c q c' q' pc : Nat} {ls : List (Nat × CV)} {st : List CV} {f : GF} (hc : c' ≤ c) (hq : q' ≤ q) (k : CWF d c' q' pc ls st f) : CWF d c q pc ls st f := by
  intro h r h' hf p l e s m args below meth cd γ ρ0 β0 h0 ρ β τ H locs cells slots lsA hx hv hw
  obtain ⟨v1, v2, v3, v4, v5, v6, v7, v8, v9⟩ := hv
  exact k h r h' hf p l e s m args below meth cd γ ρ0 β0 h0 ρ β τ H locs cells slots lsA hx ⟨v1, v2, v3, v4, v5, v6, v7, by omega, by omega⟩ hw
theorem cw_goto {d : MD} {c q pc tgt : Nat} {off : Int} {ls : List (Nat × CV)} {st : List CV} {f : GF} (hd : decode d.cc pc = .ok (.goto off, 3)) (ht : (pc : Int) + off = (tgt : Int)) (k : CWF d c q tgt ls st f) : CWF d c q pc ls st f := by
  intro h r h' hf p l e s m args below meth cd γ ρ0 β0 h0 ρ β τ H locs cells slots lsA hx hv hw
  exact lv_goto hx.1 hx.2.1 hd ht (k h r h' hf p l e s m args below meth cd γ ρ0 β0 h0 ρ β τ H locs cells slots lsA hx hv hw)
theorem cat1 {ρ : Nat → Nat} {v : CV} (h : cat v = 1) : (pv ρ v).category = 1 := (pv_cat ρ v).trans h
theorem cw_dup {d : MD} {c q pc : Nat} {ls : List (Nat × CV)} {st : List CV} {f : GF} {x : CV} (hd : decode d.cc pc = .ok (.dup, 1)) (hc : cat x = 1) (k : CWF d c q (pc + 1) ls (x :: x :: st) f) : CWF d c q pc ls (x :: st) f := by
  intro h r h' hf p l e s m args below meth cd γ ρ0 β0 h0 ρ β τ H locs cells slots lsA hx hv hw
  exact lv_dup hx.1 hx.2.1 hd (cat1 hc) (k h r h' hf p l e s m args below meth cd γ ρ0 β0 h0 ρ β τ H locs cells slots lsA hx hv ⟨hw.1, hw⟩)
theorem cw_pop {d : MD} {c q pc : Nat} {ls : List (Nat × CV)} {st : List CV} {f : GF} {x : CV} (hd : decode d.cc pc = .ok (.pop, 1)) (hc : cat x = 1) (k : CWF d c q (pc + 1) ls st f) : CWF d c q pc ls (x :: st) f := by
  intro h r h' hf p l e s m args below meth cd γ ρ0 β0 h0 ρ β τ H locs cells slots lsA hx hv hw
  exact lv_pop hx.1 hx.2.1 hd (cat1 hc) (k h r h' hf p l e s m args below meth cd γ ρ0 β0 h0 ρ β τ H locs cells slots lsA hx hv hw.2)
theorem cw_dup_x1 {d : MD} {c q pc : Nat} {ls : List (Nat × CV)} {st : List CV} {f : GF} {x y : CV} (hd : decode d.cc pc = .ok (.dup_x1, 1)) (hc : cat x = 1) (hc2 : cat y = 1) (k : CWF d c q (pc + 1) ls (x :: y :: x :: st) f) : CWF d c q pc ls (x :: y :: st) f := by
  intro h r h' hf p l e s m args below meth cd γ ρ0 β0 h0 ρ β τ H locs cells slots lsA hx hv hw
  exact lv_dup_x1 hx.1 hx.2.1 hd (cat1 hc) (cat1 hc2) (k h r h' hf p l e s m args below meth cd γ ρ0 β0 h0 ρ β τ H locs cells slots lsA hx hv ⟨hw.1, hw.2.1, hw.1, hw.2.2⟩)
theorem cw_dup2 {d : MD} {c q pc : Nat} {ls : List (Nat × CV)} {st : List CV} {f : GF} {x y : CV} (hd : decode d.cc pc = .ok (.dup2, 1)) (hc : cat x = 1) (hc2 : cat y = 1) (k : CWF d c q (pc + 1) ls (x :: y :: x :: y :: st) f) : CWF d c q pc ls (x :: y :: st) f := by
  intro h r h' hf p l e s m args below meth cd γ ρ0 β0 h0 ρ β τ H locs cells slots lsA hx hv hw
  exact lv_dup2_11 hx.1 hx.2.1 hd (cat1 hc) (cat1 hc2) (k h r h' hf p l e s m args below meth cd γ ρ0 β0 h0 ρ β τ H locs cells slots lsA hx hv ⟨hw.1, hw.2.1, hw.1, hw.2.1, hw.2.2⟩)
theorem cw_null {d : MD} {c q pc : Nat} {ls : List (Nat × CV)} {st : List CV} {f : GF} (hd : decode d.cc pc = .ok (.aconst_null, 1)) (k : CWF d c q (pc + 1) ls (cR 0 :: st) f) : CWF d c q pc ls st f := by
  intro h r h' hf p l e s m args below meth cd γ ρ0 β0 h0 ρ β τ H locs cells slots lsA hx hv hw
  exact lv_null hx.1 hx.2.1 hd (k h r h' hf p l e s m args below meth cd γ ρ0 β0 h0 ρ β τ H locs cells slots lsA hx hv ⟨Nat.lt_of_lt_of_le (by decide) hv.2.2.1.1, hw⟩)
theorem cw_if_eq {d : MD} {c q pc tgt : Nat} {off : Int} {ls : List (Nat × CV)} {st : List CV} {f g : GF} {x : Int32} (hd : decode d.cc pc = .ok (.ifCond .eq off, 3)) (ht : (pc : Int) + off = (tgt : Int)) (kt : CWF d c q tgt ls st f) (kf : CWF d c q (pc + 3) ls st g) : CWF d c q pc ls (cI x :: st) (if x = 0 then f else g) := by
  intro h r h' hf p l e s m args below meth cd γ ρ0 β0 h0 ρ β τ H locs cells slots lsA hx hv hw
  refine lv_if_eq hx.1 hx.2.1 hd ht (fun hc => ?_) (fun hc => ?_)
  · rw [if_pos (by first | exact hc | omega | exact Int32.not_lt.mp hc | exact Int32.not_le.mp hc | exact Int32.lt_of_not_ge hc)] at hf
    exact kt h r h' hf p l e s m args below meth cd γ ρ0 β0 h0 ρ β τ H locs cells slots lsA hx hv hw.2
  · rw [if_neg (by first | exact hc | omega | exact fun h9 => hc (Int32.not_le.mpr h9) | exact fun h9 => absurd h9 (Int32.not_lt.mpr hc) | exact fun h9 => absurd h9 (Int32.not_le.mpr hc))] at hf
    exact kf h r h' hf p l e s m args below meth cd γ ρ0 β0 h0 ρ β τ H locs cells slots lsA hx hv hw.2
theorem cw_if_ne {d : MD} {c q pc tgt : Nat} {off : Int} {ls : List (Nat × CV)} {st : List CV} {f g : GF} {x : Int32} (hd : decode d.cc pc = .ok (.ifCond .ne off, 3)) (ht : (pc : Int) + off = (tgt : Int)) (kt : CWF d c q tgt ls st g) (kf : CWF d c q (pc + 3) ls st f) : CWF d c q pc ls (cI x :: st) (if x = 0 then f else g) := by
  intro h r h' hf p l e s m args below meth cd γ ρ0 β0 h0 ρ β τ H locs cells slots lsA hx hv hw
  refine lv_if_ne hx.1 hx.2.1 hd ht (fun hc => ?_) (fun hc => ?_)
  · rw [if_neg (by first | exact hc | omega | exact fun h9 => absurd h9 (Int32.not_lt.mpr hc) | exact fun h9 => absurd h9 (Int32.not_le.mpr hc))] at hf
    exact kt h r h' hf p l e s m args below meth cd γ ρ0 β0 h0 ρ β τ H locs cells slots lsA hx hv hw.2
  · rw [if_pos (by first | exact hc | exact Int32.not_le.mp hc | exact Int32.not_lt.mp hc | exact Classical.not_not.mp hc)] at hf
    exact kf h r h' hf p l e s m args below meth cd γ ρ0 β0 h0 ρ β τ H locs cells slots lsA hx hv hw.2
theorem cw_if_lt {d : MD} {c q pc tgt : Nat} {off : Int} {ls : List (Nat × CV)} {st : List CV} {f g : GF} {x : Int32} (hd : decode d.cc pc = .ok (.ifCond .lt off, 3)) (ht : (pc : Int) + off = (tgt : Int)) (kt : CWF d c q tgt ls st f) (kf : CWF d c q (pc + 3) ls st g) : CWF d c q pc ls (cI x :: st) (if x < 0 then f else g) := by
  intro h r h' hf p l e s m args below meth cd γ ρ0 β0 h0 ρ β τ H locs cells slots lsA hx hv hw
  refine lv_if_lt hx.1 hx.2.1 hd ht (fun hc => ?_) (fun hc => ?_)
  · rw [if_pos (by first | exact hc | omega | exact Int32.not_lt.mp hc | exact Int32.not_le.mp hc | exact Int32.lt_of_not_ge hc)] at hf
    exact kt h r h' hf p l e s m args below meth cd γ ρ0 β0 h0 ρ β τ H locs cells slots lsA hx hv hw.2
  · rw [if_neg (by first | exact hc | omega | exact fun h9 => hc (Int32.not_le.mpr h9) | exact fun h9 => absurd h9 (Int32.not_lt.mpr hc) | exact fun h9 => absurd h9 (Int32.not_le.mpr hc))] at hf
    exact kf h r h' hf p l e s m args below meth cd γ ρ0 β0 h0 ρ β τ H locs cells slots lsA hx hv hw.2
theorem cw_if_ge {d : MD} {c q pc tgt : Nat} {off : Int} {ls : List (Nat × CV)} {st : List CV} {f g : GF} {x : Int32} (hd : decode d.cc pc = .ok (.ifCond .ge off, 3)) (ht : (pc : Int) + off = (tgt : Int)) (kt : CWF d c q tgt ls st g) (kf : CWF d c q (pc + 3) ls st f) : CWF d c q pc ls (cI x :: st) (if x < 0 then f else g) := by
  intro h r h' hf p l e s m args below meth cd γ ρ0 β0 h0 ρ β τ H locs cells slots lsA hx hv hw
  refine lv_if_ge hx.1 hx.2.1 hd ht (fun hc => ?_) (fun hc => ?_)
  · rw [if_neg (by first | exact hc | omega | exact fun h9 => absurd h9 (Int32.not_lt.mpr hc) | exact fun h9 => absurd h9 (Int32.not_le.mpr hc))] at hf
    exact kt h r h' hf p l e s m args below meth cd γ ρ0 β0 h0 ρ β τ H locs cells slots lsA hx hv hw.2
  · rw [if_pos (by first | exact hc | exact Int32.not_le.mp hc | exact Int32.not_lt.mp hc | exact Classical.not_not.mp hc)] at hf
    exact kf h r h' hf p l e s m args below meth cd γ ρ0 β0 h0 ρ β τ H locs cells slots lsA hx hv hw.2
theorem cw_if_gt {d : MD} {c q pc tgt : Nat} {off : Int} {ls : List (Nat × CV)} {st : List CV} {f g : GF} {x : Int32} (hd : decode d.cc pc = .ok (.ifCond .gt off, 3)) (ht : (pc : Int) + off = (tgt : Int)) (kt : CWF d c q tgt ls st g) (kf : CWF d c q (pc + 3) ls st f) : CWF d c q pc ls (cI x :: st) (if x ≤ 0 then f else g) := by
  intro h r h' hf p l e s m args below meth cd γ ρ0 β0 h0 ρ β τ H locs cells slots lsA hx hv hw
  refine lv_if_gt hx.1 hx.2.1 hd ht (fun hc => ?_) (fun hc => ?_)
  · rw [if_neg (by first | exact hc | omega | exact fun h9 => absurd h9 (Int32.not_lt.mpr hc) | exact fun h9 => absurd h9 (Int32.not_le.mpr hc))] at hf
    exact kt h r h' hf p l e s m args below meth cd γ ρ0 β0 h0 ρ β τ H locs cells slots lsA hx hv hw.2
  · rw [if_pos (by first | exact hc | exact Int32.not_le.mp hc | exact Int32.not_lt.mp hc | exact Classical.not_not.mp hc)] at hf
    exact kf h r h' hf p l e s m args below meth cd γ ρ0 β0 h0 ρ β τ H locs cells slots lsA hx hv hw.2
theorem cw_if_le {d : MD} {c q pc tgt : Nat} {off : Int} {ls : List (Nat × CV)} {st : List CV} {f g : GF} {x : Int32} (hd : decode d.cc pc = .ok (.ifCond .le off, 3)) (ht : (pc : Int) + off = (tgt : Int)) (kt : CWF d c q tgt ls st f) (kf : CWF d c q (pc + 3) ls st g) : CWF d c q pc ls (cI x :: st) (if x ≤ 0 then f else g) := by
  intro h r h' hf p l e s m args below meth cd γ ρ0 β0 h0 ρ β τ H locs cells slots lsA hx hv hw
  refine lv_if_le hx.1 hx.2.1 hd ht (fun hc => ?_) (fun hc => ?_)
  · rw [if_pos (by first | exact hc | omega | exact Int32.not_lt.mp hc | exact Int32.not_le.mp hc | exact Int32.lt_of_not_ge hc)] at hf
    exact kt h r h' hf p l e s m args below meth cd γ ρ0 β0 h0 ρ β τ H locs cells slots lsA hx hv hw.2
  · rw [if_neg (by first | exact hc | omega | exact fun h9 => hc (Int32.not_le.mpr h9) | exact fun h9 => absurd h9 (Int32.not_lt.mpr hc) | exact fun h9 => absurd h9 (Int32.not_le.mpr hc))] at hf
    exact kf h r h' hf p l e s m args below meth cd γ ρ0 β0 h0 ρ β τ H locs cells slots lsA hx hv hw.2
theorem cw_icmp_eq {d : MD} {c q pc tgt : Nat} {off : Int} {ls : List (Nat × CV)} {st : List CV} {f g : GF} {x y : Int32} (hd : decode d.cc pc = .ok (.if_icmp .eq off, 3)) (ht : (pc : Int) + off = (tgt : Int)) (kt : CWF d c q tgt ls st f) (kf : CWF d c q (pc + 3) ls st g) : CWF d c q pc ls (cI y :: cI x :: st) (if x = y then f else g) := by
  intro h r h' hf p l e s m args below meth cd γ ρ0 β0 h0 ρ β τ H locs cells slots lsA hx hv hw
  refine lv_icmp_eq hx.1 hx.2.1 hd ht (fun hc => ?_) (fun hc => ?_)
  · rw [if_pos (by first | exact hc | omega | exact Int32.not_lt.mp hc | exact Int32.not_le.mp hc | exact Int32.lt_of_not_ge hc)] at hf
    exact kt h r h' hf p l e s m args below meth cd γ ρ0 β0 h0 ρ β τ H locs cells slots lsA hx hv hw.2.2
  · rw [if_neg (by first | exact hc | omega | exact fun h9 => hc (Int32.not_le.mpr h9) | exact fun h9 => absurd h9 (Int32.not_lt.mpr hc) | exact fun h9 => absurd h9 (Int32.not_le.mpr hc))] at hf
    exact kf h r h' hf p l e s m args below meth cd γ ρ0 β0 h0 ρ β τ H locs cells slots lsA hx hv hw.2.2
theorem cw_icmp_ne {d : MD} {c q pc tgt : Nat} {off : Int} {ls : List (Nat × CV)} {st : List CV} {f g : GF} {x y : Int32} (hd : decode d.cc pc = .ok (.if_icmp .ne off, 3)) (ht : (pc : Int) + off = (tgt : Int)) (kt : CWF d c q tgt ls st g) (kf : CWF d c q (pc + 3) ls st f) : CWF d c q pc ls (cI y :: cI x :: st) (if x = y then f else g) := by
  intro h r h' hf p l e s m args below meth cd γ ρ0 β0 h0 ρ β τ H locs cells slots lsA hx hv hw
  refine lv_icmp_ne hx.1 hx.2.1 hd ht (fun hc => ?_) (fun hc => ?_)
  · rw [if_neg (by first | exact hc | omega | exact fun h9 => absurd h9 (Int32.not_lt.mpr hc) | exact fun h9 => absurd h9 (Int32.not_le.mpr hc))] at hf
    exact kt h r h' hf p l e s m args below meth cd γ ρ0 β0 h0 ρ β τ H locs cells slots lsA hx hv hw.2.2
  · rw [if_pos (by first | exact hc | exact Int32.not_le.mp hc | exact Int32.not_lt.mp hc | exact Classical.not_not.mp hc)] at hf
    exact kf h r h' hf p l e s m args below meth cd γ ρ0 β0 h0 ρ β τ H locs cells slots lsA hx hv hw.2.2
theorem cw_icmp_lt {d : MD} {c q pc tgt : Nat} {off : Int} {ls : List (Nat × CV)} {st : List CV} {f g : GF} {x y : Int32} (hd : decode d.cc pc = .ok (.if_icmp .lt off, 3)) (ht : (pc : Int) + off = (tgt : Int)) (kt : CWF d c q tgt ls st f) (kf : CWF d c q (pc + 3) ls st g) : CWF d c q pc ls (cI y :: cI x :: st) (if x < y then f else g) := by
  intro h r h' hf p l e s m args below meth cd γ ρ0 β0 h0 ρ β τ H locs cells slots lsA hx hv hw
  refine lv_icmp_lt hx.1 hx.2.1 hd ht (fun hc => ?_) (fun hc => ?_)
  · rw [if_pos (by first | exact hc | omega | exact Int32.not_lt.mp hc | exact Int32.not_le.mp hc | exact Int32.lt_of_not_ge hc)] at hf
    exact kt h r h' hf p l e s m args below meth cd γ ρ0 β0 h0 ρ β τ H locs cells slots lsA hx hv hw.2.2
  · rw [if_neg (by first | exact hc | omega | exact fun h9 => hc (Int32.not_le.mpr h9) | exact fun h9 => absurd h9 (Int32.not_lt.mpr hc) | exact fun h9 => absurd h9 (Int32.not_le.mpr hc))] at hf
    exact kf h r h' hf p l e s m args below meth cd γ ρ0 β0 h0 ρ β τ H locs cells slots lsA hx hv hw.2.2
theorem cw_icmp_ge {d : MD} {c q pc tgt : Nat} {off : Int} {ls : List (Nat × CV)} {st : List CV} {f g : GF} {x y : Int32} (hd : decode d.cc pc = .ok (.if_icmp .ge off, 3)) (ht : (pc : Int) + off = (tgt : Int)) (kt : CWF d c q tgt ls st g) (kf : CWF d c q (pc + 3) ls st f) : CWF d c q pc ls (cI y :: cI x :: st) (if x < y then f else g) := by
  intro h r h' hf p l e s m args below meth cd γ ρ0 β0 h0 ρ β τ H locs cells slots lsA hx hv hw
  refine lv_icmp_ge hx.1 hx.2.1 hd ht (fun hc => ?_) (fun hc => ?_)
  · rw [if_neg (by first | exact hc | omega | exact fun h9 => absurd h9 (Int32.not_lt.mpr hc) | exact fun h9 => absurd h9 (Int32.not_le.mpr hc))] at hf
    exact kt h r h' hf p l e s m args below meth cd γ ρ0 β0 h0 ρ β τ H locs cells slots lsA hx hv hw.2.2
  · rw [if_pos (by first | exact hc | exact Int32.not_le.mp hc | exact Int32.not_lt.mp hc | exact Classical.not_not.mp hc)] at hf
    exact kf h r h' hf p l e s m args below meth cd γ ρ0 β0 h0 ρ β τ H locs cells slots lsA hx hv hw.2.2
theorem cw_icmp_gt {d : MD} {c q pc tgt : Nat} {off : Int} {ls : List (Nat × CV)} {st : List CV} {f g : GF} {x y : Int32} (hd : decode d.cc pc = .ok (.if_icmp .gt off, 3)) (ht : (pc : Int) + off = (tgt : Int)) (kt : CWF d c q tgt ls st g) (kf : CWF d c q (pc + 3) ls st f) : CWF d c q pc ls (cI y :: cI x :: st) (if x ≤ y then f else g) := by
  intro h r h' hf p l e s m args below meth cd γ ρ0 β0 h0 ρ β τ H locs cells slots lsA hx hv hw
  refine lv_icmp_gt hx.1 hx.2.1 hd ht (fun hc => ?_) (fun hc => ?_)
  · rw [if_neg (by first | exact hc | omega | exact fun h9 => absurd h9 (Int32.not_lt.mpr hc) | exact fun h9 => absurd h9 (Int32.not_le.mpr hc))] at hf
    exact kt h r h' hf p l e s m args below meth cd γ ρ0 β0 h0 ρ β τ H locs cells slots lsA hx hv hw.2.2
  · rw [if_pos (by first | exact hc | exact Int32.not_le.mp hc | exact Int32.not_lt.mp hc | exact Classical.not_not.mp hc)] at hf
    exact kf h r h' hf p l e s m args below meth cd γ ρ0 β0 h0 ρ β τ H locs cells slots lsA hx hv hw.2.2
theorem cw_icmp_le {d : MD} {c q pc tgt : Nat} {off : Int} {ls : List (Nat × CV)} {st : List CV} {f g : GF} {x y : Int32} (hd : decode d.cc pc = .ok (.if_icmp .le off, 3)) (ht : (pc : Int) + off = (tgt : Int)) (kt : CWF d c q tgt ls st f) (kf : CWF d c q (pc + 3) ls st g) : CWF d c q pc ls (cI y :: cI x :: st) (if x ≤ y then f else g) := by
  intro h r h' hf p l e s m args below meth cd γ ρ0 β0 h0 ρ β τ H locs cells slots lsA hx hv hw
  refine lv_icmp_le hx.1 hx.2.1 hd ht (fun hc => ?_) (fun hc => ?_)
  · rw [if_pos (by first | exact hc | omega | exact Int32.not_lt.mp hc | exact Int32.not_le.mp hc | exact Int32.lt_of_not_ge hc)] at hf
    exact kt h r h' hf p l e s m args below meth cd γ ρ0 β0 h0 ρ β τ H locs cells slots lsA hx hv hw.2.2
  · rw [if_neg (by first | exact hc | omega | exact fun h9 => hc (Int32.not_le.mpr h9) | exact fun h9 => absurd h9 (Int32.not_lt.mpr hc) | exact fun h9 => absurd h9 (Int32.not_le.mpr hc))] at hf
    exact kf h r h' hf p l e s m args below meth cd γ ρ0 β0 h0 ρ β τ H locs cells slots lsA hx hv hw.2.2
