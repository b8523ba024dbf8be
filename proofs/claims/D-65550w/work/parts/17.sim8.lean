/-! SIM 8: all instructions of a block -/
def gfd (own b k kd : Nat) (ins : Instr) (len : Nat) : Bool := match ins with
  | .getfield i => fany own i b k && (Nat.blt b 36 && (!(Nat.beq b 31) && (Nat.blt k (cx_N b) && (Nat.beq (cx_kt b k).1 kd && Nat.beq len 3))))
  | _ => false
def pfd (own : Nat) (ini : Bool) (b k kd : Nat) (ins : Instr) (len : Nat) : Bool := match ins with
  | .putfield i => fany own i b k && (Nat.blt b 36 && (!(Nat.beq b 31) && (Nat.blt k (cx_N b) && (Nat.beq (cx_kt b k).1 kd && (Nat.beq len 3 && (am_dyn b &&
      ((!(cx_T b k).2.2.2 || (ini && (fpl own i b k && decide ((cx_T b k).1 = cx_nm own)))) &&
      (bif Nat.beq kd 0 then decide (cx_ty b k = .int) else bif Nat.beq kd 6 then decide (cx_ty b k = .boolean) else (cx_ty b k).isReference))))))))
  | _ => false
def nar (own b c : Nat) (ins : Instr) (len : Nat) : Bool := match ins with
  | .newarray t => Nat.beq len 2 && (Nat.ble 1000 b && (Nat.blt b 6000 && (am_dyn b && (Nat.beq c (cx_s b) && (Nat.ble (cx_s b) 1000000 && decide (newarray.typeOf t = ety b))))))
  | .anewarray i => Nat.beq len 3 && (Nat.ble 6000 b && (am_dyn b && (Nat.beq c (cx_s b) && (Nat.ble (cx_s b) 1000000 && cany own i ((b - 6000) / 20) && (Nat.blt ((b - 6000) / 20) 36 && cx_ao ((b - 6000) / 20))))))
  | _ => false
def mt2 (own : Nat) (ini : Bool) (ins : Instr) (len op b c d : Nat) : Bool := match op with
  | 10 => gfd own b c 0 ins len
  | 16 => gfd own b c 6 ins len
  | 12 => gfd own b c 2 ins len && Nat.beq (cx_kt b c).2 d
  | 13 => gfd own b c 3 ins len && Nat.beq (cx_kt b c).2 d
  | 14 => gfd own b c 4 ins len && Nat.beq (cx_kt b c).2 d
  | 15 => gfd own b c 5 ins len && Nat.beq (cx_kt b c).2 d
  | 20 => pfd own ini b c 0 ins len
  | 26 => pfd own ini b c 6 ins len
  | 22 => pfd own ini b c 2 ins len && Nat.beq (cx_kt b c).2 d
  | 23 => pfd own ini b c 3 ins len && Nat.beq (cx_kt b c).2 d
  | 24 => pfd own ini b c 4 ins len && Nat.beq (cx_kt b c).2 d
  | 25 => pfd own ini b c 5 ins len && Nat.beq (cx_kt b c).2 d
  | 40 => nar own b c ins len
  | 41 => (match ins with
    | .new i => Nat.beq len 3 && (cany own i b && (Nat.blt b 36 && (!(Nat.beq b 31) && (am_dyn b && (cx_mk b && (Nat.beq d (cx_sl b) && Nat.beq c (b + 64)))))))
    | _ => false)
  | 50 => decide (ins = .arraylength ∧ len = 1) && (Nat.ble 1000 b && Nat.beq c (cx_s b))
  | 51 => Nat.beq c (cx_s b) && ((decide (ins = .iaload ∧ len = 1) && Nat.beq (b / 1000) 1) || ((decide (ins = .baload ∧ len = 1) && Nat.beq (b / 1000) 2) || ((decide (ins = .baload ∧ len = 1) && Nat.beq (b / 1000) 3) || (decide (ins = .saload ∧ len = 1) && Nat.beq (b / 1000) 4))))
  | 52 => Nat.beq c (cx_s b) && (decide (ins = .laload ∧ len = 1) && Nat.beq (b / 1000) 5)
  | 53 => Nat.beq c (cx_s b) && (decide (ins = .aaload ∧ len = 1) && (Nat.ble 6000 b && Nat.beq d ((b - 6000) / 20)))
  | 54 => Nat.beq c (cx_s b) && (decide (ins = .iastore ∧ len = 1) && (Nat.beq (b / 1000) 1 && am_dyn b))
  | 55 => Nat.beq c (cx_s b) && (decide (ins = .bastore ∧ len = 1) && (Nat.beq (b / 1000) 2 && am_dyn b))
  | 56 => Nat.beq c (cx_s b) && (decide (ins = .bastore ∧ len = 1) && (Nat.beq (b / 1000) 3 && am_dyn b))
  | 57 => Nat.beq c (cx_s b) && (decide (ins = .sastore ∧ len = 1) && (Nat.beq (b / 1000) 4 && am_dyn b))
  | 58 => Nat.beq c (cx_s b) && (decide (ins = .lastore ∧ len = 1) && (Nat.beq (b / 1000) 5 && am_dyn b))
  | 59 => Nat.beq c (cx_s b) && (decide (ins = .aastore ∧ len = 1) && (Nat.ble 6000 b && (Nat.beq d ((b - 6000) / 20) && (Nat.blt d 36 && (!(Nat.beq d 31) && (am_dyn b && Nat.ble 1 d))))))
  | 61 => (match ins with
    | .getstatic i => Nat.beq len 3 && (slkL own).any (fun e => Nat.beq e.1 i && (Nat.beq e.2.2.1 b && Nat.beq e.2.2.2 c))
    | _ => false)
  | 62 => decide (ins = .aconst_null ∧ len = 1)
  | 63 => decide (ins = .invokevirtual 591 ∧ len = 3) && (Nat.beq own 3 && Nat.beq b 31)
  | 64 => (match ins with
    | .invokespecial i => Nat.beq len 3 && (objL own).any (fun e => Nat.beq e.1 i)
    | _ => false)
  | _ => false
def mt (own nL : Nat) (ini : Bool) (ins : Instr) (len : Nat) (E : am_E) : Bool := match E with
  | .inl i => mtI nL ins len i
  | .inr (.inl x) => (match ins with
    | .iconst n => decide (Int32.ofInt n = x) && Nat.beq len 1
    | .bipush n => decide ((Int8.ofInt n).toInt32 = x) && Nat.beq len 2
    | .sipush n => decide ((Int16.ofInt n).toInt32 = x) && Nat.beq len 3
    | .ldc i => (kstL own).any (fun e => Nat.beq e.1 i && decide (e.2 = x)) && Nat.beq len 2
    | .ldc_w i => (kstL own).any (fun e => Nat.beq e.1 i && decide (e.2 = x)) && Nat.beq len 3
    | _ => false)
  | .inr (.inr (.inl x)) => (match ins with
    | .lconst n => decide (Int64.ofNat n.val = x) && Nat.beq len 1
    | .ldc2_w i => (kstJ own).any (fun e => Nat.beq e.1 i && decide (e.2 = x)) && Nat.beq len 3
    | _ => false)
  | .inr (.inr (.inr (op, b, c, d))) => mt2 own ini ins len op b c d
/-- the statics that are read -/
def STC (A : Nat → Nat → Nat) (s0 s : State) : Prop := ∀ b q, (b = 31 ∧ q < 6 ∨ b = 1997 ∧ q = 0) → va_Z (snm b q).1 (snm b q).2.1 (snm b q).2.2 (.ref (A b q)) (fun x => s0.heap.size ≤ x) s s0.heap
theorem bit1 {x : Int32} (h : x &&& 1 = x) : x = 0 ∨ x = 1 := by
  have h1 : x.toBitVec &&& 1#32 = x.toBitVec := by
    have := congrArg Int32.toBitVec h
    simpa using this
  rw [BitVec.and_one_eq_setWidth_ofBool_getLsbD] at h1
  cases hb : x.toBitVec.getLsbD 0 with
  | false => left; rw [hb] at h1; exact Int32.toBitVec_inj.mp (h1.symm.trans (by decide))
  | true => right; rw [hb] at h1; exact Int32.toBitVec_inj.mp (h1.symm.trans (by decide))
theorem fit_ref {t : FieldType} (ht : t.isReference = true) (o : Option Nat) : narrow t (va_rf o) = va_rf o ∧ fits t (va_rf o) = true := by
  cases t <;> first | (cases ht; done) | (cases o <;> exact ⟨rfl, rfl⟩)
theorem fit_bool {x : Int32} (h : x &&& 1 = x) : narrow .boolean (.int x) = .int x ∧ fits .boolean (.int x) = true := by
  rcases bit1 h with rfl | rfl <;> exact ⟨by decide, by decide⟩
