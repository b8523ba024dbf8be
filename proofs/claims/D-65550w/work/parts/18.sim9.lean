/-! SIM 9: one numbered instruction -/
section STEP
variable {p : Program} {l : Launch} {e : Env} {R : Room} {s : State} {m : MethodId} {args : Array Value} {below : List Frame} {meth : Method} {c : Code} {hp : Heap} {locs : List Loc} {cells slots : Nat} {Q : State → Prop} {cc : ByteArray} {pc : Nat} {jl : Array Slot}
variable {A : Nat → Nat → Nat} {s0 : State} {cid : Nat → ClassId} {slt : Nat → Nat → Nat} {n0 m0 nL own : Nat} {ini : Bool} {F : am_OF} {Hf : am_H}
theorem gfd_spec {b k kd len : Nat} {ins : Instr} (h : gfd own b k kd ins len = true) : ∃ i, ins = .getfield i ∧ len = 3 ∧ fany own i b k = true ∧ b < 36 ∧ b ≠ 31 ∧ k < cx_N b ∧ (cx_kt b k).1 = kd := by
  unfold gfd at h
  split at h
  · rename_i i
    simp only [Bool.and_eq_true, Nat.blt_eq, Nat.beq_eq, Bool.not_eq_true'] at h
    obtain ⟨h1, h2, h3, h4, h5, h6⟩ := h
    refine ⟨i, rfl, h6, h1, h2, ?_, h4, h5⟩
    rintro rfl
    cases h3
  · cases h
theorem pfd_spec {b k kd len : Nat} {ins : Instr} (h : pfd own ini b k kd ins len = true) : ∃ i, ins = .putfield i ∧ len = 3 ∧ fany own i b k = true ∧ b < 36 ∧ b ≠ 31 ∧ k < cx_N b ∧ (cx_kt b k).1 = kd ∧ am_dyn b = true ∧ ((cx_T b k).2.2.2 = true → ini = true ∧ fpl own i b k = true ∧ (cx_T b k).1 = cx_nm own) ∧ (kd = 0 → cx_ty b k = .int) ∧ (kd = 6 → cx_ty b k = .boolean) ∧ (kd ≠ 0 → kd ≠ 6 → (cx_ty b k).isReference = true) := by
  unfold pfd at h
  split at h
  · rename_i i
    simp only [Bool.and_eq_true, Nat.blt_eq, Nat.beq_eq, Bool.not_eq_true', Bool.or_eq_true] at h
    obtain ⟨h1, h2, h3, h4, h5, h6, h7, h8, h9⟩ := h
    refine ⟨i, rfl, h6, h1, h2, ?_, h4, h5, h7, fun ht => ?_, fun hk => ?_, fun hk => ?_, fun hk hk' => ?_⟩
    · rintro rfl
      cases h3
    · rcases h8 with h8 | ⟨a, b, c⟩
      · rw [ht] at h8; cases h8
      · exact ⟨a, b, of_decide_eq_true c⟩
    · subst hk; exact of_decide_eq_true h9
    · subst hk; exact of_decide_eq_true h9
    · have e1 : Nat.beq kd 0 = false := by
        cases g : Nat.beq kd 0 with
        | false => rfl
        | true => rw [Nat.beq_eq] at g; exact absurd g hk
      have e2 : Nat.beq kd 6 = false := by
        cases g : Nat.beq kd 6 with
        | false => rfl
        | true => rw [Nat.beq_eq] at g; exact absurd g hk'
      rw [e1, e2] at h9
      exact h9
  · cases h
theorem fv_i {H : am_H} {b a k : Nat} (h : (cx_kt b k).1 = 0 ∨ (cx_kt b k).1 = 6) : fv A H b a k = .int (rdI H b a k) := by
  have : (Nat.beq (cx_kt b k).1 0 || Nat.beq (cx_kt b k).1 6) = true := by
    rw [Bool.or_eq_true, Nat.beq_eq, Nat.beq_eq]; exact h
  rw [fv, this]
  rfl
theorem fv_r {H : am_H} {b a k : Nat} (h0 : ¬ (cx_kt b k).1 = 0) (h6 : ¬ (cx_kt b k).1 = 6) : fv A H b a k = va_rf ((rdR H b a k).map (A (cx_kt b k).2)) := by
  have : (Nat.beq (cx_kt b k).1 0 || Nat.beq (cx_kt b k).1 6) = false := by
    rw [Bool.or_eq_false_iff]
    constructor
    · cases g : Nat.beq (cx_kt b k).1 0 with
      | false => rfl
      | true => rw [Nat.beq_eq] at g; exact absurd g h0
    · cases g : Nat.beq (cx_kt b k).1 6 with
      | false => rfl
      | true => rw [Nat.beq_eq] at g; exact absurd g h6
  rw [fv, this]
  rfl
/-- a reference on the stack: where it is -/
theorem ref_at {H : am_H} {e1 b a : Nat} (hb : b < 64) (h : e1 = b ∨ e1 = b + 64) (ho : okv F H (rv e1 (some a))) : vv A (rv e1 (some a)) = .ref (A b a) ∧ a < cn H b := by
  rcases h with rfl | rfl
  · refine ⟨?_, ((okr_plain (plainc_of (by omega))).mp ho a rfl).1⟩
    show va_rf (some (A (rawc e1) a)) = _
    rw [show rawc e1 = e1 from ?_]
    · rfl
    · have : Nat.ble 64 e1 = false := by
        cases g : Nat.ble 64 e1 with
        | false => rfl
        | true => rw [Nat.ble_eq] at g; omega
      simp [rawc, this]
  · have h1 : Nat.ble 64 (b + 64) = true := by rw [Nat.ble_eq]; omega
    have h2 : Nat.blt (b + 64) 128 = true := by rw [Nat.blt_eq]; omega
    refine ⟨?_, ?_⟩
    · show va_rf (some (A (rawc (b + 64)) a)) = _
      rw [show rawc (b + 64) = b from by simp [rawc, h1, h2]]
      rfl
    · have := ho a rfl
      simp only [if_pos (show 64 ≤ b + 64 ∧ b + 64 < 128 by omega)] at this
      simpa using this
theorem arr_at {H : am_H} {b a : Nat} (hb : 1000 ≤ b) (ho : okv F H (rv b (some a))) : vv A (rv b (some a)) = .ref (A b a) ∧ a < cn H b := by
  refine ⟨?_, ((okr_plain (plainc_of (by omega))).mp ho a rfl).1⟩
  have : Nat.blt b 128 = false := blt_f (by omega)
  show va_rf (some (A (rawc b) a)) = _
  simp [rawc, this, va_rf]
theorem vv_plain {d : Nat} {o : Option Nat} (h : plainc d = true) : vv A (rv d o) = va_rf (o.map (A d)) := by
  have : rawc d = d := by
    unfold rawc
    cases g1 : Nat.ble 64 d with
    | false => rfl
    | true =>
      cases g2 : Nat.blt d 128 with
      | false => rfl
      | true => rw [Nat.ble_eq] at g1; rw [Nat.blt_eq] at g2; exact absurd ⟨g1, g2⟩ (plainc_no h)
  show va_rf (o.map (A (rawc d))) = _
  rw [this]
end STEP
