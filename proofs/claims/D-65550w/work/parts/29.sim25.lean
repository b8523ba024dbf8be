/-! SIM 25: the checks with another decoder -/
def ckbD (dc : Nat → Except DecodeError (Instr × Nat)) (own nL : Nat) (ini : Bool) : Nat → List am_E → Option Nat
  | pc, [] => some pc
  | pc, E :: B => match dc pc with
    | .ok (ins, len) => (match ins, E, B with
      | .iinc j n, .inr (.inl x), .inr (.inr (.inr (op, j', _, _))) :: B' => bif Nat.beq op 65 && (Nat.beq j j' && (Nat.beq len 3 && (Nat.blt j nL && decide (Int32.ofInt n = x)))) then ckbD dc own nL ini (pc + 3) B' else none
      | ins, E, B => bif mt own nL ini ins len E then ckbD dc own nL ini (pc + len) B else none)
    | .error _ => none
def cktD (dc : Nat → Except DecodeError (Instr × Nat)) (dep : Nat → Nat) (i n own : Nat) (xl : Nat → Nat → Nat → Nat → Bool) (pc tg nx : Nat) (hs : List (Nat × Nat)) (sw : List Nat) (t : Instr) : Bool := match t with
  | .goto_w _ => Nat.beq pc nx
  | .goto _ => (match dc pc with | .ok (.goto off, 3) => decide ((pc : Int) + off = (tg : Int)) | _ => false)
  | .ifCond k _ => (match dc pc with | .ok (.ifCond k' off, 3) => decide (k' = k ∧ (pc : Int) + off = (tg : Int)) && Nat.beq nx (pc + 3) | _ => false)
  | .if_icmp k _ => (match dc pc with | .ok (.if_icmp k' off, 3) => decide (k' = k ∧ (pc : Int) + off = (tg : Int)) && Nat.beq nx (pc + 3) | _ => false)
  | .if_acmp k _ => (match dc pc with | .ok (.if_acmp k' off, 3) => decide (k' = k ∧ (pc : Int) + off = (tg : Int)) && Nat.beq nx (pc + 3) | _ => false)
  | .ifnull _ => (match dc pc with | .ok (.ifnull off, 3) => decide ((pc : Int) + off = (tg : Int)) && Nat.beq nx (pc + 3) | _ => false)
  | .ifnonnull _ => (match dc pc with | .ok (.ifnonnull off, 3) => decide ((pc : Int) + off = (tg : Int)) && Nat.beq nx (pc + 3) | _ => false)
  | .tableswitch _ lo hi _ => (match dc pc with | .ok (.tableswitch d lo' hi' offs, _) => decide (lo' = lo ∧ hi' = hi ∧ (pc : Int) + d = (tg : Int) ∧ offs.toList.map (fun o => (pc : Int) + o) = sw.map Int.ofNat ∧ (sw.length : Int) = hi - lo + 1) | _ => false)
  | .lookupswitch _ ps => (match dc pc with | .ok (.lookupswitch d ps', _) => decide (ps'.toList.map (·.1) = ps.toList.map (·.1) ∧ (pc : Int) + d = (tg : Int) ∧ ps'.toList.map (fun q => (pc : Int) + q.2) = sw.map Int.ofNat) && (ps'.toList.zip (ps'.toList.drop 1)).all (fun (a, next) => a.1 < next.1) | _ => false)
  | .ireturn => decide (dc pc = .ok (.ireturn, 1))
  | .lreturn => decide (dc pc = .ok (.lreturn, 1))
  | .areturn => decide (dc pc = .ok (.areturn, 1))
  | .return_ => decide (dc pc = .ok (.return_, 1))
  | .athrow => (match dc pc with
    | .ok (.new a, 3) => decide (dc (pc + 3) = .ok (.dup, 1)) && (match dc (pc + 4) with
      | .ok (.invokespecial ic, 3) => decide (dc (pc + 7) = .ok (.athrow, 1)) && (xl own a ic tg && (Nat.beq nx (cx_sl tg) && nocov (pc + 7) (mha n)))
      | _ => false)
    | _ => false)
  | .invokestatic _ => (match dc pc with | .ok (.invokestatic x, 3) => mlk own x (imt tg) && (Nat.beq (mki (imt tg)) 0 && (Nat.beq nx (pc + 3) && (hck own pc (mha n) hs && (Nat.blt (dep tg) (dep i) && Nat.ble 1 (imt tg))))) | _ => false)
  | .invokevirtual _ => (match dc pc with | .ok (.invokevirtual x, 3) => mlp own x (imt tg) && (Nat.beq (mki (imt tg)) 1 && (Nat.beq nx (pc + 3) && (hck own pc (mha n) hs && (Nat.blt (dep tg) (dep i) && (Nat.ble 1 (imt tg) && (am_one (mow (imt tg)) sw && (Nat.blt (mow (imt tg)) 36 && (!(Nat.beq (mow (imt tg)) 31) && Nat.ble 1 (mow (imt tg)))))))))) | _ => false)
  | .invokedynamic _ => (match dc pc with | .ok (.invokespecial x, 3) => mlk own x (imt tg) && (Nat.beq (mki (imt tg)) 2 && (Nat.beq nx (pc + 3) && (hck own pc (mha n) hs && (Nat.blt (dep tg) (dep i) && Nat.ble 1 (imt tg))))) | _ => false)
  | _ => false
theorem cktD_eq {dep : Nat → Nat} {i n own : Nat} {cc : ByteArray} {xl : Nat → Nat → Nat → Nat → Bool} {pc tg nx : Nat} {hs : List (Nat × Nat)} {sw : List Nat} {t : Instr} : cktD (decode cc) dep i n own xl pc tg nx hs sw t = ckt dep i n own cc xl pc tg nx hs sw t := rfl
theorem ckb_of {dc : Nat → Except DecodeError (Instr × Nat)} {cc : ByteArray} (hm : ∀ pc x, dc pc = .ok x → decode cc pc = .ok x) {own nL : Nat} {ini : Bool} : ∀ (n : Nat) (B : List am_E) (pc r : Nat), B.length ≤ n → ckbD dc own nL ini pc B = some r → ckb own nL ini cc pc B = some r := by
  intro n
  induction n with
  | zero =>
    intro B pc r hl h
    cases B with
    | nil => exact h
    | cons E B => simp at hl
  | succ n ih =>
    intro B pc r hl h
    cases B with
    | nil => exact h
    | cons E B =>
      have hn : B.length ≤ n := by simpa using hl
      unfold ckbD at h
      unfold ckb
      cases e : dc pc with
      | error x => rw [e] at h; cases h
      | ok x =>
        rw [e] at h
        rw [hm pc x e]
        obtain ⟨ins, len⟩ := x
        simp only at h ⊢
        split at h
        · rename_i j i' x op j' y z B'
          cases hc : (Nat.beq op 65 && (Nat.beq j j' && (Nat.beq len 3 && (Nat.blt j nL && decide (Int32.ofInt i' = x))))) <;> rw [hc] at h
          · cases h
          · show (bif (Nat.beq op 65 && (Nat.beq j j' && (Nat.beq len 3 && (Nat.blt j nL && decide (Int32.ofInt i' = x))))) then ckb own nL ini cc (pc + 3) B' else none) = some r
            rw [hc]
            exact ih B' _ _ (by simp at hn; omega) h
        · rename_i hno
          cases hc : mt own nL ini ins len E <;> rw [hc] at h
          · cases h
          · split
            · rename_i j i' x op j' y z B'
              exact (hno j i' x op j' y z B' rfl rfl rfl).elim
            · rw [hc]; exact ih B _ _ hn h
theorem cktD_mono {dc dc' : Nat → Except DecodeError (Instr × Nat)} (hm : ∀ pc x, dc pc = .ok x → dc' pc = .ok x) {dep : Nat → Nat} {i n own : Nat} {xl : Nat → Nat → Nat → Nat → Bool} {pc tg nx : Nat} {hs : List (Nat × Nat)} {sw : List Nat} {t : Instr} (h : cktD dc dep i n own xl pc tg nx hs sw t = true) : cktD dc' dep i n own xl pc tg nx hs sw t = true := by
  cases t <;> simp only [cktD] at h ⊢ <;> first
    | exact h
    | (cases h; done)
    | exact decide_eq_true (hm _ _ (of_decide_eq_true h))
    | (cases e : dc pc with
       | error x => rw [e] at h; cases h
       | ok x =>
         rw [e] at h
         rw [hm pc x e]
         first
           | exact h
           | (split at h
              · rename_i a
                rw [Bool.and_eq_true] at h ⊢
                refine ⟨decide_eq_true (hm _ _ (of_decide_eq_true h.1)), ?_⟩
                have h2 := h.2
                cases e2 : dc (pc + 4) with
                | error x => rw [e2] at h2; cases h2
                | ok x =>
                  rw [e2] at h2
                  rw [hm _ x e2]
                  split at h2
                  · rw [Bool.and_eq_true] at h2 ⊢
                    exact ⟨decide_eq_true (hm _ _ (of_decide_eq_true h2.1)), h2.2⟩
                  · cases h2
              · cases h))
/-- a piece of the code -/
def win (code : ByteArray) (o n : Nat) : ByteArray := ⟨((code.data.toList.drop o).take n).toArray⟩
theorem win_ok (code : ByteArray) {o : Nat} (n : Nat) (h4 : o % 4 = 0) (ho : o ≤ code.size) : WIN (win code o n) code o := by
  have hsz : (win code o n).size = min n (code.size - o) := by
    show ((code.data.toList.drop o).take n).toArray.size = _
    rw [List.size_toArray, List.length_take, List.length_drop, Array.length_toList]
    rfl
  refine ⟨h4, by rw [hsz]; omega, fun i hi => ?_⟩
  rw [hsz] at hi
  show _ = ((code.data.toList.drop o).take n).toArray[i]?
  have hi' : i < n := by omega
  simp [List.getElem?_take, hi', List.getElem?_drop]
theorem dec_none {w : ByteArray} {p : Nat} (h : w.size ≤ p) {x : Instr × Nat} : decode w p ≠ .ok x := by
  intro hd
  unfold decode at hd
  have e : (Decoder.instr p).runAt w p = .error (.truncated p) := by
    unfold Decoder.instr
    rw [run_bind, run_u1, dif_neg (by omega)]
  rw [e] at hd
  cases hd
def dwl (code : ByteArray) (o n pc : Nat) : Except DecodeError (Instr × Nat) := bif Nat.ble o pc then decode (win code o n) (pc - o) else .error (.truncated pc)
theorem dwl_ok {code : ByteArray} {o n : Nat} (h4 : o % 4 = 0) {pc : Nat} {z : Instr × Nat} (h : dwl code o n pc = .ok z) : decode code pc = .ok z := by
  unfold dwl at h
  cases hb : Nat.ble o pc with
  | false => rw [hb] at h; cases h
  | true =>
    rw [hb] at h
    rw [Nat.ble_eq] at hb
    have hd : decode (win code o n) (pc - o) = .ok z := h
    by_cases ho : o ≤ code.size
    · obtain ⟨i, len⟩ := z
      have := dec_win (win_ok code n h4 ho) hd
      rwa [Nat.add_sub_cancel' hb] at this
    · exfalso
      refine dec_none ?_ hd
      have : (win code o n).size = min n (code.size - o) := by
        show ((code.data.toList.drop o).take n).toArray.size = _
        rw [List.size_toArray, List.length_take, List.length_drop, Array.length_toList]
        rfl
      rw [this]
      omega
