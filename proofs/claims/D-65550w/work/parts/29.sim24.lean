/-! SIM 24: decoding in a window of the code -/
def WIN (w code : ByteArray) (o : Nat) : Prop := o % 4 = 0 ∧ o + w.size ≤ code.size ∧ ∀ i : Nat, i < w.size → code.data[o + i]? = w.data[i]?
def RelR (w code : ByteArray) (o : Nat) {α : Type} (r r' : Reader DecodeError α) : Prop := ∀ p a q, r.runAt w p = .ok (a, q) → r'.runAt code (o + p) = .ok (a, o + q)
section WINDOW
variable {w code : ByteArray} {o : Nat} {α β : Type}
theorem rel_pure (a : α) : RelR w code o (pure a) (pure a) := by
  intro p x q h
  have h' : (Except.ok (a, p) : Except DecodeError (α × Nat)) = .ok (x, q) := h
  cases h'
  rfl
theorem run_bind (r : Reader DecodeError α) (k : α → Reader DecodeError β) (b : ByteArray) (p : Nat) : (r >>= k).runAt b p = match r.runAt b p with
    | .ok (x, q) => (k x).runAt b q
    | .error e => .error e := by
  show (r b p >>= fun (x : α × Nat) => k x.1 b x.2) = match r b p with
    | .ok (x, q) => k x b q
    | .error e => .error e
  cases r b p <;> rfl
theorem rel_bind {r r' : Reader DecodeError α} {k k' : α → Reader DecodeError β} (h : RelR w code o r r') (hk : ∀ x, RelR w code o (k x) (k' x)) : RelR w code o (r >>= k) (r' >>= k') := by
  intro p b q hb
  rw [run_bind] at hb ⊢
  cases e : r.runAt w p with
  | error x => rw [e] at hb; cases hb
  | ok x =>
    obtain ⟨x, p1⟩ := x
    rw [e] at hb
    rw [h p x p1 e]
    exact hk x p1 b q hb
theorem rel_map {r r' : Reader DecodeError α} (g : α → β) (h : RelR w code o r r') : RelR w code o (g <$> r) (g <$> r') := by
  have e : ∀ s : Reader DecodeError α, g <$> s = s >>= fun x => pure (g x) := fun s => map_eq_pure_bind g s
  rw [e, e]
  exact rel_bind h fun x => rel_pure _
theorem rel_throw (e e' : DecodeError) : RelR w code o (throw e : Reader DecodeError α) (throw e') := by
  intro p x q h
  have h' : (Except.error e : Except DecodeError (α × Nat)) = .ok (x, q) := h
  cases h'
theorem win_size (h : WIN w code o) {p : Nat} (hp : p < w.size) : o + p < code.size ∧ ∀ (h1 : p < w.size) (h2 : o + p < code.size), code[o + p].toNat = w[p].toNat := by
  have e := h.2.2 p hp
  have e1 : w.data[p]? = some (w.data[p]'hp) := Array.getElem?_eq_getElem hp
  rw [e1] at e
  obtain ⟨h2, e2⟩ := Array.getElem?_eq_some_iff.mp e
  refine ⟨h2, fun _ _ => ?_⟩
  have : code.data[o + p]'h2 = w.data[p]'hp := e2
  show (code.data[o + p]'h2).toNat = (w.data[p]'hp).toNat
  rw [this]
theorem run_u1 (b : ByteArray) (p : Nat) : (Reader.u1 : Reader DecodeError Nat).runAt b p = if h : p < b.size then .ok (b[p].toNat, p + 1) else .error (.truncated p) := by
  by_cases h : p < b.size
  · rw [dif_pos h]
    show (if h : p < b.size then _ else _ : Reader DecodeError Nat) b p = _
    rw [dif_pos h]; rfl
  · rw [dif_neg h]
    show (if h : p < b.size then _ else _ : Reader DecodeError Nat) b p = _
    rw [dif_neg h]; rfl
theorem rel_u1 (h : WIN w code o) : RelR w code o (Reader.u1 : Reader DecodeError Nat) Reader.u1 := by
  intro p a q hr
  rw [run_u1] at hr ⊢
  by_cases hp : p < w.size
  · rw [dif_pos hp] at hr
    obtain ⟨h1, h2⟩ := win_size h hp
    rw [dif_pos h1, h2 hp h1]
    cases hr
    rfl
  · rw [dif_neg hp] at hr
    cases hr
theorem rel_u2 (h : WIN w code o) : RelR w code o (Reader.u2 : Reader DecodeError Nat) Reader.u2 := rel_bind (rel_u1 h) fun _ => rel_bind (rel_u1 h) fun _ => rel_pure _
theorem rel_u4 (h : WIN w code o) : RelR w code o (Reader.u4 : Reader DecodeError Nat) Reader.u4 := rel_bind (rel_u2 h) fun _ => rel_bind (rel_u2 h) fun _ => rel_pure _
theorem rel_s1 (h : WIN w code o) : RelR w code o (Reader.s1 : Reader DecodeError Int) Reader.s1 := rel_map _ (rel_u1 h)
theorem rel_s2 (h : WIN w code o) : RelR w code o (Reader.s2 : Reader DecodeError Int) Reader.s2 := rel_map _ (rel_u2 h)
theorem rel_s4 (h : WIN w code o) : RelR w code o (Reader.s4 : Reader DecodeError Int) Reader.s4 := rel_map _ (rel_u4 h)
theorem rel_go {r r' : Reader DecodeError α} (h : RelR w code o r r') : ∀ (n : Nat) (acc : Array α), RelR w code o (Reader.times.go r n acc) (Reader.times.go r' n acc)
  | 0, acc => rel_pure _
  | n + 1, acc => rel_bind h fun x => rel_go h n _
theorem rel_times {r r' : Reader DecodeError α} (h : RelR w code o r r') (n : Nat) : RelR w code o (Reader.times n r) (Reader.times n r') := rel_go h n _
theorem run_pad (b : ByteArray) (p : Nat) : Decoder.padding.runAt b p = if p + (4 - p % 4) % 4 ≤ b.size then .ok ((), p + (4 - p % 4) % 4) else .error (.truncated b.size) := by
  by_cases h : p + (4 - p % 4) % 4 ≤ b.size
  · rw [if_pos h]
    show ((if p + (4 - p % 4) % 4 ≤ b.size then _ else _ : Reader DecodeError ByteArray) b p >>= _) = _
    rw [if_pos h]; rfl
  · rw [if_neg h]
    show ((if p + (4 - p % 4) % 4 ≤ b.size then _ else _ : Reader DecodeError ByteArray) b p >>= _) = _
    rw [if_neg h]; rfl
theorem rel_pad (h : WIN w code o) : RelR w code o Decoder.padding Decoder.padding := by
  intro p a q hr
  rw [run_pad] at hr ⊢
  have e : (o + p) % 4 = p % 4 := by have := h.1; omega
  rw [e]
  by_cases hp : p + (4 - p % 4) % 4 ≤ w.size
  · rw [if_pos hp] at hr
    have := h.2.1
    rw [if_pos (by omega)]
    cases hr
    rw [Nat.add_assoc]
  · rw [if_neg hp] at hr
    cases hr
theorem rel_ite {c : Prop} [Decidable c] {r r' s s' : Reader DecodeError α} (h : RelR w code o r r') (k : RelR w code o s s') : RelR w code o (if c then r else s) (if c then r' else s') := by
  split
  · exact h
  · exact k
theorem rel_ts (h : WIN w code o) (pc pc' : Nat) : RelR w code o (Decoder.tableswitch pc) (Decoder.tableswitch pc') := by
  unfold Decoder.tableswitch
  repeat' (first | exact rel_pure _ | exact rel_throw _ _ | exact rel_pad h | exact rel_s4 h | exact rel_times (rel_s4 h) _ | refine rel_ite ?_ ?_ | refine rel_bind ?_ fun _ => ?_)
theorem rel_lk (h : WIN w code o) (pc pc' : Nat) : RelR w code o (Decoder.lookupswitch pc) (Decoder.lookupswitch pc') := by
  unfold Decoder.lookupswitch
  repeat' (first | exact rel_pure _ | exact rel_throw _ _ | exact rel_pad h | exact rel_s4 h | refine rel_times ?_ _ | refine rel_ite ?_ ?_ | refine rel_bind ?_ fun _ => ?_)
theorem rel_ii (h : WIN w code o) (pc pc' : Nat) : RelR w code o (Decoder.invokeinterface pc) (Decoder.invokeinterface pc') := by
  unfold Decoder.invokeinterface
  repeat' (first | exact rel_pure _ | exact rel_throw _ _ | exact rel_u1 h | exact rel_u2 h | refine rel_ite ?_ ?_ | refine rel_bind ?_ fun _ => ?_)
theorem rel_id (h : WIN w code o) (pc pc' : Nat) : RelR w code o (Decoder.invokedynamic pc) (Decoder.invokedynamic pc') := by
  unfold Decoder.invokedynamic
  repeat' (first | exact rel_pure _ | exact rel_throw _ _ | exact rel_u1 h | exact rel_u2 h | refine rel_ite ?_ ?_ | refine rel_bind ?_ fun _ => ?_)
theorem rel_na (h : WIN w code o) (pc pc' : Nat) : RelR w code o (Decoder.newarray pc) (Decoder.newarray pc') := by
  unfold Decoder.newarray
  refine rel_bind (rel_u1 h) fun x => ?_
  split <;> first | exact rel_pure _ | exact rel_throw _ _
theorem rel_ma (h : WIN w code o) (pc pc' : Nat) : RelR w code o (Decoder.multianewarray pc) (Decoder.multianewarray pc') := by
  unfold Decoder.multianewarray
  repeat' (first | exact rel_pure _ | exact rel_throw _ _ | exact rel_u1 h | exact rel_u2 h | refine rel_ite ?_ ?_ | refine rel_bind ?_ fun _ => ?_)
theorem rel_wi (h : WIN w code o) (pc pc' : Nat) : RelR w code o (Decoder.wide pc) (Decoder.wide pc') := by
  unfold Decoder.wide
  refine rel_bind (rel_u1 h) fun x => ?_
  split <;> repeat' (first | exact rel_pure _ | exact rel_throw _ _ | exact rel_u2 h | exact rel_s2 h | refine rel_bind ?_ fun _ => ?_)
set_option maxRecDepth 100000 in
set_option maxHeartbeats 4000000 in
theorem rel_in (h : WIN w code o) (pc pc' : Nat) : RelR w code o (Decoder.instr pc) (Decoder.instr pc') := by
  unfold Decoder.instr
  refine rel_bind (rel_u1 h) fun x => ?_
  split <;> first
    | exact rel_pure _
    | exact rel_throw _ _
    | exact rel_bind (rel_u2 h) fun _ => rel_pure _
    | exact rel_bind (rel_s2 h) fun _ => rel_pure _
    | exact rel_bind (rel_u1 h) fun _ => rel_pure _
    | exact rel_bind (rel_s1 h) fun _ => rel_pure _
    | exact rel_bind (rel_s4 h) fun _ => rel_pure _
    | exact rel_bind (rel_u1 h) fun _ => rel_bind (rel_s1 h) fun _ => rel_pure _
    | exact rel_ts h _ _
    | exact rel_lk h _ _
    | exact rel_ii h _ _
    | exact rel_id h _ _
    | exact rel_na h _ _
    | exact rel_ma h _ _
    | exact rel_wi h _ _
theorem dec_win (h : WIN w code o) {p : Nat} {i : Instr} {len : Nat} (hd : decode w p = .ok (i, len)) : decode code (o + p) = .ok (i, len) := by
  unfold decode at hd ⊢
  cases e : (Decoder.instr p).runAt w p with
  | error z => rw [e] at hd; cases hd
  | ok z =>
    obtain ⟨y, q⟩ := z
    rw [e] at hd
    have hd' : (Except.ok (y, q - p) : Except DecodeError (Instr × Nat)) = .ok (i, len) := hd
    cases hd'
    rw [rel_in h p (o + p) p _ q e]
    show (Except.ok (i, o + q - (o + p)) : Except DecodeError (Instr × Nat)) = .ok (i, q - p)
    rw [Nat.add_sub_add_left]
end WINDOW
