/-! SIM 7: arrays, new objects and arrays -/
section ARR
variable {p : Program} {l : Launch} {e : Env} {R : Room} {s : State} {m : MethodId} {args : Array Value} {below : List Frame} {meth : Method} {c : Code} {hp : Heap} {locs : List Loc} {cells slots : Nat} {Q : State → Prop} {cc : ByteArray} {pc : Nat} {jl : Array Slot}
variable {A : Nat → Nat → Nat} {s0 : State} {cid : Nat → ClassId} {slt : Nat → Nat → Nat} {n0 m0 nL own : Nat} {H Hf : am_H}
theorem ety_st {b : Nat} (h : b = 1997 ∨ b = 1998) : ety b = .int := by rcases h with rfl | rfl <;> rfl
theorem ev_st {b a k : Nat} (h : b = 1997 ∨ b = 1998) : ev A H b a k = .int (rdI H b a k) := by rcases h with rfl | rfl <;> rfl
theorem arr_get (hR : REL A s0 cid slt hp H) {b a : Nat} (ha : a < cn H b) (hb : 1000 ≤ b) (hvm : s0.vm.Alike s.vm) {j : Int32} (hj : vp_in j (aln H b a)) :
    ∃ cell : Cell, hp[A b a]? = some cell ∧ s.isArrayOf cell (ety b) ∧ cell.vm ≠ .unknown ∧ ¬ (j < 0 ∨ cell.slots.size ≤ j.toNatClampNeg) ∧ cell.slots[j.toNatClampNeg]? = some (ev A H b a j.toNatClampNeg) := by
  have hlt : j.toNatClampNeg < aln H b a := Nat.not_le.mp fun q => hj (Or.inr q)
  cases hd : am_dyn b with
  | true =>
    obtain ⟨cA, h1, -, h3⟩ := (hR.2.1 b a ha).2.1 hb hd
    refine ⟨_, h3, arrOfT_moved hvm h1 _ _, (fun h => by cases h), ?_, arrV_read _ _ hlt⟩
    rw [arrV_size]; exact hj
  | false =>
    have hs : b = 1997 ∨ b = 1998 := by
      simp only [am_dyn, Bool.not_eq_false', Bool.or_eq_true, Nat.beq_eq] at hd
      omega
    obtain ⟨cell, h1, h2, h3, h4, h5⟩ := (hR.2.1 b a ha).2.2 hs
    refine ⟨cell, h1, ?_, h3, by rw [h4]; exact hj, ?_⟩
    · rw [ety_st hs]; exact State.isArrayOf_alike hvm h2
    · rw [ev_st hs]; exact h5 _ hlt
theorem arr_len (hR : REL A s0 cid slt hp H) {b a : Nat} (ha : a < cn H b) (hb : 1000 ≤ b) (hvm : s0.vm.Alike s.vm) : ∃ cell : Cell, hp[A b a]? = some cell ∧ s.isArrayOf cell (ety b) ∧ cell.slots.size = aln H b a := by
  cases hd : am_dyn b with
  | true =>
    obtain ⟨cA, h1, -, h3⟩ := (hR.2.1 b a ha).2.1 hb hd
    exact ⟨_, h3, arrOfT_moved hvm h1 _ _, arrV_size _ _ _⟩
  | false =>
    have hs : b = 1997 ∨ b = 1998 := by
      simp only [am_dyn, Bool.not_eq_false', Bool.or_eq_true, Nat.beq_eq] at hd
      omega
    obtain ⟨cell, h1, h2, h3, h4, h5⟩ := (hR.2.1 b a ha).2.2 hs
    exact ⟨cell, h1, by rw [ety_st hs]; exact State.isArrayOf_alike hvm h2, h4⟩
theorem dv_eq {b n : Nat} (h : b / 1000 = n) (x : Nat) : Nat.beq (b / 1000) x = Nat.beq n x := by rw [h]
theorem ety_1 {b : Nat} (h : b / 1000 = 1) : ety b = .int := by rw [ety, h]; rfl
theorem ety_2 {b : Nat} (h : b / 1000 = 2) : ety b = .byte := by rw [ety, h]; rfl
theorem ety_3 {b : Nat} (h : b / 1000 = 3) : ety b = .boolean := by rw [ety, h]; rfl
theorem ety_4 {b : Nat} (h : b / 1000 = 4) : ety b = .short := by rw [ety, h]; rfl
theorem ety_5 {b : Nat} (h : b / 1000 = 5) : ety b = .long := by rw [ety, h]; rfl
theorem ety_6 {b : Nat} (h : 6000 ≤ b) : ety b = .object (cx_nm ((b - 6000) / 20)) := by
  have e1 : ¬ b / 1000 = 1 := by omega
  have e2 : ¬ b / 1000 = 2 := by omega
  have e3 : ¬ b / 1000 = 3 := by omega
  have e4 : ¬ b / 1000 = 4 := by omega
  have e5 : ¬ b / 1000 = 5 := by omega
  have f : ∀ n, ¬ b / 1000 = n → Nat.beq (b / 1000) n = false := fun n h => by
    cases g : Nat.beq (b / 1000) n with
    | false => rfl
    | true => rw [Nat.beq_eq] at g; exact absurd g h
  rw [ety, f 1 e1, f 2 e2, f 3 e3, f 4 e4, f 5 e5]
  rfl
theorem ev_I {b a k : Nat} (h5 : ¬ b / 1000 = 5) (h6 : b < 6000) : ev A H b a k = .int (rdI H b a k) := by
  have f : Nat.beq (b / 1000) 5 = false := by
    cases g : Nat.beq (b / 1000) 5 with
    | false => rfl
    | true => rw [Nat.beq_eq] at g; exact absurd g h5
  have g : Nat.ble 6000 b = false := by
    cases g : Nat.ble 6000 b with
    | false => rfl
    | true => rw [Nat.ble_eq] at g; omega
  rw [ev, f, g]
  rfl
theorem ev_L {b a k : Nat} (h5 : b / 1000 = 5) : ev A H b a k = .long (rdL H b a k) := by
  have f : Nat.beq (b / 1000) 5 = true := by rw [Nat.beq_eq]; exact h5
  rw [ev, f]
  rfl
theorem ev_R {b a k : Nat} (h6 : 6000 ≤ b) : ev A H b a k = va_rf ((rdR H b a k).map (A ((b - 6000) / 20))) := by
  have f : Nat.beq (b / 1000) 5 = false := by
    cases g : Nat.beq (b / 1000) 5 with
    | false => rfl
    | true => rw [Nat.beq_eq] at g; omega
  have g : Nat.ble 6000 b = true := by rw [Nat.ble_eq]; exact h6
  rw [ev, f, g]
  rfl
/-- one place of an array has changed -/
theorem arr_put (hR : REL A s0 cid slt hp H) (hA : ADR A s0 Hf) (hf : hle H Hf) {b a j : Nat} (ha : a < cn H b) (hb : 1000 ≤ b) (hd : am_dyn b = true) {H' : am_H} {v : Value}
    (hI : ∀ c' i' k', ¬ (c' = b ∧ i' = a) → rdI H' c' i' k' = rdI H c' i' k') (hL : ∀ c' i' k', ¬ (c' = b ∧ i' = a) → rdL H' c' i' k' = rdL H c' i' k') (hR' : ∀ c' i' k', ¬ (c' = b ∧ i' = a) → rdR H' c' i' k' = rdR H c' i' k')
    (hc : ∀ c', cn H' c' = cn H c') (hl : ∀ c' i', ln H' c' i' = ln H c' i') (hncl : ncl H' = ncl H) (hev : ev A H' b a = updV (ev A H b a) j v) {cell : Cell} (hcell : hp[A b a]? = some cell) {hp' : Heap}
    (e1 : hp'[A b a]? = some (cell.setSlot j v)) (e2 : hp'.size = hp.size) (e3 : ∀ q, q ≠ A b a → hp'[q]? = hp[q]?) : REL A s0 cid slt hp' H' := by
  obtain ⟨cA, h1, h2, h3⟩ := (hR.2.1 b a ha).2.1 hb hd
  cases hcell.symm.trans h3
  rw [arrV_store] at e1
  refine hR.put hA hf ha hd hI hL hR' hc hl hncl e2 e3 ⟨fun h => by omega, fun _ _ => ⟨cA, h1, h2, ?_⟩, fun h => ?_⟩
  · have : aln H' b a = aln H b a := by
      unfold aln am_ln
      split
      · exact hl b a
      · rfl
    rw [hev, this]; exact e1
  · rcases h with rfl | rfl <;> cases hd
theorem off_I (b a k : Nat) (v : Int32) : ∀ c' i' k', ¬ (c' = b ∧ i' = a) → rdI (wrI H b a k v) c' i' k' = rdI H c' i' k' := fun c' i' k' h => by
  show (if c' = b ∧ k' = k ∧ i' = a then v else rdI H c' i' k') = _
  rw [if_neg fun q => h ⟨q.1, q.2.2⟩]
theorem off_L (b a k : Nat) (v : Int64) : ∀ c' i' k', ¬ (c' = b ∧ i' = a) → rdL (wrL H b a k v) c' i' k' = rdL H c' i' k' := fun c' i' k' h => by
  show (if c' = b ∧ k' = k ∧ i' = a then v else rdL H c' i' k') = _
  rw [if_neg fun q => h ⟨q.1, q.2.2⟩]
theorem off_R (b a k : Nat) (v : Option Nat) : ∀ c' i' k', ¬ (c' = b ∧ i' = a) → rdR (wrR H b a k v) c' i' k' = rdR H c' i' k' := fun c' i' k' h => by
  show (if c' = b ∧ k' = k ∧ i' = a then v else rdR H c' i' k') = _
  rw [if_neg fun q => h ⟨q.1, q.2.2⟩]
theorem evI_up {b a j : Nat} {v : Int32} (h5 : ¬ b / 1000 = 5) (h6 : b < 6000) : ev A (wrI H b a j v) b a = updV (ev A H b a) j (.int v) := by
  funext k
  rw [ev_I h5 h6]
  show Value.int (if b = b ∧ k = j ∧ a = a then v else rdI H b a k) = if k = j then .int v else ev A H b a k
  rw [ev_I h5 h6]
  by_cases hk : k = j
  · simp [hk]
  · simp [hk]
theorem evL_up {b a j : Nat} {v : Int64} (h5 : b / 1000 = 5) : ev A (wrL H b a j v) b a = updV (ev A H b a) j (.long v) := by
  funext k
  rw [ev_L h5]
  show Value.long (if b = b ∧ k = j ∧ a = a then v else rdL H b a k) = if k = j then .long v else ev A H b a k
  rw [ev_L h5]
  by_cases hk : k = j
  · simp [hk]
  · simp [hk]
theorem evR_up {b a j : Nat} {v : Option Nat} (h6 : 6000 ≤ b) : ev A (wrR H b a j v) b a = updV (ev A H b a) j (va_rf (v.map (A ((b - 6000) / 20)))) := by
  funext k
  rw [ev_R h6]
  show va_rf ((if b = b ∧ k = j ∧ a = a then v else rdR H b a k).map _) = if k = j then _ else ev A H b a k
  rw [ev_R h6]
  by_cases hk : k = j
  · simp [hk]
  · simp [hk]
theorem nar_b (x : Int32) : narrow .byte (.int x) = .int (vp_nar .byte x) := rfl
theorem nar_z (x : Int32) : narrow .boolean (.int x) = .int (vp_nar .boolean x) := rfl
theorem nar_s (x : Int32) : narrow .short (.int x) = .int (vp_nar .short x) := rfl
end ARR
