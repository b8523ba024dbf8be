/-! SIM 6: fields, arrays, new objects -/
theorem lt0 (n : Nat) : 0 ≤ n := Nat.zero_le n
def fany (own idx b k : Nat) : Bool := (flkL own).any (fun e => Nat.beq e.1 idx && (Nat.beq e.2.2.1 b && Nat.beq e.2.2.2 k))
def fpl (own idx b k : Nat) : Bool := (flkL own).any (fun e => Nat.beq e.1 idx && (Nat.beq e.2.2.1 b && (Nat.beq e.2.2.2 k && Nat.beq e.2.1 1)))
def cany (own idx b : Nat) : Bool := (clkL own).any (fun e => Nat.beq e.1 idx && Nat.beq e.2 b)
theorem u_lay_ok (C : String) (T : u_T) (k : Nat) : okw (u_lay C T k) = true := by
  unfold u_lay
  split <;> rfl
theorem fany_spec {own idx b k : Nat} (h : fany own idx b k = true) : Cond.fieldLink (cx_nm own) idx (cx_T b k).1 (cx_T b k).2.1 (cx_T b k).2.2.1 ∈ lw_tbl ∨ Cond.fieldLinkNest (cx_nm own) idx (cx_T b k).1 (cx_T b k).2.1 (cx_T b k).2.2.1 "WholeWarehouse" ∈ lw_tbl := by
  simp only [fany, List.any_eq_true, Bool.and_eq_true, Nat.beq_eq] at h
  obtain ⟨⟨i, t, b', k'⟩, he, rfl, rfl, rfl⟩ := h
  have := flkL_ok own _ he
  unfold wokF at this
  simp only at this
  split at this
  · exact Or.inl this
  · exact Or.inr this
  · exact this.elim
theorem fpl_spec {own idx b k : Nat} (h : fpl own idx b k = true) : Cond.fieldLink (cx_nm own) idx (cx_T b k).1 (cx_T b k).2.1 (cx_T b k).2.2.1 ∈ lw_tbl := by
  simp only [fpl, List.any_eq_true, Bool.and_eq_true, Nat.beq_eq] at h
  obtain ⟨⟨i, t, b', k'⟩, he, rfl, rfl, rfl, rfl⟩ := h
  exact flkL_ok own _ he
theorem cany_spec {own idx b : Nat} (h : cany own idx b = true) : Cond.classLink (cx_nm own) idx (cx_nm b) ∈ lw_tbl := by
  simp only [cany, List.any_eq_true, Bool.and_eq_true, Nat.beq_eq] at h
  obtain ⟨⟨i, b'⟩, he, rfl, rfl⟩ := h
  exact clkL_ok own _ he
theorem ty_ok {b k : Nat} (hb : b < 36) (hk : k < cx_N b) : parseFieldDescriptor (cx_T b k).2.2.1 = some (cx_ty b k) := by
  have := uty_ok b (lt0 b) hb k hk
  unfold cx_ty
  cases h : parseFieldDescriptor (cx_T b k).2.2.1 with
  | none => rw [h] at this; cases this
  | some t => rfl
section NUM
variable {p : Program} {l : Launch} {e : Env} {R : Room} {s : State} {m : MethodId} {args : Array Value} {below : List Frame} {meth : Method} {c : Code} {hp : Heap} {locs : List Loc} {cells slots : Nat} {Q : State → Prop} {cc : ByteArray} {pc : Nat} {jl : Array Slot}
variable {A : Nat → Nat → Nat} {s0 : State} {cid : Nat → ClassId} {slt : Nat → Nat → Nat} {n0 m0 nL own : Nat} {H Hf : am_H}
theorem cxN_pos {b k : Nat} (h : k < cx_N b) : 1 ≤ b := by
  cases b with
  | zero => exact absurd h (Nat.not_lt_zero _)
  | succ n => omega
theorem FRM.uws (hF : FRM p s0 cid slt s m own) {b : Nat} (hb : b < 36) : ∀ w ∈ u_ws (cx_nm b) (cx_T b) (cx_N b), w.before args s = true := by
  intro w hw
  obtain ⟨k, hk, rfl⟩ := List.mem_map.mp hw
  exact hF.2.2.1 _ (uws_ok b (lt0 b) hb k (List.mem_range.mp hk)) (u_lay_ok _ _ _) args
/-- a field is read -/
theorem st_get {b k idx a : Nat} {rest : List Value} (hF : FRM p s0 cid slt s m own) (hb : c.code = cc) (hdg : decode cc pc = .ok (.getfield idx, 3)) (hfl : fany own idx b k = true) (hb36 : b < 36) (h31 : b ≠ 31) (hk : k < cx_N b) (hR : REL A s0 cid slt hp H) (ha : a < cn H b)
    (kk : W p l e R s m args below meth c hp locs cells slots Q (F0 m (pc + 3) jl (fv A H b a k :: rest))) : W p l e R s m args below meth c hp locs cells slots Q (F0 m pc jl (.ref (A b a) :: rest)) := by
  obtain ⟨cell, q1, q2, q3, q4⟩ := (hR.2.1 b a ha).1 (by omega) h31
  obtain ⟨hS, hfc, kC, hkC, hkind⟩ := hF.2.2.2.1 b hb36 h31 (cxN_pos hk)
  obtain ⟨cf, kf, fi, f, hi, hsl⟩ := hS k hk
  have hst := (u_facts (args := args) hfc hkC (u_lays (hF.uws hb36) (fun w h => h) hk) hi).1
  have hv : cell.slots[f.slot]? = some (fv A H b a k) := by rw [hsl]; exact q4 k hk
  have hkn : cell.vm ≠ .unknown := by rw [q3]; exact fun h => by cases h
  rcases fany_spec hfl with hw | hw
  · exact W.getf hF.1 hb hF.2.2.2.2 (hF.2.2.1 _ hw rfl args) hi hst q1 hkn hv rfl rfl hdg kk
  · exact va_Wgetf hF.1 hb hF.2.2.2.2 (hF.2.2.1 _ hw rfl args) hi hst q1 hkn hv rfl rfl hdg kk
theorem fv_I (c i k c' i' k' : Nat) (v : Int32) (h : ¬ (c' = c ∧ k' = k ∧ i' = i)) : fv A (wrI H c i k v) c' i' k' = fv A H c' i' k' := by
  have : rdI (wrI H c i k v) c' i' k' = rdI H c' i' k' := by
    show (if c' = c ∧ k' = k ∧ i' = i then v else rdI H c' i' k') = _
    rw [if_neg h]
  unfold fv
  rw [this]
  rfl
theorem fv_R (c i k c' i' k' : Nat) (v : Option Nat) (h : ¬ (c' = c ∧ k' = k ∧ i' = i)) : fv A (wrR H c i k v) c' i' k' = fv A H c' i' k' := by
  have : rdR (wrR H c i k v) c' i' k' = rdR H c' i' k' := by
    show (if c' = c ∧ k' = k ∧ i' = i then v else rdR H c' i' k') = _
    rw [if_neg h]
  unfold fv
  rw [this]
  rfl
theorem setSlot_get {cell : Cell} {i j : Nat} {v w : Value} (h : cell.slots[j]? = some w) (hne : j ≠ i) : (cell.setSlot i v).slots[j]? = some w := by
  simp [Cell.setSlot, Array.getElem?_setIfInBounds, Ne.symm hne, h]
theorem setSlot_self {cell : Cell} {i : Nat} {v w : Value} (h : cell.slots[i]? = some w) : (cell.setSlot i v).slots[i]? = some v := by
  have := (Array.getElem?_eq_some_iff.mp h).1
  simp [Cell.setSlot, Array.getElem?_setIfInBounds, this]
/-- a field is written: the machine's part -/
theorem st_put {b k idx a : Nat} {v : Value} {rest : List Value} {H' : am_H} (hF : FRM p s0 cid slt s m own) (hb : c.code = cc) (hdg : decode cc pc = .ok (.putfield idx, 3)) (hfl : fany own idx b k = true) (hb36 : b < 36) (h31 : b ≠ 31) (hdy : am_dyn b = true) (hk : k < cx_N b)
    (hfin : (cx_T b k).2.2.2 = true → fpl own idx b k = true ∧ meth.name = "<init>" ∧ (cx_T b k).1 = cx_nm own) (hn : narrow (cx_ty b k) v = v) (hfit : fits (cx_ty b k) v = true)
    (hR : REL A s0 cid slt hp H) (hA : ADR A s0 Hf) (hle1 : hle H Hf) (ha : a < cn H b)
    (hI : ∀ c' i' k', ¬ (c' = b ∧ i' = a) → rdI H' c' i' k' = rdI H c' i' k') (hL : ∀ c' i' k', ¬ (c' = b ∧ i' = a) → rdL H' c' i' k' = rdL H c' i' k') (hR' : ∀ c' i' k', ¬ (c' = b ∧ i' = a) → rdR H' c' i' k' = rdR H c' i' k')
    (hc : ∀ c', cn H' c' = cn H c') (hl : ∀ c' i', ln H' c' i' = ln H c' i') (hncl : ncl H' = ncl H) (hnew : fv A H' b a k = v) (hold : ∀ k', k' ≠ k → fv A H' b a k' = fv A H b a k')
    (kk : ∀ hp', REL A s0 cid slt hp' H' → W p l e R s m args below meth c hp' (locs ++ [⟨A b a, slt b k⟩]) cells slots Q (F0 m (pc + 3) jl rest)) : W p l e R s m args below meth c hp locs cells slots Q (F0 m pc jl (v :: .ref (A b a) :: rest)) := by
  obtain ⟨cell, q1, q2, q3, q4⟩ := (hR.2.1 b a ha).1 (by omega) h31
  have hKn := hF.2.2.2.1 b hb36 h31 (cxN_pos hk)
  obtain ⟨hS, hfc, kC, hkC, hkind⟩ := hKn
  obtain ⟨cf, kf, fi, f, hi, hsl⟩ := hS k hk
  have hts := hF.uws (args := args) hb36
  have hst := (u_facts (args := args) hfc hkC (u_lays hts (fun w h => h) hk) hi).1
  have hap : ∀ y, y < cx_N b → y ≠ k → slt b y ≠ slt b k := by
    intro y hy hne
    obtain ⟨_, _, _, fa, hia, ea⟩ := hS y hy
    rw [← ea, ← hsl]
    refine u_apart (u_lays hts (fun w h => h) hy) (u_lays hts (fun w h => h) hk) hia hi ?_
    rw [(State.fieldFound?_type hia (ty_ok hb36 hy)).1, (State.fieldFound?_type hi (ty_ok hb36 hk)).1]
    exact unm_ok b (lt0 b) hb36 y hy k hk hne
  have hold1 : cell.slots[slt b k]? = some (fv A H b a k) := q4 k hk
  have hlt : f.slot < cell.slots.size := by rw [hsl]; exact (Array.getElem?_eq_some_iff.mp hold1).1
  have key : ∀ hp' : Heap, hp'[A b a]? = some (cell.setSlot f.slot v) → hp'.size = hp.size → (∀ q, q ≠ A b a → hp'[q]? = hp[q]?) → REL A s0 cid slt hp' H' := by
    intro hp' e1 e2 e3
    refine hR.put hA hle1 ha hdy hI hL hR' hc hl hncl e2 e3 ⟨fun _ _ => ⟨_, e1, q2, q3, fun y hy => ?_⟩, fun h => absurd h (by omega), fun h => by omega⟩
    by_cases hyk : y = k
    · subst hyk
      rw [hsl, hnew]
      exact setSlot_self hold1
    · rw [hsl, hold y hyk]
      exact setSlot_get (q4 y hy) (hap y hy hyk)
  cases hfk : (cx_T b k).2.2.2 with
  | true =>
    obtain ⟨hpl, hini, hdecl⟩ := hfin hfk
    have hlay := hts _ (u_in_lay hk)
    unfold u_lay at hlay
    rw [if_pos hfk] at hlay
    have hcf : m.cls = cf := by
      obtain ⟨_, _, c', _, _, _, -, -, hf', -, -, -, hown2, -⟩ := Cond.laysFinal_spec hlay
      have e1 : c' = cf := by have := hi.symm.trans hf'; simp at this; exact this.1.symm
      rw [hdecl] at hown2
      rw [← e1]; exact Option.some.inj (hF.2.2.2.2.symm.trans hown2)
    have h6 := u_fits hfc hkC hkind (Or.inr hlay) hi (ty_ok hb36 hk) hn hfit
    refine W.putFinK hF.1 hb hF.2.2.2.2 (hF.2.2.1 _ (fpl_spec hpl) rfl args) hi hst hcf hini (by rw [q2]; exact h6) q1 q3 hlt rfl rfl hdg fun hp' e1 e2 e3 => ?_
    have := kk hp' (key hp' e1 e2 e3)
    rw [← hsl] at this
    exact this
  | false =>
    have hlay := hts _ (u_in_lay hk)
    unfold u_lay at hlay
    rw [if_neg (by rw [hfk]; decide)] at hlay
    have h6 := u_store hfc hkC hkind hlay hi (ty_ok hb36 hk) hn hfit
    rcases fany_spec hfl with hw | hw
    · refine W.putK hF.1 hb (f := f) ⟨hF.2.2.2.2, hF.2.2.1 _ hw rfl args, ⟨_, _, _, hi⟩, hst⟩ (by rw [q2]; exact h6) q1 q3 hlt rfl rfl hdg fun hp' e1 e2 e3 => ?_
      have := kk hp' (key hp' e1 e2 e3)
      rw [← hsl] at this
      exact this
    · refine va_WputK hF.1 hb hF.2.2.2.2 (hF.2.2.1 _ hw rfl args) hi hst (by rw [q2]; exact h6) q1 q3 hlt rfl rfl hdg fun hp' e1 e2 e3 => ?_
      have := kk hp' (key hp' e1 e2 e3)
      rw [← hsl] at this
      exact this
end NUM
