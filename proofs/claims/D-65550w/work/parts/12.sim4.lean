/-! SIM 4: the machine's heap against the abstract one -/
def okw (w : Cond) : Bool := (w.onTables && w.keeps) || (match w with
  | .arrayClass _ => true
  | .fieldLinkNest _ _ _ _ _ _ => true
  | .methodLinkNest _ _ _ _ => true
  | .castable _ _ => true
  | .arrayOver (.object _) => true
  | _ => false)
/-- the tables' words, at any state of the run -/
def TB (s : State) : Prop := ∀ w ∈ lw_tbl, okw w = true → ∀ a : Array Value, w.before a s = true
theorem TB.warm {s U : State} (hW : s.WarmedH U.vm) (h : TB s) : TB U := by
  intro w hw ho a
  have h1 := h w hw ho #[]
  unfold okw at ho
  cases hk : (w.onTables && w.keeps) with
  | true => exact word_at hW (Or.inl hk) h1
  | false =>
    rw [hk, Bool.false_or] at ho
    split at ho
    · exact word_at hW (Or.inr ⟨_, rfl⟩) h1
    · exact va_Nw.use rfl (va_Nw.warmF hW (va_Nw.of rfl h1))
    · exact va_Nw.use rfl (va_Nw.warmM hW (va_Nw.of rfl h1))
    · exact va_Nw.use rfl (va_Nw.warmC hW (va_Nw.of rfl h1))
    · exact va_AO.use (va_AO.moved hW.alike (va_AO.of h1))
    · cases ho
def vv (A : Nat → Nat → Nat) : am_V → Value
  | .inl x => .int x
  | .inr (.inl x) => .long x
  | .inr (.inr q) => va_rf (q.2.map (A (rawc q.1)))
def fv (A : Nat → Nat → Nat) (H : am_H) (c i k : Nat) : Value := bif Nat.beq (cx_kt c k).1 0 || Nat.beq (cx_kt c k).1 6 then .int (rdI H c i k) else va_rf ((rdR H c i k).map (A (cx_kt c k).2))
def ety (c : Nat) : FieldType := bif Nat.beq (c / 1000) 1 then .int else bif Nat.beq (c / 1000) 2 then .byte else bif Nat.beq (c / 1000) 3 then .boolean else bif Nat.beq (c / 1000) 4 then .short else bif Nat.beq (c / 1000) 5 then .long else .object (cx_nm ((c - 6000) / 20))
def ev (A : Nat → Nat → Nat) (H : am_H) (c i k : Nat) : Value := bif Nat.beq (c / 1000) 5 then .long (rdL H c i k) else bif Nat.ble 6000 c then va_rf ((rdR H c i k).map (A ((c - 6000) / 20))) else .int (rdI H c i k)
def aln (H : am_H) (c i : Nat) : Nat := am_ln (cx_s c) H c i
/-- what stands in the machine's heap for an object of the abstract one -/
def cOK (A : Nat → Nat → Nat) (s0 : State) (cid : Nat → ClassId) (slt : Nat → Nat → Nat) (hp : Heap) (H : am_H) (c i : Nat) : Prop :=
  (c < 64 → c ≠ 31 → t_OB (A c i) (cid c) (cx_N c) (slt c) hp (fv A H c i)) ∧
  (1000 ≤ c → am_dyn c = true → ∃ cA : ClassId, ArrOfT s0 cA (ety c) ∧ (6000 ≤ c → va_RA s0 cA (ety c)) ∧ hp[A c i]? = some (arrV cA (aln H c i) (ev A H c i))) ∧
  ((c = 1997 ∨ c = 1998) → ∃ cell : Cell, hp[A c i]? = some cell ∧ s0.isArrayOf cell .int ∧ cell.vm ≠ .unknown ∧ cell.slots.size = aln H c i ∧ ∀ j, j < aln H c i → cell.slots[j]? = some (.int (rdI H c i j)))
def zer (H : am_H) : Prop := ∀ c i k, cn H c ≤ i → rdI H c i k = 0 ∧ rdL H c i k = 0 ∧ rdR H c i k = none
def REL (A : Nat → Nat → Nat) (s0 : State) (cid : Nat → ClassId) (slt : Nat → Nat → Nat) (hp : Heap) (H : am_H) : Prop :=
  hp.size = s0.heap.size + ncl H ∧ (∀ c i, i < cn H c → cOK A s0 cid slt hp H c i) ∧ (∀ q : Nat, q < s0.heap.size → hp[q]? = s0.heap[q]?) ∧ zer H ∧ (∀ c i, i < cn H c → A c i < hp.size) ∧ cn H 31 = 6
/-- where things are: by the last heap of the run -/
def ADR (A : Nat → Nat → Nat) (s0 : State) (Hf : am_H) : Prop :=
  (∀ c i, am_dyn c = true → i < cn Hf c → A c i = s0.heap.size + adr Hf c i) ∧
  (∀ c i, am_dyn c = false → A c i < s0.heap.size) ∧
  ∀ c i c' i', i < cn Hf c → i' < cn Hf c' → A c i = A c' i' → c = c' ∧ i = i'
theorem ADR.down {A : Nat → Nat → Nat} {s0 : State} {H Hf : am_H} (h : ADR A s0 Hf) (k : hle H Hf) : ADR A s0 H :=
  ⟨fun c i hd hi => by rw [h.1 c i hd (Nat.lt_of_lt_of_le hi (k.1 c)), (k.2.1 c i hi).1], h.2.1, fun c i c' i' hi hi' => h.2.2 c i c' i' (Nat.lt_of_lt_of_le hi (k.1 c)) (Nat.lt_of_lt_of_le hi' (k.1 c'))⟩
section
variable {A : Nat → Nat → Nat} {s0 : State} {cid : Nat → ClassId} {slt : Nat → Nat → Nat} {hp hp' : Heap} {H H' Hf : am_H}
theorem cOK.same {c i : Nat} (h : cOK A s0 cid slt hp H c i) (hq : hp'[A c i]? = hp[A c i]?) (hI : ∀ k, rdI H' c i k = rdI H c i k) (hL : ∀ k, rdL H' c i k = rdL H c i k) (hR : ∀ k, rdR H' c i k = rdR H c i k) (hn : ln H' c i = ln H c i) : cOK A s0 cid slt hp' H' c i := by
  have e1 : fv A H' c i = fv A H c i := by funext k; simp only [fv, hI, hR]
  have e2 : ev A H' c i = ev A H c i := by funext k; simp only [ev, hI, hL, hR]
  have e3 : aln H' c i = aln H c i := by
    unfold aln am_ln
    split
    · exact hn
    · rfl
  refine ⟨fun a b => ?_, fun a b => ?_, fun a => ?_⟩
  · rw [e1]; exact (h.1 a b).kept hq
  · obtain ⟨cA, b1, b2, b3⟩ := h.2.1 a b
    exact ⟨cA, b1, b2, by rw [e2, e3, hq]; exact b3⟩
  · obtain ⟨cell, b1, b2, b3, b4, b5⟩ := h.2.2 a
    exact ⟨cell, by rw [hq]; exact b1, b2, b3, by rw [e3]; exact b4, fun j hj => by rw [hI]; exact b5 j (by rw [← e3]; exact hj)⟩
/-- one object has changed -/
theorem REL.put (hR : REL A s0 cid slt hp H) (hA : ADR A s0 Hf) (hf : hle H Hf) {c i : Nat} (hi : i < cn H c) (hd : am_dyn c = true)
    (hI : ∀ c' i' k, ¬ (c' = c ∧ i' = i) → rdI H' c' i' k = rdI H c' i' k) (hL : ∀ c' i' k, ¬ (c' = c ∧ i' = i) → rdL H' c' i' k = rdL H c' i' k) (hR' : ∀ c' i' k, ¬ (c' = c ∧ i' = i) → rdR H' c' i' k = rdR H c' i' k)
    (hc : ∀ c', cn H' c' = cn H c') (hl : ∀ c' i', ln H' c' i' = ln H c' i') (hn : ncl H' = ncl H) (z : hp'.size = hp.size) (oq : ∀ q, q ≠ A c i → hp'[q]? = hp[q]?) (new : cOK A s0 cid slt hp' H' c i) : REL A s0 cid slt hp' H' := by
  have hbase : s0.heap.size ≤ A c i := by
    rw [hA.1 c i hd (Nat.lt_of_lt_of_le hi (hf.1 c))]; exact Nat.le_add_right _ _
  refine ⟨by rw [z, hn]; exact hR.1, fun c' i' h' => ?_, fun q hq => ?_, fun c' i' k h' => ?_, fun c' i' h' => by rw [z]; exact hR.2.2.2.2.1 c' i' (by rw [← hc]; exact h'), (hc 31).trans hR.2.2.2.2.2⟩
  · rw [hc] at h'
    by_cases e : c' = c ∧ i' = i
    · rw [e.1, e.2]; exact new
    · refine (hR.2.1 c' i' h').same (oq _ fun q => e ?_) (fun k => hI c' i' k e) (fun k => hL c' i' k e) (fun k => hR' c' i' k e) (hl c' i')
      exact hA.2.2 c' i' c i (Nat.lt_of_lt_of_le h' (hf.1 c')) (Nat.lt_of_lt_of_le hi (hf.1 c)) q
  · rw [oq q (by intro e; rw [e] at hq; omega)]
    exact hR.2.2.1 q hq
  · rw [hc] at h'
    have e : ¬ (c' = c ∧ i' = i) := by
      rintro ⟨rfl, rfl⟩
      omega
    rw [hI c' i' k e, hL c' i' k e, hR' c' i' k e]
    exact hR.2.2.2.1 c' i' k h'
/-- one object more -/
theorem REL.new (hR : REL A s0 cid slt hp H) (hA : ADR A s0 Hf) {c n w : Nat} (hf : hle (nw H c n w) Hf) (hd : am_dyn c = true) (z : hp'.size = hp.size + 1) (oq : ∀ q, q < hp.size → hp'[q]? = hp[q]?) (new : A c (cn H c) = hp.size → cOK A s0 cid slt hp' (nw H c n w) c (cn H c)) : REL A s0 cid slt hp' (nw H c n w) := by
  have hcn : ∀ c', cn (nw H c n w) c' = if c' = c then cn H c + 1 else cn H c' := fun _ => rfl
  have hlt : cn H c < cn (nw H c n w) c := by rw [hcn, if_pos rfl]; exact Nat.lt_succ_self _
  have hadr : A c (cn H c) = hp.size := by
    rw [hA.1 c (cn H c) hd (Nat.lt_of_lt_of_le hlt (hf.1 c)), (hf.2.1 c (cn H c) hlt).1, hR.1]
    show _ + (if c = c ∧ cn H c = cn H c then ncl H else _) = _
    rw [if_pos ⟨rfl, rfl⟩]
  have old : ∀ c' i', i' < cn (nw H c n w) c' → ¬ (c' = c ∧ i' = cn H c) → i' < cn H c' := by
    intro c' i' h' e
    rw [hcn] at h'
    by_cases ec : c' = c
    · subst ec
      rw [if_pos rfl] at h'
      have : i' ≠ cn H c' := fun x => e ⟨rfl, x⟩
      omega
    · rw [if_neg ec] at h'; exact h'
  refine ⟨by rw [z, hR.1]; rfl, fun c' i' h' => ?_, fun q hq => ?_, fun c' i' k h' => ?_, fun c' i' h' => ?_, ?_⟩
  · by_cases e : c' = c ∧ i' = cn H c
    · rw [e.1, e.2]; exact new hadr
    · have h2 : i' < cn H c' := old c' i' h' e
      have hlen : ln (nw H c n w) c' i' = ln H c' i' := by
        show (if c' = c ∧ i' = cn H c then n else ln H c' i') = _
        rw [if_neg e]
      have hsz : A c' i' < hp.size := hR.2.2.2.2.1 c' i' h2
      exact (hR.2.1 c' i' h2).same (oq _ hsz) (fun _ => rfl) (fun _ => rfl) (fun _ => rfl) hlen
  · rw [oq q (by rw [hR.1]; omega)]
    exact hR.2.2.1 q hq
  · refine hR.2.2.2.1 c' i' k ?_
    rw [hcn] at h'
    split at h'
    · rename_i ec; subst ec; omega
    · exact h'
  · rw [z]
    by_cases e : c' = c ∧ i' = cn H c
    · rw [e.1, e.2, hadr]; exact Nat.lt_succ_self _
    · exact Nat.lt_succ_of_lt (hR.2.2.2.2.1 c' i' (old c' i' h' e))
  · rw [hcn, if_neg (by rintro rfl; cases hd)]
    exact hR.2.2.2.2.2
end
