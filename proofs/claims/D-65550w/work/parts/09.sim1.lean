/-! SIM 1: what the abstract machine keeps: validity of references, growth of the heap -/
def am_dyn (c : Nat) : Bool := !(Nat.beq c 31 || (Nat.beq c 1997 || Nat.beq c 1998))
def tgt (c k : Nat) : Nat := bif Nat.blt c 64 then (cx_kt c k).2 else (c - 6000) / 20
def rawc (c : Nat) : Nat := bif Nat.ble 64 c && Nat.blt c 128 then c - 64 else c
def excb (c : Nat) : Bool := Nat.beq c 18 || (Nat.ble 32 c && Nat.ble c 35)
theorem excb_lt {c : Nat} (h : excb c = true) : c < 36 ∧ c ≠ 31 := by
  simp only [excb, Bool.or_eq_true, Bool.and_eq_true, Nat.beq_eq, Nat.ble_eq] at h
  omega
abbrev am_OF : Type := Nat → List (Nat × Nat × Nat)
/-- a made object (or an array): it is there, and its own fields stand -/
def ok1 (F : am_OF) (H : am_H) (c i : Nat) : Prop := i < cn H c ∧ am_done H c i (F c)
def okr (F : am_OF) (H : am_H) (q : Nat × Option Nat) : Prop := ∀ i, q.2 = some i → if 64 ≤ q.1 ∧ q.1 < 128 then i < cn H (q.1 - 64) else ok1 F H q.1 i
def okv (F : am_OF) (H : am_H) : am_V → Prop
  | .inr (.inr q) => okr F H q
  | _ => True
def okh (F : am_OF) (H : am_H) : Prop := (∀ c i k j, rdR H c i k = some j → ok1 F H (tgt c k) j) ∧ 6 ≤ cn H 31 ∧ 1 ≤ cn H 1997
def hle (H H' : am_H) : Prop := (∀ c, cn H c ≤ cn H' c) ∧ (∀ c i, i < cn H c → adr H' c i = adr H c i ∧ ln H' c i = ln H c i) ∧ ncl H ≤ ncl H' ∧ nsl H ≤ nsl H'
def dle (F : am_OF) (H H' : am_H) : Prop := ∀ c i, am_done H c i (F c) → am_done H' c i (F c)
def ofok (F : am_OF) : Prop := ∀ c, ∀ q ∈ F c, cx_kt c q.1 = (q.2.2, q.2.1) ∧ 3 ≤ q.2.2 ∧ c < 64
theorem hle.refl (H : am_H) : hle H H := ⟨fun _ => Nat.le_refl _, fun _ _ _ => ⟨rfl, rfl⟩, Nat.le_refl _, Nat.le_refl _⟩
theorem hle.trans {H K L : am_H} (h : hle H K) (k : hle K L) : hle H L := by
  refine ⟨fun c => Nat.le_trans (h.1 c) (k.1 c), fun c i hi => ?_, Nat.le_trans h.2.2.1 k.2.2.1, Nat.le_trans h.2.2.2 k.2.2.2⟩
  have h1 := h.2.1 c i hi
  have h2 := k.2.1 c i (Nat.lt_of_lt_of_le hi (h.1 c))
  exact ⟨h2.1.trans h1.1, h2.2.trans h1.2⟩
theorem dle.refl (F : am_OF) (H : am_H) : dle F H H := fun _ _ h => h
theorem dle.trans {F : am_OF} {H K L : am_H} (h : dle F H K) (k : dle F K L) : dle F H L := fun c i d => k c i (h c i d)
theorem ok1.up {F : am_OF} {H K : am_H} (h : hle H K) (d : dle F H K) {c i : Nat} (o : ok1 F H c i) : ok1 F K c i := ⟨Nat.lt_of_lt_of_le o.1 (h.1 c), d _ _ o.2⟩
theorem okr.up {F : am_OF} {H K : am_H} (h : hle H K) (d : dle F H K) {q : Nat × Option Nat} (o : okr F H q) : okr F K q := by
  intro i hi
  have := o i hi
  split
  · rename_i hc; rw [if_pos hc] at this; exact Nat.lt_of_lt_of_le this (h.1 _)
  · rename_i hc; rw [if_neg hc] at this; exact this.up h d
theorem okv.up {F : am_OF} {H K : am_H} (h : hle H K) (d : dle F H K) : ∀ {v : am_V}, okv F H v → okv F K v
  | .inl _, _ => trivial
  | .inr (.inl _), _ => trivial
  | .inr (.inr _), o => okr.up (F := F) h d o
theorem hle_I (H : am_H) (c i k : Nat) (v : Int32) : hle H (wrI H c i k v) := hle.refl H
theorem hle_L (H : am_H) (c i k : Nat) (v : Int64) : hle H (wrL H c i k v) := hle.refl H
theorem hle_R (H : am_H) (c i k : Nat) (v : Option Nat) : hle H (wrR H c i k v) := hle.refl H
theorem hle_N (H : am_H) (c n w : Nat) : hle H (nw H c n w) := by
  refine ⟨fun d => ?_, fun d i hi => ?_, Nat.le_succ _, Nat.le_add_right _ _⟩
  · show cn H d ≤ if d = c then cn H c + 1 else cn H d
    split
    · rename_i e; rw [e]; exact Nat.le_succ _
    · exact Nat.le_refl _
  · constructor
    · show (if d = c ∧ i = cn H c then ncl H else adr H d i) = adr H d i
      rw [if_neg]
      rintro ⟨rfl, rfl⟩
      exact Nat.lt_irrefl _ hi
    · show (if d = c ∧ i = cn H c then n else ln H d i) = ln H d i
      rw [if_neg]
      rintro ⟨rfl, rfl⟩
      exact Nat.lt_irrefl _ hi
theorem done_eq {H K : am_H} {c i : Nat} : ∀ (l : List (Nat × Nat × Nat)), (∀ q ∈ l, rdR K c i q.1 = rdR H c i q.1) → am_done H c i l → am_done K c i l
  | [], _, _ => trivial
  | (k, t, d) :: r, h, o => ⟨(h (k, t, d) List.mem_cons_self).trans o.1, done_eq r (fun q hq => h q (List.mem_cons_of_mem _ hq)) o.2⟩
theorem done_at {H : am_H} {c i : Nat} : ∀ (l : List (Nat × Nat × Nat)) (q : Nat × Nat × Nat), q ∈ l → am_done H c i l → rdR H c i q.1 = some (match q.2.2 with | 4 => 2 * i | 5 => 2 * i + 1 | _ => i)
  | [], _, h, _ => by cases h
  | (k, t, d) :: r, q, h, o => by
    rcases List.mem_cons.mp h with rfl | h
    · exact o.1
    · exact done_at r q h o.2
theorem dle_I (F : am_OF) (H : am_H) (c i k : Nat) (v : Int32) : dle F H (wrI H c i k v) := fun _ _ d => done_eq (H := H) _ (fun _ _ => rfl) d
theorem dle_L (F : am_OF) (H : am_H) (c i k : Nat) (v : Int64) : dle F H (wrL H c i k v) := fun _ _ d => done_eq (H := H) _ (fun _ _ => rfl) d
theorem dle_N (F : am_OF) (H : am_H) (c n w : Nat) : dle F H (nw H c n w) := fun _ _ d => done_eq (H := H) _ (fun _ _ => rfl) d
/-- a write that is no own field's, or of one that was not there -/
theorem dle_R {F : am_OF} (hF : ofok F) (H : am_H) (c i k : Nat) (v : Option Nat) (h : (cx_kt c k).1 < 3 ∨ 64 ≤ c ∨ rdR H c i k = none) : dle F H (wrR H c i k v) := by
  intro c' i' d
  refine done_eq (H := H) _ (fun q hq => ?_) d
  show (if c' = c ∧ q.1 = k ∧ i' = i then v else rdR H c' i' q.1) = rdR H c' i' q.1
  rw [if_neg]
  rintro ⟨rfl, rfl, rfl⟩
  obtain ⟨h1, h2, h3⟩ := hF c' q hq
  rcases h with h | h | h
  · rw [h1] at h; simp at h; omega
  · omega
  · have := done_at _ q hq d
    rw [h] at this
    cases this
theorem okh_I {F : am_OF} {H : am_H} {c i k : Nat} {v : Int32} (h : okh F H) : okh F (wrI H c i k v) := ⟨fun c' i' k' j hj => (h.1 c' i' k' j hj).up (hle_I H c i k v) (dle_I F H c i k v), h.2⟩
theorem okh_L {F : am_OF} {H : am_H} {c i k : Nat} {v : Int64} (h : okh F H) : okh F (wrL H c i k v) := ⟨fun c' i' k' j hj => (h.1 c' i' k' j hj).up (hle_L H c i k v) (dle_L F H c i k v), h.2⟩
theorem okh_N {F : am_OF} {H : am_H} {c n w : Nat} (h : okh F H) : okh F (nw H c n w) :=
  ⟨fun c' i' k' j hj => (h.1 c' i' k' j hj).up (hle_N H c n w) (dle_N F H c n w), Nat.le_trans h.2.1 ((hle_N H c n w).1 31), Nat.le_trans h.2.2 ((hle_N H c n w).1 1997)⟩
theorem okh_R {F : am_OF} {H : am_H} {c i k : Nat} {v : Option Nat} (h : okh F H) (hd : dle F H (wrR H c i k v)) (hv : ∀ j, v = some j → ok1 F H (tgt c k) j) : okh F (wrR H c i k v) := by
  refine ⟨fun c' i' k' j hj => ?_, h.2⟩
  rw [show rdR (wrR H c i k v) c' i' k' = if c' = c ∧ k' = k ∧ i' = i then v else rdR H c' i' k' from rfl] at hj
  split at hj
  · rename_i e
    rw [e.1, e.2.1]
    exact (hv j hj).up (hle_R H c i k v) hd
  · exact (h.1 c' i' k' j hj).up (hle_R H c i k v) hd
def okl (F : am_OF) (H : am_H) (ls : am_L) : Prop := ∀ v, some v ∈ ls → okv F H v
def oks (F : am_OF) (H : am_H) (st : List am_V) : Prop := ∀ v ∈ st, okv F H v
theorem okl.up {F : am_OF} {H K : am_H} (h : hle H K) (d : dle F H K) {ls : am_L} (o : okl F H ls) : okl F K ls := fun v hv => (o v hv).up h d
theorem oks.up {F : am_OF} {H K : am_H} (h : hle H K) (d : dle F H K) {st : List am_V} (o : oks F H st) : oks F K st := fun v hv => (o v hv).up h d
theorem oks.tl {F : am_OF} {H : am_H} {v : am_V} {st : List am_V} (o : oks F H (v :: st)) : oks F H st := fun w hw => o w (List.mem_cons_of_mem _ hw)
theorem oks.hd {F : am_OF} {H : am_H} {v : am_V} {st : List am_V} (o : oks F H (v :: st)) : okv F H v := o v List.mem_cons_self
theorem oks.cons {F : am_OF} {H : am_H} {v : am_V} {st : List am_V} (h : okv F H v) (o : oks F H st) : oks F H (v :: st) := fun w hw => by
  rcases List.mem_cons.mp hw with rfl | hw
  · exact h
  · exact o w hw
theorem nth_mem : ∀ {ls : am_L} {j : Nat} {v : am_V}, am_nth ls j = some v → some v ∈ ls
  | [], _, _, h => by cases h
  | a :: r, 0, v, h => by rw [show a = some v from h]; exact List.mem_cons_self
  | _ :: r, n + 1, v, h => List.mem_cons_of_mem _ (nth_mem (ls := r) (j := n) h)
theorem set_mem : ∀ {ls : am_L} {j : Nat} {a : Option am_V} {v : am_V}, some v ∈ am_set ls j a → some v = a ∨ some v ∈ ls
  | [], _, _, _, h => by cases h
  | b :: r, 0, a, v, h => by
    rcases List.mem_cons.mp h with h | h
    · exact Or.inl h
    · exact Or.inr (List.mem_cons_of_mem _ h)
  | b :: r, 1, a, v, h => by
    rcases List.mem_cons.mp h with h | h
    · right
      rw [show b = some v from ?_]
      · exact List.mem_cons_self
      · rcases b with _ | (x | x | x)
        · exact h.symm
        · exact h.symm
        · cases h
        · exact h.symm
    · rcases set_mem (ls := r) h with h | h
      · exact Or.inl h
      · exact Or.inr (List.mem_cons_of_mem _ h)
  | b :: r, n + 2, a, v, h => by
    rcases List.mem_cons.mp h with h | h
    · rw [h]; exact Or.inr List.mem_cons_self
    · rcases set_mem (ls := r) h with h | h
      · exact Or.inl h
      · exact Or.inr (List.mem_cons_of_mem _ h)
theorem okl.set {F : am_OF} {H : am_H} {ls : am_L} (o : okl F H ls) (j : Nat) {a : Option am_V} (h : ∀ v, a = some v → okv F H v) : okl F H (am_set ls j a) := fun v hv => by
  rcases set_mem hv with e | e
  · exact h v e.symm
  · exact o v e
theorem mask_mem : ∀ {m : List Bool} {ls : am_L} {v : am_V}, some v ∈ am_mask m ls → some v ∈ ls
  | [], _, _, h => by cases h
  | _ :: m, [], v, h => by
    rcases List.mem_cons.mp h with h | h
    · cases h
    · cases mask_mem (m := m) (ls := []) h
  | true :: m, a :: r, v, h => by
    rcases List.mem_cons.mp h with h | h
    · rw [h]; exact List.mem_cons_self
    · exact List.mem_cons_of_mem _ (mask_mem (m := m) (ls := r) h)
  | false :: m, a :: r, v, h => by
    rcases List.mem_cons.mp h with h | h
    · cases h
    · exact List.mem_cons_of_mem _ (mask_mem (m := m) (ls := r) h)
theorem okl.mask {F : am_OF} {H : am_H} {ls : am_L} (o : okl F H ls) (m : List Bool) : okl F H (am_mask m ls) := fun v hv => o v (mask_mem hv)
