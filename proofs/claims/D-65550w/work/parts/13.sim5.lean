/-! SIM 5: one instruction of the machine for one of the abstract machine: plain ones -/
def lvl (A : Nat → Nat → Nat) : Nat → am_L → List (Nat × Value)
  | _, [] => []
  | n, some v :: r => (n, vv A v) :: lvl A (n + 1) r
  | n, none :: r => lvl A (n + 1) r
theorem lvl_ge {A : Nat → Nat → Nat} : ∀ {ls : am_L} {n : Nat} {q : Nat × Value}, q ∈ lvl A n ls → n ≤ q.1
  | [], _, _, h => by cases h
  | some v :: r, n, q, h => by
    rcases List.mem_cons.mp h with rfl | h
    · exact Nat.le_refl _
    · exact Nat.le_of_succ_le (lvl_ge h)
  | none :: r, n, q, h => Nat.le_of_succ_le (lvl_ge (ls := r) h)
theorem lvl_nth {A : Nat → Nat → Nat} : ∀ {ls : am_L} {n j : Nat} {v : am_V}, am_nth ls j = some v → (n + j, vv A v) ∈ lvl A n ls
  | [], _, _, _, h => by cases h
  | a :: r, n, 0, v, h => by rw [show a = some v from h]; exact List.mem_cons_self
  | a :: r, n, j + 1, v, h => by
    have := lvl_nth (A := A) (ls := r) (n := n + 1) (j := j) h
    rw [show n + 1 + j = n + (j + 1) by omega] at this
    cases a with
    | none => exact this
    | some w => exact List.mem_cons_of_mem _ this
theorem lvl_set {A : Nat → Nat → Nat} : ∀ {ls : am_L} {n j : Nat} {a : Option am_V} {q : Nat × Value}, q ∈ lvl A n (am_set ls j a) → (∃ v, a = some v ∧ q = (n + j, vv A v)) ∨ (q ∈ lvl A n ls ∧ q.1 ≠ n + j ∧ ¬ (q.1 + 1 = n + j ∧ q.2.category = 2))
  | [], _, _, _, _, h => by cases h
  | b :: r, n, 0, a, q, h => by
    have tail : q ∈ lvl A (n + 1) r → (q ∈ lvl A n (b :: r) ∧ q.1 ≠ n + 0 ∧ ¬ (q.1 + 1 = n + 0 ∧ q.2.category = 2)) := fun h0 => by
      have := lvl_ge h0
      refine ⟨?_, by omega, by omega⟩
      clear h
      cases b with
      | none => exact h0
      | some w => exact List.mem_cons_of_mem _ h0
    cases a with
    | none => exact Or.inr (tail h)
    | some v =>
      rcases List.mem_cons.mp h with rfl | h
      · exact Or.inl ⟨v, rfl, rfl⟩
      · exact Or.inr (tail h)
  | b :: r, n, 1, a, q, h => by
    have tail : q ∈ lvl A (n + 1) (am_set r 0 a) → (∃ v, a = some v ∧ q = (n + 1, vv A v)) ∨ (q ∈ lvl A n (b :: r) ∧ q.1 ≠ n + 1 ∧ ¬ (q.1 + 1 = n + 1 ∧ q.2.category = 2)) := fun h => by
      rcases lvl_set h with ⟨v, h1, h2⟩ | ⟨h1, h2, h3⟩
      · exact Or.inl ⟨v, h1, by simpa using h2⟩
      · refine Or.inr ⟨?_, by simpa using h2, fun h => ?_⟩
        · cases b with
          | none => exact h1
          | some w => exact List.mem_cons_of_mem _ h1
        · have := lvl_ge h1
          omega
    rcases b with _ | (x | x | x)
    · exact tail h
    · rcases List.mem_cons.mp h with rfl | h
      · exact Or.inr ⟨List.mem_cons_self, by simp, by simp [vv, Value.category]⟩
      · exact tail h
    · exact tail h
    · rcases List.mem_cons.mp h with rfl | h
      · refine Or.inr ⟨List.mem_cons_self, by simp, ?_⟩
        rintro ⟨-, hc⟩
        simp only [vv] at hc
        cases hx : (x.2.map (A (rawc x.1))) <;> rw [hx] at hc <;> cases hc
      · exact tail h
  | b :: r, n, j + 2, a, q, h => by
    have tail : q ∈ lvl A (n + 1) (am_set r (j + 1) a) → (∃ v, a = some v ∧ q = (n + (j + 2), vv A v)) ∨ (q ∈ lvl A n (b :: r) ∧ q.1 ≠ n + (j + 2) ∧ ¬ (q.1 + 1 = n + (j + 2) ∧ q.2.category = 2)) := fun h => by
      rcases lvl_set h with ⟨v, h1, h2⟩ | ⟨h1, h2, h3⟩
      · exact Or.inl ⟨v, h1, by rw [h2]; congr 1; omega⟩
      · refine Or.inr ⟨?_, by omega, fun h => h3 ⟨by omega, h.2⟩⟩
        cases b with
        | none => exact h1
        | some w => exact List.mem_cons_of_mem _ h1
    cases b with
    | none => exact tail h
    | some w =>
      rcases List.mem_cons.mp h with rfl | h
      · exact Or.inr ⟨List.mem_cons_self, by simp, fun h => by simp at h⟩
      · exact tail h
def locR (A : Nat → Nat → Nat) (ls : am_L) (jl : Array Slot) (nL : Nat) : Prop := lv_has jl nL (lvl A 0 ls)
theorem lv_mono {jl : Array Slot} {nL : Nat} {a b : List (Nat × Value)} (h : lv_has jl nL a) (hs : ∀ q ∈ b, q ∈ a) : lv_has jl nL b := ⟨h.1, h.2.1, fun q hq => h.2.2 q (hs q hq)⟩
theorem locR.get {A : Nat → Nat → Nat} {ls : am_L} {jl : Array Slot} {nL j : Nat} {v : am_V} (h : locR A ls jl nL) (hn : am_nth ls j = some v) : jl[j]? = some (.val (vv A v)) := by
  have := h.2.2 _ (lvl_nth (A := A) (n := 0) hn)
  simpa using this
theorem locR.set1 {A : Nat → Nat → Nat} {ls : am_L} {jl : Array Slot} {nL j : Nat} {v : am_V} (h : lv_has jl nL ((j, vv A v) :: (lvl A 0 ls).filter (fun q => !(q.1 == j) && !(q.1 + 1 == j && q.2.category == 2)))) : locR A (am_set ls j (some v)) jl nL := by
  refine lv_mono h fun q hq => ?_
  rcases lvl_set hq with ⟨w, h1, h2⟩ | ⟨h1, h2, h3⟩
  · cases h1
    rw [h2, Nat.zero_add]
    exact List.mem_cons_self
  · refine List.mem_cons_of_mem _ (List.mem_filter.mpr ⟨h1, ?_⟩)
    rw [Nat.zero_add] at h2 h3
    simp only [Bool.and_eq_true, Bool.not_eq_true', beq_eq_false_iff_ne, Bool.and_eq_false_iff]
    refine ⟨h2, ?_⟩
    by_cases hc : q.1 + 1 = j
    · exact Or.inr fun h => h3 ⟨hc, h⟩
    · exact Or.inl hc
theorem locR.set2 {A : Nat → Nat → Nat} {ls : am_L} {jl : Array Slot} {nL j : Nat} {v : am_V} (h : lv_has jl nL ((j, vv A v) :: (lvl A 0 ls).filter (fun q => !(q.1 == j) && (!(q.1 == j + 1) && !(q.1 + 1 == j && q.2.category == 2))))) : locR A (am_set (am_set ls (j + 1) none) j (some v)) jl nL := by
  refine lv_mono h fun q hq => ?_
  rcases lvl_set hq with ⟨w, h1, h2⟩ | ⟨h1, h2, h3⟩
  · cases h1
    rw [h2, Nat.zero_add]
    exact List.mem_cons_self
  · rcases lvl_set h1 with ⟨w, h4, -⟩ | ⟨h4, h5, -⟩
    · cases h4
    refine List.mem_cons_of_mem _ (List.mem_filter.mpr ⟨h4, ?_⟩)
    rw [Nat.zero_add] at h2 h3 h5
    simp only [Bool.and_eq_true, Bool.not_eq_true', beq_eq_false_iff_ne, Bool.and_eq_false_iff]
    refine ⟨h2, h5, ?_⟩
    by_cases hc : q.1 + 1 = j
    · exact Or.inr fun h => h3 ⟨hc, h⟩
    · exact Or.inl hc
theorem locR.mask {A : Nat → Nat → Nat} {jl : Array Slot} {nL : Nat} {ls : am_L} (m : List Bool) (h : locR A ls jl nL) : locR A (am_mask m ls) jl nL := by
  refine lv_mono h ?_
  have key : ∀ (m : List Bool) (ls : am_L) (n : Nat) (q : Nat × Value), q ∈ lvl A n (am_mask m ls) → q ∈ lvl A n ls := by
    intro m
    induction m with
    | nil => intro ls n q h; cases h
    | cons b m ih =>
      intro ls n q h
      cases ls with
      | nil =>
        have : q ∈ lvl A (n + 1) (am_mask m []) := by cases b <;> exact h
        cases ih [] (n + 1) q this
      | cons a r =>
        cases b with
        | false =>
          have : q ∈ lvl A (n + 1) (am_mask m r) := h
          have := ih r (n + 1) q this
          cases a with
          | none => exact this
          | some w => exact List.mem_cons_of_mem _ this
        | true =>
          cases a with
          | none => exact ih r (n + 1) q h
          | some w =>
            rcases List.mem_cons.mp h with rfl | h
            · exact List.mem_cons_self
            · exact List.mem_cons_of_mem _ (ih r (n + 1) q h)
  exact key m ls 0
/-- the frame's own facts -/
def FRM (p : Program) (s0 : State) (cid : Nat → ClassId) (slt : Nat → Nat → Nat) (s : State) (m : MethodId) (own : Nat) : Prop :=
  p.tables.exec = Jvm.exec ∧ s0.vm.Alike s.vm ∧ TB s ∧ (∀ c, c < 36 → c ≠ 31 → 1 ≤ c → u_Kn s (cx_nm c) (cx_T c) (cx_N c) (cid c) (slt c)) ∧ s.vm.findClass (cx_nm own) = some m.cls
/-- a state of the walk -/
def SR (A : Nat → Nat → Nat) (s0 : State) (cid : Nat → ClassId) (slt : Nat → Nat → Nat) (n0 m0 nL : Nat) (ls : am_L) (H : am_H) (hp : Heap) (locs : List Loc) (cells slots : Nat) (jl : Array Slot) : Prop :=
  REL A s0 cid slt hp H ∧ locR A ls jl nL ∧ (∀ q ∈ locs, s0.heap.size ≤ q.base) ∧ cells + n0 = ncl H ∧ slots + m0 = nsl H
def mtI (nL : Nat) (ins : Instr) (len : Nat) (i : Instr) : Bool := match i with
  | .iload j => (if h : j < 4 then decide (ins = .iload_n ⟨j, h⟩ ∧ len = 1) else false) || decide (ins = .iload j ∧ len = 2)
  | .lload j => (if h : j < 4 then decide (ins = .lload_n ⟨j, h⟩ ∧ len = 1) else false) || decide (ins = .lload j ∧ len = 2)
  | .aload j => (if h : j < 4 then decide (ins = .aload_n ⟨j, h⟩ ∧ len = 1) else false) || decide (ins = .aload j ∧ len = 2)
  | .istore j => Nat.blt j nL && ((if h : j < 4 then decide (ins = .istore_n ⟨j, h⟩ ∧ len = 1) else false) || decide (ins = .istore j ∧ len = 2))
  | .lstore j => Nat.blt (j + 1) nL && ((if h : j < 4 then decide (ins = .lstore_n ⟨j, h⟩ ∧ len = 1) else false) || decide (ins = .lstore j ∧ len = 2))
  | .astore j => Nat.blt j nL && ((if h : j < 4 then decide (ins = .astore_n ⟨j, h⟩ ∧ len = 1) else false) || decide (ins = .astore j ∧ len = 2))
  | i => decide (ins = i ∧ len = 1)
section PLAIN
variable {p : Program} {l : Launch} {e : Env} {R : Room} {s : State} {m : MethodId} {args : Array Value} {below : List Frame} {meth : Method} {c : Code} {hp : Heap} {locs : List Loc} {cells slots : Nat} {Q : State → Prop} {cc : ByteArray} {pc : Nat} {jl : Array Slot}
variable {A : Nat → Nat → Nat} {s0 : State} {cid : Nat → ClassId} {slt : Nat → Nat → Nat} {n0 m0 nL : Nat}
theorem mt_dec {P : Prop} [Decidable P] (h : decide P = true) : P := of_decide_eq_true h
theorem cat_rf (o : Option Nat) : (va_rf o).category = 1 := by cases o <;> rfl
theorem sp_load {j : Nat} {v : Value} {rest : List Value} (hx : p.tables.exec = Jvm.exec) (hb : c.code = cc) {o : Option Nat} (hl : jl[j]? = some (.val (va_rf o))) {len : Nat} {ins : Instr} (hdg : decode cc pc = .ok (ins, len)) (hm : (if h : j < 4 then decide (ins = .aload_n ⟨j, h⟩ ∧ len = 1) else false) = true ∨ decide (ins = .aload j ∧ len = 2) = true)
    (kk : W p l e R s m args below meth c hp locs cells slots Q (F0 m (pc + len) jl (va_rf o :: rest))) : W p l e R s m args below meth c hp locs cells slots Q (F0 m pc jl rest) := by
  rcases hm with hm | hm
  · split at hm
    · obtain ⟨rfl, rfl⟩ := mt_dec hm
      cases o with
      | none => exact lv_aload_nN hx hb hdg rfl hl kk
      | some a => exact lv_aload_n hx hb hdg rfl hl kk
    · cases hm
  · obtain ⟨rfl, rfl⟩ := mt_dec hm
    cases o with
    | none => exact lv_aloadN hx hb hdg hl kk
    | some a => exact lv_aload hx hb hdg hl kk
theorem sp_store {j : Nat} {rest : List Value} (hx : p.tables.exec = Jvm.exec) (hb : c.code = cc) {o : Option Nat} {lv : List (Nat × Value)} (h : lv_has jl nL lv) (hn : j < nL) {len : Nat} {ins : Instr} (hdg : decode cc pc = .ok (ins, len)) (hm : (if h : j < 4 then decide (ins = .astore_n ⟨j, h⟩ ∧ len = 1) else false) = true ∨ decide (ins = .astore j ∧ len = 2) = true)
    (kk : ∀ jl', lv_has jl' nL ((j, va_rf o) :: lv.filter (fun q => !(q.1 == j) && !(q.1 + 1 == j && q.2.category == 2))) → W p l e R s m args below meth c hp locs cells slots Q (F0 m (pc + len) jl' rest)) : W p l e R s m args below meth c hp locs cells slots Q (F0 m pc jl (va_rf o :: rest)) := by
  rcases hm with hm | hm
  · split at hm
    · obtain ⟨rfl, rfl⟩ := mt_dec hm
      cases o with
      | none => exact lv_astore_nN hx hb hdg rfl h hn rfl kk
      | some a => exact lv_astore_n hx hb hdg rfl h hn rfl kk
    · cases hm
  · obtain ⟨rfl, rfl⟩ := mt_dec hm
    cases o with
    | none => exact lv_astoreN hx hb hdg h hn rfl kk
    | some a => exact lv_astore hx hb hdg h hn rfl kk
set_option maxHeartbeats 4000000 in
theorem st1I {i ins : Instr} {len : Nat} {ls ls' : am_L} {st st' : List am_V} {H H' : am_H} {ps : List Prop} (hx : p.tables.exec = Jvm.exec) (hb : c.code = cc) (hdg : decode cc pc = .ok (ins, len)) (hm : mtI nL ins len i = true)
    (he : am_s1 i ls st H = some (ls', st', H', ps)) (hps : am_all ps) (hS : SR A s0 cid slt n0 m0 nL ls H hp locs cells slots jl)
    (kk : ∀ hp' locs' cells' slots' jl', SR A s0 cid slt n0 m0 nL ls' H' hp' locs' cells' slots' jl' → W p l e R s m args below meth c hp' locs' cells' slots' Q (F0 m (pc + len) jl' (st'.map (vv A)))) :
    W p l e R s m args below meth c hp locs cells slots Q (F0 m pc jl (st.map (vv A))) := by
  unfold am_s1 at he
  split at he
  case h_1 j =>
    split at he
    · rename_i x hn
      cases he
      simp only [mtI, Bool.or_eq_true] at hm
      rcases hm with hm | hm
      · split at hm
        · obtain ⟨rfl, rfl⟩ := mt_dec hm
          exact lv_iload_n hx hb hdg rfl (hS.2.1.get hn) (kk _ _ _ _ _ hS)
        · cases hm
      · obtain ⟨rfl, rfl⟩ := mt_dec hm
        exact lv_iload hx hb hdg (hS.2.1.get hn) (kk _ _ _ _ _ hS)
    · cases he
  case h_2 j =>
    split at he
    · rename_i x hn
      cases he
      simp only [mtI, Bool.or_eq_true] at hm
      rcases hm with hm | hm
      · split at hm
        · obtain ⟨rfl, rfl⟩ := mt_dec hm
          exact lv_lload_n hx hb hdg rfl (hS.2.1.get hn) (kk _ _ _ _ _ hS)
        · cases hm
      · obtain ⟨rfl, rfl⟩ := mt_dec hm
        exact lv_lload hx hb hdg (hS.2.1.get hn) (kk _ _ _ _ _ hS)
    · cases he
  case h_3 j =>
    split at he
    · rename_i q hn
      cases he
      simp only [mtI, Bool.or_eq_true] at hm
      exact sp_load (v := .null) hx hb (hS.2.1.get hn) hdg hm (kk _ _ _ _ _ hS)
    · cases he
  case h_4 j =>
    split at he
    · cases he
      simp only [mtI, Bool.and_eq_true, Bool.or_eq_true, Nat.blt_eq] at hm
      obtain ⟨hn, hm | hm⟩ := hm
      · split at hm
        · obtain ⟨rfl, rfl⟩ := mt_dec hm
          exact lv_istore_n hx hb hdg rfl hS.2.1 hn rfl fun jl' h' => kk _ _ _ _ _ ⟨hS.1, locR.set1 h', hS.2.2⟩
        · cases hm
      · obtain ⟨rfl, rfl⟩ := mt_dec hm
        exact lv_istore hx hb hdg hS.2.1 hn rfl fun jl' h' => kk _ _ _ _ _ ⟨hS.1, locR.set1 h', hS.2.2⟩
    · cases he
  case h_5 j =>
    split at he
    · cases he
      simp only [mtI, Bool.and_eq_true, Bool.or_eq_true, Nat.blt_eq] at hm
      obtain ⟨hn, hm | hm⟩ := hm
      · split at hm
        · obtain ⟨rfl, rfl⟩ := mt_dec hm
          exact lv_lstore_n hx hb hdg rfl hS.2.1 hn rfl fun jl' h' => kk _ _ _ _ _ ⟨hS.1, locR.set2 h', hS.2.2⟩
        · cases hm
      · obtain ⟨rfl, rfl⟩ := mt_dec hm
        exact lv_lstore hx hb hdg hS.2.1 hn rfl fun jl' h' => kk _ _ _ _ _ ⟨hS.1, locR.set2 h', hS.2.2⟩
    · cases he
  case h_6 j =>
    split at he
    · cases he
      simp only [mtI, Bool.and_eq_true, Bool.or_eq_true, Nat.blt_eq] at hm
      exact sp_store hx hb hS.2.1 hm.1 hdg hm.2 fun jl' h' => kk _ _ _ _ _ ⟨hS.1, locR.set1 h', hS.2.2⟩
    · cases he
  case h_7 => -- dup
    obtain ⟨rfl, rfl⟩ := mt_dec (show decide (ins = Instr.dup ∧ len = 1) = true from hm)
    split at he
    · cases he; exact lv_dup hx hb hdg rfl (kk _ _ _ _ _ hS)
    · cases he; exact lv_dup hx hb hdg (cat_rf _) (kk _ _ _ _ _ hS)
    · cases he
  case h_8 => -- dup2
    obtain ⟨rfl, rfl⟩ := mt_dec (show decide (ins = Instr.dup2 ∧ len = 1) = true from hm)
    split at he
    · cases he; exact lv_dup2_2 hx hb hdg rfl (kk _ _ _ _ _ hS)
    · cases he; exact lv_dup2_11 hx hb hdg rfl (cat_rf _) (kk _ _ _ _ _ hS)
    · cases he
  case h_9 => -- pop
    obtain ⟨rfl, rfl⟩ := mt_dec (show decide (ins = Instr.pop ∧ len = 1) = true from hm)
    split at he
    · cases he; exact lv_pop hx hb hdg rfl (kk _ _ _ _ _ hS)
    · cases he; exact lv_pop hx hb hdg (cat_rf _) (kk _ _ _ _ _ hS)
    · cases he
  case h_10 => -- pop2
    obtain ⟨rfl, rfl⟩ := mt_dec (show decide (ins = Instr.pop2 ∧ len = 1) = true from hm)
    split at he
    · cases he; exact lv_pop2_2 hx hb hdg rfl (kk _ _ _ _ _ hS)
    · cases he
  case h_11 =>
    obtain ⟨rfl, rfl⟩ := mt_dec (show decide (ins = Instr.iadd ∧ len = 1) = true from hm)
    split at he
    · cases he; exact lv_iadd hx hb hdg (kk _ _ _ _ _ hS)
    · cases he
  case h_12 =>
    obtain ⟨rfl, rfl⟩ := mt_dec (show decide (ins = Instr.isub ∧ len = 1) = true from hm)
    split at he
    · cases he; exact lv_isub hx hb hdg (kk _ _ _ _ _ hS)
    · cases he
  case h_13 =>
    obtain ⟨rfl, rfl⟩ := mt_dec (show decide (ins = Instr.imul ∧ len = 1) = true from hm)
    split at he
    · cases he; exact lv_imul hx hb hdg (kk _ _ _ _ _ hS)
    · cases he
  case h_14 =>
    obtain ⟨rfl, rfl⟩ := mt_dec (show decide (ins = Instr.iand ∧ len = 1) = true from hm)
    split at he
    · cases he; exact lv_iand hx hb hdg (kk _ _ _ _ _ hS)
    · cases he
  case h_15 =>
    obtain ⟨rfl, rfl⟩ := mt_dec (show decide (ins = Instr.ior ∧ len = 1) = true from hm)
    split at he
    · cases he; exact lv_ior hx hb hdg (kk _ _ _ _ _ hS)
    · cases he
  case h_16 =>
    obtain ⟨rfl, rfl⟩ := mt_dec (show decide (ins = Instr.ixor ∧ len = 1) = true from hm)
    split at he
    · cases he; exact lv_ixor hx hb hdg (kk _ _ _ _ _ hS)
    · cases he
  case h_17 =>
    obtain ⟨rfl, rfl⟩ := mt_dec (show decide (ins = Instr.ishl ∧ len = 1) = true from hm)
    split at he
    · cases he; exact lv_ishl hx hb hdg (kk _ _ _ _ _ hS)
    · cases he
  case h_18 =>
    obtain ⟨rfl, rfl⟩ := mt_dec (show decide (ins = Instr.ishr ∧ len = 1) = true from hm)
    split at he
    · cases he; exact lv_ishr hx hb hdg (kk _ _ _ _ _ hS)
    · cases he
  case h_19 =>
    obtain ⟨rfl, rfl⟩ := mt_dec (show decide (ins = Instr.idiv ∧ len = 1) = true from hm)
    split at he
    · cases he; exact lv_idiv hx hb hdg hps (kk _ _ _ _ _ hS)
    · cases he
  case h_20 =>
    obtain ⟨rfl, rfl⟩ := mt_dec (show decide (ins = Instr.irem ∧ len = 1) = true from hm)
    split at he
    · cases he; exact lv_irem hx hb hdg hps (kk _ _ _ _ _ hS)
    · cases he
  case h_21 =>
    obtain ⟨rfl, rfl⟩ := mt_dec (show decide (ins = Instr.ineg ∧ len = 1) = true from hm)
    split at he
    · cases he; exact lv_ineg hx hb hdg (kk _ _ _ _ _ hS)
    · cases he
  case h_22 =>
    obtain ⟨rfl, rfl⟩ := mt_dec (show decide (ins = Instr.ladd ∧ len = 1) = true from hm)
    split at he
    · cases he; exact lv_ladd hx hb hdg (kk _ _ _ _ _ hS)
    · cases he
  case h_23 =>
    obtain ⟨rfl, rfl⟩ := mt_dec (show decide (ins = Instr.lsub ∧ len = 1) = true from hm)
    split at he
    · cases he; exact lv_lsub hx hb hdg (kk _ _ _ _ _ hS)
    · cases he
  case h_24 =>
    obtain ⟨rfl, rfl⟩ := mt_dec (show decide (ins = Instr.lmul ∧ len = 1) = true from hm)
    split at he
    · cases he; exact lv_lmul hx hb hdg (kk _ _ _ _ _ hS)
    · cases he
  case h_25 =>
    obtain ⟨rfl, rfl⟩ := mt_dec (show decide (ins = Instr.land ∧ len = 1) = true from hm)
    split at he
    · cases he; exact lv_land hx hb hdg (kk _ _ _ _ _ hS)
    · cases he
  case h_26 =>
    obtain ⟨rfl, rfl⟩ := mt_dec (show decide (ins = Instr.lor ∧ len = 1) = true from hm)
    split at he
    · cases he; exact lv_lor hx hb hdg (kk _ _ _ _ _ hS)
    · cases he
  case h_27 =>
    obtain ⟨rfl, rfl⟩ := mt_dec (show decide (ins = Instr.ldiv ∧ len = 1) = true from hm)
    split at he
    · cases he; exact lv_ldiv hx hb hdg hps (kk _ _ _ _ _ hS)
    · cases he
  case h_28 =>
    obtain ⟨rfl, rfl⟩ := mt_dec (show decide (ins = Instr.lrem ∧ len = 1) = true from hm)
    split at he
    · cases he; exact lv_lrem hx hb hdg hps (kk _ _ _ _ _ hS)
    · cases he
  case h_29 =>
    obtain ⟨rfl, rfl⟩ := mt_dec (show decide (ins = Instr.lneg ∧ len = 1) = true from hm)
    split at he
    · cases he; exact lv_lneg hx hb hdg (kk _ _ _ _ _ hS)
    · cases he
  case h_30 =>
    obtain ⟨rfl, rfl⟩ := mt_dec (show decide (ins = Instr.lshl ∧ len = 1) = true from hm)
    split at he
    · cases he; exact lv_lshl hx hb hdg rfl (kk _ _ _ _ _ hS)
    · cases he
  case h_31 =>
    obtain ⟨rfl, rfl⟩ := mt_dec (show decide (ins = Instr.lshr ∧ len = 1) = true from hm)
    split at he
    · cases he; exact lv_lshr hx hb hdg rfl (kk _ _ _ _ _ hS)
    · cases he
  case h_32 =>
    obtain ⟨rfl, rfl⟩ := mt_dec (show decide (ins = Instr.lcmp ∧ len = 1) = true from hm)
    split at he
    · cases he; exact W.lcmp hx hb hdg (kk _ _ _ _ _ hS)
    · cases he
  case h_33 =>
    obtain ⟨rfl, rfl⟩ := mt_dec (show decide (ins = Instr.i2l ∧ len = 1) = true from hm)
    split at he
    · cases he; exact lv_i2l hx hb hdg rfl (kk _ _ _ _ _ hS)
    · cases he
  case h_34 =>
    obtain ⟨rfl, rfl⟩ := mt_dec (show decide (ins = Instr.l2i ∧ len = 1) = true from hm)
    split at he
    · cases he; exact lv_l2i hx hb hdg rfl (kk _ _ _ _ _ hS)
    · cases he
  case h_35 =>
    obtain ⟨rfl, rfl⟩ := mt_dec (show decide (ins = Instr.i2b ∧ len = 1) = true from hm)
    split at he
    · cases he; exact lv_i2b hx hb hdg rfl (kk _ _ _ _ _ hS)
    · cases he
  case h_36 =>
    obtain ⟨rfl, rfl⟩ := mt_dec (show decide (ins = Instr.i2s ∧ len = 1) = true from hm)
    split at he
    · cases he; exact lv_i2s hx hb hdg rfl (kk _ _ _ _ _ hS)
    · cases he
  case h_37 => cases he
end PLAIN
