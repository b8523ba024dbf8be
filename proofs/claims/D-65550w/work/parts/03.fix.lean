/-! THE LIMIT of the abstract machine's runs, and its equation -/
def am_fin {α : Type} (f : am_St → am_O) (t : (am_St → am_O) → Option α) : Prop := ∀ x, t f = some x → ∃ L : List am_St, ∀ g : am_St → am_O, (∀ p ∈ L, ∀ y, f p = some y → g p = some y) → t g = some x
theorem fin_c {α : Type} {f : am_St → am_O} (o : Option α) : am_fin f (fun _ => o) := fun _ h => ⟨[], fun _ _ => h⟩
theorem fin_p {f : am_St → am_O} (p : am_St) : am_fin f (fun f => f p) := fun x h => ⟨[p], fun _ hg => hg p List.mem_cons_self x h⟩
theorem fin_ck {α : Type} {f : am_St → am_O} {p : Prop} {t : (am_St → am_O) → Option α} (h : am_fin f t) : am_fin f (fun f => ck p (t f)) := by
  intro x hx
  obtain ⟨hp, hx⟩ := ck_some hx
  obtain ⟨L, hL⟩ := h x hx
  exact ⟨L, fun g hg => by show ck p (t g) = _; rw [ck_t hp]; exact hL g hg⟩
theorem fin_ite {α : Type} {f : am_St → am_O} {p : Prop} [d : Decidable p] {t u : (am_St → am_O) → Option α} (h : am_fin f t) (k : am_fin f u) : am_fin f (fun f => if p then t f else u f) := by
  intro x hx
  by_cases hp : p
  · obtain ⟨L, hL⟩ := h x (by simpa [hp] using hx)
    exact ⟨L, fun g hg => by simpa [hp] using hL g hg⟩
  · obtain ⟨L, hL⟩ := k x (by simpa [hp] using hx)
    exact ⟨L, fun g hg => by simpa [hp] using hL g hg⟩
theorem fin_cond {α : Type} {f : am_St → am_O} {b : Bool} {t u : (am_St → am_O) → Option α} (h : am_fin f t) (k : am_fin f u) : am_fin f (fun f => bif b then t f else u f) := by
  cases b
  · exact k
  · exact h
theorem fin_bI {f : am_St → am_O} {t : (am_St → am_O) → am_O} {k : (am_St → am_O) → Int32 → am_H → am_O} {h : (am_St → am_O) → Nat → Nat → am_H → am_O} (ht : am_fin f t) (hk : ∀ x H, am_fin f (fun f => k f x H)) (hh : ∀ c i H, am_fin f (fun f => h f c i H)) : am_fin f (fun f => bI (t f) (k f) (h f)) := by
  intro x hx
  dsimp only at hx ⊢
  rcases e : t f with _ | ⟨(_ | v | v | v) | q, H⟩ <;> rw [e] at hx <;> simp only [bI] at hx <;> try (cases hx; done)
  · obtain ⟨L, hL⟩ := ht _ e
    obtain ⟨L2, hL2⟩ := hk _ _ _ hx
    exact ⟨L ++ L2, fun g hg => by rw [hL g (fun p hp => hg p (List.mem_append_left _ hp))]; exact hL2 g (fun p hp => hg p (List.mem_append_right _ hp))⟩
  · obtain ⟨L, hL⟩ := ht _ e
    obtain ⟨L2, hL2⟩ := hh _ _ _ _ hx
    exact ⟨L ++ L2, fun g hg => by rw [hL g (fun p hp => hg p (List.mem_append_left _ hp))]; exact hL2 g (fun p hp => hg p (List.mem_append_right _ hp))⟩
theorem fin_bL {f : am_St → am_O} {t : (am_St → am_O) → am_O} {k : (am_St → am_O) → Int64 → am_H → am_O} {h : (am_St → am_O) → Nat → Nat → am_H → am_O} (ht : am_fin f t) (hk : ∀ x H, am_fin f (fun f => k f x H)) (hh : ∀ c i H, am_fin f (fun f => h f c i H)) : am_fin f (fun f => bL (t f) (k f) (h f)) := by
  intro x hx
  dsimp only at hx ⊢
  rcases e : t f with _ | ⟨(_ | v | v | v) | q, H⟩ <;> rw [e] at hx <;> simp only [bL] at hx <;> try (cases hx; done)
  · obtain ⟨L, hL⟩ := ht _ e
    obtain ⟨L2, hL2⟩ := hk _ _ _ hx
    exact ⟨L ++ L2, fun g hg => by rw [hL g (fun p hp => hg p (List.mem_append_left _ hp))]; exact hL2 g (fun p hp => hg p (List.mem_append_right _ hp))⟩
  · obtain ⟨L, hL⟩ := ht _ e
    obtain ⟨L2, hL2⟩ := hh _ _ _ _ hx
    exact ⟨L ++ L2, fun g hg => by rw [hL g (fun p hp => hg p (List.mem_append_left _ hp))]; exact hL2 g (fun p hp => hg p (List.mem_append_right _ hp))⟩
theorem fin_bR {c : Nat} {f : am_St → am_O} {t : (am_St → am_O) → am_O} {k : (am_St → am_O) → Option Nat → am_H → am_O} {h : (am_St → am_O) → Nat → Nat → am_H → am_O} (ht : am_fin f t) (hk : ∀ x H, am_fin f (fun f => k f x H)) (hh : ∀ c i H, am_fin f (fun f => h f c i H)) : am_fin f (fun f => bR c (t f) (k f) (h f)) := by
  intro x hx
  dsimp only at hx ⊢
  rcases e : t f with _ | ⟨(_ | v | v | v) | q, H⟩ <;> rw [e] at hx <;> simp only [bR] at hx <;> try (cases hx; done)
  · obtain ⟨L, hL⟩ := ht _ e
    by_cases hc : v.1 = c
    · rw [if_pos hc] at hx
      obtain ⟨L2, hL2⟩ := hk _ _ _ hx
      exact ⟨L ++ L2, fun g hg => by rw [hL g (fun p hp => hg p (List.mem_append_left _ hp))]; show (if v.1 = c then _ else _) = _; rw [if_pos hc]; exact hL2 g (fun p hp => hg p (List.mem_append_right _ hp))⟩
    · rw [if_neg hc] at hx
      cases hx
  · obtain ⟨L, hL⟩ := ht _ e
    obtain ⟨L2, hL2⟩ := hh _ _ _ _ hx
    exact ⟨L ++ L2, fun g hg => by rw [hL g (fun p hp => hg p (List.mem_append_left _ hp))]; exact hL2 g (fun p hp => hg p (List.mem_append_right _ hp))⟩
theorem fin_bV {f : am_St → am_O} {t : (am_St → am_O) → am_O} {k : (am_St → am_O) → am_H → am_O} {h : (am_St → am_O) → Nat → Nat → am_H → am_O} (ht : am_fin f t) (hk : ∀ H, am_fin f (fun f => k f H)) (hh : ∀ c i H, am_fin f (fun f => h f c i H)) : am_fin f (fun f => bV (t f) (k f) (h f)) := by
  intro x hx
  dsimp only at hx ⊢
  rcases e : t f with _ | ⟨(_ | v | v | v) | q, H⟩ <;> rw [e] at hx <;> simp only [bV] at hx <;> try (cases hx; done)
  · obtain ⟨L, hL⟩ := ht _ e
    obtain ⟨L2, hL2⟩ := hk _ _ hx
    exact ⟨L ++ L2, fun g hg => by rw [hL g (fun p hp => hg p (List.mem_append_left _ hp))]; exact hL2 g (fun p hp => hg p (List.mem_append_right _ hp))⟩
  · obtain ⟨L, hL⟩ := ht _ e
    obtain ⟨L2, hL2⟩ := hh _ _ _ _ hx
    exact ⟨L ++ L2, fun g hg => by rw [hL g (fun p hp => hg p (List.mem_append_left _ hp))]; exact hL2 g (fun p hp => hg p (List.mem_append_right _ hp))⟩
theorem fin_jmp {bl : Nat → am_B} {f : am_St → am_O} {m pc : Nat} {ls : am_L} {st : List am_V} {H : am_H} : am_fin f (fun f => am_jmp bl f m pc ls st H) := fin_p _
theorem fin_hn {bl : Nat → am_B} {f : am_St → am_O} {m : Nat} {ls : am_L} : ∀ (hs : List (Nat × Nat)) (c i : Nat) (H : am_H), am_fin f (fun f => am_hn bl f m ls hs c i H)
  | [], _, _, _ => fin_c _
  | (d, pc) :: r, c, i, H => fin_ite (p := c = d) fin_jmp (fin_hn r c i H)
theorem fin_hd {bl : Nat → am_B} {f : am_St → am_O} {m : Nat} {ls : am_L} : ∀ (hs : List (Nat × Nat)) (c i : Nat) (H : am_H), am_fin f (fun f => am_hd bl f m ls hs c i H)
  | [], _, _, _ => fin_c _
  | h :: r, c, i, H => fin_hn (h :: r) c i H
set_option maxHeartbeats 2000000 in
theorem am_tm_fin (P : am_P) (f : am_St → am_O) (m rk : Nat) (bl : Nat → am_B) (tg nx : Nat) (hs : List (Nat × Nat)) (sw : List Nat) (ls : am_L) (st : List am_V) (H : am_H) (term : Instr) : am_fin f (fun f => am_tm P f m rk bl tg nx hs sw ls st H term) := by
  cases term
  case goto_w t => exact fin_jmp
  case goto t => exact fin_jmp
  case ifCond c t =>
    rcases st with _ | ⟨x | x | x, r⟩
    · exact fin_c _
    · cases c <;> exact fin_ite fin_jmp fin_jmp
    · exact fin_c _
    · exact fin_c _
  case if_icmp c t =>
    rcases st with _ | ⟨x | x | x, _ | ⟨y | y | y, r⟩⟩ <;> first | exact fin_c _ | (cases c <;> exact fin_ite fin_jmp fin_jmp)
  case if_acmp c t =>
    rcases st with _ | ⟨x | x | x, _ | ⟨y | y | y, r⟩⟩ <;> first | exact fin_c _ | (cases c <;> exact fin_cond (fin_ite fin_jmp fin_jmp) (fin_c _))
  case ifnull t =>
    rcases st with _ | ⟨x | x | ⟨c, _ | x⟩, r⟩ <;> first | exact fin_c _ | exact fin_jmp
  case ifnonnull t =>
    rcases st with _ | ⟨x | x | ⟨c, _ | x⟩, r⟩ <;> first | exact fin_c _ | exact fin_jmp
  case tableswitch d lo hi offs =>
    rcases st with _ | ⟨x | x | x, r⟩
    · exact fin_c _
    · exact fin_ite fin_jmp fin_jmp
    · exact fin_c _
    · exact fin_c _
  case lookupswitch d ps =>
    rcases st with _ | ⟨x | x | x, r⟩
    · exact fin_c _
    · exact fin_jmp
    · exact fin_c _
    · exact fin_c _
  case athrow => cases st <;> exact fin_c _
  case invokestatic k =>
    simp only [am_tm]
    rcases am_pop (P.2 tg).1 st [] with _ | ⟨args, r⟩
    · exact fin_c _
    dsimp only
    refine fin_cond ?_ (fin_c _)
    split
    · exact fin_bV fin_jmp (fun _ => fin_jmp) (fin_hd _)
    · exact fin_bI fin_jmp (fun _ _ => fin_jmp) (fin_hd _)
    · exact fin_bI fin_jmp (fun _ _ => fin_jmp) (fin_hd _)
    · exact fin_bL fin_jmp (fun _ _ => fin_jmp) (fin_hd _)
    · exact fin_bR fin_jmp (fun _ _ => fin_jmp) (fin_hd _)
  case invokevirtual k =>
    simp only [am_tm]
    rcases am_pop (P.2 tg).1 st [] with _ | ⟨_ | ⟨v | v | ⟨d, _ | a⟩, args⟩, r⟩
    · exact fin_c _
    · exact fin_c _
    · exact fin_c _
    · exact fin_c _
    · exact fin_c _
    dsimp only
    refine fin_cond ?_ (fin_c _)
    split
    · exact fin_bV fin_jmp (fun _ => fin_jmp) (fin_hd _)
    · exact fin_bI fin_jmp (fun _ _ => fin_jmp) (fin_hd _)
    · exact fin_bI fin_jmp (fun _ _ => fin_jmp) (fin_hd _)
    · exact fin_bL fin_jmp (fun _ _ => fin_jmp) (fin_hd _)
    · exact fin_bR fin_jmp (fun _ _ => fin_jmp) (fin_hd _)
  case invokedynamic k =>
    simp only [am_tm]
    rcases am_pop (P.2 tg).1 st [] with _ | ⟨_ | ⟨v | v | ⟨d, _ | a⟩, args⟩, _ | ⟨w | w | ⟨e, _ | b⟩, r⟩⟩ <;> first | exact fin_c _ | exact fin_cond (fin_bV fin_jmp (fun _ => fin_ck fin_jmp) (fin_hd _)) (fin_c _)
  all_goals exact fin_c _
theorem am_F_fin (P : am_P) (f : am_St → am_O) (s : am_St) : am_fin f (fun f => am_F P f s) := by
  obtain ⟨m, pc, ls0, st0, H0⟩ := s
  simp only [am_F, am_G]
  rcases am_x ((P.2 m).2.2.2 pc).1 ls0 st0 H0 [] with _ | ⟨ls, st, H, ps⟩
  · exact fin_c _
  · exact fin_ck (am_tm_fin P f _ _ _ _ _ _ _ _ _ _ _)
theorem am_run_mono (P : am_P) : ∀ (n : Nat) (s : am_St) (x : am_R × am_H), am_run P n s = some x → am_run P (n + 1) s = some x := by
  intro n
  induction n with
  | zero => intro s x h; cases h
  | succ n ih =>
    intro s x h
    obtain ⟨L, hL⟩ := am_F_fin P (am_run P n) s x h
    exact hL (am_run P (n + 1)) (fun p _ y hy => ih p y hy)
theorem am_run_le (P : am_P) {n k : Nat} (hk : n ≤ k) {s : am_St} {x : am_R × am_H} (h : am_run P n s = some x) : am_run P k s = some x := by
  induction hk with
  | refl => exact h
  | step _ ih => exact am_run_mono P _ _ _ ih
noncomputable def am_v (P : am_P) (s : am_St) : am_O := @dite _ (∃ x, ∃ n, am_run P n s = some x) (Classical.propDecidable _) (fun h => some (Classical.choose h)) (fun _ => none)
theorem am_v_iff {P : am_P} {s : am_St} {x : am_R × am_H} : am_v P s = some x ↔ ∃ n, am_run P n s = some x := by
  unfold am_v
  by_cases h : ∃ x, ∃ n, am_run P n s = some x
  · rw [dif_pos h]
    obtain ⟨n, hn⟩ := Classical.choose_spec h
    constructor
    · intro e
      exact ⟨n, by rw [hn]; exact e⟩
    · rintro ⟨k, hk⟩
      have h1 := am_run_le P (Nat.le_max_left n k) hn
      have h2 := am_run_le P (Nat.le_max_right n k) hk
      exact h1.symm.trans h2
  · rw [dif_neg h]
    constructor
    · intro e; cases e
    · rintro ⟨n, hn⟩; exact absurd ⟨x, n, hn⟩ h
theorem am_v_pts (P : am_P) : ∀ L : List am_St, ∃ n, ∀ p ∈ L, ∀ y, am_v P p = some y → am_run P n p = some y
  | [] => ⟨0, fun p hp => by cases hp⟩
  | q :: L => by
    obtain ⟨n, hn⟩ := am_v_pts P L
    rcases e : am_v P q with _ | y
    · refine ⟨n, fun p hp z hz => ?_⟩
      rcases List.mem_cons.mp hp with rfl | hp
      · rw [e] at hz; cases hz
      · exact hn p hp z hz
    · obtain ⟨k, hk⟩ := am_v_iff.mp e
      refine ⟨max n k, fun p hp z hz => ?_⟩
      rcases List.mem_cons.mp hp with rfl | hp
      · rw [e] at hz; cases hz; exact am_run_le P (Nat.le_max_right _ _) hk
      · exact am_run_le P (Nat.le_max_left _ _) (hn p hp z hz)
/-- THE EQUATION -/
theorem am_v_eq (P : am_P) (s : am_St) : am_v P s = am_F P (am_v P) s := by
  have key : ∀ x, am_v P s = some x ↔ am_F P (am_v P) s = some x := by
    intro x
    constructor
    · intro h
      obtain ⟨n, hn⟩ := am_v_iff.mp h
      cases n with
      | zero => cases hn
      | succ n =>
        obtain ⟨L, hL⟩ := am_F_fin P (am_run P n) s x hn
        exact hL (am_v P) (fun p _ y hy => am_v_iff.mpr ⟨n, hy⟩)
    · intro h
      obtain ⟨L, hL⟩ := am_F_fin P (am_v P) s x h
      obtain ⟨n, hn⟩ := am_v_pts P L
      exact am_v_iff.mpr ⟨n + 1, hL (am_run P n) hn⟩
  cases h : am_F P (am_v P) s with
  | none =>
    cases h' : am_v P s with
    | none => rfl
    | some x => rw [(key x).mp h'] at h; cases h
  | some x => exact (key x).mpr h
