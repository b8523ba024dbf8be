/-! SIM 2: the static check of an instruction, and what one instruction keeps -/
def plainc (d : Nat) : Bool := !(Nat.ble 64 d && Nat.blt d 128)
def own3 (F : am_OF) (b c kd d : Nat) : Bool := Nat.blt b 64 && (Nat.beq (cx_kt b c).1 kd && (Nat.beq (cx_kt b c).2 d && (plainc d && (F b).any (fun q => Nat.beq q.1 c && (Nat.beq q.2.1 d && Nat.beq q.2.2 kd)))))
def eok (F : am_OF) (E : am_E) : Bool := match E with
  | .inr (.inr (.inr (op, b, c, d))) => (match op with
    | 12 => Nat.blt b 64 && (Nat.beq (cx_kt b c).1 2 && (Nat.beq (cx_kt b c).2 d && plainc d))
    | 13 => own3 F b c 3 d
    | 14 => own3 F b c 4 d
    | 15 => own3 F b c 5 d
    | 22 => Nat.blt b 64 && (Nat.beq (cx_kt b c).1 2 && (Nat.beq (cx_kt b c).2 d && plainc d))
    | 23 => own3 F b c 3 d
    | 24 => own3 F b c 4 d
    | 25 => own3 F b c 5 d
    | 40 => Nat.ble 1000 b && (am_dyn b && (F b).isEmpty)
    | 41 => Nat.blt b 64 && (am_dyn b && Nat.beq c (b + 64))
    | 53 => Nat.ble 6000 b && (Nat.beq d ((b - 6000) / 20) && plainc d)
    | 59 => Nat.ble 6000 b && (Nat.beq d ((b - 6000) / 20) && plainc d)
    | 61 => ((Nat.beq b 31 && Nat.blt c 6) || (Nat.beq b 1997 && Nat.beq c 0)) && (F b).isEmpty
    | _ => true)
  | _ => true
theorem plainc_no {d : Nat} (hd : plainc d = true) : ¬ (64 ≤ d ∧ d < 128) := by
  rintro ⟨h1, h2⟩
  have e1 : Nat.ble 64 d = true := by rw [Nat.ble_eq]; exact h1
  have e2 : Nat.blt d 128 = true := by rw [Nat.blt_eq]; exact h2
  rw [plainc, e1, e2] at hd
  cases hd
theorem plainc_of {d : Nat} (h : ¬ (64 ≤ d ∧ d < 128)) : plainc d = true := by
  cases e1 : Nat.ble 64 d with
  | false => rw [plainc, e1]; rfl
  | true =>
    cases e2 : Nat.blt d 128 with
    | false => rw [plainc, e1, e2]; rfl
    | true =>
      rw [Nat.ble_eq] at e1
      rw [Nat.blt_eq] at e2
      exact absurd ⟨e1, e2⟩ h
theorem okr_plain {F : am_OF} {H : am_H} {d : Nat} {o : Option Nat} (hd : plainc d = true) : okr F H (d, o) ↔ ∀ j, o = some j → ok1 F H d j := by
  unfold okr
  simp only [if_neg (plainc_no hd)]
theorem okr_none {F : am_OF} {H : am_H} {d : Nat} : okr F H (d, none) := fun i h => by cases h
theorem okr_raw {F : am_OF} {H : am_H} {b i : Nat} (hb : b < 64) (hi : i < cn H b) : okr F H (b + 64, some i) := by
  intro j hj
  cases hj
  rw [if_pos (by constructor <;> simp <;> omega)]
  simpa using hi
theorem own3_spec {F : am_OF} {b c kd d : Nat} (h : own3 F b c kd d = true) : b < 64 ∧ cx_kt b c = (kd, d) ∧ plainc d = true ∧ ∃ q ∈ F b, q = (c, d, kd) := by
  simp only [own3, Bool.and_eq_true, Nat.blt_eq, Nat.beq_eq, List.any_eq_true] at h
  obtain ⟨h1, h2, h3, h4, q, hq, h5, h6, h7⟩ := h
  exact ⟨h1, Prod.ext h2 h3, h4, q, hq, Prod.ext h5 (Prod.ext h6 h7)⟩
theorem tgt_cls {b c : Nat} (h : b < 64) : tgt b c = (cx_kt b c).2 := by
  have e : Nat.blt b 64 = true := by rw [Nat.blt_eq]; exact h
  simp only [tgt, e, cond_true]
theorem tgt_arr {b c : Nat} (h : 6000 ≤ b) : tgt b c = (b - 6000) / 20 := by
  rw [tgt, blt_f (Nat.le_trans (Nat.le_of_ble_eq_true rfl) h), cond_false]
theorem ok1_nil {F : am_OF} {H : am_H} {c i : Nat} (hF : (F c).isEmpty = true) (hi : i < cn H c) : ok1 F H c i := ⟨hi, by rw [List.isEmpty_iff.mp hF]; trivial⟩
def dv (kd a : Nat) : Nat := match kd with
  | 4 => 2 * a
  | 5 => 2 * a + 1
  | _ => a
theorem done_get {F : am_OF} {H : am_H} {b c kd d a : Nat} (h : own3 F b c kd d = true) (o : am_done H b a (F b)) : rdR H b a c = some (dv kd a) := by
  obtain ⟨-, -, -, q, hq, rfl⟩ := own3_spec h
  exact done_at _ _ hq o
/-- what one instruction keeps -/
def kept (F : am_OF) (H H' : am_H) (ls' : am_L) (st' : List am_V) : Prop := hle H H' ∧ dle F H H' ∧ okh F H' ∧ okl F H' ls' ∧ oks F H' st'
theorem s1_inv {F : am_OF} {i : Instr} {ls ls' : am_L} {st st' : List am_V} {H H' : am_H} {ps : List Prop} (he : am_s1 i ls st H = some (ls', st', H', ps)) (h : okh F H) (hl : okl F H ls) (hs : oks F H st) : kept F H H' ls' st' := by
  unfold am_s1 at he
  split at he <;> (try split at he) <;> (try (cases he; done)) <;> (simp only [Option.some.injEq, Prod.mk.injEq] at he; obtain ⟨rfl, rfl, rfl, rfl⟩ := he; refine ⟨hle.refl _, dle.refl _ _, h, ?_, ?_⟩)
  all_goals first
    | exact hl
    | exact hs
    | exact hs.tl
    | exact hs.cons trivial
    | exact hs.tl.cons trivial
    | exact hs.tl.tl.cons trivial
    | exact hs.cons hs.hd
    | exact hs.cons (hl _ (nth_mem (by assumption)))
    | exact (hs.cons hs.tl.hd).cons hs.hd
    | exact hl.set _ (fun v e => by cases e; trivial)
    | exact hl.set _ (fun v e => by cases e; exact hs.hd)
    | exact (hl.set _ (fun v e => by cases e)).set _ (fun v e => by cases e; trivial)
theorem s2_inv {F : am_OF} (hF : ofok F) {op b c d : Nat} {ls ls' : am_L} {st st' : List am_V} {H H' : am_H} {ps : List Prop} (he : am_s2 op b c d ls st H = some (ls', st', H', ps)) (hp : am_all ps) (hk : eok F (en op b c d) = true) (h : okh F H) (hl : okl F H ls) (hs : oks F H st) : kept F H H' ls' st' := by
  unfold am_s2 at he
  split at he
  case h_1 => -- 10
    split at he
    · cases hc : (Nat.beq _ b || Nat.beq _ (b + 64)) <;> rw [hc] at he
      · cases he
      · cases he; exact ⟨hle.refl _, dle.refl _ _, h, hl, hs.tl.cons trivial⟩
    · cases he
  case h_2 =>
    split at he
    · cases hc : (Nat.beq _ b || Nat.beq _ (b + 64)) <;> rw [hc] at he
      · cases he
      · cases he; exact ⟨hle.refl _, dle.refl _ _, h, hl, hs.tl.cons trivial⟩
    · cases he
  case h_3 => -- 12
    split at he
    · cases hc : (Nat.beq _ b || Nat.beq _ (b + 64)) <;> rw [hc] at he
      · cases he
      · cases he
        simp only [eok, Bool.and_eq_true, Nat.blt_eq, Nat.beq_eq] at hk
        refine ⟨hle.refl _, dle.refl _ _, h, hl, hs.tl.cons ((okr_plain hk.2.2.2).mpr fun j hj => ?_)⟩
        have := h.1 _ _ _ _ hj
        rwa [tgt_cls hk.1, hk.2.2.1] at this
    · cases he
  case h_4 => -- 13
    split at he
    · rename_i _ e a r
      obtain ⟨h1, h2, h3, -⟩ := own3_spec (show own3 F b c 3 d = true from hk)
      cases hc : Nat.beq e b <;> rw [hc] at he
      · cases hd : Nat.beq e (b + 64) <;> rw [hd] at he
        · cases he
        · cases he
          refine ⟨hle.refl _, dle.refl _ _, h, hl, hs.tl.cons ((okr_plain h3).mpr fun j hj => ?_)⟩
          have := h.1 _ _ _ _ hj
          rwa [tgt_cls h1, h2] at this
      · cases he
        have e1 : e = b := by simpa [Nat.beq_eq] using hc
        subst e1
        have ho : ok1 F H e a := (okr_plain (plainc_of (by omega))).mp hs.hd a rfl
        refine ⟨hle.refl _, dle.refl _ _, h, hl, hs.tl.cons ((okr_plain h3).mpr fun j hj => ?_)⟩
        have hg := done_get (show own3 F e c 3 d = true from hk) ho.2
        have := h.1 _ _ _ _ hg
        rw [tgt_cls h1, h2] at this
        cases hj
        exact this
    · cases he
  case h_5 => -- 14
    split at he
    · rename_i _ e a r
      obtain ⟨h1, h2, h3, -⟩ := own3_spec (show own3 F b c 4 d = true from hk)
      cases hc : Nat.beq e b <;> rw [hc] at he
      · cases he
      · cases he
        have e1 : e = b := by simpa [Nat.beq_eq] using hc
        subst e1
        have ho : ok1 F H e a := (okr_plain (plainc_of (by omega))).mp hs.hd a rfl
        refine ⟨hle.refl _, dle.refl _ _, h, hl, hs.tl.cons ((okr_plain h3).mpr fun j hj => ?_)⟩
        have hg := done_get (show own3 F e c 4 d = true from hk) ho.2
        have := h.1 _ _ _ _ hg
        rw [tgt_cls h1, h2] at this
        cases hj
        exact this
    · cases he
  case h_6 => -- 15
    split at he
    · rename_i _ e a r
      obtain ⟨h1, h2, h3, -⟩ := own3_spec (show own3 F b c 5 d = true from hk)
      cases hc : Nat.beq e b <;> rw [hc] at he
      · cases he
      · cases he
        have e1 : e = b := by simpa [Nat.beq_eq] using hc
        subst e1
        have ho : ok1 F H e a := (okr_plain (plainc_of (by omega))).mp hs.hd a rfl
        refine ⟨hle.refl _, dle.refl _ _, h, hl, hs.tl.cons ((okr_plain h3).mpr fun j hj => ?_)⟩
        have hg := done_get (show own3 F e c 5 d = true from hk) ho.2
        have := h.1 _ _ _ _ hg
        rw [tgt_cls h1, h2] at this
        cases hj
        exact this
    · cases he
  case h_7 => -- 20
    split at he
    · cases hc : (Nat.beq _ b || Nat.beq _ (b + 64)) <;> rw [hc] at he
      · cases he
      · cases he; exact ⟨hle_I _ _ _ _ _, dle_I _ _ _ _ _ _, okh_I h, hl.up (hle_I _ _ _ _ _) (dle_I _ _ _ _ _ _), hs.tl.tl.up (hle_I _ _ _ _ _) (dle_I _ _ _ _ _ _)⟩
    · cases he
  case h_8 => -- 26
    split at he
    · cases hc : (Nat.beq _ b || Nat.beq _ (b + 64)) <;> rw [hc] at he
      · cases he
      · cases he; exact ⟨hle_I _ _ _ _ _, dle_I _ _ _ _ _ _, okh_I h, hl.up (hle_I _ _ _ _ _) (dle_I _ _ _ _ _ _), hs.tl.tl.up (hle_I _ _ _ _ _) (dle_I _ _ _ _ _ _)⟩
    · cases he
  case h_9 => -- 22
    split at he
    · rename_i _ t q e a r
      cases hc : (Nat.beq t d && (Nat.beq e b || Nat.beq e (b + 64))) <;> rw [hc] at he
      · cases he
      · cases he
        simp only [eok, Bool.and_eq_true, Nat.blt_eq, Nat.beq_eq] at hk
        have e1 : t = d := by simp only [Bool.and_eq_true, Nat.beq_eq] at hc; exact hc.1
        subst e1
        have hd := dle_R hF H b a c q (Or.inl (by rw [hk.2.1]; decide))
        refine ⟨hle_R _ _ _ _ _, hd, okh_R h hd fun j hj => ?_, hl.up (hle_R _ _ _ _ _) hd, hs.tl.tl.up (hle_R _ _ _ _ _) hd⟩
        rw [tgt_cls hk.1, hk.2.2.1]
        exact (okr_plain hk.2.2.2).mp hs.hd j hj
    · cases he
  case h_10 => -- 23
    split at he
    · rename_i _ t q e a r
      cases hc : (Nat.beq t d && Nat.beq e (b + 64)) <;> rw [hc] at he
      · cases he
      · cases he
        obtain ⟨h1, h2, h3, -⟩ := own3_spec (show own3 F b c 3 d = true from hk)
        have e1 : t = d := by simp only [Bool.and_eq_true, Nat.beq_eq] at hc; exact hc.1
        subst e1
        have hd := dle_R hF H b a c q (Or.inr (Or.inr hp.2))
        refine ⟨hle_R _ _ _ _ _, hd, okh_R h hd fun j hj => ?_, hl.up (hle_R _ _ _ _ _) hd, hs.tl.tl.up (hle_R _ _ _ _ _) hd⟩
        rw [tgt_cls h1, h2]
        exact (okr_plain h3).mp hs.hd j hj
    · cases he
  case h_11 => -- 24
    split at he
    · rename_i _ t q e a r
      cases hc : (Nat.beq t d && Nat.beq e (b + 64)) <;> rw [hc] at he
      · cases he
      · cases he
        obtain ⟨h1, h2, h3, -⟩ := own3_spec (show own3 F b c 4 d = true from hk)
        have e1 : t = d := by simp only [Bool.and_eq_true, Nat.beq_eq] at hc; exact hc.1
        subst e1
        have hd := dle_R hF H b a c q (Or.inr (Or.inr hp.2))
        refine ⟨hle_R _ _ _ _ _, hd, okh_R h hd fun j hj => ?_, hl.up (hle_R _ _ _ _ _) hd, hs.tl.tl.up (hle_R _ _ _ _ _) hd⟩
        rw [tgt_cls h1, h2]
        exact (okr_plain h3).mp hs.hd j hj
    · cases he
  case h_12 => -- 25
    split at he
    · rename_i _ t q e a r
      cases hc : (Nat.beq t d && Nat.beq e (b + 64)) <;> rw [hc] at he
      · cases he
      · cases he
        obtain ⟨h1, h2, h3, -⟩ := own3_spec (show own3 F b c 5 d = true from hk)
        have e1 : t = d := by simp only [Bool.and_eq_true, Nat.beq_eq] at hc; exact hc.1
        subst e1
        have hd := dle_R hF H b a c q (Or.inr (Or.inr hp.2))
        refine ⟨hle_R _ _ _ _ _, hd, okh_R h hd fun j hj => ?_, hl.up (hle_R _ _ _ _ _) hd, hs.tl.tl.up (hle_R _ _ _ _ _) hd⟩
        rw [tgt_cls h1, h2]
        exact (okr_plain h3).mp hs.hd j hj
    · cases he
  case h_13 => -- 40
    split at he
    · cases he
      simp only [eok, Bool.and_eq_true, Nat.ble_eq] at hk
      refine ⟨hle_N _ _ _ _, dle_N _ _ _ _ _, okh_N h, hl.up (hle_N _ _ _ _) (dle_N _ _ _ _ _), (hs.tl.up (hle_N _ _ _ _) (dle_N _ _ _ _ _)).cons ?_⟩
      refine (okr_plain (d := b) ?_).mpr fun j hj => ?_
      · exact plainc_of (by omega)
      · cases hj
        refine ok1_nil hk.2.2 ?_
        show cn H b < if b = b then cn H b + 1 else _
        rw [if_pos rfl]; exact Nat.lt_succ_self _
    · cases he
  case h_14 => -- 41
    cases he
    simp only [eok, Bool.and_eq_true, Nat.blt_eq, Nat.beq_eq] at hk
    refine ⟨hle_N _ _ _ _, dle_N _ _ _ _ _, okh_N h, hl.up (hle_N _ _ _ _) (dle_N _ _ _ _ _), (hs.up (hle_N _ _ _ _) (dle_N _ _ _ _ _)).cons ?_⟩
    rw [hk.2.2]
    refine okr_raw hk.1 ?_
    show cn H b < if b = b then cn H b + 1 else _
    rw [if_pos rfl]; exact Nat.lt_succ_self _
  case h_15 => -- 50
    split at he
    · cases hc : (Nat.beq _ b) <;> rw [hc] at he
      · cases he
      · cases he; exact ⟨hle.refl _, dle.refl _ _, h, hl, hs.tl.cons trivial⟩
    · cases he
  case h_16 => -- 51
    split at he
    · cases hc : (Nat.beq _ b) <;> rw [hc] at he
      · cases he
      · cases he; exact ⟨hle.refl _, dle.refl _ _, h, hl, hs.tl.tl.cons trivial⟩
    · cases he
  case h_17 => -- 52
    split at he
    · cases hc : (Nat.beq _ b) <;> rw [hc] at he
      · cases he
      · cases he; exact ⟨hle.refl _, dle.refl _ _, h, hl, hs.tl.tl.cons trivial⟩
    · cases he
  case h_18 => -- 53
    split at he
    · cases hc : (Nat.beq _ b) <;> rw [hc] at he
      · cases he
      · cases he
        simp only [eok, Bool.and_eq_true, Nat.ble_eq, Nat.beq_eq] at hk
        refine ⟨hle.refl _, dle.refl _ _, h, hl, hs.tl.tl.cons ((okr_plain hk.2.2).mpr fun j hj => ?_)⟩
        have := h.1 _ _ _ _ hj
        rwa [tgt_arr hk.1, ← hk.2.1] at this
    · cases he
  case h_19 => -- 54
    split at he
    · cases hc : (Nat.beq _ b) <;> rw [hc] at he
      · cases he
      · cases he; exact ⟨hle_I _ _ _ _ _, dle_I _ _ _ _ _ _, okh_I h, hl.up (hle_I _ _ _ _ _) (dle_I _ _ _ _ _ _), hs.tl.tl.tl.up (hle_I _ _ _ _ _) (dle_I _ _ _ _ _ _)⟩
    · cases he
  case h_20 => -- 55
    split at he
    · cases hc : (Nat.beq _ b) <;> rw [hc] at he
      · cases he
      · cases he; exact ⟨hle_I _ _ _ _ _, dle_I _ _ _ _ _ _, okh_I h, hl.up (hle_I _ _ _ _ _) (dle_I _ _ _ _ _ _), hs.tl.tl.tl.up (hle_I _ _ _ _ _) (dle_I _ _ _ _ _ _)⟩
    · cases he
  case h_21 => -- 56
    split at he
    · cases hc : (Nat.beq _ b) <;> rw [hc] at he
      · cases he
      · cases he; exact ⟨hle_I _ _ _ _ _, dle_I _ _ _ _ _ _, okh_I h, hl.up (hle_I _ _ _ _ _) (dle_I _ _ _ _ _ _), hs.tl.tl.tl.up (hle_I _ _ _ _ _) (dle_I _ _ _ _ _ _)⟩
    · cases he
  case h_22 => -- 57
    split at he
    · cases hc : (Nat.beq _ b) <;> rw [hc] at he
      · cases he
      · cases he; exact ⟨hle_I _ _ _ _ _, dle_I _ _ _ _ _ _, okh_I h, hl.up (hle_I _ _ _ _ _) (dle_I _ _ _ _ _ _), hs.tl.tl.tl.up (hle_I _ _ _ _ _) (dle_I _ _ _ _ _ _)⟩
    · cases he
  case h_23 => -- 58
    split at he
    · cases hc : (Nat.beq _ b) <;> rw [hc] at he
      · cases he
      · cases he; exact ⟨hle_L _ _ _ _ _, dle_L _ _ _ _ _ _, okh_L h, hl.up (hle_L _ _ _ _ _) (dle_L _ _ _ _ _ _), hs.tl.tl.tl.up (hle_L _ _ _ _ _) (dle_L _ _ _ _ _ _)⟩
    · cases he
  case h_24 => -- 59
    split at he
    · rename_i _ t q j e a r
      cases hc : (Nat.beq e b && Nat.beq t d) <;> rw [hc] at he
      · cases he
      · cases he
        simp only [eok, Bool.and_eq_true, Nat.ble_eq, Nat.beq_eq] at hk
        have e1 : t = d := by simp only [Bool.and_eq_true, Nat.beq_eq] at hc; exact hc.2
        subst e1
        have hd := dle_R hF H b a j.toNatClampNeg q (Or.inr (Or.inl (by omega)))
        refine ⟨hle_R _ _ _ _ _, hd, okh_R h hd fun i hi => ?_, hl.up (hle_R _ _ _ _ _) hd, hs.tl.tl.tl.up (hle_R _ _ _ _ _) hd⟩
        rw [tgt_arr hk.1, ← hk.2.1]
        exact (okr_plain hk.2.2).mp hs.hd i hi
    · cases he
  case h_25 => -- 61
    cases he
    simp only [eok, Bool.and_eq_true, Bool.or_eq_true, Nat.blt_eq, Nat.beq_eq] at hk
    refine ⟨hle.refl _, dle.refl _ _, h, hl, hs.cons ((okr_plain ?_).mpr fun j hj => ?_)⟩
    · rcases hk.1 with ⟨rfl, -⟩ | ⟨rfl, -⟩ <;> rfl
    · cases hj
      refine ok1_nil hk.2 ?_
      rcases hk.1 with ⟨rfl, h2⟩ | ⟨rfl, h2⟩
      · exact Nat.lt_of_lt_of_le h2 h.2.1
      · rw [h2]; exact h.2.2
  case h_26 => -- 62
    cases he
    exact ⟨hle.refl _, dle.refl _ _, h, hl, hs.cons okr_none⟩
  case h_27 => -- 63
    split at he
    · cases hc : (Nat.beq _ b) <;> rw [hc] at he
      · cases he
      · cases he; exact ⟨hle.refl _, dle.refl _ _, h, hl, hs.tl.cons trivial⟩
    · cases he
  case h_28 => -- 64
    split at he
    · cases he; exact ⟨hle.refl _, dle.refl _ _, h, hl, hs.tl⟩
    · cases he
  case h_29 => -- 65
    split at he
    · split at he
      · cases he; exact ⟨hle.refl _, dle.refl _ _, h, hl.set _ (fun v e => by cases e; trivial), hs.tl⟩
      · cases he
    · cases he
  case h_30 => cases he
theorem s_inv {F : am_OF} (hF : ofok F) {E : am_E} {ls ls' : am_L} {st st' : List am_V} {H H' : am_H} {ps : List Prop} (he : am_s E ls st H = some (ls', st', H', ps)) (hp : am_all ps) (hk : eok F E = true) (h : okh F H) (hl : okl F H ls) (hs : oks F H st) : kept F H H' ls' st' := by
  rcases E with i | x | x | ⟨op, b, c, d⟩
  · exact s1_inv he h hl hs
  · cases he; exact ⟨hle.refl _, dle.refl _ _, h, hl, hs.cons trivial⟩
  · cases he; exact ⟨hle.refl _, dle.refl _ _, h, hl, hs.cons trivial⟩
  · exact s2_inv hF he hp hk h hl hs
theorem all_app : ∀ {ps qs : List Prop}, am_all (ps ++ qs) → am_all ps ∧ am_all qs
  | [], qs, h => ⟨trivial, h⟩
  | [p], [], h => ⟨h, trivial⟩
  | [p], q :: qs, h => ⟨h.1, h.2⟩
  | p :: q :: ps, qs, h => ⟨⟨h.1, (all_app (ps := q :: ps) h.2).1⟩, (all_app (ps := q :: ps) h.2).2⟩
theorem x_ps : ∀ {B : List am_E} {ls ls' : am_L} {st st' : List am_V} {H H' : am_H} {ps qs : List Prop}, am_x B ls st H ps = some (ls', st', H', qs) → am_all qs → am_all ps
  | [], _, _, _, _, _, _, _, _, h, hq => by cases h; exact hq
  | E :: B, ls, _, st, _, H, _, ps, qs, h, hq => by
    unfold am_x at h
    split at h
    · exact (all_app (x_ps h hq)).1
    · cases h
theorem x_inv {F : am_OF} (hF : ofok F) : ∀ {B : List am_E} {ls ls' : am_L} {st st' : List am_V} {H H' : am_H} {ps qs : List Prop}, am_x B ls st H ps = some (ls', st', H', qs) → am_all qs → B.all (eok F) = true → okh F H → okl F H ls → oks F H st → kept F H H' ls' st'
  | [], _, _, _, _, _, _, _, _, h, hq, _, k1, k2, k3 => by cases h; exact ⟨hle.refl _, dle.refl _ _, k1, k2, k3⟩
  | E :: B, ls, _, st, _, H, _, ps, qs, h, hq, hB, k1, k2, k3 => by
    unfold am_x at h
    split at h
    · rename_i e
      simp only [List.all_cons, Bool.and_eq_true] at hB
      have hp := (all_app (x_ps h hq)).2
      obtain ⟨a1, a2, a3, a4, a5⟩ := s_inv hF e hp hB.1 k1 k2 k3
      obtain ⟨b1, b2, b3, b4, b5⟩ := x_inv hF h hq hB.2 a3 a4 a5
      exact ⟨a1.trans b1, a2.trans b2, b3, b4, b5⟩
    · cases h
