/-! SIM 23: addresses are apart -/
def adok (H : am_H) : Prop := (∀ c i, am_dyn c = true → i < cn H c → adr H c i < ncl H) ∧ ∀ c i c' i', am_dyn c = true → am_dyn c' = true → i < cn H c → i' < cn H c' → adr H c i = adr H c' i' → c = c' ∧ i = i'
def gr (H H' : am_H) : Prop := (adok H → adok H') ∧ ∀ c, am_dyn c = false → cn H' c = cn H c
theorem gr.refl (H : am_H) : gr H H := ⟨id, fun _ _ => rfl⟩
theorem gr.trans {H K L : am_H} (h : gr H K) (k : gr K L) : gr H L := ⟨fun x => k.1 (h.1 x), fun c hc => (k.2 c hc).trans (h.2 c hc)⟩
theorem gr_I (H : am_H) (c i k : Nat) (v : Int32) : gr H (wrI H c i k v) := ⟨fun h => h, fun _ _ => rfl⟩
theorem gr_L (H : am_H) (c i k : Nat) (v : Int64) : gr H (wrL H c i k v) := ⟨fun h => h, fun _ _ => rfl⟩
theorem gr_R (H : am_H) (c i k : Nat) (v : Option Nat) : gr H (wrR H c i k v) := ⟨fun h => h, fun _ _ => rfl⟩
theorem gr_N (H : am_H) {c : Nat} (n w : Nat) (hd : am_dyn c = true) : gr H (nw H c n w) := by
  refine ⟨fun h => ?_, fun d hdd => ?_⟩
  · have key : ∀ d i, i < cn (nw H c n w) d → (d = c ∧ i = cn H c ∧ adr (nw H c n w) d i = ncl H) ∨ (i < cn H d ∧ adr (nw H c n w) d i = adr H d i) := by
      intro d i hi
      have hi' : i < if d = c then cn H c + 1 else cn H d := hi
      have e : adr (nw H c n w) d i = if d = c ∧ i = cn H c then ncl H else adr H d i := rfl
      by_cases hdc : d = c
      · subst hdc
        rw [if_pos rfl] at hi'
        by_cases hic : i = cn H d
        · left; exact ⟨rfl, hic, by rw [e, if_pos ⟨rfl, hic⟩]⟩
        · right; exact ⟨by omega, by rw [e, if_neg (fun q => hic q.2)]⟩
      · rw [if_neg hdc] at hi'
        right; exact ⟨hi', by rw [e, if_neg (fun q => hdc q.1)]⟩
    have hn : ncl (nw H c n w) = ncl H + 1 := rfl
    refine ⟨fun d i hdd hi => ?_, fun d i d' i' hdd hdd' hi hi' he => ?_⟩
    · rw [hn]
      rcases key d i hi with ⟨-, -, e⟩ | ⟨a, e⟩
      · rw [e]; exact Nat.lt_succ_self _
      · rw [e]; exact Nat.lt_succ_of_lt (h.1 d i hdd a)
    · rcases key d i hi with ⟨a1, a2, e1⟩ | ⟨a1, e1⟩ <;> rcases key d' i' hi' with ⟨b1, b2, e2⟩ | ⟨b1, e2⟩
      · exact ⟨a1.trans b1.symm, a2.trans b2.symm⟩
      · have := h.1 d' i' hdd' b1; rw [e1, e2] at he; omega
      · have := h.1 d i hdd a1; rw [e1, e2] at he; omega
      · rw [e1, e2] at he; exact h.2 d i d' i' hdd hdd' a1 b1 he
  · show (if d = c then cn H c + 1 else cn H d) = cn H d
    rw [if_neg]
    rintro rfl
    rw [hd] at hdd; cases hdd
theorem s1_H {i : Instr} {ls ls' : am_L} {st st' : List am_V} {H H' : am_H} {ps : List Prop} (he : am_s1 i ls st H = some (ls', st', H', ps)) : H' = H := by
  unfold am_s1 at he
  repeat' split at he
  all_goals first | (cases he; done) | (cases he; rfl)
theorem cond_2 {α : Type} {x y : Bool} {p q z : α} (h : (bif x then some p else bif y then some q else none) = some z) : p = z ∨ q = z := by
  cases x with
  | true => exact Or.inl (Option.some.inj h)
  | false =>
    cases y with
    | true => exact Or.inr (Option.some.inj h)
    | false => cases h
theorem s2_gr {F : am_OF} {op b c d : Nat} {ls ls' : am_L} {st st' : List am_V} {H H' : am_H} {ps : List Prop} (he : am_s2 op b c d ls st H = some (ls', st', H', ps)) (hk : eok F (en op b c d) = true) : gr H H' := by
  unfold am_s2 at he
  split at he
  case h_13 =>
    split at he
    · cases he
      refine gr_N _ _ _ ?_
      simp only [eok, Bool.and_eq_true] at hk
      exact hk.2.1
    · cases he
  case h_14 =>
    cases he
    refine gr_N _ _ _ ?_
    simp only [eok, Bool.and_eq_true] at hk
    exact hk.2.1
  all_goals (try (repeat' split at he))
  all_goals (first
    | (cases he; done)
    | (cases he; first | exact gr.refl _ | exact gr_I _ _ _ _ _ | exact gr_L _ _ _ _ _ | exact gr_R _ _ _ _ _)
    | (obtain ⟨-, hz⟩ := cond_t he rfl; cases hz; first | exact gr.refl _ | exact gr_I _ _ _ _ _ | exact gr_L _ _ _ _ _ | exact gr_R _ _ _ _ _)
    | (rcases cond_2 he with h | h <;> cases h <;> exact gr.refl _))
theorem s_gr {F : am_OF} {E : am_E} {ls ls' : am_L} {st st' : List am_V} {H H' : am_H} {ps : List Prop} (he : am_s E ls st H = some (ls', st', H', ps)) (hk : eok F E = true) : gr H H' := by
  rcases E with i | x | x | ⟨op, b, k, d⟩
  · rw [s1_H he]; exact gr.refl _
  · cases he; exact gr.refl _
  · cases he; exact gr.refl _
  · exact s2_gr he hk
theorem x_gr {F : am_OF} : ∀ {B : List am_E} {ls ls' : am_L} {st st' : List am_V} {H H' : am_H} {ps qs : List Prop}, am_x B ls st H ps = some (ls', st', H', qs) → B.all (eok F) = true → gr H H'
  | [], _, _, _, _, H, _, _, _, h, _ => by cases h; exact gr.refl _
  | E :: B, ls, ls', st, st', H, H', ps, qs, h, hB => by
    simp only [List.all_cons, Bool.and_eq_true] at hB
    unfold am_x at h
    split at h
    · rename_i ls1 st1 H1 qs1 he
      exact (s_gr he hB.1).trans (x_gr h hB.2)
    · cases h
section GR
variable {P : am_P} {M : Nat} {L : Nat → List Nat} {f : am_St → am_O}
def rung (M : Nat) (L : Nat → List Nat) (f : am_St → am_O) : Prop := ∀ m pc ls st H r H', f (m, pc, ls, st, H) = some (r, H') → m < M → labin (L m) pc = true → gr H H'
theorem jmp_gr (hf : rung M L f) {m pc : Nat} {ls : am_L} {st : List am_V} {H H' : am_H} {r : am_R} {bl : Nat → am_B} (h : am_jmp bl f m pc ls st H = some (r, H')) (hm : m < M) (hp : labin (L m) pc = true) : gr H H' := hf m pc _ st H r H' h hm hp
theorem hn_gr (hf : rung M L f) {m : Nat} {ls : am_L} {bl : Nat → am_B} (hm : m < M) : ∀ {hs : List (Nat × Nat)} {c i : Nat} {H H' : am_H} {r : am_R}, am_hn bl f m ls hs c i H = some (r, H') → hsok (L m) hs = true → gr H H'
  | [], c, i, H, H', r, h, _ => by cases h
  | (d, pc) :: hs, c, i, H, H', r, h, hk => by
    simp only [hsok, List.all_cons, Bool.and_eq_true] at hk
    unfold am_hn at h
    split at h
    · exact jmp_gr hf h hm hk.1
    · exact hn_gr hf hm h (by simpa [hsok] using hk.2)
theorem hd_gr (hf : rung M L f) {m : Nat} {ls : am_L} {bl : Nat → am_B} (hm : m < M) : ∀ {hs : List (Nat × Nat)} {c i : Nat} {H H' : am_H} {r : am_R}, am_hd bl f m ls hs c i H = some (r, H') → hsok (L m) hs = true → gr H H'
  | [], c, i, H, H', r, h, _ => by cases h; exact gr.refl _
  | q :: hs, c, i, H, H', r, h, hk => hn_gr hf hm (hs := q :: hs) h hk
theorem call_gr (hf : rung M L f) {m tg nx : Nat} {ls : am_L} {as rest : List am_V} {H H' : am_H} {r : am_R} {bl bl' : Nat → am_B} {hs : List (Nat × Nat)} {rk : Nat}
    (hM : progok P M L) (hm : m < M) (htg : tg < M) (hnx : labin (L m) nx = true) (hhs : hsok (L m) hs = true)
    (h : (match rk with
          | 0 => bV (am_jmp bl' f tg 0 (am_ent as) [] H) (fun K => am_jmp bl f m nx ls rest K) (am_hd bl f m ls hs)
          | 1 => bI (am_jmp bl' f tg 0 (am_ent as) [] H) (fun x K => am_jmp bl f m nx ls (iv x :: rest) K) (am_hd bl f m ls hs)
          | 4 => bI (am_jmp bl' f tg 0 (am_ent as) [] H) (fun x K => am_jmp bl f m nx ls (iv x :: rest) K) (am_hd bl f m ls hs)
          | 2 => bL (am_jmp bl' f tg 0 (am_ent as) [] H) (fun x K => am_jmp bl f m nx ls (lv x :: rest) K) (am_hd bl f m ls hs)
          | n => bR (n - 100) (am_jmp bl' f tg 0 (am_ent as) [] H) (fun x K => am_jmp bl f m nx ls (rv (n - 100) x :: rest) K) (am_hd bl f m ls hs)) = some (r, H')) : gr H H' := by
  rcases ho : am_jmp bl' f tg 0 (am_ent as) [] H with _ | ⟨o, K⟩
  · exfalso
    rw [ho] at h
    split at h <;> cases h
  · have a1 : gr H K := jmp_gr hf ho htg (hM.2.1 tg htg)
    rw [ho] at h
    rcases o with o | q
    · rcases o with _ | v
      · split at h <;> first | (cases h; done) | exact a1.trans (jmp_gr hf h hm hnx)
      · rcases v with x | x | ⟨c, x⟩
        · split at h <;> first | (cases h; done) | exact a1.trans (jmp_gr hf h hm hnx)
        · split at h <;> first | (cases h; done) | exact a1.trans (jmp_gr hf h hm hnx)
        · split at h <;> first | (cases h; done) | skip
          unfold bR at h
          simp only at h
          split at h
          · exact a1.trans (jmp_gr hf h hm hnx)
          · cases h
    · have h' : am_hd bl f m ls hs q.1 q.2 K = some (r, H') := by split at h <;> exact h
      exact a1.trans (hd_gr hf hm h' hhs)
theorem tm_gr (hM : progok P M L) (hf : rung M L f) {m rk tg nx : Nat} {bl : Nat → am_B} {hs : List (Nat × Nat)} {sw : List Nat} {term : Instr} {ls1 : am_L} {st1 : List am_V} {H1 H' : am_H} {r : am_R} (hm : m < M) (h : am_tm P f m rk bl tg nx hs sw ls1 st1 H1 term = some (r, H')) (ht : termok P.1 M (L m) tg nx hs sw term = true) : gr H1 H' := by
  have J : ∀ {pc st}, am_jmp bl f m pc ls1 st H1 = some (r, H') → labin (L m) pc = true → gr H1 H' := fun hj hl => jmp_gr hf hj hm hl
  cases term <;> simp only [am_tm] at h <;> (try (cases h; done)) <;> simp only [termok, Bool.and_eq_true] at ht
  case goto t => exact J h ht
  case goto_w t => exact J h ht
  case ifCond c t =>
    split at h
    · cases c <;> (try simp only at h) <;> split at h <;> (try split at h) <;> first | exact J h ht.1 | exact J h ht.2
    · cases h
  case if_icmp c t =>
    split at h
    · cases c <;> (try simp only at h) <;> split at h <;> (try split at h) <;> first | exact J h ht.1 | exact J h ht.2
    · cases h
  case if_acmp c t =>
    split at h
    · rename_i _ cy y cx x r0
      cases hc : Nat.beq cx cy <;> rw [hc] at h
      · cases h
      · simp only [cond_true] at h
        cases c <;> (try simp only at h) <;> split at h <;> (try split at h) <;> first | exact J h ht.1 | exact J h ht.2
    · cases h
  case ifnull t =>
    split at h
    · split at h
      · exact J h ht.1
      · exact J h ht.2
    · cases h
  case ifnonnull t =>
    split at h
    · split at h
      · exact J h ht.2
      · exact J h ht.1
    · cases h
  case tableswitch d lo hi offs =>
    split at h
    · split at h
      · exact J h ht.1
      · exact J h (sw_in _ ht.2 ht.1)
    · cases h
  case lookupswitch d ps =>
    split at h
    · exact J h (lk_in _ ht.2 ht.1)
    · cases h
  case ireturn =>
    split at h
    · cases h1 : Nat.beq rk 1 <;> rw [h1] at h
      · cases h2 : Nat.beq rk 4 <;> rw [h2] at h
        · cases h
        · obtain ⟨-, h⟩ := ck_some h; cases h; exact gr.refl _
      · cases h; exact gr.refl _
    · cases h
  case lreturn =>
    split at h
    · cases h1 : Nat.beq rk 2 <;> rw [h1] at h
      · cases h
      · cases h; exact gr.refl _
    · cases h
  case areturn =>
    split at h
    · rename_i c q
      cases h1 : Nat.beq rk (100 + c) <;> rw [h1] at h
      · cases h
      · cases h; exact gr.refl _
    · cases h
  case return_ =>
    split at h
    · cases h1 : Nat.beq rk 0 <;> rw [h1] at h
      · cases h
      · cases h; exact gr.refl _
    · cases h
  case athrow =>
    split at h
    case h_2 => cases h
    cases h
    exact gr_N _ _ _ ht.2.1
  case invokestatic k =>
    simp only [Nat.blt_eq] at ht
    split at h
    · cases h
    · rename_i as rest hpop
      cases hc : (Nat.ble rest.length 16 && Nat.ble (am_ent as).length (P.2 tg).2.1) <;> rw [hc] at h
      · cases h
      · exact call_gr hf hM hm ht.1 ht.2.1 ht.2.2 h
  case invokevirtual k =>
    simp only [Nat.blt_eq] at ht
    split at h
    · rename_i d a as rest hpop
      cases hc : (Nat.ble rest.length 16 && (Nat.ble (am_ent (rv d (some a) :: as)).length (P.2 tg).2.1 && (Nat.blt d 64 && am_one d sw))) <;> rw [hc] at h
      · cases h
      · exact call_gr hf hM hm ht.1 ht.2.1 ht.2.2 h
    · cases h
  case invokedynamic k =>
    simp only [Nat.blt_eq] at ht
    split at h
    · rename_i d a as e b rest hpop
      cases hc : (Nat.ble 64 d && Nat.blt d 128 && Nat.beq d e && Nat.beq (P.2 tg).2.2.1 0 && Nat.ble rest.length 16 && Nat.ble (am_ent (rv d (some a) :: as)).length (P.2 tg).2.1) <;> rw [hc] at h
      · cases h
      simp only [cond_true] at h
      rcases ho : am_jmp (P.2 tg).2.2.2 f tg 0 (am_ent (rv d (some a) :: as)) [] H1 with _ | ⟨o, K⟩
      · rw [ho] at h; cases h
      have d1 : gr H1 K := jmp_gr hf ho ht.1 (hM.2.1 tg ht.1)
      rw [ho] at h
      rcases o with (_ | v) | q
      · obtain ⟨hdone, h⟩ := ck_some h
        exact d1.trans (jmp_gr hf h hm ht.2.1)
      · cases h
      · exact d1.trans (hd_gr hf hm h ht.2.2)
    · cases h
theorem F_gr (hM : progok P M L) (hf : rung M L f) : rung M L (am_F P f) := by
  intro m pc ls st H r H' h hm hp
  have hb := hM.2.2 m hm pc hp
  simp only [am_F] at h
  revert h hb
  generalize (P.2 m).2.2.2 pc = B
  obtain ⟨body, term, tg, nx, mask, hs, sw⟩ := B
  intro h hb
  simp only [blkok, Bool.and_eq_true] at hb
  simp only [am_G] at h
  rcases hx : am_x body ls st H [] with _ | ⟨ls1, st1, H1, ps⟩
  · rw [hx] at h; cases h
  rw [hx] at h
  obtain ⟨hps, h⟩ := ck_some h
  exact (x_gr hx hb.1).trans (tm_gr hM hf hm h hb.2)
end GR
theorem run_gr {P : am_P} {M : Nat} {L : Nat → List Nat} (hM : progok P M L) : ∀ n, rung M L (am_run P n)
  | 0 => fun m pc ls st H r H' h => by cases h
  | n + 1 => F_gr hM (run_gr hM n)
