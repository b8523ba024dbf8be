/-! SIM 3: what a run keeps -/
def okR (F : am_OF) (H : am_H) : am_R → Prop
  | .inl (some v) => okv F H v
  | .inl none => True
  | .inr q => ok1 F H q.1 q.2 ∧ excb q.1 = true
def labin (L : List Nat) (x : Nat) : Bool := L.any (fun y => Nat.beq y x)
def hsok (L : List Nat) (hs : List (Nat × Nat)) : Bool := hs.all (fun q => labin L q.2)
def termok (F : am_OF) (M : Nat) (L : List Nat) (tg nx : Nat) (hs : List (Nat × Nat)) (sw : List Nat) (t : Instr) : Bool := match t with
  | .goto_w _ => labin L nx
  | .goto _ => labin L tg
  | .ifCond _ _ => labin L tg && labin L nx
  | .if_icmp _ _ => labin L tg && labin L nx
  | .if_acmp _ _ => labin L tg && labin L nx
  | .ifnull _ => labin L tg && labin L nx
  | .ifnonnull _ => labin L tg && labin L nx
  | .tableswitch _ _ _ _ => labin L tg && sw.all (labin L)
  | .lookupswitch _ _ => labin L tg && sw.all (labin L)
  | .athrow => Nat.blt tg 64 && (am_dyn tg && ((F tg).isEmpty && excb tg))
  | .invokestatic _ => Nat.blt tg M && (labin L nx && hsok L hs)
  | .invokevirtual _ => Nat.blt tg M && (labin L nx && hsok L hs)
  | .invokedynamic _ => Nat.blt tg M && (labin L nx && hsok L hs)
  | _ => true
def blkok (F : am_OF) (M : Nat) (L : List Nat) (B : am_B) : Bool := B.1.all (eok F) && termok F M L B.2.2.1 B.2.2.2.1 B.2.2.2.2.2.1 B.2.2.2.2.2.2 B.2.1
def progok (P : am_P) (M : Nat) (L : Nat → List Nat) : Prop := ofok P.1 ∧ (∀ m, m < M → labin (L m) 0 = true) ∧ ∀ m, m < M → ∀ pc, labin (L m) pc = true → blkok P.1 M (L m) ((P.2 m).2.2.2 pc) = true
/-- what a run from a state keeps -/
def runok (P : am_P) (M : Nat) (L : Nat → List Nat) (f : am_St → am_O) : Prop := ∀ m pc ls st H r H', f (m, pc, ls, st, H) = some (r, H') → m < M → labin (L m) pc = true → okh P.1 H → okl P.1 H ls → oks P.1 H st → hle H H' ∧ dle P.1 H H' ∧ okh P.1 H' ∧ okR P.1 H' r
theorem sw_in {L : List Nat} : ∀ {sw : List Nat} (n : Nat) {d : Nat}, sw.all (labin L) = true → labin L d = true → labin L (am_sw sw n d) = true
  | [], _, _, _, h => h
  | t :: r, 0, _, h, _ => by simp only [List.all_cons, Bool.and_eq_true] at h; exact h.1
  | t :: r, n + 1, d, h, k => by simp only [List.all_cons, Bool.and_eq_true] at h; exact sw_in (sw := r) n h.2 k
theorem lk_in {L : List Nat} : ∀ {ps : List (Int × Int)} {sw : List Nat} (x : Int) {d : Nat}, sw.all (labin L) = true → labin L d = true → labin L (am_lk ps sw x d) = true
  | [], _, _, _, _, h => h
  | _ :: _, [], _, _, _, h => h
  | (a, b) :: r, t :: ts, x, d, h, k => by
    simp only [List.all_cons, Bool.and_eq_true] at h
    unfold am_lk
    split
    · exact h.1
    · exact lk_in x h.2 k
theorem pop_ok {F : am_OF} {H : am_H} : ∀ {n : Nat} {st acc as r : List am_V}, am_pop n st acc = some (as, r) → oks F H st → oks F H acc → oks F H as ∧ oks F H r
  | 0, st, acc, as, r, h, h1, h2 => by cases h; exact ⟨h2, h1⟩
  | n + 1, v :: st, acc, as, r, h, h1, h2 => pop_ok (n := n) h h1.tl (h2.cons h1.hd)
  | n + 1, [], acc, as, r, h, h1, h2 => by cases h
theorem ent_ok {F : am_OF} {H : am_H} : ∀ {as : List am_V}, oks F H as → okl F H (am_ent as)
  | [], _ => fun v hv => by cases hv
  | .inl x :: r, h => fun v hv => by
    rcases List.mem_cons.mp hv with e | e
    · cases e; trivial
    · exact ent_ok h.tl v e
  | .inr (.inl x) :: r, h => fun v hv => by
    rcases List.mem_cons.mp hv with e | e
    · cases e; trivial
    · rcases List.mem_cons.mp e with e | e
      · cases e
      · exact ent_ok h.tl v e
  | .inr (.inr x) :: r, h => fun v hv => by
    rcases List.mem_cons.mp hv with e | e
    · cases e; exact h.hd
    · exact ent_ok h.tl v e
section RUN
variable {P : am_P} {M : Nat} {L : Nat → List Nat} {f : am_St → am_O}
theorem jmp_ok (hf : runok P M L f) {m pc : Nat} {ls : am_L} {st : List am_V} {H H' : am_H} {r : am_R} {bl : Nat → am_B} (h : am_jmp bl f m pc ls st H = some (r, H')) (hm : m < M) (hp : labin (L m) pc = true) (h1 : okh P.1 H) (h2 : okl P.1 H ls) (h3 : oks P.1 H st) : hle H H' ∧ dle P.1 H H' ∧ okh P.1 H' ∧ okR P.1 H' r :=
  hf m pc _ st H r H' h hm hp h1 (h2.mask _) h3
theorem hn_ok (hf : runok P M L f) {m : Nat} {ls : am_L} {bl : Nat → am_B} (hm : m < M) : ∀ {hs : List (Nat × Nat)} {c i : Nat} {H H' : am_H} {r : am_R}, am_hn bl f m ls hs c i H = some (r, H') → hsok (L m) hs = true → okh P.1 H → okl P.1 H ls → ok1 P.1 H c i → excb c = true → hle H H' ∧ dle P.1 H H' ∧ okh P.1 H' ∧ okR P.1 H' r
  | [], c, i, H, H', r, h, _, h1, h2, h3, h4 => by cases h
  | (d, pc) :: hs, c, i, H, H', r, h, hk, h1, h2, h3, h4 => by
    simp only [hsok, List.all_cons, Bool.and_eq_true] at hk
    unfold am_hn at h
    split at h
    · rename_i e; subst e
      exact jmp_ok hf h hm hk.1 h1 h2 (oks.cons ((okr_plain (plainc_of (by have := excb_lt h4; omega))).mpr fun j hj => by cases hj; exact h3) (fun v hv => by cases hv))
    · exact hn_ok hf hm h (by simpa [hsok] using hk.2) h1 h2 h3 h4
theorem hd_ok (hf : runok P M L f) {m : Nat} {ls : am_L} {bl : Nat → am_B} (hm : m < M) : ∀ {hs : List (Nat × Nat)} {c i : Nat} {H H' : am_H} {r : am_R}, am_hd bl f m ls hs c i H = some (r, H') → hsok (L m) hs = true → okh P.1 H → okl P.1 H ls → ok1 P.1 H c i → excb c = true → hle H H' ∧ dle P.1 H H' ∧ okh P.1 H' ∧ okR P.1 H' r
  | [], c, i, H, H', r, h, _, h1, h2, h3, h4 => by cases h; exact ⟨hle.refl _, dle.refl _ _, h1, h3, h4⟩
  | q :: hs, c, i, H, H', r, h, hk, h1, h2, h3, h4 => hn_ok hf hm (hs := q :: hs) h hk h1 h2 h3 h4
/-- behind a call -/
theorem call_ok (hf : runok P M L f) {m tg nx : Nat} {ls : am_L} {as rest : List am_V} {H H' : am_H} {r : am_R} {bl bl' : Nat → am_B} {hs : List (Nat × Nat)} {rk : Nat}
    (hM : progok P M L) (hm : m < M) (htg : tg < M) (hnx : labin (L m) nx = true) (hhs : hsok (L m) hs = true) (h1 : okh P.1 H) (h2 : okl P.1 H ls) (h3 : oks P.1 H as) (h4 : oks P.1 H rest)
    (h : (match rk with
          | 0 => bV (am_jmp bl' f tg 0 (am_ent as) [] H) (fun K => am_jmp bl f m nx ls rest K) (am_hd bl f m ls hs)
          | 1 => bI (am_jmp bl' f tg 0 (am_ent as) [] H) (fun x K => am_jmp bl f m nx ls (iv x :: rest) K) (am_hd bl f m ls hs)
          | 4 => bI (am_jmp bl' f tg 0 (am_ent as) [] H) (fun x K => am_jmp bl f m nx ls (iv x :: rest) K) (am_hd bl f m ls hs)
          | 2 => bL (am_jmp bl' f tg 0 (am_ent as) [] H) (fun x K => am_jmp bl f m nx ls (lv x :: rest) K) (am_hd bl f m ls hs)
          | n => bR (n - 100) (am_jmp bl' f tg 0 (am_ent as) [] H) (fun x K => am_jmp bl f m nx ls (rv (n - 100) x :: rest) K) (am_hd bl f m ls hs)) = some (r, H')) :
    hle H H' ∧ dle P.1 H H' ∧ okh P.1 H' ∧ okR P.1 H' r := by
  have key : ∀ o, am_jmp bl' f tg 0 (am_ent as) [] H = some o → hle H o.2 ∧ dle P.1 H o.2 ∧ okh P.1 o.2 ∧ okR P.1 o.2 o.1 := fun o ho =>
    jmp_ok hf (r := o.1) (H' := o.2) ho htg (hM.2.1 tg htg) h1 (ent_ok h3) (fun v hv => by cases hv)
  have fin : ∀ (K : am_H) (v : List am_V), hle H K → dle P.1 H K → okh P.1 K → oks P.1 K v → am_jmp bl f m nx ls v K = some (r, H') → hle H H' ∧ dle P.1 H H' ∧ okh P.1 H' ∧ okR P.1 H' r := by
    intro K v a1 a2 a3 a4 hj
    obtain ⟨b1, b2, b3, b4⟩ := jmp_ok hf hj hm hnx a3 (h2.up a1 a2) a4
    exact ⟨a1.trans b1, a2.trans b2, b3, b4⟩
  have exc : ∀ (K : am_H) (q : Nat × Nat), hle H K → dle P.1 H K → okh P.1 K → okR P.1 K (.inr q) → am_hd bl f m ls hs q.1 q.2 K = some (r, H') → hle H H' ∧ dle P.1 H H' ∧ okh P.1 H' ∧ okR P.1 H' r := by
    intro K q a1 a2 a3 a4 hj
    obtain ⟨b1, b2, b3, b4⟩ := hd_ok hf hm hj hhs a3 (h2.up a1 a2) a4.1 a4.2
    exact ⟨a1.trans b1, a2.trans b2, b3, b4⟩
  rcases ho : am_jmp bl' f tg 0 (am_ent as) [] H with _ | ⟨o, K⟩
  · exfalso
    rw [ho] at h
    split at h <;> cases h
  · obtain ⟨a1, a2, a3, a4⟩ := key _ ho
    rw [ho] at h
    rcases o with o | q
    · rcases o with _ | v
      · split at h <;> first | (cases h; done) | exact fin K _ a1 a2 a3 (h4.up a1 a2) h
      · rcases v with x | x | ⟨c, x⟩
        · split at h <;> first | (cases h; done) | exact fin K _ a1 a2 a3 (oks.cons (v := iv x) trivial (h4.up a1 a2)) h
        · split at h <;> first | (cases h; done) | exact fin K _ a1 a2 a3 (oks.cons (v := lv x) trivial (h4.up a1 a2)) h
        · split at h <;> first | (cases h; done) | skip
          unfold bR at h
          simp only at h
          split at h
          · rename_i e
            exact fin K _ a1 a2 a3 ((h4.up a1 a2).cons (by rw [← e]; exact a4)) h
          · cases h
    · have h' : am_hd bl f m ls hs q.1 q.2 K = some (r, H') := by split at h <;> exact h
      exact exc K q a1 a2 a3 a4 h'
theorem tm_ok (hM : progok P M L) (hf : runok P M L f) {m rk tg nx : Nat} {bl : Nat → am_B} {hs : List (Nat × Nat)} {sw : List Nat} {term : Instr} {ls1 : am_L} {st1 : List am_V} {H1 H' : am_H} {r : am_R} (hm : m < M) (h : am_tm P f m rk bl tg nx hs sw ls1 st1 H1 term = some (r, H')) (ht : termok P.1 M (L m) tg nx hs sw term = true) (a3 : okh P.1 H1) (a4 : okl P.1 H1 ls1) (a5 : oks P.1 H1 st1) : hle H1 H' ∧ dle P.1 H1 H' ∧ okh P.1 H' ∧ okR P.1 H' r := by
  have J : ∀ {pc st}, am_jmp bl f m pc ls1 st H1 = some (r, H') → labin (L m) pc = true → oks P.1 H1 st → hle H1 H' ∧ dle P.1 H1 H' ∧ okh P.1 H' ∧ okR P.1 H' r := fun hj hl hst => jmp_ok hf hj hm hl a3 a4 hst
  cases term <;> simp only [am_tm] at h <;> (try (cases h; done)) <;> simp only [termok, Bool.and_eq_true] at ht
  case goto t => exact J h ht a5
  case goto_w t => exact J h ht a5
  case ifCond c t =>
    split at h
    · cases c <;> (try simp only at h) <;> split at h <;> (try split at h) <;> first | exact J h ht.1 a5.tl | exact J h ht.2 a5.tl
    · cases h
  case if_icmp c t =>
    split at h
    · cases c <;> (try simp only at h) <;> split at h <;> (try split at h) <;> first | exact J h ht.1 a5.tl.tl | exact J h ht.2 a5.tl.tl
    · cases h
  case if_acmp c t =>
    split at h
    · rename_i _ cy y cx x r0
      cases hc : Nat.beq cx cy <;> rw [hc] at h
      · cases h
      · simp only [cond_true] at h
        cases c <;> (try simp only at h) <;> split at h <;> (try split at h) <;> first | exact J h ht.1 a5.tl.tl | exact J h ht.2 a5.tl.tl
    · cases h
  case ifnull t =>
    split at h
    · split at h
      · exact J h ht.1 a5.tl
      · exact J h ht.2 a5.tl
    · cases h
  case ifnonnull t =>
    split at h
    · split at h
      · exact J h ht.2 a5.tl
      · exact J h ht.1 a5.tl
    · cases h
  case tableswitch d lo hi offs =>
    split at h
    · split at h
      · exact J h ht.1 a5.tl
      · exact J h (sw_in _ ht.2 ht.1) a5.tl
    · cases h
  case lookupswitch d ps =>
    split at h
    · exact J h (lk_in _ ht.2 ht.1) a5.tl
    · cases h
  case ireturn =>
    split at h
    · cases h1 : Nat.beq rk 1 <;> rw [h1] at h
      · cases h2 : Nat.beq rk 4 <;> rw [h2] at h
        · cases h
        · obtain ⟨-, h⟩ := ck_some h; cases h; exact ⟨hle.refl _, dle.refl _ _, a3, trivial⟩
      · cases h; exact ⟨hle.refl _, dle.refl _ _, a3, trivial⟩
    · cases h
  case lreturn =>
    split at h
    · cases h1 : Nat.beq rk 2 <;> rw [h1] at h
      · cases h
      · cases h; exact ⟨hle.refl _, dle.refl _ _, a3, trivial⟩
    · cases h
  case areturn =>
    split at h
    · rename_i c q
      cases h1 : Nat.beq rk (100 + c) <;> rw [h1] at h
      · cases h
      · cases h; exact ⟨hle.refl _, dle.refl _ _, a3, a5.hd⟩
    · cases h
  case return_ =>
    split at h
    · cases h1 : Nat.beq rk 0 <;> rw [h1] at h
      · cases h
      · cases h; exact ⟨hle.refl _, dle.refl _ _, a3, trivial⟩
    · cases h
  case athrow =>
    split at h
    case h_2 => cases h
    cases h
    simp only [Nat.blt_eq] at ht
    refine ⟨hle_N _ _ _ _, dle_N _ _ _ _ _, okh_N a3, ok1_nil ht.2.2.1 ?_, ht.2.2.2⟩
    · show cn H1 tg < if tg = tg then cn H1 tg + 1 else _
      rw [if_pos rfl]; exact Nat.lt_succ_self _
  case invokestatic k =>
    simp only [Nat.blt_eq] at ht
    split at h
    · cases h
    · rename_i as rest hpop
      obtain ⟨b1, b2⟩ := pop_ok hpop a5 (fun v hv => by cases hv)
      cases hc : (Nat.ble rest.length 16 && Nat.ble (am_ent as).length (P.2 tg).2.1) <;> rw [hc] at h
      · cases h
      · exact call_ok hf hM hm ht.1 ht.2.1 ht.2.2 a3 a4 b1 b2 h
  case invokevirtual k =>
    simp only [Nat.blt_eq] at ht
    split at h
    · rename_i d a as rest hpop
      obtain ⟨b1, b2⟩ := pop_ok hpop a5 (fun v hv => by cases hv)
      cases hc : (Nat.ble rest.length 16 && (Nat.ble (am_ent (rv d (some a) :: as)).length (P.2 tg).2.1 && (Nat.blt d 64 && am_one d sw))) <;> rw [hc] at h
      · cases h
      · exact call_ok hf hM hm ht.1 ht.2.1 ht.2.2 a3 a4 b1 b2 h
    · cases h
  case invokedynamic k =>
    simp only [Nat.blt_eq] at ht
    split at h
    · rename_i d a as e b rest hpop
      obtain ⟨b1, b2⟩ := pop_ok hpop a5 (fun v hv => by cases hv)
      cases hc : (Nat.ble 64 d && Nat.blt d 128 && Nat.beq d e && Nat.beq (P.2 tg).2.2.1 0 && Nat.ble rest.length 16 && Nat.ble (am_ent (rv d (some a) :: as)).length (P.2 tg).2.1) <;> rw [hc] at h
      · cases h
      simp only [Bool.and_eq_true, Nat.ble_eq, Nat.blt_eq, Nat.beq_eq] at hc
      obtain ⟨⟨⟨⟨⟨c1, c2⟩, rfl⟩, -⟩, -⟩, -⟩ := hc
      have hb : b < cn H1 (d - 64) := by
        have := b2.hd b rfl
        rwa [if_pos ⟨c1, c2⟩] at this
      simp only [cond_true] at h
      rcases ho : am_jmp (P.2 tg).2.2.2 f tg 0 (am_ent (rv d (some a) :: as)) [] H1 with _ | ⟨o, K⟩
      · rw [ho] at h; cases h
      obtain ⟨d1, d2, d3, d4⟩ := jmp_ok hf ho ht.1 (hM.2.1 tg ht.1) a3 (ent_ok b1) (fun v hv => by cases hv)
      rw [ho] at h
      rcases o with (_ | v) | q
      · obtain ⟨hdone, h⟩ := ck_some h
        obtain ⟨e1, e2, e3, e4⟩ := jmp_ok hf h hm ht.2.1 d3 (a4.up d1 d2) (oks.cons ((okr_plain (plainc_of (by omega))).mpr fun j hj => by cases hj; exact ⟨Nat.lt_of_lt_of_le hb (d1.1 _), hdone⟩) ((b2.up d1 d2).tl))
        exact ⟨d1.trans e1, d2.trans e2, e3, e4⟩
      · cases h
      · obtain ⟨e1, e2, e3, e4⟩ := hd_ok hf hm h ht.2.2 d3 (a4.up d1 d2) d4.1 d4.2
        exact ⟨d1.trans e1, d2.trans e2, e3, e4⟩
    · cases h
theorem F_ok (hM : progok P M L) (hf : runok P M L f) : runok P M L (am_F P f) := by
  intro m pc ls st H r H' h hm hp h1 h2 h3
  have hb := hM.2.2 m hm pc hp
  simp only [am_F] at h
  revert h hb
  generalize (P.2 m).2.2.2 pc = B
  obtain ⟨body, term, tg, nx, mask, hs, sw⟩ := B
  intro h hb
  simp only [blkok, Bool.and_eq_true] at hb
  simp only [am_G] at h
  rcases hx : am_x body ls st H [] with _ | ⟨ls1, st1, H1, ps⟩
  · rw [hx] at h; cases h
  rw [hx] at h
  obtain ⟨hps, h⟩ := ck_some h
  obtain ⟨a1, a2, a3, a4, a5⟩ := x_inv hM.1 hx hps hb.1 h1 h2 h3
  have := tm_ok hM hf hm h hb.2 a3 a4 a5
  exact ⟨a1.trans this.1, a2.trans this.2.1, this.2.2.1, this.2.2.2⟩
end RUN
theorem run_ok {P : am_P} {M : Nat} {L : Nat → List Nat} (hM : progok P M L) : ∀ n, runok P M L (am_run P n)
  | 0 => fun m pc ls st H r H' h => by cases h
  | n + 1 => F_ok hM (run_ok hM n)
