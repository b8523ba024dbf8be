/-! SIM 19: every end of a block -/
section TERM2
variable {P : am_P} {M : Nat} {L : Nat → List Nat} {dep : Nat → Nat} {xl : Nat → Nat → Nat → Nat → Bool} {p : Program} {l : Launch} {e : Env} {A : Nat → Nat → Nat} {s0 : State} {cid : Nat → ClassId} {slt : Nat → Nat → Nat} {f : am_St → am_O}
variable {R : Room} {s : State} {m : MethodId} {args : Array Value} {below : List Frame} {meth : Method} {c : Code} {hp : Heap} {locs : List Loc} {cells slots : Nat} {jl : Array Slot} {n0 m0 : Nat}
theorem one_eq {a b : Nat} {sw : List Nat} (h : am_one a sw = true) (k : am_one b sw = true) : a = b := by
  match sw, h, k with
  | [j], h, k =>
    simp only [am_one, Nat.beq_eq] at h k
    rw [h, k]
theorem stk_eq {st as rest : List am_V} {n : Nat} (h : am_pop n st [] = some (as, rest)) : st.map (vv A) = (as.map (vv A)).reverse ++ rest.map (vv A) ∧ as.length = n := by
  obtain ⟨h1, h2⟩ := pop_spec h
  simp only [List.reverse_nil, List.nil_append] at h1
  exact ⟨by rw [← h1, List.map_append, List.map_reverse], by simpa using h2⟩
theorem rawc_of {d : Nat} (h1 : 64 ≤ d) (h2 : d < 128) : rawc d = d - 64 ∧ rawc (d - 64) = d - 64 := by
  have e1 : Nat.ble 64 d = true := by rw [Nat.ble_eq]; exact h1
  have e2 : Nat.blt d 128 = true := by rw [Nat.blt_eq]; exact h2
  have e3 : Nat.ble 64 (d - 64) = false := by
    cases g : Nat.ble 64 (d - 64) with
    | false => rfl
    | true => rw [Nat.ble_eq] at g; omega
  exact ⟨by simp [rawc, e1, e2], by simp [rawc, e3]⟩
theorem tm_sim (hP : progok P M L) (hI : ∀ j, j < M → iok P j = true) (hX : HXT xl p l e A s0 cid slt) (hR : runok P M L f) (IH : SIMf P M L dep p l e A s0 cid slt f) {i tg nx pc : Nat} {bl : Nat → am_B} {hs : List (Nat × Nat)} {sw : List Nat} {term : Instr} {ls : am_L} {st : List am_V} {H H' : am_H} {r : am_R} (hi : i < M)
    (h : am_tm P f i (P.2 i).2.2.1 bl tg nx hs sw ls st H term = some (r, H')) (ht : termok P.1 M (L i) tg nx hs sw term = true) (hk : ckt dep i (imt i) (mow (imt i)) (mby (imt i)) xl pc tg nx hs sw term = true) (h1 : okh P.1 H) (h2 : okl P.1 H ls) (h3 : oks P.1 H st) (hHH : hle H H')
    (hF : FRM p s0 cid slt s m (mow (imt i))) (hSt : STC A s0 s) (hN : NCs s0 cid s) (hM : MF s (imt i) m meth c) (hS : SR A s0 cid slt n0 m0 (mlo (imt i)) ls H hp locs cells slots jl) (hA : ADR A s0 H') (hc : ncl H' ≤ n0 + R.cells) (hs' : nsl H' ≤ m0 + R.slots) (hRf : dep i + 8 ≤ R.frames) (hRl : 200 * (dep i + 8) ≤ R.locals) :
    W p l e R s m args below meth c hp locs cells slots (EQ A s0 cid slt below s n0 m0 r H') (F0 m pc jl (st.map (vv A))) := by
  have hcc : c.code = mby (imt i) := hM.2.2.2.1
  have hlk : meth.locks = false := hM.2.2.2.2.2.2.1
  have hrt : meth.sig.returnType = mre (imt i) := hM.2.2.2.2.2.1
  obtain ⟨-, hrk, -, -⟩ := iok_spec (hI i hi)
  have J : ∀ {pc' : Nat} {st' : List am_V}, am_jmp bl f i pc' ls st' H = some (r, H') → labin (L i) pc' = true → oks P.1 H st' → W p l e R s m args below meth c hp locs cells slots (EQ A s0 cid slt below s n0 m0 r H') (F0 m pc' jl (st'.map (vv A))) :=
    fun hj hl ho => jmp_sim IH hj hi hl h1 h2 ho hF hSt hN hM hS hA hc hs' hRf hRl
  cases term <;> simp only [am_tm] at h <;> (try (cases h; done)) <;> simp only [termok, Bool.and_eq_true] at ht <;> simp only [ckt] at hk
  case goto_w t =>
    rw [Nat.beq_eq] at hk
    subst hk
    exact J h ht h3
  case goto t =>
    split at hk
    · rename_i off hd
      exact lv_goto hF.1 hcc hd (of_decide_eq_true hk) (J h ht h3)
    · cases hk
  case ifCond k t =>
    split at hk
    rotate_left
    · cases hk
    rename_i k' off hd
    simp only [Bool.and_eq_true, decide_eq_true_eq, Nat.beq_eq] at hk
    obtain ⟨⟨rfl, hoff⟩, rfl⟩ := hk
    split at h
    rotate_left
    · cases h
    rename_i x r0
    have hr0 := h3.tl
    cases k' <;> simp only at h
    case eq => exact lv_if_eq hF.1 hcc hd hoff (fun hx => J (by rw [if_pos hx] at h; exact h) ht.1 hr0) (fun hx => J (by rw [if_neg hx] at h; exact h) ht.2 hr0)
    case ne => exact lv_if_ne hF.1 hcc hd hoff (fun hx => J (by rw [if_neg hx] at h; exact h) ht.1 hr0) (fun hx => J (by rw [if_pos hx] at h; exact h) ht.2 hr0)
    case lt => exact lv_if_lt hF.1 hcc hd hoff (fun hx => J (by rw [if_pos hx] at h; exact h) ht.1 hr0) (fun hx => J (by rw [if_neg hx] at h; exact h) ht.2 hr0)
    case ge => exact lv_if_ge hF.1 hcc hd hoff (fun hx => J (by rw [if_pos hx] at h; exact h) ht.1 hr0) (fun hx => J (by rw [if_neg hx] at h; exact h) ht.2 hr0)
    case gt => exact lv_if_gt hF.1 hcc hd hoff (fun hx => J (by rw [if_pos hx] at h; exact h) ht.1 hr0) (fun hx => J (by rw [if_neg hx] at h; exact h) ht.2 hr0)
    case le => exact lv_if_le hF.1 hcc hd hoff (fun hx => J (by rw [if_pos hx] at h; exact h) ht.1 hr0) (fun hx => J (by rw [if_neg hx] at h; exact h) ht.2 hr0)
  case if_icmp k t =>
    split at hk
    rotate_left
    · cases hk
    rename_i k' off hd
    simp only [Bool.and_eq_true, decide_eq_true_eq, Nat.beq_eq] at hk
    obtain ⟨⟨rfl, hoff⟩, rfl⟩ := hk
    split at h
    rotate_left
    · cases h
    rename_i y x r0
    have hr0 := h3.tl.tl
    cases k' <;> simp only at h
    case eq => exact lv_icmp_eq hF.1 hcc hd hoff (fun hx => J (by rw [if_pos hx] at h; exact h) ht.1 hr0) (fun hx => J (by rw [if_neg hx] at h; exact h) ht.2 hr0)
    case ne => exact lv_icmp_ne hF.1 hcc hd hoff (fun hx => J (by rw [if_neg hx] at h; exact h) ht.1 hr0) (fun hx => J (by rw [if_pos hx] at h; exact h) ht.2 hr0)
    case lt => exact lv_icmp_lt hF.1 hcc hd hoff (fun hx => J (by rw [if_pos hx] at h; exact h) ht.1 hr0) (fun hx => J (by rw [if_neg hx] at h; exact h) ht.2 hr0)
    case ge => exact lv_icmp_ge hF.1 hcc hd hoff (fun hx => J (by rw [if_pos hx] at h; exact h) ht.1 hr0) (fun hx => J (by rw [if_neg hx] at h; exact h) ht.2 hr0)
    case gt => exact lv_icmp_gt hF.1 hcc hd hoff (fun hx => J (by rw [if_pos hx] at h; exact h) ht.1 hr0) (fun hx => J (by rw [if_neg hx] at h; exact h) ht.2 hr0)
    case le => exact lv_icmp_le hF.1 hcc hd hoff (fun hx => J (by rw [if_pos hx] at h; exact h) ht.1 hr0) (fun hx => J (by rw [if_neg hx] at h; exact h) ht.2 hr0)
  case if_acmp k t =>
    split at hk
    rotate_left
    · cases hk
    rename_i k' off hd
    simp only [Bool.and_eq_true, decide_eq_true_eq, Nat.beq_eq] at hk
    obtain ⟨⟨rfl, hoff⟩, rfl⟩ := hk
    split at h
    rotate_left
    · cases h
    rename_i cy y cx x r0
    cases hcx : Nat.beq cx cy <;> rw [hcx] at h
    · cases h
    rw [Nat.beq_eq] at hcx
    subst hcx
    have hr0 := h3.tl.tl
    have hre := ref_eq (A := A) (s0 := s0) (F := P.1) hA hHH (cx := cx) (x := x) (y := y) h3.tl.hd h3.hd
    simp only [cond_true] at h
    cases k' <;> simp only at h
    case eq => exact lv_acmp_eq (rx := x.map (A (rawc cx))) (ry := y.map (A (rawc cx))) hF.1 hcc hd hoff (fun hx => J (by rw [if_pos (hre.mp hx)] at h; exact h) ht.1 hr0) (fun hx => J (by rw [if_neg (fun hy => hx (hre.mpr hy))] at h; exact h) ht.2 hr0)
    case ne => exact lv_acmp_ne (rx := x.map (A (rawc cx))) (ry := y.map (A (rawc cx))) hF.1 hcc hd hoff (fun hx => J (by rw [if_neg (fun hy => hx (hre.mpr hy))] at h; exact h) ht.1 hr0) (fun hx => J (by rw [if_pos (hre.mp hx)] at h; exact h) ht.2 hr0)
  case ifnull t =>
    split at hk
    rotate_left
    · cases hk
    rename_i off hd
    simp only [Bool.and_eq_true, decide_eq_true_eq, Nat.beq_eq] at hk
    obtain ⟨hoff, rfl⟩ := hk
    split at h
    rotate_left
    · cases h
    rename_i cx x r0
    cases x <;> simp only at h
    · exact lv_ifnullN hF.1 hcc hd hoff (J h ht.1 h3.tl)
    · exact lv_ifnull hF.1 hcc hd (J h ht.2 h3.tl)
  case ifnonnull t =>
    split at hk
    rotate_left
    · cases hk
    rename_i off hd
    simp only [Bool.and_eq_true, decide_eq_true_eq, Nat.beq_eq] at hk
    obtain ⟨hoff, rfl⟩ := hk
    split at h
    rotate_left
    · cases h
    rename_i cx x r0
    cases x <;> simp only at h
    · exact lv_ifnonnullN hF.1 hcc hd (J h ht.2 h3.tl)
    · exact lv_ifnonnull hF.1 hcc hd hoff (J h ht.1 h3.tl)
  case tableswitch d lo hi offs =>
    split at hk
    rotate_left
    · cases hk
    rename_i d' lo' hi' offs' len hd
    simp only [decide_eq_true_eq] at hk
    obtain ⟨rfl, rfl, hoff, hsw, hlen⟩ := hk
    split at h
    rotate_left
    · cases h
    rename_i x r0
    by_cases hx : x.toInt < lo' ∨ hi' < x.toInt
    · rw [if_pos hx] at h
      exact lv_tableOut hF.1 hcc hd hx hoff (J h ht.1 h3.tl)
    · rw [if_neg hx] at h
      obtain ⟨off, g1, g2⟩ := sw_at (x.toInt - lo').toNat (tg := tg) hsw (by omega)
      exact lv_tableIn hF.1 hcc hd (fun g => hx (Or.inl g)) (fun g => hx (Or.inr g)) (by simpa using g1) g2 (J h (sw_in _ ht.2 ht.1) h3.tl)
  case lookupswitch d ps =>
    split at hk
    rotate_left
    · cases hk
    rename_i d' ps' len hd
    rw [Bool.and_eq_true, decide_eq_true_eq] at hk
    obtain ⟨⟨hm1, hoff, hm2⟩, hsort⟩ := hk
    split at h
    rotate_left
    · cases h
    rename_i x r0
    exact lv_lookup hF.1 hcc hd hsort rfl (lk_off hm1 hoff hm2) (J h (lk_in _ ht.2 ht.1) h3.tl)
  case ireturn =>
    have hd := of_decide_eq_true hk
    split at h
    rotate_left
    · cases h
    rename_i x
    cases q1 : Nat.beq (P.2 i).2.2.1 1 <;> rw [q1] at h
    · cases q2 : Nat.beq (P.2 i).2.2.1 4 <;> rw [q2] at h
      · cases h
      · obtain ⟨hbit, h⟩ := ck_some h
        cases h
        rw [Nat.beq_eq] at q2
        rw [q2] at hrk
        exact end_Z hF.1 hcc (hrt.trans (rk_Z hrk)) hbit hlk hd hS
    · cases h
      rw [Nat.beq_eq] at q1
      rw [q1] at hrk
      exact end_I hF.1 hcc (hrt.trans (rk_I hrk)) hlk hd hS
  case lreturn =>
    have hd := of_decide_eq_true hk
    split at h
    rotate_left
    · cases h
    rename_i x
    cases q1 : Nat.beq (P.2 i).2.2.1 2 <;> rw [q1] at h
    · cases h
    · cases h
      rw [Nat.beq_eq] at q1
      rw [q1] at hrk
      exact end_L hF.1 hcc (hrt.trans (rk_L hrk)) hlk hd hS
  case areturn =>
    have hd := of_decide_eq_true hk
    split at h
    rotate_left
    · cases h
    rename_i cx x
    cases q1 : Nat.beq (P.2 i).2.2.1 (100 + cx) <;> rw [q1] at h
    · cases h
    · cases h
      rw [Nat.beq_eq] at q1
      obtain ⟨t, g1, g2⟩ := rk_R hrk (by omega)
      exact end_R hF.1 hcc (hrt.trans g1) g2 hlk hd hS
  case return_ =>
    have hd := of_decide_eq_true hk
    split at h
    rotate_left
    · cases h
    cases q1 : Nat.beq (P.2 i).2.2.1 0 <;> rw [q1] at h
    · cases h
    · cases h
      rw [Nat.beq_eq] at q1
      rw [q1] at hrk
      exact end_V hF.1 hcc (hrt.trans (rk_V hrk)) hlk hd hS
  case athrow =>
    split at h
    rotate_left
    · cases h
    split at hk
    rotate_left
    · cases hk
    rename_i a hd
    rw [Bool.and_eq_true] at hk
    obtain ⟨hd2, hk⟩ := hk
    split at hk
    rotate_left
    · cases hk
    rename_i ic hd3
    simp only [Bool.and_eq_true, Nat.beq_eq] at hk
    obtain ⟨hd4, hxl, rfl, hnc⟩ := hk
    cases h
    simp only [Nat.blt_eq] at ht
    rw [← hcc] at hd hd2 hd3 hd4
    exact hX hF hSt hN hM hd (of_decide_eq_true hd2) hd3 (of_decide_eq_true hd4) hxl hnc ht.2.1 ht.1 hS hA hc hs' (by omega) (by omega)
  case invokestatic k =>
    split at hk
    rotate_left
    · cases hk
    rename_i x hd
    simp only [Bool.and_eq_true, Nat.beq_eq, Nat.blt_eq, Nat.ble_eq] at hk ht
    obtain ⟨hl, hki, rfl, hck, hdep, hge⟩ := hk
    obtain ⟨hn, -, hna, hmL⟩ := iok_spec (hI tg ht.1)
    rw [hki] at hna
    split at h
    · cases h
    rename_i as rest hpop
    obtain ⟨b1, b2⟩ := pop_ok hpop h3 (fun v hv => by cases hv)
    obtain ⟨g1, g2⟩ := stk_eq (A := A) hpop
    cases hcd : (Nat.ble rest.length 16 && Nat.ble (am_ent as).length (P.2 tg).2.1) <;> rw [hcd] at h
    · cases h
    simp only [Bool.and_eq_true, Nat.ble_eq] at hcd
    rw [hmL] at hcd
    obtain ⟨mk, methk, ck, hMk⟩ := mf_of hF.2.2.1 hge hn
    rw [← hcc] at hd
    intro T hT X
    exact ret_sim hP hR IH hi ht.1 ht.2.1 hdep ht.2.2 hck rfl h h1 h2 b1 b2 hF hSt hN hM hS hA hc hs' hRf hRl hn (by omega) hcd.2 hMk hd hT X (inv_static X hF hge hn hki hl hMk rfl (by rw [List.length_map, g2]; exact hna) g1 hd)
  case invokevirtual k =>
    split at hk
    rotate_left
    · cases hk
    rename_i x hd
    simp only [Bool.and_eq_true, Nat.beq_eq, Nat.blt_eq, Nat.ble_eq, Bool.not_eq_true'] at hk ht
    obtain ⟨hl, hki, rfl, hck, hdep, hge, hone, h36, h31, hpos⟩ := hk
    obtain ⟨hn, -, hna, hmL⟩ := iok_spec (hI tg ht.1)
    rw [hki] at hna
    split at h
    rotate_left
    · cases h
    rename_i d a as rest hpop
    obtain ⟨b1, b2⟩ := pop_ok hpop h3 (fun v hv => by cases hv)
    obtain ⟨g1, g2⟩ := stk_eq (A := A) hpop
    cases hcd : (Nat.ble rest.length 16 && (Nat.ble (am_ent (rv d (some a) :: as)).length (P.2 tg).2.1 && (Nat.blt d 64 && am_one d sw))) <;> rw [hcd] at h
    · cases h
    simp only [Bool.and_eq_true, Nat.ble_eq, Nat.blt_eq] at hcd
    obtain ⟨c1, c2, c3, c4⟩ := hcd
    rw [hmL] at c2
    have hd31 : d ≠ 31 := by
      intro e0
      rw [← one_eq c4 hone, e0] at h31
      cases h31
    have hd36 : d < 36 := by rw [one_eq c4 hone]; exact h36
    have hcls : (mth (imt tg)).cls = cx_nm d := by rw [mow_ok _ (lt0 _) hn, one_eq c4 hone]
    have hok := (okr_plain (plainc_of (by omega))).mp b1.hd a rfl
    obtain ⟨cell, hcell, hcc2, hvm, -⟩ := (hS.1.2.1 d a hok.1).1 c3 hd31
    obtain ⟨-, hfc, -⟩ := hF.2.2.2.1 d hd36 hd31 (by rw [one_eq c4 hone]; exact hpos)
    obtain ⟨mk, methk, ck, hMk⟩ := mf_of hF.2.2.1 hge hn
    rw [← hcc] at hd
    intro T hT X
    have e1 : (rv d (some a) :: as).map (vv A) = .ref (A d a) :: as.map (vv A) := by rw [List.map_cons, vv_ref c3]
    rw [e1] at g1
    exact ret_sim hP hR IH hi ht.1 ht.2.1 hdep ht.2.2 hck rfl h h1 h2 b1 b2 hF hSt hN hM hS hA hc hs' hRf hRl hn (by omega) c2 hMk hd hT X (by
      rw [e1]
      exact inv_virtual X hF hge hn hki hl hMk rfl (b := A d a) (cellB := cell) (by rw [hT]; exact hcell) hvm (by rw [hcls, hcc2]; exact hfc) (by
        rw [List.length_map]
        rw [hna] at g2
        have g3 : as.length + 1 = mpar (imt tg) + 1 := g2
        omega) (by rw [g1]; simp) hd)
  case invokedynamic k =>
    split at hk
    rotate_left
    · cases hk
    rename_i x hd
    simp only [Bool.and_eq_true, Nat.beq_eq, Nat.blt_eq, Nat.ble_eq] at hk ht
    obtain ⟨hl, hki, rfl, hck, hdep, hge⟩ := hk
    obtain ⟨hn, -, hna, hmL⟩ := iok_spec (hI tg ht.1)
    rw [hki] at hna
    split at h
    rotate_left
    · cases h
    rename_i d a as e0 b rest hpop
    obtain ⟨b1, b2⟩ := pop_ok hpop h3 (fun v hv => by cases hv)
    obtain ⟨g1, g2⟩ := stk_eq (A := A) hpop
    cases hcd : (Nat.ble 64 d && Nat.blt d 128 && Nat.beq d e0 && Nat.beq (P.2 tg).2.2.1 0 && Nat.ble rest.length 16 && Nat.ble (am_ent (rv d (some a) :: as)).length (P.2 tg).2.1) <;> rw [hcd] at h
    · cases h
    simp only [Bool.and_eq_true, Nat.ble_eq, Nat.blt_eq, Nat.beq_eq] at hcd
    obtain ⟨⟨⟨⟨⟨c1, c2⟩, rfl⟩, c3⟩, c4⟩, c5⟩ := hcd
    rw [hmL] at c5
    obtain ⟨mk, methk, ck, hMk⟩ := mf_of hF.2.2.1 hge hn
    rw [← hcc] at hd
    have hb : b < cn H (d - 64) := by
      have := b2.hd b rfl
      rwa [if_pos ⟨c1, c2⟩] at this
    simp only [cond_true] at h
    rcases ho : am_jmp (P.2 tg).2.2.2 f tg 0 (am_ent (rv d (some a) :: as)) [] H with _ | ⟨o, K⟩
    · rw [ho] at h; cases h
    obtain ⟨d1, d2, d3, d4⟩ := jmp_ok hR ho ht.1 (hP.2.1 tg ht.1) h1 (ent_ok b1) (fun v hv => by cases hv)
    rw [ho] at h
    intro T hT X
    have e1 : (rv d (some a) :: as).map (vv A) = .ref (A (rawc d) a) :: as.map (vv A) := rfl
    rw [e1] at g1
    have hB : BEG p l e R s m args below meth c T locs cells slots (F0 m pc jl (st.map (vv A))) ((rv d (some b) :: rest).map (vv A)) mk ((rv d (some a) :: as).map (vv A)) := by
      rw [e1]
      exact inv_init X hF hge hn hki hl hMk rfl (by
        rw [List.length_map]
        rw [hna] at g2
        have g3 : as.length + 1 = mpar (imt tg) + 1 := g2
        omega) (by rw [g1]; simp) hd
    rcases o with (_ | v) | q
    · obtain ⟨hdone, h⟩ := ck_some h
      have hok : oks P.1 K (rv (d - 64) (some b) :: rest) := oks.cons ((okr_plain (plainc_of (by omega))).mpr fun j hj => by cases hj; exact ⟨Nat.lt_of_lt_of_le hb (d1.1 _), hdone⟩) ((b2.up d1 d2).tl)
      obtain ⟨f1, f2, f3, f4⟩ := jmp_ok hR h hi ht.2.1 d3 (h2.up d1 d2) hok
      refine call_sim hP hR IH ht.1 hdep ho h1 b1 hF hSt hN hM hS hA f1 hc hs' hRf hRl hn (by simp; omega) c5 hMk hd hT X hB ?_ (fun q T' _ _ _ hq => by cases hq)
      intro v' hp' locs' cells' slots' hv hS'
      cases hv
      have := jmp_sim (args := args) (below := below) IH h hi ht.2.1 d3 (h2.up d1 d2) hok hF hSt hN hM hS' hA hc hs' hRf hRl
      have e2 : (rv (d - 64) (some b) :: rest).map (vv A) = (rv d (some b) :: rest).map (vv A) := by
        rw [List.map_cons, List.map_cons]
        show va_rf (some (A (rawc (d - 64)) b)) :: _ = va_rf (some (A (rawc d) b)) :: _
        rw [(rawc_of c1 c2).1, (rawc_of c1 c2).2]
      rw [e2] at this
      exact this
    · cases h
    · have h' : am_hd bl f i ls hs q.1 q.2 K = some (r, H') := h
      obtain ⟨f1, f2, f3, f4⟩ := hd_ok hR hi h' ht.2.2 d3 (h2.up d1 d2) d4.1 d4.2
      refine call_sim hP hR IH ht.1 hdep ho h1 b1 hF hSt hN hM hS hA f1 hc hs' hRf hRl hn (by simp; omega) c5 hMk hd hT X hB (fun v _ _ _ _ hv => by cases hv) ?_
      intro q' T' locs' cells' slots' hq X' hS'
      cases hq
      exact exc_sim IH hi h' ht.2.2 hck d3 (h2.up d1 d2) d4 hF hSt hN hM hA hc hs' hRf hRl X' hS'
/-- a step of the abstract machine is some of the machine's -/
theorem sim_step (hP : progok P M L) (hk : simok P M L dep xl) (hO : HXO p l e A s0 cid slt) (hX : HXT xl p l e A s0 cid slt) (hR : runok P M L f) (IH : SIMf P M L dep p l e A s0 cid slt f) : SIMf P M L dep p l e A s0 cid slt (am_F P f) := by
  intro i pc ls st H r H' h hi hl h1 h2 h3 R s m args below meth c hp locs cells slots jl n0 m0 hF hSt hN hM hS hA hc hs hRf hRl
  have hb := hP.2.2 i hi pc hl
  have hck := hk.2 i hi pc hl
  obtain ⟨hn, -, -, -⟩ := iok_spec (hk.1 i hi)
  simp only [am_F] at h
  revert h hb hck
  generalize hbl : (P.2 i).2.2.2 pc = B
  obtain ⟨body, term, tg, nx, mask, hs', sw⟩ := B
  intro h hb hck
  simp only [blkok, Bool.and_eq_true] at hb
  simp only [am_G] at h
  rcases hx : am_x body ls st H [] with _ | ⟨ls1, st1, H1, ps⟩
  · rw [hx] at h; cases h
  rw [hx] at h
  obtain ⟨hps, h⟩ := ck_some h
  obtain ⟨a1, a2, a3, a4, a5⟩ := x_inv hP.1 hx hps hb.1 h1 h2 h3
  obtain ⟨b1, b2, b3, b4⟩ := tm_ok hP hR hi h hb.2 a3 a4 a5
  unfold ckB at hck
  simp only at hck
  split at hck
  rotate_left
  · cases hck
  rename_i pc' hcb
  refine stB (Hf := H') hF hP.1 hSt (fun ho => ?_) hM.2.2.2.1 hM.2.2.2.2.1 (fun hi' => ?_) hA (by omega) (by omega) body.length (Nat.le_refl _) hcb hx hps hb.1 h1 h2 h3 hS b1 (Nat.le_trans b1.2.2.1 hc) (Nat.le_trans b1.2.2.2 hs) ?_
  · rw [← hM.2.2.2.1]
    rw [ho] at hF
    exact hO hF (by omega) (by omega)
  · rw [Nat.beq_eq] at hi'
    rw [(name_of_methodNamed hM.1 hM.2.1).1]
    exact ((mowl_ok _ (lt0 _) hn).2.2.2 hi').1
  · intro hp1 locs1 cells1 slots1 jl1 hS1
    exact tm_sim hP hk.1 hX hR IH hi h hb.2 hck a3 a4 a5 b1 hF hSt hN hM hS1 hA hc hs hRf hRl
theorem sim_run (hP : progok P M L) (hk : simok P M L dep xl) (hO : HXO p l e A s0 cid slt) (hX : HXT xl p l e A s0 cid slt) : ∀ n, SIMf P M L dep p l e A s0 cid slt (am_run P n)
  | 0 => fun h => by cases h
  | n + 1 => sim_step hP hk hO hX (run_ok hP n) (sim_run hP hk hO hX n)
end TERM2
