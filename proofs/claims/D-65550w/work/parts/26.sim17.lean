/-! SIM 17: calls -/
theorem pop_spec : ∀ {n : Nat} {st acc as r : List am_V}, am_pop n st acc = some (as, r) → as.reverse ++ r = acc.reverse ++ st ∧ as.length = n + acc.length
  | 0, st, acc, as, r, h => by cases h; exact ⟨rfl, by omega⟩
  | n + 1, v :: st, acc, as, r, h => by
    obtain ⟨h1, h2⟩ := pop_spec (n := n) h
    exact ⟨by rw [h1]; simp, by rw [h2]; simp; omega⟩
  | n + 1, [], acc, as, r, h => by cases h
theorem lg_cons (v : Value) (vs : List Value) : lg_sl (v :: vs) = (if v.category = 2 then [.val v, .second] else [.val v]) ++ lg_sl vs := by simp [lg_sl]
theorem ent_len {A : Nat → Nat → Nat} : ∀ as : List am_V, (lg_sl (as.map (vv A))).length = (am_ent as).length
  | [] => rfl
  | .inl x :: r => by
    have := ent_len (A := A) r
    have hc : (vv A (.inl x)).category = 1 := rfl
    rw [List.map_cons, lg_cons, hc, if_neg (show ¬ (1 : Nat) = 2 by decide)]
    simp only [am_ent, List.length_append, List.length_cons, List.length_nil, this]
    omega
  | .inr (.inl x) :: r => by
    have := ent_len (A := A) r
    have hc : (vv A (.inr (.inl x))).category = 2 := rfl
    rw [List.map_cons, lg_cons, hc, if_pos (show (2 : Nat) = 2 from rfl)]
    simp only [am_ent, List.length_append, List.length_cons, List.length_nil, this]
    omega
  | .inr (.inr x) :: r => by
    have := ent_len (A := A) r
    have hc : (vv A (.inr (.inr x))).category = 1 := cat_rf _
    rw [List.map_cons, lg_cons, hc, if_neg (show ¬ (1 : Nat) = 2 by decide)]
    simp only [am_ent, List.length_append, List.length_cons, List.length_nil, this]
    omega
theorem cat_le (v : Value) : v.category ≤ 2 := by cases v <;> simp [Value.category]
theorem cat_sum : ∀ l : List Value, (l.map fun v => v.category).sum ≤ 2 * l.length
  | [] => by simp
  | v :: l => by
    have h1 := cat_le v
    have h2 := cat_sum l
    simp only [List.map_cons, List.sum_cons, List.length_cons]
    omega
theorem cov_eq (x : ExceptionTableEntry) (pc : Nat) : covers x pc = (Nat.ble x.startPc pc && Nat.blt pc x.endPc) := by
  rw [Bool.eq_iff_iff]
  simp only [covers, Bool.and_eq_true, decide_eq_true_eq, Nat.ble_eq, Nat.blt_eq]
theorem hck_nil {own pc : Nat} : ∀ {hh : List (Nat × Nat × Nat × Nat)}, hck own pc hh [] = true → ∀ h ∈ hh, (Nat.ble h.1 pc && Nat.blt pc h.2.1) = false
  | [], _, h, hm => by cases hm
  | (a, b, x, t) :: r, hk, h, hm => by
    unfold hck at hk
    cases hc : (Nat.ble a pc && Nat.blt pc b) with
    | true => rw [hc] at hk; cases hk
    | false =>
      rw [hc] at hk
      rcases List.mem_cons.mp hm with rfl | hm
      · exact hc
      · exact hck_nil (hh := r) hk h hm
theorem out_of {own pc : Nat} {c : Code} {hh : List (Nat × Nat × Nat × Nat)} (he : c.exceptionTable.toList.map (fun h => (h.startPc, h.endPc, h.handlerPc, h.catchType)) = hh) (hk : hck own pc hh [] = true) : ∀ x ∈ c.exceptionTable.toList, covers x pc = false := by
  intro x hx
  rw [cov_eq]
  exact hck_nil hk (x.startPc, x.endPc, x.handlerPc, x.catchType) (by rw [← he]; exact List.mem_map.mpr ⟨x, hx, rfl⟩)
theorem hn_find {bl : Nat → am_B} {f : am_St → am_O} {m : Nat} {ls : am_L} : ∀ {hs : List (Nat × Nat)} {c i : Nat} {H : am_H} {x : am_R × am_H}, am_hn bl f m ls hs c i H = some x → ∃ pc', hfind c hs = some pc' ∧ am_jmp bl f m pc' ls [rv c (some i)] H = some x
  | [], _, _, _, _, h => by cases h
  | (d, pc) :: r, c, i, H, x, h => by
    unfold am_hn at h
    split at h
    · rename_i e
      subst e
      exact ⟨pc, by simp [hfind], h⟩
    · rename_i e
      obtain ⟨pc', h1, h2⟩ := hn_find (hs := r) h
      exact ⟨pc', by simp [hfind, e, h1], h2⟩
theorem hfind_in {L : List Nat} : ∀ {hs : List (Nat × Nat)} {c pc' : Nat}, hfind c hs = some pc' → hsok L hs = true → labin L pc' = true
  | [], _, _, h, _ => by cases h
  | (d, pc) :: r, c, pc', h, hk => by
    simp only [hsok, List.all_cons, Bool.and_eq_true] at hk
    unfold hfind at h
    split at h
    · cases h; exact hk.1
    · exact hfind_in (hs := r) h (by simpa [hsok] using hk.2)
theorem vv_ref {A : Nat → Nat → Nat} {c i : Nat} (h : c < 64) : vv A (rv c (some i)) = .ref (A c i) := by
  have e : rawc c = c := by
    unfold rawc
    have : Nat.ble 64 c = false := by
      cases g : Nat.ble 64 c with
      | false => rfl
      | true => rw [Nat.ble_eq] at g; omega
    rw [this]; rfl
  show va_rf (some (A (rawc c) i)) = _
  rw [e]; rfl
section CALL
variable {P : am_P} {M : Nat} {L : Nat → List Nat} {dep : Nat → Nat} {xl : Nat → Nat → Nat → Nat → Bool} {p : Program} {l : Launch} {e : Env} {A : Nat → Nat → Nat} {s0 : State} {cid : Nat → ClassId} {slt : Nat → Nat → Nat} {f : am_St → am_O}
variable {R : Room} {s U : State} {m : MethodId} {args : Array Value} {below : List Frame} {meth : Method} {c : Code} {hp : Heap} {locs : List Loc} {cells slots : Nat} {jl : Array Slot} {n0 m0 own : Nat}
theorem MF.on {n : Nat} {mk : MethodId} {methk : Method} {ck : Code} (hM : MF s n mk methk ck) (hW : s.WarmedH U.vm) : MF U n mk methk ck :=
  hM.move (by
    have h : (s.setVm U.vm).methodNamed? (mth n) = s.methodNamed? (mth n) := State.methodNamed?_setVm hW.alike _
    exact h.trans hM.1) (by rw [hW.alike.method?]; exact hM.2.1)
theorem FRM.on {n : Nat} {mk : MethodId} {methk : Method} {ck : Code} (hF : FRM p s0 cid slt s m own) (hW : s.WarmedH U.vm) (hM : MF U n mk methk ck) (h2 : n < 629) : FRM p s0 cid slt U mk (mow n) :=
  ⟨hF.1, hF.2.1.trans hW.alike, hF.2.2.1.warm hW, fun c a b d => u_Kn_moved hW.alike (hF.2.2.2.1 c a b d), hM.cls h2⟩
theorem STC.on (h : STC A s0 s) (hW : s.WarmedH U.vm) : STC A s0 U := fun b q hq => va_Z.moved hW.alike (h b q hq)
theorem NCs.on (h : NCs s0 cid s) (hW : s.WarmedH U.vm) (hU : ∀ q : Nat, q < s0.heap.size → U.heap[q]? = s0.heap[q]?) : NCs s0 cid U := ⟨fun c d a b e => by rw [hW.alike.assignable]; exact h.1 c d a b e, hU⟩
/-- a call, whatever it comes to -/
theorem call_sim {Q : State → Prop} (hP : progok P M L) (hR : runok P M L f) (IH : SIMf P M L dep p l e A s0 cid slt f) {i tg pc : Nat} (htg : tg < M) (hdep : dep tg < dep i) {as rest st0 : List am_V} {ls : am_L} {H H' K : am_H} {o : am_R} {bl' : Nat → am_B} (ho : am_jmp bl' f tg 0 (am_ent as) [] H = some (o, K)) (h1 : okh P.1 H) (h3 : oks P.1 H as)
    (hF : FRM p s0 cid slt s m own) (hSt : STC A s0 s) (hN : NCs s0 cid s) (hM : MF s (imt i) m meth c) (hS : SR A s0 cid slt n0 m0 (mlo (imt i)) ls H hp locs cells slots jl) (hA : ADR A s0 H') (hKH : hle K H') (hc : ncl H' ≤ n0 + R.cells) (hs : nsl H' ≤ m0 + R.slots) (hRf : dep i + 8 ≤ R.frames) (hRl : 200 * (dep i + 8) ≤ R.locals)
    (hn : imt tg < 629) (hrl : rest.length ≤ 17) (hel : (am_ent as).length ≤ mlo (imt tg)) {mk : MethodId} {methk : Method} {ck : Code} (hMk : MF s (imt tg) mk methk ck) {ins : Instr} (hdg : decode c.code pc = .ok (ins, 3)) {T : State} (hT : T.heap = hp) (X : Stand p l e R s m args below meth c T locs cells slots)
    (hB : BEG p l e R s m args below meth c T locs cells slots (F0 m pc jl (st0.map (vv A))) (rest.map (vv A)) mk (as.map (vv A)))
    (kr : ∀ v hp' locs' cells' slots', o = .inl v → SR A s0 cid slt n0 m0 (mlo (imt i)) ls K hp' locs' cells' slots' jl → W p l e R s m args below meth c hp' locs' cells' slots' Q (F0 m (pc + 3) jl ((v.map (vv A)).toList ++ rest.map (vv A))))
    (kx : ∀ q T' locs' cells' slots', o = .inr q → Stand p l e R s m args below meth c T' locs' cells' slots' → SR A s0 cid slt n0 m0 (mlo (imt i)) ls K T'.heap locs' cells' slots' jl → ∃ t, Steps p.tables e below ((T'.setTop (F0 m pc jl (rest.map (vv A)))).pushFrame (.throwing (A q.1 q.2))) t ∧ Q t) :
    ∃ t, Steps p.tables e below (T.setTop (F0 m pc jl (st0.map (vv A)))) t ∧ Q t := by
  obtain ⟨vm₁, X₁, hgo⟩ := hB
  have hW₁ : s.WarmedH (T.setVm vm₁).vm := X₁.warmed
  obtain ⟨a1, a2, a3, a4⟩ := jmp_ok hR ho htg (hP.2.1 tg htg) h1 (ent_ok h3) (fun v hv => by cases hv)
  have hmL := hMk.2.2.2.2.1
  have hm60 := (mowl_ok _ (lt0 _) hn).2.1
  have hWU : s.WarmedH ((T.setVm vm₁).calling (F0 m pc jl (rest.map (vv A))) mk (as.map (vv A)).toArray).vm := hW₁
  have hsum := cat_sum (rest.map (vv A))
  rw [List.length_map] at hsum
  have hW : W p l e { frames := R.frames - 1, cells := ncl K - ncl H, slots := nsl K - nsl H, locals := R.locals - 200 } ((T.setVm vm₁).calling (F0 m pc jl (rest.map (vv A))) mk (as.map (vv A)).toArray) mk (as.map (vv A)).toArray (.java (F0 m pc jl (rest.map (vv A))) :: below) methk ck (T.setVm vm₁).heap [] 0 0
      (EQ A s0 cid slt (.java (F0 m pc jl (rest.map (vv A))) :: below) ((T.setVm vm₁).calling (F0 m pc jl (rest.map (vv A))) mk (as.map (vv A)).toArray) (ncl H) (nsl H) o K) (entryFrame mk (as.map (vv A)).toArray ck.maxLocals) := by
    rw [lg_entry_eq, hmL]
    refine jmp_sim (st := []) IH ho htg (hP.2.1 tg htg) h1 (ent_ok h3) (fun v hv => by cases hv) (hF.on hWU (hMk.on hWU) hn) (hSt.on hWU) (hN.on hWU (fun q hq => by show T.heap[q]? = _; rw [hT]; exact hS.1.2.2.1 q hq)) (hMk.on hWU) ⟨?_, ?_, (fun q hq => by cases hq), Nat.zero_add _, Nat.zero_add _⟩ (hA.down hKH) ?_ ?_ ?_ ?_
    · show REL A s0 cid slt T.heap H
      rw [hT]; exact hS.1
    · exact lv_mono (lv_entry _ (by rw [ent_len]; exact hel)) (ent_lvl as 0)
    · have := a1.2.2.1
      show ncl K ≤ ncl H + (ncl K - ncl H)
      omega
    · have := a1.2.2.2
      show nsl K ≤ nsl H + (nsl K - nsl H)
      omega
    · show dep tg + 8 ≤ R.frames - 1
      omega
    · show 200 * (dep tg + 8) ≤ R.locals - 200
      omega
  have hmk : (T.setVm vm₁).vm.method? mk = some methk := (hMk.on hW₁).2.1
  have hsize : (F0 m pc jl (rest.map (vv A))).locals.size = c.maxLocals := by
    rw [hM.2.2.2.2.1]; exact hS.2.1.1
  have e1 := hS.2.2.2.1
  have e2 := hS.2.2.2.2
  have e3 := hKH.2.2.1
  have e4 := hKH.2.2.2
  have e5 := a1.2.2.1
  have e6 := a1.2.2.2
  obtain ⟨t, ⟨oc, L', k, n, hrun, hend, horel, hrel, hwm, hsame, hLb, hk, hnn⟩, hst⟩ := call_in X₁ (g := F0 m pc jl (rest.map (vv A))) rfl hsize hdg (as.map (vv A)).toArray hmk hMk.2.2.1 hMk.2.2.2.2.2.2.1 ((hMk.on hW₁).plain hn) (by show R.frames - 1 + 1 ≤ R.frames; omega)
    (by show 2 * 0 + ((rest.map (vv A)).map fun v => v.category).sum + (ck.maxLocals + 11) + (R.locals - 200) ≤ R.locals; rw [hmL]; omega) (by show cells + (ncl K - ncl H) ≤ R.cells; omega) (by show slots + (nsl K - nsl H) ≤ R.slots; omega) hW
  have hlb : ∀ q ∈ locs ++ L', s0.heap.size ≤ q.base := fun q hq => by
    rcases List.mem_append.mp hq with h | h
    · exact hS.2.2.1 q h
    · exact hLb q h
  rcases o with v | q
  · have hoc : oc = .returned (v.map (vv A)) := by cases v <;> exact horel
    subst hoc
    obtain ⟨T', X', hw', -, ht⟩ := X₁.outOf (g := F0 m pc jl (rest.map (vv A))) rfl hdg hend hwm hsame
    have hheap : T'.heap = t.heap := by rw [ht]; simp
    obtain ⟨t2, st2, q2⟩ := kr v _ _ _ _ rfl ⟨by rw [hheap]; exact hrel, hS.2.1, hlb, by omega, by omega⟩ T' rfl X'
    refine ⟨t2, hgo t2 (fun acts => (hst acts).trans ?_), q2⟩
    rw [ht]; exact st2
  · have hoc : oc = .threw (A q.1 q.2) := horel
    subst hoc
    obtain ⟨T', X', hw', -, ht⟩ := X₁.outOfThrown (g := F0 m pc jl (rest.map (vv A))) rfl hend hwm hsame
    have hheap : T'.heap = t.heap := by rw [ht]; simp [State.pushFrame, State.setFrames]
    obtain ⟨t2, st2, q2⟩ := kx q T' _ _ _ rfl X' ⟨by rw [hheap]; exact hrel, hS.2.1, hlb, by omega, by omega⟩
    refine ⟨t2, hgo t2 (fun acts => (hst acts).trans ?_), q2⟩
    rw [ht]; exact st2
/-- what comes out of a call as thrown -/
theorem exc_sim (IH : SIMf P M L dep p l e A s0 cid slt f) {i pc : Nat} (hi : i < M) {ls : am_L} {stk : List Value} {K H' : am_H} {r : am_R} {bl : Nat → am_B} {hs : List (Nat × Nat)} {q : Nat × Nat} (h : am_hd bl f i ls hs q.1 q.2 K = some (r, H')) (hhs : hsok (L i) hs = true) (hck : hck (mow (imt i)) pc (mha (imt i)) hs = true) (h1 : okh P.1 K) (h2 : okl P.1 K ls) (hq : okR P.1 K (.inr q))
    (hF : FRM p s0 cid slt s m (mow (imt i))) (hSt : STC A s0 s) (hN : NCs s0 cid s) (hM : MF s (imt i) m meth c) (hA : ADR A s0 H') (hc : ncl H' ≤ n0 + R.cells) (hs' : nsl H' ≤ m0 + R.slots) (hRf : dep i + 8 ≤ R.frames) (hRl : 200 * (dep i + 8) ≤ R.locals) {T : State} (X : Stand p l e R s m args below meth c T locs cells slots) (hS : SR A s0 cid slt n0 m0 (mlo (imt i)) ls K T.heap locs cells slots jl) :
    ∃ t, Steps p.tables e below ((T.setTop (F0 m pc jl stk)).pushFrame (.throwing (A q.1 q.2))) t ∧ EQ A s0 cid slt below s n0 m0 r H' t := by
  cases hs with
  | nil =>
    cases h
    obtain ⟨st, g1, g2, g3, g4⟩ := X.leaveThrown (A q.1 q.2) (g := F0 m pc jl stk) rfl rfl rfl (out_of hM.2.2.2.2.2.2.2.1 hck) hM.2.2.2.2.2.2.1
    exact ⟨_, st, _, _, _, _, g1, g2, rfl, hS.1, g3, g4, hS.2.2.1, hS.2.2.2.1, hS.2.2.2.2⟩
  | cons y hs =>
    obtain ⟨pc', hfi, hj⟩ := hn_find (hs := y :: hs) h
    obtain ⟨hq1, hq2⟩ := hq
    have hlt := excb_lt hq2
    obtain ⟨cell, hcell, hcls, hvm, -⟩ := (hS.1.2.1 q.1 q.2 hq1.1).1 (by omega) hlt.2
    have hpl : e.platform.magicAccessors = ({} : Platform).magicAccessors := by rw [X.admits.platform]
    obtain ⟨vm', hW', hfind⟩ := search_ok (e := e) hF hN hpl (f := F0 m pc jl stk) rfl (a := A q.1 q.2) hq2 hcls hvm c.exceptionTable.toList (mha (imt i)) (y :: hs) pc' ((T.setTop (F0 m pc jl stk)).pushFrame (.throwing (A q.1 q.2))) X.warmed (by simpa [State.pushFrame, State.setFrames] using hcell) hM.2.2.2.2.2.2.2.1 hck hfi
    have X' := X.noted hW'
    obtain ⟨t, st, qt⟩ := jmp_sim (jl := jl) (args := args) (below := below) IH hj hi (hfind_in hfi hhs) h1 h2 (oks.cons (v := rv q.1 (some q.2)) ((okr_plain (plainc_of (by omega))).mpr fun j hj => by cases hj; exact hq1) (fun v hv => by cases hv)) hF hSt hN hM hS hA hc hs' hRf hRl (T.setVm vm') rfl X'
    refine ⟨t, sx_caught (g := F0 m pc jl stk) (c := c) X.here (pc := pc') (vm' := vm') (fun Q E d acts => (W.findHandler_eq (meth := meth) (code := c) (by have := X.method'; simpa [State.pushFrame, State.setFrames] using this) X.code).trans (hfind Q E d acts)) ?_, qt⟩
    rw [List.map_cons, vv_ref (by omega)] at st
    exact st
end CALL
