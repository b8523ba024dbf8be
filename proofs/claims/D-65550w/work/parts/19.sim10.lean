/-! SIM 10: one numbered instruction, the machine's step -/
section STEP2
variable {p : Program} {l : Launch} {e : Env} {R : Room} {s : State} {m : MethodId} {args : Array Value} {below : List Frame} {meth : Method} {c : Code} {hp : Heap} {locs : List Loc} {cells slots : Nat} {Q : State → Prop} {cc : ByteArray} {pc : Nat} {jl : Array Slot}
variable {A : Nat → Nat → Nat} {s0 : State} {cid : Nat → ClassId} {slt : Nat → Nat → Nat} {n0 m0 nL own : Nat} {ini : Bool} {F : am_OF} {Hf : am_H}
theorem SR.wr {ls : am_L} {H H' : am_H} {hp' : Heap} (hS : SR A s0 cid slt n0 m0 nL ls H hp locs cells slots jl) (hR : REL A s0 cid slt hp' H') (hn : ncl H' = ncl H) (hs : nsl H' = nsl H) {x k : Nat} (hx : s0.heap.size ≤ x) : SR A s0 cid slt n0 m0 nL ls H' hp' (locs ++ [⟨x, k⟩]) cells slots jl := by
  refine ⟨hR, hS.2.1, fun q hq => ?_, by rw [hn]; exact hS.2.2.2.1, by rw [hs]; exact hS.2.2.2.2⟩
  rcases List.mem_append.mp hq with h | h
  · exact hS.2.2.1 q h
  · rw [List.mem_singleton.mp h]; exact hx
theorem base_le {H : am_H} {b a : Nat} (hA : ADR A s0 Hf) (hf : hle H Hf) (hd : am_dyn b = true) (ha : a < cn H b) : s0.heap.size ≤ A b a := by
  rw [hA.1 b a hd (Nat.lt_of_lt_of_le ha (hf.1 b))]; exact Nat.le_add_right _ _
theorem cond_t {α : Type} {b : Bool} {x : α} {y : Option α} (h : (bif b then some x else none) = y) {z : α} (hy : y = some z) : b = true ∧ x = z := by
  cases b with
  | false => rw [hy] at h; cases h
  | true => rw [hy] at h; exact ⟨rfl, Option.some.inj h⟩
theorem kd_or {e1 b : Nat} (h : (Nat.beq e1 b || Nat.beq e1 (b + 64)) = true) : e1 = b ∨ e1 = b + 64 := by
  rw [Bool.or_eq_true, Nat.beq_eq, Nat.beq_eq] at h; exact h
theorem put_I {ls : am_L} {H : am_H} {b k i a : Nat} {v : Int32} {rest : List Value} (hF : FRM p s0 cid slt s m own) (hb : c.code = cc) (hdg : decode cc pc = .ok (.putfield i, 3)) (h1 : fany own i b k = true) (h2 : b < 36) (h3 : b ≠ 31) (h4 : k < cx_N b) (h5 : (cx_kt b k).1 = 0 ∨ (cx_kt b k).1 = 6) (h6 : am_dyn b = true)
    (h7 : (cx_T b k).2.2.2 = true → ini = true ∧ fpl own i b k = true ∧ (cx_T b k).1 = cx_nm own) (hini : ini = true → meth.name = "<init>") (hfit : narrow (cx_ty b k) (.int v) = .int v ∧ fits (cx_ty b k) (.int v) = true)
    (hS : SR A s0 cid slt n0 m0 nL ls H hp locs cells slots jl) (hA : ADR A s0 Hf) (hf : hle H Hf) (ha : a < cn H b)
    (kk : ∀ hp' locs' cells' slots' jl', SR A s0 cid slt n0 m0 nL ls (wrI H b a k v) hp' locs' cells' slots' jl' → W p l e R s m args below meth c hp' locs' cells' slots' Q (F0 m (pc + 3) jl' rest)) :
    W p l e R s m args below meth c hp locs cells slots Q (F0 m pc jl (.int v :: .ref (A b a) :: rest)) := by
  refine st_put (H' := wrI H b a k v) hF hb hdg h1 h2 h3 h6 h4 (fun ht => ⟨(h7 ht).2.1, hini (h7 ht).1, (h7 ht).2.2⟩) hfit.1 hfit.2 hS.1 hA hf ha (off_I b a k v) (fun _ _ _ _ => rfl) (fun _ _ _ _ => rfl) (fun _ => rfl) (fun _ _ => rfl) rfl ?_ (fun k' hk' => fv_I b a k b a k' v (fun q => hk' q.2.1)) (fun hp' hR' => kk _ _ _ _ _ (hS.wr hR' rfl rfl (base_le hA hf h6 ha)))
  rw [fv_i h5]
  show Value.int (if b = b ∧ k = k ∧ a = a then v else _) = _
  rw [if_pos ⟨rfl, rfl, rfl⟩]
theorem put_R {ls : am_L} {H : am_H} {b k i a : Nat} {o : Option Nat} {rest : List Value} (hF : FRM p s0 cid slt s m own) (hb : c.code = cc) (hdg : decode cc pc = .ok (.putfield i, 3)) (h1 : fany own i b k = true) (h2 : b < 36) (h3 : b ≠ 31) (h4 : k < cx_N b) (h50 : ¬ (cx_kt b k).1 = 0) (h56 : ¬ (cx_kt b k).1 = 6) (h6 : am_dyn b = true)
    (h7 : (cx_T b k).2.2.2 = true → ini = true ∧ fpl own i b k = true ∧ (cx_T b k).1 = cx_nm own) (hini : ini = true → meth.name = "<init>") (hfit : (cx_ty b k).isReference = true)
    (hS : SR A s0 cid slt n0 m0 nL ls H hp locs cells slots jl) (hA : ADR A s0 Hf) (hf : hle H Hf) (ha : a < cn H b)
    (kk : ∀ hp' locs' cells' slots' jl', SR A s0 cid slt n0 m0 nL ls (wrR H b a k o) hp' locs' cells' slots' jl' → W p l e R s m args below meth c hp' locs' cells' slots' Q (F0 m (pc + 3) jl' rest)) :
    W p l e R s m args below meth c hp locs cells slots Q (F0 m pc jl (va_rf (o.map (A (cx_kt b k).2)) :: .ref (A b a) :: rest)) := by
  refine st_put (H' := wrR H b a k o) hF hb hdg h1 h2 h3 h6 h4 (fun ht => ⟨(h7 ht).2.1, hini (h7 ht).1, (h7 ht).2.2⟩) (fit_ref hfit _).1 (fit_ref hfit _).2 hS.1 hA hf ha (fun _ _ _ _ => rfl) (fun _ _ _ _ => rfl) (off_R b a k o) (fun _ => rfl) (fun _ _ => rfl) rfl ?_ (fun k' hk' => fv_R b a k b a k' o (fun q => hk' q.2.1)) (fun hp' hR' => kk _ _ _ _ _ (hS.wr hR' rfl rfl (base_le hA hf h6 ha)))
  rw [fv_r h50 h56]
  show va_rf ((if b = b ∧ k = k ∧ a = a then o else _).map _) = _
  rw [if_pos ⟨rfl, rfl, rfl⟩]
theorem def_fv {H : am_H} {b n w : Nat} (hb : b < 36) (hz : zer H) {k : Nat} (hk : k < cx_N b) : defaultValue (cx_ty b k) = fv A (nw H b n w) b (cn H b) k := by
  have hkd := ukd_ok b (lt0 b) hb k hk
  have z := hz b (cn H b) k (Nat.le_refl _)
  unfold kdok at hkd
  by_cases h0 : (cx_kt b k).1 = 0
  · rw [fv_i (Or.inl h0)]
    have e1 : Nat.beq (cx_kt b k).1 0 = true := by rw [Nat.beq_eq]; exact h0
    rw [e1] at hkd
    rw [of_decide_eq_true hkd]
    exact (congrArg Value.int z.1).symm
  · have e1 : Nat.beq (cx_kt b k).1 0 = false := by
      cases g : Nat.beq (cx_kt b k).1 0 with
      | false => rfl
      | true => rw [Nat.beq_eq] at g; exact absurd g h0
    rw [e1] at hkd
    by_cases h6 : (cx_kt b k).1 = 6
    · rw [fv_i (Or.inr h6)]
      have e2 : Nat.beq (cx_kt b k).1 6 = true := by rw [Nat.beq_eq]; exact h6
      rw [e2] at hkd
      rw [of_decide_eq_true hkd]
      exact (congrArg Value.int z.1).symm
    · have e2 : Nat.beq (cx_kt b k).1 6 = false := by
        cases g : Nat.beq (cx_kt b k).1 6 with
        | false => rfl
        | true => rw [Nat.beq_eq] at g; exact absurd g h6
      rw [e2] at hkd
      rw [fv_r h0 h6]
      have e3 : rdR (nw H b n w) b (cn H b) k = none := z.2.2
      rw [e3]
      generalize cx_ty b k = t at hkd ⊢
      cases t <;> first | (cases hkd; done) | rfl
theorem mk_pos {b : Nat} (h : cx_mk b = true) : 1 ≤ b := by
  cases b with
  | zero => cases h
  | succ n => omega
/-- a new object -/
theorem st_new {ls : am_L} {H : am_H} {b i : Nat} {rest : List Value} (hF : FRM p s0 cid slt s m own) (hb : c.code = cc) (hdg : decode cc pc = .ok (.new i, 3)) (h1 : cany own i b = true) (h2 : b < 36) (h3 : b ≠ 31) (h6 : am_dyn b = true) (h7 : cx_mk b = true)
    (hS : SR A s0 cid slt n0 m0 nL ls H hp locs cells slots jl) (hA : ADR A s0 Hf) (hf : hle (nw H b 0 (cx_sl b)) Hf) (hc : ncl H + 1 ≤ n0 + R.cells) (hs : nsl H + cx_sl b ≤ m0 + R.slots)
    (kk : ∀ hp' locs' cells' slots' jl', SR A s0 cid slt n0 m0 nL ls (nw H b 0 (cx_sl b)) hp' locs' cells' slots' jl' → W p l e R s m args below meth c hp' locs' cells' slots' Q (F0 m (pc + 3) jl' (.ref (A b (cn H b)) :: rest))) :
    W p l e R s m args below meth c hp locs cells slots Q (F0 m pc jl rest) := by
  have hw := mk_ok b (lt0 b) h2 h7
  have hKn := hF.2.2.2.1 b h2 h3 (mk_pos h7)
  have hlt : cn H b < cn (nw H b 0 (cx_sl b)) b := by
    show cn H b < if b = b then cn H b + 1 else _
    rw [if_pos rfl]; exact Nat.lt_succ_self _
  have hadr : A b (cn H b) = hp.size := by
    rw [hA.1 b (cn H b) h6 (Nat.lt_of_lt_of_le hlt (hf.1 b)), (hf.2.1 b (cn H b) hlt).1, hS.1.1]
    show _ + (if b = b ∧ cn H b = cn H b then ncl H else _) = _
    rw [if_pos ⟨rfl, rfl⟩]
  have h8 := hS.2.2.2.1
  have h9 := hS.2.2.2.2
  refine W.newcK hF.1 hb hF.2.2.2.2 (hF.2.2.1 _ (cany_spec h1) rfl args) (hF.2.2.1 _ hw.1 rfl args) (hF.2.2.1 _ hw.2 rfl args) rfl hdg (by omega) (by omega) hKn.2.1 rfl fun hp' kC e0 e1 e2 e3 => ?_
  have hrel : REL A s0 cid slt hp' (nw H b 0 (cx_sl b)) := by
    refine hS.1.new hA hf h6 e2 e3 fun hq => ⟨fun _ _ => ?_, fun h => absurd h (by omega), fun h => by omega⟩
    have := u_born (cx_ty b) (hF.uws (args := args) h2) (fun w h => h) hKn e0 (o := hp.size) e1 (fun k hk => ty_ok h2 hk)
    rw [hq]
    obtain ⟨cell, q1, q2, q3, q4⟩ := this
    refine ⟨cell, q1, q2, q3, fun k hk => ?_⟩
    exact (q4 k hk).trans (congrArg some (def_fv h2 hS.1.2.2.2.1 hk))
  have := kk hp' locs (cells + 1) (slots + cx_sl b) jl ⟨hrel, hS.2.1, hS.2.2.1, by show cells + 1 + n0 = ncl H + 1; omega, by show slots + cx_sl b + m0 = nsl H + cx_sl b; omega⟩
  rw [hadr] at this
  exact this
theorem okn_len {b : Nat} {H : am_H} {n : Int32} {w : Nat} (h : am_okn (cx_s b) n) (hs : cx_s b ≤ 1000000) : ¬ n < 0 ∧ n.toNatClampNeg ≤ 1000000 ∧ aln (nw H b n.toNatClampNeg w) b (cn H b) = n.toNatClampNeg := by
  obtain ⟨h1, h2⟩ := h
  refine ⟨h1, ?_⟩
  unfold aln am_ln
  revert h2 hs
  cases cx_s b with
  | zero =>
    intro _ h2
    refine ⟨h2, ?_⟩
    show (if b = b ∧ cn H b = cn H b then n.toNatClampNeg else _) = _
    rw [if_pos ⟨rfl, rfl⟩]
  | succ k =>
    intro hs h2
    exact ⟨by rw [h2]; omega, h2.symm⟩
/-- a new array of numbers -/
theorem st_newa {ls : am_L} {H : am_H} {b : Nat} {t : ArrayType} {n : Int32} {rest : List Value} (hF : FRM p s0 cid slt s m own) (hb : c.code = cc) (hdg : decode cc pc = .ok (.newarray t, 2)) (h1 : 1000 ≤ b) (h2 : b < 6000) (h3 : am_dyn b = true) (h4 : cx_s b ≤ 1000000) (h5 : newarray.typeOf t = ety b) (hn : am_okn (cx_s b) n)
    (hS : SR A s0 cid slt n0 m0 nL ls H hp locs cells slots jl) (hA : ADR A s0 Hf) (hf : hle (nw H b n.toNatClampNeg n.toNatClampNeg) Hf) (hc : ncl H + 1 ≤ n0 + R.cells) (hs : nsl H + n.toNatClampNeg ≤ m0 + R.slots)
    (kk : ∀ hp' locs' cells' slots' jl', SR A s0 cid slt n0 m0 nL ls (nw H b n.toNatClampNeg n.toNatClampNeg) hp' locs' cells' slots' jl' → W p l e R s m args below meth c hp' locs' cells' slots' Q (F0 m (pc + 2) jl' (.ref (A b (cn H b)) :: rest))) :
    W p l e R s m args below meth c hp locs cells slots Q (F0 m pc jl (.int n :: rest)) := by
  have hlt : cn H b < cn (nw H b n.toNatClampNeg n.toNatClampNeg) b := by
    show cn H b < if b = b then cn H b + 1 else _
    rw [if_pos rfl]; exact Nat.lt_succ_self _
  have hadr : A b (cn H b) = hp.size := by
    rw [hA.1 b (cn H b) h3 (Nat.lt_of_lt_of_le hlt (hf.1 b)), (hf.2.1 b (cn H b) hlt).1, hS.1.1]
    show _ + (if b = b ∧ cn H b = cn H b then ncl H else _) = _
    rw [if_pos ⟨rfl, rfl⟩]
  have h8 := hS.2.2.2.1
  have h9 := hS.2.2.2.2
  obtain ⟨g1, g2, g3⟩ := okn_len (H := H) (w := n.toNatClampNeg) hn h4
  have hdiv : b / 1000 = 1 ∨ b / 1000 = 2 ∨ b / 1000 = 3 ∨ b / 1000 = 4 ∨ b / 1000 = 5 := by omega
  have hword : (Cond.arrayClass (newarray.typeOf t)).before args s = true := by
    rw [h5]
    rcases hdiv with h | h | h | h | h
    · rw [ety_1 h]; exact hF.2.2.1 _ ac_int rfl args
    · rw [ety_2 h]; exact hF.2.2.1 _ ac_byte rfl args
    · rw [ety_3 h]; exact hF.2.2.1 _ ac_boolean rfl args
    · rw [ety_4 h]; exact hF.2.2.1 _ ac_short rfl args
    · rw [ety_5 h]; exact hF.2.2.1 _ ac_long rfl args
  have hbytes : n.toNatClampNeg * componentBytes (newarray.typeOf t) ≤ 536870912 := by
    have : componentBytes (newarray.typeOf t) ≤ 8 := by cases t <;> decide
    calc n.toNatClampNeg * componentBytes (newarray.typeOf t) ≤ 1000000 * 8 := Nat.mul_le_mul g2 this
      _ ≤ 536870912 := by decide
  have z := hS.1.2.2.2.1
  refine va_newaK hF.1 hb hword rfl hdg rfl g1 rfl hbytes (by omega) (by omega) rfl fun hp' cA e1 e2 e3 hAr hNm => ?_
  have hrel : REL A s0 cid slt hp' (nw H b n.toNatClampNeg n.toNatClampNeg) := by
    refine hS.1.new hA hf h3 e2 e3 fun hq => ⟨fun h => by omega, fun _ _ => ⟨cA, ?_, fun h => by omega, ?_⟩, fun h => ?_⟩
    · rw [← h5]; exact arrOfT_moved hF.2.1.symm hAr
    · rw [hq, g3, e1]
      congr 2
      funext k
      rw [h5]
      rcases hdiv with h | h | h | h | h
      · rw [ety_1 h, ev_I (by omega) h2]; exact (congrArg Value.int (z b (cn H b) k (Nat.le_refl _)).1).symm
      · rw [ety_2 h, ev_I (by omega) h2]; exact (congrArg Value.int (z b (cn H b) k (Nat.le_refl _)).1).symm
      · rw [ety_3 h, ev_I (by omega) h2]; exact (congrArg Value.int (z b (cn H b) k (Nat.le_refl _)).1).symm
      · rw [ety_4 h, ev_I (by omega) h2]; exact (congrArg Value.int (z b (cn H b) k (Nat.le_refl _)).1).symm
      · rw [ety_5 h, ev_L h]; exact (congrArg Value.long (z b (cn H b) k (Nat.le_refl _)).2.1).symm
    · rcases h with rfl | rfl <;> cases h3
  have := kk hp' locs (cells + 1) (slots + n.toNatClampNeg) jl ⟨hrel, hS.2.1, hS.2.2.1, by show cells + 1 + n0 = ncl H + 1; omega, by show slots + n.toNatClampNeg + m0 = nsl H + n.toNatClampNeg; omega⟩
  rw [hadr] at this
  exact this
/-- a new array of references -/
theorem st_newr {ls : am_L} {H : am_H} {b i : Nat} {n : Int32} {rest : List Value} (hF : FRM p s0 cid slt s m own) (hb : c.code = cc) (hdg : decode cc pc = .ok (.anewarray i, 3)) (h2 : 6000 ≤ b) (h3 : am_dyn b = true) (h4 : cx_s b ≤ 1000000) (h5 : cany own i ((b - 6000) / 20) = true) (h6 : (b - 6000) / 20 < 36) (h7 : cx_ao ((b - 6000) / 20) = true) (hn : am_okn (cx_s b) n)
    (hS : SR A s0 cid slt n0 m0 nL ls H hp locs cells slots jl) (hA : ADR A s0 Hf) (hf : hle (nw H b n.toNatClampNeg n.toNatClampNeg) Hf) (hc : ncl H + 1 ≤ n0 + R.cells) (hs : nsl H + n.toNatClampNeg ≤ m0 + R.slots)
    (kk : ∀ hp' locs' cells' slots' jl', SR A s0 cid slt n0 m0 nL ls (nw H b n.toNatClampNeg n.toNatClampNeg) hp' locs' cells' slots' jl' → W p l e R s m args below meth c hp' locs' cells' slots' Q (F0 m (pc + 3) jl' (.ref (A b (cn H b)) :: rest))) :
    W p l e R s m args below meth c hp locs cells slots Q (F0 m pc jl (.int n :: rest)) := by
  have hlt : cn H b < cn (nw H b n.toNatClampNeg n.toNatClampNeg) b := by
    show cn H b < if b = b then cn H b + 1 else _
    rw [if_pos rfl]; exact Nat.lt_succ_self _
  have hadr : A b (cn H b) = hp.size := by
    rw [hA.1 b (cn H b) h3 (Nat.lt_of_lt_of_le hlt (hf.1 b)), (hf.2.1 b (cn H b) hlt).1, hS.1.1]
    show _ + (if b = b ∧ cn H b = cn H b then ncl H else _) = _
    rw [if_pos ⟨rfl, rfl⟩]
  have h8 := hS.2.2.2.1
  have h9 := hS.2.2.2.2
  obtain ⟨g1, g2, g3⟩ := okn_len (H := H) (w := n.toNatClampNeg) hn h4
  have z := hS.1.2.2.2.1
  refine W.anew hF.1 hb hF.2.2.2.2 (hF.2.2.1 _ (cany_spec h5) rfl args) (hF.2.2.1 _ (ao_ok _ (lt0 _) h6 h7) rfl args) rfl hdg rfl g1 (by omega) (by omega) (by omega) fun cA kA comp a1 a2 a3 a4 => ?_
  have hAr : ArrOfT s cA (ety b) := by
    rw [ety_6 h2]
    exact fun n z => ⟨(fun q h => by cases h), kA, a2, comp, a3⟩
  have hRA : va_RA s cA (ety b) := by
    rw [ety_6 h2]
    exact ⟨kA, comp, a2, a3, a4, a1⟩
  have hrel : REL A s0 cid slt (hp.push { cls := cA, slots := Array.replicate n.toNatClampNeg .null, vm := .none }) (nw H b n.toNatClampNeg n.toNatClampNeg) := by
    refine hS.1.new hA hf h3 (by simp) (fun q hq => by rw [Array.getElem?_push, if_neg (Nat.ne_of_lt hq)]) fun hq => ⟨fun h => by omega, fun _ _ => ⟨cA, arrOfT_moved hF.2.1.symm hAr, fun _ => hRA.moved hF.2.1.symm, ?_⟩, fun h => by omega⟩
    rw [hq, g3]
    have : (ev A (nw H b n.toNatClampNeg n.toNatClampNeg) b (cn H b)) = fun _ => .null := by
      funext k
      rw [ev_R h2]
      show va_rf ((rdR H b (cn H b) k).map _) = _
      rw [(z b (cn H b) k (Nat.le_refl _)).2.2]
      rfl
    rw [this]
    simp only [Array.getElem?_push, if_true]
    congr 1
    unfold arrV
    congr 1
    apply Array.ext
    · simp
    · intro i h1 h2
      simp
  have := kk _ locs (cells + 1) (slots + n.toNatClampNeg) jl ⟨hrel, hS.2.1, hS.2.2.1, by show cells + 1 + n0 = ncl H + 1; omega, by show slots + n.toNatClampNeg + m0 = nsl H + n.toNatClampNeg; omega⟩
  rw [hadr] at this
  exact this
end STEP2
