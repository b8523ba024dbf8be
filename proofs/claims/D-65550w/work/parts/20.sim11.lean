/-! SIM 11: one numbered instruction, all of them -/
section STEP3
variable {p : Program} {l : Launch} {e : Env} {R : Room} {s : State} {m : MethodId} {args : Array Value} {below : List Frame} {meth : Method} {c : Code} {hp : Heap} {locs : List Loc} {cells slots : Nat} {Q : State → Prop} {cc : ByteArray} {pc : Nat} {jl : Array Slot}
variable {A : Nat → Nat → Nat} {s0 : State} {cid : Nat → ClassId} {slt : Nat → Nat → Nat} {n0 m0 nL own : Nat} {ini : Bool} {F : am_OF} {Hf : am_H}
/-- what a call of Enum.ordinal comes to -/
def ORD (p : Program) (l : Launch) (e : Env) (R : Room) (s : State) (m : MethodId) (args : Array Value) (below : List Frame) (meth : Method) (c : Code) (cc : ByteArray) (A : Nat → Nat → Nat) (s0 : State) : Prop :=
  ∀ (pc a : Nat) (hp : Heap) (locs : List Loc) (cells slots : Nat) (jl : Array Slot) (Q : State → Prop), decode cc pc = .ok (.invokevirtual 591, 3) → a < 6 → (∀ q : Nat, q < s0.heap.size → hp[q]? = s0.heap[q]?) → jl.size = c.maxLocals → cells ≤ R.cells → slots ≤ R.slots →
    W p l e R s m args below meth c hp locs cells slots Q (F0 m (pc + 3) jl [.int (Int32.ofNat a)]) → W p l e R s m args below meth c hp locs cells slots Q (F0 m pc jl [.ref (A 31 a)])
set_option maxHeartbeats 8000000 in
theorem st2 {ins : Instr} {len op b k d : Nat} {ls ls' : am_L} {st st' : List am_V} {H H' : am_H} {ps : List Prop} (hF : FRM p s0 cid slt s m own) (hSt : STC A s0 s) (hO : own = 3 → ORD p l e R s m args below meth c cc A s0) (hb : c.code = cc) (hml : c.maxLocals = nL) (hini : ini = true → meth.name = "<init>") (hdg : decode cc pc = .ok (ins, len)) (hm : mt2 own ini ins len op b k d = true)
    (he : am_s2 op b k d ls st H = some (ls', st', H', ps)) (hps : am_all ps) (hk : eok F (en op b k d) = true) (hh : okh F H) (hst : oks F H st) (hS : SR A s0 cid slt n0 m0 nL ls H hp locs cells slots jl) (hA : ADR A s0 Hf) (hf : hle H' Hf) (hfH : hle H Hf) (hc : ncl H' ≤ n0 + R.cells) (hs : nsl H' ≤ m0 + R.slots) (hRf : 1 ≤ R.frames) (hRl : 100 ≤ R.locals)
    (kk : ∀ hp' locs' cells' slots' jl', SR A s0 cid slt n0 m0 nL ls' H' hp' locs' cells' slots' jl' → W p l e R s m args below meth c hp' locs' cells' slots' Q (F0 m (pc + len) jl' (st'.map (vv A)))) :
    W p l e R s m args below meth c hp locs cells slots Q (F0 m pc jl (st.map (vv A))) := by
  unfold am_s2 at he
  split at he
  case h_1 => -- 10
    obtain ⟨i, rfl, rfl, a1, a2, a3, a4, a5⟩ := gfd_spec (show gfd own b k 0 ins len = true from hm)
    split at he
    · rename_i _ e1 a r
      cases hcd : (Nat.beq e1 b || Nat.beq e1 (b + 64)) <;> rw [hcd] at he <;> cases he
      obtain ⟨g1, g2⟩ := ref_at (A := A) (F := F) (by omega) (kd_or hcd) hst.hd
      simp only [List.map_cons]
      rw [g1]
      refine st_get hF hb hdg a1 a2 a3 a4 hS.1 g2 ?_
      rw [fv_i (Or.inl a5)]
      exact kk _ _ _ _ _ hS
    · cases he
  case h_2 => -- 16
    obtain ⟨i, rfl, rfl, a1, a2, a3, a4, a5⟩ := gfd_spec (show gfd own b k 6 ins len = true from hm)
    split at he
    · rename_i _ e1 a r
      cases hcd : (Nat.beq e1 b || Nat.beq e1 (b + 64)) <;> rw [hcd] at he <;> cases he
      obtain ⟨g1, g2⟩ := ref_at (A := A) (F := F) (by omega) (kd_or hcd) hst.hd
      simp only [List.map_cons]
      rw [g1]
      refine st_get hF hb hdg a1 a2 a3 a4 hS.1 g2 ?_
      rw [fv_i (Or.inr a5)]
      exact kk _ _ _ _ _ hS
    · cases he
  case h_3 => -- 12
    have hm2 : (gfd own b k 2 ins len && Nat.beq (cx_kt b k).2 d) = true := hm
    rw [Bool.and_eq_true, Nat.beq_eq] at hm2
    obtain ⟨i, rfl, rfl, a1, a2, a3, a4, a5⟩ := gfd_spec hm2.1
    have hpl : plainc d = true := by simp only [eok, Bool.and_eq_true] at hk; exact hk.2.2.2
    split at he
    · rename_i _ e1 a r
      cases hcd : (Nat.beq e1 b || Nat.beq e1 (b + 64)) <;> rw [hcd] at he <;> cases he
      obtain ⟨g1, g2⟩ := ref_at (A := A) (F := F) (by omega) (kd_or hcd) hst.hd
      simp only [List.map_cons]
      rw [g1]
      refine st_get hF hb hdg a1 a2 a3 a4 hS.1 g2 ?_
      rw [fv_r (by omega) (by omega), hm2.2, ← vv_plain hpl]
      exact kk _ _ _ _ _ hS
    · cases he
  case h_4 => -- 13
    have hm2 : (gfd own b k 3 ins len && Nat.beq (cx_kt b k).2 d) = true := hm
    rw [Bool.and_eq_true, Nat.beq_eq] at hm2
    obtain ⟨i, rfl, rfl, a1, a2, a3, a4, a5⟩ := gfd_spec hm2.1
    have ho3 : own3 F b k 3 d = true := hk
    obtain ⟨-, -, hpl, -⟩ := own3_spec ho3
    split at he
    · rename_i _ e1 a r
      cases hc1 : Nat.beq e1 b <;> rw [hc1] at he
      · cases hc2 : Nat.beq e1 (b + 64) <;> rw [hc2] at he <;> cases he
        rw [Nat.beq_eq] at hc2
        obtain ⟨g1, g2⟩ := ref_at (A := A) (F := F) (by omega) (Or.inr hc2) hst.hd
        simp only [List.map_cons]
        rw [g1]
        refine st_get hF hb hdg a1 a2 a3 a4 hS.1 g2 ?_
        rw [fv_r (by omega) (by omega), hm2.2, ← vv_plain hpl]
        exact kk _ _ _ _ _ hS
      · cases he
        rw [Nat.beq_eq] at hc1
        obtain ⟨g1, g2⟩ := ref_at (A := A) (F := F) (by omega) (Or.inl hc1) hst.hd
        subst hc1
        have hdn := ((okr_plain (plainc_of (by omega))).mp hst.hd a rfl).2
        simp only [List.map_cons]
        rw [g1]
        refine st_get hF hb hdg a1 a2 a3 a4 hS.1 g2 ?_
        rw [fv_r (by omega) (by omega), hm2.2, ← vv_plain hpl, done_get ho3 hdn]
        exact kk _ _ _ _ _ hS
    · cases he
  case h_5 => -- 14
    have hm2 : (gfd own b k 4 ins len && Nat.beq (cx_kt b k).2 d) = true := hm
    rw [Bool.and_eq_true, Nat.beq_eq] at hm2
    obtain ⟨i, rfl, rfl, a1, a2, a3, a4, a5⟩ := gfd_spec hm2.1
    have ho3 : own3 F b k 4 d = true := hk
    obtain ⟨-, -, hpl, -⟩ := own3_spec ho3
    split at he
    · rename_i _ e1 a r
      cases hc1 : Nat.beq e1 b <;> rw [hc1] at he <;> cases he
      rw [Nat.beq_eq] at hc1
      obtain ⟨g1, g2⟩ := ref_at (A := A) (F := F) (by omega) (Or.inl hc1) hst.hd
      subst hc1
      have hdn := ((okr_plain (plainc_of (by omega))).mp hst.hd a rfl).2
      simp only [List.map_cons]
      rw [g1]
      refine st_get hF hb hdg a1 a2 a3 a4 hS.1 g2 ?_
      rw [fv_r (by omega) (by omega), hm2.2, ← vv_plain hpl, done_get ho3 hdn]
      exact kk _ _ _ _ _ hS
    · cases he
  case h_6 => -- 15
    have hm2 : (gfd own b k 5 ins len && Nat.beq (cx_kt b k).2 d) = true := hm
    rw [Bool.and_eq_true, Nat.beq_eq] at hm2
    obtain ⟨i, rfl, rfl, a1, a2, a3, a4, a5⟩ := gfd_spec hm2.1
    have ho3 : own3 F b k 5 d = true := hk
    obtain ⟨-, -, hpl, -⟩ := own3_spec ho3
    split at he
    · rename_i _ e1 a r
      cases hc1 : Nat.beq e1 b <;> rw [hc1] at he <;> cases he
      rw [Nat.beq_eq] at hc1
      obtain ⟨g1, g2⟩ := ref_at (A := A) (F := F) (by omega) (Or.inl hc1) hst.hd
      subst hc1
      have hdn := ((okr_plain (plainc_of (by omega))).mp hst.hd a rfl).2
      simp only [List.map_cons]
      rw [g1]
      refine st_get hF hb hdg a1 a2 a3 a4 hS.1 g2 ?_
      rw [fv_r (by omega) (by omega), hm2.2, ← vv_plain hpl, done_get ho3 hdn]
      exact kk _ _ _ _ _ hS
    · cases he
  case h_7 => -- 20
    obtain ⟨i, rfl, rfl, a1, a2, a3, a4, a5, a6, a7, a8, -, -⟩ := pfd_spec (show pfd own ini b k 0 ins len = true from hm)
    split at he
    · rename_i _ v e1 a r
      cases hcd : (Nat.beq e1 b || Nat.beq e1 (b + 64)) <;> rw [hcd] at he <;> cases he
      obtain ⟨g1, g2⟩ := ref_at (A := A) (F := F) (by omega) (kd_or hcd) hst.tl.hd
      simp only [List.map_cons]
      rw [g1]
      exact put_I (ini := ini) hF hb hdg a1 a2 a3 a4 (Or.inl a5) a6 a7 hini (by rw [a8 rfl]; exact ⟨rfl, rfl⟩) hS hA hfH g2 kk
    · cases he
  case h_8 => -- 26
    obtain ⟨i, rfl, rfl, a1, a2, a3, a4, a5, a6, a7, -, a8, -⟩ := pfd_spec (show pfd own ini b k 6 ins len = true from hm)
    split at he
    · rename_i _ v e1 a r
      cases hcd : (Nat.beq e1 b || Nat.beq e1 (b + 64)) <;> rw [hcd] at he <;> cases he
      obtain ⟨g1, g2⟩ := ref_at (A := A) (F := F) (by omega) (kd_or hcd) hst.tl.hd
      simp only [List.map_cons]
      rw [g1]
      exact put_I (ini := ini) hF hb hdg a1 a2 a3 a4 (Or.inr a5) a6 a7 hini (by rw [a8 rfl]; exact fit_bool hps) hS hA hfH g2 kk
    · cases he
  case h_9 => -- 22
    have hm2 : (pfd own ini b k 2 ins len && Nat.beq (cx_kt b k).2 d) = true := hm
    rw [Bool.and_eq_true, Nat.beq_eq] at hm2
    obtain ⟨i, rfl, rfl, a1, a2, a3, a4, a5, a6, a7, -, -, a8⟩ := pfd_spec hm2.1
    have hpl : plainc d = true := by simp only [eok, Bool.and_eq_true] at hk; exact hk.2.2.2
    split at he
    · rename_i _ t q e1 a r
      cases hcd : (Nat.beq t d && (Nat.beq e1 b || Nat.beq e1 (b + 64))) <;> rw [hcd] at he <;> cases he
      rw [Bool.and_eq_true, Nat.beq_eq] at hcd
      obtain ⟨rfl, hcd⟩ := hcd
      obtain ⟨g1, g2⟩ := ref_at (A := A) (F := F) (by omega) (kd_or hcd) hst.tl.hd
      simp only [List.map_cons]
      rw [g1, vv_plain hpl, ← hm2.2]
      exact put_R (ini := ini) hF hb hdg a1 a2 a3 a4 (by omega) (by omega) a6 a7 hini (a8 (by decide) (by decide)) hS hA hfH g2 kk
    · cases he
  case h_10 => -- 23
    have hm2 : (pfd own ini b k 3 ins len && Nat.beq (cx_kt b k).2 d) = true := hm
    rw [Bool.and_eq_true, Nat.beq_eq] at hm2
    obtain ⟨i, rfl, rfl, a1, a2, a3, a4, a5, a6, a7, -, -, a8⟩ := pfd_spec hm2.1
    obtain ⟨-, -, hpl, -⟩ := own3_spec (show own3 F b k 3 d = true from hk)
    split at he
    · rename_i _ t q e1 a r
      cases hcd : (Nat.beq t d && Nat.beq e1 (b + 64)) <;> rw [hcd] at he <;> cases he
      rw [Bool.and_eq_true, Nat.beq_eq, Nat.beq_eq] at hcd
      obtain ⟨rfl, hcd⟩ := hcd
      obtain ⟨g1, g2⟩ := ref_at (A := A) (F := F) (by omega) (Or.inr hcd) hst.tl.hd
      simp only [List.map_cons]
      rw [g1, vv_plain hpl, ← hm2.2]
      exact put_R (ini := ini) hF hb hdg a1 a2 a3 a4 (by omega) (by omega) a6 a7 hini (a8 (by decide) (by decide)) hS hA hfH g2 kk
    · cases he
  case h_11 => -- 24
    have hm2 : (pfd own ini b k 4 ins len && Nat.beq (cx_kt b k).2 d) = true := hm
    rw [Bool.and_eq_true, Nat.beq_eq] at hm2
    obtain ⟨i, rfl, rfl, a1, a2, a3, a4, a5, a6, a7, -, -, a8⟩ := pfd_spec hm2.1
    obtain ⟨-, -, hpl, -⟩ := own3_spec (show own3 F b k 4 d = true from hk)
    split at he
    · rename_i _ t q e1 a r
      cases hcd : (Nat.beq t d && Nat.beq e1 (b + 64)) <;> rw [hcd] at he <;> cases he
      rw [Bool.and_eq_true, Nat.beq_eq, Nat.beq_eq] at hcd
      obtain ⟨rfl, hcd⟩ := hcd
      obtain ⟨g1, g2⟩ := ref_at (A := A) (F := F) (by omega) (Or.inr hcd) hst.tl.hd
      simp only [List.map_cons]
      rw [g1, vv_plain hpl, ← hm2.2]
      exact put_R (ini := ini) hF hb hdg a1 a2 a3 a4 (by omega) (by omega) a6 a7 hini (a8 (by decide) (by decide)) hS hA hfH g2 kk
    · cases he
  case h_12 => -- 25
    have hm2 : (pfd own ini b k 5 ins len && Nat.beq (cx_kt b k).2 d) = true := hm
    rw [Bool.and_eq_true, Nat.beq_eq] at hm2
    obtain ⟨i, rfl, rfl, a1, a2, a3, a4, a5, a6, a7, -, -, a8⟩ := pfd_spec hm2.1
    obtain ⟨-, -, hpl, -⟩ := own3_spec (show own3 F b k 5 d = true from hk)
    split at he
    · rename_i _ t q e1 a r
      cases hcd : (Nat.beq t d && Nat.beq e1 (b + 64)) <;> rw [hcd] at he <;> cases he
      rw [Bool.and_eq_true, Nat.beq_eq, Nat.beq_eq] at hcd
      obtain ⟨rfl, hcd⟩ := hcd
      obtain ⟨g1, g2⟩ := ref_at (A := A) (F := F) (by omega) (Or.inr hcd) hst.tl.hd
      simp only [List.map_cons]
      rw [g1, vv_plain hpl, ← hm2.2]
      exact put_R (ini := ini) hF hb hdg a1 a2 a3 a4 (by omega) (by omega) a6 a7 hini (a8 (by decide) (by decide)) hS hA hfH g2 kk
    · cases he
  case h_13 => -- 40
    split at he
    · rename_i _ n r
      cases he
      have hm2 : nar own b k ins len = true := hm
      have hplb : ∀ x, 1000 ≤ b → vv A (rv b (some x)) = .ref (A b x) := fun x hb1 => by rw [vv_plain (plainc_of (by omega))]; rfl
      unfold nar at hm2
      split at hm2
      · rename_i t
        simp only [Bool.and_eq_true, Nat.ble_eq, Nat.blt_eq, Nat.beq_eq] at hm2
        obtain ⟨rfl, b1, b2, b3, rfl, b4, b5⟩ := hm2
        refine st_newa hF hb hdg b1 b2 b3 b4 (of_decide_eq_true b5) hps hS hA hf hc hs fun hp' locs' cells' slots' jl' h' => ?_
        have := kk _ _ _ _ _ h'
        simp only [List.map_cons, hplb _ b1] at this
        exact this
      · rename_i i
        simp only [Bool.and_eq_true, Nat.ble_eq, Nat.blt_eq, Nat.beq_eq] at hm2
        obtain ⟨rfl, b1, b2, rfl, ⟨b3, b4⟩, b5, b6⟩ := hm2
        refine st_newr hF hb hdg b1 b2 b3 b4 b5 b6 hps hS hA hf hc hs fun hp' locs' cells' slots' jl' h' => ?_
        have := kk _ _ _ _ _ h'
        simp only [List.map_cons, hplb _ (by omega)] at this
        exact this
      · cases hm2
    · cases he
  case h_14 => -- 41
    cases he
    have hm2 := hm
    unfold mt2 at hm2
    simp only at hm2
    split at hm2
    · rename_i i
      simp only [Bool.and_eq_true, Nat.blt_eq, Nat.beq_eq, Bool.not_eq_true'] at hm2
      obtain ⟨rfl, b1, b2, b3, b4, b5, rfl, rfl⟩ := hm2
      have b3' : b ≠ 31 := by rintro rfl; cases b3
      refine st_new hF hb hdg b1 b2 b3' b4 b5 hS hA hf hc hs fun hp' locs' cells' slots' jl' h' => ?_
      have := kk _ _ _ _ _ h'
      simp only [List.map_cons] at this
      rw [(ref_at (A := A) (F := F) (by omega) (Or.inr rfl) (okr_raw (F := F) (by omega) (show cn H b < cn (nw H b 0 (cx_sl b)) b from by show cn H b < if b = b then cn H b + 1 else _; rw [if_pos rfl]; exact Nat.lt_succ_self _))).1] at this
      exact this
    · cases hm2
  case h_15 => -- 50
    have hm2 : (decide (ins = .arraylength ∧ len = 1) && (Nat.ble 1000 b && Nat.beq k (cx_s b))) = true := hm
    simp only [Bool.and_eq_true, Nat.ble_eq, Nat.beq_eq] at hm2
    obtain ⟨b1, b2, rfl⟩ := hm2
    obtain ⟨rfl, rfl⟩ := of_decide_eq_true b1
    split at he
    · rename_i _ e1 a r
      cases hcd : Nat.beq e1 b <;> rw [hcd] at he <;> cases he
      rw [Nat.beq_eq] at hcd
      subst hcd
      obtain ⟨g1, g2⟩ := arr_at (A := A) (F := F) b2 hst.hd
      obtain ⟨cell, q1, q2, q3⟩ := arr_len hS.1 g2 b2 hF.2.1
      simp only [List.map_cons]
      rw [g1]
      exact W.alen hF.1 hb q1 q2 (n := Int32.ofNat (aln H e1 a)) (by rw [q3]) rfl rfl hdg (kk _ _ _ _ _ hS)
    · cases he
  case h_16 => -- 51
    have hm2 : (Nat.beq k (cx_s b) && ((decide (ins = .iaload ∧ len = 1) && Nat.beq (b / 1000) 1) || ((decide (ins = .baload ∧ len = 1) && Nat.beq (b / 1000) 2) || ((decide (ins = .baload ∧ len = 1) && Nat.beq (b / 1000) 3) || (decide (ins = .saload ∧ len = 1) && Nat.beq (b / 1000) 4))))) = true := hm
    simp only [Bool.and_eq_true, Bool.or_eq_true, Nat.beq_eq] at hm2
    obtain ⟨rfl, hm2⟩ := hm2
    split at he
    · rename_i _ j e1 a r
      cases hcd : Nat.beq e1 b <;> rw [hcd] at he <;> cases he
      rw [Nat.beq_eq] at hcd
      subst hcd
      have b1 : 1000 ≤ e1 ∧ e1 < 6000 ∧ ¬ e1 / 1000 = 5 := by omega
      obtain ⟨g1, g2⟩ := arr_at (A := A) (F := F) b1.1 hst.tl.hd
      obtain ⟨cell, q1, q2, q3, q4, q5⟩ := arr_get hS.1 g2 b1.1 hF.2.1 (show vp_in j (aln H e1 a) from hps)
      rw [ev_I b1.2.2 b1.2.1] at q5
      simp only [List.map_cons]
      rw [g1]
      rcases hm2 with ⟨b2, b3⟩ | ⟨b2, b3⟩ | ⟨b2, b3⟩ | ⟨b2, b3⟩
      · obtain ⟨rfl, rfl⟩ := of_decide_eq_true b2
        rw [ety_1 b3] at q2
        exact W.iald hF.1 hb q1 q2 q3 q4 q5 rfl rfl hdg (kk _ _ _ _ _ hS)
      · obtain ⟨rfl, rfl⟩ := of_decide_eq_true b2
        rw [ety_2 b3] at q2
        exact W.bald hF.1 hb q1 q2 q3 q4 q5 rfl rfl hdg (kk _ _ _ _ _ hS)
      · obtain ⟨rfl, rfl⟩ := of_decide_eq_true b2
        rw [ety_3 b3] at q2
        exact W.zald hF.1 hb q1 q2 q3 q4 q5 rfl rfl hdg (kk _ _ _ _ _ hS)
      · obtain ⟨rfl, rfl⟩ := of_decide_eq_true b2
        rw [ety_4 b3] at q2
        exact W.sald hF.1 hb q1 q2 q3 q4 q5 rfl rfl hdg (kk _ _ _ _ _ hS)
    · cases he
  case h_17 => -- 52
    have hm2 : (Nat.beq k (cx_s b) && (decide (ins = .laload ∧ len = 1) && Nat.beq (b / 1000) 5)) = true := hm
    simp only [Bool.and_eq_true, Nat.beq_eq] at hm2
    obtain ⟨rfl, b2, b3⟩ := hm2
    obtain ⟨rfl, rfl⟩ := of_decide_eq_true b2
    split at he
    · rename_i _ j e1 a r
      cases hcd : Nat.beq e1 b <;> rw [hcd] at he <;> cases he
      rw [Nat.beq_eq] at hcd
      subst hcd
      have b1 : 1000 ≤ e1 := by omega
      obtain ⟨g1, g2⟩ := arr_at (A := A) (F := F) b1 hst.tl.hd
      obtain ⟨cell, q1, q2, q3, q4, q5⟩ := arr_get hS.1 g2 b1 hF.2.1 (show vp_in j (aln H e1 a) from hps)
      rw [ev_L b3] at q5
      rw [ety_5 b3] at q2
      simp only [List.map_cons]
      rw [g1]
      exact W.lald hF.1 hb q1 q2 q3 q4 q5 rfl rfl hdg (kk _ _ _ _ _ hS)
    · cases he
  case h_18 => -- 53
    have hm2 : (Nat.beq k (cx_s b) && (decide (ins = .aaload ∧ len = 1) && (Nat.ble 6000 b && Nat.beq d ((b - 6000) / 20)))) = true := hm
    simp only [Bool.and_eq_true, Nat.beq_eq, Nat.ble_eq] at hm2
    obtain ⟨rfl, b2, b3, rfl⟩ := hm2
    obtain ⟨rfl, rfl⟩ := of_decide_eq_true b2
    have hpl : plainc ((b - 6000) / 20) = true := by simp only [eok, Bool.and_eq_true] at hk; exact hk.2.2
    split at he
    · rename_i _ j e1 a r
      cases hcd : Nat.beq e1 b <;> rw [hcd] at he <;> cases he
      rw [Nat.beq_eq] at hcd
      subst hcd
      have b1 : 1000 ≤ e1 := by omega
      obtain ⟨g1, g2⟩ := arr_at (A := A) (F := F) b1 hst.tl.hd
      obtain ⟨cell, q1, q2, q3, q4, q5⟩ := arr_get hS.1 g2 b1 hF.2.1 (show vp_in j (aln H e1 a) from hps)
      rw [ev_R b3, ← vv_plain hpl] at q5
      simp only [List.map_cons]
      rw [g1]
      exact W.aald hF.1 hb q1 q2 (by rw [ety_6 b3]; rfl) q3 q4 q5 rfl rfl hdg (kk _ _ _ _ _ hS)
    · cases he
  case h_19 => -- 54
    have hm2 : (Nat.beq k (cx_s b) && (decide (ins = .iastore ∧ len = 1) && (Nat.beq (b / 1000) 1 && am_dyn b))) = true := hm
    simp only [Bool.and_eq_true, Nat.beq_eq] at hm2
    obtain ⟨rfl, b2, b3, b4⟩ := hm2
    obtain ⟨rfl, rfl⟩ := of_decide_eq_true b2
    split at he
    · rename_i _ x j e1 a r
      cases hcd : Nat.beq e1 b <;> rw [hcd] at he <;> cases he
      rw [Nat.beq_eq] at hcd
      subst hcd
      have b1 : 1000 ≤ e1 ∧ e1 < 6000 ∧ ¬ e1 / 1000 = 5 := by omega
      obtain ⟨g1, g2⟩ := arr_at (A := A) (F := F) b1.1 hst.tl.tl.hd
      obtain ⟨cell, q1, q2, q3, q4, q5⟩ := arr_get hS.1 g2 b1.1 hF.2.1 (show vp_in j (aln H e1 a) from hps)
      rw [ety_1 b3] at q2
      simp only [List.map_cons]
      rw [g1]
      refine W.iast hF.1 hb q1 q2 q3 q4 rfl rfl hdg fun hp' e1' e2 e3 => kk _ _ _ _ _ (hS.wr (arr_put hS.1 hA hfH g2 b1.1 b4 (off_I _ _ _ _) (fun _ _ _ _ => rfl) (fun _ _ _ _ => rfl) (fun _ => rfl) (fun _ _ => rfl) rfl (evI_up b1.2.2 b1.2.1) q1 e1' e2 e3) rfl rfl (base_le hA hfH b4 g2))
    · cases he
  case h_20 => -- 55
    have hm2 : (Nat.beq k (cx_s b) && (decide (ins = .bastore ∧ len = 1) && (Nat.beq (b / 1000) 2 && am_dyn b))) = true := hm
    simp only [Bool.and_eq_true, Nat.beq_eq] at hm2
    obtain ⟨rfl, b2, b3, b4⟩ := hm2
    obtain ⟨rfl, rfl⟩ := of_decide_eq_true b2
    split at he
    · rename_i _ x j e1 a r
      cases hcd : Nat.beq e1 b <;> rw [hcd] at he <;> cases he
      rw [Nat.beq_eq] at hcd
      subst hcd
      have b1 : 1000 ≤ e1 ∧ e1 < 6000 ∧ ¬ e1 / 1000 = 5 := by omega
      obtain ⟨g1, g2⟩ := arr_at (A := A) (F := F) b1.1 hst.tl.tl.hd
      obtain ⟨cell, q1, q2, q3, q4, q5⟩ := arr_get hS.1 g2 b1.1 hF.2.1 (show vp_in j (aln H e1 a) from hps)
      rw [ety_2 b3] at q2
      simp only [List.map_cons]
      rw [g1]
      refine W.bast hF.1 hb q1 q2 q3 q4 rfl rfl hdg fun hp' e1' e2 e3 => kk _ _ _ _ _ (hS.wr (arr_put hS.1 hA hfH g2 b1.1 b4 (off_I _ _ _ _) (fun _ _ _ _ => rfl) (fun _ _ _ _ => rfl) (fun _ => rfl) (fun _ _ => rfl) rfl (evI_up b1.2.2 b1.2.1) q1 e1' e2 e3) rfl rfl (base_le hA hfH b4 g2))
    · cases he
  case h_21 => -- 56
    have hm2 : (Nat.beq k (cx_s b) && (decide (ins = .bastore ∧ len = 1) && (Nat.beq (b / 1000) 3 && am_dyn b))) = true := hm
    simp only [Bool.and_eq_true, Nat.beq_eq] at hm2
    obtain ⟨rfl, b2, b3, b4⟩ := hm2
    obtain ⟨rfl, rfl⟩ := of_decide_eq_true b2
    split at he
    · rename_i _ x j e1 a r
      cases hcd : Nat.beq e1 b <;> rw [hcd] at he <;> cases he
      rw [Nat.beq_eq] at hcd
      subst hcd
      have b1 : 1000 ≤ e1 ∧ e1 < 6000 ∧ ¬ e1 / 1000 = 5 := by omega
      obtain ⟨g1, g2⟩ := arr_at (A := A) (F := F) b1.1 hst.tl.tl.hd
      obtain ⟨cell, q1, q2, q3, q4, q5⟩ := arr_get hS.1 g2 b1.1 hF.2.1 (show vp_in j (aln H e1 a) from hps)
      rw [ety_3 b3] at q2
      simp only [List.map_cons]
      rw [g1]
      refine W.zast hF.1 hb q1 q2 q3 q4 rfl rfl hdg fun hp' e1' e2 e3 => kk _ _ _ _ _ (hS.wr (arr_put hS.1 hA hfH g2 b1.1 b4 (off_I _ _ _ _) (fun _ _ _ _ => rfl) (fun _ _ _ _ => rfl) (fun _ => rfl) (fun _ _ => rfl) rfl (evI_up b1.2.2 b1.2.1) q1 e1' e2 e3) rfl rfl (base_le hA hfH b4 g2))
    · cases he
  case h_22 => -- 57
    have hm2 : (Nat.beq k (cx_s b) && (decide (ins = .sastore ∧ len = 1) && (Nat.beq (b / 1000) 4 && am_dyn b))) = true := hm
    simp only [Bool.and_eq_true, Nat.beq_eq] at hm2
    obtain ⟨rfl, b2, b3, b4⟩ := hm2
    obtain ⟨rfl, rfl⟩ := of_decide_eq_true b2
    split at he
    · rename_i _ x j e1 a r
      cases hcd : Nat.beq e1 b <;> rw [hcd] at he <;> cases he
      rw [Nat.beq_eq] at hcd
      subst hcd
      have b1 : 1000 ≤ e1 ∧ e1 < 6000 ∧ ¬ e1 / 1000 = 5 := by omega
      obtain ⟨g1, g2⟩ := arr_at (A := A) (F := F) b1.1 hst.tl.tl.hd
      obtain ⟨cell, q1, q2, q3, q4, q5⟩ := arr_get hS.1 g2 b1.1 hF.2.1 (show vp_in j (aln H e1 a) from hps)
      rw [ety_4 b3] at q2
      simp only [List.map_cons]
      rw [g1]
      refine W.sast hF.1 hb q1 q2 q3 q4 rfl rfl hdg fun hp' e1' e2 e3 => kk _ _ _ _ _ (hS.wr (arr_put hS.1 hA hfH g2 b1.1 b4 (off_I _ _ _ _) (fun _ _ _ _ => rfl) (fun _ _ _ _ => rfl) (fun _ => rfl) (fun _ _ => rfl) rfl (evI_up b1.2.2 b1.2.1) q1 e1' e2 e3) rfl rfl (base_le hA hfH b4 g2))
    · cases he
  case h_23 => -- 58
    have hm2 : (Nat.beq k (cx_s b) && (decide (ins = .lastore ∧ len = 1) && (Nat.beq (b / 1000) 5 && am_dyn b))) = true := hm
    simp only [Bool.and_eq_true, Nat.beq_eq] at hm2
    obtain ⟨rfl, b2, b3, b4⟩ := hm2
    obtain ⟨rfl, rfl⟩ := of_decide_eq_true b2
    split at he
    · rename_i _ x j e1 a r
      cases hcd : Nat.beq e1 b <;> rw [hcd] at he <;> cases he
      rw [Nat.beq_eq] at hcd
      subst hcd
      have b1 : 1000 ≤ e1 := by omega
      obtain ⟨g1, g2⟩ := arr_at (A := A) (F := F) b1 hst.tl.tl.hd
      obtain ⟨cell, q1, q2, q3, q4, q5⟩ := arr_get hS.1 g2 b1 hF.2.1 (show vp_in j (aln H e1 a) from hps)
      rw [ety_5 b3] at q2
      simp only [List.map_cons]
      rw [g1]
      refine W.last hF.1 hb q1 q2 q3 q4 rfl rfl hdg fun hp' e1' e2 e3 => kk _ _ _ _ _ (hS.wr (arr_put (H' := wrL H e1 a j.toNatClampNeg x) hS.1 hA hfH g2 b1 b4 (fun _ _ _ _ => rfl) (off_L _ _ _ _) (fun _ _ _ _ => rfl) (fun _ => rfl) (fun _ _ => rfl) rfl (evL_up b3) q1 e1' e2 e3) rfl rfl (base_le hA hfH b4 g2))
    · cases he
  case h_24 => -- 59
    have hm2 : (Nat.beq k (cx_s b) && (decide (ins = .aastore ∧ len = 1) && (Nat.ble 6000 b && (Nat.beq d ((b - 6000) / 20) && (Nat.blt d 36 && (!(Nat.beq d 31) && (am_dyn b && Nat.ble 1 d))))))) = true := hm
    simp only [Bool.and_eq_true, Nat.beq_eq, Nat.ble_eq, Nat.blt_eq, Bool.not_eq_true'] at hm2
    obtain ⟨rfl, b2, b3, b5, b6, b7, b4, b8⟩ := hm2
    obtain ⟨rfl, rfl⟩ := of_decide_eq_true b2
    have hpl : plainc d = true := plainc_of (by omega)
    have b7' : d ≠ 31 := by rintro rfl; cases b7
    split at he
    · rename_i _ t q j e1 a r
      cases hcd : (Nat.beq e1 b && Nat.beq t d) <;> rw [hcd] at he <;> cases he
      rw [Bool.and_eq_true, Nat.beq_eq, Nat.beq_eq] at hcd
      obtain ⟨rfl, rfl⟩ := hcd
      have b1 : 1000 ≤ e1 := by omega
      obtain ⟨g1, g2⟩ := arr_at (A := A) (F := F) b1 hst.tl.tl.hd
      obtain ⟨cell, q1, q2, q3, q4, q5⟩ := arr_get hS.1 g2 b1 hF.2.1 (show vp_in j (aln H e1 a) from hps)
      rw [ety_6 b3] at q2
      simp only [List.map_cons]
      rw [g1, vv_plain hpl]
      have hev : ev A (wrR H e1 a j.toNatClampNeg q) e1 a = updV (ev A H e1 a) j.toNatClampNeg (va_rf (q.map (A t))) := by rw [evR_up b3, ← b5]
      cases q with
      | none =>
        refine va_WaastN hF.1 hb q1 q2 q3 q4 rfl rfl hdg fun hp' e1' e2 e3 => kk _ _ _ _ _ (hS.wr (arr_put (H' := wrR H e1 a j.toNatClampNeg none) hS.1 hA hfH g2 b1 b4 (fun _ _ _ _ => rfl) (fun _ _ _ _ => rfl) (off_R _ _ _ _) (fun _ => rfl) (fun _ _ => rfl) rfl hev q1 e1' e2 e3) rfl rfl (base_le hA hfH b4 g2))
      | some v =>
        have hv := ((okr_plain hpl).mp hst.hd v rfl).1
        obtain ⟨cv, w1, w2, w3, -⟩ := (hS.1.2.1 t v hv).1 (by omega) b7'
        obtain ⟨cA, x1, x2, x3⟩ := (hS.1.2.1 e1 a g2).2.1 b1 b4
        have x4 := (x2 b3).moved hF.2.1
        rw [ety_6 b3] at x4
        obtain ⟨kA, comp, y1, y2, y3, -⟩ := x4
        have hKn := hF.2.2.2.1 t b6 b7' b8
        obtain ⟨-, hfc, kC, hkC, hkind⟩ := hKn
        cases q1.symm.trans x3
        have hcomp : comp = cid t := by rw [← b5] at y3; exact Option.some.inj (y3.symm.trans hfc)
        refine W.aast hF.1 hb x3 (fun _ h => by cases h) (fun h => by cases h) y1 y2 rfl (kcomp := kC) (by rw [hcomp]; exact hkC) ?_ w1 (fun q h => by rw [w3] at h; cases h) (kv := kC) (by rw [w2]; exact hkC) ?_ rfl rfl hdg fun hp' e1' e2 e3 => kk _ _ _ _ _ (hS.wr (arr_put (H' := wrR H e1 a j.toNatClampNeg (some v)) hS.1 hA hfH g2 b1 b4 (fun _ _ _ _ => rfl) (fun _ _ _ _ => rfl) (off_R _ _ _ _) (fun _ => rfl) (fun _ _ => rfl) rfl hev q1 e1' e2 e3) rfl rfl (base_le hA hfH b4 g2))
        · exact ⟨fun h => q4 (Or.inl h), Nat.not_le.mp fun h => q4 (Or.inr h)⟩
        · rw [w2, hcomp]; exact Vm.assignable_self _ _
    · cases he
  case h_25 => -- 61
    cases he
    have hm2 := hm
    unfold mt2 at hm2
    simp only at hm2
    split at hm2
    · rename_i i
      simp only [Bool.and_eq_true, Nat.beq_eq, List.any_eq_true] at hm2
      obtain ⟨rfl, ⟨i', t', b', q'⟩, he', rfl, rfl, rfl⟩ := hm2
      have hw := slkL_ok own _ he'
      have hbq : b' = 31 ∧ q' < 6 ∨ b' = 1997 ∧ q' = 0 := by
        simp only [eok, Bool.and_eq_true, Bool.or_eq_true, Nat.blt_eq, Nat.beq_eq] at hk
        exact hk.1
      obtain ⟨cf, kf, fi, f, a, cell, h1, h2, h3, h4, h5, h6, h7, h8⟩ := hSt b' q' hbq
      have h5' : hp[a]? = some cell := by rw [hS.1.2.2.1 a (Array.getElem?_eq_some_iff.mp h5).1]; exact h5
      have hkn : cell.vm ≠ .unknown := fun e => by rw [e] at h6; cases h6
      have hvv : vv A (rv b' (some q')) = .ref (A b' q') := by rw [vv_plain (plainc_of (by omega))]; rfl
      have kk' := kk _ _ _ _ _ hS
      simp only [List.map_cons, hvv] at kk'
      unfold wokS at hw
      simp only at hw
      split at hw
      · exact W.gets hF.1 hb hF.2.2.2.2 (hF.2.2.1 _ hw rfl args) h1 h2 h3 h4 h5' hkn h7 rfl hdg kk'
      · exact va_WgetsN hF.1 hb hF.2.2.2.2 (hF.2.2.1 _ hw rfl args) h1 h2 h3 h4 h5' hkn h7 rfl hdg kk'
      · exact hw.elim
    · cases hm2
  case h_26 => -- 62
    cases he
    obtain ⟨rfl, rfl⟩ := of_decide_eq_true (show decide (ins = .aconst_null ∧ len = 1) = true from hm)
    exact lv_null hF.1 hb hdg (kk _ _ _ _ _ hS)
  case h_27 => -- 63
    have hm2 : (decide (ins = .invokevirtual 591 ∧ len = 3) && (Nat.beq own 3 && Nat.beq b 31)) = true := hm
    simp only [Bool.and_eq_true, Nat.beq_eq] at hm2
    obtain ⟨b2, b3, rfl⟩ := hm2
    obtain ⟨rfl, rfl⟩ := of_decide_eq_true b2
    split at he
    · rename_i _ e1 a
      cases hcd : Nat.beq e1 31 <;> rw [hcd] at he <;> cases he
      rw [Nat.beq_eq] at hcd
      subst hcd
      have ha := ((okr_plain (plainc_of (by omega))).mp hst.hd a rfl).1
      rw [hS.1.2.2.2.2.2] at ha
      have hvv : vv A (rv 31 (some a)) = .ref (A 31 a) := by rw [vv_plain (plainc_of (by omega))]; rfl
      simp only [List.map_cons, List.map_nil, hvv]
      exact hO b3 pc a hp locs cells slots jl Q hdg ha hS.1.2.2.1 (hS.2.1.1.trans hml.symm) (by have := hS.2.2.2.1; omega) (by have := hS.2.2.2.2; omega) (kk _ _ _ _ _ hS)
    · cases he
  case h_28 => -- 64
    split at he
    · rename_i _ e1 a
      cases he
      have hm2 := hm
      unfold mt2 at hm2
      simp only at hm2
      split at hm2
      · rename_i i
        simp only [Bool.and_eq_true, Nat.beq_eq, List.any_eq_true] at hm2
        obtain ⟨rfl, ⟨i', z⟩, he', rfl⟩ := hm2
        have hw := objL_ok own _ he'
        exact W.objInit hF.1 hb hF.2.2.2.2 (hF.2.2.1 _ hw rfl args) (hF.2.2.1 _ obj_i rfl args) (hF.2.2.1 _ obj_c rfl args) rfl (hS.2.1.1.trans hml.symm) rfl hdg hRf (by show 2 * 0 + ([] : List Value).length + 12 ≤ _; simp; omega) (kk _ _ _ _ _ hS)
      · cases hm2
    · cases he
  case h_29 => -- 65
    exact absurd (show (false : Bool) = true from hm) (by decide)
  case h_30 => cases he
end STEP3
