/-! SIM 12: the body of a block -/
def ckb (own nL : Nat) (ini : Bool) (cc : ByteArray) : Nat → List am_E → Option Nat
  | pc, [] => some pc
  | pc, E :: B => match decode cc pc with
    | .ok (ins, len) => (match ins, E, B with
      | .iinc j n, .inr (.inl x), .inr (.inr (.inr (op, j', _, _))) :: B' => bif Nat.beq op 65 && (Nat.beq j j' && (Nat.beq len 3 && (Nat.blt j nL && decide (Int32.ofInt n = x)))) then ckb own nL ini cc (pc + 3) B' else none
      | ins, E, B => bif mt own nL ini ins len E then ckb own nL ini cc (pc + len) B else none)
    | .error _ => none
section BODY
variable {p : Program} {l : Launch} {e : Env} {R : Room} {s : State} {m : MethodId} {args : Array Value} {below : List Frame} {meth : Method} {c : Code} {Q : State → Prop} {cc : ByteArray}
variable {A : Nat → Nat → Nat} {s0 : State} {cid : Nat → ClassId} {slt : Nat → Nat → Nat} {n0 m0 nL own : Nat} {ini : Bool} {F : am_OF} {Hf : am_H}
/-- constants and all other instructions together -/
theorem st3 {E : am_E} {ins : Instr} {len pc : Nat} {ls ls' : am_L} {st st' : List am_V} {H H' : am_H} {ps : List Prop} {hp : Heap} {locs : List Loc} {cells slots : Nat} {jl : Array Slot} (hF : FRM p s0 cid slt s m own) (hSt : STC A s0 s) (hO : own = 3 → ORD p l e R s m args below meth c cc A s0) (hb : c.code = cc) (hml : c.maxLocals = nL) (hini : ini = true → meth.name = "<init>") (hdg : decode cc pc = .ok (ins, len)) (hm : mt own nL ini ins len E = true)
    (he : am_s E ls st H = some (ls', st', H', ps)) (hps : am_all ps) (hk : eok F E = true) (hh : okh F H) (hst : oks F H st) (hS : SR A s0 cid slt n0 m0 nL ls H hp locs cells slots jl) (hA : ADR A s0 Hf) (hf : hle H' Hf) (hfH : hle H Hf) (hc : ncl H' ≤ n0 + R.cells) (hs : nsl H' ≤ m0 + R.slots) (hRf : 1 ≤ R.frames) (hRl : 100 ≤ R.locals)
    (kk : ∀ hp' locs' cells' slots' jl', SR A s0 cid slt n0 m0 nL ls' H' hp' locs' cells' slots' jl' → W p l e R s m args below meth c hp' locs' cells' slots' Q (F0 m (pc + len) jl' (st'.map (vv A)))) :
    W p l e R s m args below meth c hp locs cells slots Q (F0 m pc jl (st.map (vv A))) := by
  rcases E with i | x | x | ⟨op, b, k, d⟩
  · exact st1I hF.1 hb hdg hm he hps hS kk
  · cases he
    have hm2 := hm
    unfold mt at hm2
    simp only at hm2
    split at hm2 <;> (try simp only [Bool.and_eq_true, Nat.beq_eq, List.any_eq_true] at hm2)
    · obtain ⟨h1, rfl⟩ := hm2
      exact lv_iconst hF.1 hb hdg (of_decide_eq_true h1) (kk _ _ _ _ _ hS)
    · obtain ⟨h1, rfl⟩ := hm2
      exact lv_bipush hF.1 hb hdg (of_decide_eq_true h1) (kk _ _ _ _ _ hS)
    · obtain ⟨h1, rfl⟩ := hm2
      exact lv_sipush hF.1 hb hdg (of_decide_eq_true h1) (kk _ _ _ _ _ hS)
    · obtain ⟨⟨⟨i', x'⟩, he', rfl, h2⟩, rfl⟩ := hm2
      cases of_decide_eq_true h2
      exact lv_ldc hF.1 hb hF.2.2.2.2 (hF.2.2.1 _ (kstL_ok own _ he') rfl args) hdg (kk _ _ _ _ _ hS)
    · obtain ⟨⟨⟨i', x'⟩, he', rfl, h2⟩, rfl⟩ := hm2
      cases of_decide_eq_true h2
      exact lv_ldcw hF.1 hb hF.2.2.2.2 (hF.2.2.1 _ (kstL_ok own _ he') rfl args) hdg (kk _ _ _ _ _ hS)
    · cases hm2
  · cases he
    have hm2 := hm
    unfold mt at hm2
    simp only at hm2
    split at hm2 <;> (try simp only [Bool.and_eq_true, Nat.beq_eq, List.any_eq_true] at hm2)
    · obtain ⟨h1, rfl⟩ := hm2
      exact lv_lconst hF.1 hb hdg (of_decide_eq_true h1) (kk _ _ _ _ _ hS)
    · obtain ⟨⟨⟨i', x'⟩, he', rfl, h2⟩, rfl⟩ := hm2
      cases of_decide_eq_true h2
      exact lv_ldc2 hF.1 hb hF.2.2.2.2 (hF.2.2.1 _ (kstJ_ok own _ he') rfl args) hdg (kk _ _ _ _ _ hS)
    · cases hm2
  · exact st2 hF hSt hO hb hml hini hdg hm he hps hk hh hst hS hA hf hfH hc hs hRf hRl kk
theorem mem_nth {α : Type} {a : α} {xs : List α} (h : a ∈ xs) : ∃ k : Nat, xs[k]? = some a := List.getElem?_of_mem h
theorem stB (hF : FRM p s0 cid slt s m own) (hOF : ofok F) (hSt : STC A s0 s) (hO : own = 3 → ORD p l e R s m args below meth c cc A s0) (hb : c.code = cc) (hml : c.maxLocals = nL) (hini : ini = true → meth.name = "<init>") (hA : ADR A s0 Hf) (hRf : 1 ≤ R.frames) (hRl : 100 ≤ R.locals) :
    ∀ (n : Nat) {B : List am_E} {pc pc' : Nat} {ls ls' : am_L} {st st' : List am_V} {H H' : am_H} {ps qs : List Prop} {hp : Heap} {locs : List Loc} {cells slots : Nat} {jl : Array Slot}, B.length ≤ n → ckb own nL ini cc pc B = some pc' → am_x B ls st H ps = some (ls', st', H', qs) → am_all qs → B.all (eok F) = true → okh F H → okl F H ls → oks F H st → SR A s0 cid slt n0 m0 nL ls H hp locs cells slots jl → hle H' Hf → ncl H' ≤ n0 + R.cells → nsl H' ≤ m0 + R.slots →
    (∀ hp' locs' cells' slots' jl', SR A s0 cid slt n0 m0 nL ls' H' hp' locs' cells' slots' jl' → W p l e R s m args below meth c hp' locs' cells' slots' Q (F0 m pc' jl' (st'.map (vv A)))) →
    W p l e R s m args below meth c hp locs cells slots Q (F0 m pc jl (st.map (vv A))) := by
  intro n
  induction n with
  | zero =>
    intro B pc pc' ls ls' st st' H H' ps qs hp locs cells slots jl hn hk hx hq hB h1 h2 h3 hS hf hc hs kk
    cases B with
    | nil => cases hk; cases hx; exact kk _ _ _ _ _ hS
    | cons E B => simp at hn
  | succ n ih =>
    intro B pc pc' ls ls' st st' H H' ps qs hp locs cells slots jl hn hk hx hq hB h1 h2 h3 hS hf hc hs kk
    cases B with
    | nil => cases hk; cases hx; exact kk _ _ _ _ _ hS
    | cons E B =>
      have hn' : B.length ≤ n := by simpa using hn
      simp only [List.all_cons, Bool.and_eq_true] at hB
      unfold am_x at hx
      split at hx
      rotate_left
      · cases hx
      rename_i ls1 st1 H1 qs1 he
      have hp1 := (all_app (x_ps hx hq)).2
      obtain ⟨a1, a2, a3, a4, a5⟩ := s_inv hOF he hp1 hB.1 h1 h2 h3
      obtain ⟨b1, b2, b3, b4, b5⟩ := x_inv hOF hx hq hB.2 a3 a4 a5
      unfold ckb at hk
      split at hk
      rotate_left
      · cases hk
      rename_i ins len hdg
      split at hk
      · rename_i j i' x op j' y z B'
        cases hcd : (Nat.beq op 65 && (Nat.beq j j' && (Nat.beq len 3 && (Nat.blt j nL && decide (Int32.ofInt i' = x))))) <;> rw [hcd] at hk
        · cases hk
        simp only [Bool.and_eq_true, Nat.beq_eq, Nat.blt_eq] at hcd
        obtain ⟨rfl, rfl, rfl, c4, c5⟩ := hcd
        have c5 := of_decide_eq_true c5
        cases he
        unfold am_x at hx
        split at hx
        rotate_left
        · cases hx
        rename_i ls2 st2 H2 qs2 he2
        simp only [List.all_cons, Bool.and_eq_true] at hB
        have hp2 := (all_app (x_ps hx hq)).2
        obtain ⟨d1, d2, d3, d4, d5⟩ := s_inv hOF he2 hp2 hB.2.1 a3 a4 a5
        have he3 : (match am_nth ls j with
          | some (.inl x0) => some (am_set ls j (some (iv (x0 + x))), st, H, [])
          | _ => none) = some (ls2, st2, H2, qs2) := he2
        split at he3
        rotate_left
        · cases he3
        rename_i x0 hnth
        cases he3
        obtain ⟨k0, hk0⟩ := mem_nth (lvl_nth (A := A) (n := 0) hnth)
        rw [Nat.zero_add] at hk0
        refine lv_iinc (v := x0 + x) hF.1 hb hdg hS.2.1 hk0 (by rw [c5]) c4 rfl fun jl' h' => ?_
        exact ih (by simp at hn'; omega) hk hx hq hB.2.2 d3 d4 d5 ⟨hS.1, locR.set1 (v := iv (x0 + x)) h', hS.2.2⟩ hf hc hs kk
      · rename_i hno
        cases hcd : mt own nL ini ins len E <;> rw [hcd] at hk
        · cases hk
        refine st3 hF hSt hO hb hml hini hdg hcd he hp1 hB.1 h1 h3 hS hA (b1.trans hf) (a1.trans (b1.trans hf)) (Nat.le_trans b1.2.2.1 hc) (Nat.le_trans b1.2.2.2 hs) hRf hRl fun hp' locs' cells' slots' jl' h' => ?_
        exact ih hn' hk hx hq hB.2 a3 a4 a5 h' hf hc hs kk
end BODY
