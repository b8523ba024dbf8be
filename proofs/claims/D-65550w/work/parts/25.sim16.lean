/-! SIM 16: the simulation: jumps and returns -/
theorem ent_lvl {A : Nat → Nat → Nat} : ∀ (as : List am_V) (k : Nat) (q : Nat × Value), q ∈ lvl A k (am_ent as) → q ∈ lv_args k (as.map (vv A))
  | [], _, _, h => by cases h
  | .inl x :: r, k, q, h => by
    rcases List.mem_cons.mp h with rfl | h
    · exact List.mem_cons_self
    · exact List.mem_cons_of_mem _ (ent_lvl r (k + 1) q h)
  | .inr (.inl x) :: r, k, q, h => by
    rcases List.mem_cons.mp h with rfl | h
    · exact List.mem_cons_self
    · exact List.mem_cons_of_mem _ (ent_lvl r (k + 2) q h)
  | .inr (.inr x) :: r, k, q, h => by
    have hc : (vv A (.inr (.inr x))).category = 1 := cat_rf _
    have e : lv_args k ((.inr (.inr x) :: r : List am_V).map (vv A)) = (k, vv A (.inr (.inr x))) :: lv_args (k + 1) (r.map (vv A)) := by
      show (k, _) :: lv_args (if (vv A (.inr (.inr x))).category = 2 then k + 2 else k + 1) _ = _
      rw [hc]
      rfl
    rw [e]
    rcases List.mem_cons.mp h with rfl | h
    · exact List.mem_cons_self
    · exact List.mem_cons_of_mem _ (ent_lvl r (k + 1) q h)
def rkok (rk : Nat) (r : Option FieldType) : Bool := match r with
  | none => Nat.beq rk 0
  | some .int => Nat.beq rk 1
  | some .boolean => Nat.beq rk 4
  | some .long => Nat.beq rk 2
  | some (.object _) => Nat.ble 100 rk
  | some (.array _) => Nat.ble 100 rk
  | _ => false
def iok (P : am_P) (i : Nat) : Bool := Nat.blt (imt i) 629 && (rkok (P.2 i).2.2.1 (mre (imt i)) && (Nat.beq (P.2 i).1 (bif Nat.beq (mki (imt i)) 0 then mpar (imt i) else mpar (imt i) + 1) && Nat.beq (P.2 i).2.1 (mlo (imt i))))
def ckB (P : am_P) (dep : Nat → Nat) (xl : Nat → Nat → Nat → Nat → Bool) (i pc : Nat) (B : am_B) : Bool :=
  match ckb (mow (imt i)) (mlo (imt i)) (Nat.beq (mki (imt i)) 2) (mby (imt i)) pc B.1 with
  | some pc' => ckt dep i (imt i) (mow (imt i)) (mby (imt i)) xl pc' B.2.2.1 B.2.2.2.1 B.2.2.2.2.2.1 B.2.2.2.2.2.2 B.2.1
  | none => false
def simok (P : am_P) (M : Nat) (L : Nat → List Nat) (dep : Nat → Nat) (xl : Nat → Nat → Nat → Nat → Bool) : Prop := (∀ i, i < M → iok P i = true) ∧ ∀ i, i < M → ∀ pc, labin (L i) pc = true → ckB P dep xl i pc ((P.2 i).2.2.2 pc) = true
section SIM
variable (P : am_P) (M : Nat) (L : Nat → List Nat) (dep : Nat → Nat) (xl : Nat → Nat → Nat → Nat → Bool) (p : Program) (l : Launch) (e : Env) (A : Nat → Nat → Nat) (s0 : State) (cid : Nat → ClassId) (slt : Nat → Nat → Nat)
/-- a run of the abstract machine is one of the machine's -/
def SIMf (f : am_St → am_O) : Prop := ∀ {i pc : Nat} {ls : am_L} {st : List am_V} {H : am_H} {r : am_R} {H' : am_H}, f (i, pc, ls, st, H) = some (r, H') → i < M → labin (L i) pc = true → okh P.1 H → okl P.1 H ls → oks P.1 H st →
  ∀ {R : Room} {s : State} {m : MethodId} {args : Array Value} {below : List Frame} {meth : Method} {c : Code} {hp : Heap} {locs : List Loc} {cells slots : Nat} {jl : Array Slot} {n0 m0 : Nat}, FRM p s0 cid slt s m (mow (imt i)) → STC A s0 s → NCs s0 cid s → MF s (imt i) m meth c → SR A s0 cid slt n0 m0 (mlo (imt i)) ls H hp locs cells slots jl → ADR A s0 H' →
    ncl H' ≤ n0 + R.cells → nsl H' ≤ m0 + R.slots → dep i + 8 ≤ R.frames → 200 * (dep i + 8) ≤ R.locals → W p l e R s m args below meth c hp locs cells slots (EQ A s0 cid slt below s n0 m0 r H') (F0 m pc jl (st.map (vv A)))
def HXO : Prop := ∀ {R : Room} {s : State} {m : MethodId} {args : Array Value} {below : List Frame} {meth : Method} {c : Code}, FRM p s0 cid slt s m 3 → 8 ≤ R.frames → 1000 ≤ R.locals → ORD p l e R s m args below meth c c.code A s0
def HXT : Prop := ∀ {R : Room} {s : State} {m : MethodId} {args : Array Value} {below : List Frame} {meth : Method} {c : Code} {hp : Heap} {locs : List Loc} {cells slots : Nat} {jl : Array Slot} {n0 m0 n own : Nat} {ls : am_L} {H : am_H} {pc a ic tg : Nat}, FRM p s0 cid slt s m own → STC A s0 s → NCs s0 cid s → MF s n m meth c → decode c.code pc = .ok (.new a, 3) → decode c.code (pc + 3) = .ok (.dup, 1) → decode c.code (pc + 4) = .ok (.invokespecial ic, 3) → decode c.code (pc + 7) = .ok (.athrow, 1) → xl own a ic tg = true → nocov (pc + 7) (mha n) = true → am_dyn tg = true → tg < 64 →
  SR A s0 cid slt n0 m0 (mlo n) ls H hp locs cells slots jl → ADR A s0 (nw H tg 0 (cx_sl tg)) → ncl H + 1 ≤ n0 + R.cells → nsl H + cx_sl tg ≤ m0 + R.slots → 8 ≤ R.frames → 1000 ≤ R.locals →
  W p l e R s m args below meth c hp locs cells slots (EQ A s0 cid slt below s n0 m0 (.inr (tg, cn H tg)) (nw H tg 0 (cx_sl tg))) (F0 m pc jl [])
end SIM
section JUMPS
variable {P : am_P} {M : Nat} {L : Nat → List Nat} {dep : Nat → Nat} {xl : Nat → Nat → Nat → Nat → Bool} {p : Program} {l : Launch} {e : Env} {A : Nat → Nat → Nat} {s0 : State} {cid : Nat → ClassId} {slt : Nat → Nat → Nat} {f : am_St → am_O}
variable {R : Room} {s : State} {m : MethodId} {args : Array Value} {below : List Frame} {meth : Method} {c : Code} {hp : Heap} {locs : List Loc} {cells slots : Nat} {jl : Array Slot} {n0 m0 : Nat}
theorem SR.mask {ls : am_L} {H : am_H} {nL : Nat} (hS : SR A s0 cid slt n0 m0 nL ls H hp locs cells slots jl) (k : List Bool) : SR A s0 cid slt n0 m0 nL (am_mask k ls) H hp locs cells slots jl := ⟨hS.1, hS.2.1.mask k, hS.2.2⟩
theorem jmp_sim (IH : SIMf P M L dep p l e A s0 cid slt f) {i pc : Nat} {ls : am_L} {st : List am_V} {H H' : am_H} {r : am_R} {bl : Nat → am_B} (h : am_jmp bl f i pc ls st H = some (r, H')) (hi : i < M) (hl : labin (L i) pc = true) (h1 : okh P.1 H) (h2 : okl P.1 H ls) (h3 : oks P.1 H st) (hF : FRM p s0 cid slt s m (mow (imt i))) (hSt : STC A s0 s) (hN : NCs s0 cid s) (hM : MF s (imt i) m meth c) (hS : SR A s0 cid slt n0 m0 (mlo (imt i)) ls H hp locs cells slots jl) (hA : ADR A s0 H')
    (hc : ncl H' ≤ n0 + R.cells) (hs : nsl H' ≤ m0 + R.slots) (hRf : dep i + 8 ≤ R.frames) (hRl : 200 * (dep i + 8) ≤ R.locals) : W p l e R s m args below meth c hp locs cells slots (EQ A s0 cid slt below s n0 m0 r H') (F0 m pc jl (st.map (vv A))) :=
  IH (show f (i, pc, am_mask (bl pc).2.2.2.2.1 ls, st, H) = some (r, H') from h) hi hl h1 (h2.mask _) h3 hF hSt hN hM (hS.mask _) hA hc hs hRf hRl
/-- a reference and its address -/
theorem ref_eq {F : am_OF} {H Hf : am_H} (hA : ADR A s0 Hf) (hf : hle H Hf) {cx : Nat} {x y : Option Nat} (hx : okv F H (rv cx x)) (hy : okv F H (rv cx y)) : x.map (A (rawc cx)) = y.map (A (rawc cx)) ↔ x = y := by
  constructor
  · intro h
    cases x with
    | none =>
      cases y with
      | none => rfl
      | some b => cases h
    | some a =>
      cases y with
      | none => cases h
      | some b =>
        have h' : A (rawc cx) a = A (rawc cx) b := Option.some.inj h
        have key : ∀ i, okv F H (rv cx (some i)) → i < cn Hf (rawc cx) := by
          intro i hi
          have h2 := hi i rfl
          refine Nat.lt_of_lt_of_le ?_ (hf.1 _)
          by_cases hc : 64 ≤ cx ∧ cx < 128
          · simp only [if_pos hc] at h2
            have e1 : Nat.ble 64 cx = true := by rw [Nat.ble_eq]; exact hc.1
            have e2 : Nat.blt cx 128 = true := by rw [Nat.blt_eq]; exact hc.2
            simpa [rawc, e1, e2] using h2
          · simp only [if_neg hc] at h2
            have : rawc cx = cx := by
              unfold rawc
              cases g1 : Nat.ble 64 cx with
              | false => rfl
              | true =>
                cases g2 : Nat.blt cx 128 with
                | false => rfl
                | true => rw [Nat.ble_eq] at g1; rw [Nat.blt_eq] at g2; exact absurd ⟨g1, g2⟩ hc
            rw [this]; exact h2.1
        rw [(hA.2.2 _ _ _ _ (key a hx) (key b hy) h').2]
  · intro h; rw [h]
theorem lk_off : ∀ {ps ps' : List (Int × Int)} {sw : List Nat} {pc tg : Nat} {d x : Int}, ps'.map (·.1) = ps.map (·.1) → (pc : Int) + d = (tg : Int) → ps'.map (fun q => (pc : Int) + q.2) = sw.map Int.ofNat → (pc : Int) + Op.lookupswitch.offset ps' d x = ((am_lk ps sw x tg : Nat) : Int)
  | [], [], sw, pc, tg, d, x, h1, h2, h3 => by
    cases sw with
    | nil => simpa [Op.lookupswitch.offset, am_lk] using h2
    | cons t ts => simp at h3
  | [], q' :: ps', _, _, _, _, _, h1, _, _ => by simp at h1
  | q :: ps, [], _, _, _, _, _, h1, _, _ => by simp at h1
  | (a, b) :: ps, (a', b') :: ps', sw, pc, tg, d, x, h1, h2, h3 => by
    cases sw with
    | nil => simp at h3
    | cons t ts =>
      simp only [List.map_cons, List.cons.injEq] at h1 h3
      have ih := lk_off (ps := ps) (ps' := ps') (sw := ts) (x := x) h1.2 h2 h3.2
      have e1 : a' = a := h1.1
      subst e1
      by_cases hx : x = a'
      · subst hx
        simp only [am_lk, if_true]
        have : Op.lookupswitch.offset ((x, b') :: ps') d x = b' := by simp [Op.lookupswitch.offset]
        rw [this]; exact h3.1
      · simp only [am_lk, if_neg hx]
        have : Op.lookupswitch.offset ((a', b') :: ps') d x = Op.lookupswitch.offset ps' d x := by simp [Op.lookupswitch.offset, Ne.symm hx, hx]
        rw [this]; exact ih
theorem sw_at : ∀ {offs : List Int} {sw : List Nat} {pc : Nat} (k : Nat) {tg : Nat}, offs.map (fun o => (pc : Int) + o) = sw.map Int.ofNat → k < sw.length → ∃ off, offs[k]? = some off ∧ (pc : Int) + off = ((am_sw sw k tg : Nat) : Int)
  | [], [], _, k, _, _, h => by simp at h
  | [], t :: sw, _, k, _, h, _ => by simp at h
  | o :: offs, [], _, k, _, h, _ => by simp at h
  | o :: offs, t :: sw, pc, 0, tg, h, _ => by
    simp only [List.map_cons, List.cons.injEq] at h
    exact ⟨o, rfl, h.1⟩
  | o :: offs, t :: sw, pc, k + 1, tg, h, hk => by
    simp only [List.map_cons, List.cons.injEq] at h
    obtain ⟨off, h1, h2⟩ := sw_at (offs := offs) (sw := sw) k (tg := tg) h.2 (by simpa using hk)
    exact ⟨off, by simpa using h1, h2⟩
end JUMPS
