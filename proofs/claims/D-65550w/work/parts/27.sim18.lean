/-! SIM 18: the end of a block; a whole step; the run -/
theorem rk_I {r : Option FieldType} (h : rkok 1 r = true) : r = some .int := by
  cases r with
  | none => cases h
  | some t => cases t <;> first | rfl | cases h
theorem rk_Z {r : Option FieldType} (h : rkok 4 r = true) : r = some .boolean := by
  cases r with
  | none => cases h
  | some t => cases t <;> first | rfl | cases h
theorem rk_L {r : Option FieldType} (h : rkok 2 r = true) : r = some .long := by
  cases r with
  | none => cases h
  | some t => cases t <;> first | rfl | cases h
theorem rk_V {r : Option FieldType} (h : rkok 0 r = true) : r = none := by
  cases r with
  | none => rfl
  | some t => cases t <;> cases h
theorem rk_R {k : Nat} {r : Option FieldType} (h : rkok k r = true) (hk : 100 ≤ k) : ∃ t, r = some t ∧ ((∃ n, t = .object n) ∨ ∃ u, t = .array u) := by
  cases r with
  | none =>
    simp only [rkok, Nat.beq_eq] at h
    omega
  | some t =>
    cases t <;> first
      | exact ⟨_, rfl, Or.inl ⟨_, rfl⟩⟩
      | exact ⟨_, rfl, Or.inr ⟨_, rfl⟩⟩
      | (cases h; done)
      | (simp only [rkok, Nat.beq_eq] at h; omega)
section TERM
variable {P : am_P} {M : Nat} {L : Nat → List Nat} {dep : Nat → Nat} {xl : Nat → Nat → Nat → Nat → Bool} {p : Program} {l : Launch} {e : Env} {A : Nat → Nat → Nat} {s0 : State} {cid : Nat → ClassId} {slt : Nat → Nat → Nat} {f : am_St → am_O}
variable {R : Room} {s : State} {m : MethodId} {args : Array Value} {below : List Frame} {meth : Method} {c : Code} {hp : Heap} {locs : List Loc} {cells slots : Nat} {jl : Array Slot} {n0 m0 : Nat}
theorem iok_spec {i : Nat} (h : iok P i = true) : imt i < 629 ∧ rkok (P.2 i).2.2.1 (mre (imt i)) = true ∧ (P.2 i).1 = (bif Nat.beq (mki (imt i)) 0 then mpar (imt i) else mpar (imt i) + 1) ∧ (P.2 i).2.1 = mlo (imt i) := by
  simp only [iok, Bool.and_eq_true, Nat.blt_eq, Nat.beq_eq] at h
  exact h
/-- behind a call: it goes on, or on with what is thrown -/
theorem ret_sim (hP : progok P M L) (hR : runok P M L f) (IH : SIMf P M L dep p l e A s0 cid slt f) {i tg nx pc rk : Nat} (hi : i < M) (htg : tg < M) (hnx : labin (L i) (pc + 3) = true) (hdep : dep tg < dep i) {as rest st0 : List am_V} {ls : am_L} {H H' : am_H} {r : am_R} {bl bl' : Nat → am_B} {hs : List (Nat × Nat)} (hhs : hsok (L i) hs = true) (hck : hck (mow (imt i)) pc (mha (imt i)) hs = true) (hnx' : nx = pc + 3)
    (h : (match rk with
          | 0 => bV (am_jmp bl' f tg 0 (am_ent as) [] H) (fun K => am_jmp bl f i nx ls rest K) (am_hd bl f i ls hs)
          | 1 => bI (am_jmp bl' f tg 0 (am_ent as) [] H) (fun x K => am_jmp bl f i nx ls (iv x :: rest) K) (am_hd bl f i ls hs)
          | 4 => bI (am_jmp bl' f tg 0 (am_ent as) [] H) (fun x K => am_jmp bl f i nx ls (iv x :: rest) K) (am_hd bl f i ls hs)
          | 2 => bL (am_jmp bl' f tg 0 (am_ent as) [] H) (fun x K => am_jmp bl f i nx ls (lv x :: rest) K) (am_hd bl f i ls hs)
          | n => bR (n - 100) (am_jmp bl' f tg 0 (am_ent as) [] H) (fun x K => am_jmp bl f i nx ls (rv (n - 100) x :: rest) K) (am_hd bl f i ls hs)) = some (r, H'))
    (h1 : okh P.1 H) (h2 : okl P.1 H ls) (h3 : oks P.1 H as) (h4 : oks P.1 H rest)
    (hF : FRM p s0 cid slt s m (mow (imt i))) (hSt : STC A s0 s) (hN : NCs s0 cid s) (hM : MF s (imt i) m meth c) (hS : SR A s0 cid slt n0 m0 (mlo (imt i)) ls H hp locs cells slots jl) (hA : ADR A s0 H') (hc : ncl H' ≤ n0 + R.cells) (hs' : nsl H' ≤ m0 + R.slots) (hRf : dep i + 8 ≤ R.frames) (hRl : 200 * (dep i + 8) ≤ R.locals)
    (hn : imt tg < 629) (hrl : rest.length ≤ 17) (hel : (am_ent as).length ≤ mlo (imt tg)) {mk : MethodId} {methk : Method} {ck : Code} (hMk : MF s (imt tg) mk methk ck) {ins : Instr} (hdg : decode c.code pc = .ok (ins, 3)) {T : State} (hT : T.heap = hp) (X : Stand p l e R s m args below meth c T locs cells slots)
    (hB : BEG p l e R s m args below meth c T locs cells slots (F0 m pc jl (st0.map (vv A))) (rest.map (vv A)) mk (as.map (vv A))) :
    ∃ t, Steps p.tables e below (T.setTop (F0 m pc jl (st0.map (vv A)))) t ∧ EQ A s0 cid slt below s n0 m0 r H' t := by
  subst hnx'
  rcases ho : am_jmp bl' f tg 0 (am_ent as) [] H with _ | ⟨o, K⟩
  · exfalso
    rw [ho] at h
    split at h <;> cases h
  obtain ⟨a1, a2, a3, a4⟩ := jmp_ok hR ho htg (hP.2.1 tg htg) h1 (ent_ok h3) (fun v hv => by cases hv)
  rw [ho] at h
  rcases o with v | q
  · -- it returned
    have hj : ∃ st', am_jmp bl f i (pc + 3) ls st' K = some (r, H') ∧ oks P.1 K st' ∧ st'.map (vv A) = (v.map (vv A)).toList ++ rest.map (vv A) := by
      rcases v with _ | (x | x | ⟨cx, x⟩)
      · split at h <;> first | (cases h; done) | exact ⟨_, h, h4.up a1 a2, rfl⟩
      · split at h <;> first | (cases h; done) | exact ⟨_, h, oks.cons (v := iv x) trivial (h4.up a1 a2), rfl⟩
      · split at h <;> first | (cases h; done) | exact ⟨_, h, oks.cons (v := lv x) trivial (h4.up a1 a2), rfl⟩
      · split at h <;> first | (cases h; done) | skip
        unfold bR at h
        simp only at h
        split at h
        · rename_i e0
          refine ⟨_, h, (h4.up a1 a2).cons (by rw [← e0]; exact a4), ?_⟩
          rw [← e0]; rfl
        · cases h
    obtain ⟨st', hj, hok, hst⟩ := hj
    obtain ⟨b1, b2, b3, b4⟩ := jmp_ok hR hj hi hnx a3 (h2.up a1 a2) hok
    refine call_sim hP hR IH htg hdep ho h1 h3 hF hSt hN hM hS hA b1 hc hs' hRf hRl hn hrl hel hMk hdg hT X hB ?_ (fun q T' _ _ _ hq => by cases hq)
    intro v' hp' locs' cells' slots' hv hS'
    cases hv
    rw [← hst]
    exact jmp_sim IH hj hi hnx a3 (h2.up a1 a2) hok hF hSt hN hM hS' hA hc hs' hRf hRl
  · have h' : am_hd bl f i ls hs q.1 q.2 K = some (r, H') := by split at h <;> exact h
    obtain ⟨b1, b2, b3, b4⟩ := hd_ok hR hi h' hhs a3 (h2.up a1 a2) a4.1 a4.2
    refine call_sim hP hR IH htg hdep ho h1 h3 hF hSt hN hM hS hA b1 hc hs' hRf hRl hn hrl hel hMk hdg hT X hB (fun v _ _ _ _ hv => by cases hv) ?_
    intro q' T' locs' cells' slots' hq X' hS'
    cases hq
    exact exc_sim IH hi h' hhs hck a3 (h2.up a1 a2) a4 hF hSt hN hM hA hc hs' hRf hRl X' hS'
end TERM
