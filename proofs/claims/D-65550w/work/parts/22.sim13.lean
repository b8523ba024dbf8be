/-! SIM 13: methods, invocations -/
def MF (s : State) (n : Nat) (m : MethodId) (meth : Method) (c : Code) : Prop :=
  s.methodNamed? (mth n) = some m ∧ s.vm.method? m = some meth ∧ meth.code = some c ∧ c.code = mby n ∧ c.maxLocals = mlo n ∧ meth.sig.returnType = mre n ∧ meth.locks = false ∧ c.exceptionTable.toList.map (fun h => (h.startPc, h.endPc, h.handlerPc, h.catchType)) = mha n ∧ parseMethodDescriptor (mth n).desc = some meth.sig
theorem cwd_ok (n : Nat) : okw (cwd n) = true := by
  unfold cwd
  split <;> rfl
theorem mf_of {s : State} {n : Nat} (hT : TB s) (h1 : 1 ≤ n) (h2 : n < 629) : ∃ m meth c, MF s n m meth c := by
  have hw := hT _ (wokM_ok n h1 h2).1 (cwd_ok n) #[]
  unfold cwd at hw
  split at hw
  · rename_i hn
    obtain ⟨m, hnamed⟩ := Cond.code_named hw
    obtain ⟨meth, c, a1, a2, a3, a4, a5, a6, a7, a8⟩ := Cond.code_spec hnamed hw
    refine ⟨m, meth, c, hnamed, a1, a2, a3, a4, a5, a6, ?_, a8⟩
    rw [hn]
    have : c.exceptionTable = #[] := by simpa using a7
    rw [this]
    rfl
  · rename_i h hh hn
    obtain ⟨m, meth, c, a0, a1, a2, a3, a4, a5, a6, a7, a8⟩ := Cond.codeWith_spec hw
    exact ⟨m, meth, c, a0, a1, a2, a3, a4, a6, a7, by rw [hn]; exact a5, a8⟩
theorem MF.cls {s : State} {n : Nat} {m : MethodId} {meth : Method} {c : Code} (h : MF s n m meth c) (h2 : n < 629) : s.vm.findClass (cx_nm (mow n)) = some m.cls := by
  rw [← mow_ok n (lt0 n) h2]; exact findClass_of_methodNamed h.1
theorem MF.plain {s : State} {n : Nat} {m : MethodId} {meth : Method} {c : Code} (h : MF s n m meth c) (h2 : n < 629) : s.plainMethod m :=
  State.plainMethod.of_named (mowl_ok n (lt0 n) h2).2.2.1 h.1 h.2.1
theorem MF.move {s U : State} {n : Nat} {m : MethodId} {meth : Method} {c : Code} (h : MF s n m meth c) (hn : U.methodNamed? (mth n) = some m) (hm : U.vm.method? m = some meth) : MF U n m meth c := ⟨hn, hm, h.2.2⟩
def mlk (own idx n : Nat) : Bool := (mlkL own).any (fun e => Nat.beq e.1 idx && Nat.beq e.2.2 n)
theorem mlk_spec {own idx n : Nat} (h : mlk own idx n = true) : Cond.methodLink (cx_nm own) idx (mth n) ∈ lw_tbl ∨ Cond.methodLinkNest (cx_nm own) idx (mth n) "WholeWarehouse" ∈ lw_tbl := by
  simp only [mlk, List.any_eq_true, Bool.and_eq_true, Nat.beq_eq] at h
  obtain ⟨⟨i, t, n'⟩, he, rfl, rfl⟩ := h
  have := mlkL_ok own _ he
  unfold wokL at this
  simp only at this
  split at this
  · exact Or.inl this
  · exact Or.inr this
  · exact this.elim
def mlp (own idx n : Nat) : Bool := (mlkL own).any (fun e => Nat.beq e.1 idx && (Nat.beq e.2.2 n && Nat.beq e.2.1 1))
theorem mlp_spec {own idx n : Nat} (h : mlp own idx n = true) : Cond.methodLink (cx_nm own) idx (mth n) ∈ lw_tbl := by
  simp only [mlp, List.any_eq_true, Bool.and_eq_true, Nat.beq_eq] at h
  obtain ⟨⟨i, t, n'⟩, he, rfl, rfl, rfl⟩ := h
  exact mlkL_ok own _ he
section INV
variable {p : Program} {l : Launch} {e : Env} {R : Room} {s : State} {m : MethodId} {args : Array Value} {below : List Frame} {meth : Method} {c : Code} {T : State} {locs : List Loc} {cells slots : Nat}
variable {s0 : State} {cid : Nat → ClassId} {slt : Nat → Nat → Nat} {own : Nat}
/-- an invocation has begun -/
def BEG (p : Program) (l : Launch) (e : Env) (R : Room) (s : State) (m : MethodId) (args : Array Value) (below : List Frame) (meth : Method) (c : Code) (T : State) (locs : List Loc) (cells slots : Nat) (g : JFrame) (rest : List Value) (mk : MethodId) (as : List Value) : Prop :=
  ∃ vm₁, Stand p l e R s m args below meth c (T.setVm vm₁) locs cells slots ∧ ∀ target, (∀ acts, Steps p.tables e below (doInvoke e ((T.setVm vm₁).setTop { g with stack := rest }) acts mk as.toArray).1 target) → Steps p.tables e below (T.setTop g) target
theorem len_ok {n : Nat} (h2 : n < 629) {as : List Value} (hl : as.length = mpar n) : ∀ sig, parseMethodDescriptor (mth n).desc = some sig → as.length = sig.parameters.length := by
  intro sig hs
  have := mpar_ok n (lt0 n) h2
  unfold mparP at this
  rw [hs] at this
  rw [hl]
  exact (Option.some.inj this).symm
theorem inv_static (X : Stand p l e R s m args below meth c T locs cells slots) (hF : FRM p s0 cid slt s m own) {n i : Nat} (h1 : 1 ≤ n) (h2 : n < 629) (hk : mki n = 0) (hl : mlk own i n = true) {mk : MethodId} {methk : Method} {ck : Code} (hM : MF s n mk methk ck)
    {g : JFrame} (hg : g.method = m) {as rest : List Value} (hlen : as.length = mpar n) (hstack : g.stack = as.reverse ++ rest) (hdg : decode c.code g.pc = .ok (.invokestatic i, 3)) : BEG p l e R s m args below meth c T locs cells slots g rest mk as := by
  have hw := (wokM_ok n h1 h2).2
  rw [hk] at hw
  have hstatic : methk.isStatic = true := Cond.static_spec hM.1 hM.2.1 (hF.2.2.1 _ hw.1 rfl args)
  obtain ⟨kP, hkP, -⟩ := className_of_methodNamed hM.1
  have hinitP : kP.init = .initialized := Cond.initialized_spec (findClass_of_methodNamed hM.1) hkP (hF.2.2.1 _ hw.2 rfl args)
  have hy := pl_ok _ (lt0 _) (mowl_ok n (lt0 n) h2).1
  unfold plP at hy
  rw [← mow_ok n (lt0 n) h2] at hy
  rcases mlk_spec hl with hlw | hlw
  · exact X.invokestatic hF.1 hF.2.2.2.2 (hF.2.2.1 _ hlw rfl args) hM.1 hM.2.1 hstatic hkP hinitP hy hg (len_ok h2 hlen _ hM.2.2.2.2.2.2.2.2) hstack hdg
  · exact X.invokestaticNest hF.1 hF.2.2.2.2 (hF.2.2.1 _ hlw rfl args) hM.1 hM.2.1 hstatic hkP hinitP hy hg (len_ok h2 hlen _ hM.2.2.2.2.2.2.2.2) hstack hdg
theorem inv_virtual (X : Stand p l e R s m args below meth c T locs cells slots) (hF : FRM p s0 cid slt s m own) {n i : Nat} (h1 : 1 ≤ n) (h2 : n < 629) (hk : mki n = 1) (hl : mlp own i n = true) {mk : MethodId} {methk : Method} {ck : Code} (hM : MF s n mk methk ck)
    {g : JFrame} (hg : g.method = m) {b : Addr} {cellB : Cell} (hcell : T.heap[b]? = some cellB) (hobj : cellB.vm = .none) (hcls : s.vm.findClass (mth n).cls = some cellB.cls) {as rest : List Value} (hlen : as.length = mpar n) (hstack : g.stack = as.reverse ++ .ref b :: rest) (hdg : decode c.code g.pc = .ok (.invokevirtual i, 3)) : BEG p l e R s m args below meth c T locs cells slots g rest mk (.ref b :: as) := by
  have hw := (wokM_ok n h1 h2).2
  rw [hk] at hw
  have hy := pl_ok _ (lt0 _) (mowl_ok n (lt0 n) h2).1
  unfold plP at hy
  rw [← mow_ok n (lt0 n) h2] at hy
  obtain ⟨mk', methM, hnamed, hmethM, hstM, habM⟩ := Cond.instanceMethod_spec (hF.2.2.1 _ hw.1 rfl args)
  cases hnamed.symm.trans hM.1
  cases hmethM.symm.trans hM.2.1
  have okS : okw (Cond.selects (mth n).cls (mth n) (mth n)) = true := rfl
  obtain ⟨c2, r2, m2, q1, q2, q3, q4, kP, hkP, hkPi⟩ := Cond.selects_spec (hF.2.2.1 _ hw.2 okS args)
  cases hcls.symm.trans q1
  cases (State.methodFound?_of_named hM.1 hy).symm.trans q2
  cases hM.1.symm.trans q3
  have hselP : selectMethod e.platform s.vm cellB.cls mk = .method mk := by rw [Launch.admits_selectMethod X.admits]; exact q4
  exact X.invokevirtual hF.1 hF.2.2.2.2 (hF.2.2.1 _ (mlp_spec hl) rfl args) hM.1 hM.2.1 hstM hkP hkPi hy (a := b) (cell := cellB) hcell (fun z h => by rw [hobj] at h; cases h) hselP hM.2.1 habM hkP hkPi (g := g) hg (argsL := as) (rest := rest) (len_ok h2 hlen _ hM.2.2.2.2.2.2.2.2) hstack hdg
theorem inv_init (X : Stand p l e R s m args below meth c T locs cells slots) (hF : FRM p s0 cid slt s m own) {n i : Nat} (h1 : 1 ≤ n) (h2 : n < 629) (hk : mki n = 2) (hl : mlk own i n = true) {mk : MethodId} {methk : Method} {ck : Code} (hM : MF s n mk methk ck)
    {g : JFrame} (hg : g.method = m) {b : Addr} {as rest : List Value} (hlen : as.length = mpar n) (hstack : g.stack = as.reverse ++ .ref b :: rest) (hdg : decode c.code g.pc = .ok (.invokespecial i, 3)) : BEG p l e R s m args below meth c T locs cells slots g rest mk (.ref b :: as) := by
  have hwM := wokM_ok n h1 h2
  have hw := hwM.2
  rw [hk] at hw
  obtain ⟨-, -, -, hinf⟩ := mowl_ok n (lt0 n) h2
  obtain ⟨hname, hha, hre⟩ := hinf hk
  have hy := pl_ok _ (lt0 _) (mowl_ok n (lt0 n) h2).1
  unfold plP at hy
  rw [← mow_ok n (lt0 n) h2] at hy
  have hcode : (Cond.code (mth n) (mby n) (mlo n) none).before args s = true := by
    have := hF.2.2.1 _ hwM.1 (cwd_ok n) args
    unfold cwd at this
    rw [hha] at this
    rw [← hre]
    exact this
  have hpl : e.platform.magicAccessors = ({} : Platform).magicAccessors := by rw [X.admits.platform]
  subst hg
  rcases mlk_spec hl with hlw | hlw
  · obtain ⟨mk', methM, cM, kP, vm₁, hnamed, hmethM, -, -, -, -, -, -, hW₁, hstep₁⟩ := Steps.initColdArgs (e := e) X.here hF.1 X.warmed hpl hF.2.2.2.2 hname hy (hF.2.2.1 _ hlw rfl args) (hF.2.2.1 _ hw rfl args) hcode (f := g) rfl (len_ok h2 hlen) hstack hdg
    cases hnamed.symm.trans hM.1
    exact ⟨vm₁, X.noted hW₁, hstep₁⟩
  · obtain ⟨mk', methM, cM, kP, vm₁, hnamed, hmethM, -, -, -, -, -, -, hW₁, hstep₁⟩ := Steps.initColdArgsNest (e := e) X.here hF.1 X.warmed hpl hF.2.2.2.2 hname hy (hF.2.2.1 _ hlw rfl args) (hF.2.2.1 _ hw rfl args) hcode (f := g) rfl (len_ok h2 hlen) hstack hdg
    cases hnamed.symm.trans hM.1
    exact ⟨vm₁, X.noted hW₁, hstep₁⟩
/-- the inner walk, and what it comes to -/
theorem call_in (X : Stand p l e R s m args below meth c T locs cells slots) {g : JFrame} (hg : g.method = m) (hsize : g.locals.size = c.maxLocals) {ig : Instr} {len : Nat} (hdg : decode c.code g.pc = .ok (ig, len)) {mk : MethodId} {methk : Method} {ck : Code} (a : Array Value) {R' : Room}
    (hmk : T.vm.method? mk = some methk) (hck : methk.code = some ck) (hlk : methk.locks = false) (hpk : T.plainMethod mk) (hframes : R'.frames + 1 ≤ R.frames) (hlocals : 2 * g.monitorRoom + (g.stack.map fun v => v.category).sum + (ck.maxLocals + 11) + R'.locals ≤ R.locals) (hcells : cells + R'.cells ≤ R.cells) (hslots : slots + R'.slots ≤ R.slots)
    {Qk : State → Prop} (hW : W p l e R' (T.calling g mk a) mk a (.java g :: below) methk ck T.heap [] 0 0 Qk (entryFrame mk a ck.maxLocals)) :
    ∃ t, Qk t ∧ ∀ acts, Steps p.tables e below (doInvoke e (T.setTop g) acts mk a).1 t := by
  obtain ⟨Y₀, hin⟩ := X.into hg hsize hdg a (R' := R') hmk hck hlk hpk hframes hlocals hcells hslots
  obtain ⟨t, st, q⟩ := hW _ (by simp [State.pushFrame, State.setFrames, State.setTop, State.modifyTopJava]) Y₀
  refine ⟨t, q, fun acts => ?_⟩
  rw [hin acts]
  exact Steps.weaken (mid := [.java g]) st
end INV
