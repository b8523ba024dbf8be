/-! SIM 20: throwing -/
def XA (X : String) (names : List String) : List Cond :=
  Bundle.throwableAtoms ++ Bundle.chain0Atoms X names ++ [.instantiable X 6, .selects X Bundle.tFill0 Bundle.tFill0, .selects X Bundle.tFill Bundle.tFill, .lays X Bundle.tN "cause" "Ljava/lang/Throwable;", .lays X Bundle.tN "stackTrace" Bundle.steD, .lays X Bundle.tN "suppressedExceptions" Bundle.listD,
    .fieldLink Bundle.tN 198 Bundle.tN "backtrace" "Ljava/lang/Object;", .lays Bundle.tN Bundle.tN "backtrace" "Ljava/lang/Object;", .lays X Bundle.tN "backtrace" "Ljava/lang/Object;"]
theorem zq_get {C n d : String} {A : Nat → Prop} {U : State} {H : Heap} (h : va_Zq C n d A U H) : ∃ (u : RefV) (cf : ClassId) (kf : Class) (fi : Nat) (f : Field) (a : Nat) (cell : Cell), U.fieldFound? C n d = some (cf, kf, fi, f) ∧ kf.statics = some a ∧ H[a]? = some cell ∧ cell.vm.isStatics = true ∧ cell.slots[f.slot]? = some u.v ∧ ¬ A a := by
  rcases h with ⟨cf, kf, fi, f, a, cell, h1, h2, h3, h4, h5, h6, h7, h8⟩ | ⟨t, cf, kf, fi, f, a, cell, h1, h2, h3, h4, h5, h6, h7, h8⟩
  · exact ⟨⟨.null, rfl⟩, cf, kf, fi, f, a, cell, h1, h4, h5, h6, h7, h8⟩
  · exact ⟨⟨.ref t, rfl⟩, cf, kf, fi, f, a, cell, h1, h4, h5, h6, h7, h8⟩
section THROW
variable {p : Program} {l : Launch} {e : Env} {R : Room} {s : State} {m : MethodId} {args : Array Value} {below : List Frame} {meth : Method} {c : Code} {T : State} {locs : List Loc} {cells slots : Nat} {H0 : Heap}
set_option maxHeartbeats 1000000 in
/-- what is made is thrown: nothing else is touched -/
theorem throw_core (X : Stand p l e R s m args below meth c T locs cells slots) (hexec : p.tables.exec = Jvm.exec) (htr : e.platform.stackTraces = false) {cls : String} {names : List String} (hcls : Bundle.fit cls = true) (hnames : ∀ n ∈ names, Bundle.fit n = true) (h : ∀ a ∈ XA cls names, a.before args s = true) {n : Nat}
    (hU : va_Zq Bundle.tN "UNASSIGNED_STACK" Bundle.steD (fun x => n ≤ x) s H0) (hV : va_Zq Bundle.tN "SUPPRESSED_SENTINEL" Bundle.listD (fun x => n ≤ x) s H0) (hlow : ∀ q : Nat, q < n → T.heap[q]? = H0[q]?)
    {a : Addr} {cX : ClassId} {kX : Class} (hfoundX : s.vm.findClass cls = some cX) (hkX : s.vm.classes[cX]? = some kX) (hcell : T.heap[a]? = some (freshCell cX kX)) (hna : n ≤ a)
    {g : JFrame} (hg : g.method = m) (hsize : g.locals.size = c.maxLocals) (hlocked : g.locked = none) (hentered : g.entered = []) {rest : List Value} {ic : Nat}
    (hd6 : decode c.code g.pc = .ok (.invokespecial ic, 3)) (hd9 : decode c.code (g.pc + 3) = .ok (.athrow, 1)) (hout : ∀ x ∈ c.exceptionTable.toList, covers x (g.pc + 3) = false)
    {mk : MethodId} (hmk : s.methodNamed? (Bundle.init0 cls) = some mk) (hB : BEG p l e R s m args below meth c T locs cells slots g (.ref a :: rest) mk [.ref a])
    (hRframes : names.length + 3 < R.frames) (hRlocals : 2 * g.monitorRoom + ((Value.ref a :: rest).map fun v => v.category).sum + (13 * (names.length + 1) + 41) ≤ R.locals) (hlocks : meth.locks = false) :
    ∃ (U : State) (L4 : List Loc), Steps p.tables e below (T.setTop g) U ∧ U.status = .running ∧ Ended U below (.threw a) ∧ s.WarmedH U.vm ∧ s.sameButNew ({ U with vm := s.vm } : State) (locs ++ L4) cells slots ∧ (∀ x ∈ L4, x.base = a) ∧
      (∃ ce, U.heap[a]? = some ce ∧ ce.cls = cX ∧ ce.vm = .none) ∧ (∀ q : Nat, q ≠ a → U.heap[q]? = T.heap[q]?) ∧ U.heap.size = T.heap.size := by
  have howns : e.platform.frameOwnsMonitors = true := by rw [X.admits.platform]
  have hfin : e.platform.finalization = false := by rw [X.admits.platform]
  have hpl : e.platform.magicAccessors = ({} : Platform).magicAccessors := by rw [X.admits.platform]
  have a' : ∀ x, x ∈ XA cls names → x.holds args s none s [] = true := fun x hx => h x hx
  obtain ⟨Z0, Z, L, LZ, Y⟩ := ThrowableC.of_atoms (args := args) howns hfin hpl (fun x hx => h x (by simp [XA, hx]))
  obtain ⟨P1, Ps, hlen, L1, hL, hP1m, hlink1, hlink⟩ := Bundle.chain0 (args := args) hpl Y.init0 names cls hcls hnames (fun x hx => h x (by simp [XA, hx]))
  cases hP1m.symm.trans hmk
  have hfound : s.vm.findClass cls = some P1.m.cls := findClass_of_methodNamed hP1m
  cases Option.some.inj (hfoundX.symm.trans hfound)
  obtain ⟨c1, kX', hc1, hk, hord, -, -, hn6⟩ := Cond.instantiable_spec (a' (.instantiable cls 6) (by simp [XA]))
  cases Option.some.inj (hc1.symm.trans hfound)
  cases Option.some.inj (hkX.symm.trans hk)
  have hsel0 : selectMethod e.platform s.vm P1.m.cls Z0.fill0 = .method Z0.fill0 := by
    obtain ⟨c2, r2, m2, q1, q2, q3, q4, -⟩ := Cond.selects_spec (a' (.selects cls Bundle.tFill0 Bundle.tFill0) (by simp [XA]))
    cases Option.some.inj (q1.symm.trans hfound)
    cases Option.some.inj (q2.symm.trans (State.methodFound?_of_named Y.fill0 (by decide)))
    cases Option.some.inj (q3.symm.trans Y.fill0)
    rw [Launch.admits_selectMethod X.admits]; exact q4
  have hselF : selectMethod e.platform s.vm P1.m.cls Z0.fill = .method Z0.fill := by
    obtain ⟨c2, r2, m2, q1, q2, q3, q4, -⟩ := Cond.selects_spec (a' (.selects cls Bundle.tFill Bundle.tFill) (by simp [XA]))
    cases Option.some.inj (q1.symm.trans hfound)
    cases Option.some.inj (q2.symm.trans (State.methodFound?_of_named Y.fill (by decide)))
    cases Option.some.inj (q3.symm.trans Y.fill)
    rw [Launch.admits_selectMethod X.admits]; exact q4
  obtain ⟨u0, cfU, kfU, fiU, fU, aU, cellU, hu1, hu2, hu3, hu4, hu5, hu6⟩ := zq_get hU
  cases hu1.symm.trans Y.unassigned
  cases hu2.symm.trans L.statics
  obtain ⟨sen, cfV, kfV, fiV, fV, aV, cellV, hv1, hv2, hv3, hv4, hv5, hv6⟩ := zq_get hV
  cases hv1.symm.trans Y.sentinel
  cases hv2.symm.trans L.statics
  cases hu3.symm.trans hv3
  have hlt : Z0.aS < n := Nat.lt_of_not_le hu6
  have hcellS : T.heap[Z0.aS]? = some cellU := by rw [hlow _ hlt]; exact hu3
  have hknownS : cellU.vm ≠ .unknown := by
    intro hu
    rw [hu] at hu4
    cases hu4
  have hneS : Z0.aS ≠ a := Nat.ne_of_lt (Nat.lt_of_lt_of_le hlt hna)
  obtain ⟨ci198, i198, fB, hk198, hg198, ha198, hsB, -, hnB, htB, hffB⟩ := Cond.ownField (t := .object "java/lang/Object") Y.found L.cls (by decide +kernel) (a' (.fieldLink Bundle.tN 198 Bundle.tN "backtrace" "Ljava/lang/Object;") (by simp [XA])) (a' (.lays Bundle.tN Bundle.tN "backtrace" "Ljava/lang/Object;") (by simp [XA])) e.platform hpl
  obtain ⟨tyC, dC, hdC, hdnC⟩ := Cond.laysAt hfound hk Y.cause (a' (.lays cls Bundle.tN "cause" "Ljava/lang/Throwable;") (by simp [XA]))
  obtain ⟨tyS, dS, hdS, hdnS⟩ := Cond.laysAt hfound hk Y.stack (a' (.lays cls Bundle.tN "stackTrace" Bundle.steD) (by simp [XA]))
  obtain ⟨tyP, dP, hdP, hdnP⟩ := Cond.laysAt hfound hk Y.supp (a' (.lays cls Bundle.tN "suppressedExceptions" Bundle.listD) (by simp [XA]))
  obtain ⟨tyB, dB, hdB, hdnB⟩ := Cond.laysAt hfound hk hffB (a' (.lays cls Bundle.tN "backtrace" "Ljava/lang/Object;") (by simp [XA]))
  have bC := Cond.laysApart hdB hdC hdnB hdnC (by rw [hnB, Y.causeName]; decide)
  have bS := Cond.laysApart hdB hdS hdnB hdnS (by rw [hnB, Y.stackName]; decide)
  have bP := Cond.laysApart hdB hdP hdnB hdnP (by rw [hnB, Y.suppName]; decide)
  obtain ⟨vm₁, X₁, hgo⟩ := hB
  have hskip : SkipFacts Z0 e.platform s (fun u => u) u0 ((preparedCellV Z0.toThrowableT (freshCell P1.m.cls kX) a u0 sen).withEntry (T.setVm vm₁).cur) :=
    ⟨{ ci198 := ci198, i198 := i198, fBack := fB }, ⟨hk198, hg198, ha198, hsB⟩, by
      have := fresh_default (c := P1.m.cls) tyB
      rw [htB] at this
      simpa [preparedCellV, Cell.setSlot, Cell.withEntry, Array.getElem?_setIfInBounds, bC, bS, bP, bC.symm, bS.symm, bP.symm, defaultValue] using this, fun _ _ => rfl⟩
  obtain ⟨vm₂, X₂, st2⟩ := X₁.ctorPlainOffV hexec (g := { g with stack := .ref a :: rest }) hg hsize Z0 L Z LZ (P1 :: Ps)
    (fun P hP => by rcases List.mem_cons.mp hP with rfl | hP; exact L1; exact hL P hP) ⟨hlink1, hlink⟩ (u0 := u0) (sen := sen) (self := a) (cell := freshCell P1.m.cls kX) (cellS := cellU)
    hcell (fun _ => by simp) (by simp) rfl rfl hsel0 hselF hcellS hneS hknownS hu5 hv5
    (Takes.of_laid hk hord tyC (by rw [Y.causeType]; rfl)) (Takes.of_laid hk hord tyS (by rw [Y.stackType]; exact fits_refV_array _ u0)) (Takes.of_laid hk hord tyP (by rw [Y.suppType]; exact fits_refV_object _ sen)) Y.objLocals hskip htr [] hd6
    (by simp only [List.length_cons, hlen]; omega) (by simp only [List.length_cons, hlen]; exact hRlocals)
  obtain ⟨hwalk, hrun, hended, hWU, hsame⟩ := X₂.athrowLeaves hexec (g := { g with stack := .ref a :: rest, pc := g.pc + 3 }) hg hlocked hentered hout (a := a) (rest := rest) rfl hd9 hlocks
  have hlta : a < ((T.setVm vm₁).setVm vm₂).heap.size := (Array.getElem?_eq_some_iff.mp hcell).1
  have hUa := heapAt_setCell_self (s := (T.setVm vm₁).setVm vm₂) ((preparedCellV Z0.toThrowableT (freshCell P1.m.cls kX) a u0 sen).setSlot Z0.fStack.slot u0.v) hlta
  refine ⟨_, _, hgo _ (fun acts => ?_), hrun, hended, hWU, hsame, ?_, ⟨_, hUa, rfl, rfl⟩, ?_, ?_⟩
  · rw [doInvoke_state]
    exact st2 _ hwalk
  · intro x hx
    simp only [List.mem_cons, List.not_mem_nil, or_false] at hx
    rcases hx with rfl | rfl | rfl | rfl <;> rfl
  · intro q hq
    show (((T.setVm vm₁).setVm vm₂).setCell a _).heap[q]? = T.heap[q]?
    simp [State.setCell, Array.getElem?_setIfInBounds, Ne.symm hq]
  · show (((T.setVm vm₁).setVm vm₂).setCell a _).heap.size = T.heap.size
    simp [State.setCell]
end THROW
