/-! SIM 15: what is thrown is caught -/
section FIND
variable {e : Env} {s : State} {f : JFrame} {a : Addr}
theorem fx_link {Q : Handler → Pre} {E : CtlPost} {d : Bool} {acts : List Action} {x : ExceptionTableEntry} {t : List ExceptionTableEntry} {c : ClassId} {cell : Cell} (hx : covers x f.pc = true) (h0 : x.catchType ≠ 0)
    (hl : s.vm.ClassLinks e.platform f.method.cls x.catchType c) (hcell : s.heap[a]? = some cell) (hobj : ∀ k, cell.vm ≠ .statics k) (hk : ∃ k, s.vm.classes[cell.cls]? = some k) (hc : ∃ k, s.vm.classes[c]? = some k) :
    (s.vm.assignable cell.cls c = true → (wp (findHandler.go f a (x :: t)) Q E e d acts s ↔ Q (.found x.handlerPc) d acts (s.setVm (s.vm.noted f.method.cls x.catchType (.cls c))))) ∧
    (s.vm.assignable cell.cls c = false → (wp (findHandler.go f a (x :: t)) Q E e d acts s ↔ wp (findHandler.go f a t) Q E e d acts (s.setVm (s.vm.noted f.method.cls x.catchType (.cls c))))) := by
  simp only [covers] at hx
  obtain ⟨ha, ht⟩ := (resolveClass_links e.toSetting hl).op (op := VmOp.resolveClass f.method.cls x.catchType) rfl
  have hal : s.vm.Alike (s.vm.noted f.method.cls x.catchType (.cls c)) := (Vm.Alike.refl s.vm).noted _ _ _
  obtain ⟨k1, hk1⟩ := hk
  obtain ⟨k2, hk2⟩ := hc
  obtain ⟨k1', hk1', -⟩ := hal.2.2 _ _ hk1
  obtain ⟨k2', hk2', -⟩ := hal.2.2 _ _ hk2
  constructor
  · intro hfit
    have hfit' : (s.vm.noted f.method.cls x.catchType (.cls c)).assignable cell.cls c = true := by rw [hal.assignable]; exact hfit
    simp [findHandler.go, hx, h0, ha, ht, hcell, hobj, hk1', hk2', hfit', VmOp.dirties, VmOp.acts]
  · intro hfit
    have hfit' : (s.vm.noted f.method.cls x.catchType (.cls c)).assignable cell.cls c = false := by rw [hal.assignable]; exact hfit
    simp [findHandler.go, hx, h0, ha, ht, hcell, hobj, hk1', hk2', hfit', VmOp.dirties, VmOp.acts]
def FTo (e : Env) (s : State) (f : JFrame) (a : Addr) (h : Handler) (vm' : Vm) : Prop :=
  ∀ (Q : Handler → Pre) (E : CtlPost) (d : Bool) (acts : List Action), wp (findHandler f a) Q E e d acts s ↔ Q h d acts (s.setVm vm')
theorem sx_throwing {r : List Frame} {pc : Nat} {vm' : Vm} (hfind : FTo e s f a (.found pc) vm') :
    (stepThrowing e s a (.java f :: r)).Is ((s.setVm vm').setFrames (.java { f with pc := pc, stack := [.ref a] } :: r)) [] := by
  simp only [stepThrowing, searchFrame, vmDo]
  generalize hr : Sem.go _ e false [] s = res
  obtain ⟨as, rfl, ha⟩ := Sem.eq_ok_of hr (a := Handler.found pc) (s' := s.setVm vm') (acts' := []) (by simp [hfind _ _ _ _])
  exact ⟨rfl, ha⟩
theorem sx_frames (u : State) (vm' : Vm) (F G : List Frame) : ((u.setFrames F).setVm vm').setFrames G = (u.setVm vm').setFrames G := by
  have h1 : (u.setFrames F).setVm vm' = (u.setVm vm').setFrames F := rfl
  rw [h1, State.setFrames_setFrames]
theorem sx_caught {tb : Tables} {T target : State} {g : JFrame} {c : Code} {below : List Frame} (h : At T g.method c below) {pc : Nat} {vm' : Vm}
    (hfind : FTo e ((T.setTop g).pushFrame (.throwing a)) g a (.found pc) vm') (hrest : Steps tb e below ((T.setVm vm').setTop { g with pc := pc, stack := [.ref a] }) target) :
    Steps tb e below ((T.setTop g).pushFrame (.throwing a)) target := by
  obtain ⟨hgo, hw⟩ := h.throwing a
  refine Steps.head hgo hw ?_
  rw [stepThread_throwing (frames_entered h.top _), (sx_throwing (s := (T.setTop g).pushFrame (.throwing a)) hfind).1]
  obtain ⟨g₀, hg⟩ := Option.isSome_iff_exists.mp h.top
  obtain ⟨r, hr⟩ := State.topJava?_eq_some.mp hg
  have hr' : (T.setVm vm').frames = .java g₀ :: r := hr
  rw [State.setTop_of_frames _ hr'] at hrest
  rw [hr, List.tail_cons, State.pushFrame, sx_frames, State.setTop_of_frames _ hr, sx_frames]
  exact hrest
end FIND
theorem excb_pos {c : Nat} (h : excb c = true) : 1 ≤ c := by
  simp only [excb, Bool.or_eq_true, Bool.and_eq_true, Nat.beq_eq, Nat.ble_eq] at h
  omega
/-- the entry that catches -/
def hfind (c : Nat) : List (Nat × Nat) → Option Nat
  | [] => none
  | (d, pc) :: r => if c = d then some pc else hfind c r
/-- exceptions of one class are no exceptions of another -/
def NCs (s0 : State) (cid : Nat → ClassId) (s : State) : Prop := (∀ c d, excb c = true → excb d = true → c ≠ d → s.vm.assignable (cid c) (cid d) = false) ∧ ∀ q : Nat, q < s0.heap.size → s.heap[q]? = s0.heap[q]?
section SEARCH
variable {p : Program} {e : Env} {s : State} {m : MethodId} {s0 : State} {cid : Nat → ClassId} {slt : Nat → Nat → Nat} {own : Nat}
theorem search_ok (hF : FRM p s0 cid slt s m own) (hN : NCs s0 cid s) (hpl : e.platform.magicAccessors = ({} : Platform).magicAccessors) {f : JFrame} (hf : f.method = m) {a : Addr} {cell : Cell} {c0 : Nat} (hc0 : excb c0 = true) (hcls : cell.cls = cid c0) (hvm : cell.vm = .none) :
    ∀ (xs : List ExceptionTableEntry) (hh : List (Nat × Nat × Nat × Nat)) (hs : List (Nat × Nat)) (pc' : Nat) (U : State), s.WarmedH U.vm → U.heap[a]? = some cell → xs.map (fun h => (h.startPc, h.endPc, h.handlerPc, h.catchType)) = hh → hck own f.pc hh hs = true → hfind c0 hs = some pc' →
      ∃ vm', s.WarmedH vm' ∧ ∀ (Q : Handler → Pre) (E : CtlPost) (d : Bool) (acts : List Action), wp (findHandler.go f a xs) Q E e d acts U ↔ Q (.found pc') d acts (U.setVm vm') := by
  intro xs
  induction xs with
  | nil =>
    intro hh hs pc' U hW hcell hm hk hfi
    cases hm
    cases hs with
    | nil => cases hfi
    | cons q r => cases hk
  | cons x xs ih =>
    intro hh hs pc' U hW hcell hm hk hfi
    cases hh with
    | nil => cases hm
    | cons y hh =>
      obtain ⟨y1, y2, y3, y4⟩ := y
      simp only [List.map_cons, List.cons.injEq, Prod.mk.injEq] at hm
      obtain ⟨⟨rfl, rfl, rfl, rfl⟩, hm⟩ := hm
      unfold hck at hk
      cases hcov : (Nat.ble x.startPc f.pc && Nat.blt f.pc x.endPc) with
      | false =>
        rw [hcov] at hk
        have hx : covers x f.pc = false := by
          rw [Bool.and_eq_false_iff] at hcov
          simp only [covers, Bool.and_eq_false_iff, decide_eq_false_iff_not]
          rcases hcov with h | h
          · left; intro h1; rw [show Nat.ble x.startPc f.pc = true from by rw [Nat.ble_eq]; exact h1] at h; cases h
          · right; intro h1; rw [show Nat.blt f.pc x.endPc = true from by rw [Nat.blt_eq]; exact h1] at h; cases h
        obtain ⟨vm', h1, h2⟩ := ih hh hs pc' U hW hcell hm hk hfi
        exact ⟨vm', h1, fun Q E d acts => by rw [W.findHandler_go_skip hx]; exact h2 Q E d acts⟩
      | true =>
        rw [hcov] at hk
        simp only [cond_true] at hk
        have hx : covers x f.pc = true := by
          rw [Bool.and_eq_true, Nat.ble_eq, Nat.blt_eq] at hcov
          simp only [covers, Bool.and_eq_true, decide_eq_true_eq]
          exact hcov
        split at hk
        · rename_i d h' hs'
          simp only [Bool.and_eq_true, Nat.beq_eq, Bool.not_eq_true'] at hk
          obtain ⟨rfl, k1, k2, k3, k4⟩ := hk
          have h0 : x.catchType ≠ 0 := by intro h; rw [h] at k3; cases k3
          have hd := excb_lt k2
          have hc := excb_lt hc0
          obtain ⟨-, hfcd, kd, hkd, -⟩ := hF.2.2.2.1 d hd.1 hd.2 (excb_pos k2)
          obtain ⟨-, hfcc, kc, hkc, -⟩ := hF.2.2.2.1 c0 hc.1 hc.2 (excb_pos hc0)
          obtain ⟨c', hc', hcl⟩ := Cond.classLink_spec hF.2.2.2.2 (hF.2.2.1 _ (cany_spec k1) rfl #[]) e.platform hpl
          cases hfcd.symm.trans hc'
          obtain ⟨dk, _, _, kt, hdk, _, _, _, _, hkt, _, hopen⟩ := hcl.here
          have hcl₀ := hW.classLinks hcl
          have hW' : s.WarmedH (U.vm.noted m.cls x.catchType (.cls (cid d))) := hW.noted hdk hopen (State.rightAt_cls hcl)
          have hal := hW.alike
          obtain ⟨kd', hkd', -⟩ := hal.2.2 _ _ hkd
          obtain ⟨kc', hkc', -⟩ := hal.2.2 _ _ hkc
          subst hf
          have key := fun Q E dd acts => fx_link (Q := Q) (E := E) (d := dd) (acts := acts) (t := xs) (s := U) (e := e) (f := f) (a := a) (cell := cell) hx h0 hcl₀ hcell (fun k h => by rw [hvm] at h; cases h) ⟨kc', by rw [hcls]; exact hkc'⟩ ⟨kd', hkd'⟩
          unfold hfind at hfi
          split at hfi
          · rename_i hcd
            cases hfi
            subst hcd
            refine ⟨_, hW', fun Q E dd acts => (key Q E dd acts).1 ?_⟩
            rw [hcls]; exact Vm.assignable_self _ _
          · rename_i hcd
            have hno : U.vm.assignable cell.cls (cid d) = false := by rw [hal.assignable, hcls]; exact hN.1 c0 d hc0 k2 hcd
            obtain ⟨vm', h1, h2⟩ := ih hh hs' pc' (U.setVm (U.vm.noted f.method.cls x.catchType (.cls (cid d)))) hW' hcell hm k4 hfi
            exact ⟨vm', h1, fun Q E dd acts => ((key Q E dd acts).2 hno).trans (h2 Q E dd acts)⟩
        · cases hk
end SEARCH
