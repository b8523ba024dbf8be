/-! SIM 22: the call of ordinal -/
def ordX : MethodName := ⟨"WholeWarehouse$State", "ordinal", "()I"⟩
def ordY : MethodName := ⟨"java/lang/Enum", "ordinal", "()I"⟩
/-- what stands at the constants -/
def CONS (A : Nat → Nat → Nat) (s0 : State) : Prop := ∀ a, a < 6 → ∃ (cell : Cell) (cf : ClassId) (kf : Class) (fi : Nat) (f : Field), s0.heap[A 31 a]? = some cell ∧ cell.vm.isStatics = false ∧ cell.vm ≠ .unknown ∧ s0.vm.findClass "WholeWarehouse$State" = some cell.cls ∧ s0.fieldFound? "java/lang/Enum" "ordinal" "I" = some (cf, kf, fi, f) ∧ f.isStatic = false ∧ cell.slots[f.slot]? = some (.int (Int32.ofNat a))
theorem ff_moved {u U : State} (hvm : u.vm.Alike U.vm) {C n d : String} {c i : Nat} {k : Class} {f : Field} (h : u.fieldFound? C n d = some (c, k, i, f)) : ∃ k', U.fieldFound? C n d = some (c, k', i, f) := by
  obtain ⟨k', h1, -⟩ := State.fieldFound?_setVm hvm h
  exact ⟨k', h1⟩
theorem lg_one (x : Nat) : (lg_sl [Value.ref x]).length ≤ 1 := by
  have hc : (Value.ref x).category = 1 := rfl
  rw [lg_cons, hc, if_neg (by decide)]
  exact Nat.le_refl _
theorem ord_walk {p : Program} {l : Launch} {e : Env} {R : Room} {U : State} {mk : MethodId} {args : Array Value} {below : List Frame} {methM : Method} {cM : Code} {hp : Heap} {bytes : ByteArray} {jl : Array Slot} {x : Nat} {v : Int32} {cell : Cell} {cf : ClassId} {kf : Class} {fi : Nat} {f : Field} (hexec : p.tables.exec = Jvm.exec) (hb : cM.code = bytes) (hr : methM.sig.returnType = some .int) (hlk : methM.locks = false) (hown : U.vm.findClass "java/lang/Enum" = some mk.cls) (hw : (Cond.fieldLink "java/lang/Enum" 7 "java/lang/Enum" "ordinal" "I").before args U = true) (hi : U.fieldFound? "java/lang/Enum" "ordinal" "I" = some (cf, kf, fi, f)) (hst : f.isStatic = false) (hcell : hp[x]? = some cell) (hkn : cell.vm ≠ .unknown) (hv : cell.slots[f.slot]? = some (.int v))
    (d0 : decode bytes 0 = .ok (.aload_n 0, 1)) (d1 : decode bytes 1 = .ok (.getfield 7, 3)) (d4 : decode bytes 4 = .ok (.ireturn, 1)) (hl : jl[0]? = some (.val (.ref x))) :
    W p l e R U mk args below methM cM hp [] 0 0 (MQ below (fun _ _ o t => o = .returned (some (.int v)) ∧ t.heap = hp) args U 0 0 (fun _ => False)) (F0 mk 0 jl []) := by
  refine lv_aload_n hexec hb d0 rfl hl ?_
  show W p l e R U mk args below methM cM hp [] 0 0 _ (F0 mk 1 jl [.ref x])
  refine W.getf hexec hb hown hw hi hst hcell hkn hv rfl rfl d1 ?_
  show W p l e R U mk args below methM cM hp [] 0 0 _ (F0 mk 4 jl [.int v])
  exact W.iret hexec hb hr (fun t ht _ => ⟨rfl, ht⟩) (fun q hq => by cases hq) d4 hlk
section HXO
variable {p : Program} {l : Launch} {e : Env} {A : Nat → Nat → Nat} {s0 : State} {cid : Nat → ClassId} {slt : Nat → Nat → Nat}
theorem hxo_ok {a0 : Array Value} (hw0 : ∀ w ∈ lw_tbl, w.before a0 s0 = true) (w1 : Cond.methodLink "WholeWarehouse$House" 591 ordX ∈ lw_tbl) (w2 : Cond.sameMethod "WholeWarehouse$State" "java/lang/Enum" "ordinal" "()I" ∈ lw_tbl) (w3 : Cond.selects "WholeWarehouse$State" ordX ordY ∈ lw_tbl) (w4 : Cond.instanceMethod ordY ∈ lw_tbl) {bytes : ByteArray} (w5 : Cond.code ordY bytes 1 (some .int) ∈ lw_tbl) (w6 : Cond.fieldLink "java/lang/Enum" 7 "java/lang/Enum" "ordinal" "I" ∈ lw_tbl)
    (d0 : decode bytes 0 = .ok (.aload_n 0, 1)) (d1 : decode bytes 1 = .ok (.getfield 7, 3)) (d4 : decode bytes 4 = .ok (.ireturn, 1)) (hC : CONS A s0) : HXO p l e A s0 cid slt := by
  intro R s m args below meth c hF hRf hRl
  intro pc a hp locs cells slots jl Q hdg ha hlow hsz hcl hsl kk
  intro T hT X
  obtain ⟨cell, cf, kf, fi, f, g1, g2, g3, g4, g5, g6, g7⟩ := hC a ha
  have hal := hF.2.1
  have hsame : (Cond.sameMethod "WholeWarehouse$State" "java/lang/Enum" "ordinal" "()I").before args s = true :=
    sameMethod_same (args := a0) (args' := args) (s := s0.setVm s.vm) (s' := s) rfl (Cond.sameMethod_setVm hal ⟨by decide, by decide⟩ (hw0 _ w2))
  have hcellT : T.heap[A 31 a]? = some cell := by
    rw [hT, hlow _ (Array.getElem?_eq_some_iff.mp g1).1]; exact g1
  obtain ⟨mk, methM, hnamed, hmethM, hstM, habM⟩ := Cond.instanceMethod_spec (hF.2.2.1 _ w4 rfl args)
  obtain ⟨methM', cM, hmM', hcM, hbM, hlM, hrM, hlockM, -, hsigM⟩ := Cond.code_spec hnamed (hF.2.2.1 _ w5 rfl args)
  cases hmethM.symm.trans hmM'
  obtain ⟨cn', ck, r1, hcn, hck, hni, hf, hn1⟩ := Cond.sameMethod_found hsame
  cases hnamed.symm.trans hn1
  have okS : okw (Cond.selects "WholeWarehouse$State" ordX ordY) = true := rfl
  obtain ⟨c2, r2, m2, q1, q2, q3, q4, kP, hkP, hkPi⟩ := Cond.selects_spec (hF.2.2.1 _ w3 okS args)
  have hcls : s.vm.findClass "WholeWarehouse$State" = some cell.cls := by rw [hal.findClass]; exact g4
  cases hcls.symm.trans q1
  cases hf.symm.trans q2
  cases hnamed.symm.trans q3
  have hselP : selectMethod e.platform s.vm cell.cls mk = .method mk := by rw [Launch.admits_selectMethod X.admits]; exact q4
  have hsig : parseMethodDescriptor ordY.desc = some { parameters := [], returnType := some .int } := by decide +kernel
  have hsg : methM.sig = { parameters := [], returnType := some .int } := Option.some.inj (hsigM.symm.trans hsig)
  obtain ⟨vm₁, X₁, hgo⟩ := X.invokevirtualUp hF.1 hF.2.2.2.2 (hF.2.2.1 _ w1 rfl args) hsame ⟨by decide, by decide⟩ hnamed hmethM hstM (a := A 31 a) (cell := cell) hcellT (fun z h => by rw [h] at g2; cases g2) hselP hmethM habM hkP hkPi (g := F0 m pc jl [.ref (A 31 a)]) rfl (argsL := []) (rest := []) (by rw [hsg]; rfl) rfl hdg
  have hW₁ : s.WarmedH (T.setVm vm₁).vm := X₁.warmed
  have hnmk : (T.setVm vm₁).methodNamed? ordY = some mk := X₁.named hnamed
  have hmk : (T.setVm vm₁).vm.method? mk = some methM := by rw [hW₁.alike.method?]; exact hmethM
  have hplain : (T.setVm vm₁).plainMethod mk := State.plainMethod.of_named (x := ordY) (by decide +kernel) hnmk hmk
  have hal' : s0.vm.Alike vm₁ := hal.trans hW₁.alike
  obtain ⟨kf', hfi⟩ := ff_moved (U := (T.setVm vm₁).calling (F0 m pc jl []) mk [.ref (A 31 a)].toArray) hal' g5
  have hW : W p l e { frames := R.frames - 1, cells := 0, slots := 0, locals := R.locals - 200 } ((T.setVm vm₁).calling (F0 m pc jl []) mk [.ref (A 31 a)].toArray) mk [.ref (A 31 a)].toArray (.java (F0 m pc jl []) :: below) methM cM (T.setVm vm₁).heap [] 0 0
      (MQ (.java (F0 m pc jl []) :: below) (fun _ _ o t => o = .returned (some (.int (Int32.ofNat a))) ∧ t.heap = T.heap) [.ref (A 31 a)].toArray ((T.setVm vm₁).calling (F0 m pc jl []) mk [.ref (A 31 a)].toArray) 0 0 (fun _ => False)) (entryFrame mk [.ref (A 31 a)].toArray cM.maxLocals) := by
    rw [lg_entry_eq, hlM]
    have hent := lv_entry [.ref (A 31 a)] (n := 1) (lg_one _)
    have hl0 := hent.2.2 (0, .ref (A 31 a)) List.mem_cons_self
    have hWU : s.WarmedH ((T.setVm vm₁).calling (F0 m pc jl []) mk [.ref (A 31 a)].toArray).vm := hW₁
    have hTU := hF.2.2.1.warm hWU
    exact ord_walk hF.1 hbM hrM hlockM (findClass_of_methodNamed hnmk) (hTU _ w6 rfl _) hfi g6 hcellT g3 g7 d0 d1 d4 hl0
  obtain ⟨t, ⟨oc, hrun, hend, ⟨rfl, hheap⟩, L', hfe2, hL'⟩, hst⟩ := call_in X₁ (g := F0 m pc jl []) rfl hsz hdg [.ref (A 31 a)].toArray hmk hcM hlockM hplain (by show R.frames - 1 + 1 ≤ R.frames; omega) (by show 2 * 0 + 0 + (cM.maxLocals + 11) + (R.locals - 200) ≤ R.locals; rw [hlM]; omega) (by show cells + 0 ≤ R.cells; omega) (by show slots + 0 ≤ R.slots; omega) hW
  have hnil : L' = [] := List.eq_nil_iff_forall_not_mem.mpr fun q hq => hL' q hq
  subst hnil
  obtain ⟨T', X', hw', -, ht⟩ := X₁.outOf (g := F0 m pc jl []) rfl hdg hend hfe2.2.1 hfe2.2.2
  rw [List.append_nil, Nat.add_zero, Nat.add_zero] at X'
  have hh : T'.heap = hp := by
    have : T'.heap = t.heap := by rw [ht]; simp
    rw [this, hheap, hT]
  obtain ⟨t2, st2, qq⟩ := kk T' hh X'
  refine ⟨t2, hgo t2 (fun acts => (hst acts).trans ?_), qq⟩
  rw [ht]; exact st2
end HXO
