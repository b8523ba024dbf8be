/-! SIM 21: what a throw comes to -/
def XN : List String := ["java/lang/RuntimeException", "java/lang/Exception"]
theorem excb_5 {c : Nat} (h : excb c = true) : c = 18 ∨ c = 32 ∨ c = 33 ∨ c = 34 ∨ c = 35 := by
  simp only [excb, Bool.or_eq_true, Bool.and_eq_true, Nat.beq_eq, Nat.ble_eq] at h
  omega
theorem exc_N {c : Nat} (h : excb c = true) : cx_N c = 0 ∧ Bundle.fit (cx_nm c) = true := by
  rcases excb_5 h with rfl | rfl | rfl | rfl | rfl <;> exact ⟨by decide +kernel, by decide +kernel⟩
theorem lays_low {s0 s : State} (hal : s0.vm.Alike s.vm) (hl : ∀ q : Nat, q < s0.heap.size → s.heap[q]? = s0.heap[q]?) {o n d : String} {a0 a : Array Value} (h : (Cond.laysStatic o n d).before a0 s0 = true) : (Cond.laysStatic o n d).before a s = true := by
  obtain ⟨c, k, i, f, x, cell, h1, h2, h3, h4, h5, h6, h7, h8, h9⟩ := Cond.laysStatic_spec h
  obtain ⟨k', g1, g2⟩ := State.fieldFound?_setVm hal h2
  have g1' : s.fieldFound? o n d = some (c, k', i, f) := g1
  have e1 : s.vm.findClass o = some c := by rw [hal.findClass]; exact h1
  have e2 : k'.statics = some x := by rw [g2]; exact h4
  have e3 : k'.staticTypes[f.slot]? = some f.type := by rw [g2]; exact h9
  have e4 : s.heap[x]? = some cell := by rw [hl x (Array.getElem?_eq_some_iff.mp h5).1]; exact h5
  simp [Cond.before, Cond.holds, Cond.value, e1, g1', e2, e4, h3, h6, h7, h8, e3]
theorem decl_low {s0 s : State} (hal : s0.vm.Alike s.vm) {x : MethodName} {a0 a : Array Value} (h : (Cond.declares x).before a0 s0 = true) : (Cond.declares x).before a s = true := by
  have e := arm_named_setVm hal x (fun meth => !meth.isStatic && decide (parseMethodDescriptor x.desc = some meth.sig))
  have e' : ((s.methodNamed? x).bind s.vm.method?).map (fun meth => !meth.isStatic && decide (parseMethodDescriptor x.desc = some meth.sig)) = ((s0.methodNamed? x).bind s0.vm.method?).map (fun meth => !meth.isStatic && decide (parseMethodDescriptor x.desc = some meth.sig)) := e
  simp only [Cond.before, Cond.holds, Cond.value] at h ⊢
  rw [e']
  exact h
def xaok : Prop := ∀ tg, excb tg = true → ∀ a ∈ XA (cx_nm tg) XN, a ∈ lw_tbl ∧ (okw a = true ∨ (∃ o n d, a = .laysStatic o n d) ∨ ∃ x, a = .declares x)
def xlok (xl : Nat → Nat → Nat → Nat → Bool) : Prop := ∀ own a ic tg, xl own a ic tg = true → cany own a tg = true ∧ (Cond.methodLink (cx_nm own) ic (Bundle.init0 (cx_nm tg)) ∈ lw_tbl ∨ Cond.methodLinkNest (cx_nm own) ic (Bundle.init0 (cx_nm tg)) "WholeWarehouse" ∈ lw_tbl) ∧ cx_mk tg = true ∧ excb tg = true
theorem init0_len (X : String) : ∀ sig, parseMethodDescriptor (Bundle.init0 X).desc = some sig → ([] : List Value).length = sig.parameters.length := by
  intro sig h
  have h2 : parseMethodDescriptor (Bundle.init0 X).desc = some { parameters := [], returnType := none } := show parseMethodDescriptor "()V" = _ by decide +kernel
  cases h.symm.trans h2
  rfl
section HXT
variable {xl : Nat → Nat → Nat → Nat → Bool} {p : Program} {l : Launch} {e : Env} {A : Nat → Nat → Nat} {s0 : State} {cid : Nat → ClassId} {slt : Nat → Nat → Nat}
theorem hxt_ok (hxa : xaok) (hxl : xlok xl) {a0 : Array Value} (hw0 : ∀ w ∈ lw_tbl, w.before a0 s0 = true) (htr : e.platform.stackTraces = false) (hU : va_Zq Bundle.tN "UNASSIGNED_STACK" Bundle.steD (fun x => s0.heap.size ≤ x) s0 s0.heap) (hV : va_Zq Bundle.tN "SUPPRESSED_SENTINEL" Bundle.listD (fun x => s0.heap.size ≤ x) s0 s0.heap) : HXT xl p l e A s0 cid slt := by
  intro R s m args below meth c hp locs cells slots jl n0 m0 n own ls H pc a ic tg hF hSt hN hM hd1 hd2 hd3 hd4 hx hnc hdyn h64 hS hA hc hs hRf hRl
  obtain ⟨q1, q2, q3, q4⟩ := hxl own a ic tg hx
  have hlt := excb_lt q4
  have hw := mk_ok tg (lt0 tg) hlt.1 q3
  have hKn := hF.2.2.2.1 tg hlt.1 hlt.2 (excb_pos q4)
  have hcn : cn H tg < cn (nw H tg 0 (cx_sl tg)) tg := by
    show cn H tg < if tg = tg then cn H tg + 1 else _
    rw [if_pos rfl]; exact Nat.lt_succ_self _
  have hadr : A tg (cn H tg) = hp.size := by
    rw [hA.1 tg (cn H tg) hdyn hcn, hS.1.1]
    show _ + (if tg = tg ∧ cn H tg = cn H tg then ncl H else _) = _
    rw [if_pos ⟨rfl, rfl⟩]
  have h8 := hS.2.2.2.1
  have h9 := hS.2.2.2.2
  have hat : ∀ x ∈ XA (cx_nm tg) XN, x.before args s = true := by
    intro x hx
    obtain ⟨b1, b2⟩ := hxa tg q4 x hx
    rcases b2 with b2 | ⟨o, nm, d, rfl⟩ | ⟨x, rfl⟩
    · exact hF.2.2.1 x b1 b2 args
    · exact lays_low hF.2.1 hN.2 (hw0 _ b1)
    · exact decl_low hF.2.1 (hw0 _ b1)
  refine W.newcK hF.1 rfl hF.2.2.2.2 (hF.2.2.1 _ (cany_spec q1) rfl args) (hF.2.2.1 _ hw.1 rfl args) (hF.2.2.1 _ hw.2 rfl args) rfl hd1 (by omega) (by omega) hKn.2.1 rfl fun hp' kC e0 e1 e2 e3 => ?_
  refine lv_dup hF.1 rfl hd2 rfl ?_
  intro T hT X
  have hpl : e.platform.magicAccessors = ({} : Platform).magicAccessors := by rw [X.admits.platform]
  have hinst : (Cond.instanceMethod (Bundle.init0 (cx_nm tg))).before args s = true := hat _ (by simp [XA, XN, Bundle.chain0Atoms, Bundle.passAtoms])
  have hcode : (Cond.code (Bundle.init0 (cx_nm tg)) Bundle.five 1 none).before args s = true := hat _ (by simp [XA, XN, Bundle.chain0Atoms, Bundle.passAtoms])
  have hnot := (Bundle.fit_spec (exc_N q4).2).2
  have hB : ∃ mk, s.methodNamed? (Bundle.init0 (cx_nm tg)) = some mk ∧ BEG p l e R s m args below meth c T locs (cells + 1) (slots + cx_sl tg) (F0 m (pc + 3 + 1) jl [.ref hp.size, .ref hp.size]) [.ref hp.size] mk [.ref hp.size] := by
    rcases q2 with hl | hl
    · obtain ⟨mk', methM, cM, kP, vm₁, hnamed, -, -, -, -, -, -, -, hW₁, hstep₁⟩ := Steps.initColdArgs (e := e) X.here hF.1 X.warmed hpl hF.2.2.2.2 (t := Bundle.init0 (cx_nm tg)) rfl hnot (hF.2.2.1 _ hl rfl args) hinst hcode (f := F0 m (pc + 3 + 1) jl [.ref hp.size, .ref hp.size]) rfl (argsL := []) (init0_len _) rfl hd3
      exact ⟨mk', hnamed, vm₁, X.noted hW₁, hstep₁⟩
    · obtain ⟨mk', methM, cM, kP, vm₁, hnamed, -, -, -, -, -, -, -, hW₁, hstep₁⟩ := Steps.initColdArgsNest (e := e) X.here hF.1 X.warmed hpl hF.2.2.2.2 (t := Bundle.init0 (cx_nm tg)) rfl hnot (hF.2.2.1 _ hl rfl args) hinst hcode (f := F0 m (pc + 3 + 1) jl [.ref hp.size, .ref hp.size]) rfl (argsL := []) (init0_len _) rfl hd3
      exact ⟨mk', hnamed, vm₁, X.noted hW₁, hstep₁⟩
  obtain ⟨mk, hmk, hB⟩ := hB
  have hsz : s0.heap.size ≤ hp.size := by rw [hS.1.1]; exact Nat.le_add_right _ _
  obtain ⟨U, L4, st, hrun, hend, hWU, hsame, hL4, ⟨ce, hce, hcc, hcv⟩, hoth, hUs⟩ := throw_core X hF.1 htr (exc_N q4).2 (fun nm hnm => by
      simp only [XN, List.mem_cons, List.not_mem_nil, or_false] at hnm
      rcases hnm with rfl | rfl <;> decide +kernel) hat (n := s0.heap.size) (va_Zq.moved hF.2.1 hU) (va_Zq.moved hF.2.1 hV)
    (fun q hq => by rw [hT, e3 q (Nat.lt_of_lt_of_le hq hsz)]; exact hS.1.2.2.1 q hq) hKn.2.1 e0 (by rw [hT]; exact e1) hsz (g := F0 m (pc + 3 + 1) jl [.ref hp.size, .ref hp.size]) rfl (by rw [hM.2.2.2.2.1]; exact hS.2.1.1) rfl rfl (rest := []) hd3 hd4 (fun x hx => by
      have h1 := List.all_eq_true.mp hnc (x.startPc, x.endPc, x.handlerPc, x.catchType) (by rw [← hM.2.2.2.2.2.2.2.1]; exact List.mem_map.mpr ⟨x, hx, rfl⟩)
      rw [cov_eq]
      have h2 : (!(Nat.ble x.startPc (pc + 7) && Nat.blt (pc + 7) x.endPc)) = true := h1
      rw [Bool.not_eq_true'] at h2
      exact h2) hmk hB (by show 2 + 3 < R.frames; omega) (by show 2 * 0 + (1 + 0) + (13 * (2 + 1) + 41) ≤ R.locals; omega) hM.2.2.2.2.2.2.1
  refine ⟨U, st, .threw (A tg (cn H tg)), locs ++ L4, cells + 1, slots + cx_sl tg, hrun, by rw [hadr]; exact hend, rfl, ?_, hWU, hsame, ?_, by show cells + 1 + n0 = ncl H + 1; omega, by show slots + cx_sl tg + m0 = nsl H + cx_sl tg; omega⟩
  · refine hS.1.new hA (hle.refl _) hdyn (by rw [hUs, hT]; exact e2) (fun q hq => by rw [hoth q (Nat.ne_of_lt hq), hT]; exact e3 q hq) fun hq => ⟨fun _ _ => ?_, fun h => absurd h (by omega), fun h => by omega⟩
    rw [hq]
    exact ⟨ce, hce, hcc, hcv, fun k hk => by rw [(exc_N q4).1] at hk; omega⟩
  · intro x hx
    rcases List.mem_append.mp hx with h | h
    · exact hS.2.2.1 x h
    · rw [hL4 x h]; exact hsz
end HXT
