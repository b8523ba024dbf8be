/-! SIM 14: how a method ends; jumps -/
def orel (A : Nat → Nat → Nat) : am_R → Outcome → Prop
  | .inl none, o => o = .returned none
  | .inl (some v), o => o = .returned (some (vv A v))
  | .inr q, o => o = .threw (A q.1 q.2)
def EQ (A : Nat → Nat → Nat) (s0 : State) (cid : Nat → ClassId) (slt : Nat → Nat → Nat) (below : List Frame) (s : State) (n0 m0 : Nat) (r : am_R) (H' : am_H) : State → Prop := fun t =>
  ∃ (o : Outcome) (L : List Loc) (k n : Nat), t.status = .running ∧ Ended t below o ∧ orel A r o ∧ REL A s0 cid slt t.heap H' ∧ s.WarmedH t.vm ∧ s.sameButNew ({ t with vm := s.vm } : State) L k n ∧ (∀ q ∈ L, s0.heap.size ≤ q.base) ∧ k + n0 = ncl H' ∧ n + m0 = nsl H'
def hck (own pc : Nat) : List (Nat × Nat × Nat × Nat) → List (Nat × Nat) → Bool
  | [], [] => true
  | [], _ :: _ => false
  | (a, b, h, t) :: r, hs => bif Nat.ble a pc && Nat.blt pc b then (match hs with
      | (d, h') :: hs' => Nat.beq h h' && (cany own t d && (excb d && (!(Nat.beq t 0) && hck own pc r hs')))
      | [] => false) else hck own pc r hs
def nocov (pc : Nat) (hh : List (Nat × Nat × Nat × Nat)) : Bool := hh.all (fun h => !(Nat.ble h.1 pc && Nat.blt pc h.2.1))
/-- the end of a block against the bytes -/
def ckt (dep : Nat → Nat) (i n own : Nat) (cc : ByteArray) (xl : Nat → Nat → Nat → Nat → Bool) (pc tg nx : Nat) (hs : List (Nat × Nat)) (sw : List Nat) (t : Instr) : Bool := match t with
  | .goto_w _ => Nat.beq pc nx
  | .goto _ => (match decode cc pc with | .ok (.goto off, 3) => decide ((pc : Int) + off = (tg : Int)) | _ => false)
  | .ifCond k _ => (match decode cc pc with | .ok (.ifCond k' off, 3) => decide (k' = k ∧ (pc : Int) + off = (tg : Int)) && Nat.beq nx (pc + 3) | _ => false)
  | .if_icmp k _ => (match decode cc pc with | .ok (.if_icmp k' off, 3) => decide (k' = k ∧ (pc : Int) + off = (tg : Int)) && Nat.beq nx (pc + 3) | _ => false)
  | .if_acmp k _ => (match decode cc pc with | .ok (.if_acmp k' off, 3) => decide (k' = k ∧ (pc : Int) + off = (tg : Int)) && Nat.beq nx (pc + 3) | _ => false)
  | .ifnull _ => (match decode cc pc with | .ok (.ifnull off, 3) => decide ((pc : Int) + off = (tg : Int)) && Nat.beq nx (pc + 3) | _ => false)
  | .ifnonnull _ => (match decode cc pc with | .ok (.ifnonnull off, 3) => decide ((pc : Int) + off = (tg : Int)) && Nat.beq nx (pc + 3) | _ => false)
  | .tableswitch _ lo hi _ => (match decode cc pc with | .ok (.tableswitch d lo' hi' offs, _) => decide (lo' = lo ∧ hi' = hi ∧ (pc : Int) + d = (tg : Int) ∧ offs.toList.map (fun o => (pc : Int) + o) = sw.map Int.ofNat ∧ (sw.length : Int) = hi - lo + 1) | _ => false)
  | .lookupswitch _ ps => (match decode cc pc with | .ok (.lookupswitch d ps', _) => decide (ps'.toList.map (·.1) = ps.toList.map (·.1) ∧ (pc : Int) + d = (tg : Int) ∧ ps'.toList.map (fun q => (pc : Int) + q.2) = sw.map Int.ofNat) && (ps'.toList.zip (ps'.toList.drop 1)).all (fun (a, next) => a.1 < next.1) | _ => false)
  | .ireturn => decide (decode cc pc = .ok (.ireturn, 1))
  | .lreturn => decide (decode cc pc = .ok (.lreturn, 1))
  | .areturn => decide (decode cc pc = .ok (.areturn, 1))
  | .return_ => decide (decode cc pc = .ok (.return_, 1))
  | .athrow => (match decode cc pc with
    | .ok (.new a, 3) => decide (decode cc (pc + 3) = .ok (.dup, 1)) && (match decode cc (pc + 4) with
      | .ok (.invokespecial ic, 3) => decide (decode cc (pc + 7) = .ok (.athrow, 1)) && (xl own a ic tg && (Nat.beq nx (cx_sl tg) && nocov (pc + 7) (mha n)))
      | _ => false)
    | _ => false)
  | .invokestatic _ => (match decode cc pc with | .ok (.invokestatic x, 3) => mlk own x (imt tg) && (Nat.beq (mki (imt tg)) 0 && (Nat.beq nx (pc + 3) && (hck own pc (mha n) hs && (Nat.blt (dep tg) (dep i) && Nat.ble 1 (imt tg))))) | _ => false)
  | .invokevirtual _ => (match decode cc pc with | .ok (.invokevirtual x, 3) => mlp own x (imt tg) && (Nat.beq (mki (imt tg)) 1 && (Nat.beq nx (pc + 3) && (hck own pc (mha n) hs && (Nat.blt (dep tg) (dep i) && (Nat.ble 1 (imt tg) && (am_one (mow (imt tg)) sw && (Nat.blt (mow (imt tg)) 36 && (!(Nat.beq (mow (imt tg)) 31) && Nat.ble 1 (mow (imt tg)))))))))) | _ => false)
  | .invokedynamic _ => (match decode cc pc with | .ok (.invokespecial x, 3) => mlk own x (imt tg) && (Nat.beq (mki (imt tg)) 2 && (Nat.beq nx (pc + 3) && (hck own pc (mha n) hs && (Nat.blt (dep tg) (dep i) && Nat.ble 1 (imt tg))))) | _ => false)
  | _ => false
theorem orelI {A : Nat → Nat → Nat} {x : Int32} : orel A (.inl (some (iv x))) (.returned (some (.int x))) := rfl
section ENDS
variable {p : Program} {l : Launch} {e : Env} {R : Room} {s : State} {m : MethodId} {args : Array Value} {below : List Frame} {meth : Method} {c : Code} {hp : Heap} {locs : List Loc} {cells slots : Nat} {cc : ByteArray} {pc : Nat} {jl : Array Slot}
variable {A : Nat → Nat → Nat} {s0 : State} {cid : Nat → ClassId} {slt : Nat → Nat → Nat} {n0 m0 nL : Nat} {H : am_H}
theorem W.mono {Q Q' : State → Prop} {g : JFrame} (h : ∀ t, Q t → Q' t) (k : W p l e R s m args below meth c hp locs cells slots Q g) : W p l e R s m args below meth c hp locs cells slots Q' g := by
  intro T hT X
  obtain ⟨t, a, b⟩ := k T hT X
  exact ⟨t, a, h t b⟩
theorem EQ.of {ls : am_L} {r : am_R} (hS : SR A s0 cid slt n0 m0 nL ls H hp locs cells slots jl) : ∀ t, MQ below (fun _ _ o t => orel A r o ∧ REL A s0 cid slt t.heap H) args s cells slots (fun q => s0.heap.size ≤ q) t → EQ A s0 cid slt below s n0 m0 r H t := by
  rintro t ⟨o, h1, h2, ⟨h3, h4⟩, L, h5, h6⟩
  exact ⟨o, L, cells, slots, h1, h2, h3, h4, h5.2.1, h5.2.2, h6, hS.2.2.2.1, hS.2.2.2.2⟩
theorem end_I {ls : am_L} {x : Int32} (hx : p.tables.exec = Jvm.exec) (hb : c.code = cc) (hr : meth.sig.returnType = some .int) (hlk : meth.locks = false) (hdg : decode cc pc = .ok (.ireturn, 1)) (hS : SR A s0 cid slt n0 m0 nL ls H hp locs cells slots jl) :
    W p l e R s m args below meth c hp locs cells slots (EQ A s0 cid slt below s n0 m0 (.inl (some (iv x))) H) (F0 m pc jl [.int x]) :=
  W.mono (EQ.of (args := args) hS) (W.iret hx hb hr (fun t ht _ => ⟨rfl, by rw [ht]; exact hS.1⟩) hS.2.2.1 hdg hlk)
theorem end_Z {ls : am_L} {x : Int32} (hx : p.tables.exec = Jvm.exec) (hb : c.code = cc) (hr : meth.sig.returnType = some .boolean) (hbit : x &&& 1 = x) (hlk : meth.locks = false) (hdg : decode cc pc = .ok (.ireturn, 1)) (hS : SR A s0 cid slt n0 m0 nL ls H hp locs cells slots jl) :
    W p l e R s m args below meth c hp locs cells slots (EQ A s0 cid slt below s n0 m0 (.inl (some (iv x))) H) (F0 m pc jl [.int x]) :=
  W.mono (EQ.of (args := args) hS) (W.zret hx hb hr (fit_bool hbit).1 (fun t ht _ => ⟨rfl, by rw [ht]; exact hS.1⟩) hS.2.2.1 hdg hlk)
theorem end_L {ls : am_L} {x : Int64} (hx : p.tables.exec = Jvm.exec) (hb : c.code = cc) (hr : meth.sig.returnType = some .long) (hlk : meth.locks = false) (hdg : decode cc pc = .ok (.lreturn, 1)) (hS : SR A s0 cid slt n0 m0 nL ls H hp locs cells slots jl) :
    W p l e R s m args below meth c hp locs cells slots (EQ A s0 cid slt below s n0 m0 (.inl (some (lv x))) H) (F0 m pc jl [.long x]) :=
  W.mono (EQ.of (args := args) hS) (W.lret hx hb hr (fun t ht _ => ⟨rfl, by rw [ht]; exact hS.1⟩) hS.2.2.1 hdg hlk)
theorem end_V {ls : am_L} (hx : p.tables.exec = Jvm.exec) (hb : c.code = cc) (hr : meth.sig.returnType = none) (hlk : meth.locks = false) (hdg : decode cc pc = .ok (.return_, 1)) (hS : SR A s0 cid slt n0 m0 nL ls H hp locs cells slots jl) :
    W p l e R s m args below meth c hp locs cells slots (EQ A s0 cid slt below s n0 m0 (.inl none) H) (F0 m pc jl []) :=
  W.mono (EQ.of (args := args) hS) (W.vret hx hb hr (fun t ht _ => ⟨rfl, by rw [ht]; exact hS.1⟩) hS.2.2.1 hdg hlk)
theorem end_R {ls : am_L} {q : Nat × Option Nat} {rt : FieldType} (hx : p.tables.exec = Jvm.exec) (hb : c.code = cc) (hr : meth.sig.returnType = some rt) (hrt : (∃ n, rt = .object n) ∨ ∃ t, rt = .array t) (hlk : meth.locks = false) (hdg : decode cc pc = .ok (.areturn, 1)) (hS : SR A s0 cid slt n0 m0 nL ls H hp locs cells slots jl) :
    W p l e R s m args below meth c hp locs cells slots (EQ A s0 cid slt below s n0 m0 (.inl (some (.inr (.inr q)))) H) (F0 m pc jl [vv A (.inr (.inr q))]) :=
  have h0 : va_rf (q.2.map (A (rawc q.1))) = .null ∨ ∃ a, va_rf (q.2.map (A (rawc q.1))) = .ref a := by
    cases q.2.map (A (rawc q.1)) with
    | none => exact Or.inl rfl
    | some a => exact Or.inr ⟨a, rfl⟩
  W.mono (EQ.of (args := args) hS) (W.aret hx hb hr hrt h0 (fun t ht _ => ⟨rfl, by rw [ht]; exact hS.1⟩) hS.2.2.1 hdg hlk)
end ENDS
