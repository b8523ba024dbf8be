/-! THE ABSTRACT MACHINE (am_): values, a heap by class code, object number and field, resolved instructions in blocks; a run by fuel, its limit am_v, and the equation that am_v obeys -/
abbrev am_V : Type := Int32 ⊕ (Int64 ⊕ (Nat × Option Nat))
abbrev iv (x : Int32) : am_V := .inl x
abbrev lv (x : Int64) : am_V := .inr (.inl x)
abbrev rv (c : Nat) (o : Option Nat) : am_V := .inr (.inr (c, o))
abbrev am_L : Type := List (Option am_V)
/-- ints, longs, references by (code, object, field or place); objects made by code; lengths; addresses (from the start's heap on); cells and slots made -/
abbrev am_H : Type := (Nat → Nat → Nat → Int32) × (Nat → Nat → Nat → Int64) × (Nat → Nat → Nat → Option Nat) × (Nat → Nat) × (Nat → Nat → Nat) × (Nat → Nat → Nat) × Nat × Nat
def rdI (H : am_H) (c i k : Nat) : Int32 := H.1 c i k
def rdL (H : am_H) (c i k : Nat) : Int64 := H.2.1 c i k
def rdR (H : am_H) (c i k : Nat) : Option Nat := H.2.2.1 c i k
def cn (H : am_H) (c : Nat) : Nat := H.2.2.2.1 c
def ln (H : am_H) (c i : Nat) : Nat := H.2.2.2.2.1 c i
def adr (H : am_H) (c i : Nat) : Nat := H.2.2.2.2.2.1 c i
def ncl (H : am_H) : Nat := H.2.2.2.2.2.2.1
def nsl (H : am_H) : Nat := H.2.2.2.2.2.2.2
def wrI (H : am_H) (c i k : Nat) (v : Int32) : am_H := (fun c' i' k' => if c' = c ∧ k' = k ∧ i' = i then v else H.1 c' i' k', H.2)
def wrL (H : am_H) (c i k : Nat) (v : Int64) : am_H := (H.1, fun c' i' k' => if c' = c ∧ k' = k ∧ i' = i then v else H.2.1 c' i' k', H.2.2)
def wrR (H : am_H) (c i k : Nat) (v : Option Nat) : am_H := (H.1, H.2.1, fun c' i' k' => if c' = c ∧ k' = k ∧ i' = i then v else H.2.2.1 c' i' k', H.2.2.2)
/-- a new object of a code, of so many slots; n its length -/
def nw (H : am_H) (c n w : Nat) : am_H := (H.1, H.2.1, H.2.2.1, fun c' => if c' = c then cn H c + 1 else cn H c', fun c' i' => if c' = c ∧ i' = cn H c then n else ln H c' i', fun c' i' => if c' = c ∧ i' = cn H c then ncl H else adr H c' i', ncl H + 1, nsl H + w)
def am_rem (x y : Int32) : Int32 := x - x / y * y
def am_remL (x y : Int64) : Int64 := x - x / y * y
def am_nth : am_L → Nat → Option am_V
  | [], _ => none
  | a :: _, 0 => a
  | _ :: r, n + 1 => am_nth r n
/-- a long ahead of a place that is stored to is gone -/
def am_nl : Option am_V → Option am_V
  | some (.inr (.inl _)) => none
  | a => a
def am_set : am_L → Nat → Option am_V → am_L
  | [], _, _ => []
  | _ :: r, 0, v => v :: r
  | a :: r, 1, v => am_nl a :: am_set r 0 v
  | a :: r, n + 2, v => a :: am_set r (n + 1) v
def am_mask : List Bool → am_L → am_L
  | [], _ => []
  | _ :: m, [] => none :: am_mask m []
  | true :: m, a :: r => a :: am_mask m r
  | false :: m, _ :: r => none :: am_mask m r
/-- kinds of arrays: 1 int, 2 byte, 3 boolean, 4 short, 5 long, 6 references (and then the class of what they hold) -/
def am_ek (c : Nat) : Nat := c / 1000
def am_et (c : Nat) : Nat := (c - 6000) / 20
def am_all : List Prop → Prop
  | [] => True
  | [p] => p
  | p :: q :: r => p ∧ am_all (q :: r)
noncomputable def ck {β : Type} (p : Prop) (o : Option β) : Option β := @ite _ p (Classical.propDecidable p) o none
theorem ck_t {β : Type} {p : Prop} {o : Option β} (h : p) : ck p o = o := by simp [ck, h]
theorem ck_T {β : Type} (o : Option β) : ck True o = o := ck_t trivial
theorem ck_f {β : Type} {p : Prop} {o : Option β} (h : ¬ p) : ck p o = none := by simp [ck, h]
theorem ck_n {β : Type} (p : Prop) : ck p (none : Option β) = none := by by_cases h : p <;> simp [ck, h]
theorem ck_some {β : Type} {p : Prop} {o : Option β} {b : β} (h : ck p o = some b) : p ∧ o = some b := by
  by_cases hp : p
  · rw [ck_t hp] at h; exact ⟨hp, h⟩
  · rw [ck_f hp] at h; cases h
/-- an array's length: by its code (k: the length and one), or as it was made (k = 0) -/
def am_ln (k : Nat) (H : am_H) (c a : Nat) : Nat := match k with
  | 0 => ln H c a
  | n + 1 => n
/-- a length with which an array may be made -/
def am_okn (k : Nat) (n : Int32) : Prop := ¬ n < 0 ∧ (match k with
  | 0 => n.toNatClampNeg ≤ 1000000
  | m + 1 => n.toNatClampNeg = m)
/-- an instruction: a plain one; an int; a long; or one with numbers: (10 + kind, class, field, refers to): getfield; (20 + kind, ..): putfield; (40, code, length and one, 0) new array; (41, class, raw class, slots) new; (50 .. 59, code, length and one, held class): arrays; (61, class, number, 0) a constant object; (62, class, 0, 0): null; (63, class, 0, 0): ordinal; (64, 0, 0, 0): Object's constructor; (65, local, 0, 0) iinc by the int on the stack -/
abbrev am_E : Type := Instr ⊕ (Int32 ⊕ (Int64 ⊕ (Nat × Nat × Nat × Nat)))
abbrev ei (i : Instr) : am_E := .inl i
abbrev ek (x : Int32) : am_E := .inr (.inl x)
abbrev el (x : Int64) : am_E := .inr (.inr (.inl x))
abbrev en (a b c d : Nat) : am_E := .inr (.inr (.inr (a, b, c, d)))
abbrev am_X : Type := Option (am_L × List am_V × am_H × List Prop)
def am_s1 (i : Instr) (ls : am_L) (st : List am_V) (H : am_H) : am_X :=
  match i with
  | .iload j => match am_nth ls j with
    | some (.inl x) => some (ls, iv x :: st, H, [])
    | _ => none
  | .lload j => match am_nth ls j with
    | some (.inr (.inl x)) => some (ls, lv x :: st, H, [])
    | _ => none
  | .aload j => match am_nth ls j with
    | some (.inr (.inr q)) => some (ls, .inr (.inr q) :: st, H, [])
    | _ => none
  | .istore j => match st with
    | .inl x :: r => some (am_set ls j (some (iv x)), r, H, [])
    | _ => none
  | .lstore j => match st with
    | .inr (.inl x) :: r => some (am_set (am_set ls (j + 1) none) j (some (lv x)), r, H, [])
    | _ => none
  | .astore j => match st with
    | .inr (.inr q) :: r => some (am_set ls j (some (.inr (.inr q))), r, H, [])
    | _ => none
  | .dup => match st with
    | .inl x :: r => some (ls, iv x :: iv x :: r, H, [])
    | .inr (.inr q) :: r => some (ls, .inr (.inr q) :: .inr (.inr q) :: r, H, [])
    | _ => none
  | .dup2 => match st with
    | .inr (.inl x) :: r => some (ls, lv x :: lv x :: r, H, [])
    | .inl x :: .inr (.inr q) :: r => some (ls, .inl x :: .inr (.inr q) :: .inl x :: .inr (.inr q) :: r, H, [])
    | _ => none
  | .pop => match st with
    | .inl _ :: r => some (ls, r, H, [])
    | .inr (.inr _) :: r => some (ls, r, H, [])
    | _ => none
  | .pop2 => match st with
    | .inr (.inl _) :: r => some (ls, r, H, [])
    | _ => none
  | .iadd => match st with
    | .inl y :: .inl x :: r => some (ls, iv (x + y) :: r, H, [])
    | _ => none
  | .isub => match st with
    | .inl y :: .inl x :: r => some (ls, iv (x - y) :: r, H, [])
    | _ => none
  | .imul => match st with
    | .inl y :: .inl x :: r => some (ls, iv (x * y) :: r, H, [])
    | _ => none
  | .iand => match st with
    | .inl y :: .inl x :: r => some (ls, iv (x &&& y) :: r, H, [])
    | _ => none
  | .ior => match st with
    | .inl y :: .inl x :: r => some (ls, iv (x ||| y) :: r, H, [])
    | _ => none
  | .ixor => match st with
    | .inl y :: .inl x :: r => some (ls, iv (x ^^^ y) :: r, H, [])
    | _ => none
  | .ishl => match st with
    | .inl y :: .inl x :: r => some (ls, iv (x <<< (y &&& 31)) :: r, H, [])
    | _ => none
  | .ishr => match st with
    | .inl y :: .inl x :: r => some (ls, iv (x >>> (y &&& 31)) :: r, H, [])
    | _ => none
  | .idiv => match st with
    | .inl y :: .inl x :: r => some (ls, iv (x / y) :: r, H, [¬ y = 0])
    | _ => none
  | .irem => match st with
    | .inl y :: .inl x :: r => some (ls, iv (am_rem x y) :: r, H, [¬ y = 0])
    | _ => none
  | .ineg => match st with
    | .inl x :: r => some (ls, iv (-x) :: r, H, [])
    | _ => none
  | .ladd => match st with
    | .inr (.inl y) :: .inr (.inl x) :: r => some (ls, lv (x + y) :: r, H, [])
    | _ => none
  | .lsub => match st with
    | .inr (.inl y) :: .inr (.inl x) :: r => some (ls, lv (x - y) :: r, H, [])
    | _ => none
  | .lmul => match st with
    | .inr (.inl y) :: .inr (.inl x) :: r => some (ls, lv (x * y) :: r, H, [])
    | _ => none
  | .land => match st with
    | .inr (.inl y) :: .inr (.inl x) :: r => some (ls, lv (x &&& y) :: r, H, [])
    | _ => none
  | .lor => match st with
    | .inr (.inl y) :: .inr (.inl x) :: r => some (ls, lv (x ||| y) :: r, H, [])
    | _ => none
  | .ldiv => match st with
    | .inr (.inl y) :: .inr (.inl x) :: r => some (ls, lv (x / y) :: r, H, [¬ y = 0])
    | _ => none
  | .lrem => match st with
    | .inr (.inl y) :: .inr (.inl x) :: r => some (ls, lv (am_remL x y) :: r, H, [¬ y = 0])
    | _ => none
  | .lneg => match st with
    | .inr (.inl x) :: r => some (ls, lv (-x) :: r, H, [])
    | _ => none
  | .lshl => match st with
    | .inl y :: .inr (.inl x) :: r => some (ls, lv (x <<< (y.toInt64 &&& 63)) :: r, H, [])
    | _ => none
  | .lshr => match st with
    | .inl y :: .inr (.inl x) :: r => some (ls, lv (x >>> (y.toInt64 &&& 63)) :: r, H, [])
    | _ => none
  | .lcmp => match st with
    | .inr (.inl y) :: .inr (.inl x) :: r => some (ls, iv (lg_cmp x y) :: r, H, [])
    | _ => none
  | .i2l => match st with
    | .inl x :: r => some (ls, lv x.toInt64 :: r, H, [])
    | _ => none
  | .l2i => match st with
    | .inr (.inl x) :: r => some (ls, iv x.toInt32 :: r, H, [])
    | _ => none
  | .i2b => match st with
    | .inl x :: r => some (ls, iv x.toInt8.toInt32 :: r, H, [])
    | _ => none
  | .i2s => match st with
    | .inl x :: r => some (ls, iv x.toInt16.toInt32 :: r, H, [])
    | _ => none
  | _ => none
def am_s2 (op b c d : Nat) (ls : am_L) (st : List am_V) (H : am_H) : am_X :=
  match op with
  | 10 => match st with
    | .inr (.inr (e, some a)) :: r => bif Nat.beq e b || Nat.beq e (b + 64) then some (ls, iv (rdI H b a c) :: r, H, []) else none
    | _ => none
  | 16 => match st with
    | .inr (.inr (e, some a)) :: r => bif Nat.beq e b || Nat.beq e (b + 64) then some (ls, iv (rdI H b a c) :: r, H, []) else none
    | _ => none
  | 12 => match st with
    | .inr (.inr (e, some a)) :: r => bif Nat.beq e b || Nat.beq e (b + 64) then some (ls, rv d (rdR H b a c) :: r, H, []) else none
    | _ => none
  | 13 => match st with
    | .inr (.inr (e, some a)) :: r => bif Nat.beq e b then some (ls, rv d (some a) :: r, H, []) else bif Nat.beq e (b + 64) then some (ls, rv d (rdR H b a c) :: r, H, []) else none
    | _ => none
  | 14 => match st with
    | .inr (.inr (e, some a)) :: r => bif Nat.beq e b then some (ls, rv d (some (2 * a)) :: r, H, []) else none
    | _ => none
  | 15 => match st with
    | .inr (.inr (e, some a)) :: r => bif Nat.beq e b then some (ls, rv d (some (2 * a + 1)) :: r, H, []) else none
    | _ => none
  | 20 => match st with
    | .inl v :: .inr (.inr (e, some a)) :: r => bif Nat.beq e b || Nat.beq e (b + 64) then some (ls, r, wrI H b a c v, []) else none
    | _ => none
  | 26 => match st with
    | .inl v :: .inr (.inr (e, some a)) :: r => bif Nat.beq e b || Nat.beq e (b + 64) then some (ls, r, wrI H b a c v, [v &&& 1 = v]) else none
    | _ => none
  | 22 => match st with
    | .inr (.inr (t, q)) :: .inr (.inr (e, some a)) :: r => bif Nat.beq t d && (Nat.beq e b || Nat.beq e (b + 64)) then some (ls, r, wrR H b a c q, []) else none
    | _ => none
  | 23 => match st with
    | .inr (.inr (t, q)) :: .inr (.inr (e, some a)) :: r => bif Nat.beq t d && Nat.beq e (b + 64) then some (ls, r, wrR H b a c q, [q = some a, rdR H b a c = none]) else none
    | _ => none
  | 24 => match st with
    | .inr (.inr (t, q)) :: .inr (.inr (e, some a)) :: r => bif Nat.beq t d && Nat.beq e (b + 64) then some (ls, r, wrR H b a c q, [q = some (2 * a), rdR H b a c = none]) else none
    | _ => none
  | 25 => match st with
    | .inr (.inr (t, q)) :: .inr (.inr (e, some a)) :: r => bif Nat.beq t d && Nat.beq e (b + 64) then some (ls, r, wrR H b a c q, [q = some (2 * a + 1), rdR H b a c = none]) else none
    | _ => none
  | 40 => match st with
    | .inl n :: r => some (ls, rv b (some (cn H b)) :: r, nw H b n.toNatClampNeg n.toNatClampNeg, [am_okn c n])
    | _ => none
  | 41 => some (ls, rv c (some (cn H b)) :: st, nw H b 0 d, [])
  | 50 => match st with
    | .inr (.inr (e, some a)) :: r => bif Nat.beq e b then some (ls, iv (Int32.ofNat (am_ln c H b a)) :: r, H, []) else none
    | _ => none
  | 51 => match st with
    | .inl j :: .inr (.inr (e, some a)) :: r => bif Nat.beq e b then some (ls, iv (rdI H b a j.toNatClampNeg) :: r, H, [vp_in j (am_ln c H b a)]) else none
    | _ => none
  | 52 => match st with
    | .inl j :: .inr (.inr (e, some a)) :: r => bif Nat.beq e b then some (ls, lv (rdL H b a j.toNatClampNeg) :: r, H, [vp_in j (am_ln c H b a)]) else none
    | _ => none
  | 53 => match st with
    | .inl j :: .inr (.inr (e, some a)) :: r => bif Nat.beq e b then some (ls, rv d (rdR H b a j.toNatClampNeg) :: r, H, [vp_in j (am_ln c H b a)]) else none
    | _ => none
  | 54 => match st with
    | .inl x :: .inl j :: .inr (.inr (e, some a)) :: r => bif Nat.beq e b then some (ls, r, wrI H b a j.toNatClampNeg x, [vp_in j (am_ln c H b a)]) else none
    | _ => none
  | 55 => match st with
    | .inl x :: .inl j :: .inr (.inr (e, some a)) :: r => bif Nat.beq e b then some (ls, r, wrI H b a j.toNatClampNeg (vp_nar .byte x), [vp_in j (am_ln c H b a)]) else none
    | _ => none
  | 56 => match st with
    | .inl x :: .inl j :: .inr (.inr (e, some a)) :: r => bif Nat.beq e b then some (ls, r, wrI H b a j.toNatClampNeg (vp_nar .boolean x), [vp_in j (am_ln c H b a)]) else none
    | _ => none
  | 57 => match st with
    | .inl x :: .inl j :: .inr (.inr (e, some a)) :: r => bif Nat.beq e b then some (ls, r, wrI H b a j.toNatClampNeg (vp_nar .short x), [vp_in j (am_ln c H b a)]) else none
    | _ => none
  | 58 => match st with
    | .inr (.inl x) :: .inl j :: .inr (.inr (e, some a)) :: r => bif Nat.beq e b then some (ls, r, wrL H b a j.toNatClampNeg x, [vp_in j (am_ln c H b a)]) else none
    | _ => none
  | 59 => match st with
    | .inr (.inr (t, q)) :: .inl j :: .inr (.inr (e, some a)) :: r => bif Nat.beq e b && Nat.beq t d then some (ls, r, wrR H b a j.toNatClampNeg q, [vp_in j (am_ln c H b a)]) else none
    | _ => none
  | 61 => some (ls, rv b (some c) :: st, H, [])
  | 62 => some (ls, rv b none :: st, H, [])
  | 63 => match st with
    | [.inr (.inr (e, some a))] => bif Nat.beq e b then some (ls, [iv (Int32.ofNat a)], H, []) else none
    | _ => none
  | 64 => match st with
    | [.inr (.inr (_, some _))] => some (ls, [], H, [])
    | _ => none
  | 65 => match st with
    | .inl n :: r => (match am_nth ls b with
      | some (.inl x) => some (am_set ls b (some (iv (x + n))), r, H, [])
      | _ => none)
    | _ => none
  | _ => none
def am_s (i : am_E) (ls : am_L) (st : List am_V) (H : am_H) : am_X := match i with
  | .inl i => am_s1 i ls st H
  | .inr (.inl x) => some (ls, iv x :: st, H, [])
  | .inr (.inr (.inl x)) => some (ls, lv x :: st, H, [])
  | .inr (.inr (.inr (a, b, c, d))) => am_s2 a b c d ls st H
def am_x : List am_E → am_L → List am_V → am_H → List Prop → am_X
  | [], ls, st, H, ps => some (ls, st, H, ps)
  | i :: r, ls, st, H, ps => match am_s i ls st H with
    | some (ls', st', H', qs) => am_x r ls' st' H' (ps ++ qs)
    | none => none
/-- how a method ends: what it returns, or the class and number of what it throws -/
abbrev am_R : Type := Option am_V ⊕ (Nat × Nat)
abbrev am_O : Type := Option (am_R × am_H)
abbrev rI (x : Int32) (H : am_H) : am_O := some (.inl (some (iv x)), H)
abbrev rL (x : Int64) (H : am_H) : am_O := some (.inl (some (lv x)), H)
abbrev rR (c : Nat) (o : Option Nat) (H : am_H) : am_O := some (.inl (some (rv c o)), H)
abbrev rV (H : am_H) : am_O := some (.inl none, H)
abbrev rE (c i : Nat) (H : am_H) : am_O := some (.inr (c, i), H)
/-- a call, and how it goes on: with an int, a long, a reference, nothing -/
def bI (o : am_O) (k : Int32 → am_H → am_O) (h : Nat → Nat → am_H → am_O) : am_O := match o with
  | some (.inl (some (.inl x)), H) => k x H
  | some (.inr e, H) => h e.1 e.2 H
  | _ => none
def bL (o : am_O) (k : Int64 → am_H → am_O) (h : Nat → Nat → am_H → am_O) : am_O := match o with
  | some (.inl (some (.inr (.inl x))), H) => k x H
  | some (.inr e, H) => h e.1 e.2 H
  | _ => none
def bR (c : Nat) (o : am_O) (k : Option Nat → am_H → am_O) (h : Nat → Nat → am_H → am_O) : am_O := match o with
  | some (.inl (some (.inr (.inr q))), H) => if q.1 = c then k q.2 H else none
  | some (.inr e, H) => h e.1 e.2 H
  | _ => none
def bV (o : am_O) (k : am_H → am_O) (h : Nat → Nat → am_H → am_O) : am_O := match o with
  | some (.inl none, H) => k H
  | some (.inr e, H) => h e.1 e.2 H
  | _ => none
/-- a block: its instructions, how it ends, where that leads, the place behind it, which locals live at its start, what it catches at its end, where a switch leads -/
abbrev am_B : Type := List am_E × Instr × Nat × Nat × List Bool × List (Nat × Nat) × List Nat
/-- a method: how many arguments, how many locals, what it returns (0 nothing, 1 int, 2 long, 4 boolean, 100 + c a reference), its blocks -/
abbrev am_M : Type := Nat × Nat × Nat × (Nat → am_B)
def am_pop : Nat → List am_V → List am_V → Option (List am_V × List am_V)
  | 0, st, acc => some (acc, st)
  | n + 1, v :: st, acc => am_pop n st (v :: acc)
  | _ + 1, [], _ => none
def am_ent : List am_V → am_L
  | [] => []
  | .inr (.inl x) :: r => some (lv x) :: none :: am_ent r
  | v :: r => some v :: am_ent r
/-- the tables: fields of a class's own number (place, code, kind), methods -/
abbrev am_P : Type := (Nat → List (Nat × Nat × Nat)) × (Nat → am_M)
abbrev am_St : Type := Nat × Nat × am_L × List am_V × am_H
/-- a made object's own fields stand -/
def am_done (H : am_H) (c i : Nat) : List (Nat × Nat × Nat) → Prop
  | [] => True
  | (k, _, d) :: r => rdR H c i k = some (match d with | 4 => 2 * i | 5 => 2 * i + 1 | _ => i) ∧ am_done H c i r
def am_jmp (bl : Nat → am_B) (f : am_St → am_O) (m pc : Nat) (ls : am_L) (st : List am_V) (H : am_H) : am_O := match bl pc with
  | (_, _, _, _, mask, _) => f (m, pc, am_mask mask ls, st, H)
def am_hn (bl : Nat → am_B) (f : am_St → am_O) (m : Nat) (ls : am_L) : List (Nat × Nat) → Nat → Nat → am_H → am_O
  | [], _, _, _ => none
  | (d, pc) :: r, c, i, H => if c = d then am_jmp bl f m pc ls [rv d (some i)] H else am_hn bl f m ls r c i H
/-- what is thrown: on to the caller if nothing catches here, else to what catches it -/
def am_hd (bl : Nat → am_B) (f : am_St → am_O) (m : Nat) (ls : am_L) : List (Nat × Nat) → Nat → Nat → am_H → am_O
  | [], c, i, H => rE c i H
  | h :: r, c, i, H => am_hn bl f m ls (h :: r) c i H
def am_one (k : Nat) : List Nat → Bool
  | [j] => Nat.beq k j
  | _ => false
/-- the entry of a switch: target by number from lo on -/
def am_sw : List Nat → Nat → Nat → Nat
  | [], _, d => d
  | t :: _, 0, _ => t
  | _ :: r, n + 1, d => am_sw r n d
def am_lk : List (Int × Int) → List Nat → Int → Nat → Nat
  | (a, _) :: r, t :: ts, x, d => if x = a then t else am_lk r ts x d
  | _, _, _, d => d
noncomputable def am_tm (P : am_P) (f : am_St → am_O) (m rk : Nat) (bl : Nat → am_B) (tg nx : Nat) (hs : List (Nat × Nat)) (sw : List Nat) (ls : am_L) (st : List am_V) (H : am_H) (term : Instr) : am_O :=
    match term with
    | .goto_w _ => am_jmp bl f m nx ls st H
    | .goto _ => am_jmp bl f m tg ls st H
    | .ifCond c _ => (match st with
      | .inl x :: r => (match c with
        | .eq => if x = 0 then am_jmp bl f m tg ls r H else am_jmp bl f m nx ls r H
        | .ne => if x = 0 then am_jmp bl f m nx ls r H else am_jmp bl f m tg ls r H
        | .lt => if x < 0 then am_jmp bl f m tg ls r H else am_jmp bl f m nx ls r H
        | .ge => if 0 ≤ x then am_jmp bl f m tg ls r H else am_jmp bl f m nx ls r H
        | .gt => if 0 < x then am_jmp bl f m tg ls r H else am_jmp bl f m nx ls r H
        | .le => if x ≤ 0 then am_jmp bl f m tg ls r H else am_jmp bl f m nx ls r H)
      | _ => none)
    | .if_icmp c _ => (match st with
      | .inl y :: .inl x :: r => (match c with
        | .eq => if x = y then am_jmp bl f m tg ls r H else am_jmp bl f m nx ls r H
        | .ne => if x = y then am_jmp bl f m nx ls r H else am_jmp bl f m tg ls r H
        | .lt => if x < y then am_jmp bl f m tg ls r H else am_jmp bl f m nx ls r H
        | .ge => if y ≤ x then am_jmp bl f m tg ls r H else am_jmp bl f m nx ls r H
        | .gt => if y < x then am_jmp bl f m tg ls r H else am_jmp bl f m nx ls r H
        | .le => if x ≤ y then am_jmp bl f m tg ls r H else am_jmp bl f m nx ls r H)
      | _ => none)
    | .if_acmp c _ => (match st with
      | .inr (.inr (cy, y)) :: .inr (.inr (cx, x)) :: r => bif Nat.beq cx cy then (match c with
        | .eq => if x = y then am_jmp bl f m tg ls r H else am_jmp bl f m nx ls r H
        | .ne => if x = y then am_jmp bl f m nx ls r H else am_jmp bl f m tg ls r H) else none
      | _ => none)
    | .ifnull _ => (match st with
      | .inr (.inr (_, x)) :: r => (match x with
        | none => am_jmp bl f m tg ls r H
        | some _ => am_jmp bl f m nx ls r H)
      | _ => none)
    | .ifnonnull _ => (match st with
      | .inr (.inr (_, x)) :: r => (match x with
        | none => am_jmp bl f m nx ls r H
        | some _ => am_jmp bl f m tg ls r H)
      | _ => none)
    | .tableswitch _ lo hi _ => (match st with
      | .inl x :: r => if x.toInt < lo ∨ hi < x.toInt then am_jmp bl f m tg ls r H else am_jmp bl f m (am_sw sw (x.toInt - lo).toNat tg) ls r H
      | _ => none)
    | .lookupswitch _ ps => (match st with
      | .inl x :: r => am_jmp bl f m (am_lk ps.toList sw x.toInt tg) ls r H
      | _ => none)
    | .ireturn => (match st with
      | [.inl x] => bif Nat.beq rk 1 then rI x H else bif Nat.beq rk 4 then ck (x &&& 1 = x) (rI x H) else none
      | _ => none)
    | .lreturn => (match st with
      | [.inr (.inl x)] => bif Nat.beq rk 2 then rL x H else none
      | _ => none)
    | .areturn => (match st with
      | [.inr (.inr (c, q))] => bif Nat.beq rk (100 + c) then rR c q H else none
      | _ => none)
    | .return_ => (match st with
      | [] => bif Nat.beq rk 0 then rV H else none
      | _ => none)
    | .athrow => (match st with
      | [] => rE tg (cn H tg) (nw H tg 0 nx)
      | _ => none)
    | .invokestatic _ => (match P.2 tg with
      | (na, mL, rk', bl') => (match am_pop na st [] with
        | none => none
        | some (args, r) => bif Nat.ble r.length 16 && Nat.ble (am_ent args).length mL then (match rk' with
          | 0 => bV (am_jmp bl' f tg 0 (am_ent args) [] H) (fun K => am_jmp bl f m nx ls r K) (am_hd bl f m ls hs)
          | 1 => bI (am_jmp bl' f tg 0 (am_ent args) [] H) (fun x K => am_jmp bl f m nx ls (iv x :: r) K) (am_hd bl f m ls hs)
          | 4 => bI (am_jmp bl' f tg 0 (am_ent args) [] H) (fun x K => am_jmp bl f m nx ls (iv x :: r) K) (am_hd bl f m ls hs)
          | 2 => bL (am_jmp bl' f tg 0 (am_ent args) [] H) (fun x K => am_jmp bl f m nx ls (lv x :: r) K) (am_hd bl f m ls hs)
          | n => bR (n - 100) (am_jmp bl' f tg 0 (am_ent args) [] H) (fun x K => am_jmp bl f m nx ls (rv (n - 100) x :: r) K) (am_hd bl f m ls hs)) else none))
    | .invokevirtual _ => (match P.2 tg with
      | (na, mL, rk', bl') => (match am_pop na st [] with
        | some (.inr (.inr (d, some a)) :: args, r) => bif Nat.ble r.length 16 && (Nat.ble (am_ent (rv d (some a) :: args)).length mL && (Nat.blt d 64 && am_one d sw)) then (match rk' with
          | 0 => bV (am_jmp bl' f tg 0 (am_ent (rv d (some a) :: args)) [] H) (fun K => am_jmp bl f m nx ls r K) (am_hd bl f m ls hs)
          | 1 => bI (am_jmp bl' f tg 0 (am_ent (rv d (some a) :: args)) [] H) (fun x K => am_jmp bl f m nx ls (iv x :: r) K) (am_hd bl f m ls hs)
          | 4 => bI (am_jmp bl' f tg 0 (am_ent (rv d (some a) :: args)) [] H) (fun x K => am_jmp bl f m nx ls (iv x :: r) K) (am_hd bl f m ls hs)
          | 2 => bL (am_jmp bl' f tg 0 (am_ent (rv d (some a) :: args)) [] H) (fun x K => am_jmp bl f m nx ls (lv x :: r) K) (am_hd bl f m ls hs)
          | n => bR (n - 100) (am_jmp bl' f tg 0 (am_ent (rv d (some a) :: args)) [] H) (fun x K => am_jmp bl f m nx ls (rv (n - 100) x :: r) K) (am_hd bl f m ls hs)) else none
        | _ => none))
    | .invokedynamic _ => (match P.2 tg with
      | (na, mL, rk', bl') => (match am_pop na st [] with
        | some (.inr (.inr (d, some a)) :: args, .inr (.inr (e, some b)) :: r) => bif Nat.ble 64 d && Nat.blt d 128 && Nat.beq d e && Nat.beq rk' 0 && Nat.ble r.length 16 && Nat.ble (am_ent (rv d (some a) :: args)).length mL then
          bV (am_jmp bl' f tg 0 (am_ent (rv d (some a) :: args)) [] H) (fun K => ck (am_done K (e - 64) b (P.1 (e - 64))) (am_jmp bl f m nx ls (rv (e - 64) (some b) :: r) K)) (am_hd bl f m ls hs) else none
        | _ => none))
    | _ => none
noncomputable def am_G (P : am_P) (f : am_St → am_O) (m rk : Nat) (bl : Nat → am_B) (B : am_B) (ls : am_L) (st : List am_V) (H : am_H) : am_O := match B with
  | (body, term, tg, nx, _, hs, sw) => match am_x body ls st H [] with
    | none => none
    | some (ls', st', H', ps) => ck (am_all ps) (am_tm P f m rk bl tg nx hs sw ls' st' H' term)
noncomputable def am_F (P : am_P) (f : am_St → am_O) (s : am_St) : am_O := match s with
  | (m, pc, ls, st, H) => match P.2 m with
    | (_, _, rk, bl) => am_G P f m rk bl (bl pc) ls st H
noncomputable def am_run (P : am_P) : Nat → am_St → am_O
  | 0, _ => none
  | n + 1, s => am_F P (am_run P n) s
