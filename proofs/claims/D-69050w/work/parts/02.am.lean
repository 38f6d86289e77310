/-! THE ABSTRACT MACHINE. Values: a plain value (its refs are ids), or an array ref (slot, uid). -/
abbrev am_V : Type := Value ⊕ (Nat × Nat)
/-- an array: uid, owner (object, field), type, length, contents -/
abbrev am_A : Type := Nat × Option (Nat × Nat) × FieldType × Nat × (Nat → Int32)
/-- a heap: objects by id (class number, fields), arrays by slot, ids used, cells made, slots made -/
abbrev am_H : Type := (Nat → Option (Nat × (Nat → am_V))) × (Nat → Option am_A) × Nat × Nat × Nat
/-- an outcome: threw the object x, or returned -/
abbrev am_O : Type := Nat ⊕ Option am_V
abbrev am_R : Type := Option (am_O × am_H)
/-- what an index of an instruction stands for -/
abbrev am_X : Type := Nat × Nat × Nat × Int
def am_mc : Nat := 115630
def am_ms : Nat := 8754592
def am_cat : am_V → Nat
  | .inl v => v.category
  | .inr _ => 1
-- locals
def am_lk : List (Nat × am_V) → Nat → Option am_V
  | [], _ => none
  | (j, v) :: t, i => match Nat.beq j i with
    | true => some v
    | false => am_lk t i
def am_pick (lv : List (Nat × am_V)) : List Nat → Option (List am_V)
  | [] => some []
  | k :: ks => match am_lk lv k with
    | none => none
    | some v => match am_pick lv ks with
      | none => none
      | some t => some (v :: t)
def am_zip : List Nat → List am_V → Option (List (Nat × am_V))
  | [], [] => some []
  | k :: ks, v :: vs => match am_zip ks vs with
    | none => none
    | some t => some ((k, v) :: t)
  | _, _ => none
def am_set1 (lv : List (Nat × am_V)) (i : Nat) (v : am_V) : List (Nat × am_V) := (i, v) :: lv.filter (fun q => !(q.1 == i) && !(q.1 + 1 == i && am_cat q.2 == 2))
def am_set2 (lv : List (Nat × am_V)) (i : Nat) (v : am_V) : List (Nat × am_V) := (i, v) :: lv.filter (fun q => !(q.1 == i) && (!(q.1 == i + 1) && !(q.1 + 1 == i && am_cat q.2 == 2)))
def am_words : List am_V → Nat
  | [] => 0
  | v :: t => am_cat v + am_words t
-- the stack
def am_i1 (st : List am_V) (k : Int32 → List am_V → am_R) : am_R := match st with
  | .inl (.int x) :: t => k x t
  | _ => none
def am_l1 (st : List am_V) (k : Int64 → List am_V → am_R) : am_R := match st with
  | .inl (.long x) :: t => k x t
  | _ => none
def am_o1 (st : List am_V) (k : Nat → List am_V → am_R) : am_R := match st with
  | .inl (.ref o) :: t => k o t
  | _ => none
def am_a1 (st : List am_V) (k : Nat → Nat → List am_V → am_R) : am_R := match st with
  | .inr (a, u) :: t => k a u t
  | _ => none
def am_v1 (st : List am_V) (k : am_V → List am_V → am_R) : am_R := match st with
  | v :: t => k v t
  | _ => none
-- the heap
/-- the fields of an object of a class -/
def am_ob (h : am_H) (ci o : Nat) (k : (Nat → am_V) → am_R) : am_R := match h.1 o with
  | some (c, fs) => if c = ci then k fs else none
  | none => none
def am_gI (h : am_H) (ci o k : Nat) (K : Int32 → am_R) : am_R := am_ob h ci o fun fs => match fs k with
  | .inl (.int x) => K x
  | _ => none
def am_gR (h : am_H) (ci o k : Nat) (K : Nat → am_R) : am_R := am_ob h ci o fun fs => match fs k with
  | .inl (.ref x) => K x
  | _ => none
def am_gA (h : am_H) (ci o k : Nat) (K : Nat → Nat → am_R) : am_R := am_ob h ci o fun fs => match fs k with
  | .inr (a, _) => (match h.2.1 a with
    | some (u, _) => K a u
    | none => none)
  | _ => none
def am_up {α : Type} (f : Nat → α) (k : Nat) (v : α) : Nat → α := fun j => if j = k then v else f j
def am_sO (h : am_H) (o ci : Nat) (fs : Nat → am_V) : am_H := (am_up h.1 o (some (ci, fs)), h.2)
def am_sA (h : am_H) (a : Nat) (A : Option am_A) : am_H := (h.1, am_up h.2.1 a A, h.2.2)
def am_pV (h : am_H) (ci o k : Nat) (v : am_V) (K : am_H → am_R) : am_R := am_ob h ci o fun fs => K (am_sO h o ci (am_up fs k v))
def am_pI (h : am_H) (ci o k : Nat) (x : Int32) (K : am_H → am_R) : am_R := am_pV h ci o k (.inl (.int x)) K
def am_pZ (h : am_H) (ci o k : Nat) (x : Int32) (K : am_H → am_R) : am_R := if x = 0 ∨ x = 1 then am_pV h ci o k (.inl (.int x)) K else none
def am_pR (h : am_H) (ci o k : Nat) (x : Nat) (K : am_H → am_R) : am_R := am_pV h ci o k (.inl (.ref x)) K
/-- an array comes into a field: one that has none gets the slot; one that has one keeps its slot, which is the new array then -/
def am_pA (h : am_H) (ci o k : Nat) (t u : Nat) (K : am_H → am_R) : am_R := am_ob h ci o fun fs => match h.2.1 t with
  | some (u', none, ty, len, f) => if u' = u ∧ t ≠ 0 then (match fs k with
      | .inl .null => K (am_sA (am_sO h o ci (am_up fs k (.inr (t, 0)))) t (some (u, some (o, k), ty, len, f)))
      | .inr (a, _) => if a = t then none else K (am_sA (am_sA h t none) a (some (u, some (o, k), ty, len, f)))
      | _ => none) else none
  | _ => none
/-- an array that is meant by a ref -/
def am_ar (h : am_H) (a u : Nat) (k : Option (Nat × Nat) → FieldType → Nat → (Nat → Int32) → am_R) : am_R := match h.2.1 a with
  | some (u', ow, ty, len, f) => if u' = u then k ow ty len f else none
  | none => none
def am_ix (i : Int32) (len : Nat) (k : Nat → am_R) : am_R := if i < 0 ∨ len ≤ i.toNatClampNeg then none else k i.toNatClampNeg
def am_ld (h : am_H) (a u : Nat) (T : FieldType → Bool) (i : Int32) (K : Int32 → am_R) : am_R := am_ar h a u fun _ ty len f => if T ty = true then am_ix i len fun j => K (f j) else none
def am_nar (ty : FieldType) (x : Int32) : Int32 := match ty with
  | .byte => x.toInt8.toInt32
  | .short => x.toInt16.toInt32
  | .boolean => x &&& 1
  | _ => x
/-- slot 0 is the law's script: nobody writes there -/
def am_st (h : am_H) (a u : Nat) (T : FieldType → Bool) (i x : Int32) (K : am_H → am_R) : am_R := am_ar h a u fun ow ty len f => if T ty = true then am_ix i len fun j => match a with
  | 0 => none
  | a + 1 => K (am_sA h (a + 1) (some (u, ow, ty, len, am_up f j (am_nar ty x)))) else none
def am_al (h : am_H) (a u : Nat) (K : Int32 → am_R) : am_R := am_ar h a u fun _ _ len _ => K (Int32.ofNat len)
def am_tI (ty : FieldType) : Bool := match ty with
  | .int => true
  | _ => false
def am_tS (ty : FieldType) : Bool := match ty with
  | .short => true
  | _ => false
def am_tB (ty : FieldType) : Bool := match ty with
  | .byte => true
  | .boolean => true
  | _ => false
def am_nA (h : am_H) (ty : FieldType) (n : Int32) (K : Nat → am_H → am_R) : am_R :=
  if n < 0 ∨ 16777216 < n.toNatClampNeg ∨ am_mc < h.2.2.2.1 + 1 ∨ am_ms < h.2.2.2.2 + n.toNatClampNeg then none
  else K h.2.2.1 (h.1, am_up h.2.1 h.2.2.1 (some (h.2.2.1, none, ty, n.toNatClampNeg, fun _ => 0)), h.2.2.1 + 1, h.2.2.2.1 + 1, h.2.2.2.2 + n.toNatClampNeg)
/-- System.arraycopy between arrays of one kind -/
def am_teq (a b : FieldType) : Bool := match a, b with
  | .int, .int => true
  | .byte, .byte => true
  | .short, .short => true
  | .boolean, .boolean => true
  | _, _ => false
def am_cp (h : am_H) (a u : Nat) (sp : Int32) (b v : Nat) (dp n : Int32) (K : am_H → am_R) : am_R := am_ar h a u fun _ ty len f => am_ar h b v fun ow ty' len' g =>
  if am_teq ty ty' = true ∧ b ≠ 0 ∧ ¬ sp < 0 ∧ ¬ dp < 0 ∧ ¬ n < 0 ∧ sp.toNatClampNeg + n.toNatClampNeg ≤ len ∧ dp.toNatClampNeg + n.toNatClampNeg ≤ len' then K (am_sA h b (some (v, ow, ty', len', va_cpy f g sp.toNatClampNeg dp.toNatClampNeg n.toNatClampNeg))) else none
/-- a new object: class number, how many slots, fields at first -/
def am_nO (h : am_H) (ci n : Nat) (d : Nat → am_V) (K : Nat → am_H → am_R) : am_R :=
  if am_mc < h.2.2.2.1 + 1 ∨ am_ms < h.2.2.2.2 + n then none
  else K h.2.2.1 (am_up h.1 h.2.2.1 (some (ci, d)), h.2.1, h.2.2.1 + 1, h.2.2.2.1 + 1, h.2.2.2.2 + n)
-- calls: what comes back; a throw goes on, or to the handler
def am_cV (r : am_R) (K : am_H → am_R) : am_R := match r with
  | some (.inl x, h) => some (.inl x, h)
  | some (.inr none, h) => K h
  | _ => none
def am_cI (r : am_R) (K : Int32 → am_H → am_R) : am_R := match r with
  | some (.inl x, h) => some (.inl x, h)
  | some (.inr (some (.inl (.int v))), h) => K v h
  | _ => none
def am_cL (r : am_R) (K : Int64 → am_H → am_R) : am_R := match r with
  | some (.inl x, h) => some (.inl x, h)
  | some (.inr (some (.inl (.long v))), h) => K v h
  | _ => none
def am_cR (r : am_R) (K : Nat → am_H → am_R) : am_R := match r with
  | some (.inl x, h) => some (.inl x, h)
  | some (.inr (some (.inl (.ref v))), h) => K v h
  | _ => none
def am_ct (r : am_R) (T : Nat → am_H → am_R) (K : am_R → am_R) : am_R := match r with
  | some (.inl x, h) => T x h
  | some (.inr v, h) => K (some (.inr v, h))
  | none => none
-- branches
def am_go (pc : Nat) (off : Int) (K : Nat → am_R) : am_R := match (pc : Int) + off with
  | .ofNat t => K t
  | .negSucc _ => none
def am_cc (c : Jvm.ClassFile.Cond) (x y : Int32) (A B : am_R) : am_R := match c with
  | .eq => if x = y then A else B
  | .ne => if x = y then B else A
  | .lt => if x < y then A else B
  | .ge => if x < y then B else A
  | .gt => if y < x then A else B
  | .le => if y < x then B else A
def am_sw (x : Int32) (K : Int → am_R) (dflt : Int) : List (Int × Int) → am_R
  | [] => K dflt
  | (v, off) :: t => if x = Int32.ofInt v then K off else am_sw x K dflt t
def am_tab (lo : Int) : List Int → List (Int × Int)
  | [] => []
  | o :: t => (lo, o) :: am_tab (lo + 1) t
