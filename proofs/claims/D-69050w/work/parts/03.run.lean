def am_ret (rc : Nat) (K : List am_V → am_H → am_R) (st : List am_V) (r : am_R) : am_R := match rc with
  | 0 => am_cV r fun h => K st h
  | 1 => am_cI r fun x h => K (.inl (.int x) :: st) h
  | 2 => am_cL r fun x h => K (.inl (.long x) :: st) h
  | _ => am_cR r fun x h => K (.inl (.ref x) :: st) h
def am_inv (call : Nat → List am_V → am_H → am_R) (hd : Option Nat) (X : am_X) (pc : Nat) (lv : List (Nat × am_V)) (st : List am_V) (h : am_H) (K : Nat → List (Nat × am_V) → List am_V → am_H → am_R) : am_R :=
  match Nat.ble X.2.1 st.length && Nat.ble (am_words (st.drop X.2.1)) 8 with
  | false => none
  | true => (match hd with
      | none => am_ret X.2.2.1 (fun st h => K (pc + 3) lv st h) (st.drop X.2.1) (call X.1 (st.take X.2.1).reverse h)
      | some t => am_ct (call X.1 (st.take X.2.1).reverse h) (fun x h => K t lv [.inl (.ref x)] h) fun r => am_ret X.2.2.1 (fun st h => K (pc + 3) lv st h) (st.drop X.2.1) r)
def am_b01 (x : Int32) (r : am_R) : am_R := match x == 0 || x == 1 with
  | true => r
  | false => none
/-- an instruction with what its index stands for; hd: where a throw from here is caught; d: what fields a new object has at first -/
def am_step (call : Nat → List am_V → am_H → am_R) (hd : Option Nat) (dfl : Nat → Nat → am_V) (ins : Instr) (X : am_X) (pc : Nat) (lv : List (Nat × am_V)) (st : List am_V) (h : am_H)
    (K : Nat → List (Nat × am_V) → List am_V → am_H → am_R) : am_R := match ins with
  | .iconst n => K (pc + 1) lv (.inl (.int (Int32.ofInt n)) :: st) h
  | .bipush n => K (pc + 2) lv (.inl (.int ((Int8.ofInt n).toInt32)) :: st) h
  | .sipush n => K (pc + 3) lv (.inl (.int ((Int16.ofInt n).toInt32)) :: st) h
  | .lconst n => K (pc + 1) lv (.inl (.long (Int64.ofNat (n : Nat))) :: st) h
  | .ldc _ => K (pc + 2) lv ((match X.1 with
      | 0 => .inl (.int (Int32.ofInt X.2.2.2))
      | _ => .inl (.ref X.2.1)) :: st) h
  | .ldc_w _ => K (pc + 3) lv ((match X.1 with
      | 0 => .inl (.int (Int32.ofInt X.2.2.2))
      | _ => .inl (.ref X.2.1)) :: st) h
  | .ldc2_w _ => K (pc + 3) lv (.inl (.long (Int64.ofInt X.2.2.2)) :: st) h
  | .iload_n k => (match am_lk lv k with
      | some (.inl (.int x)) => K (pc + 1) lv (.inl (.int x) :: st) h
      | _ => none)
  | .iload k => (match am_lk lv k with
      | some (.inl (.int x)) => K (pc + 2) lv (.inl (.int x) :: st) h
      | _ => none)
  | .lload_n k => (match am_lk lv k with
      | some (.inl (.long x)) => K (pc + 1) lv (.inl (.long x) :: st) h
      | _ => none)
  | .lload k => (match am_lk lv k with
      | some (.inl (.long x)) => K (pc + 2) lv (.inl (.long x) :: st) h
      | _ => none)
  | .aload_n k => (match am_lk lv k with
      | some (.inl (.ref x)) => K (pc + 1) lv (.inl (.ref x) :: st) h
      | some (.inr x) => K (pc + 1) lv (.inr x :: st) h
      | _ => none)
  | .aload k => (match am_lk lv k with
      | some (.inl (.ref x)) => K (pc + 2) lv (.inl (.ref x) :: st) h
      | some (.inr x) => K (pc + 2) lv (.inr x :: st) h
      | _ => none)
  | .istore_n k => am_i1 st fun x t => K (pc + 1) (am_set1 lv k (.inl (.int x))) t h
  | .istore k => am_i1 st fun x t => K (pc + 2) (am_set1 lv k (.inl (.int x))) t h
  | .lstore_n k => am_l1 st fun x t => K (pc + 1) (am_set2 lv k (.inl (.long x))) t h
  | .lstore k => am_l1 st fun x t => K (pc + 2) (am_set2 lv k (.inl (.long x))) t h
  | .astore_n k => (match st with
      | .inl (.ref x) :: t => K (pc + 1) (am_set1 lv k (.inl (.ref x))) t h
      | .inr x :: t => K (pc + 1) (am_set1 lv k (.inr x)) t h
      | _ => none)
  | .astore k => (match st with
      | .inl (.ref x) :: t => K (pc + 2) (am_set1 lv k (.inl (.ref x))) t h
      | .inr x :: t => K (pc + 2) (am_set1 lv k (.inr x)) t h
      | _ => none)
  | .iinc k n => (match am_lk lv k with
      | some (.inl (.int x)) => K (pc + 3) (am_set1 lv k (.inl (.int (x + Int32.ofInt n)))) st h
      | _ => none)
  | .iadd => am_i1 st fun y t => am_i1 t fun x t => K (pc + 1) lv (.inl (.int (x + y)) :: t) h
  | .isub => am_i1 st fun y t => am_i1 t fun x t => K (pc + 1) lv (.inl (.int (x - y)) :: t) h
  | .imul => am_i1 st fun y t => am_i1 t fun x t => K (pc + 1) lv (.inl (.int (x * y)) :: t) h
  | .iand => am_i1 st fun y t => am_i1 t fun x t => K (pc + 1) lv (.inl (.int (x &&& y)) :: t) h
  | .ior => am_i1 st fun y t => am_i1 t fun x t => K (pc + 1) lv (.inl (.int (x ||| y)) :: t) h
  | .idiv => am_i1 st fun y t => am_i1 t fun x t => if y = 0 then none else K (pc + 1) lv (.inl (.int (x / y)) :: t) h
  | .irem => am_i1 st fun y t => am_i1 t fun x t => if y = 0 then none else K (pc + 1) lv (.inl (.int (x - x / y * y)) :: t) h
  | .ineg => am_i1 st fun x t => K (pc + 1) lv (.inl (.int (-x)) :: t) h
  | .ishr => am_i1 st fun y t => am_i1 t fun x t => K (pc + 1) lv (.inl (.int (x >>> (y &&& 31))) :: t) h
  | .iushr => am_i1 st fun y t => am_i1 t fun x t => K (pc + 1) lv (.inl (.int ((x.toUInt32 >>> (y.toUInt32 &&& Int32.toUInt32 31)).toInt32)) :: t) h
  | .ladd => am_l1 st fun y t => am_l1 t fun x t => K (pc + 1) lv (.inl (.long (x + y)) :: t) h
  | .lsub => am_l1 st fun y t => am_l1 t fun x t => K (pc + 1) lv (.inl (.long (x - y)) :: t) h
  | .lmul => am_l1 st fun y t => am_l1 t fun x t => K (pc + 1) lv (.inl (.long (x * y)) :: t) h
  | .land => am_l1 st fun y t => am_l1 t fun x t => K (pc + 1) lv (.inl (.long (x &&& y)) :: t) h
  | .lor => am_l1 st fun y t => am_l1 t fun x t => K (pc + 1) lv (.inl (.long (x ||| y)) :: t) h
  | .ldiv => am_l1 st fun y t => am_l1 t fun x t => if y = 0 then none else K (pc + 1) lv (.inl (.long (x / y)) :: t) h
  | .lrem => am_l1 st fun y t => am_l1 t fun x t => if y = 0 then none else K (pc + 1) lv (.inl (.long (x - x / y * y)) :: t) h
  | .lneg => am_l1 st fun x t => K (pc + 1) lv (.inl (.long (-x)) :: t) h
  | .lshl => am_i1 st fun y t => am_l1 t fun x t => K (pc + 1) lv (.inl (.long (x <<< (y.toInt64 &&& 63))) :: t) h
  | .lushr => am_i1 st fun y t => am_l1 t fun x t => K (pc + 1) lv (.inl (.long ((x.toUInt64 >>> (y.toInt64.toUInt64 &&& Int64.toUInt64 63)).toInt64)) :: t) h
  | .lcmp => am_l1 st fun y t => am_l1 t fun x t => K (pc + 1) lv (.inl (.int (lg_cmp x y)) :: t) h
  | .i2l => am_i1 st fun x t => K (pc + 1) lv (.inl (.long x.toInt64) :: t) h
  | .l2i => am_l1 st fun x t => K (pc + 1) lv (.inl (.int x.toInt32) :: t) h
  | .i2b => am_i1 st fun x t => K (pc + 1) lv (.inl (.int x.toInt8.toInt32) :: t) h
  | .i2s => am_i1 st fun x t => K (pc + 1) lv (.inl (.int x.toInt16.toInt32) :: t) h
  | .pop => (match st with
      | v :: t => if am_cat v = 1 then K (pc + 1) lv t h else none
      | _ => none)
  | .dup => (match st with
      | v :: t => if am_cat v = 1 then K (pc + 1) lv (v :: v :: t) h else none
      | _ => none)
  | .dup_x1 => (match st with
      | v :: w :: t => if am_cat v = 1 ∧ am_cat w = 1 then K (pc + 1) lv (v :: w :: v :: t) h else none
      | _ => none)
  | .dup_x2 => (match st with
      | v :: w :: z :: t => if am_cat v = 1 ∧ am_cat w = 1 ∧ am_cat z = 1 then K (pc + 1) lv (v :: w :: z :: v :: t) h else none
      | _ => none)
  | .dup2 => (match st with
      | v :: w :: t => if am_cat v = 1 ∧ am_cat w = 1 then K (pc + 1) lv (v :: w :: v :: w :: t) h else none
      | _ => none)
  | .goto off => am_go pc off fun t => K t lv st h
  | .ifCond c off => am_i1 st fun x t => am_cc c x 0 (am_go pc off fun tg => K tg lv t h) (K (pc + 3) lv t h)
  | .if_icmp c off => am_i1 st fun y t => am_i1 t fun x t => am_cc c x y (am_go pc off fun tg => K tg lv t h) (K (pc + 3) lv t h)
  | .tableswitch dflt lo _ offs => am_i1 st fun x t => am_sw x (fun off => am_go pc off fun tg => K tg lv t h) dflt (am_tab lo offs.toList)
  | .lookupswitch dflt ps => am_i1 st fun x t => am_sw x (fun off => am_go pc off fun tg => K tg lv t h) dflt ps.toList
  | .getfield _ => am_o1 st fun o t => (match X.2.2.1 with
      | 0 => am_gI h X.1 o X.2.1 fun x => K (pc + 3) lv (.inl (.int x) :: t) h
      | 1 => am_gI h X.1 o X.2.1 fun x => K (pc + 3) lv (.inl (.int x) :: t) h
      | 2 => am_gR h X.1 o X.2.1 fun x => K (pc + 3) lv (.inl (.ref x) :: t) h
      | _ => am_gA h X.1 o X.2.1 fun a u => K (pc + 3) lv (.inr (a, u) :: t) h)
  | .putfield _ => (match X.2.2.1 with
      | 0 => am_i1 st fun x t => am_o1 t fun o t => am_pI h X.1 o X.2.1 x fun h => K (pc + 3) lv t h
      | 1 => am_i1 st fun x t => am_o1 t fun o t => am_pZ h X.1 o X.2.1 x fun h => K (pc + 3) lv t h
      | 2 => am_o1 st fun x t => am_o1 t fun o t => am_pR h X.1 o X.2.1 x fun h => K (pc + 3) lv t h
      | _ => am_a1 st fun a u t => am_o1 t fun o t => am_pA h X.1 o X.2.1 a u fun h => K (pc + 3) lv t h)
  | .arraylength => am_a1 st fun a u t => am_al h a u fun n => K (pc + 1) lv (.inl (.int n) :: t) h
  | .iaload => am_i1 st fun i t => am_a1 t fun a u t => am_ld h a u am_tI i fun x => K (pc + 1) lv (.inl (.int x) :: t) h
  | .baload => am_i1 st fun i t => am_a1 t fun a u t => am_ld h a u am_tB i fun x => K (pc + 1) lv (.inl (.int x) :: t) h
  | .saload => am_i1 st fun i t => am_a1 t fun a u t => am_ld h a u am_tS i fun x => K (pc + 1) lv (.inl (.int x) :: t) h
  | .iastore => am_i1 st fun x t => am_i1 t fun i t => am_a1 t fun a u t => am_st h a u am_tI i x fun h => K (pc + 1) lv t h
  | .bastore => am_i1 st fun x t => am_i1 t fun i t => am_a1 t fun a u t => am_st h a u am_tB i x fun h => K (pc + 1) lv t h
  | .sastore => am_i1 st fun x t => am_i1 t fun i t => am_a1 t fun a u t => am_st h a u am_tS i x fun h => K (pc + 1) lv t h
  | .newarray ty => am_i1 st fun n t => am_nA h (newarray.typeOf ty) n fun a h => K (pc + 2) lv (.inr (a, a) :: t) h
  | .new _ => am_nO h X.1 X.2.1 (dfl X.1) fun o h => K (pc + 3) lv (.inl (.ref o) :: st) h
  | .invokevirtual _ => am_inv call hd X pc lv st h K
  | .invokespecial _ => (match X.1 with
      | 0 => am_o1 st fun _ t => (match t with
        | [] => K (pc + 3) lv [] h
        | _ => none)
      | _ => am_inv call hd X pc lv st h K)
  | .invokestatic _ => (match Nat.beq X.1 901 with
      | true => am_i1 st fun n t => am_i1 t fun dp t => am_a1 t fun b v t => am_i1 t fun sp t => am_a1 t fun a u t => (match Nat.ble (am_words t) 8 with
        | true => am_cp h a u sp b v dp n fun h => K (pc + 3) lv t h
        | false => none)
      | false => am_inv call hd X pc lv st h K)
  | .athrow => (match hd with
      | none => am_o1 st fun x _ => am_ob h 22 x fun _ => some (.inl x, h)
      | some _ => none)
  | .ireturn => (match st with
      | [.inl (.int x)] => (match X.1 with
        | 0 => some (.inr (some (.inl (.int x))), h)
        | _ => am_b01 x (some (.inr (some (.inl (.int x))), h)))
      | _ => none)
  | .lreturn => (match st with
      | [.inl (.long x)] => some (.inr (some (.inl (.long x))), h)
      | _ => none)
  | .areturn => (match st with
      | [.inl (.ref x)] => some (.inr (some (.inl (.ref x))), h)
      | _ => none)
  | .return_ => (match st with
      | [] => some (.inr none, h)
      | _ => none)
  | _ => none
/-- a method: its instructions by pc, its cuts (pc, live locals), its handler (from, to, target), the locals of its arguments, how many instructions a segment has at most, its receiver's class, how many locals -/
abbrev am_M : Type := List (Nat × Instr × am_X) × List (Nat × List Nat) × Option (Nat × Nat × Nat) × List Nat × Nat × Option Nat × Nat
/-- the receiver is of its class -/
def am_rcv (q : Option Nat) (a : List am_V) (h : am_H) (r : am_R) : am_R := match q with
  | none => r
  | some ci => (match a with
      | .inl (.ref o) :: _ => am_ob h ci o fun _ => r
      | _ => none)
def am_pos : Nat → List am_V → List Nat
  | _, [] => []
  | k, v :: t => k :: am_pos (match Nat.beq (am_cat v) 2 with
    | true => k + 2
    | false => k + 1) t
def am_leq : List Nat → List Nat → Bool
  | [], [] => true
  | a :: s, b :: t => Nat.beq a b && am_leq s t
  | _, _ => false
/-- at a method's entry: its arguments lie where they must -/
def am_ent (M : am_M) (pc : Nat) (a : List am_V) (h : am_H) (r : am_R) : am_R := match pc with
  | 0 => (match am_leq (am_pos 0 a) M.2.2.2.1 && Nat.ble (am_words a) M.2.2.2.2.2.2 with
    | true => am_rcv M.2.2.2.2.2.1 a h r
    | false => none)
  | _ + 1 => r
def am_at {α : Type} : List (Nat × α) → Nat → Option α
  | [], _ => none
  | (j, v) :: t, i => match Nat.beq j i with
    | true => some v
    | false => am_at t i
def am_hd (q : Option (Nat × Nat × Nat)) (pc : Nat) : Option Nat := match q with
  | none => none
  | some (a, b, t) => match Nat.ble a pc && Nat.blt pc b with
    | true => some t
    | false => none
def am_run (call : Nat → List am_V → am_H → am_R) (loop : Nat → List am_V → am_H → am_R) (dfl : Nat → Nat → am_V) (M : am_M) : Nat → Nat → List (Nat × am_V) → List am_V → am_H → am_R
  | 0, _, _, _, _ => none
  | f + 1, pc, lv, st, h => match am_at M.1 pc with
    | none => none
    | some (ins, X) => am_step call (am_hd M.2.2.1 pc) dfl ins X pc lv st h fun pc lv st h => match am_at M.2.1 pc with
      | none => am_run call loop dfl M f pc lv st h
      | some ks => match st with
        | [] => (match am_pick lv ks with
          | some a => loop pc a h
          | none => none)
        | _ => none
/-- the locals that a frame has at a place where it begins -/
def am_ks (M : am_M) (pc : Nat) : List Nat := match am_at M.2.1 pc with
  | some ks => ks
  | none => M.2.2.2.1
/-- the knot: fuel, depth of calls, (method, pc), the values of the locals -/
def am_sem (P : Nat → Option am_M) (prim : Nat → Nat → List am_V → am_H → am_R) (dfl : Nat → Nat → am_V) : Nat → Nat → Nat → Nat → List am_V → am_H → am_R
  | 0, _, _, _, _, _ => none
  | n + 1, d, mi, pc, a, h => match P mi with
    | none => prim d mi a h
    | some M => am_ent M pc a h (match am_zip (am_ks M pc) a with
      | none => none
      | some lv => am_run (fun i a h => match d with
        | 0 => none
        | d + 1 => am_sem P prim dfl n d i 0 a h) (fun pc a h => am_sem P prim dfl n d mi pc a h) dfl M M.2.2.2.2.1 pc lv [] h)
