/-! THE CHECK of a method's rows, as a Bool. fT .. : the tables of a class's entries; their rows are proved beside them. -/
def am_h5 : List (Nat × Nat × Nat × Nat × Nat) → Nat → Nat → Nat → Nat → Nat → Bool
  | [], _, _, _, _, _ => false
  | (a', b', c', d', e') :: t, a, b, c, d, e => (Nat.beq a a' && (Nat.beq b b' && (Nat.beq c c' && (Nat.beq d d' && Nat.beq e e')))) || am_h5 t a b c d e
def am_h3 : List (Nat × Nat × Nat) → Nat → Nat → Nat → Bool
  | [], _, _, _ => false
  | (a', b', c') :: t, a, b, c => (Nat.beq a a' && (Nat.beq b b' && Nat.beq c c')) || am_h3 t a b c
def am_h2 : List (Nat × Nat) → Nat → Nat → Bool
  | [], _, _ => false
  | (a', b') :: t, a, b => (Nat.beq a a' && Nat.beq b b') || am_h2 t a b
def am_hI : List (Nat × Int) → Nat → Int → Bool
  | [], _, _ => false
  | (a', b') :: t, a, b => (Nat.beq a a' && decide (b = b')) || am_hI t a b
theorem am_h5_mem {l : List (Nat × Nat × Nat × Nat × Nat)} {a b c d e : Nat} (h : am_h5 l a b c d e = true) : (a, b, c, d, e) ∈ l := by
  induction l with
  | nil => cases h
  | cons q t ih =>
    obtain ⟨a', b', c', d', e'⟩ := q
    simp only [am_h5, Bool.or_eq_true, Bool.and_eq_true] at h
    rcases h with ⟨h1, h2, h3, h4, h5⟩ | h
    · rw [Nat.eq_of_beq_eq_true h1, Nat.eq_of_beq_eq_true h2, Nat.eq_of_beq_eq_true h3, Nat.eq_of_beq_eq_true h4, Nat.eq_of_beq_eq_true h5]; exact List.mem_cons_self
    · exact List.mem_cons_of_mem _ (ih h)
theorem am_h3_mem {l : List (Nat × Nat × Nat)} {a b c : Nat} (h : am_h3 l a b c = true) : (a, b, c) ∈ l := by
  induction l with
  | nil => cases h
  | cons q t ih =>
    obtain ⟨a', b', c'⟩ := q
    simp only [am_h3, Bool.or_eq_true, Bool.and_eq_true] at h
    rcases h with ⟨h1, h2, h3⟩ | h
    · rw [Nat.eq_of_beq_eq_true h1, Nat.eq_of_beq_eq_true h2, Nat.eq_of_beq_eq_true h3]; exact List.mem_cons_self
    · exact List.mem_cons_of_mem _ (ih h)
theorem am_h2_mem {l : List (Nat × Nat)} {a b : Nat} (h : am_h2 l a b = true) : (a, b) ∈ l := by
  induction l with
  | nil => cases h
  | cons q t ih =>
    obtain ⟨a', b'⟩ := q
    simp only [am_h2, Bool.or_eq_true, Bool.and_eq_true] at h
    rcases h with ⟨h1, h2⟩ | h
    · rw [Nat.eq_of_beq_eq_true h1, Nat.eq_of_beq_eq_true h2]; exact List.mem_cons_self
    · exact List.mem_cons_of_mem _ (ih h)
theorem am_hI_mem {l : List (Nat × Int)} {a : Nat} {b : Int} (h : am_hI l a b = true) : (a, b) ∈ l := by
  induction l with
  | nil => cases h
  | cons q t ih =>
    obtain ⟨a', b'⟩ := q
    simp only [am_hI, Bool.or_eq_true, Bool.and_eq_true, decide_eq_true_eq] at h
    rcases h with ⟨h1, h2⟩ | h
    · rw [Nat.eq_of_beq_eq_true h1, h2]; exact List.mem_cons_self
    · exact List.mem_cons_of_mem _ (ih h)
/-- the tables of a class: fields (index, class, field, kind, final), classes made, ints, longs, Strings (index, id), methods (index, method), Object's constructor, arraycopy -/
abbrev am_CT9 : Type := List (Nat × Nat × Nat × Nat × Nat) × List (Nat × Nat) × List (Nat × Int) × List (Nat × Int) × List (Nat × Nat) × List (Nat × Nat) × List Nat × List Nat
/-- their rows hold -/
def am_okT9 (nmf : Nat → MethodName) (oc : Nat) (t : am_CT9) : Prop :=
  (∀ q ∈ t.1, ∃ C T N, am_cl[q.2.1]? = some (C, T, N) ∧ q.2.2.1 < N ∧ am_tcd (am_ty q.2.1 q.2.2.1) = q.2.2.2.1 ∧ q.2.2.2.1 ≤ 3 ∧ am_lnk (am_own oc) q.1 T q.2.2.1 ∧ (q.2.2.2.2 = 0 → (T q.2.2.1).2.2.2 = false) ∧ (q.2.1 = oc → (T q.2.2.1).1 = am_own oc)) ∧
  (∀ q ∈ t.2.1, ∃ C T N, am_cl[q.2]? = some (C, T, N) ∧ Cond.classLink (am_own oc) q.1 C ∈ am_tbl) ∧
  (∀ q ∈ t.2.2.1, Cond.constant (am_own oc) q.1 (Int32.ofInt q.2) ∈ am_tbl) ∧ (∀ q ∈ t.2.2.2.1, Cond.constantLong (am_own oc) q.1 (Int64.ofInt q.2) ∈ am_tbl) ∧
  (∀ q ∈ t.2.2.2.2.1, ∃ tx, (oc, q.1, q.2, tx) ∈ am_sT) ∧ (∀ q ∈ t.2.2.2.2.2.1, am_ml (am_own oc) q.1 (nmf q.2)) ∧ (∀ i ∈ t.2.2.2.2.2.2.1, Cond.methodLink (am_own oc) i objectInit ∈ am_tbl) ∧ (∀ i ∈ t.2.2.2.2.2.2.2, Cond.methodLink (am_own oc) i arraycopyName ∈ am_tbl)
/-- callees by kind: (method, how many parameters) -/
abbrev am_KT9 : Type := List (Nat × Nat) × List (Nat × Nat) × List (Nat × Nat)
def am_okK9 (nmf : Nat → MethodName) (inst : Nat → Prop) (t : am_KT9) : Prop :=
  (∀ q ∈ t.1, Cond.instanceMethod (nmf q.1) ∈ am_tbl ∧ Cond.selects (nmf q.1).cls (nmf q.1) (nmf q.1) ∈ am_tbl ∧ am_okC (nmf q.1) q.2 ∧ inst q.1) ∧
  (∀ q ∈ t.2.1, (nmf q.1).name = "<init>" ∧ Cond.instanceMethod (nmf q.1) ∈ am_tbl ∧ (∃ bytes maxL, Cond.code (nmf q.1) bytes maxL none ∈ am_tbl) ∧ am_okC (nmf q.1) q.2 ∧ inst q.1) ∧
  (∀ q ∈ t.2.2, Cond.static (nmf q.1) ∈ am_tbl ∧ am_okC (nmf q.1) q.2)
def am_hN (l : List Nat) (a : Nat) : Bool := match l with
  | [] => false
  | b :: t => Nat.beq a b || am_hN t a
theorem am_hN_mem {l : List Nat} {a : Nat} (h : am_hN l a = true) : a ∈ l := by
  induction l with
  | nil => cases h
  | cons q t ih =>
    simp only [am_hN, Bool.or_eq_true] at h
    rcases h with h1 | h
    · rw [Nat.eq_of_beq_eq_true h1]; exact List.mem_cons_self
    · exact List.mem_cons_of_mem _ (ih h)
def am_isR (ret : Option FieldType) (k : Nat) : Bool := match ret, k with
  | none, 0 => true
  | some .int, 1 => true
  | some .boolean, 2 => true
  | some .long, 3 => true
  | some (.object _), 4 => true
  | _, _ => false
def am_pos0 (x : Int) : Bool := match x with
  | .ofNat _ => true
  | .negSucc _ => false
def am_newT (t : ArrayType) : Bool := match t with
  | .int => true
  | .byte => true
  | .short => true
  | .boolean => true
  | _ => false
/-- an instruction's row -/
def am_bI (ct : am_CT9) (kt : am_KT9) (oc : Nat) (ini : Bool) (cc : ByteArray) (nL : Nat) (ret : Option FieldType) (pc : Nat) (ins : Instr) (X : am_X) : Bool := decide (decode cc pc = .ok (ins, am_len ins X)) && (match ins with
  | .istore_n k => Nat.blt k nL
  | .istore k => Nat.blt k nL
  | .astore_n k => Nat.blt k nL
  | .astore k => Nat.blt k nL
  | .lstore_n k => Nat.blt (k + 1) nL
  | .lstore k => Nat.blt (k + 1) nL
  | .iinc k _ => Nat.blt k nL
  | .ifCond _ off => am_pos0 ((pc : Int) + off)
  | .if_icmp _ off => am_pos0 ((pc : Int) + off)
  | .tableswitch _ lo hi offs => decide (-2147483648 ≤ lo) && (decide (hi < 2147483648) && decide ((offs.size : Int) = hi - lo + 1))
  | .lookupswitch _ ps => ps.toList.all (fun q => decide (-2147483648 ≤ q.1) && decide (q.1 < 2147483648)) && (ps.toList.zip (ps.toList.drop 1)).all (fun (a, next) => a.1 < next.1)
  | .getfield i => am_h5 ct.1 i X.1 X.2.1 X.2.2.1 0 || am_h5 ct.1 i X.1 X.2.1 X.2.2.1 1
  | .putfield i => am_h5 ct.1 i X.1 X.2.1 X.2.2.1 0 || (am_h5 ct.1 i X.1 X.2.1 X.2.2.1 1 && (Nat.beq X.1 oc && ini))
  | .newarray t => am_newT t
  | .new i => am_h2 ct.2.1 i X.1 && Nat.beq X.2.1 (am_sz X.1)
  | .ldc i => (Nat.beq X.1 0 && am_hI ct.2.2.1 i X.2.2.2) || (Nat.beq X.1 1 && am_h2 ct.2.2.2.2.1 i X.2.1)
  | .ldc_w i => Nat.beq X.1 0 && am_hI ct.2.2.1 i X.2.2.2
  | .ldc2_w i => am_hI ct.2.2.2.1 i X.2.2.2
  | .invokevirtual i => am_h2 ct.2.2.2.2.2.1 i X.1 && (Nat.blt 0 X.2.1 && am_h2 kt.1 X.1 (X.2.1 - 1))
  | .invokespecial i => (Nat.beq X.1 0 && am_hN ct.2.2.2.2.2.2.1 i) || (Nat.blt 0 X.1 && (am_h2 ct.2.2.2.2.2.1 i X.1 && (Nat.blt 0 X.2.1 && am_h2 kt.2.1 X.1 (X.2.1 - 1))))
  | .invokestatic i => (Nat.beq X.1 901 && am_hN ct.2.2.2.2.2.2.2 i) || (!(Nat.beq X.1 901) && (am_h2 ct.2.2.2.2.2.1 i X.1 && am_h2 kt.2.2 X.1 X.2.1))
  | .ireturn => (Nat.beq X.1 0 && am_isR ret 1) || (Nat.blt 0 X.1 && am_isR ret 2)
  | .lreturn => am_isR ret 3
  | .areturn => am_isR ret 4
  | .return_ => am_isR ret 0
  | _ => true)
theorem am_isR_ok {ret : Option FieldType} {k : Nat} (h : am_isR ret k = true) : (k = 0 → ret = none) ∧ (k = 1 → ret = some .int) ∧ (k = 2 → ret = some .boolean) ∧ (k = 3 → ret = some .long) ∧ (k = 4 → ∃ C, ret = some (.object C)) := by
  unfold am_isR at h
  split at h <;> first | (simp; done) | (cases h; done)
theorem am_pos0_ok {x : Int} (h : am_pos0 x = true) : ∃ t : Nat, x = (t : Int) := by
  cases x with
  | ofNat t => exact ⟨t, rfl⟩
  | negSucc t => cases h
theorem am_blt {a b : Nat} (h : Nat.blt a b = true) : a < b := Nat.le_of_ble_eq_true h
theorem am_bI_ok {nmf : Nat → MethodName} {inst : Nat → Prop} {ct : am_CT9} {kt : am_KT9} {oc : Nat} {ini : Bool} {nm : String} {cc : ByteArray} {nL : Nat} {ret : Option FieldType} {pc : Nat} {ins : Instr} {X : am_X} (hT : am_okT9 nmf oc ct) (hKt : am_okK9 nmf inst kt) (hini : ini = true → nm = "<init>")
    (hAr : Cond.arrayClass .int ∈ am_tbl ∧ Cond.arrayClass .byte ∈ am_tbl ∧ Cond.arrayClass .short ∈ am_tbl ∧ Cond.arrayClass .boolean ∈ am_tbl) (h : am_bI ct kt oc ini cc nL ret pc ins X = true) : am_okI nmf inst (am_own oc) nm cc nL ret pc ins X := by
  unfold am_bI at h
  rw [Bool.and_eq_true] at h
  obtain ⟨h1, h⟩ := h
  refine ⟨of_decide_eq_true h1, ?_⟩
  obtain ⟨tF, tC, tK, tL, tS, tM, tO, tA⟩ := hT
  obtain ⟨kV, kN, kS⟩ := hKt
  cases ins with
  | istore_n k => exact am_blt h
  | istore k => exact am_blt h
  | astore_n k => exact am_blt h
  | astore k => exact am_blt h
  | lstore_n k => exact am_blt h
  | lstore k => exact am_blt h
  | iinc k n => exact am_blt h
  | ifCond c off => exact am_pos0_ok h
  | if_icmp c off => exact am_pos0_ok h
  | tableswitch d lo hi offs =>
    simp only [Bool.and_eq_true, decide_eq_true_eq] at h
    exact h
  | lookupswitch d ps =>
    simp only [Bool.and_eq_true, List.all_eq_true, decide_eq_true_eq] at h
    exact ⟨h.1, by simpa only [List.all_eq_true, decide_eq_true_eq] using h.2⟩
  | getfield i =>
    have h : (am_h5 ct.1 i X.1 X.2.1 X.2.2.1 0 || am_h5 ct.1 i X.1 X.2.1 X.2.2.1 1) = true := h
    rw [Bool.or_eq_true] at h
    rcases h with h | h
    · obtain ⟨C, T, N, q1, q2, q3, q4, q5, -⟩ := tF _ (am_h5_mem h); exact ⟨C, T, N, q1, q2, q3, q4, q5⟩
    · obtain ⟨C, T, N, q1, q2, q3, q4, q5, -⟩ := tF _ (am_h5_mem h); exact ⟨C, T, N, q1, q2, q3, q4, q5⟩
  | putfield i =>
    have h : (am_h5 ct.1 i X.1 X.2.1 X.2.2.1 0 || (am_h5 ct.1 i X.1 X.2.1 X.2.2.1 1 && (Nat.beq X.1 oc && ini))) = true := h
    rw [Bool.or_eq_true, Bool.and_eq_true, Bool.and_eq_true] at h
    rcases h with h | ⟨h, h2, h3⟩
    · obtain ⟨C, T, N, q1, q2, q3, q4, q5, q6, -⟩ := tF _ (am_h5_mem h); exact ⟨C, T, N, q1, q2, q3, q4, q5, Or.inl (q6 rfl)⟩
    · obtain ⟨C, T, N, q1, q2, q3, q4, q5, -, q7⟩ := tF _ (am_h5_mem h); exact ⟨C, T, N, q1, q2, q3, q4, q5, Or.inr ⟨q7 (Nat.eq_of_beq_eq_true h2), hini h3⟩⟩
  | newarray t => cases t <;> first | exact ⟨hAr.1, rfl⟩ | exact ⟨hAr.2.1, rfl⟩ | exact ⟨hAr.2.2.1, rfl⟩ | exact ⟨hAr.2.2.2, rfl⟩ | cases h
  | new i =>
    have h : (am_h2 ct.2.1 i X.1 && Nat.beq X.2.1 (am_sz X.1)) = true := h
    rw [Bool.and_eq_true] at h
    obtain ⟨C, T, N, q1, q2⟩ := tC _ (am_h2_mem h.1)
    exact ⟨C, T, N, q1, Nat.eq_of_beq_eq_true h.2, q2⟩
  | ldc i =>
    have h : ((Nat.beq X.1 0 && am_hI ct.2.2.1 i X.2.2.2) || (Nat.beq X.1 1 && am_h2 ct.2.2.2.2.1 i X.2.1)) = true := h
    rw [Bool.or_eq_true, Bool.and_eq_true, Bool.and_eq_true] at h
    rcases h with ⟨h2, h3⟩ | ⟨h2, h3⟩
    · exact Or.inl ⟨Nat.eq_of_beq_eq_true h2, tK _ (am_hI_mem h3)⟩
    · obtain ⟨tx, q⟩ := tS _ (am_h2_mem h3)
      exact Or.inr ⟨by rw [Nat.eq_of_beq_eq_true h2]; decide, oc, tx, rfl, q⟩
  | ldc_w i =>
    have h : (Nat.beq X.1 0 && am_hI ct.2.2.1 i X.2.2.2) = true := h
    rw [Bool.and_eq_true] at h
    exact ⟨Nat.eq_of_beq_eq_true h.1, tK _ (am_hI_mem h.2)⟩
  | ldc2_w i => exact tL _ (am_hI_mem h)
  | invokevirtual i =>
    have h : (am_h2 ct.2.2.2.2.2.1 i X.1 && (Nat.blt 0 X.2.1 && am_h2 kt.1 X.1 (X.2.1 - 1))) = true := h
    rw [Bool.and_eq_true, Bool.and_eq_true] at h
    obtain ⟨h2, h3, h4⟩ := h
    have := am_blt h3
    obtain ⟨q1, q2, q3, q4⟩ := kV _ (am_h2_mem h4)
    exact ⟨⟨X.2.1 - 1, by omega, tM _ (am_h2_mem h2), q1, q2, q3⟩, q4⟩
  | invokespecial i =>
    have h : ((Nat.beq X.1 0 && am_hN ct.2.2.2.2.2.2.1 i) || (Nat.blt 0 X.1 && (am_h2 ct.2.2.2.2.2.1 i X.1 && (Nat.blt 0 X.2.1 && am_h2 kt.2.1 X.1 (X.2.1 - 1))))) = true := h
    rw [Bool.or_eq_true, Bool.and_eq_true, Bool.and_eq_true, Bool.and_eq_true, Bool.and_eq_true] at h
    rcases h with ⟨h2, h3⟩ | ⟨h0, h2, h3, h4⟩
    · exact Or.inl ⟨Nat.eq_of_beq_eq_true h2, tO _ (am_hN_mem h3)⟩
    · have := am_blt h3
      have h0 := am_blt h0
      obtain ⟨q1, q2, q3, q4, q5⟩ := kN _ (am_h2_mem h4)
      exact Or.inr ⟨by omega, ⟨X.2.1 - 1, by omega, tM _ (am_h2_mem h2), q1, q2, q3, q4⟩, q5⟩
  | invokestatic i =>
    have h : ((Nat.beq X.1 901 && am_hN ct.2.2.2.2.2.2.2 i) || (!(Nat.beq X.1 901) && (am_h2 ct.2.2.2.2.2.1 i X.1 && am_h2 kt.2.2 X.1 X.2.1))) = true := h
    rw [Bool.or_eq_true, Bool.and_eq_true, Bool.and_eq_true, Bool.and_eq_true] at h
    rcases h with ⟨h2, h3⟩ | ⟨h2, h3, h4⟩
    · exact Or.inl ⟨Nat.eq_of_beq_eq_true h2, tA _ (am_hN_mem h3)⟩
    · obtain ⟨q1, q2⟩ := kS _ (am_h2_mem h4)
      refine Or.inr ⟨fun h9 => ?_, tM _ (am_h2_mem h3), q1, q2⟩
      rw [h9] at h2; cases h2
  | ireturn =>
    have h : ((Nat.beq X.1 0 && am_isR ret 1) || (Nat.blt 0 X.1 && am_isR ret 2)) = true := h
    rw [Bool.or_eq_true, Bool.and_eq_true, Bool.and_eq_true] at h
    rcases h with ⟨h2, h3⟩ | ⟨h2, h3⟩
    · exact Or.inl ⟨Nat.eq_of_beq_eq_true h2, (am_isR_ok h3).2.1 rfl⟩
    · have := am_blt h2
      exact Or.inr ⟨by omega, (am_isR_ok h3).2.2.1 rfl⟩
  | lreturn => exact (am_isR_ok h).2.2.2.1 rfl
  | areturn => exact (am_isR_ok h).2.2.2.2 rfl
  | return_ => exact (am_isR_ok h).1 rfl
  | _ => trivial
