/-! THE LIMIT: answers without fuel. -/
def am_lim (X : Nat → am_R) (x : am_R) : Prop := (∀ n r, X n = some r → X (n + 1) = some r) ∧ (∀ n r, X n = some r → x = some r) ∧ ∀ r, x = some r → ∃ n, X n = some r
theorem am_lim.const {x : am_R} : am_lim (fun _ => x) x := ⟨fun _ _ h => h, fun _ _ h => h, fun _ h => ⟨0, h⟩⟩
theorem am_lim.up {X : Nat → am_R} {x : am_R} (h : am_lim X x) {n m : Nat} (hm : n ≤ m) {r : am_O × am_H} (hr : X n = some r) : X m = some r := by
  induction hm with
  | refl => exact hr
  | step _ ih => exact h.1 _ _ ih
theorem am_lim_i1 {st : List am_V} {k : Nat → Int32 → List am_V → am_R} {k' : Int32 → List am_V → am_R} (h : ∀ x t, am_lim (fun n => k n x t) (k' x t)) : am_lim (fun n => am_i1 st (k n)) (am_i1 st k') := by
  unfold am_i1
  split
  · exact h _ _
  · exact am_lim.const
theorem am_lim_l1 {st : List am_V} {k : Nat → Int64 → List am_V → am_R} {k' : Int64 → List am_V → am_R} (h : ∀ x t, am_lim (fun n => k n x t) (k' x t)) : am_lim (fun n => am_l1 st (k n)) (am_l1 st k') := by
  unfold am_l1
  split
  · exact h _ _
  · exact am_lim.const
theorem am_lim_o1 {st : List am_V} {k : Nat → Nat → List am_V → am_R} {k' : Nat → List am_V → am_R} (h : ∀ x t, am_lim (fun n => k n x t) (k' x t)) : am_lim (fun n => am_o1 st (k n)) (am_o1 st k') := by
  unfold am_o1
  split
  · exact h _ _
  · exact am_lim.const
theorem am_lim_a1 {st : List am_V} {k : Nat → Nat → Nat → List am_V → am_R} {k' : Nat → Nat → List am_V → am_R} (h : ∀ x y t, am_lim (fun n => k n x y t) (k' x y t)) : am_lim (fun n => am_a1 st (k n)) (am_a1 st k') := by
  unfold am_a1
  split
  · exact h _ _ _
  · exact am_lim.const
theorem am_lim_ob {H : am_H} {ci o : Nat} {k : Nat → (Nat → am_V) → am_R} {k' : (Nat → am_V) → am_R} (h : ∀ x, am_lim (fun n => k n x) (k' x)) : am_lim (fun n => am_ob H ci o (k n)) (am_ob H ci o k') := by
  unfold am_ob
  split
  · split
    · exact h _
    · exact am_lim.const
  · exact am_lim.const
theorem am_lim_gI {H : am_H} {ci o j : Nat} {k : Nat → Int32 → am_R} {k' : Int32 → am_R} (h : ∀ x, am_lim (fun n => k n x) (k' x)) : am_lim (fun n => am_gI H ci o j (k n)) (am_gI H ci o j k') := by
  unfold am_gI
  refine am_lim_ob fun fs => ?_
  split
  · exact h _
  · exact am_lim.const
theorem am_lim_gR {H : am_H} {ci o j : Nat} {k : Nat → Nat → am_R} {k' : Nat → am_R} (h : ∀ x, am_lim (fun n => k n x) (k' x)) : am_lim (fun n => am_gR H ci o j (k n)) (am_gR H ci o j k') := by
  unfold am_gR
  refine am_lim_ob fun fs => ?_
  split
  · exact h _
  · exact am_lim.const
theorem am_lim_gA {H : am_H} {ci o j : Nat} {k : Nat → Nat → Nat → am_R} {k' : Nat → Nat → am_R} (h : ∀ x y, am_lim (fun n => k n x y) (k' x y)) : am_lim (fun n => am_gA H ci o j (k n)) (am_gA H ci o j k') := by
  unfold am_gA
  refine am_lim_ob fun fs => ?_
  split
  · split
    · exact h _ _
    · exact am_lim.const
  · exact am_lim.const
theorem am_lim_pV {H : am_H} {ci o j : Nat} {v : am_V} {k : Nat → am_H → am_R} {k' : am_H → am_R} (h : ∀ x, am_lim (fun n => k n x) (k' x)) : am_lim (fun n => am_pV H ci o j v (k n)) (am_pV H ci o j v k') := by
  unfold am_pV
  exact am_lim_ob fun fs => h _
theorem am_lim_pI {H : am_H} {ci o j : Nat} {x : Int32} {k : Nat → am_H → am_R} {k' : am_H → am_R} (h : ∀ x, am_lim (fun n => k n x) (k' x)) : am_lim (fun n => am_pI H ci o j x (k n)) (am_pI H ci o j x k') := am_lim_pV h
theorem am_lim_pR {H : am_H} {ci o j : Nat} {x : Nat} {k : Nat → am_H → am_R} {k' : am_H → am_R} (h : ∀ x, am_lim (fun n => k n x) (k' x)) : am_lim (fun n => am_pR H ci o j x (k n)) (am_pR H ci o j x k') := am_lim_pV h
theorem am_lim_pZ {H : am_H} {ci o j : Nat} {x : Int32} {k : Nat → am_H → am_R} {k' : am_H → am_R} (h : ∀ x, am_lim (fun n => k n x) (k' x)) : am_lim (fun n => am_pZ H ci o j x (k n)) (am_pZ H ci o j x k') := by
  unfold am_pZ
  split
  · exact am_lim_pV h
  · exact am_lim.const
theorem am_lim_pA {H : am_H} {ci o j t u : Nat} {k : Nat → am_H → am_R} {k' : am_H → am_R} (h : ∀ x, am_lim (fun n => k n x) (k' x)) : am_lim (fun n => am_pA H ci o j t u (k n)) (am_pA H ci o j t u k') := by
  unfold am_pA
  refine am_lim_ob fun fs => ?_
  split
  · split
    · split
      · exact h _
      · split
        · exact am_lim.const
        · exact h _
      · exact am_lim.const
    · exact am_lim.const
  · exact am_lim.const
theorem am_lim_ar {H : am_H} {a u : Nat} {k : Nat → Option (Nat × Nat) → FieldType → Nat → (Nat → Int32) → am_R} {k' : Option (Nat × Nat) → FieldType → Nat → (Nat → Int32) → am_R} (h : ∀ x y z w, am_lim (fun n => k n x y z w) (k' x y z w)) : am_lim (fun n => am_ar H a u (k n)) (am_ar H a u k') := by
  unfold am_ar
  split
  · split
    · exact h _ _ _ _
    · exact am_lim.const
  · exact am_lim.const
theorem am_lim_ix {i : Int32} {len : Nat} {k : Nat → Nat → am_R} {k' : Nat → am_R} (h : ∀ x, am_lim (fun n => k n x) (k' x)) : am_lim (fun n => am_ix i len (k n)) (am_ix i len k') := by
  unfold am_ix
  split
  · exact am_lim.const
  · exact h _
theorem am_lim_ld {H : am_H} {a u : Nat} {T : FieldType → Bool} {i : Int32} {k : Nat → Int32 → am_R} {k' : Int32 → am_R} (h : ∀ x, am_lim (fun n => k n x) (k' x)) : am_lim (fun n => am_ld H a u T i (k n)) (am_ld H a u T i k') := by
  unfold am_ld
  refine am_lim_ar fun _ ty _ _ => ?_
  split
  · exact am_lim_ix fun _ => h _
  · exact am_lim.const
theorem am_lim_st {H : am_H} {a u : Nat} {T : FieldType → Bool} {i x : Int32} {k : Nat → am_H → am_R} {k' : am_H → am_R} (h : ∀ x, am_lim (fun n => k n x) (k' x)) : am_lim (fun n => am_st H a u T i x (k n)) (am_st H a u T i x k') := by
  unfold am_st
  refine am_lim_ar fun _ ty _ _ => ?_
  split
  · refine am_lim_ix fun _ => ?_
    cases a with
    | zero => exact am_lim.const
    | succ a => exact h _
  · exact am_lim.const
theorem am_lim_al {H : am_H} {a u : Nat} {k : Nat → Int32 → am_R} {k' : Int32 → am_R} (h : ∀ x, am_lim (fun n => k n x) (k' x)) : am_lim (fun n => am_al H a u (k n)) (am_al H a u k') := by
  unfold am_al
  exact am_lim_ar fun _ _ _ _ => h _
theorem am_lim_nA {H : am_H} {ty : FieldType} {x : Int32} {k : Nat → Nat → am_H → am_R} {k' : Nat → am_H → am_R} (h : ∀ x y, am_lim (fun n => k n x y) (k' x y)) : am_lim (fun n => am_nA H ty x (k n)) (am_nA H ty x k') := by
  unfold am_nA
  split
  · exact am_lim.const
  · exact h _ _
theorem am_lim_nO {H : am_H} {ci sz : Nat} {d : Nat → am_V} {k : Nat → Nat → am_H → am_R} {k' : Nat → am_H → am_R} (h : ∀ x y, am_lim (fun n => k n x y) (k' x y)) : am_lim (fun n => am_nO H ci sz d (k n)) (am_nO H ci sz d k') := by
  unfold am_nO
  split
  · exact am_lim.const
  · exact h _ _
theorem am_lim_cp {H : am_H} {a u b v : Nat} {sp dp m : Int32} {k : Nat → am_H → am_R} {k' : am_H → am_R} (h : ∀ x, am_lim (fun n => k n x) (k' x)) : am_lim (fun n => am_cp H a u sp b v dp m (k n)) (am_cp H a u sp b v dp m k') := by
  unfold am_cp
  refine am_lim_ar fun _ _ _ _ => am_lim_ar fun _ _ _ _ => ?_
  split
  · exact h _
  · exact am_lim.const
theorem am_lim_go {pc : Nat} {off : Int} {k : Nat → Nat → am_R} {k' : Nat → am_R} (h : ∀ x, am_lim (fun n => k n x) (k' x)) : am_lim (fun n => am_go pc off (k n)) (am_go pc off k') := by
  unfold am_go
  split
  · exact h _
  · exact am_lim.const
theorem am_lim_ite {c : Prop} {i : Decidable c} {A B : Nat → am_R} {A' B' : am_R} (ha : am_lim A A') (hb : am_lim B B') : am_lim (fun n => @ite am_R c i (A n) (B n)) (@ite am_R c i A' B') := by
  by_cases h : c
  · simp only [if_pos h]; exact ha
  · simp only [if_neg h]; exact hb
theorem am_lim_cc {cnd : Jvm.ClassFile.Cond} {x y : Int32} {A B : Nat → am_R} {A' B' : am_R} (ha : am_lim A A') (hb : am_lim B B') : am_lim (fun n => am_cc cnd x y (A n) (B n)) (am_cc cnd x y A' B') := by
  cases cnd <;> first | exact am_lim_ite ha hb | exact am_lim_ite hb ha
theorem am_lim_sw {x : Int32} {dflt : Int} {k : Nat → Int → am_R} {k' : Int → am_R} (h : ∀ x, am_lim (fun n => k n x) (k' x)) : ∀ l, am_lim (fun n => am_sw x (k n) dflt l) (am_sw x k' dflt l) := by
  intro l
  induction l with
  | nil => exact h _
  | cons q t ih => exact am_lim_ite (h _) ih
theorem am_lim_ret {rc : Nat} {st : List am_V} {k : Nat → List am_V → am_H → am_R} {k' : List am_V → am_H → am_R} (h : ∀ x y, am_lim (fun n => k n x y) (k' x y)) (r : am_R) : am_lim (fun n => am_ret rc (k n) st r) (am_ret rc k' st r) := by
  unfold am_ret
  split
  · unfold am_cV
    split
    · exact am_lim.const
    · exact h _ _
    · exact am_lim.const
  · unfold am_cI
    split
    · exact am_lim.const
    · exact h _ _
    · exact am_lim.const
  · unfold am_cL
    split
    · exact am_lim.const
    · exact h _ _
    · exact am_lim.const
  · unfold am_cR
    split
    · exact am_lim.const
    · exact h _ _
    · exact am_lim.const
theorem am_lim_ct {k : Nat → am_R → am_R} {k' : am_R → am_R} {T : Nat → Nat → am_H → am_R} {T' : Nat → am_H → am_R} (hT : ∀ x y, am_lim (fun n => T n x y) (T' x y)) (h : ∀ x, am_lim (fun n => k n x) (k' x)) (r : am_R) : am_lim (fun n => am_ct r (T n) (k n)) (am_ct r T' k') := by
  unfold am_ct
  split
  · exact hT _ _
  · exact h _
  · exact am_lim.const
/-- what follows a call has a limit, if the call has -/
theorem am_lim_bind {c : Nat → am_R} {c' : am_R} (hc : am_lim c c') {F : Nat → am_R → am_R} {F' : am_R → am_R} (hF : ∀ r, am_lim (fun n => F n r) (F' r)) (h0 : ∀ n, F n none = none) (h0' : F' none = none) : am_lim (fun n => F n (c n)) (F' c') := by
  cases hc' : c' with
  | none =>
    have hn : ∀ n, c n = none := fun n => by
      cases h : c n with
      | none => rfl
      | some r => rw [hc.2.1 n r h] at hc'; cases hc'
    refine ⟨fun n r hr => ?_, fun n r hr => ?_, fun r hr => ?_⟩
    · dsimp only at hr; rw [hn, h0] at hr; cases hr
    · dsimp only at hr; rw [hn, h0] at hr; cases hr
    · rw [h0'] at hr; cases hr
  | some q =>
    obtain ⟨n0, hn0⟩ := hc.2.2 q hc'
    have hval : ∀ n r, c n = some r → r = q := fun n r hr => by have := hc.2.1 n r hr; rw [hc'] at this; exact (Option.some.inj this).symm
    refine ⟨fun n r hr => ?_, fun n r hr => ?_, fun r hr => ?_⟩
    · dsimp only at hr ⊢
      cases h : c n with
      | none => rw [h, h0] at hr; cases hr
      | some r' =>
        rw [h] at hr
        rw [hc.1 n r' h]
        exact (hF (some r')).1 n r hr
    · dsimp only at hr
      cases h : c n with
      | none => rw [h, h0] at hr; cases hr
      | some r' =>
        rw [h, hval n r' h] at hr
        exact (hF (some q)).2.1 n r hr
    · obtain ⟨n1, h1⟩ := (hF (some q)).2.2 r hr
      refine ⟨max n0 n1, ?_⟩
      show F (max n0 n1) (c (max n0 n1)) = some r
      rw [hc.up (Nat.le_max_left _ _) hn0]
      exact (hF (some q)).up (Nat.le_max_right _ _) h1
theorem am_lim_inv {call : Nat → Nat → List am_V → am_H → am_R} {call' : Nat → List am_V → am_H → am_R} (hc : ∀ i a h, am_lim (fun n => call n i a h) (call' i a h)) {hd : Option Nat} {X : am_X} {pc : Nat} {lv : List (Nat × am_V)} {st : List am_V} {h : am_H} {K : Nat → Nat → List (Nat × am_V) → List am_V → am_H → am_R} {K' : Nat → List (Nat × am_V) → List am_V → am_H → am_R} (hK : ∀ pc lv st h, am_lim (fun n => K n pc lv st h) (K' pc lv st h)) :
    am_lim (fun n => am_inv (call n) hd X pc lv st h (K n)) (am_inv call' hd X pc lv st h K') := by
  unfold am_inv
  split
  · exact am_lim.const
  · cases hd with
    | none => exact am_lim_bind (F := fun n r => am_ret X.2.2.1 (fun st h => K n (pc + 3) lv st h) (st.drop X.2.1) r) (F' := fun r => am_ret X.2.2.1 (fun st h => K' (pc + 3) lv st h) (st.drop X.2.1) r) (hc _ _ _) (fun r => am_lim_ret (fun _ _ => hK _ _ _ _) r) (fun n => am_ret_none) am_ret_none
    | some t => exact am_lim_bind (F := fun n r => am_ct r (fun x h => K n t lv [.inl (.ref x)] h) fun r => am_ret X.2.2.1 (fun st h => K n (pc + 3) lv st h) (st.drop X.2.1) r) (F' := fun r => am_ct r (fun x h => K' t lv [.inl (.ref x)] h) fun r => am_ret X.2.2.1 (fun st h => K' (pc + 3) lv st h) (st.drop X.2.1) r) (hc _ _ _) (fun r => am_lim_ct (fun _ _ => hK _ _ _ _) (fun r => am_lim_ret (fun _ _ => hK _ _ _ _) r) r) (fun n => rfl) rfl
theorem am_lim_step {call : Nat → Nat → List am_V → am_H → am_R} {call' : Nat → List am_V → am_H → am_R} (hc : ∀ i a h, am_lim (fun n => call n i a h) (call' i a h)) {hd : Option Nat} {dfl : Nat → Nat → am_V} {ins : Instr} {X : am_X} {pc : Nat} {lv : List (Nat × am_V)} {st : List am_V} {h : am_H} {K : Nat → Nat → List (Nat × am_V) → List am_V → am_H → am_R} {K' : Nat → List (Nat × am_V) → List am_V → am_H → am_R} (hK : ∀ pc lv st h, am_lim (fun n => K n pc lv st h) (K' pc lv st h)) :
    am_lim (fun n => am_step (call n) hd dfl ins X pc lv st h (K n)) (am_step call' hd dfl ins X pc lv st h K') := by
  cases ins <;> simp only [am_step] <;> repeat (first
    | exact hK _ _ _ _
    | exact am_lim.const
    | exact am_lim_inv hc hK
    | (refine am_lim_i1 fun _ _ => ?_)
    | (refine am_lim_l1 fun _ _ => ?_)
    | (refine am_lim_o1 fun _ _ => ?_)
    | (refine am_lim_a1 fun _ _ _ => ?_)
    | (refine am_lim_gI fun _ => ?_)
    | (refine am_lim_gR fun _ => ?_)
    | (refine am_lim_gA fun _ _ => ?_)
    | (refine am_lim_pI fun _ => ?_)
    | (refine am_lim_pZ fun _ => ?_)
    | (refine am_lim_pR fun _ => ?_)
    | (refine am_lim_pA fun _ => ?_)
    | (refine am_lim_ld fun _ => ?_)
    | (refine am_lim_st fun _ => ?_)
    | (refine am_lim_al fun _ => ?_)
    | (refine am_lim_nA fun _ _ => ?_)
    | (refine am_lim_nO fun _ _ => ?_)
    | (refine am_lim_cp fun _ => ?_)
    | (refine am_lim_sw (fun _ => ?_) _)
    | (refine am_lim_cc ?_ ?_)
    | (refine am_lim_go fun _ => ?_)
    | (refine am_lim_ite ?_ ?_)
    | split)
theorem am_lim_run {call loop : Nat → Nat → List am_V → am_H → am_R} {call' loop' : Nat → List am_V → am_H → am_R} (hc : ∀ i a h, am_lim (fun n => call n i a h) (call' i a h)) (hl : ∀ i a h, am_lim (fun n => loop n i a h) (loop' i a h)) {dfl : Nat → Nat → am_V} {M : am_M} :
    ∀ f pc lv st h, am_lim (fun n => am_run (call n) (loop n) dfl M f pc lv st h) (am_run call' loop' dfl M f pc lv st h) := by
  intro f
  induction f with
  | zero => intro pc lv st h; exact am_lim.const
  | succ f ih =>
    intro pc lv st h
    unfold am_run
    split
    · exact am_lim.const
    · refine am_lim_step hc fun pc lv st h => ?_
      split
      · exact ih _ _ _ _
      · split
        · split
          · exact hl _ _ _
          · exact am_lim.const
        · exact am_lim.const
theorem am_lim_ent {M : am_M} {pc : Nat} {a : List am_V} {h : am_H} {x : Nat → am_R} {x' : am_R} (hx : am_lim x x') : am_lim (fun n => am_ent M pc a h (x n)) (am_ent M pc a h x') := by
  unfold am_ent
  split
  · split
    · unfold am_rcv
      split
      · exact hx
      · split
        · exact am_lim_ob fun _ => hx
        · exact am_lim.const
    · exact am_lim.const
  · exact hx
/-- more fuel, the same answer -/
theorem am_sem_mono {P : Nat → Option am_M} {prim : Nat → Nat → List am_V → am_H → am_R} {dfl : Nat → Nat → am_V} : ∀ n d mi pc a h r, am_sem P prim dfl n d mi pc a h = some r → am_sem P prim dfl (n + 1) d mi pc a h = some r := by
  intro n
  induction n with
  | zero => intro d mi pc a h r hr; cases hr
  | succ n ih =>
    intro d mi pc a h r hr
    -- two steps of a chain
    have two : ∀ {x y : am_R}, (∀ r, x = some r → y = some r) → am_lim (fun k => match k with | 0 => x | _ => y) y := fun hxy =>
      ⟨fun k r hk => (match k, hk with | 0, hk => hxy r hk | k + 1, hk => hk), fun k r hk => (match k, hk with | 0, hk => hxy r hk | k + 1, hk => hk), fun r hr => ⟨1, hr⟩⟩
    unfold am_sem at hr ⊢
    cases hM : P mi with
    | none => rw [hM] at hr; exact hr
    | some M =>
      rw [hM] at hr
      dsimp only at hr ⊢
      cases hz : am_zip (am_ks M pc) a with
      | none => rw [hz] at hr; exact hr
      | some lv =>
        rw [hz] at hr
        dsimp only at hr ⊢
        rcases d with _ | d
        · exact (am_lim_ent (M := M) (pc := pc) (a := a) (h := h) (am_lim_run (call := fun _ _ _ _ => none) (call' := fun _ _ _ => none)
            (loop := fun k pc a h => match k with
              | 0 => am_sem P prim dfl n 0 mi pc a h
              | _ => am_sem P prim dfl (n + 1) 0 mi pc a h) (loop' := fun pc a h => am_sem P prim dfl (n + 1) 0 mi pc a h) (fun i a h => am_lim.const)
            (fun pc a h => two fun r h9 => ih 0 mi pc a h r h9) (dfl := dfl) (M := M) M.2.2.2.2.1 pc lv [] h)).2.1 0 r hr
        · exact (am_lim_ent (M := M) (pc := pc) (a := a) (h := h) (am_lim_run (call := fun k i a h => match k with
              | 0 => am_sem P prim dfl n d i 0 a h
              | _ => am_sem P prim dfl (n + 1) d i 0 a h) (call' := fun i a h => am_sem P prim dfl (n + 1) d i 0 a h)
            (loop := fun k pc a h => match k with
              | 0 => am_sem P prim dfl n (d + 1) mi pc a h
              | _ => am_sem P prim dfl (n + 1) (d + 1) mi pc a h) (loop' := fun pc a h => am_sem P prim dfl (n + 1) (d + 1) mi pc a h) (fun i a h => two fun r h9 => ih d i 0 a h r h9)
            (fun pc a h => two fun r h9 => ih (d + 1) mi pc a h r h9) (dfl := dfl) (M := M) M.2.2.2.2.1 pc lv [] h)).2.1 0 r hr
/-- the answer without fuel -/
noncomputable def am_S (P : Nat → Option am_M) (prim : Nat → Nat → List am_V → am_H → am_R) (dfl : Nat → Nat → am_V) (d mi pc : Nat) (a : List am_V) (h : am_H) : am_R :=
  @dite am_R (∃ r n, am_sem P prim dfl n d mi pc a h = some r) (Classical.propDecidable _) (fun hx => some (Classical.choose hx)) (fun _ => none)
theorem am_lim.uniq {X : Nat → am_R} {x y : am_R} (hx : am_lim X x) (hy : am_lim X y) : x = y := by
  cases h : x with
  | some r =>
    obtain ⟨n, hn⟩ := hx.2.2 r h
    exact (hy.2.1 n r hn).symm
  | none =>
    cases h' : y with
    | none => rfl
    | some r =>
      obtain ⟨n, hn⟩ := hy.2.2 r h'
      rw [hx.2.1 n r hn] at h; cases h
section
variable {P : Nat → Option am_M} {prim : Nat → Nat → List am_V → am_H → am_R} {dfl : Nat → Nat → am_V}
theorem am_sem_up {n m d mi pc : Nat} {a : List am_V} {h : am_H} {r : am_O × am_H} (hm : n ≤ m) (hr : am_sem P prim dfl n d mi pc a h = some r) : am_sem P prim dfl m d mi pc a h = some r := by
  induction hm with
  | refl => exact hr
  | step _ ih => exact am_sem_mono _ _ _ _ _ _ _ ih
theorem am_S_lim (d mi pc : Nat) (a : List am_V) (h : am_H) : am_lim (fun n => am_sem P prim dfl n d mi pc a h) (am_S P prim dfl d mi pc a h) := by
  have key : ∀ n r, am_sem P prim dfl n d mi pc a h = some r → am_S P prim dfl d mi pc a h = some r := by
    intro n r hr
    have hx : ∃ r n, am_sem P prim dfl n d mi pc a h = some r := ⟨r, n, hr⟩
    unfold am_S
    rw [dif_pos hx]
    obtain ⟨n', hn'⟩ := Classical.choose_spec hx
    have h1 := am_sem_up (Nat.le_max_left n n') hr
    have h2 := am_sem_up (Nat.le_max_right n n') hn'
    exact h2.symm.trans h1
  refine ⟨fun n r hr => am_sem_mono _ _ _ _ _ _ _ hr, key, fun r hr => ?_⟩
  by_cases hx : ∃ r n, am_sem P prim dfl n d mi pc a h = some r
  · obtain ⟨r', n, hn⟩ := hx
    have := key n r' hn
    rw [hr] at this
    exact ⟨n, hn.trans this.symm⟩
  · unfold am_S at hr
    rw [dif_neg hx] at hr
    cases hr
/-- THE EQUATION of an answer: no fuel in it -/
theorem am_S_eq (d mi pc : Nat) (a : List am_V) (h : am_H) : am_S P prim dfl d mi pc a h = (match P mi with
    | none => prim d mi a h
    | some M => am_ent M pc a h (match am_zip (am_ks M pc) a with
      | none => none
      | some lv => am_run (fun i a h => match d with
        | 0 => none
        | d + 1 => am_S P prim dfl d i 0 a h) (fun pc a h => am_S P prim dfl d mi pc a h) dfl M M.2.2.2.2.1 pc lv [] h)) := by
  have L1 : am_lim (fun n => am_sem P prim dfl (n + 1) d mi pc a h) (am_S P prim dfl d mi pc a h) := by
    have L := am_S_lim (P := P) (prim := prim) (dfl := dfl) d mi pc a h
    exact ⟨fun n r hr => L.1 _ _ hr, fun n r hr => L.2.1 _ _ hr, fun r hr => by obtain ⟨n, hn⟩ := L.2.2 r hr; exact ⟨n, L.1 _ _ hn⟩⟩
  refine L1.uniq ?_
  simp only [am_sem]
  cases P mi with
  | none => exact am_lim.const
  | some M =>
    refine am_lim_ent ?_
    cases am_zip (am_ks M pc) a with
    | none => exact am_lim.const
    | some lv =>
      cases d with
      | zero => exact am_lim_run (call := fun _ _ _ _ => none) (call' := fun _ _ _ => none) (fun i a h => am_lim.const) (fun pc a h => am_S_lim 0 mi pc a h) _ _ _ _ _
      | succ d => exact am_lim_run (call := fun n i a h => am_sem P prim dfl n d i 0 a h) (call' := fun i a h => am_S P prim dfl d i 0 a h) (fun i a h => am_S_lim d i 0 a h) (fun pc a h => am_S_lim (d + 1) mi pc a h) _ _ _ _ _
end
