/-! THE RELATION between the abstract heap and the machine's. ad: where an id lies. H0: the heap at the law's start, which nobody writes. -/
def am_cv (ad : Nat → Nat) (v : am_V) : Value := match v with
  | .inl (.ref o) => .ref (ad o)
  | .inl w => w
  | .inr q => .ref (ad q.2)
def am_kn (n : Nat) (v : am_V) : Prop := match v with
  | .inl (.ref o) => o < n ∨ 1000000 ≤ o
  | .inl _ => True
  | .inr q => q.2 < n
def am_fv (ad : Nat → Nat) (h : am_H) (v : am_V) : Value := match v with
  | .inr q => (match h.2.1 q.1 with
    | some A => .ref (ad A.1)
    | none => .null)
  | .inl w => am_cv ad (.inl w)
def am_kf (n : Nat) (h : am_H) (o k : Nat) (v : am_V) : Prop := match v with
  | .inr q => ∃ A, h.2.1 q.1 = some A ∧ A.2.1 = some (o, k)
  | .inl w => am_kn n (.inl w)
def am_HO (D : va_G) (B : Nat) (ad : Nat → Nat) (h : am_H) (H : Heap) : Prop := ∀ o ci fs, h.1 o = some (ci, fs) → o < h.2.2.1 ∧ B ≤ ad o ∧ (∃ r, am_cl[ci]? = some r ∧ t_OB (ad o) (D.1 ci) r.2.2 (D.2 ci) H (fun k => am_fv ad h (fs k))) ∧ ∀ k, am_kf h.2.2.1 h o k (fs k)
def am_HA (B : Nat) (ad : Nat → Nat) (h : am_H) (s : State) (H : Heap) : Prop := ∀ a u ow ty len f, h.2.1 a = some (u, ow, ty, len, f) → a < h.2.2.1 ∧ u < h.2.2.1 ∧ (a ≠ 0 → B ≤ ad u) ∧ ∃ cell : Cell, H[ad u]? = some cell ∧ s.isArrayOf cell ty ∧ cell.vm ≠ .unknown ∧ cell.slots.size = len ∧ (∀ j : Nat, j < len → cell.slots[j]? = some (.int (f j))) ∧ ∀ j : Nat, fits ty (.int (f j)) = true
def am_HI (ad : Nat → Nat) (h : am_H) : Prop := (∀ i j, i < h.2.2.1 → j < h.2.2.1 → ad i = ad j → i = j) ∧ (∀ a b A B, h.2.1 a = some A → h.2.1 b = some B → A.1 = B.1 → a = b) ∧ (∀ o a q A, h.1 o = some q → h.2.1 a = some A → o ≠ A.1)
def am_HR (D : va_G) (H0 : Heap) (ad : Nat → Nat) (h : am_H) (s : State) (H : Heap) : Prop :=
  am_HO D H0.size ad h H ∧ am_HA H0.size ad h s H ∧ am_HI ad h ∧ (∀ i, i < h.2.2.1 → ad i < H.size) ∧ (H0.size ≤ H.size ∧ ∀ q : Nat, q < H0.size → H[q]? = H0[q]?) ∧ h.2.2.1 = h.2.2.2.1 + 1 ∧ h.2.2.2.1 ≤ am_mc ∧ h.2.2.2.2 ≤ am_ms
theorem am_cat_cv (ad : Nat → Nat) (v : am_V) : (am_cv ad v).category = am_cat v := by
  rcases v with v | q
  · cases v <;> rfl
  · rfl
theorem am_up_eq {α : Type} (f : Nat → α) (k : Nat) (v : α) : am_up f k v k = v := by simp [am_up]
theorem am_up_ne {α : Type} {f : Nat → α} {k j : Nat} {v : α} (h : j ≠ k) : am_up f k v j = f j := by simp [am_up, h]
theorem am_cv_up {ad : Nat → Nat} {n x : Nat} {v : am_V} (hn : n < 1000000) (h : am_kn n v) : am_cv (am_up ad n x) v = am_cv ad v := by
  rcases v with v | q
  · cases v with
    | ref o =>
      have hne : o ≠ n := by
        intro e
        subst e
        rcases h with h | h
        · exact Nat.lt_irrefl _ h
        · exact Nat.lt_irrefl _ (Nat.lt_of_lt_of_le hn h)
      exact congrArg Value.ref (am_up_ne hne)
    | _ => rfl
  · have h : q.2 < n := h
    show Value.ref (am_up ad n x q.2) = Value.ref (ad q.2)
    rw [am_up_ne (by omega)]
theorem am_kn_mono {n m : Nat} {v : am_V} (h : am_kn n v) (hm : n ≤ m) : am_kn m v := by
  rcases v with v | q
  · cases v with
    | ref o =>
      rcases h with h | h
      · exact Or.inl (Nat.lt_of_lt_of_le h hm)
      · exact Or.inr h
    | _ => trivial
  · have h : q.2 < n := h
    show q.2 < m
    omega
theorem am_kn_congr {ad ad' : Nat → Nat} {n : Nat} {v : am_V} (h : am_kn n v) (he : ∀ i, i < n ∨ 1000000 ≤ i → ad' i = ad i) : am_cv ad' v = am_cv ad v := by
  rcases v with v | q
  · cases v with
    | ref o => exact congrArg Value.ref (he o h)
    | _ => rfl
  · exact congrArg Value.ref (he q.2 (Or.inl h))
section
variable {D : va_G} {H0 H H1 : Heap} {ad : Nat → Nat} {h : am_H} {s : State}
/-- an object's cell -/
theorem am_HR.ob (R : am_HR D H0 ad h s H) {o ci : Nat} {fs : Nat → am_V} (ho : h.1 o = some (ci, fs)) : o < h.2.2.1 ∧ H0.size ≤ ad o ∧ (∃ r, am_cl[ci]? = some r ∧ t_OB (ad o) (D.1 ci) r.2.2 (D.2 ci) H (fun k => am_fv ad h (fs k))) ∧ ∀ k, am_kf h.2.2.1 h o k (fs k) := R.1 o ci fs ho
/-- a plain value comes into a field -/
theorem am_HR.put (R : am_HR D H0 ad h s H) {o ci k : Nat} {fs : Nat → am_V} (ho : h.1 o = some (ci, fs)) {w : Value} (hw : am_kn h.2.2.1 (.inl w)) {r : vw_C} (hr : am_cl[ci]? = some r)
    (hob : t_OB (ad o) (D.1 ci) r.2.2 (D.2 ci) H1 (updV (fun k => am_fv ad h (fs k)) k (am_cv ad (.inl w)))) (hsz : H1.size = H.size) (hk : ∀ q, q ≠ ad o → H1[q]? = H[q]?) : am_HR D H0 ad (am_sO h o ci (am_up fs k (.inl w))) s H1 := by
  obtain ⟨hO, hA, hI, hN, hT, hc⟩ := R
  have hob0 := hO o ci fs ho
  refine ⟨?_, ?_, ⟨hI.1, hI.2.1, ?_⟩, fun i hi => by rw [hsz]; exact hN i hi, ⟨by rw [hsz]; exact hT.1, fun q hq => by rw [hk q (by have := hob0.2.1; omega)]; exact hT.2 q hq⟩, hc⟩
  · intro o' ci' fs' ho'
    by_cases e : o' = o
    · subst e
      have ho' : am_up h.1 o' (some (ci, am_up fs k (.inl w))) o' = some (ci', fs') := ho'
      rw [am_up_eq] at ho'
      have e1 := congrArg Prod.fst (Option.some.inj ho')
      have e2 := congrArg Prod.snd (Option.some.inj ho')
      dsimp only at e1 e2
      subst e1; subst e2
      refine ⟨hob0.1, hob0.2.1, ⟨r, hr, hob.to ?_⟩, ?_⟩
      · intro j hj
        by_cases e2 : j = k
        · subst e2
          show (if j = j then _ else _) = am_fv ad _ (am_up fs j (.inl w) j)
          rw [if_pos rfl, am_up_eq]; rfl
        · show (if j = k then _ else _) = am_fv ad _ (am_up fs k (.inl w) j)
          rw [if_neg e2, am_up_ne e2]; rfl
      · intro j
        by_cases e2 : j = k
        · subst e2; rw [am_up_eq]; exact hw
        · rw [am_up_ne e2]; exact hob0.2.2.2 j
    · have ho' : am_up h.1 o (some (ci, am_up fs k (.inl w))) o' = some (ci', fs') := ho'
      rw [am_up_ne e] at ho'
      obtain ⟨p1, p2, ⟨r', p3, p4⟩, p5⟩ := hO o' ci' fs' ho'
      exact ⟨p1, p2, ⟨r', p3, p4.kept (hk _ fun e' => e (hI.1 _ _ p1 hob0.1 e'))⟩, p5⟩
  · intro a u ow ty len f ha
    obtain ⟨p0, p1, p2, cell, p3, p4⟩ := hA a u ow ty len f ha
    exact ⟨p0, p1, p2, cell, by rw [hk _ fun e' => hI.2.2 o a _ _ ho ha (hI.1 _ _ p1 hob0.1 e').symm]; exact p3, p4⟩
  · intro o' a q A ho' ha
    by_cases e : o' = o
    · subst e; exact hI.2.2 o' a _ _ ho ha
    · have ho' : am_up h.1 o (some (ci, am_up fs k (.inl w))) o' = some q := ho'
      rw [am_up_ne e] at ho'
      exact hI.2.2 o' a _ _ ho' ha
/-- a number comes into an array -/
theorem am_HR.sto (R : am_HR D H0 ad h s H) {a u : Nat} {ow : Option (Nat × Nat)} {ty : FieldType} {len : Nat} {f : Nat → Int32} (ha : h.2.1 a = some (u, ow, ty, len, f)) (h0 : a ≠ 0) {j : Nat} {x : Int32} (hfx : fits ty (.int x) = true) (hj : j < len) {cell : Cell} (hcell : H[ad u]? = some cell)
    (h1 : H1[ad u]? = some (cell.setSlot j (.int x))) (hsz : H1.size = H.size) (hk : ∀ q, q ≠ ad u → H1[q]? = H[q]?) (hof : s.isArrayOf (cell.setSlot j (.int x)) ty) : am_HR D H0 ad (am_sA h a (some (u, ow, ty, len, am_up f j x))) s H1 := by
  obtain ⟨hO, hA, hI, hN, hT, hc⟩ := R
  obtain ⟨a0, a1, a2, cell', a3, a4, a5, a6, a7, a8⟩ := hA a u ow ty len f ha
  cases hcell.symm.trans a3
  have key : ∀ b A, am_up h.2.1 a (some (u, ow, ty, len, am_up f j x)) b = some A → ∃ A', h.2.1 b = some A' ∧ A'.1 = A.1 ∧ A'.2.1 = A.2.1 := by
    intro b A hb
    by_cases e : b = a
    · subst e; rw [am_up_eq] at hb; cases hb; exact ⟨_, ha, rfl, rfl⟩
    · rw [am_up_ne e] at hb; exact ⟨A, hb, rfl, rfl⟩
  refine ⟨?_, ?_, ⟨hI.1, ?_, ?_⟩, fun i hi => by rw [hsz]; exact hN i hi, ⟨by rw [hsz]; exact hT.1, fun q hq => by rw [hk q (by have := a2 h0; omega)]; exact hT.2 q hq⟩, hc⟩
  · intro o ci fs ho
    obtain ⟨p1, p2, ⟨r', p3, p4⟩, p5⟩ := hO o ci fs ho
    refine ⟨p1, p2, ⟨r', p3, (p4.kept (hk _ fun e' => hI.2.2 o a _ _ ho ha (hI.1 _ _ p1 a1 e'))).to ?_⟩, ?_⟩
    · intro k hkN
      have hf := p5 k
      generalize fs k = v at hf
      rcases v with v | q
      · rfl
      · show (match h.2.1 q.1 with | some A => Value.ref (ad A.1) | none => .null) = (match am_up h.2.1 a (some (u, ow, ty, len, am_up f j x)) q.1 with | some A => Value.ref (ad A.1) | none => .null)
        by_cases e : q.1 = a
        · rw [e, am_up_eq, ha]
        · rw [am_up_ne e]
    · intro k
      have hf := p5 k
      generalize fs k = v at hf
      rcases v with v | q
      · exact hf
      · obtain ⟨A, b1, b2⟩ := hf
        by_cases e : q.1 = a
        · rw [e, ha] at b1; cases b1
          exact ⟨(u, ow, ty, len, am_up f j x), (by show am_up h.2.1 a _ q.1 = _; rw [e, am_up_eq]), b2⟩
        · exact ⟨A, (by show am_up h.2.1 a _ q.1 = _; rw [am_up_ne e]; exact b1), b2⟩
  · intro b u' ow' ty' len' f' hb
    by_cases e : b = a
    · subst e
      have hb : am_up h.2.1 b (some (u, ow, ty, len, am_up f j x)) b = some (u', ow', ty', len', f') := hb
      rw [am_up_eq] at hb; cases hb
      refine ⟨a0, a1, a2, _, h1, hof, ?_, by rw [k2_slotsz]; exact a6, ?_, ?_⟩
      · exact a5
      · intro i hi
        by_cases e2 : i = j
        · subst e2; rw [am_up_eq]; simp [Cell.setSlot, a6, hi]
        · rw [am_up_ne e2]
          have := a7 i hi
          simpa [Cell.setSlot, Ne.symm e2] using this
      · intro i
        by_cases e2 : i = j
        · subst e2; rw [am_up_eq]; exact hfx
        · rw [am_up_ne e2]; exact a8 i
    · have hb : am_up h.2.1 a (some (u, ow, ty, len, am_up f j x)) b = some (u', ow', ty', len', f') := hb
      rw [am_up_ne e] at hb
      obtain ⟨p0, p1, p2, cell, p3, p4⟩ := hA b u' ow' ty' len' f' hb
      exact ⟨p0, p1, p2, cell, by rw [hk _ fun e' => e (hI.2.1 b a _ _ hb ha (hI.1 _ _ p1 a1 e'))]; exact p3, p4⟩
  · intro b b' A B hb hb' e
    obtain ⟨A', q1, q2, -⟩ := key b A hb
    obtain ⟨B', r1, r2, -⟩ := key b' B hb'
    exact hI.2.1 b b' A' B' q1 r1 (by rw [q2, r2, e])
  · intro o b q A ho hb
    obtain ⟨A', q1, q2, -⟩ := key b A hb
    rw [← q2]; exact hI.2.2 o b q A' ho q1
end
