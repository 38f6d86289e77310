section
variable {D : va_G} {H0 H H1 : Heap} {ad : Nat → Nat} {h : am_H} {s : State}
theorem am_mc_lt : am_mc + 1 < 1000000 := by decide
theorem am_HR.small (R : am_HR D H0 ad h s H) : h.2.2.1 < 1000000 := by
  have h1 := R.2.2.2.2.2.1
  have h2 := R.2.2.2.2.2.2.1
  have := am_mc_lt
  omega
theorem am_fv_up {n x : Nat} {h' : am_H} {o k : Nat} {v : am_V} (hn : n < 1000000) (hsame : ∀ a A, h.2.1 a = some A → A.1 < n ∧ h'.2.1 a = some A) (hv : am_kf n h o k v) : am_fv (am_up ad n x) h' v = am_fv ad h v := by
  rcases v with v | q
  · exact am_cv_up hn hv
  · obtain ⟨A, b1, -⟩ := hv
    obtain ⟨c1, c2⟩ := hsame _ _ b1
    show (match h'.2.1 q.1 with | some A => Value.ref (am_up ad n x A.1) | none => .null) = (match h.2.1 q.1 with | some A => Value.ref (ad A.1) | none => .null)
    rw [b1, c2]
    exact congrArg Value.ref (am_up_ne (by omega))
theorem am_kf_up {n m : Nat} {h' : am_H} {o k : Nat} {v : am_V} (hm : n ≤ m) (hsame : ∀ a A, h.2.1 a = some A → h'.2.1 a = some A) (hv : am_kf n h o k v) : am_kf m h' o k v := by
  rcases v with v | q
  · exact am_kn_mono hv hm
  · obtain ⟨A, b1, b2⟩ := hv
    exact ⟨A, hsame _ _ b1, b2⟩
/-- a new array -/
theorem am_HR.na (R : am_HR D H0 ad h s H) {ty : FieldType} {N : Nat} {cA : ClassId} (h1 : H1[H.size]? = some (arrV cA N (fun _ => .int 0))) (hsz : H1.size = H.size + 1) (hk : ∀ q, q < H.size → H1[q]? = H[q]?) (hof : ArrOfT s cA ty) (hf0 : fits ty (.int 0) = true) (hmc : ¬ am_mc < h.2.2.2.1 + 1) (hms : ¬ am_ms < h.2.2.2.2 + N) :
    am_HR D H0 (am_up ad h.2.2.1 H.size) (h.1, am_up h.2.1 h.2.2.1 (some (h.2.2.1, none, ty, N, fun _ => 0)), h.2.2.1 + 1, h.2.2.2.1 + 1, h.2.2.2.2 + N) s H1 := by
  have hsm := R.small
  obtain ⟨hO, hA, hI, hN, hT, hc⟩ := R
  have hlt : ∀ a A, h.2.1 a = some A → a < h.2.2.1 ∧ A.1 < h.2.2.1 := fun a A ha => ⟨(hA a _ _ _ _ _ ha).1, (hA a _ _ _ _ _ ha).2.1⟩
  have keep : ∀ a A, h.2.1 a = some A → am_up h.2.1 h.2.2.1 (some (h.2.2.1, none, ty, N, fun _ => 0)) a = some A := fun a A ha => by
    rw [am_up_ne (by have := (hlt a A ha).1; omega)]; exact ha
  refine ⟨?_, ?_, ⟨?_, ?_, ?_⟩, ?_, ⟨by rw [hsz]; omega, fun q hq => by rw [hk q (by omega)]; exact hT.2 q hq⟩, ?_, ?_, ?_⟩
  · intro o ci fs ho
    obtain ⟨p1, p2, ⟨r, p3, p4⟩, p5⟩ := hO o ci fs ho
    have e : am_up ad h.2.2.1 H.size o = ad o := am_up_ne (by omega)
    refine ⟨Nat.lt_succ_of_lt p1, by rw [e]; exact p2, ⟨r, p3, ?_⟩, fun k => am_kf_up (Nat.le_succ _) keep (p5 k)⟩
    rw [e]
    refine (p4.kept (hk _ (hN o p1))).to fun k hkN => ?_
    exact (am_fv_up hsm (fun a A ha => ⟨(hlt a A ha).2, keep a A ha⟩) (p5 k)).symm
  · intro a u ow ty' len f ha
    by_cases e : a = h.2.2.1
    · subst e
      have ha : am_up h.2.1 h.2.2.1 (some (h.2.2.1, none, ty, N, fun _ => 0)) h.2.2.1 = some (u, ow, ty', len, f) := ha
      rw [am_up_eq] at ha; cases ha
      refine ⟨Nat.lt_succ_self _, Nat.lt_succ_self _, fun _ => by rw [am_up_eq]; exact hT.1, _, by rw [am_up_eq]; exact h1, hof _ _, (fun h => by cases h), arrV_size _ _ _, fun j hj => arrV_read _ _ hj, fun _ => hf0⟩
    · have ha : am_up h.2.1 h.2.2.1 (some (h.2.2.1, none, ty, N, fun _ => 0)) a = some (u, ow, ty', len, f) := ha
      rw [am_up_ne e] at ha
      obtain ⟨p0, p1, p2, cell, p3, p4⟩ := hA a u ow ty' len f ha
      have e2 : am_up ad h.2.2.1 H.size u = ad u := am_up_ne (by omega)
      exact ⟨Nat.lt_succ_of_lt p0, Nat.lt_succ_of_lt p1, fun h9 => by rw [e2]; exact p2 h9, cell, by rw [e2, hk _ (hN u p1)]; exact p3, p4⟩
  · intro i j hi hj e
    have hi : i < h.2.2.1 + 1 := hi
    have hj : j < h.2.2.1 + 1 := hj
    by_cases e1 : i = h.2.2.1 <;> by_cases e2 : j = h.2.2.1
    · omega
    · rw [e1, am_up_eq, am_up_ne e2] at e
      have := hN j (by omega); omega
    · rw [e2, am_up_eq, am_up_ne e1] at e
      have := hN i (by omega); omega
    · rw [am_up_ne e1, am_up_ne e2] at e
      exact hI.1 i j (by omega) (by omega) e
  · intro a b A B ha hb e
    have ha : am_up h.2.1 h.2.2.1 (some (h.2.2.1, none, ty, N, fun _ => 0)) a = some A := ha
    have hb : am_up h.2.1 h.2.2.1 (some (h.2.2.1, none, ty, N, fun _ => 0)) b = some B := hb
    by_cases e1 : a = h.2.2.1 <;> by_cases e2 : b = h.2.2.1
    · omega
    · rw [e1, am_up_eq] at ha; cases ha
      rw [am_up_ne e2] at hb
      have := (hlt b B hb).2
      dsimp only at e; omega
    · rw [e2, am_up_eq] at hb; cases hb
      rw [am_up_ne e1] at ha
      have := (hlt a A ha).2
      dsimp only at e; omega
    · rw [am_up_ne e1] at ha; rw [am_up_ne e2] at hb
      exact hI.2.1 a b A B ha hb e
  · intro o a q A ho ha
    have ha : am_up h.2.1 h.2.2.1 (some (h.2.2.1, none, ty, N, fun _ => 0)) a = some A := ha
    by_cases e1 : a = h.2.2.1
    · rw [e1, am_up_eq] at ha; cases ha
      have := (hO o q.1 q.2 ho).1
      dsimp only; omega
    · rw [am_up_ne e1] at ha
      exact hI.2.2 o a q A ho ha
  · intro i hi
    have hi : i < h.2.2.1 + 1 := hi
    by_cases e1 : i = h.2.2.1
    · rw [e1, am_up_eq, hsz]; omega
    · rw [am_up_ne e1, hsz]
      have := hN i (by omega); omega
  · show h.2.2.1 + 1 = h.2.2.2.1 + 1 + 1
    rw [hc.1]
  · show h.2.2.2.1 + 1 ≤ am_mc
    omega
  · show h.2.2.2.2 + N ≤ am_ms
    omega
theorem am_dv_cv (t : FieldType) : am_cv ad (am_dv t) = defaultValue t := by cases t <;> rfl
theorem am_dv_kn (n : Nat) (t : FieldType) : am_kn n (am_dv t) := by cases t <;> trivial
/-- a new object -/
theorem am_HR.no (R : am_HR D H0 ad h s H) {ci N : Nat} {r : vw_C} (hr : am_cl[ci]? = some r) (hob : t_OB H.size (D.1 ci) r.2.2 (D.2 ci) H1 (fun k => defaultValue (am_ty ci k))) (hsz : H1.size = H.size + 1) (hk : ∀ q, q < H.size → H1[q]? = H[q]?) (hmc : ¬ am_mc < h.2.2.2.1 + 1) (hms : ¬ am_ms < h.2.2.2.2 + N) :
    am_HR D H0 (am_up ad h.2.2.1 H.size) (am_up h.1 h.2.2.1 (some (ci, am_dfl ci)), h.2.1, h.2.2.1 + 1, h.2.2.2.1 + 1, h.2.2.2.2 + N) s H1 := by
  have hsm := R.small
  obtain ⟨hO, hA, hI, hN, hT, hc⟩ := R
  have hlt : ∀ a A, h.2.1 a = some A → a < h.2.2.1 ∧ A.1 < h.2.2.1 := fun a A ha => ⟨(hA a _ _ _ _ _ ha).1, (hA a _ _ _ _ _ ha).2.1⟩
  refine ⟨?_, ?_, ⟨?_, hI.2.1, ?_⟩, ?_, ⟨by rw [hsz]; omega, fun q hq => by rw [hk q (by omega)]; exact hT.2 q hq⟩, ?_, ?_, ?_⟩
  · intro o ci' fs ho
    have ho : am_up h.1 h.2.2.1 (some (ci, am_dfl ci)) o = some (ci', fs) := ho
    by_cases e : o = h.2.2.1
    · subst e
      rw [am_up_eq] at ho
      have e1 := congrArg Prod.fst (Option.some.inj ho)
      have e2 := congrArg Prod.snd (Option.some.inj ho)
      dsimp only at e1 e2
      subst e1; subst e2
      refine ⟨Nat.lt_succ_self _, by rw [am_up_eq]; exact hT.1, ⟨r, hr, ?_⟩, fun k => am_dv_kn _ _⟩
      rw [am_up_eq]
      exact hob.to fun k _ => (am_dv_cv (ad := am_up ad h.2.2.1 H.size) (am_ty ci k)).symm
    · rw [am_up_ne e] at ho
      obtain ⟨p1, p2, ⟨r, p3, p4⟩, p5⟩ := hO o ci' fs ho
      have e : am_up ad h.2.2.1 H.size o = ad o := am_up_ne (by omega)
      refine ⟨Nat.lt_succ_of_lt p1, by rw [e]; exact p2, ⟨r, p3, ?_⟩, fun k => am_kf_up (Nat.le_succ _) (fun _ _ h9 => h9) (p5 k)⟩
      rw [e]
      refine (p4.kept (hk _ (hN o p1))).to fun k hkN => ?_
      exact (am_fv_up hsm (fun a A ha => ⟨(hlt a A ha).2, ha⟩) (p5 k)).symm
  · intro a u ow ty' len f ha
    obtain ⟨p0, p1, p2, cell, p3, p4⟩ := hA a u ow ty' len f ha
    have e2 : am_up ad h.2.2.1 H.size u = ad u := am_up_ne (by omega)
    exact ⟨Nat.lt_succ_of_lt p0, Nat.lt_succ_of_lt p1, fun h9 => by rw [e2]; exact p2 h9, cell, by rw [e2, hk _ (hN u p1)]; exact p3, p4⟩
  · intro i j hi hj e
    have hi : i < h.2.2.1 + 1 := hi
    have hj : j < h.2.2.1 + 1 := hj
    by_cases e1 : i = h.2.2.1 <;> by_cases e2 : j = h.2.2.1
    · omega
    · rw [e1, am_up_eq, am_up_ne e2] at e
      have := hN j (by omega); omega
    · rw [e2, am_up_eq, am_up_ne e1] at e
      have := hN i (by omega); omega
    · rw [am_up_ne e1, am_up_ne e2] at e
      exact hI.1 i j (by omega) (by omega) e
  · intro o a q A ho ha
    have ho : am_up h.1 h.2.2.1 (some (ci, am_dfl ci)) o = some q := ho
    by_cases e : o = h.2.2.1
    · have := (hlt a A ha).2; omega
    · rw [am_up_ne e] at ho
      exact hI.2.2 o a q A ho ha
  · intro i hi
    have hi : i < h.2.2.1 + 1 := hi
    by_cases e1 : i = h.2.2.1
    · rw [e1, am_up_eq, hsz]; omega
    · rw [am_up_ne e1, hsz]
      have := hN i (by omega); omega
  · show h.2.2.1 + 1 = h.2.2.2.1 + 1 + 1
    rw [hc.1]
  · show h.2.2.2.1 + 1 ≤ am_mc
    omega
  · show h.2.2.2.2 + N ≤ am_ms
    omega
/-- an array comes into a field that has none -/
theorem am_HR.pa0 (R : am_HR D H0 ad h s H) {o ci k t u : Nat} {fs : Nat → am_V} (ho : h.1 o = some (ci, fs)) {ty : FieldType} {len : Nat} {f : Nat → Int32} (ht : h.2.1 t = some (u, none, ty, len, f)) {r : vw_C} (hr : am_cl[ci]? = some r)
    (hob : t_OB (ad o) (D.1 ci) r.2.2 (D.2 ci) H1 (updV (fun k => am_fv ad h (fs k)) k (.ref (ad u)))) (hsz : H1.size = H.size) (hk : ∀ q, q ≠ ad o → H1[q]? = H[q]?) : am_HR D H0 ad (am_sA (am_sO h o ci (am_up fs k (.inr (t, 0)))) t (some (u, some (o, k), ty, len, f))) s H1 := by
  obtain ⟨hO, hA, hI, hN, hT, hc⟩ := R
  have hob0 := hO o ci fs ho
  -- fields that have slots have others
  have hne : ∀ o' ci' fs' j q, h.1 o' = some (ci', fs') → fs' j = .inr q → q.1 ≠ t := by
    intro o' ci' fs' j q h1 h2 e
    have h3 := (hO o' ci' fs' h1).2.2.2 j
    rw [h2] at h3
    obtain ⟨A, b1, b2⟩ := h3
    rw [e, ht] at b1; cases b1; cases b2
  have hfv : ∀ o' ci' fs' j, h.1 o' = some (ci', fs') → am_fv ad (am_sA (am_sO h o ci (am_up fs k (.inr (t, 0)))) t (some (u, some (o, k), ty, len, f))) (fs' j) = am_fv ad h (fs' j) := by
    intro o' ci' fs' j h1
    have h2 := hne o' ci' fs' j
    generalize fs' j = v at h2
    rcases v with v | q
    · rfl
    · show (match am_up h.2.1 t (some (u, some (o, k), ty, len, f)) q.1 with | some A => Value.ref (ad A.1) | none => .null) = (match h.2.1 q.1 with | some A => Value.ref (ad A.1) | none => .null)
      rw [am_up_ne (h2 q h1 rfl)]
  have hkf : ∀ o' ci' fs' j, h.1 o' = some (ci', fs') → am_kf h.2.2.1 (am_sA (am_sO h o ci (am_up fs k (.inr (t, 0)))) t (some (u, some (o, k), ty, len, f))) o' j (fs' j) := by
    intro o' ci' fs' j h1
    have h2 := hne o' ci' fs' j
    have h3 := (hO o' ci' fs' h1).2.2.2 j
    generalize fs' j = v at h2 h3
    rcases v with v | q
    · exact h3
    · obtain ⟨A, b1, b2⟩ := h3
      exact ⟨A, (by show am_up h.2.1 t _ q.1 = _; rw [am_up_ne (h2 q h1 rfl)]; exact b1), b2⟩
  refine ⟨?_, ?_, ⟨hI.1, ?_, ?_⟩, fun i hi => by rw [hsz]; exact hN i hi, ⟨by rw [hsz]; exact hT.1, fun q hq => by rw [hk q (by have := hob0.2.1; omega)]; exact hT.2 q hq⟩, hc⟩
  · intro o' ci' fs' ho'
    have ho' : am_up h.1 o (some (ci, am_up fs k (.inr (t, 0)))) o' = some (ci', fs') := ho'
    by_cases e : o' = o
    · subst e
      rw [am_up_eq] at ho'
      have e1 := congrArg Prod.fst (Option.some.inj ho')
      have e2 := congrArg Prod.snd (Option.some.inj ho')
      dsimp only at e1 e2
      subst e1; subst e2
      refine ⟨hob0.1, hob0.2.1, ⟨r, hr, hob.to ?_⟩, ?_⟩
      · intro j hj
        by_cases e2 : j = k
        · subst e2
          show (if j = j then _ else _) = am_fv ad _ (am_up fs j (.inr (t, 0)) j)
          rw [if_pos rfl, am_up_eq]
          show _ = (match am_up h.2.1 t (some (u, some (o', j), ty, len, f)) t with | some A => Value.ref (ad A.1) | none => .null)
          rw [am_up_eq]
        · show (if j = k then _ else _) = am_fv ad _ (am_up fs k (.inr (t, 0)) j)
          rw [if_neg e2, am_up_ne e2, hfv o' ci fs j ho]
      · intro j
        by_cases e2 : j = k
        · subst e2; rw [am_up_eq]
          exact ⟨_, (by show am_up h.2.1 t _ t = _; rw [am_up_eq]), rfl⟩
        · rw [am_up_ne e2]; exact hkf o' ci fs j ho
    · rw [am_up_ne e] at ho'
      obtain ⟨p1, p2, ⟨r', p3, p4⟩, p5⟩ := hO o' ci' fs' ho'
      exact ⟨p1, p2, ⟨r', p3, (p4.kept (hk _ fun e' => e (hI.1 _ _ p1 hob0.1 e'))).to fun j _ => (hfv o' ci' fs' j ho').symm⟩, fun j => hkf o' ci' fs' j ho'⟩
  · intro a u' ow' ty' len' f' ha
    have ha : am_up h.2.1 t (some (u, some (o, k), ty, len, f)) a = some (u', ow', ty', len', f') := ha
    have hgo : ∀ ow9, h.2.1 a = some (u', ow9, ty', len', f') → _ := fun ow9 h9 => hA a u' ow9 ty' len' f' h9
    by_cases e : a = t
    · subst e
      rw [am_up_eq] at ha; cases ha
      obtain ⟨p0, p1, p2, cell, p3, p4⟩ := hgo _ ht
      exact ⟨p0, p1, p2, cell, by rw [hk _ fun e' => hI.2.2 o a _ _ ho ht (hI.1 _ _ p1 hob0.1 e').symm]; exact p3, p4⟩
    · rw [am_up_ne e] at ha
      obtain ⟨p0, p1, p2, cell, p3, p4⟩ := hgo _ ha
      exact ⟨p0, p1, p2, cell, by rw [hk _ fun e' => hI.2.2 o a _ _ ho ha (hI.1 _ _ p1 hob0.1 e').symm]; exact p3, p4⟩
  · have key : ∀ b A, am_up h.2.1 t (some (u, some (o, k), ty, len, f)) b = some A → ∃ A', h.2.1 b = some A' ∧ A'.1 = A.1 := by
      intro b A hb
      by_cases e : b = t
      · subst e; rw [am_up_eq] at hb; cases hb; exact ⟨_, ht, rfl⟩
      · rw [am_up_ne e] at hb; exact ⟨A, hb, rfl⟩
    intro a b A B ha hb e
    obtain ⟨A', q1, q2⟩ := key a A ha
    obtain ⟨B', r1, r2⟩ := key b B hb
    exact hI.2.1 a b A' B' q1 r1 (by rw [q2, r2, e])
  · intro o' a q A ho' ha
    have ho' : am_up h.1 o (some (ci, am_up fs k (.inr (t, 0)))) o' = some q := ho'
    have ha : am_up h.2.1 t (some (u, some (o, k), ty, len, f)) a = some A := ha
    have hoo : ∃ q', h.1 o' = some q' := by
      by_cases e : o' = o
      · subst e; exact ⟨_, ho⟩
      · rw [am_up_ne e] at ho'; exact ⟨_, ho'⟩
    obtain ⟨q', ho''⟩ := hoo
    by_cases e : a = t
    · subst e; rw [am_up_eq] at ha; cases ha; exact hI.2.2 o' a q' (u, none, ty, len, f) ho'' ht
    · rw [am_up_ne e] at ha; exact hI.2.2 o' a _ _ ho'' ha
/-- an array comes into a field that has one: the slot is the new array then -/
theorem am_HR.pa1 (R : am_HR D H0 ad h s H) {o ci k t u a : Nat} {g : Nat} {fs : Nat → am_V} (ho : h.1 o = some (ci, fs)) {ty : FieldType} {len : Nat} {f : Nat → Int32} (ht : h.2.1 t = some (u, none, ty, len, f)) (ht0 : t ≠ 0) (hfs : fs k = .inr (a, g)) {r : vw_C} (hr : am_cl[ci]? = some r)
    (hob : t_OB (ad o) (D.1 ci) r.2.2 (D.2 ci) H1 (updV (fun k => am_fv ad h (fs k)) k (.ref (ad u)))) (hsz : H1.size = H.size) (hk : ∀ q, q ≠ ad o → H1[q]? = H[q]?) : am_HR D H0 ad (am_sA (am_sA h t none) a (some (u, some (o, k), ty, len, f))) s H1 := by
  obtain ⟨hO, hA, hI, hN, hT, hc⟩ := R
  have hob0 := hO o ci fs ho
  obtain ⟨A0, hA0, hA1⟩ : ∃ A, h.2.1 a = some A ∧ A.2.1 = some (o, k) := by
    have := hob0.2.2.2 k
    rw [hfs] at this; exact this
  have hat : a ≠ t := by
    intro e; rw [e, ht] at hA0; cases hA0; cases hA1
  have hget : ∀ b, b ≠ a → b ≠ t → am_up (am_up h.2.1 t none) a (some (u, some (o, k), ty, len, f)) b = h.2.1 b := fun b h1 h2 => by rw [am_up_ne h1, am_up_ne h2]
  have hne : ∀ o' ci' fs' j q, h.1 o' = some (ci', fs') → fs' j = .inr q → (o', j) ≠ (o, k) → q.1 ≠ t ∧ q.1 ≠ a := by
    intro o' ci' fs' j q h1 h2 h9
    have h3 := (hO o' ci' fs' h1).2.2.2 j
    rw [h2] at h3
    obtain ⟨A, b1, b2⟩ := h3
    refine ⟨fun e => ?_, fun e => ?_⟩
    · rw [e, ht] at b1; cases b1; cases b2
    · rw [e, hA0] at b1; cases b1; rw [hA1] at b2; exact h9 (Option.some.inj b2).symm
  have hfv : ∀ o' ci' fs' j, h.1 o' = some (ci', fs') → (o', j) ≠ (o, k) → am_fv ad (am_sA (am_sA h t none) a (some (u, some (o, k), ty, len, f))) (fs' j) = am_fv ad h (fs' j) := by
    intro o' ci' fs' j h1 h9
    have h2 := hne o' ci' fs' j
    generalize fs' j = v at h2
    rcases v with v | q
    · rfl
    · show (match am_up (am_up h.2.1 t none) a (some (u, some (o, k), ty, len, f)) q.1 with | some A => Value.ref (ad A.1) | none => .null) = (match h.2.1 q.1 with | some A => Value.ref (ad A.1) | none => .null)
      rw [hget q.1 (h2 q h1 rfl h9).2 (h2 q h1 rfl h9).1]
  have hkf : ∀ o' ci' fs' j, h.1 o' = some (ci', fs') → (o', j) ≠ (o, k) → am_kf h.2.2.1 (am_sA (am_sA h t none) a (some (u, some (o, k), ty, len, f))) o' j (fs' j) := by
    intro o' ci' fs' j h1 h9
    have h2 := hne o' ci' fs' j
    have h3 := (hO o' ci' fs' h1).2.2.2 j
    generalize fs' j = v at h2 h3
    rcases v with v | q
    · exact h3
    · obtain ⟨A, b1, b2⟩ := h3
      exact ⟨A, (by show am_up (am_up h.2.1 t none) a _ q.1 = _; rw [hget q.1 (h2 q h1 rfl h9).2 (h2 q h1 rfl h9).1]; exact b1), b2⟩
  have key : ∀ b A, am_up (am_up h.2.1 t none) a (some (u, some (o, k), ty, len, f)) b = some A → (b = a ∧ A = (u, some (o, k), ty, len, f)) ∨ (b ≠ a ∧ b ≠ t ∧ h.2.1 b = some A) := by
    intro b A hb
    by_cases e : b = a
    · subst e; rw [am_up_eq] at hb; exact Or.inl ⟨rfl, (Option.some.inj hb).symm⟩
    · rw [am_up_ne e] at hb
      by_cases e2 : b = t
      · subst e2; rw [am_up_eq] at hb; cases hb
      · rw [am_up_ne e2] at hb; exact Or.inr ⟨e, e2, hb⟩
  refine ⟨?_, ?_, ⟨hI.1, ?_, ?_⟩, fun i hi => by rw [hsz]; exact hN i hi, ⟨by rw [hsz]; exact hT.1, fun q hq => by rw [hk q (by have := hob0.2.1; omega)]; exact hT.2 q hq⟩, hc⟩
  · intro o' ci' fs' ho'
    have ho' : h.1 o' = some (ci', fs') := ho'
    by_cases e : o' = o
    · subst e
      cases ho.symm.trans ho'
      refine ⟨hob0.1, hob0.2.1, ⟨r, hr, hob.to ?_⟩, ?_⟩
      · intro j hj
        by_cases e2 : j = k
        · subst e2
          show (if j = j then _ else _) = am_fv ad _ (fs j)
          rw [if_pos rfl, hfs]
          show _ = (match am_up (am_up h.2.1 t none) a (some (u, some (o', j), ty, len, f)) a with | some A => Value.ref (ad A.1) | none => .null)
          rw [am_up_eq]
        · show (if j = k then _ else _) = am_fv ad _ (fs j)
          rw [if_neg e2, hfv o' ci fs j ho (by intro h9; exact e2 (congrArg Prod.snd h9))]
      · intro j
        by_cases e2 : j = k
        · subst e2; rw [hfs]
          exact ⟨_, (by show am_up (am_up h.2.1 t none) a _ a = _; rw [am_up_eq]), rfl⟩
        · exact hkf o' ci fs j ho (by intro h9; exact e2 (congrArg Prod.snd h9))
    · obtain ⟨p1, p2, ⟨r', p3, p4⟩, p5⟩ := hO o' ci' fs' ho'
      have h9 : ∀ j, (o', j) ≠ (o, k) := fun j h9 => e (congrArg Prod.fst h9)
      exact ⟨p1, p2, ⟨r', p3, (p4.kept (hk _ fun e' => e (hI.1 _ _ p1 hob0.1 e'))).to fun j _ => (hfv o' ci' fs' j ho' (h9 j)).symm⟩, fun j => hkf o' ci' fs' j ho' (h9 j)⟩
  · intro b u' ow' ty' len' f' hb
    rcases key b _ hb with ⟨e1, e2⟩ | ⟨e1, e2, e3⟩
    · cases e2
      obtain ⟨p0, p1, p2, cell, p3, p4⟩ := hA t _ _ _ _ _ ht
      exact ⟨by rw [e1]; exact (hA a _ _ _ _ _ hA0).1, p1, fun _ => p2 ht0, cell, by rw [hk _ fun e' => hI.2.2 o t _ _ ho ht (hI.1 _ _ p1 hob0.1 e').symm]; exact p3, p4⟩
    · obtain ⟨p0, p1, p2, cell, p3, p4⟩ := hA b _ _ _ _ _ e3
      exact ⟨p0, p1, p2, cell, by rw [hk _ fun e' => hI.2.2 o b _ _ ho e3 (hI.1 _ _ p1 hob0.1 e').symm]; exact p3, p4⟩
  · intro b b' A B hb hb' e
    rcases key b _ hb with ⟨e1, e2⟩ | ⟨e1, e2, e3⟩ <;> rcases key b' _ hb' with ⟨f1, f2⟩ | ⟨f1, f2, f3⟩
    · rw [e1, f1]
    · exact absurd (hI.2.1 t b' _ _ ht f3 (by rw [← e, e2])) (fun h9 => f2 h9.symm)
    · exact absurd (hI.2.1 b t _ _ e3 ht (by rw [e, f2])) e2
    · exact hI.2.1 b b' A B e3 f3 e
  · intro o' b q A ho' hb
    rcases key b _ hb with ⟨e1, e2⟩ | ⟨e1, e2, e3⟩
    · rw [e2]; exact hI.2.2 o' t q (u, none, ty, len, f) ho' ht
    · exact hI.2.2 o' b q A ho' e3
/-- a stretch of an array comes into an array -/
theorem am_HR.cpy (R : am_HR D H0 ad h s H) {a u : Nat} {ow : Option (Nat × Nat)} {ty : FieldType} {len : Nat} {g f : Nat → Int32} (ha : h.2.1 a = some (u, ow, ty, len, g)) (h0 : a ≠ 0) (hfx : ∀ j, fits ty (.int (f j)) = true) {cell : Cell} (h1 : H1[ad u]? = some cell) (hof : s.isArrayOf cell ty) (hun : cell.vm ≠ .unknown) (hsize : cell.slots.size = len) (hsl : ∀ j : Nat, j < len → cell.slots[j]? = some (.int (f j)))
    (hsz : H1.size = H.size) (hk : ∀ q, q ≠ ad u → H1[q]? = H[q]?) : am_HR D H0 ad (am_sA h a (some (u, ow, ty, len, f))) s H1 := by
  obtain ⟨hO, hA, hI, hN, hT, hc⟩ := R
  obtain ⟨a0, a1, a2, -⟩ := hA a u ow ty len g ha
  have key : ∀ b A, am_up h.2.1 a (some (u, ow, ty, len, f)) b = some A → ∃ A', h.2.1 b = some A' ∧ A'.1 = A.1 ∧ A'.2.1 = A.2.1 := by
    intro b A hb
    by_cases e : b = a
    · subst e; rw [am_up_eq] at hb; cases hb; exact ⟨_, ha, rfl, rfl⟩
    · rw [am_up_ne e] at hb; exact ⟨A, hb, rfl, rfl⟩
  refine ⟨?_, ?_, ⟨hI.1, ?_, ?_⟩, fun i hi => by rw [hsz]; exact hN i hi, ⟨by rw [hsz]; exact hT.1, fun q hq => by rw [hk q (by have := a2 h0; omega)]; exact hT.2 q hq⟩, hc⟩
  · intro o ci fs ho
    obtain ⟨p1, p2, ⟨r', p3, p4⟩, p5⟩ := hO o ci fs ho
    refine ⟨p1, p2, ⟨r', p3, (p4.kept (hk _ fun e' => hI.2.2 o a _ _ ho ha (hI.1 _ _ p1 a1 e'))).to ?_⟩, ?_⟩
    · intro k hkN
      have hf := p5 k
      generalize fs k = v at hf
      rcases v with v | q
      · rfl
      · show (match h.2.1 q.1 with | some A => Value.ref (ad A.1) | none => .null) = (match am_up h.2.1 a (some (u, ow, ty, len, f)) q.1 with | some A => Value.ref (ad A.1) | none => .null)
        by_cases e : q.1 = a
        · rw [e, am_up_eq, ha]
        · rw [am_up_ne e]
    · intro k
      have hf := p5 k
      generalize fs k = v at hf
      rcases v with v | q
      · exact hf
      · obtain ⟨A, b1, b2⟩ := hf
        by_cases e : q.1 = a
        · rw [e, ha] at b1; cases b1
          exact ⟨(u, ow, ty, len, f), (by show am_up h.2.1 a _ q.1 = _; rw [e, am_up_eq]), b2⟩
        · exact ⟨A, (by show am_up h.2.1 a _ q.1 = _; rw [am_up_ne e]; exact b1), b2⟩
  · intro b u' ow' ty' len' f' hb
    by_cases e : b = a
    · subst e
      have hb : am_up h.2.1 b (some (u, ow, ty, len, f)) b = some (u', ow', ty', len', f') := hb
      rw [am_up_eq] at hb; cases hb
      exact ⟨a0, a1, a2, cell, h1, hof, hun, hsize, hsl, hfx⟩
    · have hb : am_up h.2.1 a (some (u, ow, ty, len, f)) b = some (u', ow', ty', len', f') := hb
      rw [am_up_ne e] at hb
      obtain ⟨p0, p1, p2, cell, p3, p4⟩ := hA b u' ow' ty' len' f' hb
      exact ⟨p0, p1, p2, cell, by rw [hk _ fun e' => e (hI.2.1 b a _ _ hb ha (hI.1 _ _ p1 a1 e'))]; exact p3, p4⟩
  · intro b b' A B hb hb' e
    obtain ⟨A', q1, q2, -⟩ := key b A hb
    obtain ⟨B', r1, r2, -⟩ := key b' B hb'
    exact hI.2.1 b b' A' B' q1 r1 (by rw [q2, r2, e])
  · intro o b q A ho hb
    obtain ⟨A', q1, q2, -⟩ := key b A hb
    rw [← q2]; exact hI.2.2 o b q A' ho q1
end
