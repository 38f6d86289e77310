/-! A METHOD'S RUN IS SOUND. -/
theorem am_at_mem {α : Type} {l : List (Nat × α)} {i : Nat} {v : α} (h : am_at l i = some v) : (i, v) ∈ l := by
  induction l with
  | nil => cases h
  | cons q t ih =>
    obtain ⟨j, w⟩ := q
    unfold am_at at h
    split at h
    · rename_i e
      have e2 := Nat.eq_of_beq_eq_true e
      subst e2
      cases h
      exact List.mem_cons_self
    · exact List.mem_cons_of_mem _ (ih h)
theorem am_leq_eq {a b : List Nat} (h : am_leq a b = true) : a = b := by
  induction a generalizing b with
  | nil => cases b with
    | nil => rfl
    | cons _ _ => cases h
  | cons x s ih => cases b with
    | nil => cases h
    | cons y t =>
      have h : (Nat.beq x y && am_leq s t) = true := h
      rw [Bool.and_eq_true] at h
      rw [Nat.eq_of_beq_eq_true h.1, ih h.2]
theorem am_pick_zip {lv : List (Nat × am_V)} : ∀ {ks : List Nat} {a : List am_V}, am_pick lv ks = some a → ∃ lv', am_zip ks a = some lv' ∧ ∀ q ∈ lv', q ∈ lv := by
  intro ks
  induction ks with
  | nil => intro a h; cases h; exact ⟨[], rfl, fun q h => by cases h⟩
  | cons k ks ih =>
    intro a h
    unfold am_pick at h
    split at h
    · cases h
    · rename_i v hv
      split at h
      · cases h
      · rename_i t ht
        cases h
        obtain ⟨lv', h1, h2⟩ := ih ht
        refine ⟨(k, v) :: lv', ?_, ?_⟩
        · show (match am_zip ks t with | none => none | some t => some ((k, v) :: t)) = _
          rw [h1]
        · intro q hq
          rcases List.mem_cons.mp hq with rfl | hq
          · exact am_lk_mem hv
          · exact h2 q hq
theorem am_cat12 (v : am_V) : am_cat v = 1 ∨ am_cat v = 2 := by
  rcases v with v | q
  · cases v <;> first | exact Or.inl rfl | exact Or.inr rfl
  · exact Or.inl rfl
theorem am_zip_pos {ad : Nat → Nat} : ∀ {a : List am_V} {k : Nat} {lv : List (Nat × am_V)}, am_zip (am_pos k a) a = some lv → (lv.map fun q => (q.1, am_cv ad q.2)) = lv_args k (a.map (am_cv ad)) ∧ ∀ q ∈ lv, q.2 ∈ a := by
  intro a
  induction a with
  | nil => intro k lv h; cases h; exact ⟨rfl, fun q h => by cases h⟩
  | cons v t ih =>
    intro k lv h
    have h : (match am_zip (am_pos (match Nat.beq (am_cat v) 2 with | true => k + 2 | false => k + 1) t) t with | none => none | some t => some ((k, v) :: t)) = some lv := h
    split at h
    · cases h
    · rename_i lv' hz
      cases h
      obtain ⟨h1, h2⟩ := ih hz
      refine ⟨?_, ?_⟩
      · rw [List.map_cons, h1, List.map_cons]
        show _ = (k, am_cv ad v) :: lv_args (if (am_cv ad v).category = 2 then k + 2 else k + 1) (t.map (am_cv ad))
        rw [am_cat_cv]
        rcases am_cat12 v with e | e <;> rw [e] <;> rfl
      · intro q hq
        rcases List.mem_cons.mp hq with rfl | hq
        · exact List.mem_cons_self
        · exact List.mem_cons_of_mem _ (h2 q hq)
theorem am_sl_len (ad : Nat → Nat) (a : List am_V) : (lg_sl (a.map (am_cv ad))).length = am_words a := by
  induction a with
  | nil => rfl
  | cons v t ih =>
    show (List.flatMap _ (am_cv ad v :: t.map (am_cv ad))).length = am_cat v + am_words t
    rw [List.flatMap_cons, List.length_append]
    have ih : (List.flatMap (fun v => if v.category = 2 then [Slot.val v, Slot.second] else [Slot.val v]) (t.map (am_cv ad))).length = am_words t := ih
    rw [ih, am_cat_cv]
    rcases am_cat12 v with e | e <;> rw [e] <;> rfl
section
variable {D : va_G} {H0 : Heap} {ad0 : Nat → Nat} {n0 cb sb nL : Nat} {s : State} {ad : Nat → Nat} {H : Heap} {locs : List Loc} {cells slots : Nat} {ls : Array Slot} {h : am_H} {lv lv' : List (Nat × am_V)} {st : List am_V}
theorem am_St.sub (S : am_St D H0 ad0 n0 cb sb nL s ad H locs cells slots ls h lv st) (hs : ∀ q ∈ lv', q ∈ lv) : am_St D H0 ad0 n0 cb sb nL s ad H locs cells slots ls h lv' st := by
  refine ⟨S.1, ⟨S.2.1.1, S.2.1.2.1, ?_⟩, fun q hq => S.2.2.1 q (hs q hq), S.2.2.2⟩
  intro q hq
  obtain ⟨q', h1, rfl⟩ := List.mem_map.mp hq
  exact S.2.1.2.2 _ (List.mem_map.mpr ⟨q', hs q' h1, rfl⟩)
end
section
variable {p : Program} {l : Launch} {e : Env} {R : Room} {s : State} {m : MethodId} {args : Array Value} {below : List Frame} {meth : Method} {c : Code} {D : va_G} {H0 : Heap} {ad0 : Nat → Nat} {n0 cb sb nL : Nat} {cc : ByteArray} {r : am_O × am_H} {call loop : Nat → List am_V → am_H → am_R}
theorem am_run_sound (hx : p.tables.exec = Jvm.exec) (hb : c.code = cc) (hml : c.maxLocals = nL) (hlocks : meth.locks = false) {ret : Option FieldType} (hret : meth.sig.returnType = ret) {own nm : String} (hown : s.vm.findClass own = some m.cls) (hnm : meth.name = nm) (hts : ∀ w ∈ am_tbl, w.before args s = true) (hoi : am_hoi) (hKn : va_K D am_cl [] s) (hKs : am_KS H0 ad0 s) (hRc : am_mc ≤ R.cells + cb) (hRs : am_ms ≤ R.slots + sb)
    {d : Nat} (hfr : d + 1 ≤ R.frames) (hlo : 64 * (d + 1) ≤ R.locals) {nmf : Nat → MethodName} {inst : Nat → Prop} (hcall : ∀ i a h o h2, call i a h = some (o, h2) → ∃ d', d = d' + 1 ∧ am_CM l D H0 (nmf i) d' a h o h2 ∧ (inst i → am_RV D H0 s (nmf i) a h))
    {M : am_M} (hok : ∀ q ∈ M.1, am_okI nmf inst own nm cc nL ret q.1 q.2.1 q.2.2) (hout : ∀ pc, am_hd M.2.2.1 pc = none → ∀ x ∈ c.exceptionTable.toList, covers x pc = false) (hcatch : ∀ pc t, am_hd M.2.2.1 pc = some t → am_CT p l e R s m args below meth c D H0 pc t)
    (hloop : ∀ pc ks lv a h, am_at M.2.1 pc = some ks → am_zip ks a = some lv → loop pc a h = some r → am_WG p l e R s m args below meth c D H0 ad0 n0 cb sb nL (am_Q D H0 ad0 n0 cb sb s below r) pc lv [] h) :
    ∀ f pc lv st h, am_run call loop am_dfl M f pc lv st h = some r → am_WG p l e R s m args below meth c D H0 ad0 n0 cb sb nL (am_Q D H0 ad0 n0 cb sb s below r) pc lv st h := by
  intro f
  induction f with
  | zero => intro pc lv st h hr; cases hr
  | succ f ih =>
    intro pc lv st h hr
    unfold am_run at hr
    split at hr
    · cases hr
    · rename_i ins X hat
      have h9 : am_okI nmf inst own nm cc nL ret pc ins X := hok (pc, ins, X) (am_at_mem hat)
      refine am_step_sound (hd := am_hd M.2.2.1 pc) (ins := ins) (X := X) hx hb hml hlocks hret hown hnm hts hoi hKn hKs hRc hRs hfr hlo hcall (hout pc) (hcatch pc) ?_ h9 hr
      intro pc' lv' st' h' hk
      split at hk
      · exact ih pc' lv' st' h' hk
      · rename_i ks hks
        split at hk
        · split at hk
          · rename_i a ha
            obtain ⟨lv9, h1, h2⟩ := am_pick_zip ha
            intro ad H locs cells slots ls S
            exact hloop pc' ks lv9 a h' hks h1 hk ad H locs cells slots ls (S.sub h2)
          · cases hk
        · cases hk
end
/-- a method's row in the table: its own name, code, words -/
def am_okM (nmf : Nat → MethodName) (inst : Nat → Prop) (mi : Nat) (M : am_M) : Prop := ∃ cc ret hh, plainFor (nmf mi) = true ∧ ((hh = [] ∧ Cond.code (nmf mi) cc M.2.2.2.2.2.2 ret ∈ am_tbl) ∨ Cond.codeWith (nmf mi) cc M.2.2.2.2.2.2 ret hh ∈ am_tbl) ∧
  (∀ q ∈ M.1, am_okI nmf inst (nmf mi).cls (nmf mi).name cc M.2.2.2.2.2.2 ret q.1 q.2.1 q.2.2) ∧ hh.map (fun q => (q.1, q.2.1, q.2.2.1)) = M.2.2.1.toList ∧ (∀ q ∈ hh, q.2.2.2 ≠ 0 ∧ Cond.classLink (nmf mi).cls q.2.2.2 "java/lang/IllegalStateException" ∈ am_tbl) ∧ (inst mi → ∃ ci T N, M.2.2.2.2.2.1 = some ci ∧ am_cl[ci]? = some ((nmf mi).cls, T, N)) ∧ am_ks M 0 = M.2.2.2.1
