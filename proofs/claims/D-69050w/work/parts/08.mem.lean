/-! switches, fields, arrays, new cells -/
theorem am_i32 {x : Int32} {v : Int} (h1 : -2147483648 ≤ v) (h2 : v < 2147483648) : x = Int32.ofInt v ↔ x.toInt = v := by
  constructor
  · intro h; rw [h]; exact Int32.toInt_ofInt_of_le (by omega) (by omega)
  · intro h; rw [← h, Int32.ofInt_toInt]
theorem am_swIn {x : Int32} {K : Int → am_R} {d : Int} : ∀ (l : List Int) (lo : Int) (i : Nat) (off : Int), -2147483648 ≤ lo → lo + (l.length : Int) ≤ 2147483648 → x.toInt = lo + (i : Int) → l[i]? = some off → am_sw x K d (am_tab lo l) = K off := by
  intro l
  induction l with
  | nil => intro lo i off _ _ _ h; simp at h
  | cons o t ih =>
    intro lo i off h1 h2 h3 h4
    simp only [List.length_cons, Int.natCast_add, Int.cast_ofNat_Int] at h2
    show (if x = Int32.ofInt lo then K o else am_sw x K d (am_tab (lo + 1) t)) = K off
    have hx := am_i32 (x := x) (v := lo) h1 (by omega)
    cases i with
    | zero =>
      rw [if_pos (hx.mpr (by simpa using h3))]
      simp at h4; rw [h4]
    | succ i =>
      rw [if_neg (fun h9 => by have := hx.mp h9; omega)]
      exact ih (lo + 1) i off (by omega) (by omega) (by omega) (by simpa using h4)
theorem am_swOut {x : Int32} {K : Int → am_R} {d : Int} : ∀ (l : List Int) (lo : Int), -2147483648 ≤ lo → lo + (l.length : Int) ≤ 2147483648 → (x.toInt < lo ∨ lo + (l.length : Int) ≤ x.toInt) → am_sw x K d (am_tab lo l) = K d := by
  intro l
  induction l with
  | nil => intro lo _ _ _; rfl
  | cons o t ih =>
    intro lo h1 h2 h3
    simp only [List.length_cons, Int.natCast_add, Int.cast_ofNat_Int] at h2 h3
    show (if x = Int32.ofInt lo then K o else am_sw x K d (am_tab (lo + 1) t)) = K d
    have hx := am_i32 (x := x) (v := lo) h1 (by omega)
    rw [if_neg (fun h9 => by have := hx.mp h9; omega)]
    exact ih (lo + 1) (by omega) (by omega) (by omega)
theorem am_swL {x : Int32} {K : Int → am_R} {d : Int} : ∀ (l : List (Int × Int)), (∀ q ∈ l, -2147483648 ≤ q.1 ∧ q.1 < 2147483648) → am_sw x K d l = K (lookupswitch.offset l d x.toInt) := by
  intro l
  induction l with
  | nil => intro _; rfl
  | cons q t ih =>
    obtain ⟨v, o⟩ := q
    intro h
    have h1 := h _ List.mem_cons_self
    show (if x = Int32.ofInt v then K o else am_sw x K d t) = K (if v = x.toInt then o else lookupswitch.offset t d x.toInt)
    have hx := am_i32 (x := x) (v := v) h1.1 h1.2
    by_cases e : x = Int32.ofInt v
    · rw [if_pos e, if_pos (hx.mp e).symm]
    · rw [if_neg e, if_neg (fun h9 => e (hx.mpr h9.symm))]
      exact ih fun q hq => h q (List.mem_cons_of_mem _ hq)
theorem am_ob_inv {h : am_H} {ci o : Nat} {k : (Nat → am_V) → am_R} {r : am_O × am_H} (hr : am_ob h ci o k = some r) : ∃ fs, h.1 o = some (ci, fs) ∧ k fs = some r := by
  unfold am_ob at hr
  split at hr
  · split at hr
    · rename_i e; subst e; exact ⟨_, by assumption, hr⟩
    · cases hr
  · cases hr
theorem am_ar_inv {h : am_H} {a u : Nat} {k : Option (Nat × Nat) → FieldType → Nat → (Nat → Int32) → am_R} {r : am_O × am_H} (hr : am_ar h a u k = some r) : ∃ ow ty len f, h.2.1 a = some (u, ow, ty, len, f) ∧ k ow ty len f = some r := by
  unfold am_ar at hr
  split at hr
  · split at hr
    · rename_i e; subst e; exact ⟨_, _, _, _, by assumption, hr⟩
    · cases hr
  · cases hr
theorem am_ix_inv {i : Int32} {len : Nat} {k : Nat → am_R} {r : am_O × am_H} (hr : am_ix i len k = some r) : ¬ (i < 0 ∨ len ≤ i.toNatClampNeg) ∧ k i.toNatClampNeg = some r := by
  unfold am_ix at hr
  split at hr
  · cases hr
  · exact ⟨by assumption, hr⟩
section
variable {p : Program} {l : Launch} {e : Env} {R : Room} {s : State} {m : MethodId} {args : Array Value} {below : List Frame} {meth : Method} {c : Code} {D : va_G} {H0 : Heap} {ad0 : Nat → Nat} {n0 cb sb nL : Nat} {Q : State → Prop} {cc : ByteArray} {pc : Nat} {lv : List (Nat × am_V)} {st : List am_V} {h : am_H} {K : Nat → List (Nat × am_V) → List am_V → am_H → am_R} {r : am_O × am_H}
theorem am_s_tableswitch (hx : p.tables.exec = Jvm.exec) (hb : c.code = cc) (hK : ∀ pc lv st h, K pc lv st h = some r → am_WG p l e R s m args below meth c D H0 ad0 n0 cb sb nL Q pc lv st h) {dflt lo hi : Int} {offs : Array Int} {len : Nat} (hr : -2147483648 ≤ lo ∧ hi < 2147483648 ∧ (offs.size : Int) = hi - lo + 1)
    (hd : decode cc pc = .ok (.tableswitch dflt lo hi offs, len)) (hrun : (am_i1 st fun x t => am_sw x (fun off => am_go pc off fun tg => K tg lv t h) dflt (am_tab lo offs.toList)) = some r) : am_WG p l e R s m args below meth c D H0 ad0 n0 cb sb nL Q pc lv st h := by
  obtain ⟨x, t, rfl, h2⟩ := am_i1_inv hrun
  intro ad H locs cells slots ls S
  by_cases hin : x.toInt < lo ∨ hi < x.toInt
  · rw [am_swOut _ _ hr.1 (by rw [Array.length_toList]; omega) (by rw [Array.length_toList]; omega)] at h2
    obtain ⟨tg, ht, h3⟩ := am_go_inv h2
    exact lv_tableOut hx hb hd hin ht (hK _ _ _ _ h3 ad H locs cells slots ls (S.stk (am_kn_tl S.2.2.2.1)))
  · have hi1 : (x.toInt - lo).toNat < offs.size := by omega
    rw [am_swIn offs.toList lo (x.toInt - lo).toNat offs[(x.toInt - lo).toNat] hr.1 (by rw [Array.length_toList]; omega) (by omega) (by rw [Array.getElem?_toList]; exact Array.getElem?_eq_getElem hi1)] at h2
    obtain ⟨tg, ht, h3⟩ := am_go_inv h2
    exact lv_tableIn hx hb hd (fun h9 => hin (Or.inl h9)) (fun h9 => hin (Or.inr h9)) (Array.getElem?_eq_getElem hi1) ht (hK _ _ _ _ h3 ad H locs cells slots ls (S.stk (am_kn_tl S.2.2.2.1)))
theorem am_s_lookupswitch (hx : p.tables.exec = Jvm.exec) (hb : c.code = cc) (hK : ∀ pc lv st h, K pc lv st h = some r → am_WG p l e R s m args below meth c D H0 ad0 n0 cb sb nL Q pc lv st h) {dflt : Int} {ps : Array (Int × Int)} {len : Nat} (hr : ∀ q ∈ ps.toList, -2147483648 ≤ q.1 ∧ q.1 < 2147483648) (hp : (ps.toList.zip (ps.toList.drop 1)).all (fun (a, next) => a.1 < next.1) = true)
    (hd : decode cc pc = .ok (.lookupswitch dflt ps, len)) (hrun : (am_i1 st fun x t => am_sw x (fun off => am_go pc off fun tg => K tg lv t h) dflt ps.toList) = some r) : am_WG p l e R s m args below meth c D H0 ad0 n0 cb sb nL Q pc lv st h := by
  obtain ⟨x, t, rfl, h2⟩ := am_i1_inv hrun
  intro ad H locs cells slots ls S
  rw [am_swL _ hr] at h2
  obtain ⟨tg, ht, h3⟩ := am_go_inv h2
  exact lv_lookup hx hb hd hp rfl ht (hK _ _ _ _ h3 ad H locs cells slots ls (S.stk (am_kn_tl S.2.2.2.1)))
/-- a field's entry, by its own name or as a nest mate's -/
def am_lnk (own : String) (i : Nat) (T : u_T) (k : Nat) : Prop := Cond.fieldLink own i (T k).1 (T k).2.1 (T k).2.2.1 ∈ am_tbl ∨ ∃ host, Cond.fieldLinkNest own i (T k).1 (T k).2.1 (T k).2.2.1 host ∈ am_tbl
theorem am_getf (hx : p.tables.exec = Jvm.exec) (hb : c.code = cc) (hts : ∀ w ∈ am_tbl, w.before args s = true) {own : String} (hown : s.vm.findClass own = some m.cls) (hKn : va_K D am_cl [] s) {H : Heap} {locs : List Loc} {cells slots : Nat} {ls : Array Slot} {rest : List Value} {ad : Nat → Nat} (hR : am_HR D H0 ad h s H)
    {o ci k i : Nat} {fs : Nat → am_V} {C : String} {T : u_T} {N : Nat} (hcl : am_cl[ci]? = some (C, T, N)) (hk : k < N) (hl : am_lnk own i T k) (ho : h.1 o = some (ci, fs)) (hd : decode cc pc = .ok (.getfield i, 3))
    (kk : W p l e R s m args below meth c H locs cells slots Q (F0 m (pc + 3) ls (am_fv ad h (fs k) :: rest))) : W p l e R s m args below meth c H locs cells slots Q (F0 m pc ls (.ref (ad o) :: rest)) := by
  obtain ⟨-, -, ⟨r9, h1, cell, q1, q2, q3, q4⟩, -⟩ := hR.1 o ci fs ho
  cases hcl.symm.trans h1
  obtain ⟨hS, hfc, kC, hkC, hkind⟩ := hKn.1 ci _ hcl
  obtain ⟨cf, kf, fi, f, hi, hsl⟩ := hS k hk
  have hst := (u_facts hfc hkC (u_lays hts (am_cls hcl).1 hk) hi).1
  have hsv : cell.slots[f.slot]? = some (am_fv ad h (fs k)) := by rw [hsl]; exact q4 k hk
  have hvm : cell.vm ≠ .unknown := by rw [q3]; exact fun h => by cases h
  rcases hl with hl | ⟨host, hl⟩
  · exact W.getf hx hb hown (hts _ hl) hi hst q1 hvm hsv rfl rfl hd kk
  · exact va_Wgetf hx hb hown (hts _ hl) hi hst q1 hvm hsv rfl rfl hd kk
theorem am_s_getfield (hx : p.tables.exec = Jvm.exec) (hb : c.code = cc) (hK : ∀ pc lv st h, K pc lv st h = some r → am_WG p l e R s m args below meth c D H0 ad0 n0 cb sb nL Q pc lv st h) (hts : ∀ w ∈ am_tbl, w.before args s = true) {own : String} (hown : s.vm.findClass own = some m.cls) (hKn : va_K D am_cl [] s)
    {X : am_X} {i : Nat} {C : String} {T : u_T} {N : Nat} (hcl : am_cl[X.1]? = some (C, T, N)) (hk : X.2.1 < N) (hl : am_lnk own i T X.2.1) (hd : decode cc pc = .ok (.getfield i, 3))
    (hrun : (am_o1 st fun o t => (match X.2.2.1 with
      | 0 => am_gI h X.1 o X.2.1 fun x => K (pc + 3) lv (.inl (.int x) :: t) h
      | 1 => am_gI h X.1 o X.2.1 fun x => K (pc + 3) lv (.inl (.int x) :: t) h
      | 2 => am_gR h X.1 o X.2.1 fun x => K (pc + 3) lv (.inl (.ref x) :: t) h
      | _ => am_gA h X.1 o X.2.1 fun a u => K (pc + 3) lv (.inr (a, u) :: t) h)) = some r) : am_WG p l e R s m args below meth c D H0 ad0 n0 cb sb nL Q pc lv st h := by
  obtain ⟨o, t, rfl, h2⟩ := am_o1_inv hrun
  intro ad H locs cells slots ls S
  have hI : (am_gI h X.1 o X.2.1 fun x => K (pc + 3) lv (.inl (.int x) :: t) h) = some r → W p l e R s m args below meth c H locs cells slots Q (F0 m pc ls (.ref (ad o) :: t.map (am_cv ad))) := by
    intro h3
    obtain ⟨fs, ho, h4⟩ := am_ob_inv h3
    split at h4
    · rename_i x hf
      refine am_getf hx hb hts hown hKn S.1 hcl hk hl ho hd ?_
      rw [hf]
      exact hK _ _ _ _ h4 ad H locs cells slots ls (S.stk (am_kn_cons trivial (am_kn_tl S.2.2.2.1)))
    · cases h4
  split at h2
  · exact hI h2
  · exact hI h2
  · obtain ⟨fs, ho, h4⟩ := am_ob_inv h2
    split at h4
    · rename_i x hf
      have hkf := (S.1.1 o _ fs ho).2.2.2 X.2.1
      rw [hf] at hkf
      refine am_getf hx hb hts hown hKn S.1 hcl hk hl ho hd ?_
      rw [hf]
      exact hK _ _ _ _ h4 ad H locs cells slots ls (S.stk (am_kn_cons hkf (am_kn_tl S.2.2.2.1)))
    · cases h4
  · obtain ⟨fs, ho, h4⟩ := am_ob_inv h2
    split at h4
    · rename_i a g hf
      split at h4
      · rename_i u A hA
        have ha := S.1.2.1 a u _ _ _ _ hA
        refine am_getf hx hb hts hown hKn S.1 hcl hk hl ho hd ?_
        rw [hf]
        have e9 : am_fv ad h (.inr (a, g)) = .ref (ad u) := by
          show (match h.2.1 a with | some A => Value.ref (ad A.1) | none => .null) = _
          rw [hA]
        rw [e9]
        exact hK _ _ _ _ h4 ad H locs cells slots ls (S.stk (am_kn_cons ha.2.1 (am_kn_tl S.2.2.2.1)))
      · cases h4
    · cases h4
/-- a final field is put by its own class's constructor alone -/
def am_may (own nm : String) (T : u_T) (k : Nat) : Prop := (T k).2.2.2 = false ∨ ((T k).1 = own ∧ nm = "<init>")
theorem am_putf (hx : p.tables.exec = Jvm.exec) (hb : c.code = cc) (hts : ∀ w ∈ am_tbl, w.before args s = true) {own nm : String} (hown : s.vm.findClass own = some m.cls) (hnm : meth.name = nm) (hKn : va_K D am_cl [] s) {H : Heap} {locs : List Loc} {cells slots : Nat} {ls : Array Slot} {rest : List Value} {ad : Nat → Nat} (hR : am_HR D H0 ad h s H)
    {o ci k i : Nat} {fs : Nat → am_V} {C : String} {T : u_T} {N : Nat} (hcl : am_cl[ci]? = some (C, T, N)) (hk : k < N) (hl : am_lnk own i T k) (hmay : am_may own nm T k) (ho : h.1 o = some (ci, fs)) {v : Value} (hn : narrow (am_ty ci k) v = v) (hfit : fits (am_ty ci k) v = true) (hd : decode cc pc = .ok (.putfield i, 3))
    (kk : ∀ (H1 : Heap) (q : Loc), q.base = ad o → t_OB (ad o) (D.1 ci) N (D.2 ci) H1 (updV (fun k => am_fv ad h (fs k)) k v) → H1.size = H.size → (∀ q, q ≠ ad o → H1[q]? = H[q]?) → W p l e R s m args below meth c H1 (locs ++ [q]) cells slots Q (F0 m (pc + 3) ls rest)) : W p l e R s m args below meth c H locs cells slots Q (F0 m pc ls (v :: .ref (ad o) :: rest)) := by
  obtain ⟨-, -, ⟨r9, h1, cell, q1, q2, q3, q4⟩, -⟩ := hR.1 o ci fs ho
  cases hcl.symm.trans h1
  obtain ⟨hin, hnn, hty, -⟩ := am_cls hcl
  have hap := va_apart (own := own) (tys := []) hts hin (am_ty ci) hty hnn hKn hcl
  obtain ⟨hS, hfc, kC, hkC, hkind⟩ := hKn.1 ci _ hcl
  obtain ⟨cf, kf, fi, f, hi, hsl⟩ := hS k hk
  have hst := (u_facts hfc hkC (u_lays hts hin hk) hi).1
  have hlay := hts _ (hin _ (u_in_lay hk))
  unfold u_lay at hlay
  have hlt : f.slot < cell.slots.size := by rw [hsl]; exact k2_hasslot (q4 k hk)
  have key : ∀ H' : Heap, H'[ad o]? = some (cell.setSlot f.slot v) → H'.size = H.size → (∀ q, q ≠ ad o → H'[q]? = H[q]?) → W p l e R s m args below meth c H' (locs ++ [⟨ad o, f.slot⟩]) cells slots Q (F0 m (pc + 3) ls rest) := fun H' e1 e2 e3 => by
    rw [hsl] at e1
    exact kk H' _ rfl ⟨_, e1, q2, q3, t_set q4 hap hk v⟩ e2 e3
  by_cases hfin : (T k).2.2.2 = true
  · rw [if_pos hfin] at hlay
    obtain ⟨hdecl, hini⟩ : (T k).1 = own ∧ nm = "<init>" := by
      rcases hmay with h9 | h9
      · rw [hfin] at h9; cases h9
      · exact h9
    have hcf : m.cls = cf := by
      obtain ⟨_, _, c', _, _, _, -, -, hf', -, -, -, hown2, -⟩ := Cond.laysFinal_spec hlay
      have e1 : c' = cf := by have := hi.symm.trans hf'; simp at this; exact this.1.symm
      rw [hdecl] at hown2
      rw [← e1]; exact Option.some.inj (hown.symm.trans hown2)
    have h6 := u_fits hfc hkC hkind (Or.inr hlay) hi (hty k hk) hn hfit
    rcases hl with hl | ⟨host, hl⟩
    · exact W.putFinK hx hb hown (hts _ hl) hi hst hcf (hnm.trans hini) (by rw [q2]; exact h6) q1 q3 hlt rfl rfl hd key
    · have ha : ad o < H.size := (Array.getElem?_eq_some_iff.mp q1).1
      refine va_Wputf hx hb hown (hts _ hl) hi hst (Or.inr ⟨hcf, hnm.trans hini⟩) q1 (by rw [q3]; exact fun h => by cases h) hlt h6.1 (by rw [q2, q3]; exact h6.2) rfl rfl hd ?_
      exact key _ (by simp [Array.getElem?_setIfInBounds, ha]) (by simp) (fun q hq => by simp [Array.getElem?_setIfInBounds, Ne.symm hq])
  · rw [if_neg hfin] at hlay
    have h6 := u_store hfc hkC hkind hlay hi (hty k hk) hn hfit
    rcases hl with hl | ⟨host, hl⟩
    · exact W.putK hx hb (f := f) ⟨hown, hts _ hl, ⟨_, _, _, hi⟩, hst⟩ (by rw [q2]; exact h6) q1 q3 hlt rfl rfl hd key
    · exact va_WputK hx hb hown (hts _ hl) hi hst (by rw [q2]; exact h6) q1 q3 hlt rfl rfl hd key
end
