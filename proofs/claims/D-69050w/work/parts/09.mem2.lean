def am_tcd (t : FieldType) : Nat := match t with
  | .int => 0
  | .boolean => 1
  | .object _ => 2
  | .array _ => 3
  | _ => 9
theorem am_tcd0 {t : FieldType} (h : am_tcd t = 0) : t = .int := by cases t <;> simp_all [am_tcd]
theorem am_tcd1 {t : FieldType} (h : am_tcd t = 1) : t = .boolean := by cases t <;> simp_all [am_tcd]
theorem am_tcd2 {t : FieldType} (h : am_tcd t = 2) : ∃ C, t = .object C := by cases t <;> simp_all [am_tcd]
theorem am_tcd3 {t : FieldType} (h : am_tcd t = 3) : ∃ C, t = .array C := by cases t <;> simp_all [am_tcd]
theorem am_nar_fits {ty : FieldType} {x : Int32} (h : am_tI ty = true ∨ am_tS ty = true ∨ am_tB ty = true) : fits ty (.int (am_nar ty x)) = true := by
  cases ty <;> first | rfl | exact fits_narrow_byte x | exact fits_narrow_short x | exact fits_narrow_boolean x | (simp [am_tI, am_tS, am_tB] at h; done)
section
variable {D : va_G} {H0 : Heap} {ad0 : Nat → Nat} {n0 cb sb nL : Nat} {s : State} {ad : Nat → Nat} {H H1 : Heap} {locs : List Loc} {cells slots : Nat} {ls : Array Slot} {h h' : am_H} {lv : List (Nat × am_V)} {st st' : List am_V}
theorem am_St.mv (S : am_St D H0 ad0 n0 cb sb nL s ad H locs cells slots ls h lv st) (hR : am_HR D H0 ad h' s H1) (e : h'.2.2 = h.2.2) {q : Loc} (hq : H0.size ≤ q.base) (hst : ∀ v ∈ st', am_kn h.2.2.1 v) : am_St D H0 ad0 n0 cb sb nL s ad H1 (locs ++ [q]) cells slots ls h' lv st' := by
  refine ⟨hR, S.2.1, by rw [e]; exact S.2.2.1, by rw [e]; exact hst, ?_, by rw [e]; exact S.2.2.2.2.2.1, by rw [e]; exact S.2.2.2.2.2.2.1, by rw [e]; exact S.2.2.2.2.2.2.2.1, S.2.2.2.2.2.2.2.2⟩
  intro q' hq'
  rcases List.mem_append.mp hq' with h1 | h1
  · exact S.2.2.2.2.1 q' h1
  · rw [List.mem_singleton.mp h1]; exact hq
theorem am_map_up {n x : Nat} {lv : List (Nat × am_V)} (hn : n < 1000000) (hk : ∀ q ∈ lv, am_kn n q.2) : (lv.map fun q => (q.1, am_cv (am_up ad n x) q.2)) = lv.map fun q => (q.1, am_cv ad q.2) := List.map_congr_left fun q hq => by rw [am_cv_up hn (hk q hq)]
theorem am_map_up' {n x : Nat} {st : List am_V} (hn : n < 1000000) (hk : ∀ v ∈ st, am_kn n v) : st.map (am_cv (am_up ad n x)) = st.map (am_cv ad) := List.map_congr_left fun v hv => am_cv_up hn (hk v hv)
/-- behind a new cell -/
theorem am_St.nw (S : am_St D H0 ad0 n0 cb sb nL s ad H locs cells slots ls h lv st) {N : Nat} (hR : am_HR D H0 (am_up ad h.2.2.1 H.size) h' s H1) (e : h'.2.2 = (h.2.2.1 + 1, h.2.2.2.1 + 1, h.2.2.2.2 + N)) (hst : ∀ v ∈ st', am_kn (h.2.2.1 + 1) v) : am_St D H0 ad0 n0 cb sb nL s (am_up ad h.2.2.1 H.size) H1 locs (cells + 1) (slots + N) ls h' lv st' := by
  have hsm := S.1.small
  have e1 : h'.2.2.1 = h.2.2.1 + 1 := by rw [e]
  have e2 : h'.2.2.2.1 = h.2.2.2.1 + 1 := by rw [e]
  have e3 : h'.2.2.2.2 = h.2.2.2.2 + N := by rw [e]
  obtain ⟨-, s1, s2, -, s4, s5, s6, s7, s8⟩ := S
  refine ⟨hR, ?_, fun q hq => by rw [e1]; exact am_kn_mono (s2 q hq) (Nat.le_succ _), by rw [e1]; exact hst, s4, by rw [e2]; omega, by rw [e3]; omega, by rw [e1]; omega, ?_⟩
  · rw [am_map_up hsm s2]; exact s1
  · intro i hi
    rw [am_up_ne (by omega)]
    exact s8 i hi
end
section
variable {p : Program} {l : Launch} {e : Env} {R : Room} {s : State} {m : MethodId} {args : Array Value} {below : List Frame} {meth : Method} {c : Code} {D : va_G} {H0 : Heap} {ad0 : Nat → Nat} {n0 cb sb nL : Nat} {Q : State → Prop} {cc : ByteArray} {pc : Nat} {lv : List (Nat × am_V)} {st : List am_V} {h : am_H} {K : Nat → List (Nat × am_V) → List am_V → am_H → am_R} {r : am_O × am_H}
theorem am_s_putfield (hx : p.tables.exec = Jvm.exec) (hb : c.code = cc) (hK : ∀ pc lv st h, K pc lv st h = some r → am_WG p l e R s m args below meth c D H0 ad0 n0 cb sb nL Q pc lv st h) (hts : ∀ w ∈ am_tbl, w.before args s = true) {own nm : String} (hown : s.vm.findClass own = some m.cls) (hnm : meth.name = nm) (hKn : va_K D am_cl [] s)
    {X : am_X} {i : Nat} {C : String} {T : u_T} {N : Nat} (hcl : am_cl[X.1]? = some (C, T, N)) (hk : X.2.1 < N) (htc : am_tcd (am_ty X.1 X.2.1) = X.2.2.1) (hle : X.2.2.1 ≤ 3) (hl : am_lnk own i T X.2.1) (hmay : am_may own nm T X.2.1) (hd : decode cc pc = .ok (.putfield i, 3))
    (hrun : (match X.2.2.1 with
      | 0 => am_i1 st fun x t => am_o1 t fun o t => am_pI h X.1 o X.2.1 x fun h => K (pc + 3) lv t h
      | 1 => am_i1 st fun x t => am_o1 t fun o t => am_pZ h X.1 o X.2.1 x fun h => K (pc + 3) lv t h
      | 2 => am_o1 st fun x t => am_o1 t fun o t => am_pR h X.1 o X.2.1 x fun h => K (pc + 3) lv t h
      | _ => am_a1 st fun a u t => am_o1 t fun o t => am_pA h X.1 o X.2.1 a u fun h => K (pc + 3) lv t h) = some r) : am_WG p l e R s m args below meth c D H0 ad0 n0 cb sb nL Q pc lv st h := by
  -- a plain value
  have plain : ∀ (w : Value) (o : Nat) (t : List am_V), narrow (am_ty X.1 X.2.1) w = w → fits (am_ty X.1 X.2.1) w = true → (∀ ad, am_cv ad (.inl w) = w) → (∀ n, am_kn n (.inl w)) → (am_pV h X.1 o X.2.1 (.inl w) fun h => K (pc + 3) lv t h) = some r → am_WG p l e R s m args below meth c D H0 ad0 n0 cb sb nL Q pc lv (.inl w :: .inl (.ref o) :: t) h := by
    intro w o t hn hfit hw hkn h3 ad H locs cells slots ls S
    obtain ⟨fs, ho, h4⟩ := am_ob_inv h3
    have hgo := am_putf (locs := locs) (cells := cells) (slots := slots) (Q := Q) (l := l) (e := e) (R := R) (below := below) (ls := ls) (rest := t.map (am_cv ad)) hx hb hts hown hnm hKn S.1 hcl hk hl hmay ho hn hfit hd (fun H1 q hq hob hsz hkp => hK _ _ _ _ h4 ad H1 (locs ++ [q]) cells slots ls (S.mv (S.1.put ho (hkn _) hcl (by rw [hw]; exact hob) hsz hkp) rfl (by rw [hq]; exact (S.1.1 o _ fs ho).2.1) (am_kn_tl (am_kn_tl S.2.2.2.1))))
    have e9 : am_cv ad (.inl w) = w := hw ad
    show W p l e R s m args below meth c H locs cells slots Q (F0 m pc ls (am_cv ad (.inl w) :: .ref (ad o) :: t.map (am_cv ad)))
    rw [e9]; exact hgo
  split at hrun
  · rename_i h0
    obtain ⟨x, t, rfl, h2⟩ := am_i1_inv hrun
    obtain ⟨o, t', rfl, h3⟩ := am_o1_inv h2
    have ht := am_tcd0 (htc.trans h0)
    exact plain (.int x) o t' (by rw [ht]; rfl) (by rw [ht]; rfl) (fun _ => rfl) (fun _ => trivial) h3
  · rename_i h0
    obtain ⟨x, t, rfl, h2⟩ := am_i1_inv hrun
    obtain ⟨o, t', rfl, h3⟩ := am_o1_inv h2
    have ht := am_tcd1 (htc.trans h0)
    unfold am_pZ at h3
    split at h3
    · rename_i hx01
      refine plain (.int x) o t' ?_ ?_ (fun _ => rfl) (fun _ => trivial) h3
      · rw [ht]; rcases hx01 with rfl | rfl <;> rfl
      · rw [ht]; rcases hx01 with rfl | rfl <;> rfl
    · cases h3
  · rename_i h0
    obtain ⟨x, t, rfl, h2⟩ := am_o1_inv hrun
    obtain ⟨o, t', rfl, h3⟩ := am_o1_inv h2
    obtain ⟨C9, ht⟩ := am_tcd2 (htc.trans h0)
    intro ad H locs cells slots ls S
    obtain ⟨fs, ho, h4⟩ := am_ob_inv h3
    exact am_putf hx hb hts hown hnm hKn S.1 hcl hk hl hmay ho (v := .ref (ad x)) (by rw [ht]; rfl) (by rw [ht]; rfl) hd (fun H1 q hq hob hsz hkp => hK _ _ _ _ h4 ad H1 (locs ++ [q]) cells slots ls (S.mv (S.1.put ho (am_kn_hd S.2.2.2.1) hcl hob hsz hkp) rfl (by rw [hq]; exact (S.1.1 o _ fs ho).2.1) (am_kn_tl (am_kn_tl S.2.2.2.1))))
  · rename_i h0 h1 h9
    have a0 : X.2.2.1 ≠ 0 := h0
    have a1 : X.2.2.1 ≠ 1 := h1
    have a2 : X.2.2.1 ≠ 2 := h9
    have h3c : X.2.2.1 = 3 := by omega
    obtain ⟨a, u, t, rfl, h2⟩ := am_a1_inv hrun
    obtain ⟨o, t', rfl, h3⟩ := am_o1_inv h2
    obtain ⟨C9, ht⟩ := am_tcd3 (htc.trans h3c)
    intro ad H locs cells slots ls S
    obtain ⟨fs, ho, h4⟩ := am_ob_inv h3
    split at h4
    · rename_i u' ty len f hA
      split at h4
      · rename_i hu
        obtain ⟨rfl, ha0⟩ := hu
        split at h4
        · exact am_putf hx hb hts hown hnm hKn S.1 hcl hk hl hmay ho (v := .ref (ad u')) (by rw [ht]; rfl) (by rw [ht]; rfl) hd (fun H1 q hq hob hsz hkp => hK _ _ _ _ h4 ad H1 (locs ++ [q]) cells slots ls (S.mv (S.1.pa0 ho hA hcl hob hsz hkp) rfl (by rw [hq]; exact (S.1.1 o _ fs ho).2.1) (am_kn_tl (am_kn_tl S.2.2.2.1))))
        · rename_i b g hfs
          split at h4
          · cases h4
          · exact am_putf hx hb hts hown hnm hKn S.1 hcl hk hl hmay ho (v := .ref (ad u')) (by rw [ht]; rfl) (by rw [ht]; rfl) hd (fun H1 q hq hob hsz hkp => hK _ _ _ _ h4 ad H1 (locs ++ [q]) cells slots ls (S.mv (S.1.pa1 ho hA ha0 hfs hcl hob hsz hkp) rfl (by rw [hq]; exact (S.1.1 o _ fs ho).2.1) (am_kn_tl (am_kn_tl S.2.2.2.1))))
        · cases h4
      · cases h4
    · cases h4
theorem am_s_arraylength (hx : p.tables.exec = Jvm.exec) (hb : c.code = cc) (hK : ∀ pc lv st h, K pc lv st h = some r → am_WG p l e R s m args below meth c D H0 ad0 n0 cb sb nL Q pc lv st h) (hd : decode cc pc = .ok (.arraylength, 1))
    (hrun : (am_a1 st fun a u t => am_al h a u fun n => K (pc + 1) lv (.inl (.int n) :: t) h) = some r) : am_WG p l e R s m args below meth c D H0 ad0 n0 cb sb nL Q pc lv st h := by
  obtain ⟨a, u, t, rfl, h2⟩ := am_a1_inv hrun
  obtain ⟨ow, ty, len, f, hA, h3⟩ := am_ar_inv h2
  intro ad H locs cells slots ls S
  obtain ⟨-, -, -, cell, c1, c2, c3, c4, c5⟩ := S.1.2.1 a u ow ty len f hA
  exact W.alen hx hb c1 c2 (by rw [c4]) rfl rfl hd (hK _ _ _ _ h3 ad H locs cells slots ls (S.stk (am_kn_cons trivial (am_kn_tl S.2.2.2.1))))
theorem am_s_iaload (hx : p.tables.exec = Jvm.exec) (hb : c.code = cc) (hK : ∀ pc lv st h, K pc lv st h = some r → am_WG p l e R s m args below meth c D H0 ad0 n0 cb sb nL Q pc lv st h) (hd : decode cc pc = .ok (.iaload, 1))
    (hrun : (am_i1 st fun i t => am_a1 t fun a u t => am_ld h a u am_tI i fun x => K (pc + 1) lv (.inl (.int x) :: t) h) = some r) : am_WG p l e R s m args below meth c D H0 ad0 n0 cb sb nL Q pc lv st h := by
  obtain ⟨i, t1, rfl, h1⟩ := am_i1_inv hrun
  obtain ⟨a, u, t, rfl, h2⟩ := am_a1_inv h1
  obtain ⟨ow, ty, len, f, hA, h3⟩ := am_ar_inv h2
  intro ad H locs cells slots ls S
  obtain ⟨-, -, -, cell, c1, c2, c3, c4, c5⟩ := S.1.2.1 a u ow ty len f hA
  split at h3
  · rename_i hT
    obtain ⟨h4, h5⟩ := am_ix_inv h3
    have hlt : i.toNatClampNeg < len := by
      rcases Nat.lt_or_ge i.toNatClampNeg len with h9 | h9
      · exact h9
      · exact absurd (Or.inr h9) h4
    have go := hK _ _ _ _ h5 ad H locs cells slots ls (S.stk (am_kn_cons trivial (am_kn_tl (am_kn_tl S.2.2.2.1))))
    cases ty <;> first
      | exact W.iald hx hb c1 c2 c3 (by rw [c4]; exact h4) (c5.1 _ hlt) rfl rfl hd go
      | (simp [am_tI] at hT; done)
  · cases h3
theorem am_s_saload (hx : p.tables.exec = Jvm.exec) (hb : c.code = cc) (hK : ∀ pc lv st h, K pc lv st h = some r → am_WG p l e R s m args below meth c D H0 ad0 n0 cb sb nL Q pc lv st h) (hd : decode cc pc = .ok (.saload, 1))
    (hrun : (am_i1 st fun i t => am_a1 t fun a u t => am_ld h a u am_tS i fun x => K (pc + 1) lv (.inl (.int x) :: t) h) = some r) : am_WG p l e R s m args below meth c D H0 ad0 n0 cb sb nL Q pc lv st h := by
  obtain ⟨i, t1, rfl, h1⟩ := am_i1_inv hrun
  obtain ⟨a, u, t, rfl, h2⟩ := am_a1_inv h1
  obtain ⟨ow, ty, len, f, hA, h3⟩ := am_ar_inv h2
  intro ad H locs cells slots ls S
  obtain ⟨-, -, -, cell, c1, c2, c3, c4, c5⟩ := S.1.2.1 a u ow ty len f hA
  split at h3
  · rename_i hT
    obtain ⟨h4, h5⟩ := am_ix_inv h3
    have hlt : i.toNatClampNeg < len := by
      rcases Nat.lt_or_ge i.toNatClampNeg len with h9 | h9
      · exact h9
      · exact absurd (Or.inr h9) h4
    have go := hK _ _ _ _ h5 ad H locs cells slots ls (S.stk (am_kn_cons trivial (am_kn_tl (am_kn_tl S.2.2.2.1))))
    cases ty <;> first
      | exact W.sald hx hb c1 c2 c3 (by rw [c4]; exact h4) (c5.1 _ hlt) rfl rfl hd go
      | (simp [am_tS] at hT; done)
  · cases h3
theorem am_s_baload (hx : p.tables.exec = Jvm.exec) (hb : c.code = cc) (hK : ∀ pc lv st h, K pc lv st h = some r → am_WG p l e R s m args below meth c D H0 ad0 n0 cb sb nL Q pc lv st h) (hd : decode cc pc = .ok (.baload, 1))
    (hrun : (am_i1 st fun i t => am_a1 t fun a u t => am_ld h a u am_tB i fun x => K (pc + 1) lv (.inl (.int x) :: t) h) = some r) : am_WG p l e R s m args below meth c D H0 ad0 n0 cb sb nL Q pc lv st h := by
  obtain ⟨i, t1, rfl, h1⟩ := am_i1_inv hrun
  obtain ⟨a, u, t, rfl, h2⟩ := am_a1_inv h1
  obtain ⟨ow, ty, len, f, hA, h3⟩ := am_ar_inv h2
  intro ad H locs cells slots ls S
  obtain ⟨-, -, -, cell, c1, c2, c3, c4, c5⟩ := S.1.2.1 a u ow ty len f hA
  split at h3
  · rename_i hT
    obtain ⟨h4, h5⟩ := am_ix_inv h3
    have hlt : i.toNatClampNeg < len := by
      rcases Nat.lt_or_ge i.toNatClampNeg len with h9 | h9
      · exact h9
      · exact absurd (Or.inr h9) h4
    have go := hK _ _ _ _ h5 ad H locs cells slots ls (S.stk (am_kn_cons trivial (am_kn_tl (am_kn_tl S.2.2.2.1))))
    cases ty <;> first
      | exact W.bald hx hb c1 c2 c3 (by rw [c4]; exact h4) (c5.1 _ hlt) rfl rfl hd go
      | exact W.zald hx hb c1 c2 c3 (by rw [c4]; exact h4) (c5.1 _ hlt) rfl rfl hd go
      | (simp [am_tB] at hT; done)
  · cases h3
theorem am_s_iastore (hx : p.tables.exec = Jvm.exec) (hb : c.code = cc) (hK : ∀ pc lv st h, K pc lv st h = some r → am_WG p l e R s m args below meth c D H0 ad0 n0 cb sb nL Q pc lv st h) (hd : decode cc pc = .ok (.iastore, 1))
    (hrun : (am_i1 st fun x t => am_i1 t fun i t => am_a1 t fun a u t => am_st h a u am_tI i x fun h => K (pc + 1) lv t h) = some r) : am_WG p l e R s m args below meth c D H0 ad0 n0 cb sb nL Q pc lv st h := by
  obtain ⟨x, t2, rfl, h0⟩ := am_i1_inv hrun
  obtain ⟨i, t1, rfl, h1⟩ := am_i1_inv h0
  obtain ⟨a, u, t, rfl, h2⟩ := am_a1_inv h1
  obtain ⟨ow, ty, len, f, hA, h3⟩ := am_ar_inv h2
  intro ad H locs cells slots ls S
  obtain ⟨-, -, c0, cell, c1, c2, c3, c4, c5⟩ := S.1.2.1 a u ow ty len f hA
  split at h3
  · rename_i hT
    obtain ⟨h4, h5⟩ := am_ix_inv h3
    have hlt : i.toNatClampNeg < len := by
      rcases Nat.lt_or_ge i.toNatClampNeg len with h9 | h9
      · exact h9
      · exact absurd (Or.inr h9) h4
    split at h5
    · cases h5
    · rename_i a' 
      have ha0 : a' + 1 ≠ 0 := Nat.succ_ne_zero _
      have hT9 : am_tI ty = true ∨ am_tS ty = true ∨ am_tB ty = true := by first | exact Or.inl hT | exact Or.inr (Or.inl hT) | exact Or.inr (Or.inr hT)
      have go : ∀ H1 : Heap, H1[ad u]? = some (cell.setSlot i.toNatClampNeg (.int (am_nar ty x))) → H1.size = H.size → (∀ q, q ≠ ad u → H1[q]? = H[q]?) → W p l e R s m args below meth c H1 (locs ++ [⟨ad u, i.toNatClampNeg⟩]) cells slots Q (F0 m (pc + 1) ls (t.map (am_cv ad))) :=
        fun H1 e1 e2 e3 => hK _ _ _ _ h5 ad H1 (locs ++ [⟨ad u, i.toNatClampNeg⟩]) cells slots ls (S.mv (S.1.sto hA ha0 (am_nar_fits hT9) hlt c1 e1 e2 e3 c2) rfl (c0 ha0) (am_kn_tl (am_kn_tl (am_kn_tl S.2.2.2.1))))
      cases ty <;> first
        | exact W.iast hx hb c1 c2 c3 (by rw [c4]; exact h4) rfl rfl hd go
        | (simp [am_tI] at hT; done)
  · cases h3
theorem am_s_sastore (hx : p.tables.exec = Jvm.exec) (hb : c.code = cc) (hK : ∀ pc lv st h, K pc lv st h = some r → am_WG p l e R s m args below meth c D H0 ad0 n0 cb sb nL Q pc lv st h) (hd : decode cc pc = .ok (.sastore, 1))
    (hrun : (am_i1 st fun x t => am_i1 t fun i t => am_a1 t fun a u t => am_st h a u am_tS i x fun h => K (pc + 1) lv t h) = some r) : am_WG p l e R s m args below meth c D H0 ad0 n0 cb sb nL Q pc lv st h := by
  obtain ⟨x, t2, rfl, h0⟩ := am_i1_inv hrun
  obtain ⟨i, t1, rfl, h1⟩ := am_i1_inv h0
  obtain ⟨a, u, t, rfl, h2⟩ := am_a1_inv h1
  obtain ⟨ow, ty, len, f, hA, h3⟩ := am_ar_inv h2
  intro ad H locs cells slots ls S
  obtain ⟨-, -, c0, cell, c1, c2, c3, c4, c5⟩ := S.1.2.1 a u ow ty len f hA
  split at h3
  · rename_i hT
    obtain ⟨h4, h5⟩ := am_ix_inv h3
    have hlt : i.toNatClampNeg < len := by
      rcases Nat.lt_or_ge i.toNatClampNeg len with h9 | h9
      · exact h9
      · exact absurd (Or.inr h9) h4
    split at h5
    · cases h5
    · rename_i a' 
      have ha0 : a' + 1 ≠ 0 := Nat.succ_ne_zero _
      have hT9 : am_tI ty = true ∨ am_tS ty = true ∨ am_tB ty = true := by first | exact Or.inl hT | exact Or.inr (Or.inl hT) | exact Or.inr (Or.inr hT)
      have go : ∀ H1 : Heap, H1[ad u]? = some (cell.setSlot i.toNatClampNeg (.int (am_nar ty x))) → H1.size = H.size → (∀ q, q ≠ ad u → H1[q]? = H[q]?) → W p l e R s m args below meth c H1 (locs ++ [⟨ad u, i.toNatClampNeg⟩]) cells slots Q (F0 m (pc + 1) ls (t.map (am_cv ad))) :=
        fun H1 e1 e2 e3 => hK _ _ _ _ h5 ad H1 (locs ++ [⟨ad u, i.toNatClampNeg⟩]) cells slots ls (S.mv (S.1.sto hA ha0 (am_nar_fits hT9) hlt c1 e1 e2 e3 c2) rfl (c0 ha0) (am_kn_tl (am_kn_tl (am_kn_tl S.2.2.2.1))))
      cases ty <;> first
        | exact W.sast hx hb c1 c2 c3 (by rw [c4]; exact h4) rfl rfl hd go
        | (simp [am_tS] at hT; done)
  · cases h3
theorem am_s_bastore (hx : p.tables.exec = Jvm.exec) (hb : c.code = cc) (hK : ∀ pc lv st h, K pc lv st h = some r → am_WG p l e R s m args below meth c D H0 ad0 n0 cb sb nL Q pc lv st h) (hd : decode cc pc = .ok (.bastore, 1))
    (hrun : (am_i1 st fun x t => am_i1 t fun i t => am_a1 t fun a u t => am_st h a u am_tB i x fun h => K (pc + 1) lv t h) = some r) : am_WG p l e R s m args below meth c D H0 ad0 n0 cb sb nL Q pc lv st h := by
  obtain ⟨x, t2, rfl, h0⟩ := am_i1_inv hrun
  obtain ⟨i, t1, rfl, h1⟩ := am_i1_inv h0
  obtain ⟨a, u, t, rfl, h2⟩ := am_a1_inv h1
  obtain ⟨ow, ty, len, f, hA, h3⟩ := am_ar_inv h2
  intro ad H locs cells slots ls S
  obtain ⟨-, -, c0, cell, c1, c2, c3, c4, c5⟩ := S.1.2.1 a u ow ty len f hA
  split at h3
  · rename_i hT
    obtain ⟨h4, h5⟩ := am_ix_inv h3
    have hlt : i.toNatClampNeg < len := by
      rcases Nat.lt_or_ge i.toNatClampNeg len with h9 | h9
      · exact h9
      · exact absurd (Or.inr h9) h4
    split at h5
    · cases h5
    · rename_i a' 
      have ha0 : a' + 1 ≠ 0 := Nat.succ_ne_zero _
      have hT9 : am_tI ty = true ∨ am_tS ty = true ∨ am_tB ty = true := by first | exact Or.inl hT | exact Or.inr (Or.inl hT) | exact Or.inr (Or.inr hT)
      have go : ∀ H1 : Heap, H1[ad u]? = some (cell.setSlot i.toNatClampNeg (.int (am_nar ty x))) → H1.size = H.size → (∀ q, q ≠ ad u → H1[q]? = H[q]?) → W p l e R s m args below meth c H1 (locs ++ [⟨ad u, i.toNatClampNeg⟩]) cells slots Q (F0 m (pc + 1) ls (t.map (am_cv ad))) :=
        fun H1 e1 e2 e3 => hK _ _ _ _ h5 ad H1 (locs ++ [⟨ad u, i.toNatClampNeg⟩]) cells slots ls (S.mv (S.1.sto hA ha0 (am_nar_fits hT9) hlt c1 e1 e2 e3 c2) rfl (c0 ha0) (am_kn_tl (am_kn_tl (am_kn_tl S.2.2.2.1))))
      cases ty <;> first
        | exact W.bast hx hb c1 c2 c3 (by rw [c4]; exact h4) rfl rfl hd go
        | exact W.zast hx hb c1 c2 c3 (by rw [c4]; exact h4) rfl rfl hd go
        | (simp [am_tB] at hT; done)
  · cases h3
theorem am_s_newarray (hx : p.tables.exec = Jvm.exec) (hb : c.code = cc) (hK : ∀ pc lv st h, K pc lv st h = some r → am_WG p l e R s m args below meth c D H0 ad0 n0 cb sb nL Q pc lv st h) (hts : ∀ w ∈ am_tbl, w.before args s = true) (hRc : am_mc ≤ R.cells + cb) (hRs : am_ms ≤ R.slots + sb) {at_ : ArrayType} (hw : Cond.arrayClass (newarray.typeOf at_) ∈ am_tbl) (h0 : defaultValue (newarray.typeOf at_) = .int 0) (hd : decode cc pc = .ok (.newarray at_, 2))
    (hrun : (am_i1 st fun n t => am_nA h (newarray.typeOf at_) n fun a h => K (pc + 2) lv (.inr (a, a) :: t) h) = some r) : am_WG p l e R s m args below meth c D H0 ad0 n0 cb sb nL Q pc lv st h := by
  obtain ⟨n, t, rfl, h1⟩ := am_i1_inv hrun
  unfold am_nA at h1
  split at h1
  · cases h1
  · rename_i hc
    have hn : ¬ n < 0 := fun h9 => hc (Or.inl h9)
    have hN : ¬ 16777216 < n.toNatClampNeg := fun h9 => hc (Or.inr (Or.inl h9))
    have hmc : ¬ am_mc < h.2.2.2.1 + 1 := fun h9 => hc (Or.inr (Or.inr (Or.inl h9)))
    have hms : ¬ am_ms < h.2.2.2.2 + n.toNatClampNeg := fun h9 => hc (Or.inr (Or.inr (Or.inr h9)))
    intro ad H locs cells slots ls S
    have s5 := S.2.2.2.2.2.1
    have s6 := S.2.2.2.2.2.2.1
    have hby : componentBytes (newarray.typeOf at_) ≤ 8 := by cases at_ <;> decide
    have hf0 : fits (newarray.typeOf at_) (.int 0) = true := by cases at_ <;> first | rfl | (cases h0; done)
    refine W.newaK hx hb (hts _ hw) rfl hd rfl hn rfl (Nat.le_trans (Nat.mul_le_mul_left _ hby) (by omega)) (by omega) (by omega) rfl fun H1 cA e1 e2 e3 hof => ?_
    rw [h0] at e1
    have hR := S.1.na e1 e2 e3 hof hf0 hmc hms
    have go := hK _ _ _ _ h1 (am_up ad h.2.2.1 H.size) H1 locs (cells + 1) (slots + n.toNatClampNeg) ls (S.nw hR rfl (am_kn_cons (Nat.lt_succ_self _) (fun v hv => am_kn_mono (am_kn_tl S.2.2.2.1 v hv) (Nat.le_succ _))))
    have e9 : (.inr (h.2.2.1, h.2.2.1) :: t : List am_V).map (am_cv (am_up ad h.2.2.1 H.size)) = .ref H.size :: t.map (am_cv ad) := by
      rw [List.map_cons, am_map_up' S.1.small (am_kn_tl S.2.2.2.1)]
      show Value.ref (am_up ad h.2.2.1 H.size h.2.2.1) :: _ = _
      rw [am_up_eq]
    rw [e9] at go
    exact go
theorem am_s_new (hx : p.tables.exec = Jvm.exec) (hb : c.code = cc) (hK : ∀ pc lv st h, K pc lv st h = some r → am_WG p l e R s m args below meth c D H0 ad0 n0 cb sb nL Q pc lv st h) (hts : ∀ w ∈ am_tbl, w.before args s = true) {own : String} (hown : s.vm.findClass own = some m.cls) (hKn : va_K D am_cl [] s) (hRc : am_mc ≤ R.cells + cb) (hRs : am_ms ≤ R.slots + sb)
    {X : am_X} {i : Nat} {C : String} {T : u_T} {N : Nat} (hcl : am_cl[X.1]? = some (C, T, N)) (hsz : X.2.1 = am_sz X.1) (hl : Cond.classLink own i C ∈ am_tbl) (hd : decode cc pc = .ok (.new i, 3))
    (hrun : (am_nO h X.1 X.2.1 (am_dfl X.1) fun o h => K (pc + 3) lv (.inl (.ref o) :: st) h) = some r) : am_WG p l e R s m args below meth c D H0 ad0 n0 cb sb nL Q pc lv st h := by
  unfold am_nO at hrun
  split at hrun
  · cases hrun
  · rename_i hc
    have hmc : ¬ am_mc < h.2.2.2.1 + 1 := fun h9 => hc (Or.inl h9)
    have hms : ¬ am_ms < h.2.2.2.2 + X.2.1 := fun h9 => hc (Or.inr h9)
    intro ad H locs cells slots ls S
    have s5 := S.2.2.2.2.2.1
    have s6 := S.2.2.2.2.2.2.1
    obtain ⟨hin, hnn, hty, hins, hini⟩ := am_cls hcl
    rw [← hsz] at hins
    have hKc := hKn.1 X.1 _ hcl
    refine W.newcK hx hb hown (hts _ hl) (hts _ hins) (hts _ hini) rfl hd (by omega) (by omega) hKc.2.1 rfl fun H1 kC hkC e1 e2 e3 => ?_
    have hob := u_born (am_ty X.1) hts hin hKc hkC e1 hty
    have hR := S.1.no (N := X.2.1) hcl hob e2 e3 hmc hms
    have go := hK _ _ _ _ hrun (am_up ad h.2.2.1 H.size) H1 locs (cells + 1) (slots + X.2.1) ls (S.nw hR rfl (am_kn_cons (Or.inl (Nat.lt_succ_self _)) (fun v hv => am_kn_mono (S.2.2.2.1 v hv) (Nat.le_succ _))))
    have e9 : (.inl (.ref h.2.2.1) :: st : List am_V).map (am_cv (am_up ad h.2.2.1 H.size)) = .ref H.size :: st.map (am_cv ad) := by
      rw [List.map_cons, am_map_up' S.1.small S.2.2.2.1]
      show Value.ref (am_up ad h.2.2.1 H.size h.2.2.1) :: _ = _
      rw [am_up_eq]
    rw [e9] at go
    exact go
end
