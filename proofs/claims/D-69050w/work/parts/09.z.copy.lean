/-! System.arraycopy -/
theorem am_words_map (ad : Nat → Nat) (st : List am_V) : ((st.map (am_cv ad)).map fun v => v.category).sum = am_words st := by
  induction st with
  | nil => rfl
  | cons v t ih => simp only [List.map_cons, List.sum_cons, ih, am_cat_cv]; rfl
theorem am_sp_congr (at_ : Nat) : ∀ (vs : List (Value × Nat)) (c c' : Cell), c.slots = c'.slots → (c.storePairs at_ vs).slots = (c'.storePairs at_ vs).slots := by
  intro vs
  induction vs with
  | nil => intro c c' h; exact h
  | cons q t ih =>
    intro c c' h
    exact ih (c.setSlot (at_ + q.2) q.1) (c'.setSlot (at_ + q.2) q.1) (by simp [Cell.setSlot, h])
theorem am_cells_eq {cell : Cell} {len : Nat} {f : Nat → Int32} (cA : ClassId) (h1 : cell.slots.size = len) (h2 : ∀ j : Nat, j < len → cell.slots[j]? = some (.int (f j))) : cell.slots = (arrV cA len (fun j => .int (f j))).slots := by
  apply Array.ext
  · rw [h1, arrV_size]
  · intro i hi hj
    have h3 := h2 i (by omega)
    have h4 := arrV_read cA (N := len) (fun j => .int (f j)) (j := i) (by omega)
    rw [Array.getElem?_eq_getElem hi] at h3
    rw [Array.getElem?_eq_getElem hj] at h4
    exact (Option.some.inj h3).trans (Option.some.inj h4).symm
theorem am_cp_cell {cs cd : Cell} {n0 n1 sp dp n : Nat} {f g : Nat → Int32} (h1 : ∀ j : Nat, j < n0 → cs.slots[j]? = some (.int (f j))) (h2 : cd.slots.size = n1) (h3 : ∀ j : Nat, j < n1 → cd.slots[j]? = some (.int (g j))) (hs : sp + n ≤ n0) :
    ∀ j : Nat, j < n1 → (cd.storeRun dp (cs.stretch sp n)).slots[j]? = some (.int (va_cpy f g sp dp n j)) := by
  intro j hj
  have e1 : (cd.storeRun dp (cs.stretch sp n)).slots = (arrV 0 n1 (fun j => .int (va_cpy f g sp dp n j))).slots := by
    rw [← va_copiedX (fun z => Value.int z) cs 0 f g h1 hs]
    exact am_sp_congr dp _ _ _ (am_cells_eq 0 h2 h3)
  rw [e1]
  exact arrV_read _ _ hj
theorem am_teq_eq {a b : FieldType} (h : am_teq a b = true) : a = b ∧ refKind a = false := by
  cases a <;> cases b <;> first | exact ⟨rfl, rfl⟩ | cases h
section
variable {p : Program} {l : Launch} {e : Env} {R : Room} {s : State} {m : MethodId} {args : Array Value} {below : List Frame} {meth : Method} {c : Code} {D : va_G} {H0 : Heap} {ad0 : Nat → Nat} {n0 cb sb nL : Nat} {Q : State → Prop} {cc : ByteArray} {pc : Nat} {lv : List (Nat × am_V)} {st : List am_V} {h : am_H} {K : Nat → List (Nat × am_V) → List am_V → am_H → am_R} {r : am_O × am_H}
theorem am_s_copy (hx : p.tables.exec = Jvm.exec) (hb : c.code = cc) (hml : c.maxLocals = nL) (hK : ∀ pc lv st h, K pc lv st h = some r → am_WG p l e R s m args below meth c D H0 ad0 n0 cb sb nL Q pc lv st h) (hts : ∀ w ∈ am_tbl, w.before args s = true) {own : String} (hown : s.vm.findClass own = some m.cls) {i : Nat} (hl : Cond.methodLink own i arraycopyName ∈ am_tbl)
    (hnat : Cond.native arraycopyName ∈ am_tbl ∧ Cond.static arraycopyName ∈ am_tbl ∧ Cond.initialized "java/lang/System" ∈ am_tbl) (hfr : 1 ≤ R.frames) (hlo : 64 ≤ R.locals) (hd : decode cc pc = .ok (.invokestatic i, 3))
    (hrun : (am_i1 st fun n t => am_i1 t fun dp t => am_a1 t fun b v t => am_i1 t fun sp t => am_a1 t fun a u t => (match Nat.ble (am_words t) 8 with
        | true => am_cp h a u sp b v dp n fun h => K (pc + 3) lv t h
        | false => none)) = some r) : am_WG p l e R s m args below meth c D H0 ad0 n0 cb sb nL Q pc lv st h := by
  obtain ⟨n, t1, rfl, h1⟩ := am_i1_inv hrun
  obtain ⟨dp, t2, rfl, h2⟩ := am_i1_inv h1
  obtain ⟨b, v, t3, rfl, h3⟩ := am_a1_inv h2
  obtain ⟨sp, t4, rfl, h4⟩ := am_i1_inv h3
  obtain ⟨a, u, t, rfl, h5⟩ := am_a1_inv h4
  split at h5
  · rename_i hwd
    have hwd := Nat.le_of_ble_eq_true hwd
    obtain ⟨ow1, ty, len, f, hA, h6⟩ := am_ar_inv h5
    obtain ⟨ow, ty', len', g, hB, h7⟩ := am_ar_inv h6
    split at h7
    · rename_i hc
      obtain ⟨ht, hb0, c1, c2, c3, c4, c5⟩ := hc
      obtain ⟨rfl, hrk⟩ := am_teq_eq ht
      intro ad H locs cells slots ls S T hT X
      obtain ⟨-, -, -, cs, s1, s2, s3, s4, s5, s6⟩ := S.1.2.1 a u ow1 ty len f hA
      obtain ⟨-, v1, v2, cd, d1, d2, d3, d4, d5, d6⟩ := S.1.2.1 b v ow ty len' g hB
      obtain ⟨so, ks, hks, sc, hsk⟩ := s2
      obtain ⟨do_, kd, hkd, dc, hdk⟩ := d2
      have nn : ∀ z : Int32, ¬ z < 0 → z.toInt = (z.toNatClampNeg : Int) := by
        intro z hz
        have hz0 : (0 : Int) ≤ z.toInt := by
          have := Int32.not_lt.mp hz
          simpa using Int32.le_iff_toInt_le.mp this
        show z.toInt = ((z.toInt.toNat : Nat) : Int)
        omega
      subst hb
      have hls : ls.size = c.maxLocals := by rw [hml]; exact S.2.1.1
      have hnw : nativeFrameWords "java/lang/System" "arraycopy" 5 ≤ 40 := by decide +kernel
      obtain ⟨vm', X', step⟩ := X.arraycopy hx hown (hts _ hl) (hts _ hnat.1) (hts _ hnat.2.1) (hts _ hnat.2.2) (src := ad u) (dst := ad v) (cs := cs) (cd := cd) (srcPos := sp) (destPos := dp) (n := n) (by rw [hT]; exact s1) (by rw [hT]; exact d1)
        so do_ s3 d3 hks hkd hsk hdk (by simp [hrk]) c1 c2 c3 (by rw [nn sp c1, nn n c3, s4]; omega) (by rw [nn dp c2, nn n c3, d4]; omega)
        (fun vm₁ _ i hi => by
          have e9 : cs.slots.getD (sp.toNatClampNeg + i) .null = .int (f (sp.toNatClampNeg + i)) := by
            rw [Array.getD_eq_getD_getElem?, s5 _ (by omega)]; rfl
          rw [e9]
          exact ⟨s6 _, trivial⟩)
        (g := F0 m pc ls (.int n :: .int dp :: .ref (ad v) :: .int sp :: .ref (ad u) :: t.map (am_cv ad))) rfl hls (rest := t.map (am_cv ad)) rfl hd hfr (by
          rw [show ((t.map (am_cv ad)).map fun v => v.category).sum = am_words t from am_words_map ad t]
          show 2 * 0 + _ + _ ≤ _
          omega)
      have hl9 : ad v < H.size := (Array.getElem?_eq_some_iff.mp d1).1
      have hheap : ((T.setVm vm').setCell (ad v) (copied cs cd sp dp n)).heap = H.setIfInBounds (ad v) (copied cs cd sp dp n) := by rw [← hT]; rfl
      have hfacts := Cell.storePairs_facts cd dp.toNatClampNeg ((cs.stretch sp.toNatClampNeg n.toNatClampNeg).zipIdx)
      have hR := S.1.cpy (H1 := H.setIfInBounds (ad v) (copied cs cd sp dp n)) hB hb0 (f := va_cpy f g sp.toNatClampNeg dp.toNatClampNeg n.toNatClampNeg) (fun j => by
          unfold va_cpy
          split
          · exact s6 _
          · exact d6 _) (cell := copied cs cd sp dp n) (by simp [Array.getElem?_setIfInBounds, hl9]) ⟨fun k h9 => do_ k (by rw [← h9]; exact hfacts.2.1.symm), kd, by rw [← hkd]; exact congrArg (fun z => s.vm.classes[z]?) hfacts.1, dc, hdk⟩ (fun h9 => d3 (by rw [← h9]; exact hfacts.2.1.symm)) (hfacts.2.2.1.trans d4) (am_cp_cell s5 d4 d5 c4) (by simp) (fun q hq => by simp [Array.getElem?_setIfInBounds, Ne.symm hq])
      have S' : am_St D H0 ad0 n0 cb sb nL s ad (H.setIfInBounds (ad v) (copied cs cd sp dp n)) (locs ++ (cs.stretch sp.toNatClampNeg n.toNatClampNeg).zipIdx.map fun q => ⟨ad v, dp.toNatClampNeg + q.2⟩) cells slots ls (am_sA h b (some (v, ow, ty, len', va_cpy f g sp.toNatClampNeg dp.toNatClampNeg n.toNatClampNeg))) lv t := by
        refine ⟨hR, S.2.1, S.2.2.1, ?_, ?_, S.2.2.2.2.2⟩
        · intro w hw
          exact S.2.2.2.1 w (by simp [hw])
        · intro q hq
          rcases List.mem_append.mp hq with h9 | h9
          · exact S.2.2.2.2.1 q h9
          · obtain ⟨z, -, hz⟩ := List.mem_map.mp h9
            rw [← hz]; exact v2 hb0
      obtain ⟨t9, a1, b1⟩ := hK _ _ _ _ h7 ad _ _ cells slots ls S' _ hheap X'
      exact ⟨t9, step t9 a1, b1⟩
    · cases h7
  · cases h5
end
