/-! A FRAME: the abstract one and the machine's. -/
def am_St (D : va_G) (H0 : Heap) (ad0 : Nat → Nat) (n0 cb sb nL : Nat) (s : State) (ad : Nat → Nat) (H : Heap) (locs : List Loc) (cells slots : Nat) (ls : Array Slot) (h : am_H) (lv : List (Nat × am_V)) (st : List am_V) : Prop :=
  am_HR D H0 ad h s H ∧ lv_has ls nL (lv.map fun q => (q.1, am_cv ad q.2)) ∧ (∀ q ∈ lv, am_kn h.2.2.1 q.2) ∧ (∀ v ∈ st, am_kn h.2.2.1 v) ∧ (∀ q ∈ locs, H0.size ≤ q.base) ∧ cells + cb = h.2.2.2.1 ∧ slots + sb = h.2.2.2.2 ∧ n0 ≤ h.2.2.1 ∧ ∀ i, i < n0 ∨ 1000000 ≤ i → ad i = ad0 i
def am_WG (p : Program) (l : Launch) (e : Env) (R : Room) (s : State) (m : MethodId) (args : Array Value) (below : List Frame) (meth : Method) (c : Code) (D : va_G) (H0 : Heap) (ad0 : Nat → Nat) (n0 cb sb nL : Nat) (Q : State → Prop) (pc : Nat) (lv : List (Nat × am_V)) (st : List am_V) (h : am_H) : Prop :=
  ∀ ad H locs cells slots ls, am_St D H0 ad0 n0 cb sb nL s ad H locs cells slots ls h lv st → W p l e R s m args below meth c H locs cells slots Q (F0 m pc ls (st.map (am_cv ad)))
theorem am_i1_inv {st : List am_V} {k : Int32 → List am_V → am_R} {r : am_O × am_H} (h : am_i1 st k = some r) : ∃ x t, st = .inl (.int x) :: t ∧ k x t = some r := by
  unfold am_i1 at h
  split at h
  · exact ⟨_, _, rfl, h⟩
  · cases h
theorem am_l1_inv {st : List am_V} {k : Int64 → List am_V → am_R} {r : am_O × am_H} (h : am_l1 st k = some r) : ∃ x t, st = .inl (.long x) :: t ∧ k x t = some r := by
  unfold am_l1 at h
  split at h
  · exact ⟨_, _, rfl, h⟩
  · cases h
theorem am_o1_inv {st : List am_V} {k : Nat → List am_V → am_R} {r : am_O × am_H} (h : am_o1 st k = some r) : ∃ x t, st = .inl (.ref x) :: t ∧ k x t = some r := by
  unfold am_o1 at h
  split at h
  · exact ⟨_, _, rfl, h⟩
  · cases h
theorem am_a1_inv {st : List am_V} {k : Nat → Nat → List am_V → am_R} {r : am_O × am_H} (h : am_a1 st k = some r) : ∃ a u t, st = .inr (a, u) :: t ∧ k a u t = some r := by
  unfold am_a1 at h
  split at h
  · exact ⟨_, _, _, rfl, h⟩
  · cases h
theorem am_lk_mem {lv : List (Nat × am_V)} {i : Nat} {v : am_V} (h : am_lk lv i = some v) : (i, v) ∈ lv := by
  induction lv with
  | nil => cases h
  | cons q t ih =>
    obtain ⟨j, w⟩ := q
    unfold am_lk at h
    split at h
    · rename_i e
      have e2 := Nat.eq_of_beq_eq_true e
      subst e2
      cases h
      exact List.mem_cons_self
    · exact List.mem_cons_of_mem _ (ih h)
theorem am_map_filter {ad : Nat → Nat} {lv : List (Nat × am_V)} {f : Nat × am_V → Bool} {g : Nat × Value → Bool} (h : ∀ q, f q = g (q.1, am_cv ad q.2)) : (lv.filter f).map (fun q => (q.1, am_cv ad q.2)) = (lv.map fun q => (q.1, am_cv ad q.2)).filter g := by
  induction lv with
  | nil => rfl
  | cons q t ih =>
    rw [List.map_cons, List.filter_cons, List.filter_cons, ← h q]
    split
    · rw [List.map_cons, ih]
    · exact ih
theorem am_set1_map (ad : Nat → Nat) (lv : List (Nat × am_V)) (i : Nat) (v : am_V) : (i, am_cv ad v) :: (lv.map fun q => (q.1, am_cv ad q.2)).filter (fun q => !(q.1 == i) && !(q.1 + 1 == i && q.2.category == 2)) = (am_set1 lv i v).map (fun q => (q.1, am_cv ad q.2)) := by
  show _ = (i, am_cv ad v) :: (lv.filter _).map _
  rw [am_map_filter (ad := ad) (g := fun q => !(q.1 == i) && !(q.1 + 1 == i && q.2.category == 2)) (fun q => by simp only [am_cat_cv])]
theorem am_set2_map (ad : Nat → Nat) (lv : List (Nat × am_V)) (i : Nat) (v : am_V) : (i, am_cv ad v) :: (lv.map fun q => (q.1, am_cv ad q.2)).filter (fun q => !(q.1 == i) && (!(q.1 == i + 1) && !(q.1 + 1 == i && q.2.category == 2))) = (am_set2 lv i v).map (fun q => (q.1, am_cv ad q.2)) := by
  show _ = (i, am_cv ad v) :: (lv.filter _).map _
  rw [am_map_filter (ad := ad) (g := fun q => !(q.1 == i) && (!(q.1 == i + 1) && !(q.1 + 1 == i && q.2.category == 2))) (fun q => by simp only [am_cat_cv])]
theorem am_set1_kn {n i : Nat} {lv : List (Nat × am_V)} {v : am_V} (h : ∀ q ∈ lv, am_kn n q.2) (hv : am_kn n v) : ∀ q ∈ am_set1 lv i v, am_kn n q.2 := by
  intro q hq
  rcases List.mem_cons.mp hq with rfl | hq
  · exact hv
  · exact h q (List.mem_filter.mp hq).1
theorem am_set2_kn {n i : Nat} {lv : List (Nat × am_V)} {v : am_V} (h : ∀ q ∈ lv, am_kn n q.2) (hv : am_kn n v) : ∀ q ∈ am_set2 lv i v, am_kn n q.2 := by
  intro q hq
  rcases List.mem_cons.mp hq with rfl | hq
  · exact hv
  · exact h q (List.mem_filter.mp hq).1
theorem am_go_inv {pc : Nat} {off : Int} {K : Nat → am_R} {r : am_O × am_H} (h : am_go pc off K = some r) : ∃ t : Nat, (pc : Int) + off = (t : Int) ∧ K t = some r := by
  unfold am_go at h
  split at h
  · rename_i t e; exact ⟨t, e, h⟩
  · cases h
section
variable {D : va_G} {H0 : Heap} {ad0 : Nat → Nat} {n0 cb sb nL : Nat} {s : State} {ad : Nat → Nat} {H : Heap} {locs : List Loc} {cells slots : Nat} {ls : Array Slot} {h : am_H} {lv : List (Nat × am_V)} {st st' : List am_V}
theorem am_St.stk (S : am_St D H0 ad0 n0 cb sb nL s ad H locs cells slots ls h lv st) (h' : ∀ v ∈ st', am_kn h.2.2.1 v) : am_St D H0 ad0 n0 cb sb nL s ad H locs cells slots ls h lv st' :=
  ⟨S.1, S.2.1, S.2.2.1, h', S.2.2.2.2⟩
theorem am_St.at_ (S : am_St D H0 ad0 n0 cb sb nL s ad H locs cells slots ls h lv st) {i : Nat} {v : am_V} (hv : am_lk lv i = some v) : ls[i]? = some (.val (am_cv ad v)) ∧ am_kn h.2.2.1 v :=
  ⟨S.2.1.2.2 (i, am_cv ad v) (List.mem_map.mpr ⟨(i, v), am_lk_mem hv, rfl⟩), S.2.2.1 _ (am_lk_mem hv)⟩
theorem am_St.loc1 (S : am_St D H0 ad0 n0 cb sb nL s ad H locs cells slots ls h lv st) {ls' : Array Slot} {i : Nat} {v : am_V} (h1 : lv_has ls' nL ((am_set1 lv i v).map fun q => (q.1, am_cv ad q.2))) (hv : am_kn h.2.2.1 v) (h' : ∀ v ∈ st', am_kn h.2.2.1 v) : am_St D H0 ad0 n0 cb sb nL s ad H locs cells slots ls' h (am_set1 lv i v) st' :=
  ⟨S.1, h1, am_set1_kn S.2.2.1 hv, h', S.2.2.2.2⟩
theorem am_St.loc2 (S : am_St D H0 ad0 n0 cb sb nL s ad H locs cells slots ls h lv st) {ls' : Array Slot} {i : Nat} {v : am_V} (h1 : lv_has ls' nL ((am_set2 lv i v).map fun q => (q.1, am_cv ad q.2))) (hv : am_kn h.2.2.1 v) (h' : ∀ v ∈ st', am_kn h.2.2.1 v) : am_St D H0 ad0 n0 cb sb nL s ad H locs cells slots ls' h (am_set2 lv i v) st' :=
  ⟨S.1, h1, am_set2_kn S.2.2.1 hv, h', S.2.2.2.2⟩
end
theorem am_kn_cons {n : Nat} {v : am_V} {st : List am_V} (hv : am_kn n v) (h : ∀ w ∈ st, am_kn n w) : ∀ w ∈ v :: st, am_kn n w := List.forall_mem_cons.mpr ⟨hv, h⟩
theorem am_kn_tl {n : Nat} {v : am_V} {st : List am_V} (h : ∀ w ∈ v :: st, am_kn n w) : ∀ w ∈ st, am_kn n w := (List.forall_mem_cons.mp h).2
theorem am_kn_hd {n : Nat} {v : am_V} {st : List am_V} (h : ∀ w ∈ v :: st, am_kn n w) : am_kn n v := (List.forall_mem_cons.mp h).1
section
variable {p : Program} {l : Launch} {e : Env} {R : Room} {s : State} {m : MethodId} {args : Array Value} {below : List Frame} {meth : Method} {c : Code} {D : va_G} {H0 : Heap} {ad0 : Nat → Nat} {n0 cb sb nL : Nat} {Q : State → Prop} {cc : ByteArray} {pc : Nat} {lv : List (Nat × am_V)} {st : List am_V} {h : am_H} {K : Nat → List (Nat × am_V) → List am_V → am_H → am_R} {r : am_O × am_H}
theorem am_s_iconst (hx : p.tables.exec = Jvm.exec) (hb : c.code = cc) (hK : ∀ pc lv st h, K pc lv st h = some r → am_WG p l e R s m args below meth c D H0 ad0 n0 cb sb nL Q pc lv st h) {n : Int} (hd : decode cc pc = .ok (.iconst n, 1)) (hrun : (K (pc + 1) lv (.inl (.int (Int32.ofInt n)) :: st) h) = some r) : am_WG p l e R s m args below meth c D H0 ad0 n0 cb sb nL Q pc lv st h := by
  intro ad H locs cells slots ls S
  exact lv_iconst hx hb hd rfl (hK _ _ _ _ hrun ad H locs cells slots ls (S.stk (am_kn_cons trivial S.2.2.2.1)))
theorem am_s_bipush (hx : p.tables.exec = Jvm.exec) (hb : c.code = cc) (hK : ∀ pc lv st h, K pc lv st h = some r → am_WG p l e R s m args below meth c D H0 ad0 n0 cb sb nL Q pc lv st h) {n : Int} (hd : decode cc pc = .ok (.bipush n, 2)) (hrun : (K (pc + 2) lv (.inl (.int ((Int8.ofInt n).toInt32)) :: st) h) = some r) : am_WG p l e R s m args below meth c D H0 ad0 n0 cb sb nL Q pc lv st h := by
  intro ad H locs cells slots ls S
  exact lv_bipush hx hb hd rfl (hK _ _ _ _ hrun ad H locs cells slots ls (S.stk (am_kn_cons trivial S.2.2.2.1)))
theorem am_s_sipush (hx : p.tables.exec = Jvm.exec) (hb : c.code = cc) (hK : ∀ pc lv st h, K pc lv st h = some r → am_WG p l e R s m args below meth c D H0 ad0 n0 cb sb nL Q pc lv st h) {n : Int} (hd : decode cc pc = .ok (.sipush n, 3)) (hrun : (K (pc + 3) lv (.inl (.int ((Int16.ofInt n).toInt32)) :: st) h) = some r) : am_WG p l e R s m args below meth c D H0 ad0 n0 cb sb nL Q pc lv st h := by
  intro ad H locs cells slots ls S
  exact lv_sipush hx hb hd rfl (hK _ _ _ _ hrun ad H locs cells slots ls (S.stk (am_kn_cons trivial S.2.2.2.1)))
theorem am_s_lconst (hx : p.tables.exec = Jvm.exec) (hb : c.code = cc) (hK : ∀ pc lv st h, K pc lv st h = some r → am_WG p l e R s m args below meth c D H0 ad0 n0 cb sb nL Q pc lv st h) {n : Fin 2} (hd : decode cc pc = .ok (.lconst n, 1)) (hrun : (K (pc + 1) lv (.inl (.long (Int64.ofNat (n : Nat))) :: st) h) = some r) : am_WG p l e R s m args below meth c D H0 ad0 n0 cb sb nL Q pc lv st h := by
  intro ad H locs cells slots ls S
  exact lv_lconst hx hb hd rfl (hK _ _ _ _ hrun ad H locs cells slots ls (S.stk (am_kn_cons trivial S.2.2.2.1)))
theorem am_s_iload_n (hx : p.tables.exec = Jvm.exec) (hb : c.code = cc) (hK : ∀ pc lv st h, K pc lv st h = some r → am_WG p l e R s m args below meth c D H0 ad0 n0 cb sb nL Q pc lv st h) {k : Fin 4} (hd : decode cc pc = .ok (.iload_n k, 1)) (hrun : (match am_lk lv k with
      | some (.inl (.int x)) => K (pc + 1) lv (.inl (.int x) :: st) h
      | _ => none) = some r) : am_WG p l e R s m args below meth c D H0 ad0 n0 cb sb nL Q pc lv st h := by
  intro ad H locs cells slots ls S
  split at hrun
  · rename_i x hv
    exact lv_iload_n hx hb hd rfl (S.at_ hv).1 (hK _ _ _ _ hrun ad H locs cells slots ls (S.stk (am_kn_cons trivial S.2.2.2.1)))
  · cases hrun
theorem am_s_iload (hx : p.tables.exec = Jvm.exec) (hb : c.code = cc) (hK : ∀ pc lv st h, K pc lv st h = some r → am_WG p l e R s m args below meth c D H0 ad0 n0 cb sb nL Q pc lv st h) {k : Nat} (hd : decode cc pc = .ok (.iload k, 2)) (hrun : (match am_lk lv k with
      | some (.inl (.int x)) => K (pc + 2) lv (.inl (.int x) :: st) h
      | _ => none) = some r) : am_WG p l e R s m args below meth c D H0 ad0 n0 cb sb nL Q pc lv st h := by
  intro ad H locs cells slots ls S
  split at hrun
  · rename_i x hv
    exact lv_iload hx hb hd (S.at_ hv).1 (hK _ _ _ _ hrun ad H locs cells slots ls (S.stk (am_kn_cons trivial S.2.2.2.1)))
  · cases hrun
theorem am_s_lload_n (hx : p.tables.exec = Jvm.exec) (hb : c.code = cc) (hK : ∀ pc lv st h, K pc lv st h = some r → am_WG p l e R s m args below meth c D H0 ad0 n0 cb sb nL Q pc lv st h) {k : Fin 4} (hd : decode cc pc = .ok (.lload_n k, 1)) (hrun : (match am_lk lv k with
      | some (.inl (.long x)) => K (pc + 1) lv (.inl (.long x) :: st) h
      | _ => none) = some r) : am_WG p l e R s m args below meth c D H0 ad0 n0 cb sb nL Q pc lv st h := by
  intro ad H locs cells slots ls S
  split at hrun
  · rename_i x hv
    exact lv_lload_n hx hb hd rfl (S.at_ hv).1 (hK _ _ _ _ hrun ad H locs cells slots ls (S.stk (am_kn_cons trivial S.2.2.2.1)))
  · cases hrun
theorem am_s_lload (hx : p.tables.exec = Jvm.exec) (hb : c.code = cc) (hK : ∀ pc lv st h, K pc lv st h = some r → am_WG p l e R s m args below meth c D H0 ad0 n0 cb sb nL Q pc lv st h) {k : Nat} (hd : decode cc pc = .ok (.lload k, 2)) (hrun : (match am_lk lv k with
      | some (.inl (.long x)) => K (pc + 2) lv (.inl (.long x) :: st) h
      | _ => none) = some r) : am_WG p l e R s m args below meth c D H0 ad0 n0 cb sb nL Q pc lv st h := by
  intro ad H locs cells slots ls S
  split at hrun
  · rename_i x hv
    exact lv_lload hx hb hd (S.at_ hv).1 (hK _ _ _ _ hrun ad H locs cells slots ls (S.stk (am_kn_cons trivial S.2.2.2.1)))
  · cases hrun
theorem am_s_aload_n (hx : p.tables.exec = Jvm.exec) (hb : c.code = cc) (hK : ∀ pc lv st h, K pc lv st h = some r → am_WG p l e R s m args below meth c D H0 ad0 n0 cb sb nL Q pc lv st h) {k : Fin 4} (hd : decode cc pc = .ok (.aload_n k, 1)) (hrun : (match am_lk lv k with
      | some (.inl (.ref x)) => K (pc + 1) lv (.inl (.ref x) :: st) h
      | some (.inr x) => K (pc + 1) lv (.inr x :: st) h
      | _ => none) = some r) : am_WG p l e R s m args below meth c D H0 ad0 n0 cb sb nL Q pc lv st h := by
  intro ad H locs cells slots ls S
  split at hrun
  · rename_i x hv
    exact lv_aload_n hx hb hd rfl (S.at_ hv).1 (hK _ _ _ _ hrun ad H locs cells slots ls (S.stk (am_kn_cons (S.at_ hv).2 S.2.2.2.1)))
  · rename_i x hv
    exact lv_aload_n hx hb hd rfl (S.at_ hv).1 (hK _ _ _ _ hrun ad H locs cells slots ls (S.stk (am_kn_cons (S.at_ hv).2 S.2.2.2.1)))
  · cases hrun
theorem am_s_aload (hx : p.tables.exec = Jvm.exec) (hb : c.code = cc) (hK : ∀ pc lv st h, K pc lv st h = some r → am_WG p l e R s m args below meth c D H0 ad0 n0 cb sb nL Q pc lv st h) {k : Nat} (hd : decode cc pc = .ok (.aload k, 2)) (hrun : (match am_lk lv k with
      | some (.inl (.ref x)) => K (pc + 2) lv (.inl (.ref x) :: st) h
      | some (.inr x) => K (pc + 2) lv (.inr x :: st) h
      | _ => none) = some r) : am_WG p l e R s m args below meth c D H0 ad0 n0 cb sb nL Q pc lv st h := by
  intro ad H locs cells slots ls S
  split at hrun
  · rename_i x hv
    exact lv_aload hx hb hd (S.at_ hv).1 (hK _ _ _ _ hrun ad H locs cells slots ls (S.stk (am_kn_cons (S.at_ hv).2 S.2.2.2.1)))
  · rename_i x hv
    exact lv_aload hx hb hd (S.at_ hv).1 (hK _ _ _ _ hrun ad H locs cells slots ls (S.stk (am_kn_cons (S.at_ hv).2 S.2.2.2.1)))
  · cases hrun
theorem am_s_istore_n (hx : p.tables.exec = Jvm.exec) (hb : c.code = cc) (hK : ∀ pc lv st h, K pc lv st h = some r → am_WG p l e R s m args below meth c D H0 ad0 n0 cb sb nL Q pc lv st h) {k : Fin 4} (hn : (k : Nat) < nL) (hd : decode cc pc = .ok (.istore_n k, 1)) (hrun : (am_i1 st fun x t => K (pc + 1) (am_set1 lv k (.inl (.int x))) t h) = some r) : am_WG p l e R s m args below meth c D H0 ad0 n0 cb sb nL Q pc lv st h := by
  obtain ⟨x, t, rfl, hrun⟩ := am_i1_inv hrun
  intro ad H locs cells slots ls S
  exact lv_istore_n hx hb hd rfl S.2.1 hn (am_set1_map ad lv k (.inl (.int x))) (fun ls' hl => hK _ _ _ _ hrun ad H locs cells slots ls' (S.loc1 hl trivial (am_kn_tl S.2.2.2.1)))
theorem am_s_istore (hx : p.tables.exec = Jvm.exec) (hb : c.code = cc) (hK : ∀ pc lv st h, K pc lv st h = some r → am_WG p l e R s m args below meth c D H0 ad0 n0 cb sb nL Q pc lv st h) {k : Nat} (hn : k < nL) (hd : decode cc pc = .ok (.istore k, 2)) (hrun : (am_i1 st fun x t => K (pc + 2) (am_set1 lv k (.inl (.int x))) t h) = some r) : am_WG p l e R s m args below meth c D H0 ad0 n0 cb sb nL Q pc lv st h := by
  obtain ⟨x, t, rfl, hrun⟩ := am_i1_inv hrun
  intro ad H locs cells slots ls S
  exact lv_istore hx hb hd S.2.1 hn (am_set1_map ad lv k (.inl (.int x))) (fun ls' hl => hK _ _ _ _ hrun ad H locs cells slots ls' (S.loc1 hl trivial (am_kn_tl S.2.2.2.1)))
theorem am_s_lstore_n (hx : p.tables.exec = Jvm.exec) (hb : c.code = cc) (hK : ∀ pc lv st h, K pc lv st h = some r → am_WG p l e R s m args below meth c D H0 ad0 n0 cb sb nL Q pc lv st h) {k : Fin 4} (hn : (k : Nat) + 1 < nL) (hd : decode cc pc = .ok (.lstore_n k, 1)) (hrun : (am_l1 st fun x t => K (pc + 1) (am_set2 lv k (.inl (.long x))) t h) = some r) : am_WG p l e R s m args below meth c D H0 ad0 n0 cb sb nL Q pc lv st h := by
  obtain ⟨x, t, rfl, hrun⟩ := am_l1_inv hrun
  intro ad H locs cells slots ls S
  exact lv_lstore_n hx hb hd rfl S.2.1 hn (am_set2_map ad lv k (.inl (.long x))) (fun ls' hl => hK _ _ _ _ hrun ad H locs cells slots ls' (S.loc2 hl trivial (am_kn_tl S.2.2.2.1)))
theorem am_s_lstore (hx : p.tables.exec = Jvm.exec) (hb : c.code = cc) (hK : ∀ pc lv st h, K pc lv st h = some r → am_WG p l e R s m args below meth c D H0 ad0 n0 cb sb nL Q pc lv st h) {k : Nat} (hn : k + 1 < nL) (hd : decode cc pc = .ok (.lstore k, 2)) (hrun : (am_l1 st fun x t => K (pc + 2) (am_set2 lv k (.inl (.long x))) t h) = some r) : am_WG p l e R s m args below meth c D H0 ad0 n0 cb sb nL Q pc lv st h := by
  obtain ⟨x, t, rfl, hrun⟩ := am_l1_inv hrun
  intro ad H locs cells slots ls S
  exact lv_lstore hx hb hd S.2.1 hn (am_set2_map ad lv k (.inl (.long x))) (fun ls' hl => hK _ _ _ _ hrun ad H locs cells slots ls' (S.loc2 hl trivial (am_kn_tl S.2.2.2.1)))
theorem am_s_astore_n (hx : p.tables.exec = Jvm.exec) (hb : c.code = cc) (hK : ∀ pc lv st h, K pc lv st h = some r → am_WG p l e R s m args below meth c D H0 ad0 n0 cb sb nL Q pc lv st h) {k : Fin 4} (hn : (k : Nat) < nL) (hd : decode cc pc = .ok (.astore_n k, 1)) (hrun : (match st with
      | .inl (.ref x) :: t => K (pc + 1) (am_set1 lv k (.inl (.ref x))) t h
      | .inr x :: t => K (pc + 1) (am_set1 lv k (.inr x)) t h
      | _ => none) = some r) : am_WG p l e R s m args below meth c D H0 ad0 n0 cb sb nL Q pc lv st h := by
  intro ad H locs cells slots ls S
  split at hrun
  · rename_i x t
    exact lv_astore_n hx hb hd rfl S.2.1 hn (am_set1_map ad lv k (.inl (.ref x))) (fun ls' hl => hK _ _ _ _ hrun ad H locs cells slots ls' (S.loc1 hl (am_kn_hd S.2.2.2.1) (am_kn_tl S.2.2.2.1)))
  · rename_i x t
    exact lv_astore_n hx hb hd rfl S.2.1 hn (am_set1_map ad lv k (.inr x)) (fun ls' hl => hK _ _ _ _ hrun ad H locs cells slots ls' (S.loc1 hl (am_kn_hd S.2.2.2.1) (am_kn_tl S.2.2.2.1)))
  · cases hrun
theorem am_s_astore (hx : p.tables.exec = Jvm.exec) (hb : c.code = cc) (hK : ∀ pc lv st h, K pc lv st h = some r → am_WG p l e R s m args below meth c D H0 ad0 n0 cb sb nL Q pc lv st h) {k : Nat} (hn : k < nL) (hd : decode cc pc = .ok (.astore k, 2)) (hrun : (match st with
      | .inl (.ref x) :: t => K (pc + 2) (am_set1 lv k (.inl (.ref x))) t h
      | .inr x :: t => K (pc + 2) (am_set1 lv k (.inr x)) t h
      | _ => none) = some r) : am_WG p l e R s m args below meth c D H0 ad0 n0 cb sb nL Q pc lv st h := by
  intro ad H locs cells slots ls S
  split at hrun
  · rename_i x t
    exact lv_astore hx hb hd S.2.1 hn (am_set1_map ad lv k (.inl (.ref x))) (fun ls' hl => hK _ _ _ _ hrun ad H locs cells slots ls' (S.loc1 hl (am_kn_hd S.2.2.2.1) (am_kn_tl S.2.2.2.1)))
  · rename_i x t
    exact lv_astore hx hb hd S.2.1 hn (am_set1_map ad lv k (.inr x)) (fun ls' hl => hK _ _ _ _ hrun ad H locs cells slots ls' (S.loc1 hl (am_kn_hd S.2.2.2.1) (am_kn_tl S.2.2.2.1)))
  · cases hrun
theorem am_s_iinc (hx : p.tables.exec = Jvm.exec) (hb : c.code = cc) (hK : ∀ pc lv st h, K pc lv st h = some r → am_WG p l e R s m args below meth c D H0 ad0 n0 cb sb nL Q pc lv st h) {k : Nat} {n : Int} (hn : k < nL) (hd : decode cc pc = .ok (.iinc k n, 3)) (hrun : (match am_lk lv k with
      | some (.inl (.int x)) => K (pc + 3) (am_set1 lv k (.inl (.int (x + Int32.ofInt n)))) st h
      | _ => none) = some r) : am_WG p l e R s m args below meth c D H0 ad0 n0 cb sb nL Q pc lv st h := by
  intro ad H locs cells slots ls S
  split at hrun
  · rename_i x hv
    obtain ⟨j, hj⟩ := List.mem_iff_getElem?.mp (List.mem_map.mpr ⟨(k, .inl (.int x)), am_lk_mem hv, rfl⟩ : (k, am_cv ad (.inl (.int x))) ∈ lv.map fun q => (q.1, am_cv ad q.2))
    exact lv_iinc (k := j) hx hb hd S.2.1 hj rfl hn (am_set1_map ad lv k (.inl (.int (x + Int32.ofInt n)))) (fun ls' hl => hK _ _ _ _ hrun ad H locs cells slots ls' (S.loc1 hl trivial S.2.2.2.1))
  · cases hrun
theorem am_s_iadd (hx : p.tables.exec = Jvm.exec) (hb : c.code = cc) (hK : ∀ pc lv st h, K pc lv st h = some r → am_WG p l e R s m args below meth c D H0 ad0 n0 cb sb nL Q pc lv st h) (hd : decode cc pc = .ok (.iadd, 1)) (hrun : (am_i1 st fun y t => am_i1 t fun x t => K (pc + 1) lv (.inl (.int (x + y)) :: t) h) = some r) : am_WG p l e R s m args below meth c D H0 ad0 n0 cb sb nL Q pc lv st h := by
  obtain ⟨y, t1, rfl, h1⟩ := am_i1_inv hrun
  obtain ⟨x, t, rfl, h2⟩ := am_i1_inv h1
  intro ad H locs cells slots ls S
  exact lv_iadd hx hb hd (hK _ _ _ _ h2 ad H locs cells slots ls (S.stk (am_kn_cons trivial (am_kn_tl (am_kn_tl S.2.2.2.1)))))
theorem am_s_isub (hx : p.tables.exec = Jvm.exec) (hb : c.code = cc) (hK : ∀ pc lv st h, K pc lv st h = some r → am_WG p l e R s m args below meth c D H0 ad0 n0 cb sb nL Q pc lv st h) (hd : decode cc pc = .ok (.isub, 1)) (hrun : (am_i1 st fun y t => am_i1 t fun x t => K (pc + 1) lv (.inl (.int (x - y)) :: t) h) = some r) : am_WG p l e R s m args below meth c D H0 ad0 n0 cb sb nL Q pc lv st h := by
  obtain ⟨y, t1, rfl, h1⟩ := am_i1_inv hrun
  obtain ⟨x, t, rfl, h2⟩ := am_i1_inv h1
  intro ad H locs cells slots ls S
  exact lv_isub hx hb hd (hK _ _ _ _ h2 ad H locs cells slots ls (S.stk (am_kn_cons trivial (am_kn_tl (am_kn_tl S.2.2.2.1)))))
theorem am_s_imul (hx : p.tables.exec = Jvm.exec) (hb : c.code = cc) (hK : ∀ pc lv st h, K pc lv st h = some r → am_WG p l e R s m args below meth c D H0 ad0 n0 cb sb nL Q pc lv st h) (hd : decode cc pc = .ok (.imul, 1)) (hrun : (am_i1 st fun y t => am_i1 t fun x t => K (pc + 1) lv (.inl (.int (x * y)) :: t) h) = some r) : am_WG p l e R s m args below meth c D H0 ad0 n0 cb sb nL Q pc lv st h := by
  obtain ⟨y, t1, rfl, h1⟩ := am_i1_inv hrun
  obtain ⟨x, t, rfl, h2⟩ := am_i1_inv h1
  intro ad H locs cells slots ls S
  exact lv_imul hx hb hd (hK _ _ _ _ h2 ad H locs cells slots ls (S.stk (am_kn_cons trivial (am_kn_tl (am_kn_tl S.2.2.2.1)))))
theorem am_s_iand (hx : p.tables.exec = Jvm.exec) (hb : c.code = cc) (hK : ∀ pc lv st h, K pc lv st h = some r → am_WG p l e R s m args below meth c D H0 ad0 n0 cb sb nL Q pc lv st h) (hd : decode cc pc = .ok (.iand, 1)) (hrun : (am_i1 st fun y t => am_i1 t fun x t => K (pc + 1) lv (.inl (.int (x &&& y)) :: t) h) = some r) : am_WG p l e R s m args below meth c D H0 ad0 n0 cb sb nL Q pc lv st h := by
  obtain ⟨y, t1, rfl, h1⟩ := am_i1_inv hrun
  obtain ⟨x, t, rfl, h2⟩ := am_i1_inv h1
  intro ad H locs cells slots ls S
  exact lv_iand hx hb hd (hK _ _ _ _ h2 ad H locs cells slots ls (S.stk (am_kn_cons trivial (am_kn_tl (am_kn_tl S.2.2.2.1)))))
theorem am_s_ior (hx : p.tables.exec = Jvm.exec) (hb : c.code = cc) (hK : ∀ pc lv st h, K pc lv st h = some r → am_WG p l e R s m args below meth c D H0 ad0 n0 cb sb nL Q pc lv st h) (hd : decode cc pc = .ok (.ior, 1)) (hrun : (am_i1 st fun y t => am_i1 t fun x t => K (pc + 1) lv (.inl (.int (x ||| y)) :: t) h) = some r) : am_WG p l e R s m args below meth c D H0 ad0 n0 cb sb nL Q pc lv st h := by
  obtain ⟨y, t1, rfl, h1⟩ := am_i1_inv hrun
  obtain ⟨x, t, rfl, h2⟩ := am_i1_inv h1
  intro ad H locs cells slots ls S
  exact lv_ior hx hb hd (hK _ _ _ _ h2 ad H locs cells slots ls (S.stk (am_kn_cons trivial (am_kn_tl (am_kn_tl S.2.2.2.1)))))
theorem am_s_ishr (hx : p.tables.exec = Jvm.exec) (hb : c.code = cc) (hK : ∀ pc lv st h, K pc lv st h = some r → am_WG p l e R s m args below meth c D H0 ad0 n0 cb sb nL Q pc lv st h) (hd : decode cc pc = .ok (.ishr, 1)) (hrun : (am_i1 st fun y t => am_i1 t fun x t => K (pc + 1) lv (.inl (.int (x >>> (y &&& 31))) :: t) h) = some r) : am_WG p l e R s m args below meth c D H0 ad0 n0 cb sb nL Q pc lv st h := by
  obtain ⟨y, t1, rfl, h1⟩ := am_i1_inv hrun
  obtain ⟨x, t, rfl, h2⟩ := am_i1_inv h1
  intro ad H locs cells slots ls S
  exact lv_ishr hx hb hd (hK _ _ _ _ h2 ad H locs cells slots ls (S.stk (am_kn_cons trivial (am_kn_tl (am_kn_tl S.2.2.2.1)))))
theorem am_s_idiv (hx : p.tables.exec = Jvm.exec) (hb : c.code = cc) (hK : ∀ pc lv st h, K pc lv st h = some r → am_WG p l e R s m args below meth c D H0 ad0 n0 cb sb nL Q pc lv st h) (hd : decode cc pc = .ok (.idiv, 1)) (hrun : (am_i1 st fun y t => am_i1 t fun x t => if y = 0 then none else K (pc + 1) lv (.inl (.int (x / y)) :: t) h) = some r) : am_WG p l e R s m args below meth c D H0 ad0 n0 cb sb nL Q pc lv st h := by
  obtain ⟨y, t1, rfl, h1⟩ := am_i1_inv hrun
  obtain ⟨x, t, rfl, h2⟩ := am_i1_inv h1
  split at h2
  · cases h2
  · rename_i hy
    intro ad H locs cells slots ls S
    exact lv_idiv hx hb hd hy (hK _ _ _ _ h2 ad H locs cells slots ls (S.stk (am_kn_cons trivial (am_kn_tl (am_kn_tl S.2.2.2.1)))))
theorem am_s_irem (hx : p.tables.exec = Jvm.exec) (hb : c.code = cc) (hK : ∀ pc lv st h, K pc lv st h = some r → am_WG p l e R s m args below meth c D H0 ad0 n0 cb sb nL Q pc lv st h) (hd : decode cc pc = .ok (.irem, 1)) (hrun : (am_i1 st fun y t => am_i1 t fun x t => if y = 0 then none else K (pc + 1) lv (.inl (.int (x - x / y * y)) :: t) h) = some r) : am_WG p l e R s m args below meth c D H0 ad0 n0 cb sb nL Q pc lv st h := by
  obtain ⟨y, t1, rfl, h1⟩ := am_i1_inv hrun
  obtain ⟨x, t, rfl, h2⟩ := am_i1_inv h1
  split at h2
  · cases h2
  · rename_i hy
    intro ad H locs cells slots ls S
    exact lv_irem hx hb hd hy (hK _ _ _ _ h2 ad H locs cells slots ls (S.stk (am_kn_cons trivial (am_kn_tl (am_kn_tl S.2.2.2.1)))))
theorem am_s_iushr (hx : p.tables.exec = Jvm.exec) (hb : c.code = cc) (hK : ∀ pc lv st h, K pc lv st h = some r → am_WG p l e R s m args below meth c D H0 ad0 n0 cb sb nL Q pc lv st h) (hd : decode cc pc = .ok (.iushr, 1)) (hrun : (am_i1 st fun y t => am_i1 t fun x t => K (pc + 1) lv (.inl (.int ((x.toUInt32 >>> (y.toUInt32 &&& Int32.toUInt32 31)).toInt32)) :: t) h) = some r) : am_WG p l e R s m args below meth c D H0 ad0 n0 cb sb nL Q pc lv st h := by
  obtain ⟨y, t1, rfl, h1⟩ := am_i1_inv hrun
  obtain ⟨x, t, rfl, h2⟩ := am_i1_inv h1
  intro ad H locs cells slots ls S
  exact lv_iushr hx hb hd rfl (hK _ _ _ _ h2 ad H locs cells slots ls (S.stk (am_kn_cons trivial (am_kn_tl (am_kn_tl S.2.2.2.1)))))
theorem am_s_ladd (hx : p.tables.exec = Jvm.exec) (hb : c.code = cc) (hK : ∀ pc lv st h, K pc lv st h = some r → am_WG p l e R s m args below meth c D H0 ad0 n0 cb sb nL Q pc lv st h) (hd : decode cc pc = .ok (.ladd, 1)) (hrun : (am_l1 st fun y t => am_l1 t fun x t => K (pc + 1) lv (.inl (.long (x + y)) :: t) h) = some r) : am_WG p l e R s m args below meth c D H0 ad0 n0 cb sb nL Q pc lv st h := by
  obtain ⟨y, t1, rfl, h1⟩ := am_l1_inv hrun
  obtain ⟨x, t, rfl, h2⟩ := am_l1_inv h1
  intro ad H locs cells slots ls S
  exact lv_ladd hx hb hd (hK _ _ _ _ h2 ad H locs cells slots ls (S.stk (am_kn_cons trivial (am_kn_tl (am_kn_tl S.2.2.2.1)))))
theorem am_s_lsub (hx : p.tables.exec = Jvm.exec) (hb : c.code = cc) (hK : ∀ pc lv st h, K pc lv st h = some r → am_WG p l e R s m args below meth c D H0 ad0 n0 cb sb nL Q pc lv st h) (hd : decode cc pc = .ok (.lsub, 1)) (hrun : (am_l1 st fun y t => am_l1 t fun x t => K (pc + 1) lv (.inl (.long (x - y)) :: t) h) = some r) : am_WG p l e R s m args below meth c D H0 ad0 n0 cb sb nL Q pc lv st h := by
  obtain ⟨y, t1, rfl, h1⟩ := am_l1_inv hrun
  obtain ⟨x, t, rfl, h2⟩ := am_l1_inv h1
  intro ad H locs cells slots ls S
  exact lv_lsub hx hb hd (hK _ _ _ _ h2 ad H locs cells slots ls (S.stk (am_kn_cons trivial (am_kn_tl (am_kn_tl S.2.2.2.1)))))
theorem am_s_lmul (hx : p.tables.exec = Jvm.exec) (hb : c.code = cc) (hK : ∀ pc lv st h, K pc lv st h = some r → am_WG p l e R s m args below meth c D H0 ad0 n0 cb sb nL Q pc lv st h) (hd : decode cc pc = .ok (.lmul, 1)) (hrun : (am_l1 st fun y t => am_l1 t fun x t => K (pc + 1) lv (.inl (.long (x * y)) :: t) h) = some r) : am_WG p l e R s m args below meth c D H0 ad0 n0 cb sb nL Q pc lv st h := by
  obtain ⟨y, t1, rfl, h1⟩ := am_l1_inv hrun
  obtain ⟨x, t, rfl, h2⟩ := am_l1_inv h1
  intro ad H locs cells slots ls S
  exact lv_lmul hx hb hd (hK _ _ _ _ h2 ad H locs cells slots ls (S.stk (am_kn_cons trivial (am_kn_tl (am_kn_tl S.2.2.2.1)))))
theorem am_s_land (hx : p.tables.exec = Jvm.exec) (hb : c.code = cc) (hK : ∀ pc lv st h, K pc lv st h = some r → am_WG p l e R s m args below meth c D H0 ad0 n0 cb sb nL Q pc lv st h) (hd : decode cc pc = .ok (.land, 1)) (hrun : (am_l1 st fun y t => am_l1 t fun x t => K (pc + 1) lv (.inl (.long (x &&& y)) :: t) h) = some r) : am_WG p l e R s m args below meth c D H0 ad0 n0 cb sb nL Q pc lv st h := by
  obtain ⟨y, t1, rfl, h1⟩ := am_l1_inv hrun
  obtain ⟨x, t, rfl, h2⟩ := am_l1_inv h1
  intro ad H locs cells slots ls S
  exact lv_land hx hb hd (hK _ _ _ _ h2 ad H locs cells slots ls (S.stk (am_kn_cons trivial (am_kn_tl (am_kn_tl S.2.2.2.1)))))
theorem am_s_lor (hx : p.tables.exec = Jvm.exec) (hb : c.code = cc) (hK : ∀ pc lv st h, K pc lv st h = some r → am_WG p l e R s m args below meth c D H0 ad0 n0 cb sb nL Q pc lv st h) (hd : decode cc pc = .ok (.lor, 1)) (hrun : (am_l1 st fun y t => am_l1 t fun x t => K (pc + 1) lv (.inl (.long (x ||| y)) :: t) h) = some r) : am_WG p l e R s m args below meth c D H0 ad0 n0 cb sb nL Q pc lv st h := by
  obtain ⟨y, t1, rfl, h1⟩ := am_l1_inv hrun
  obtain ⟨x, t, rfl, h2⟩ := am_l1_inv h1
  intro ad H locs cells slots ls S
  exact lv_lor hx hb hd (hK _ _ _ _ h2 ad H locs cells slots ls (S.stk (am_kn_cons trivial (am_kn_tl (am_kn_tl S.2.2.2.1)))))
theorem am_s_ldiv (hx : p.tables.exec = Jvm.exec) (hb : c.code = cc) (hK : ∀ pc lv st h, K pc lv st h = some r → am_WG p l e R s m args below meth c D H0 ad0 n0 cb sb nL Q pc lv st h) (hd : decode cc pc = .ok (.ldiv, 1)) (hrun : (am_l1 st fun y t => am_l1 t fun x t => if y = 0 then none else K (pc + 1) lv (.inl (.long (x / y)) :: t) h) = some r) : am_WG p l e R s m args below meth c D H0 ad0 n0 cb sb nL Q pc lv st h := by
  obtain ⟨y, t1, rfl, h1⟩ := am_l1_inv hrun
  obtain ⟨x, t, rfl, h2⟩ := am_l1_inv h1
  split at h2
  · cases h2
  · rename_i hy
    intro ad H locs cells slots ls S
    exact lv_ldiv hx hb hd hy (hK _ _ _ _ h2 ad H locs cells slots ls (S.stk (am_kn_cons trivial (am_kn_tl (am_kn_tl S.2.2.2.1)))))
theorem am_s_lrem (hx : p.tables.exec = Jvm.exec) (hb : c.code = cc) (hK : ∀ pc lv st h, K pc lv st h = some r → am_WG p l e R s m args below meth c D H0 ad0 n0 cb sb nL Q pc lv st h) (hd : decode cc pc = .ok (.lrem, 1)) (hrun : (am_l1 st fun y t => am_l1 t fun x t => if y = 0 then none else K (pc + 1) lv (.inl (.long (x - x / y * y)) :: t) h) = some r) : am_WG p l e R s m args below meth c D H0 ad0 n0 cb sb nL Q pc lv st h := by
  obtain ⟨y, t1, rfl, h1⟩ := am_l1_inv hrun
  obtain ⟨x, t, rfl, h2⟩ := am_l1_inv h1
  split at h2
  · cases h2
  · rename_i hy
    intro ad H locs cells slots ls S
    exact lv_lrem hx hb hd hy (hK _ _ _ _ h2 ad H locs cells slots ls (S.stk (am_kn_cons trivial (am_kn_tl (am_kn_tl S.2.2.2.1)))))
theorem am_s_lshl (hx : p.tables.exec = Jvm.exec) (hb : c.code = cc) (hK : ∀ pc lv st h, K pc lv st h = some r → am_WG p l e R s m args below meth c D H0 ad0 n0 cb sb nL Q pc lv st h) (hd : decode cc pc = .ok (.lshl, 1)) (hrun : (am_i1 st fun y t => am_l1 t fun x t => K (pc + 1) lv (.inl (.long (x <<< (y.toInt64 &&& 63))) :: t) h) = some r) : am_WG p l e R s m args below meth c D H0 ad0 n0 cb sb nL Q pc lv st h := by
  obtain ⟨y, t1, rfl, h1⟩ := am_i1_inv hrun
  obtain ⟨x, t, rfl, h2⟩ := am_l1_inv h1
  intro ad H locs cells slots ls S
  exact lv_lshl hx hb hd rfl (hK _ _ _ _ h2 ad H locs cells slots ls (S.stk (am_kn_cons trivial (am_kn_tl (am_kn_tl S.2.2.2.1)))))
theorem am_s_lushr (hx : p.tables.exec = Jvm.exec) (hb : c.code = cc) (hK : ∀ pc lv st h, K pc lv st h = some r → am_WG p l e R s m args below meth c D H0 ad0 n0 cb sb nL Q pc lv st h) (hd : decode cc pc = .ok (.lushr, 1)) (hrun : (am_i1 st fun y t => am_l1 t fun x t => K (pc + 1) lv (.inl (.long ((x.toUInt64 >>> (y.toInt64.toUInt64 &&& Int64.toUInt64 63)).toInt64)) :: t) h) = some r) : am_WG p l e R s m args below meth c D H0 ad0 n0 cb sb nL Q pc lv st h := by
  obtain ⟨y, t1, rfl, h1⟩ := am_i1_inv hrun
  obtain ⟨x, t, rfl, h2⟩ := am_l1_inv h1
  intro ad H locs cells slots ls S
  exact lv_lushr hx hb hd rfl (hK _ _ _ _ h2 ad H locs cells slots ls (S.stk (am_kn_cons trivial (am_kn_tl (am_kn_tl S.2.2.2.1)))))
theorem am_s_lcmp (hx : p.tables.exec = Jvm.exec) (hb : c.code = cc) (hK : ∀ pc lv st h, K pc lv st h = some r → am_WG p l e R s m args below meth c D H0 ad0 n0 cb sb nL Q pc lv st h) (hd : decode cc pc = .ok (.lcmp, 1)) (hrun : (am_l1 st fun y t => am_l1 t fun x t => K (pc + 1) lv (.inl (.int (lg_cmp x y)) :: t) h) = some r) : am_WG p l e R s m args below meth c D H0 ad0 n0 cb sb nL Q pc lv st h := by
  obtain ⟨y, t1, rfl, h1⟩ := am_l1_inv hrun
  obtain ⟨x, t, rfl, h2⟩ := am_l1_inv h1
  intro ad H locs cells slots ls S
  exact W.lcmp hx hb hd (hK _ _ _ _ h2 ad H locs cells slots ls (S.stk (am_kn_cons trivial (am_kn_tl (am_kn_tl S.2.2.2.1)))))
theorem am_s_ineg (hx : p.tables.exec = Jvm.exec) (hb : c.code = cc) (hK : ∀ pc lv st h, K pc lv st h = some r → am_WG p l e R s m args below meth c D H0 ad0 n0 cb sb nL Q pc lv st h) (hd : decode cc pc = .ok (.ineg, 1)) (hrun : (am_i1 st fun x t => K (pc + 1) lv (.inl (.int (-x)) :: t) h) = some r) : am_WG p l e R s m args below meth c D H0 ad0 n0 cb sb nL Q pc lv st h := by
  obtain ⟨x, t, rfl, hrun⟩ := am_i1_inv hrun
  intro ad H locs cells slots ls S
  exact lv_ineg hx hb hd (hK _ _ _ _ hrun ad H locs cells slots ls (S.stk (am_kn_cons trivial (am_kn_tl S.2.2.2.1))))
theorem am_s_lneg (hx : p.tables.exec = Jvm.exec) (hb : c.code = cc) (hK : ∀ pc lv st h, K pc lv st h = some r → am_WG p l e R s m args below meth c D H0 ad0 n0 cb sb nL Q pc lv st h) (hd : decode cc pc = .ok (.lneg, 1)) (hrun : (am_l1 st fun x t => K (pc + 1) lv (.inl (.long (-x)) :: t) h) = some r) : am_WG p l e R s m args below meth c D H0 ad0 n0 cb sb nL Q pc lv st h := by
  obtain ⟨x, t, rfl, hrun⟩ := am_l1_inv hrun
  intro ad H locs cells slots ls S
  exact lv_lneg hx hb hd (hK _ _ _ _ hrun ad H locs cells slots ls (S.stk (am_kn_cons trivial (am_kn_tl S.2.2.2.1))))
theorem am_s_i2l (hx : p.tables.exec = Jvm.exec) (hb : c.code = cc) (hK : ∀ pc lv st h, K pc lv st h = some r → am_WG p l e R s m args below meth c D H0 ad0 n0 cb sb nL Q pc lv st h) (hd : decode cc pc = .ok (.i2l, 1)) (hrun : (am_i1 st fun x t => K (pc + 1) lv (.inl (.long (x.toInt64)) :: t) h) = some r) : am_WG p l e R s m args below meth c D H0 ad0 n0 cb sb nL Q pc lv st h := by
  obtain ⟨x, t, rfl, hrun⟩ := am_i1_inv hrun
  intro ad H locs cells slots ls S
  exact lv_i2l hx hb hd rfl (hK _ _ _ _ hrun ad H locs cells slots ls (S.stk (am_kn_cons trivial (am_kn_tl S.2.2.2.1))))
theorem am_s_l2i (hx : p.tables.exec = Jvm.exec) (hb : c.code = cc) (hK : ∀ pc lv st h, K pc lv st h = some r → am_WG p l e R s m args below meth c D H0 ad0 n0 cb sb nL Q pc lv st h) (hd : decode cc pc = .ok (.l2i, 1)) (hrun : (am_l1 st fun x t => K (pc + 1) lv (.inl (.int (x.toInt32)) :: t) h) = some r) : am_WG p l e R s m args below meth c D H0 ad0 n0 cb sb nL Q pc lv st h := by
  obtain ⟨x, t, rfl, hrun⟩ := am_l1_inv hrun
  intro ad H locs cells slots ls S
  exact lv_l2i hx hb hd rfl (hK _ _ _ _ hrun ad H locs cells slots ls (S.stk (am_kn_cons trivial (am_kn_tl S.2.2.2.1))))
theorem am_s_i2b (hx : p.tables.exec = Jvm.exec) (hb : c.code = cc) (hK : ∀ pc lv st h, K pc lv st h = some r → am_WG p l e R s m args below meth c D H0 ad0 n0 cb sb nL Q pc lv st h) (hd : decode cc pc = .ok (.i2b, 1)) (hrun : (am_i1 st fun x t => K (pc + 1) lv (.inl (.int (x.toInt8.toInt32)) :: t) h) = some r) : am_WG p l e R s m args below meth c D H0 ad0 n0 cb sb nL Q pc lv st h := by
  obtain ⟨x, t, rfl, hrun⟩ := am_i1_inv hrun
  intro ad H locs cells slots ls S
  exact lv_i2b hx hb hd rfl (hK _ _ _ _ hrun ad H locs cells slots ls (S.stk (am_kn_cons trivial (am_kn_tl S.2.2.2.1))))
theorem am_s_i2s (hx : p.tables.exec = Jvm.exec) (hb : c.code = cc) (hK : ∀ pc lv st h, K pc lv st h = some r → am_WG p l e R s m args below meth c D H0 ad0 n0 cb sb nL Q pc lv st h) (hd : decode cc pc = .ok (.i2s, 1)) (hrun : (am_i1 st fun x t => K (pc + 1) lv (.inl (.int (x.toInt16.toInt32)) :: t) h) = some r) : am_WG p l e R s m args below meth c D H0 ad0 n0 cb sb nL Q pc lv st h := by
  obtain ⟨x, t, rfl, hrun⟩ := am_i1_inv hrun
  intro ad H locs cells slots ls S
  exact lv_i2s hx hb hd rfl (hK _ _ _ _ hrun ad H locs cells slots ls (S.stk (am_kn_cons trivial (am_kn_tl S.2.2.2.1))))
theorem am_s_pop (hx : p.tables.exec = Jvm.exec) (hb : c.code = cc) (hK : ∀ pc lv st h, K pc lv st h = some r → am_WG p l e R s m args below meth c D H0 ad0 n0 cb sb nL Q pc lv st h) (hd : decode cc pc = .ok (.pop, 1)) (hrun : (match st with
      | v :: t => if am_cat v = 1 then K (pc + 1) lv t h else none
      | _ => none) = some r) : am_WG p l e R s m args below meth c D H0 ad0 n0 cb sb nL Q pc lv st h := by
  intro ad H locs cells slots ls S
  split at hrun
  · split at hrun
    · rename_i v t h1
      exact lv_pop hx hb hd ((am_cat_cv ad v).trans h1) (hK _ _ _ _ hrun ad H locs cells slots ls (S.stk (am_kn_tl S.2.2.2.1)))
    · cases hrun
  · cases hrun
theorem am_s_dup (hx : p.tables.exec = Jvm.exec) (hb : c.code = cc) (hK : ∀ pc lv st h, K pc lv st h = some r → am_WG p l e R s m args below meth c D H0 ad0 n0 cb sb nL Q pc lv st h) (hd : decode cc pc = .ok (.dup, 1)) (hrun : (match st with
      | v :: t => if am_cat v = 1 then K (pc + 1) lv (v :: v :: t) h else none
      | _ => none) = some r) : am_WG p l e R s m args below meth c D H0 ad0 n0 cb sb nL Q pc lv st h := by
  intro ad H locs cells slots ls S
  split at hrun
  · split at hrun
    · rename_i v t h1
      exact lv_dup hx hb hd ((am_cat_cv ad v).trans h1) (hK _ _ _ _ hrun ad H locs cells slots ls (S.stk (am_kn_cons (am_kn_hd S.2.2.2.1) S.2.2.2.1)))
    · cases hrun
  · cases hrun
theorem am_s_dup_x1 (hx : p.tables.exec = Jvm.exec) (hb : c.code = cc) (hK : ∀ pc lv st h, K pc lv st h = some r → am_WG p l e R s m args below meth c D H0 ad0 n0 cb sb nL Q pc lv st h) (hd : decode cc pc = .ok (.dup_x1, 1)) (hrun : (match st with
      | v :: w :: t => if am_cat v = 1 ∧ am_cat w = 1 then K (pc + 1) lv (v :: w :: v :: t) h else none
      | _ => none) = some r) : am_WG p l e R s m args below meth c D H0 ad0 n0 cb sb nL Q pc lv st h := by
  intro ad H locs cells slots ls S
  split at hrun
  · split at hrun
    · rename_i v w t h1
      have k1 := am_kn_hd S.2.2.2.1
      have k2 := am_kn_tl S.2.2.2.1
      exact lv_dup_x1 hx hb hd ((am_cat_cv ad v).trans h1.1) ((am_cat_cv ad w).trans h1.2) (hK _ _ _ _ hrun ad H locs cells slots ls (S.stk (am_kn_cons k1 (am_kn_cons (am_kn_hd k2) (am_kn_cons k1 (am_kn_tl k2))))))
    · cases hrun
  · cases hrun
theorem am_s_dup_x2 (hx : p.tables.exec = Jvm.exec) (hb : c.code = cc) (hK : ∀ pc lv st h, K pc lv st h = some r → am_WG p l e R s m args below meth c D H0 ad0 n0 cb sb nL Q pc lv st h) (hd : decode cc pc = .ok (.dup_x2, 1)) (hrun : (match st with
      | v :: w :: z :: t => if am_cat v = 1 ∧ am_cat w = 1 ∧ am_cat z = 1 then K (pc + 1) lv (v :: w :: z :: v :: t) h else none
      | _ => none) = some r) : am_WG p l e R s m args below meth c D H0 ad0 n0 cb sb nL Q pc lv st h := by
  intro ad H locs cells slots ls S
  split at hrun
  · split at hrun
    · rename_i v w z t h1
      have k1 := am_kn_hd S.2.2.2.1
      have k2 := am_kn_tl S.2.2.2.1
      exact lv_dup_x2 hx hb hd ((am_cat_cv ad v).trans h1.1) ((am_cat_cv ad w).trans h1.2.1) ((am_cat_cv ad z).trans h1.2.2) (hK _ _ _ _ hrun ad H locs cells slots ls (S.stk (am_kn_cons k1 (am_kn_cons (am_kn_hd k2) (am_kn_cons (am_kn_hd (am_kn_tl k2)) (am_kn_cons k1 (am_kn_tl (am_kn_tl k2))))))))
    · cases hrun
  · cases hrun
theorem am_s_dup2 (hx : p.tables.exec = Jvm.exec) (hb : c.code = cc) (hK : ∀ pc lv st h, K pc lv st h = some r → am_WG p l e R s m args below meth c D H0 ad0 n0 cb sb nL Q pc lv st h) (hd : decode cc pc = .ok (.dup2, 1)) (hrun : (match st with
      | v :: w :: t => if am_cat v = 1 ∧ am_cat w = 1 then K (pc + 1) lv (v :: w :: v :: w :: t) h else none
      | _ => none) = some r) : am_WG p l e R s m args below meth c D H0 ad0 n0 cb sb nL Q pc lv st h := by
  intro ad H locs cells slots ls S
  split at hrun
  · split at hrun
    · rename_i v w t h1
      have k1 := am_kn_hd S.2.2.2.1
      have k2 := am_kn_tl S.2.2.2.1
      exact lv_dup2_11 hx hb hd ((am_cat_cv ad v).trans h1.1) ((am_cat_cv ad w).trans h1.2) (hK _ _ _ _ hrun ad H locs cells slots ls (S.stk (am_kn_cons k1 (am_kn_cons (am_kn_hd k2) S.2.2.2.1))))
    · cases hrun
  · cases hrun
theorem am_s_goto (hx : p.tables.exec = Jvm.exec) (hb : c.code = cc) (hK : ∀ pc lv st h, K pc lv st h = some r → am_WG p l e R s m args below meth c D H0 ad0 n0 cb sb nL Q pc lv st h) {off : Int} (hd : decode cc pc = .ok (.goto off, 3)) (hrun : (am_go pc off fun t => K t lv st h) = some r) : am_WG p l e R s m args below meth c D H0 ad0 n0 cb sb nL Q pc lv st h := by
  obtain ⟨t, ht, hrun⟩ := am_go_inv hrun
  intro ad H locs cells slots ls S
  exact lv_goto hx hb hd ht (hK _ _ _ _ hrun ad H locs cells slots ls S)
theorem am_s_ifCond (hx : p.tables.exec = Jvm.exec) (hb : c.code = cc) (hK : ∀ pc lv st h, K pc lv st h = some r → am_WG p l e R s m args below meth c D H0 ad0 n0 cb sb nL Q pc lv st h) {cnd : Jvm.ClassFile.Cond} {off : Int} {tgt : Nat} (ht : (pc : Int) + off = (tgt : Int)) (hd : decode cc pc = .ok (.ifCond cnd off, 3)) (hrun : (am_i1 st fun x t => am_cc cnd x 0 (am_go pc off fun tg => K tg lv t h) (K (pc + 3) lv t h)) = some r) : am_WG p l e R s m args below meth c D H0 ad0 n0 cb sb nL Q pc lv st h := by
  obtain ⟨x, t, rfl, h2⟩ := am_i1_inv hrun
  intro ad H locs cells slots ls S
  have hJ : (am_go pc off fun tg => K tg lv t h) = some r → W p l e R s m args below meth c H locs cells slots Q (F0 m tgt ls (t.map (am_cv ad))) := fun h9 => by
    obtain ⟨tg, ht9, h9⟩ := am_go_inv h9
    have e9 : tg = tgt := by omega
    subst e9
    exact hK _ _ _ _ h9 ad H locs cells slots ls (S.stk (am_kn_tl S.2.2.2.1))
  have hF : K (pc + 3) lv t h = some r → W p l e R s m args below meth c H locs cells slots Q (F0 m (pc + 3) ls (t.map (am_cv ad))) := fun h9 => hK _ _ _ _ h9 ad H locs cells slots ls (S.stk (am_kn_tl S.2.2.2.1))
  cases cnd with
  | eq =>
    have h3 : (if x = 0 then (am_go pc off fun tg => K tg lv t h) else (K (pc + 3) lv t h)) = some r := h2
    refine lv_if_eq hx hb hd ht (fun h9 => hJ ?_) (fun h9 => hF ?_)
    · rw [if_pos h9] at h3; exact h3
    · rw [if_neg h9] at h3; exact h3
  | ne =>
    have h3 : (if x = 0 then (K (pc + 3) lv t h) else (am_go pc off fun tg => K tg lv t h)) = some r := h2
    refine lv_if_ne hx hb hd ht (fun h9 => hJ ?_) (fun h9 => hF ?_)
    · rw [if_neg (by first | exact h9 | exact Int32.not_lt.mpr h9)] at h3; exact h3
    · rw [if_pos (by first | exact h9 | exact Decidable.not_not.mp h9 | exact Int32.not_le.mp h9)] at h3; exact h3
  | lt =>
    have h3 : (if x < 0 then (am_go pc off fun tg => K tg lv t h) else (K (pc + 3) lv t h)) = some r := h2
    refine lv_if_lt hx hb hd ht (fun h9 => hJ ?_) (fun h9 => hF ?_)
    · rw [if_pos h9] at h3; exact h3
    · rw [if_neg h9] at h3; exact h3
  | ge =>
    have h3 : (if x < 0 then (K (pc + 3) lv t h) else (am_go pc off fun tg => K tg lv t h)) = some r := h2
    refine lv_if_ge hx hb hd ht (fun h9 => hJ ?_) (fun h9 => hF ?_)
    · rw [if_neg (by first | exact h9 | exact Int32.not_lt.mpr h9)] at h3; exact h3
    · rw [if_pos (by first | exact h9 | exact Decidable.not_not.mp h9 | exact Int32.not_le.mp h9)] at h3; exact h3
  | gt =>
    have h3 : (if 0 < x then (am_go pc off fun tg => K tg lv t h) else (K (pc + 3) lv t h)) = some r := h2
    refine lv_if_gt hx hb hd ht (fun h9 => hJ ?_) (fun h9 => hF ?_)
    · rw [if_pos h9] at h3; exact h3
    · rw [if_neg h9] at h3; exact h3
  | le =>
    have h3 : (if 0 < x then (K (pc + 3) lv t h) else (am_go pc off fun tg => K tg lv t h)) = some r := h2
    refine lv_if_le hx hb hd ht (fun h9 => hJ ?_) (fun h9 => hF ?_)
    · rw [if_neg (by first | exact h9 | exact Int32.not_lt.mpr h9)] at h3; exact h3
    · rw [if_pos (by first | exact h9 | exact Decidable.not_not.mp h9 | exact Int32.not_le.mp h9)] at h3; exact h3
theorem am_s_if_icmp (hx : p.tables.exec = Jvm.exec) (hb : c.code = cc) (hK : ∀ pc lv st h, K pc lv st h = some r → am_WG p l e R s m args below meth c D H0 ad0 n0 cb sb nL Q pc lv st h) {cnd : Jvm.ClassFile.Cond} {off : Int} {tgt : Nat} (ht : (pc : Int) + off = (tgt : Int)) (hd : decode cc pc = .ok (.if_icmp cnd off, 3)) (hrun : (am_i1 st fun y t => am_i1 t fun x t => am_cc cnd x y (am_go pc off fun tg => K tg lv t h) (K (pc + 3) lv t h)) = some r) : am_WG p l e R s m args below meth c D H0 ad0 n0 cb sb nL Q pc lv st h := by
  obtain ⟨y, t1, rfl, h1⟩ := am_i1_inv hrun
  obtain ⟨x, t, rfl, h2⟩ := am_i1_inv h1
  intro ad H locs cells slots ls S
  have hJ : (am_go pc off fun tg => K tg lv t h) = some r → W p l e R s m args below meth c H locs cells slots Q (F0 m tgt ls (t.map (am_cv ad))) := fun h9 => by
    obtain ⟨tg, ht9, h9⟩ := am_go_inv h9
    have e9 : tg = tgt := by omega
    subst e9
    exact hK _ _ _ _ h9 ad H locs cells slots ls (S.stk (am_kn_tl (am_kn_tl S.2.2.2.1)))
  have hF : K (pc + 3) lv t h = some r → W p l e R s m args below meth c H locs cells slots Q (F0 m (pc + 3) ls (t.map (am_cv ad))) := fun h9 => hK _ _ _ _ h9 ad H locs cells slots ls (S.stk (am_kn_tl (am_kn_tl S.2.2.2.1)))
  cases cnd with
  | eq =>
    have h3 : (if x = y then (am_go pc off fun tg => K tg lv t h) else (K (pc + 3) lv t h)) = some r := h2
    refine lv_icmp_eq hx hb hd ht (fun h9 => hJ ?_) (fun h9 => hF ?_)
    · rw [if_pos h9] at h3; exact h3
    · rw [if_neg h9] at h3; exact h3
  | ne =>
    have h3 : (if x = y then (K (pc + 3) lv t h) else (am_go pc off fun tg => K tg lv t h)) = some r := h2
    refine lv_icmp_ne hx hb hd ht (fun h9 => hJ ?_) (fun h9 => hF ?_)
    · rw [if_neg (by first | exact h9 | exact Int32.not_lt.mpr h9)] at h3; exact h3
    · rw [if_pos (by first | exact h9 | exact Decidable.not_not.mp h9 | exact Int32.not_le.mp h9)] at h3; exact h3
  | lt =>
    have h3 : (if x < y then (am_go pc off fun tg => K tg lv t h) else (K (pc + 3) lv t h)) = some r := h2
    refine lv_icmp_lt hx hb hd ht (fun h9 => hJ ?_) (fun h9 => hF ?_)
    · rw [if_pos h9] at h3; exact h3
    · rw [if_neg h9] at h3; exact h3
  | ge =>
    have h3 : (if x < y then (K (pc + 3) lv t h) else (am_go pc off fun tg => K tg lv t h)) = some r := h2
    refine lv_icmp_ge hx hb hd ht (fun h9 => hJ ?_) (fun h9 => hF ?_)
    · rw [if_neg (by first | exact h9 | exact Int32.not_lt.mpr h9)] at h3; exact h3
    · rw [if_pos (by first | exact h9 | exact Decidable.not_not.mp h9 | exact Int32.not_le.mp h9)] at h3; exact h3
  | gt =>
    have h3 : (if y < x then (am_go pc off fun tg => K tg lv t h) else (K (pc + 3) lv t h)) = some r := h2
    refine lv_icmp_gt hx hb hd ht (fun h9 => hJ ?_) (fun h9 => hF ?_)
    · rw [if_pos h9] at h3; exact h3
    · rw [if_neg h9] at h3; exact h3
  | le =>
    have h3 : (if y < x then (K (pc + 3) lv t h) else (am_go pc off fun tg => K tg lv t h)) = some r := h2
    refine lv_icmp_le hx hb hd ht (fun h9 => hJ ?_) (fun h9 => hF ?_)
    · rw [if_neg (by first | exact h9 | exact Int32.not_lt.mpr h9)] at h3; exact h3
    · rw [if_pos (by first | exact h9 | exact Decidable.not_not.mp h9 | exact Int32.not_le.mp h9)] at h3; exact h3
end
