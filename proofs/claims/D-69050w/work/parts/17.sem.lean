/-! THE WHOLE IS SOUND: what the abstract machine answers, the machine does. -/
theorem am_ent_inv {M : am_M} {pc : Nat} {a : List am_V} {h : am_H} {x : am_R} {r : am_O × am_H} (hr : am_ent M pc a h x = some r) : x = some r ∧ (pc = 0 → am_pos 0 a = M.2.2.2.1 ∧ am_words a ≤ M.2.2.2.2.2.2 ∧ ∀ ci, M.2.2.2.2.2.1 = some ci → ∃ o t fs, a = .inl (.ref o) :: t ∧ h.1 o = some (ci, fs)) := by
  unfold am_ent at hr
  split at hr
  · split at hr
    · rename_i hck
      rw [Bool.and_eq_true] at hck
      unfold am_rcv at hr
      split at hr
      · rename_i hq
        exact ⟨hr, fun _ => ⟨am_leq_eq hck.1, Nat.le_of_ble_eq_true hck.2, fun ci h9 => by rw [hq] at h9; cases h9⟩⟩
      · rename_i ci hq
        split at hr
        · rename_i o t
          obtain ⟨fs, ho, hr⟩ := am_ob_inv hr
          exact ⟨hr, fun _ => ⟨am_leq_eq hck.1, Nat.le_of_ble_eq_true hck.2, fun ci' h9 => by rw [hq] at h9; cases h9; exact ⟨o, t, fs, rfl, ho⟩⟩⟩
        · cases hr
    · cases hr
  · exact ⟨hr, fun h9 => by cases h9⟩
/-- a frame of a method that stands in the table -/
def am_Fx (nmf : Nat → MethodName) (inst : Nat → Prop) (mi : Nat) (M : am_M) (D : va_G) (p : Program) (s : State) (m : MethodId) (args : Array Value) (meth : Method) (c : Code) : Prop :=
  p.tables.exec = Jvm.exec ∧ s.vm.findClass (nmf mi).cls = some m.cls ∧ (∀ w ∈ am_tbl, w.before args s = true) ∧ va_K D am_cl [] s ∧ meth.locks = false ∧ meth.name = (nmf mi).name ∧ c.maxLocals = M.2.2.2.2.2.2 ∧
  ∃ hh, c.exceptionTable.toList.map (fun h => (h.startPc, h.endPc, h.handlerPc, h.catchType)) = hh ∧ (∀ q ∈ M.1, am_okI nmf inst (nmf mi).cls (nmf mi).name c.code M.2.2.2.2.2.2 meth.sig.returnType q.1 q.2.1 q.2.2) ∧ hh.map (fun q => (q.1, q.2.1, q.2.2.1)) = M.2.2.1.toList ∧ ∀ q ∈ hh, q.2.2.2 ≠ 0 ∧ Cond.classLink (nmf mi).cls q.2.2.2 "java/lang/IllegalStateException" ∈ am_tbl
theorem am_hd_out {M : am_M} {c : Code} {hh : List (Nat × Nat × Nat × Nat)} (h1 : c.exceptionTable.toList.map (fun h => (h.startPc, h.endPc, h.handlerPc, h.catchType)) = hh) (h2 : hh.map (fun q => (q.1, q.2.1, q.2.2.1)) = M.2.2.1.toList) {pc : Nat} (h3 : am_hd M.2.2.1 pc = none) : ∀ x ∈ c.exceptionTable.toList, covers x pc = false := by
  intro x hx
  have hm : (x.startPc, x.endPc, x.handlerPc) ∈ M.2.2.1.toList := by
    rw [← h2, ← h1]
    exact List.mem_map.mpr ⟨_, List.mem_map.mpr ⟨x, hx, rfl⟩, rfl⟩
  cases hM : M.2.2.1 with
  | none => rw [hM] at hm; cases hm
  | some q =>
    rw [hM] at hm h3
    have e9 := List.mem_singleton.mp hm
    subst e9
    have h3 : (match Nat.ble x.startPc pc && Nat.blt pc x.endPc with | true => some x.handlerPc | false => none) = none := h3
    split at h3
    · cases h3
    · rename_i hb
      unfold covers
      rw [Bool.eq_false_iff] at hb ⊢
      intro h9
      apply hb
      simp only [Bool.and_eq_true, decide_eq_true_eq] at h9
      rw [Bool.and_eq_true]
      exact ⟨Nat.ble_eq_true_of_le h9.1, Nat.ble_eq_true_of_le h9.2⟩
theorem am_hd_in {M : am_M} {c : Code} {hh : List (Nat × Nat × Nat × Nat)} (h1 : c.exceptionTable.toList.map (fun h => (h.startPc, h.endPc, h.handlerPc, h.catchType)) = hh) (h2 : hh.map (fun q => (q.1, q.2.1, q.2.2.1)) = M.2.2.1.toList) {pc t : Nat} (h3 : am_hd M.2.2.1 pc = some t) : ∃ x, c.exceptionTable.toList = [x] ∧ covers x pc = true ∧ x.handlerPc = t ∧ (x.startPc, x.endPc, x.handlerPc, x.catchType) ∈ hh := by
  cases hM : M.2.2.1 with
  | none => rw [hM] at h3; cases h3
  | some q =>
    obtain ⟨a, b, t'⟩ := q
    rw [hM] at h3 h2
    rw [← h1, List.map_map] at h2
    cases hl : c.exceptionTable.toList with
    | nil => rw [hl] at h2; cases h2
    | cons x r =>
      rw [hl] at h2
      cases r with
      | cons y r => cases h2
      | nil =>
        have e9 : (x.startPc, x.endPc, x.handlerPc) = (a, b, t') := by
          have := List.cons.inj h2
          exact this.1
        cases e9
        have h3 : (match Nat.ble x.startPc pc && Nat.blt pc x.endPc with | true => some x.handlerPc | false => none) = some t := h3
        split at h3
        · rename_i hb
          cases h3
          rw [Bool.and_eq_true] at hb
          refine ⟨x, rfl, ?_, rfl, ?_⟩
          · unfold covers
            simp only [Bool.and_eq_true, decide_eq_true_eq]
            exact ⟨Nat.le_of_ble_eq_true hb.1, Nat.le_of_ble_eq_true hb.2⟩
          · rw [← h1, hl]; exact List.mem_singleton.mpr rfl
        · cases h3
theorem am_sem_sound {l : Launch} {D : va_G} {H0 : Heap} {nmf : Nat → MethodName} {inst : Nat → Prop} {P : Nat → Option am_M} {prim : Nat → Nat → List am_V → am_H → am_R} (hoi : am_hoi)
    (hP : ∀ mi M, P mi = some M → am_okM nmf inst mi M) (hprim : ∀ d mi a h o h2, P mi = none → prim d mi a h = some (o, h2) → am_CM l D H0 (nmf mi) d a h o h2 ∧ (inst mi → ∀ s, va_K D am_cl [] s → am_RV D H0 s (nmf mi) a h)) :
    ∀ n, (∀ d mi pc a h r, am_sem P prim am_dfl n d mi pc a h = some r → ∀ M, P mi = some M → ∀ (p : Program) (e : Env) (R : Room) (s : State) (m : MethodId) (args : Array Value) (below : List Frame) (meth : Method) (c : Code) (ad0 : Nat → Nat) (n0 cb sb : Nat), am_Fx nmf inst mi M D p s m args meth c → am_KS H0 ad0 s → am_mc ≤ R.cells + cb → am_ms ≤ R.slots + sb → d + 1 ≤ R.frames → 64 * (d + 1) ≤ R.locals →
        ∀ lv, am_zip (am_ks M pc) a = some lv → am_WG p l e R s m args below meth c D H0 ad0 n0 cb sb M.2.2.2.2.2.2 (am_Q D H0 ad0 n0 cb sb s below r) pc lv [] h) ∧
      (∀ d mi a h o h2, am_sem P prim am_dfl n d mi 0 a h = some (o, h2) → am_CM l D H0 (nmf mi) d a h o h2 ∧ (inst mi → ∀ s, va_K D am_cl [] s → am_RV D H0 s (nmf mi) a h)) := by
  intro n
  induction n with
  | zero => exact ⟨fun d mi pc a h r hr => (by cases hr), fun d mi a h o h2 hr => (by cases hr)⟩
  | succ n ih =>
    have A : ∀ d mi pc a h r, am_sem P prim am_dfl (n + 1) d mi pc a h = some r → ∀ M, P mi = some M → ∀ (p : Program) (e : Env) (R : Room) (s : State) (m : MethodId) (args : Array Value) (below : List Frame) (meth : Method) (c : Code) (ad0 : Nat → Nat) (n0 cb sb : Nat), am_Fx nmf inst mi M D p s m args meth c → am_KS H0 ad0 s → am_mc ≤ R.cells + cb → am_ms ≤ R.slots + sb → d + 1 ≤ R.frames → 64 * (d + 1) ≤ R.locals →
        ∀ lv, am_zip (am_ks M pc) a = some lv → am_WG p l e R s m args below meth c D H0 ad0 n0 cb sb M.2.2.2.2.2.2 (am_Q D H0 ad0 n0 cb sb s below r) pc lv [] h := by
      intro d mi pc a h r hr M hM p e R s m args below meth c ad0 n0 cb sb hF hKs hRc hRs hfr hlo lv hz
      unfold am_sem at hr
      rw [hM] at hr
      dsimp only at hr
      obtain ⟨hr, -⟩ := am_ent_inv hr
      rw [hz] at hr
      dsimp only at hr
      obtain ⟨f1, f2, f3, f4, f5, f6, f7, hh, f8, f9, f10, f11⟩ := hF
      refine am_run_sound f1 rfl f7 f5 rfl f2 f6 f3 hoi f4 hKs hRc hRs hfr hlo (nmf := nmf) (inst := inst) ?_ f9 (fun pc' h9 => am_hd_out f8 f10 h9) ?_ ?_ _ _ _ _ _ hr
      · intro i a' h' o h2 hc
        rcases d with _ | d
        · cases hc
        · obtain ⟨k1, k2⟩ := ih.2 d i a' h' o h2 hc
          exact ⟨d, rfl, k1, fun h9 => k2 h9 s f4⟩
      · intro pc' t h9
        obtain ⟨x, x1, x2, x3, x4⟩ := am_hd_in f8 f10 h9
        rw [← x3]
        exact am_catch f3 f2 f4 x1 x2 (f11 _ x4).1 (f11 _ x4).2
      · intro pc' ks lv' a' h' hks hz' hl
        refine ih.1 d mi pc' a' h' r hl M hM p e R s m args below meth c ad0 n0 cb sb ⟨f1, f2, f3, f4, f5, f6, f7, hh, f8, f9, f10, f11⟩ hKs hRc hRs hfr hlo lv' ?_
        unfold am_ks; rw [hks]; exact hz'
    refine ⟨A, ?_⟩
    intro d mi a h o h2 hr
    cases hM : P mi with
    | none =>
      have hr' := hr
      unfold am_sem at hr'
      rw [hM] at hr'
      exact hprim d mi a h o h2 hM hr'
    | some M =>
      have hr' := hr
      unfold am_sem at hr'
      rw [hM] at hr'
      dsimp only at hr'
      obtain ⟨hr', hent⟩ := am_ent_inv hr'
      obtain ⟨hpos, hwd, hrcv⟩ := hent rfl
      obtain ⟨cc, ret, hh, hpl, hcode, hrows, hhd, hlk, hin, hks0⟩ := hP mi M hM
      have hcd : ∀ {s : State} {args : Array Value}, (∀ w ∈ am_tbl, w.before args s = true) → am_cd (nmf mi) cc M.2.2.2.2.2.2 ret hh s := by
        intro s args hts
        rcases hcode with ⟨rfl, hc⟩ | hc
        · exact am_cd.ofCode (hts _ hc)
        · exact am_cd.ofWith (hts _ hc)
      refine ⟨?_, ?_⟩
      · intro ad hkn
        refine MetFree.of_bodySF (code := cc) (maxLocals := M.2.2.2.2.2.2) (ret := ret) hpl ?_ ?_
        · intro args s m hpre hn
          obtain ⟨mk, meth, c, k1, k2, k3, k4, k5, -, k7, k8, -⟩ := hcd (atoms_spec (ws := am_tbl) hpre)
          cases hn.symm.trans k1
          exact ⟨meth, c, k2, k3, k4, k5, k7, k8⟩
        · intro p e s m args below meth c s₁ B hml hPre _
          obtain ⟨rfl, hR, hK, hKs⟩ := hPre
          have hts := atoms_spec (ws := am_tbl) B.pre
          obtain ⟨mk, meth', c', k1, k2, k3, k4, k5, k6, k7, k8, -⟩ := hcd hts
          cases B.named.symm.trans k1
          cases B.method.symm.trans k2
          have X₀ := Stand.of_body B
          cases X₀.code.symm.trans k3
          have hF : am_Fx nmf inst mi M D p s m (a.map (am_cv ad)).toArray meth c := ⟨B.exec, findClass_of_methodNamed B.named, hts, hK, B.notSynchronized, (name_of_methodNamed B.named B.method).1, hml, hh, k6, by rw [k4, k7]; exact hrows, hhd, hlk⟩
          have hks : am_ks M 0 = M.2.2.2.1 := hks0
          cases hz : am_zip (am_ks M 0) a with
          | none => rw [hz] at hr'; cases hr'
          | some lv =>
            have G := A d mi 0 a h (o, h2) hr M hM p e (am_rm d h) s m (a.map (am_cv ad)).toArray below meth c ad h.2.2.1 h.2.2.2.1 h.2.2.2.2 hF hKs (by show am_mc ≤ am_mc - h.2.2.2.1 + h.2.2.2.1; omega) (by show am_ms ≤ am_ms - h.2.2.2.2 + h.2.2.2.2; omega) (Nat.le_refl _) (Nat.le_refl _) lv hz
            rw [hks, ← hpos] at hz
            obtain ⟨z1, z2⟩ := am_zip_pos (ad := ad) hz
            have hh0 : s₁.heap = s.heap := by rw [B.state]; rfl
            have hl := lv_entry (a.map (am_cv ad)) (n := M.2.2.2.2.2.2) (by rw [am_sl_len]; exact hwd)
            have W0 := G ad s.heap [] 0 0 _ ⟨hR, by rw [z1]; exact hl, fun q hq => hkn _ (z2 q hq), (fun v hv => by cases hv), (fun q hq => by cases hq), Nat.zero_add _, Nat.zero_add _, Nat.le_refl _, fun i _ => rfl⟩
            obtain ⟨t, a1, out, b1, b2, b3⟩ := W0 s₁ hh0 X₀
            rw [lg_entry_eq]
            exact ⟨t, out, a1, b1, b2, b3⟩
      · intro hi s hK
        obtain ⟨ci, T, N, h3, h4⟩ := hin hi
        obtain ⟨b, t, fs, ha, hob⟩ := hrcv ci h3
        refine ⟨b, t, ha, fun ad H hR _ => ?_⟩
        obtain ⟨-, -, ⟨r9, q1, cell, q2, q3, q4, -⟩, -⟩ := hR.1 b ci fs hob
        exact ⟨cell, q2, by rw [q4]; rfl, by rw [q3]; exact (hK.1 ci _ h4).2.1⟩
