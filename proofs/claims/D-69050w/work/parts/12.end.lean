/-! the ends of a frame, and calls in it -/
def am_Q (D : va_G) (H0 : Heap) (ad0 : Nat → Nat) (n0 cb sb : Nat) (s : State) (below : List Frame) (r : am_O × am_H) : State → Prop := fun t => ∃ out, t.status = .running ∧ Ended t below out ∧ am_PQ D H0 ad0 n0 cb sb r.1 r.2 s out t
section
variable {p : Program} {l : Launch} {e : Env} {R : Room} {s : State} {m : MethodId} {args : Array Value} {below : List Frame} {meth : Method} {c : Code} {D : va_G} {H0 : Heap} {ad0 : Nat → Nat} {n0 cb sb nL : Nat} {cc : ByteArray} {pc : Nat} {lv : List (Nat × am_V)} {st : List am_V} {h : am_H} {K : Nat → List (Nat × am_V) → List am_V → am_H → am_R} {r : am_O × am_H}
theorem am_W_mono {H : Heap} {locs : List Loc} {cells slots : Nat} {Q Q' : State → Prop} {g : JFrame} (w : W p l e R s m args below meth c H locs cells slots Q g) (hq : ∀ t, Q t → Q' t) : W p l e R s m args below meth c H locs cells slots Q' g := fun T hT X => by
  obtain ⟨t, a, b⟩ := w T hT X
  exact ⟨t, a, hq t b⟩
/-- from the kit's end to ours -/
theorem am_endQ {ad : Nat → Nat} {H : Heap} {locs : List Loc} {cells slots : Nat} {ls : Array Slot} (S : am_St D H0 ad0 n0 cb sb nL s ad H locs cells slots ls h lv st) {v : Option am_V} (hv : am_ko h (.inr v)) {t : State}
    (hq : MQ below (fun _ _ o t => o = .returned (v.map (am_cv ad)) ∧ t.heap = H) args s cells slots (fun q => H0.size ≤ q) t) : am_Q D H0 ad0 n0 cb sb s below (.inr v, h) t := by
  obtain ⟨o, h1, h2, ⟨h3, h4⟩, L, ⟨-, h5, h6⟩, h7⟩ := hq
  exact ⟨o, h1, h2, ad, L, cells, slots, h3, by rw [h4]; exact S.1, hv, S.2.2.2.2.2.2.2.1, S.2.2.2.2.2.2.2.2, h7, S.2.2.2.2.2.1, S.2.2.2.2.2.2.1, h5, h6⟩
theorem am_s_return (hx : p.tables.exec = Jvm.exec) (hb : c.code = cc) (hlocks : meth.locks = false) (hr : meth.sig.returnType = none) (hd : decode cc pc = .ok (.return_, 1))
    (hrun : (match st with
      | [] => some (.inr none, h)
      | _ => none) = some r) : am_WG p l e R s m args below meth c D H0 ad0 n0 cb sb nL (am_Q D H0 ad0 n0 cb sb s below r) pc lv st h := by
  intro ad H locs cells slots ls S
  split at hrun
  · cases hrun
    exact am_W_mono (W.vret (free := fun q => H0.size ≤ q) (Qc := fun _ _ o t => o = .returned (Option.map (am_cv ad) none) ∧ t.heap = H) hx hb hr (fun t ht _ => ⟨rfl, ht⟩) S.2.2.2.2.1 hd) (fun t hq => am_endQ (v := none) S trivial hq)
  · cases hrun
theorem am_s_ireturn (hx : p.tables.exec = Jvm.exec) (hb : c.code = cc) (hlocks : meth.locks = false) {X : am_X} {ty : FieldType} (hr : meth.sig.returnType = some ty) (hty : (X.1 = 0 ∧ ty = .int) ∨ (X.1 ≠ 0 ∧ ty = .boolean)) (hd : decode cc pc = .ok (.ireturn, 1))
    (hrun : (match st with
      | [.inl (.int x)] => (match X.1 with
        | 0 => some (.inr (some (.inl (.int x))), h)
        | _ => am_b01 x (some (.inr (some (.inl (.int x))), h)))
      | _ => none) = some r) : am_WG p l e R s m args below meth c D H0 ad0 n0 cb sb nL (am_Q D H0 ad0 n0 cb sb s below r) pc lv st h := by
  intro ad H locs cells slots ls S
  split at hrun
  · rename_i x
    have key : narrow ty (.int x) = .int x ∧ r = (.inr (some (.inl (.int x))), h) := by
      rcases hty with ⟨h0, rfl⟩ | ⟨h0, rfl⟩
      · rw [h0] at hrun
        cases hrun; exact ⟨rfl, rfl⟩
      · split at hrun
        · exact absurd (by assumption) h0
        · unfold am_b01 at hrun
          split at hrun
          · rename_i hb9
            cases hrun
            refine ⟨?_, rfl⟩
            rw [Bool.or_eq_true, beq_iff_eq, beq_iff_eq] at hb9
            rcases hb9 with rfl | rfl <;> rfl
          · cases hrun
    obtain ⟨k1, rfl⟩ := key
    exact am_W_mono (W.zret (free := fun q => H0.size ≤ q) (Qc := fun _ _ o t => o = .returned (Option.map (am_cv ad) (some (.inl (.int x)))) ∧ t.heap = H) hx hb hr k1 (fun t ht _ => ⟨rfl, ht⟩) S.2.2.2.2.1 hd) (fun t hq => am_endQ (v := some (.inl (.int x))) S trivial hq)
  · cases hrun
theorem am_s_lreturn (hx : p.tables.exec = Jvm.exec) (hb : c.code = cc) (hlocks : meth.locks = false) (hr : meth.sig.returnType = some .long) (hd : decode cc pc = .ok (.lreturn, 1))
    (hrun : (match st with
      | [.inl (.long x)] => some (.inr (some (.inl (.long x))), h)
      | _ => none) = some r) : am_WG p l e R s m args below meth c D H0 ad0 n0 cb sb nL (am_Q D H0 ad0 n0 cb sb s below r) pc lv st h := by
  intro ad H locs cells slots ls S
  split at hrun
  · rename_i x
    cases hrun
    exact am_W_mono (W.lret (free := fun q => H0.size ≤ q) (Qc := fun _ _ o t => o = .returned (Option.map (am_cv ad) (some (.inl (.long x)))) ∧ t.heap = H) hx hb hr (fun t ht _ => ⟨rfl, ht⟩) S.2.2.2.2.1 hd) (fun t hq => am_endQ (v := some (.inl (.long x))) S trivial hq)
  · cases hrun
theorem am_s_areturn (hx : p.tables.exec = Jvm.exec) (hb : c.code = cc) (hlocks : meth.locks = false) {C : String} (hr : meth.sig.returnType = some (.object C)) (hd : decode cc pc = .ok (.areturn, 1))
    (hrun : (match st with
      | [.inl (.ref x)] => some (.inr (some (.inl (.ref x))), h)
      | _ => none) = some r) : am_WG p l e R s m args below meth c D H0 ad0 n0 cb sb nL (am_Q D H0 ad0 n0 cb sb s below r) pc lv st h := by
  intro ad H locs cells slots ls S
  split at hrun
  · rename_i x
    cases hrun
    exact am_W_mono (W.aret (free := fun q => H0.size ≤ q) (Qc := fun _ _ o t => o = .returned (Option.map (am_cv ad) (some (.inl (.ref x)))) ∧ t.heap = H) (v := .ref (ad x)) hx hb hr (Or.inl ⟨_, rfl⟩) (Or.inr ⟨_, rfl⟩) (fun t ht _ => ⟨rfl, ht⟩) S.2.2.2.2.1 hd) (fun t hq => am_endQ (v := some (.inl (.ref x))) S (am_kn_hd S.2.2.2.1) hq)
  · cases hrun
theorem am_s_athrow (hx : p.tables.exec = Jvm.exec) (hb : c.code = cc) (hlocks : meth.locks = false) {hd : Option Nat} (hdc : decode cc pc = .ok (.athrow, 1))
    (hrun : (match hd with
      | none => am_o1 st fun x _ => am_ob h 22 x fun _ => some (.inl x, h)
      | some _ => none) = some r) (hout : hd = none → ∀ x ∈ c.exceptionTable.toList, covers x pc = false) : am_WG p l e R s m args below meth c D H0 ad0 n0 cb sb nL (am_Q D H0 ad0 n0 cb sb s below r) pc lv st h := by
  intro ad H locs cells slots ls S
  rcases hd with _ | t0
  · obtain ⟨x, t, rfl, h2⟩ := am_o1_inv hrun
    obtain ⟨fs, ho, h3⟩ := am_ob_inv h2
    cases h3
    intro T hT X
    subst hb
    obtain ⟨a1, a2, a3, a4, a5⟩ := X.athrowLeaves hx (g := F0 m pc ls (Value.ref (ad x) :: t.map (am_cv ad))) rfl rfl rfl (hout rfl) rfl hdc (hlocks := hlocks)
    refine ⟨_, a1, .threw (ad x), a2, a3, ad, locs, cells, slots, rfl, ?_, ⟨fs, ho⟩, S.2.2.2.2.2.2.2.1, S.2.2.2.2.2.2.2.2, S.2.2.2.2.1, S.2.2.2.2.2.1, S.2.2.2.2.2.2.1, a4, a5⟩
    have e9 : (T.setFrames (.throwing (ad x) :: below)).heap = H := hT
    rw [e9]; exact S.1
  · cases hrun
end
