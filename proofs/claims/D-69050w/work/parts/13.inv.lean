section
variable {D : va_G} {H0 : Heap} {ad0 : Nat → Nat} {n0 cb sb nL : Nat} {s : State} {ad ad' : Nat → Nat} {H H' : Heap} {locs L : List Loc} {cells slots k n : Nat} {ls : Array Slot} {h h2 : am_H} {lv : List (Nat × am_V)} {st st' : List am_V} {o : am_O}
theorem am_map_bk (hb : ∀ i, i < h.2.2.1 ∨ 1000000 ≤ i → ad' i = ad i) (hk : ∀ v ∈ st, am_kn h.2.2.1 v) : st.map (am_cv ad') = st.map (am_cv ad) := List.map_congr_left fun v hv => am_kn_congr (hk v hv) hb
theorem am_St.bk (S : am_St D H0 ad0 n0 cb sb nL s ad H locs cells slots ls h lv st) (B : am_BK D H0 ad h o h2 s ad' H' L k n) (hst : ∀ v ∈ st', am_kn h2.2.2.1 v) : am_St D H0 ad0 n0 cb sb nL s ad' H' (locs ++ L) (cells + k) (slots + n) ls h2 lv st' := by
  obtain ⟨-, s1, s2, -, s4, s5, s6, s7, s8⟩ := S
  obtain ⟨b1, -, b3, b4, b5, b6, b7⟩ := B
  refine ⟨b1, ?_, fun q hq => am_kn_mono (s2 q hq) b3, hst, ?_, by omega, by omega, by omega, fun i hi => (b4 i (by omega)).trans (s8 i hi)⟩
  · rw [show (lv.map fun q => (q.1, am_cv ad' q.2)) = lv.map fun q => (q.1, am_cv ad q.2) from List.map_congr_left fun q hq => by rw [am_kn_congr (s2 q hq) b4]]
    exact s1
  · intro q hq
    rcases List.mem_append.mp hq with h1 | h1
    · exact s4 q h1
    · exact b5 q h1
end
theorem am_ret_inv {rc : Nat} {K : List am_V → am_H → am_R} {st : List am_V} {v : Option am_V} {h2 : am_H} {r : am_O × am_H} (hr : am_ret rc K st (some (.inr v, h2)) = some r) : K (v.toList ++ st) h2 = some r := by
  unfold am_ret at hr
  split at hr
  · rcases v with _ | v
    · exact hr
    · cases hr
  · rcases v with _ | v
    · cases hr
    · rcases v with v | q
      · cases v <;> first | exact hr | cases hr
      · cases hr
  · rcases v with _ | v
    · cases hr
    · rcases v with v | q
      · cases v <;> first | exact hr | cases hr
      · cases hr
  · rcases v with _ | v
    · cases hr
    · rcases v with v | q
      · cases v <;> first | exact hr | cases hr
      · cases hr
theorem am_ret_thr {rc : Nat} {K : List am_V → am_H → am_R} {st : List am_V} {x : Nat} {h2 : am_H} {r : am_O × am_H} (hr : am_ret rc K st (some (.inl x, h2)) = some r) : r = (.inl x, h2) := by
  unfold am_ret at hr
  split at hr <;> (cases hr; rfl)
theorem am_ret_none {rc : Nat} {K : List am_V → am_H → am_R} {st : List am_V} : am_ret rc K st none = none := by
  unfold am_ret
  split <;> rfl
section
variable {p : Program} {l : Launch} {e : Env} {R : Room} {s : State} {m : MethodId} {args : Array Value} {below : List Frame} {meth : Method} {c : Code} {D : va_G} {H0 : Heap} {ad0 : Nat → Nat} {n0 cb sb nL : Nat} {cc : ByteArray} {pc : Nat} {lv : List (Nat × am_V)} {st : List am_V} {h : am_H} {K : Nat → List (Nat × am_V) → List am_V → am_H → am_R} {r : am_O × am_H} {call : Nat → List am_V → am_H → am_R}
/-- what a handler does: a throw of an object of class 22 comes to it -/
def am_CT (p : Program) (l : Launch) (e : Env) (R : Room) (s : State) (m : MethodId) (args : Array Value) (below : List Frame) (meth : Method) (c : Code) (D : va_G) (H0 : Heap) (pc tgt : Nat) : Prop :=
  ∀ (ad : Nat → Nat) (x : Nat) (fs : Nat → am_V) (h2 : am_H) (T : State) (locs : List Loc) (cells slots : Nat) (ls : Array Slot) (stk : List Value) (Q : State → Prop), am_HR D H0 ad h2 s T.heap → h2.1 x = some (22, fs) → Stand p l e R s m args below meth c T locs cells slots → ls.size = c.maxLocals →
    W p l e R s m args below meth c T.heap locs cells slots Q (F0 m tgt ls [.ref (ad x)]) → ∃ t, Steps p.tables e below ((T.setTop (F0 m pc ls stk)).pushFrame (.throwing (ad x))) t ∧ Q t
theorem am_s_inv (hb : c.code = cc) (hlocks : meth.locks = false) (hml : c.maxLocals = nL) (hK : ∀ pc lv st h, K pc lv st h = some r → am_WG p l e R s m args below meth c D H0 ad0 n0 cb sb nL (am_Q D H0 ad0 n0 cb sb s below r) pc lv st h)
    (hts : ∀ w ∈ am_tbl, w.before args s = true) (hKn : va_K D am_cl [] s) (hKs : am_KS H0 ad0 s) (hRc : am_mc ≤ R.cells + cb) (hRs : am_ms ≤ R.slots + sb) {hd : Option Nat} {X : am_X} {y : MethodName} {bytes : ByteArray} {maxL : Nat} {ret : Option FieldType} {hh : List (Nat × Nat × Nat × Nat)} (hcd : ∀ U, s.WarmedH U.vm → am_cd y bytes maxL ret hh U) (hmx : maxL ≤ 45) (hini : Cond.initialized y.cls ∈ am_tbl)
    {d : Nat} (hfr : d + 2 ≤ R.frames) (hlo : 64 * (d + 2) ≤ R.locals) (hC : ∀ o h2, call X.1 (st.take X.2.1).reverse h = some (o, h2) → am_CM l D H0 y d (st.take X.2.1).reverse h o h2)
    (hPC : ∀ ad H locs cells slots ls, am_St D H0 ad0 n0 cb sb nL s ad H locs cells slots ls h lv st → ∀ o h2, call X.1 (st.take X.2.1).reverse h = some (o, h2) → X.2.1 ≤ st.length → ∀ T, T.heap = H → Stand p l e R s m args below meth c T locs cells slots → am_PC p l e R s m args below meth c y (F0 m pc ls (st.map (am_cv ad))) ((st.drop X.2.1).map (am_cv ad)) ((st.take X.2.1).reverse.map (am_cv ad)).toArray T locs cells slots)
    (hout : hd = none → ∀ x ∈ c.exceptionTable.toList, covers x pc = false) (hcatch : ∀ t, hd = some t → am_CT p l e R s m args below meth c D H0 pc t) {ig : Instr} (hdc : decode cc pc = .ok (ig, 3)) (hrun : am_inv call hd X pc lv st h K = some r) :
    am_WG p l e R s m args below meth c D H0 ad0 n0 cb sb nL (am_Q D H0 ad0 n0 cb sb s below r) pc lv st h := by
  intro ad H locs cells slots ls S
  unfold am_inv at hrun
  split at hrun
  · cases hrun
  rename_i hck
  rw [Bool.and_eq_true] at hck
  have hlen := Nat.le_of_ble_eq_true hck.1
  have hwd := Nat.le_of_ble_eq_true hck.2
  have hkd : ∀ v ∈ st.drop X.2.1, am_kn h.2.2.1 v := fun v hv => S.2.2.2.1 v (List.mem_of_mem_drop hv)
  have hka : ∀ v ∈ (st.take X.2.1).reverse, am_kn h.2.2.1 v := fun v hv => S.2.2.2.1 v (List.mem_of_mem_take (List.mem_reverse.mp hv))
  have s5 := S.2.2.2.2.2.1
  have s6 := S.2.2.2.2.2.2.1
  have hnc := S.1.2.2.2.2.2.2.1
  have hns := S.1.2.2.2.2.2.2.2
  subst hb
  have hls : ls.size = c.maxLocals := by rw [hml]; exact S.2.1.1
  -- the call's own outcome
  have key : ∀ o h2, call X.1 (st.take X.2.1).reverse h = some (o, h2) →
      (∀ v, o = .inr v → ∀ ad' H' L k n, am_BK D H0 ad h o h2 s ad' H' L k n → W p l e R s m args below meth c H' (locs ++ L) (cells + k) (slots + n) (am_Q D H0 ad0 n0 cb sb s below r) (F0 m (pc + 3) ls ((v.map (am_cv ad')).toList ++ (st.drop X.2.1).map (am_cv ad)))) →
      (∀ x, o = .inl x → ∀ ad' T' L k n, am_BK D H0 ad h o h2 s ad' T'.heap L k n → Stand p l e R s m args below meth c T' (locs ++ L) (cells + k) (slots + n) → ∃ t, Steps p.tables e below ((T'.setTop (F0 m pc ls ((st.drop X.2.1).map (am_cv ad)))).pushFrame (.throwing (ad' x))) t ∧ am_Q D H0 ad0 n0 cb sb s below r t) →
      W p l e R s m args below meth c H locs cells slots (am_Q D H0 ad0 n0 cb sb s below r) (F0 m pc ls (st.map (am_cv ad))) := by
    intro o h2 hcall h1 h3
    refine am_call (rest := (st.drop X.2.1).map (am_cv ad)) hts hKn rfl hls ?_ hdc hcd hmx hini (hC o h2 hcall) hka (hKs.congr fun i hi => S.2.2.2.2.2.2.2.2 i (Or.inr hi)) S.1 hfr hlo ?_ ?_ (hPC ad H locs cells slots ls S o h2 hcall hlen) h1 h3
    · rw [am_words_map]
      have : (F0 m pc ls (st.map (am_cv ad))).monitorRoom = 0 := rfl
      omega
    · have := hnc; omega
    · omega
  have retG : ∀ v h2, K (pc + 3) lv (v.toList ++ st.drop X.2.1) h2 = some r → ∀ ad' H' L k n, am_BK D H0 ad h (.inr v) h2 s ad' H' L k n → W p l e R s m args below meth c H' (locs ++ L) (cells + k) (slots + n) (am_Q D H0 ad0 n0 cb sb s below r) (F0 m (pc + 3) ls ((v.map (am_cv ad')).toList ++ (st.drop X.2.1).map (am_cv ad))) := by
    intro v h2 hk ad' H' L k n B
    have hst : ∀ w ∈ v.toList ++ st.drop X.2.1, am_kn h2.2.2.1 w := by
      intro w hw
      rcases List.mem_append.mp hw with h9 | h9
      · rcases v with _ | v
        · cases h9
        · rw [List.mem_singleton.mp h9]; exact B.2.1
      · exact am_kn_mono (hkd w h9) B.2.2.1
    have go := hK _ _ _ _ hk ad' H' (locs ++ L) (cells + k) (slots + n) ls (S.bk B hst)
    have e9 : (v.toList ++ st.drop X.2.1).map (am_cv ad') = (v.map (am_cv ad')).toList ++ (st.drop X.2.1).map (am_cv ad) := by
      rw [List.map_append, am_map_bk B.2.2.2.1 hkd]
      rcases v with _ | v <;> rfl
    rw [e9] at go
    exact go
  rcases hd with _ | tg
  · -- no handler
    cases hcall : call X.1 (st.take X.2.1).reverse h with
    | none => rw [hcall] at hrun; dsimp only at hrun; rw [am_ret_none] at hrun; cases hrun
    | some q =>
      obtain ⟨o, h2⟩ := q
      rw [hcall] at hrun
      dsimp only at hrun
      refine key o h2 hcall ?_ ?_
      · rintro v rfl
        exact retG v h2 (am_ret_inv hrun)
      · rintro x rfl ad' T' L k n B X'
        have hr := am_ret_thr hrun
        subst hr
        obtain ⟨a1, a2, a3, a4, a5⟩ := X'.leaveThrown (ad' x) (g := F0 m pc ls ((st.drop X.2.1).map (am_cv ad))) rfl rfl rfl (hout rfl) (hlocks := hlocks)
        refine ⟨_, a1, .threw (ad' x), a2, a3, ad', locs ++ L, cells + k, slots + n, rfl, B.1, B.2.1, ?_⟩
        have S' := S.bk (st' := []) B (fun _ h9 => by cases h9)
        exact ⟨S'.2.2.2.2.2.2.2.1, S'.2.2.2.2.2.2.2.2, S'.2.2.2.2.1, S'.2.2.2.2.2.1, S'.2.2.2.2.2.2.1, a4, a5⟩
  · cases hcall : call X.1 (st.take X.2.1).reverse h with
    | none => rw [hcall] at hrun; cases hrun
    | some q =>
      obtain ⟨o, h2⟩ := q
      rw [hcall] at hrun
      dsimp only at hrun
      refine key o h2 hcall ?_ ?_
      · rintro v rfl
        exact retG v h2 (am_ret_inv (K := fun st h => K (pc + 3) lv st h) (st := st.drop X.2.1) (rc := X.2.2.1) hrun)
      · rintro x rfl ad' T' L k n B X'
        have hrun : K tg lv [.inl (.ref x)] h2 = some r := hrun
        obtain ⟨fs, hfs⟩ := B.2.1
        have hxn : x < h2.2.2.1 := (B.1.1 x _ fs hfs).1
        have go := hK _ _ _ _ hrun ad' T'.heap (locs ++ L) (cells + k) (slots + n) ls (S.bk B (fun w hw => by rw [List.mem_singleton.mp hw]; exact Or.inl hxn))
        exact hcatch tg rfl ad' x fs h2 T' (locs ++ L) (cells + k) (slots + n) ls _ _ B.1 hfs X' hls go
end
