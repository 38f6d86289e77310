/-! calls -/
theorem am_gw_ok : ∀ w ∈ am_tbl, am_gw w = true := List.forall_mem_cons.mpr ⟨rfl, fun w hw => (List.mem_filter.mp hw).2⟩
theorem am_wd {w : Cond} (hw : am_gw w = true) {s U : State} {args a' : Array Value} (hW : s.WarmedH U.vm) (h : w.before args s = true) : w.before a' U = true := by
  unfold am_gw at hw
  rw [Bool.or_eq_true] at hw
  rcases hw with hw | hw
  · exact word_at hW (Or.inl hw) h
  · split at hw
    · exact word_at hW (Or.inr ⟨_, rfl⟩) h
    · exact (va_Nw.warmF hW (va_Nw.of rfl h)).use rfl
    · exact (va_Nw.warmM hW (va_Nw.of rfl h)).use rfl
    · cases hw
/-- all words stand -/
def am_TB (s : State) : Prop := ∀ w ∈ am_tbl, w.before #[] s = true
theorem am_TB.of {s : State} {args : Array Value} (h : ∀ w ∈ am_tbl, w.before args s = true) : am_TB s := fun w hw => am_wd (am_gw_ok w hw) (State.WarmedH.refl s) (h w hw)
theorem am_TB.at_ {s U : State} (h : am_TB s) (hW : s.WarmedH U.vm) (a : Array Value) : ∀ w ∈ am_tbl, w.before a U = true := fun w hw => am_wd (am_gw_ok w hw) hW (h w hw)
/-- a method's code as the tables have it -/
def am_cd (y : MethodName) (bytes : ByteArray) (maxL : Nat) (ret : Option FieldType) (hh : List (Nat × Nat × Nat × Nat)) (U : State) : Prop :=
  ∃ mk meth c, U.methodNamed? y = some mk ∧ U.vm.method? mk = some meth ∧ meth.code = some c ∧ c.code = bytes ∧ c.maxLocals = maxL ∧ c.exceptionTable.toList.map (fun h => (h.startPc, h.endPc, h.handlerPc, h.catchType)) = hh ∧ meth.sig.returnType = ret ∧ meth.locks = false ∧ parseMethodDescriptor y.desc = some meth.sig
theorem am_cd.ofCode {y : MethodName} {bytes : ByteArray} {maxL : Nat} {ret : Option FieldType} {args : Array Value} {s : State} (h : (Cond.code y bytes maxL ret).before args s = true) : am_cd y bytes maxL ret [] s := by
  obtain ⟨mk, hn⟩ := Cond.code_named h
  obtain ⟨meth, c, h1, h2, h3, h4, h5, h6, h7, h8⟩ := Cond.code_spec hn h
  refine ⟨mk, meth, c, hn, h1, h2, h3, h4, ?_, h5, h6, h8⟩
  have : c.exceptionTable = #[] := Array.isEmpty_iff.mp h7
  rw [this]; rfl
theorem am_cd.ofWith {y : MethodName} {bytes : ByteArray} {maxL : Nat} {ret : Option FieldType} {hh : List (Nat × Nat × Nat × Nat)} {args : Array Value} {s : State} (h : (Cond.codeWith y bytes maxL ret hh).before args s = true) : am_cd y bytes maxL ret hh s := by
  obtain ⟨m, meth, c, h1, h2, h3, h4, h5, h6, h7, h8, h9⟩ := Cond.codeWith_spec h
  exact ⟨m, meth, c, h1, h2, h3, h4, h5, h6, h7, h8, h9⟩
def am_out (ad : Nat → Nat) (o : am_O) : Outcome := match o with
  | .inl x => .threw (ad x)
  | .inr v => .returned (v.map (am_cv ad))
def am_ko (h : am_H) (o : am_O) : Prop := match o with
  | .inl x => ∃ fs, h.1 x = some (22, fs)
  | .inr (some v) => am_kn h.2.2.1 v
  | .inr none => True
/-- what holds at a method's end -/
def am_PQ (D : va_G) (H0 : Heap) (ad : Nat → Nat) (n0 cb sb : Nat) (o : am_O) (h2 : am_H) (first : State) (out : Outcome) (t : State) : Prop :=
  ∃ (ad' : Nat → Nat) (L : List Loc) (k n : Nat), out = am_out ad' o ∧ am_HR D H0 ad' h2 first t.heap ∧ am_ko h2 o ∧ n0 ≤ h2.2.2.1 ∧ (∀ i, i < n0 ∨ 1000000 ≤ i → ad' i = ad i) ∧ (∀ q ∈ L, H0.size ≤ q.base) ∧ k + cb = h2.2.2.2.1 ∧ n + sb = h2.2.2.2.2 ∧ first.WarmedH t.vm ∧ first.sameButNew ({ t with vm := first.vm } : State) L k n
def am_rm (d : Nat) (h : am_H) : Room := { frames := d + 1, cells := am_mc - h.2.2.2.1, slots := am_ms - h.2.2.2.2, locals := 64 * (d + 1) }
/-- a method's contract at given arguments, heap, outcome -/
def am_CM (l : Launch) (D : va_G) (H0 : Heap) (y : MethodName) (d : Nat) (a : List am_V) (h : am_H) (o : am_O) (h2 : am_H) : Prop :=
  ∀ ad : Nat → Nat, (∀ v ∈ a, am_kn h.2.2.1 v) → MetFree l y (headSpec am_tbl (am_rm d h)) (fun v U => v = (a.map (am_cv ad)).toArray ∧ am_HR D H0 ad h U U.heap ∧ va_K D am_cl [] U ∧ am_KS H0 ad U) (fun _ _ _ _ _ => True) (fun _ first out t => am_PQ D H0 ad h.2.2.1 h.2.2.2.1 h.2.2.2.2 o h2 first out t)
theorem am_HR.moved {D : va_G} {H0 H : Heap} {ad : Nat → Nat} {h : am_H} {s U : State} (hvm : s.vm.Alike U.vm) (R : am_HR D H0 ad h s H) : am_HR D H0 ad h U H := by
  refine ⟨R.1, ?_, R.2.2⟩
  intro a u ow ty len f ha
  obtain ⟨p0, p1, p2, cell, p3, p4, p5⟩ := R.2.1 a u ow ty len f ha
  exact ⟨p0, p1, p2, cell, p3, State.isArrayOf_alike hvm p4, p5⟩
section
variable {p : Program} {l : Launch} {e : Env} {R : Room} {s : State} {m : MethodId} {args : Array Value} {below : List Frame} {meth : Method} {c : Code} {T : State} {locs : List Loc} {cells slots : Nat} {D : va_G} {H0 : Heap}
/-- the callee runs -/
theorem am_callee (X : Stand p l e R s m args below meth c T locs cells slots) {g : JFrame} (hg : g.method = m) (hsize : g.locals.size = c.maxLocals) (hW : 2 * g.monitorRoom + (g.stack.map fun v => v.category).sum ≤ 8) {ig : Instr} {len : Nat} (hdg : decode c.code g.pc = .ok (ig, len))
    {y : MethodName} {mk : MethodId} (hn : T.methodNamed? y = some mk) {bytes : ByteArray} {maxL : Nat} {ret : Option FieldType} {hh : List (Nat × Nat × Nat × Nat)} (hcd : am_cd y bytes maxL ret hh T) (hmx : maxL ≤ 45) (hTB : am_TB T) (hini : Cond.initialized y.cls ∈ am_tbl)
    {d : Nat} {a : List am_V} {h h2 : am_H} {o : am_O} (hCM : am_CM l D H0 y d a h o h2) (hkn : ∀ v ∈ a, am_kn h.2.2.1 v) {ad : Nat → Nat} (hR : am_HR D H0 ad h T T.heap) (hKn : va_K D am_cl [] T) (hKs : am_KS H0 ad T) (hfr : d + 2 ≤ R.frames) (hlo : 64 * (d + 2) ≤ R.locals) (hcells : cells + (am_mc - h.2.2.2.1) ≤ R.cells) (hslots : slots + (am_ms - h.2.2.2.2) ≤ R.slots) :
    ∃ out s₂, Steps p.tables e below (doInvoke e (T.setTop g) [] mk (a.map (am_cv ad)).toArray).1 s₂ ∧ Ended s₂ (.java g :: below) out ∧ am_PQ D H0 ad h.2.2.1 h.2.2.2.1 h.2.2.2.2 o h2 (T.calling g mk (a.map (am_cv ad)).toArray) out s₂ := by
  obtain ⟨mk', methY, cY, hn', hmY, hcY, -, hlY, -, -, -, -⟩ := hcd
  cases hn.symm.trans hn'
  obtain ⟨kY, hkY, -⟩ := className_of_methodNamed hn
  have hinitY : kY.init = .initialized := Cond.initialized_spec (findClass_of_methodNamed hn) hkY (hTB _ hini)
  have hat : At T g.method c below := by rw [hg]; exact X.here
  have hpre : (headSpec am_tbl (am_rm d h)).pre.before (a.map (am_cv ad)).toArray T = true := atoms_intro (hTB.at_ (State.WarmedH.refl T) _)
  have happ : (headSpec am_tbl (am_rm d h)).appliesLoose y e.platform (T.calling g mk (a.map (am_cv ad)).toArray) = true :=
    Spec.appliesLoose_calling (g := g) hat hdg hn hkY hinitY
      (X.room_calling (g := g) (R' := am_rm d h) hsize hmY hcY (show d + 1 + 1 ≤ R.frames by omega) (show _ + (cY.maxLocals + 11) + 64 * (d + 1) ≤ R.locals by rw [hlY]; omega) hcells hslots) hpre
  obtain ⟨mid, hmid⟩ := hat.above
  have hfr9 : (T.setTop g).frames = (.java g :: mid) ++ below := by rw [State.frames_setTop' g hat.top, hmid]; rfl
  obtain ⟨out, s₂, hsteps, -, hend, hq⟩ := Steps.callFree (hCM ad hkn) p X.admits X.cas X.clock (acts := []) hfr9 happ ⟨rfl, hR.moved (U := T.calling g mk (a.map (am_cv ad)).toArray) (Vm.Alike.refl T.vm), va_K.moved (u := T) (U := T.calling g mk (a.map (am_cv ad)).toArray) (Vm.Alike.refl T.vm) hKn, hKs.warm (U := T.calling g mk (a.map (am_cv ad)).toArray) (State.WarmedH.refl T)⟩ trivial
  rw [State.frames_setTop' g hat.top, X.tail] at hend
  exact ⟨out, s₂, hsteps, hend, hq⟩
/-- back in the caller -/
theorem am_back (X : Stand p l e R s m args below meth c T locs cells slots) {g : JFrame} (hg : g.method = m) {ig : Instr} {len : Nat} (hdg : decode c.code g.pc = .ok (ig, len)) {mk : MethodId} {a : Array Value} {t : State} {v : Option Value} {L : List Loc} {k n : Nat}
    (hend : Ended t (.java g :: below) (.returned v)) (hW : (T.calling g mk a).WarmedH t.vm) (hsame : (T.calling g mk a).sameButNew ({ t with vm := (T.calling g mk a).vm } : State) L k n) :
    ∃ T', Stand p l e R s m args below meth c T' (locs ++ L) (cells + k) (slots + n) ∧ T'.heap = t.heap ∧ t = T'.setTop { g with pc := g.pc + len, stack := v.toList ++ g.stack } := by
  subst hg
  obtain ⟨e2, q2, q3, q4, q5, q6⟩ := hsame
  have e3 : t = ({ (T.calling g mk a).setFrames t.frames with heap := t.heap, slotsUsed := t.slotsUsed } : State).setVm t.vm := by
    have : t = ({ t with vm := (T.calling g mk a).vm } : State).setVm t.vm := rfl
    rw [e2] at this
    exact this
  obtain ⟨c₂, i₂, len₂, hc₂, hd₂, hf₂⟩ := hend
  have hW' : T.WarmedH t.vm := hW
  have hcc : c₂ = c := by
    have h1 : t.code? g.method = T.code? g.method := by rw [State.code?_eq, State.code?_eq, hW'.alike.method?]
    exact Option.some.inj (hc₂.symm.trans (h1.trans X.here.code))
  subst hcc
  have hlen : len₂ = len := by rw [hdg] at hd₂; cases hd₂; rfl
  subst hlen
  obtain ⟨g₀, hr⟩ := X.frames_eq
  have ht : t = (({ T with heap := t.heap, slotsUsed := t.slotsUsed } : State).setVm t.vm).setTop { g with pc := g.pc + len₂, stack := v.toList ++ g.stack } := by
    have hr' : (({ T with heap := t.heap, slotsUsed := t.slotsUsed } : State).setVm t.vm).frames = .java g₀ :: below := hr
    refine e3.trans ?_
    rw [hf₂, State.calling_eq X.here.top, State.setFrames_setFrames, State.setTop_of_frames _ hr']
    rfl
  have hB : T.sameButNew ({ T with heap := t.heap, slotsUsed := t.slotsUsed } : State) L k n := by
    refine ⟨?_, q2, q3, q4, q5, q6⟩
    obtain ⟨th, hth, -⟩ := State.frames_cons hr
    show ({ T with heap := t.heap, slotsUsed := t.slotsUsed } : State) = { T.setFrames T.frames with heap := t.heap, slotsUsed := t.slotsUsed }
    rw [State.setFrames_self hth]
  exact ⟨({ T with heap := t.heap, slotsUsed := t.slotsUsed } : State).setVm t.vm,
    ⟨X.admits, X.cas, X.clock, X.frames, X.room, X.hears, X.method, X.code, (X.here.setHeapUsed t.heap t.slotsUsed).setVm hW'.alike, X.tail, State.WarmedH.trans X.warmed hW', X.limits, X.bytes, X.same.trans (hB.setVm s.vm)⟩, rfl, ht⟩
end
