/-- a call is about to begin: the callee is found, the tables are warmer -/
def am_PC (p : Program) (l : Launch) (e : Env) (R : Room) (s : State) (m : MethodId) (args : Array Value) (below : List Frame) (meth : Method) (c : Code) (y : MethodName) (g : JFrame) (rest : List Value) (a : Array Value) (T : State) (locs : List Loc) (cells slots : Nat) : Prop :=
  ∃ (mk : MethodId) (vm₁ : Vm), s.WarmedH vm₁ ∧ Stand p l e R s m args below meth c (T.setVm vm₁) locs cells slots ∧ (T.setVm vm₁).methodNamed? y = some mk ∧
    ∀ tg, Steps p.tables e below (doInvoke e ((T.setVm vm₁).setTop { g with stack := rest }) [] mk a).1 tg → Steps p.tables e below (T.setTop g) tg
def am_ml (own : String) (i : Nat) (y : MethodName) : Prop := Cond.methodLink own i y ∈ am_tbl ∨ ∃ host, Cond.methodLinkNest own i y host ∈ am_tbl
section
variable {p : Program} {l : Launch} {e : Env} {R : Room} {s : State} {m : MethodId} {args : Array Value} {below : List Frame} {meth : Method} {c : Code} {T : State} {locs : List Loc} {cells slots : Nat}
theorem am_pcV (X : Stand p l e R s m args below meth c T locs cells slots) (hx : p.tables.exec = Jvm.exec) (hts : ∀ w ∈ am_tbl, w.before args s = true) {own C : String} {i : Nat} {y : MethodName} {bytes : ByteArray} {maxL : Nat} {ret : Option FieldType} {hh : List (Nat × Nat × Nat × Nat)}
    (hown : s.vm.findClass own = some m.cls) (hl : am_ml own i y) (hinst : Cond.instanceMethod y ∈ am_tbl) (hsel : Cond.selects C y y ∈ am_tbl) (hcd : am_cd y bytes maxL ret hh s) (hy : y.cls ≠ "java/lang/invoke/MethodHandle" ∧ y.cls ≠ "java/lang/invoke/VarHandle")
    {b : Addr} {cellB : Cell} (hcell : T.heap[b]? = some cellB) (hobj : cellB.vm.isStatics = false) (hcls : s.vm.findClass C = some cellB.cls)
    {g : JFrame} (hg : g.method = m) {argsL rest : List Value} (hlen : ∀ sig, parseMethodDescriptor y.desc = some sig → argsL.length = sig.parameters.length)
    (hstack : g.stack = argsL.reverse ++ .ref b :: rest) (hdg : decode c.code g.pc = .ok (.invokevirtual i, 3)) : am_PC p l e R s m args below meth c y g rest (Value.ref b :: argsL).toArray T locs cells slots := by
  obtain ⟨mk, methM, hnamed, hmethM, hstM, habM⟩ := Cond.instanceMethod_spec (hts _ hinst)
  obtain ⟨mk', methM', cM, hn', hmethM', -, -, -, -, -, -, hsigM⟩ := hcd
  cases hnamed.symm.trans hn'
  cases hmethM.symm.trans hmethM'
  obtain ⟨c2, r2, m2, q1, q2, q3, q4, kP, hkP, hkPi⟩ := Cond.selects_spec (hts _ hsel)
  cases hcls.symm.trans q1
  cases (State.methodFound?_of_named hnamed hy).symm.trans q2
  cases hnamed.symm.trans q3
  have hselP : selectMethod e.platform s.vm cellB.cls mk = .method mk := by rw [Launch.admits_selectMethod X.admits]; exact q4
  rcases hl with hl | ⟨host, hl⟩
  · obtain ⟨vm₁, X₁, hstep₁⟩ := X.invokevirtual hx hown (hts _ hl) hnamed hmethM hstM hkP hkPi hy (a := b) (cell := cellB) hcell
      (fun z h => by rw [h] at hobj; cases hobj) hselP hmethM habM hkP hkPi (g := g) hg (argsL := argsL) (rest := rest) (hlen _ hsigM) hstack hdg
    exact ⟨mk, vm₁, X₁.warmed, X₁, X₁.named hnamed, fun tg h => hstep₁ _ fun acts => by rw [doInvoke_state]; exact h⟩
  · obtain ⟨vm₁, X₁, hstep₁⟩ := X.invokevirtualNest hx hown (hts _ hl) hnamed hmethM hstM hkP hkPi hy (a := b) (cell := cellB) hcell
      (fun z h => by rw [h] at hobj; cases hobj) hselP hmethM habM hkP hkPi (g := g) hg (argsL := argsL) (rest := rest) (hlen _ hsigM) hstack hdg
    exact ⟨mk, vm₁, X₁.warmed, X₁, X₁.named hnamed, fun tg h => hstep₁ _ fun acts => by rw [doInvoke_state]; exact h⟩
theorem am_pcS (X : Stand p l e R s m args below meth c T locs cells slots) (hx : p.tables.exec = Jvm.exec) (hts : ∀ w ∈ am_tbl, w.before args s = true) {own : String} {i : Nat} {y : MethodName} {bytes : ByteArray} {maxL : Nat} {ret : Option FieldType} {hh : List (Nat × Nat × Nat × Nat)}
    (hown : s.vm.findClass own = some m.cls) (hl : am_ml own i y) (hstat : Cond.static y ∈ am_tbl) (hinit : Cond.initialized y.cls ∈ am_tbl) (hcd : am_cd y bytes maxL ret hh s) (hy : y.cls ≠ "java/lang/invoke/MethodHandle" ∧ y.cls ≠ "java/lang/invoke/VarHandle")
    {g : JFrame} (hg : g.method = m) {argsL rest : List Value} (hlen : ∀ sig, parseMethodDescriptor y.desc = some sig → argsL.length = sig.parameters.length)
    (hstack : g.stack = argsL.reverse ++ rest) (hdg : decode c.code g.pc = .ok (.invokestatic i, 3)) : am_PC p l e R s m args below meth c y g rest argsL.toArray T locs cells slots := by
  obtain ⟨mk, methM, cM, hnamed, hmethM, -, -, -, -, -, -, hsigM⟩ := hcd
  have hstatic : methM.isStatic = true := Cond.static_spec hnamed hmethM (hts _ hstat)
  obtain ⟨kP, hkP, -⟩ := className_of_methodNamed hnamed
  have hinitP : kP.init = .initialized := Cond.initialized_spec (findClass_of_methodNamed hnamed) hkP (hts _ hinit)
  rcases hl with hl | ⟨host, hl⟩
  · obtain ⟨vm₁, X₁, hstep₁⟩ := X.invokestatic hx hown (hts _ hl) hnamed hmethM hstatic hkP hinitP hy (g := g) hg (argsL := argsL) (rest := rest) (hlen _ hsigM) hstack hdg
    exact ⟨mk, vm₁, X₁.warmed, X₁, X₁.named hnamed, fun tg h => hstep₁ _ fun acts => by rw [doInvoke_state]; exact h⟩
  · obtain ⟨vm₁, X₁, hstep₁⟩ := X.invokestaticNest hx hown (hts _ hl) hnamed hmethM hstatic hkP hinitP hy (g := g) hg (argsL := argsL) (rest := rest) (hlen _ hsigM) hstack hdg
    exact ⟨mk, vm₁, X₁.warmed, X₁, X₁.named hnamed, fun tg h => hstep₁ _ fun acts => by rw [doInvoke_state]; exact h⟩
theorem am_pcI (X : Stand p l e R s m args below meth c T locs cells slots) (hx : p.tables.exec = Jvm.exec) (hts : ∀ w ∈ am_tbl, w.before args s = true) {own : String} {i : Nat} {y : MethodName} {bytes : ByteArray} {maxL : Nat}
    (hown : s.vm.findClass own = some m.cls) (hl : am_ml own i y) (hy1 : y.name = "<init>") (hinst : Cond.instanceMethod y ∈ am_tbl) (hcode : Cond.code y bytes maxL none ∈ am_tbl) (hy : y.cls ≠ "java/lang/invoke/MethodHandle" ∧ y.cls ≠ "java/lang/invoke/VarHandle")
    {g : JFrame} (hg : g.method = m) {b : Addr} {argsL rest : List Value} (hlen : ∀ sig, parseMethodDescriptor y.desc = some sig → argsL.length = sig.parameters.length)
    (hstack : g.stack = argsL.reverse ++ .ref b :: rest) (hdg : decode c.code g.pc = .ok (.invokespecial i, 3)) : am_PC p l e R s m args below meth c y g rest (Value.ref b :: argsL).toArray T locs cells slots := by
  subst hg
  have hpl : e.platform.magicAccessors = ({} : Platform).magicAccessors := by rw [X.admits.platform]
  rcases hl with hl | ⟨host, hl⟩
  · obtain ⟨mk, methM, cM, kP, vm₁, hnamed, hmethM, hcodeM, -, hlocalsM, -, hkP, -, hW₁, hstep₁⟩ := Steps.initColdArgs (e := e) X.here hx X.warmed hpl hown hy1 hy (hts _ hl) (hts _ hinst) (hts _ hcode) (f := g) rfl hlen hstack hdg
    have X₁ := X.noted hW₁
    exact ⟨mk, vm₁, X₁.warmed, X₁, X₁.named hnamed, fun tg h => hstep₁ _ fun acts => by rw [doInvoke_state]; exact h⟩
  · obtain ⟨mk, methM, cM, kP, vm₁, hnamed, hmethM, hcodeM, -, hlocalsM, -, hkP, -, hW₁, hstep₁⟩ := Steps.initColdArgsNest (e := e) X.here hx X.warmed hpl hown hy1 hy (hts _ hl) (hts _ hinst) (hts _ hcode) (f := g) rfl hlen hstack hdg
    have X₁ := X.noted hW₁
    exact ⟨mk, vm₁, X₁.warmed, X₁, X₁.named hnamed, fun tg h => hstep₁ _ fun acts => by rw [doInvoke_state]; exact h⟩
end
/-- what holds behind a call -/
def am_BK (D : va_G) (H0 : Heap) (ad : Nat → Nat) (h : am_H) (o : am_O) (h2 : am_H) (s : State) (ad' : Nat → Nat) (H' : Heap) (L : List Loc) (k n : Nat) : Prop :=
  am_HR D H0 ad' h2 s H' ∧ am_ko h2 o ∧ h.2.2.1 ≤ h2.2.2.1 ∧ (∀ i, i < h.2.2.1 ∨ 1000000 ≤ i → ad' i = ad i) ∧ (∀ q ∈ L, H0.size ≤ q.base) ∧ k + h.2.2.2.1 = h2.2.2.2.1 ∧ n + h.2.2.2.2 = h2.2.2.2.2
section
variable {p : Program} {l : Launch} {e : Env} {R : Room} {s : State} {m : MethodId} {args : Array Value} {below : List Frame} {meth : Method} {c : Code} {H : Heap} {locs : List Loc} {cells slots : Nat} {D : va_G} {H0 : Heap} {Q : State → Prop}
theorem am_call (hts : ∀ w ∈ am_tbl, w.before args s = true) (hKn : va_K D am_cl [] s) {y : MethodName} {g : JFrame} (hg : g.method = m) (hsize : g.locals.size = c.maxLocals) {rest : List Value} (hW : 2 * g.monitorRoom + (rest.map fun v => v.category).sum ≤ 8) {ig : Instr} (hdg : decode c.code g.pc = .ok (ig, 3))
    {bytes : ByteArray} {maxL : Nat} {ret : Option FieldType} {hh : List (Nat × Nat × Nat × Nat)} (hcd : ∀ U, s.WarmedH U.vm → am_cd y bytes maxL ret hh U) (hmx : maxL ≤ 45) (hini : Cond.initialized y.cls ∈ am_tbl)
    {d : Nat} {a : List am_V} {h h2 : am_H} {o : am_O} (hCM : am_CM l D H0 y d a h o h2) (hkn : ∀ v ∈ a, am_kn h.2.2.1 v) {ad : Nat → Nat} (hKs : am_KS H0 ad s) (hR : am_HR D H0 ad h s H) (hfr : d + 2 ≤ R.frames) (hlo : 64 * (d + 2) ≤ R.locals) (hcells : cells + (am_mc - h.2.2.2.1) ≤ R.cells) (hslots : slots + (am_ms - h.2.2.2.2) ≤ R.slots)
    (hPC : ∀ T, T.heap = H → Stand p l e R s m args below meth c T locs cells slots → am_PC p l e R s m args below meth c y g rest (a.map (am_cv ad)).toArray T locs cells slots)
    (hret : ∀ v, o = .inr v → ∀ ad' H' L k n, am_BK D H0 ad h o h2 s ad' H' L k n → W p l e R s m args below meth c H' (locs ++ L) (cells + k) (slots + n) Q { g with pc := g.pc + 3, stack := (v.map (am_cv ad')).toList ++ rest })
    (hthr : ∀ x, o = .inl x → ∀ ad' T' L k n, am_BK D H0 ad h o h2 s ad' T'.heap L k n → Stand p l e R s m args below meth c T' (locs ++ L) (cells + k) (slots + n) → ∃ t, Steps p.tables e below ((T'.setTop { g with stack := rest }).pushFrame (.throwing (ad' x))) t ∧ Q t) :
    W p l e R s m args below meth c H locs cells slots Q g := by
  intro T hT X
  obtain ⟨mk, vm₁, hW1, X₁, hn, hstep⟩ := hPC T hT X
  have hTB : am_TB (T.setVm vm₁) := fun w hw => am_wd (am_gw_ok w hw) (U := T.setVm vm₁) hW1 (hts w hw)
  have hR1 : am_HR D H0 ad h (T.setVm vm₁) (T.setVm vm₁).heap := by
    have e9 : (T.setVm vm₁).heap = H := hT
    rw [e9]; exact hR.moved (U := T.setVm vm₁) hW1.alike
  obtain ⟨out, s₂, hst, hend, ad', L, k, n, ho, q1, q2, q3, q4, q5, q6, q7, q8, q9⟩ := am_callee X₁ (g := { g with stack := rest }) hg hsize hW hdg hn (hcd _ hW1) hmx hTB hini hCM hkn hR1 (va_K.moved (U := T.setVm vm₁) hW1.alike hKn) (hKs.warm (U := T.setVm vm₁) hW1) hfr hlo hcells hslots
  have hal : ((T.setVm vm₁).calling { g with stack := rest } mk (a.map (am_cv ad)).toArray).vm.Alike s.vm := hW1.alike.symm
  have hBK : am_BK D H0 ad h o h2 s ad' s₂.heap L k n := ⟨q1.moved hal, q2, q3, q4, q5, q6, q7⟩
  rcases o with x | v
  · subst ho
    obtain ⟨T', X', -, -, ht⟩ := X₁.outOfThrown (g := { g with stack := rest }) hg hend q8 q9
    have hh9 : T'.heap = s₂.heap := by rw [ht]; rfl
    obtain ⟨t, a1, b1⟩ := hthr x rfl ad' T' L k n (by rw [hh9]; exact hBK) X'
    exact ⟨t, hstep t (hst.trans (by rw [ht]; exact a1)), b1⟩
  · subst ho
    obtain ⟨T', X', hh9, ht⟩ := am_back X₁ (g := { g with stack := rest }) hg hdg hend q8 q9
    obtain ⟨t, a1, b1⟩ := hret v rfl ad' s₂.heap L k n hBK T' hh9 X'
    exact ⟨t, hstep t (hst.trans (by rw [ht]; exact a1)), b1⟩
end
