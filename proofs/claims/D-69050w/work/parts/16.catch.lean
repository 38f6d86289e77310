/-! THE HANDLER of a method whose table has one entry: an object of class 22 comes to it, the entry's class resolved or not. -/
theorem am_asg (vm : Vm) (c : ClassId) : vm.assignable c c = true := by
  show vm.assignableAux 256 c c = true
  unfold Vm.assignableAux
  simp
/-- the search in a table of one entry that covers the place -/
theorem am_fgo {e : Env} {S : State} {f : JFrame} {a : Addr} {x : ExceptionTableEntry} {cT : ClassId} {cell : Cell} {vm' : Vm} (hvm : vm' = S.vm.noted f.method.cls x.catchType (.cls cT)) (hcov : covers x f.pc = true) (h0 : x.catchType ≠ 0) (hl : S.vm.ClassLinks e.platform f.method.cls x.catchType cT) (hcell : S.heap[a]? = some cell) (hobj : ∀ k, cell.vm ≠ .statics k)
    (hk : ∃ k, vm'.classes[cell.cls]? = some k) (hk2 : ∃ k, vm'.classes[cT]? = some k) (hfit : vm'.assignable cell.cls cT = true) (Q : Handler → Pre) (E : CtlPost) (d : Bool) (acts : List Action) : wp (findHandler.go f a [x]) Q E e d acts S ↔ Q (.found x.handlerPc) d acts (S.setVm vm') := by
  subst hvm
  simp only [covers] at hcov
  obtain ⟨ha, ht⟩ := (resolveClass_links e.toSetting hl).op (op := VmOp.resolveClass f.method.cls x.catchType) rfl
  obtain ⟨k1, hk1⟩ := hk
  obtain ⟨k2, hk2⟩ := hk2
  simp [findHandler.go, hcov, h0, ha, ht, hcell, hobj, hk1, hk2, hfit, VmOp.dirties, VmOp.acts]
/-- a throw comes to the handler that the search found -/
theorem am_caught {tb : Tables} {e : Env} {T target : State} {g : JFrame} {c : Code} {below : List Frame} {a : Addr} (h : At T g.method c below) {pc : Nat} {vm' : Vm}
    (hf : ∀ (Q : Handler → Pre) (E : CtlPost) (d : Bool) (acts : List Action), wp (findHandler g a) Q E e d acts ((T.setTop g).pushFrame (.throwing a)) ↔ Q (.found pc) d acts (((T.setTop g).pushFrame (.throwing a)).setVm vm'))
    (hrest : Steps tb e below ((T.setVm vm').setTop { g with pc := pc, stack := [.ref a] }) target) : Steps tb e below ((T.setTop g).pushFrame (.throwing a)) target := by
  obtain ⟨hgo, hw⟩ := h.throwing a
  refine Steps.head hgo hw ?_
  have hs : ∀ r, (stepThrowing e ((T.setTop g).pushFrame (.throwing a)) a (.java g :: r)).Is ((((T.setTop g).pushFrame (.throwing a)).setVm vm').setFrames (.java { g with pc := pc, stack := [.ref a] } :: r)) [] := by
    intro r
    simp only [stepThrowing, searchFrame, vmDo]
    generalize hr : Sem.go _ e false [] ((T.setTop g).pushFrame (.throwing a)) = res
    obtain ⟨as, rfl, ha⟩ := Sem.eq_ok_of hr (a := Handler.found pc) (s' := ((T.setTop g).pushFrame (.throwing a)).setVm vm') (acts' := []) (by simp [hf])
    exact ⟨rfl, ha⟩
  rw [stepThread_throwing (frames_entered h.top _), (hs _).1]
  obtain ⟨g₀, hg⟩ := Option.isSome_iff_exists.mp h.top
  obtain ⟨r, hr⟩ := State.topJava?_eq_some.mp hg
  have hr' : (T.setVm vm').frames = .java g₀ :: r := hr
  rw [State.setTop_of_frames _ hr'] at hrest
  have e1 : ∀ (u : State) (F G : List Frame), ((u.setFrames F).setVm vm').setFrames G = (u.setVm vm').setFrames G := fun u F G => by
    have h1 : (u.setFrames F).setVm vm' = (u.setVm vm').setFrames F := rfl
    rw [h1, State.setFrames_setFrames]
  rw [hr, List.tail_cons, State.pushFrame, e1, State.setTop_of_frames _ hr, e1]
  exact hrest
section
variable {p : Program} {l : Launch} {e : Env} {R : Room} {s : State} {m : MethodId} {args : Array Value} {below : List Frame} {meth : Method} {c : Code} {D : va_G} {H0 : Heap} {pc : Nat}
theorem am_catch (hts : ∀ w ∈ am_tbl, w.before args s = true) {own : String} (hown : s.vm.findClass own = some m.cls) (hKn : va_K D am_cl [] s) {x : ExceptionTableEntry} (hex : c.exceptionTable.toList = [x]) (hcov : covers x pc = true) (h0 : x.catchType ≠ 0) (hl : Cond.classLink own x.catchType "java/lang/IllegalStateException" ∈ am_tbl) :
    am_CT p l e R s m args below meth c D H0 pc x.handlerPc := by
  intro ad o fs h2 T locs cells slots ls stk Q hR ho X hls hW
  obtain ⟨-, -, ⟨r9, h1, cell, q1, q2, q3, q4⟩, -⟩ := hR.1 o 22 fs ho
  obtain ⟨-, hcT, kT, hkT, -⟩ := hKn.1 22 am_R22 rfl
  have hpl : e.platform.magicAccessors = ({} : Platform).magicAccessors := by rw [X.admits.platform]
  obtain ⟨c', hc', hcl⟩ := Cond.classLink_spec hown (hts _ hl) e.platform hpl
  cases hcT.symm.trans hc'
  obtain ⟨dk, _, _, kt, hd, _, _, _, _, hkt, _, hopen⟩ := hcl.here
  have hcl₀ := X.warmed.classLinks hcl
  have hW' : s.WarmedH (T.vm.noted m.cls x.catchType (.cls (D.1 22))) := X.warmed.noted hd hopen (State.rightAt_cls hcl)
  have X' := X.noted hW'
  obtain ⟨t, a1, b1⟩ := hW (T.setVm (T.vm.noted m.cls x.catchType (.cls (D.1 22)))) rfl X'
  refine ⟨t, ?_, b1⟩
  -- the search
  have hres := (resolveClass_links e.toSetting hcl₀).op (op := VmOp.resolveClass m.cls x.catchType) rfl
  have hal : T.vm.Alike (T.vm.noted m.cls x.catchType (.cls (D.1 22))) := (Vm.Alike.refl T.vm).noted _ _ _
  obtain ⟨kt1, hkt1, -⟩ := (X.warmed.alike).2.2 _ _ hkt
  obtain ⟨kt2, hkt2, -⟩ := hal.2.2 _ _ hkt1
  have hfit : (T.vm.noted m.cls x.catchType (.cls (D.1 22))).assignable cell.cls (D.1 22) = true := by rw [q2]; exact am_asg _ _
  have hobj : ∀ k, cell.vm ≠ .statics k := fun k h9 => by rw [q3] at h9; cases h9
  refine am_caught X.here (vm' := T.vm.noted m.cls x.catchType (.cls (D.1 22))) (fun Q E d acts => ?_) a1
  rw [Jvm.W.findHandler_eq (s := (T.setTop (F0 m pc ls stk)).pushFrame (.throwing (ad o))) (f := F0 m pc ls stk) X.method' X.code, hex]
  exact am_fgo (e := e) (S := (T.setTop (F0 m pc ls stk)).pushFrame (.throwing (ad o))) (f := F0 m pc ls stk) (a := ad o) (x := x) (cT := D.1 22) (cell := cell) (vm' := T.vm.noted m.cls x.catchType (.cls (D.1 22))) rfl hcov h0 hcl₀ q1 hobj ⟨kt2, by rw [q2]; exact hkt2⟩ ⟨kt2, hkt2⟩ hfit Q E d acts
end
