/-! WHAT MUST HOLD OF AN INSTRUCTION'S ROW, and that a step is sound. -/
def am_len (ins : Instr) (X : am_X) : Nat := match ins with
  | .bipush _ => 2
  | .ldc _ => 2
  | .iload _ => 2
  | .lload _ => 2
  | .aload _ => 2
  | .istore _ => 2
  | .lstore _ => 2
  | .astore _ => 2
  | .newarray _ => 2
  | .sipush _ => 3
  | .ldc_w _ => 3
  | .ldc2_w _ => 3
  | .iinc _ _ => 3
  | .ifCond _ _ => 3
  | .if_icmp _ _ => 3
  | .goto _ => 3
  | .getfield _ => 3
  | .putfield _ => 3
  | .invokevirtual _ => 3
  | .invokespecial _ => 3
  | .invokestatic _ => 3
  | .new _ => 3
  | .tableswitch .. => X.1
  | .lookupswitch .. => X.1
  | _ => 1
def am_okF (own : String) (i ci k t : Nat) : Prop := ∃ C T N, am_cl[ci]? = some (C, T, N) ∧ k < N ∧ am_tcd (am_ty ci k) = t ∧ t ≤ 3 ∧ am_lnk own i T k
def am_okP (own nm : String) (i ci k t : Nat) : Prop := ∃ C T N, am_cl[ci]? = some (C, T, N) ∧ k < N ∧ am_tcd (am_ty ci k) = t ∧ t ≤ 3 ∧ am_lnk own i T k ∧ am_may own nm T k
/-- a callee's code stands in the tables -/
def am_okC (y : MethodName) (np : Nat) : Prop := (∃ bytes maxL ret hh, maxL ≤ 45 ∧ ((hh = [] ∧ Cond.code y bytes maxL ret ∈ am_tbl) ∨ Cond.codeWith y bytes maxL ret hh ∈ am_tbl)) ∧ Cond.initialized y.cls ∈ am_tbl ∧ (y.cls ≠ "java/lang/invoke/MethodHandle" ∧ y.cls ≠ "java/lang/invoke/VarHandle") ∧ ∀ sig, parseMethodDescriptor y.desc = some sig → np = sig.parameters.length
def am_okV (own : String) (i : Nat) (y : MethodName) (n : Nat) : Prop := ∃ np, n = np + 1 ∧ am_ml own i y ∧ Cond.instanceMethod y ∈ am_tbl ∧ Cond.selects y.cls y y ∈ am_tbl ∧ am_okC y np
def am_okN (own : String) (i : Nat) (y : MethodName) (n : Nat) : Prop := ∃ np, n = np + 1 ∧ am_ml own i y ∧ y.name = "<init>" ∧ Cond.instanceMethod y ∈ am_tbl ∧ (∃ bytes maxL, Cond.code y bytes maxL none ∈ am_tbl) ∧ am_okC y np
def am_okT (own : String) (i : Nat) (y : MethodName) (n : Nat) : Prop := am_ml own i y ∧ Cond.static y ∈ am_tbl ∧ am_okC y n
/-- words that stand for every method -/
abbrev am_hoi : Prop := Cond.instanceMethod objectInit ∈ am_tbl ∧ Cond.code objectInit ⟨#[0xb1]⟩ 1 none ∈ am_tbl ∧ Cond.native arraycopyName ∈ am_tbl ∧ Cond.static arraycopyName ∈ am_tbl ∧ Cond.initialized "java/lang/System" ∈ am_tbl
def am_okI (nmf : Nat → MethodName) (inst : Nat → Prop) (own nm : String) (cc : ByteArray) (nL : Nat) (ret : Option FieldType) (pc : Nat) (ins : Instr) (X : am_X) : Prop := decode cc pc = .ok (ins, am_len ins X) ∧ (match ins with
  | .istore_n k => (k : Nat) < nL
  | .istore k => k < nL
  | .astore_n k => (k : Nat) < nL
  | .astore k => k < nL
  | .lstore_n k => (k : Nat) + 1 < nL
  | .lstore k => k + 1 < nL
  | .iinc k _ => k < nL
  | .ifCond _ off => ∃ t : Nat, (pc : Int) + off = (t : Int)
  | .if_icmp _ off => ∃ t : Nat, (pc : Int) + off = (t : Int)
  | .tableswitch _ lo hi offs => -2147483648 ≤ lo ∧ hi < 2147483648 ∧ (offs.size : Int) = hi - lo + 1
  | .lookupswitch _ ps => (∀ q ∈ ps.toList, -2147483648 ≤ q.1 ∧ q.1 < 2147483648) ∧ (ps.toList.zip (ps.toList.drop 1)).all (fun (a, next) => a.1 < next.1) = true
  | .getfield i => am_okF own i X.1 X.2.1 X.2.2.1
  | .putfield i => am_okP own nm i X.1 X.2.1 X.2.2.1
  | .newarray t => Cond.arrayClass (newarray.typeOf t) ∈ am_tbl ∧ defaultValue (newarray.typeOf t) = .int 0
  | .new i => ∃ C T N, am_cl[X.1]? = some (C, T, N) ∧ X.2.1 = am_sz X.1 ∧ Cond.classLink own i C ∈ am_tbl
  | .ldc i => (X.1 = 0 ∧ Cond.constant own i (Int32.ofInt X.2.2.2) ∈ am_tbl) ∨ (X.1 ≠ 0 ∧ ∃ oc tx, own = am_own oc ∧ (oc, i, X.2.1, tx) ∈ am_sT)
  | .ldc_w i => X.1 = 0 ∧ Cond.constant own i (Int32.ofInt X.2.2.2) ∈ am_tbl
  | .ldc2_w i => Cond.constantLong own i (Int64.ofInt X.2.2.2) ∈ am_tbl
  | .invokevirtual i => am_okV own i (nmf X.1) X.2.1 ∧ inst X.1
  | .invokespecial i => (X.1 = 0 ∧ Cond.methodLink own i objectInit ∈ am_tbl) ∨ (X.1 ≠ 0 ∧ am_okN own i (nmf X.1) X.2.1 ∧ inst X.1)
  | .invokestatic i => (X.1 = 901 ∧ Cond.methodLink own i arraycopyName ∈ am_tbl) ∨ (X.1 ≠ 901 ∧ am_okT own i (nmf X.1) X.2.1)
  | .ireturn => (X.1 = 0 ∧ ret = some .int) ∨ (X.1 ≠ 0 ∧ ret = some .boolean)
  | .lreturn => ret = some .long
  | .areturn => ∃ C, ret = some (.object C)
  | .return_ => ret = none
  | _ => True)
theorem am_okC.cd {y : MethodName} {np : Nat} (h : am_okC y np) {s : State} {args : Array Value} (hts : ∀ w ∈ am_tbl, w.before args s = true) : ∃ bytes maxL ret hh, maxL ≤ 45 ∧ ∀ U, s.WarmedH U.vm → am_cd y bytes maxL ret hh U := by
  obtain ⟨⟨bytes, maxL, ret, hh, h1, h2⟩, -⟩ := h
  refine ⟨bytes, maxL, ret, hh, h1, fun U hW => ?_⟩
  rcases h2 with ⟨rfl, h2⟩ | h2
  · exact am_cd.ofCode (args := #[]) (am_wd (am_gw_ok _ h2) hW (hts _ h2))
  · exact am_cd.ofWith (args := #[]) (am_wd (am_gw_ok _ h2) hW (hts _ h2))
theorem am_stk_split {st : List am_V} {n b : Nat} {t : List am_V} (ha : (st.take n).reverse = .inl (.ref b) :: t) (ad : Nat → Nat) : st.map (am_cv ad) = (t.map (am_cv ad)).reverse ++ .ref (ad b) :: (st.drop n).map (am_cv ad) := by
  have h1 : st.take n = t.reverse ++ [.inl (.ref b)] := by
    have := congrArg List.reverse ha
    rw [List.reverse_reverse, List.reverse_cons] at this
    exact this
  have h2 : st.map (am_cv ad) = (st.take n ++ st.drop n).map (am_cv ad) := by rw [List.take_append_drop]
  rw [h2, h1]
  simp [am_cv]
/-- the receiver is an object of the method's class -/
def am_RV (D : va_G) (H0 : Heap) (s : State) (y : MethodName) (a : List am_V) (h : am_H) : Prop := ∃ b t, a = .inl (.ref b) :: t ∧ ∀ ad H, am_HR D H0 ad h s H → am_KS H0 ad s → ∃ cell : Cell, H[ad b]? = some cell ∧ cell.vm.isStatics = false ∧ s.vm.findClass y.cls = some cell.cls
section
variable {p : Program} {l : Launch} {e : Env} {R : Room} {s : State} {m : MethodId} {args : Array Value} {below : List Frame} {meth : Method} {c : Code} {D : va_G} {H0 : Heap} {ad0 : Nat → Nat} {n0 cb sb nL : Nat} {cc : ByteArray} {pc : Nat} {lv : List (Nat × am_V)} {st : List am_V} {h : am_H} {K : Nat → List (Nat × am_V) → List am_V → am_H → am_R} {r : am_O × am_H} {call : Nat → List am_V → am_H → am_R}
theorem am_s_ldcI (hx : p.tables.exec = Jvm.exec) (hb : c.code = cc) (hK : ∀ pc lv st h, K pc lv st h = some r → am_WG p l e R s m args below meth c D H0 ad0 n0 cb sb nL (am_Q D H0 ad0 n0 cb sb s below r) pc lv st h) (hts : ∀ w ∈ am_tbl, w.before args s = true) {own : String} (hown : s.vm.findClass own = some m.cls) (hKs : am_KS H0 ad0 s) {X : am_X} {i : Nat}
    (hok : (X.1 = 0 ∧ Cond.constant own i (Int32.ofInt X.2.2.2) ∈ am_tbl) ∨ (X.1 ≠ 0 ∧ ∃ oc tx, own = am_own oc ∧ (oc, i, X.2.1, tx) ∈ am_sT)) (hd : decode cc pc = .ok (.ldc i, 2))
    (hrun : K (pc + 2) lv ((match X.1 with
      | 0 => .inl (.int (Int32.ofInt X.2.2.2))
      | _ => .inl (.ref X.2.1)) :: st) h = some r) : am_WG p l e R s m args below meth c D H0 ad0 n0 cb sb nL (am_Q D H0 ad0 n0 cb sb s below r) pc lv st h := by
  intro ad H locs cells slots ls S
  rcases hok with ⟨h0, h1⟩ | ⟨h0, oc, tx, rfl, h1⟩
  · rw [h0] at hrun
    exact lv_ldc hx hb hown (hts _ h1) hd (hK _ _ _ _ hrun ad H locs cells slots ls (S.stk (am_kn_cons trivial S.2.2.2.1)))
  · have e9 : (match X.1 with
      | 0 => .inl (.int (Int32.ofInt X.2.2.2))
      | _ => .inl (.ref X.2.1) : am_V) = .inl (.ref X.2.1) := by
      split
      · exact absurd (by assumption) h0
      · rfl
    rw [e9] at hrun
    have hbig := am_sT_big _ h1
    have hZ := hKs.1 _ h1
    have e8 : ad X.2.1 = ad0 X.2.1 := S.2.2.2.2.2.2.2.2 _ (Or.inr hbig)
    have hZ : vk_R (am_own oc) i tx (ad X.2.1) s := by rw [e8]; exact hZ
    exact va_ldcS hx hb hown hZ hd (hK _ _ _ _ hrun ad H locs cells slots ls (S.stk (am_kn_cons (Or.inr hbig) S.2.2.2.1)))
/-- A STEP IS SOUND. -/
theorem am_step_sound (hx : p.tables.exec = Jvm.exec) (hb : c.code = cc) (hml : c.maxLocals = nL) (hlocks : meth.locks = false) {ret : Option FieldType} (hret : meth.sig.returnType = ret) {own nm : String} (hown : s.vm.findClass own = some m.cls) (hnm : meth.name = nm) (hts : ∀ w ∈ am_tbl, w.before args s = true) (hoi : am_hoi) (hKn : va_K D am_cl [] s) (hKs : am_KS H0 ad0 s) (hRc : am_mc ≤ R.cells + cb) (hRs : am_ms ≤ R.slots + sb)
    {d : Nat} (hfr : d + 1 ≤ R.frames) (hlo : 64 * (d + 1) ≤ R.locals) {nmf : Nat → MethodName} {inst : Nat → Prop} (hcall : ∀ i a h o h2, call i a h = some (o, h2) → ∃ d', d = d' + 1 ∧ am_CM l D H0 (nmf i) d' a h o h2 ∧ (inst i → am_RV D H0 s (nmf i) a h))
    {hd : Option Nat} (hout : hd = none → ∀ x ∈ c.exceptionTable.toList, covers x pc = false) (hcatch : ∀ t, hd = some t → am_CT p l e R s m args below meth c D H0 pc t)
    (hK : ∀ pc lv st h, K pc lv st h = some r → am_WG p l e R s m args below meth c D H0 ad0 n0 cb sb nL (am_Q D H0 ad0 n0 cb sb s below r) pc lv st h) {ins : Instr} {X : am_X} (hok : am_okI nmf inst own nm cc nL ret pc ins X) (hrun : am_step call hd am_dfl ins X pc lv st h K = some r) :
    am_WG p l e R s m args below meth c D H0 ad0 n0 cb sb nL (am_Q D H0 ad0 n0 cb sb s below r) pc lv st h := by
  obtain ⟨hdc, hok⟩ := hok
  have inv : ∀ {np : Nat} {ig : Instr}, am_okC (nmf X.1) np → decode cc pc = .ok (ig, 3) → am_inv call hd X pc lv st h K = some r →
      (∀ ad H locs cells slots ls, am_St D H0 ad0 n0 cb sb nL s ad H locs cells slots ls h lv st → ∀ o h2, call X.1 (st.take X.2.1).reverse h = some (o, h2) → X.2.1 ≤ st.length → ∀ T, T.heap = H → Stand p l e R s m args below meth c T locs cells slots → am_PC p l e R s m args below meth c (nmf X.1) (F0 m pc ls (st.map (am_cv ad))) ((st.drop X.2.1).map (am_cv ad)) ((st.take X.2.1).reverse.map (am_cv ad)).toArray T locs cells slots) →
      am_WG p l e R s m args below meth c D H0 ad0 n0 cb sb nL (am_Q D H0 ad0 n0 cb sb s below r) pc lv st h := by
    intro np ig hC h3 h4 h5
    obtain ⟨bytes, maxL, ret', hh, hmx, hcd⟩ := hC.cd hts
    rcases d with _ | d
    · -- no depth left: the call cannot have answered
      have hno : call X.1 (st.take X.2.1).reverse h = none := by
        cases hc : call X.1 (st.take X.2.1).reverse h with
        | none => rfl
        | some q => obtain ⟨d', h9, -⟩ := hcall X.1 _ _ q.1 q.2 hc; omega
      unfold am_inv at h4
      split at h4
      · cases h4
      · rw [hno] at h4
        split at h4
        · rw [am_ret_none] at h4; cases h4
        · cases h4
    · exact am_s_inv hb hlocks hml hK hts hKn hKs hRc hRs hcd hmx hC.2.1 (d := d) hfr hlo (fun o h2 hc => by
        obtain ⟨d', h9, h8, -⟩ := hcall X.1 _ _ o h2 hc
        have e9 : d' = d := by omega
        subst e9; exact h8) h5 hout hcatch h3 h4
  cases ins with
  | iconst n => exact am_s_iconst hx hb hK hdc hrun
  | bipush n => exact am_s_bipush hx hb hK hdc hrun
  | sipush n => exact am_s_sipush hx hb hK hdc hrun
  | lconst n => exact am_s_lconst hx hb hK hdc hrun
  | ldc i => exact am_s_ldcI hx hb hK hts hown hKs hok hdc hrun
  | ldc_w i =>
    intro ad H locs cells slots ls S
    have hrun : K (pc + 3) lv ((match X.1 with
      | 0 => .inl (.int (Int32.ofInt X.2.2.2))
      | _ => .inl (.ref X.2.1)) :: st) h = some r := hrun
    rw [hok.1] at hrun
    exact lv_ldcw hx hb hown (hts _ hok.2) hdc (hK _ _ _ _ hrun ad H locs cells slots ls (S.stk (am_kn_cons trivial S.2.2.2.1)))
  | ldc2_w i =>
    intro ad H locs cells slots ls S
    exact lv_ldc2 hx hb hown (hts _ hok) hdc (hK _ _ _ _ hrun ad H locs cells slots ls (S.stk (am_kn_cons trivial S.2.2.2.1)))
  | iload_n k => exact am_s_iload_n hx hb hK hdc hrun
  | iload k => exact am_s_iload hx hb hK hdc hrun
  | lload_n k => exact am_s_lload_n hx hb hK hdc hrun
  | lload k => exact am_s_lload hx hb hK hdc hrun
  | aload_n k => exact am_s_aload_n hx hb hK hdc hrun
  | aload k => exact am_s_aload hx hb hK hdc hrun
  | istore_n k => exact am_s_istore_n hx hb hK hok hdc hrun
  | istore k => exact am_s_istore hx hb hK hok hdc hrun
  | lstore_n k => exact am_s_lstore_n hx hb hK hok hdc hrun
  | lstore k => exact am_s_lstore hx hb hK hok hdc hrun
  | astore_n k => exact am_s_astore_n hx hb hK hok hdc hrun
  | astore k => exact am_s_astore hx hb hK hok hdc hrun
  | iinc k n => exact am_s_iinc hx hb hK hok hdc hrun
  | iadd => exact am_s_iadd hx hb hK hdc hrun
  | isub => exact am_s_isub hx hb hK hdc hrun
  | imul => exact am_s_imul hx hb hK hdc hrun
  | iand => exact am_s_iand hx hb hK hdc hrun
  | ior => exact am_s_ior hx hb hK hdc hrun
  | idiv => exact am_s_idiv hx hb hK hdc hrun
  | irem => exact am_s_irem hx hb hK hdc hrun
  | ineg => exact am_s_ineg hx hb hK hdc hrun
  | ishr => exact am_s_ishr hx hb hK hdc hrun
  | iushr => exact am_s_iushr hx hb hK hdc hrun
  | ladd => exact am_s_ladd hx hb hK hdc hrun
  | lsub => exact am_s_lsub hx hb hK hdc hrun
  | lmul => exact am_s_lmul hx hb hK hdc hrun
  | land => exact am_s_land hx hb hK hdc hrun
  | lor => exact am_s_lor hx hb hK hdc hrun
  | ldiv => exact am_s_ldiv hx hb hK hdc hrun
  | lrem => exact am_s_lrem hx hb hK hdc hrun
  | lneg => exact am_s_lneg hx hb hK hdc hrun
  | lshl => exact am_s_lshl hx hb hK hdc hrun
  | lushr => exact am_s_lushr hx hb hK hdc hrun
  | lcmp => exact am_s_lcmp hx hb hK hdc hrun
  | i2l => exact am_s_i2l hx hb hK hdc hrun
  | l2i => exact am_s_l2i hx hb hK hdc hrun
  | i2b => exact am_s_i2b hx hb hK hdc hrun
  | i2s => exact am_s_i2s hx hb hK hdc hrun
  | pop => exact am_s_pop hx hb hK hdc hrun
  | dup => exact am_s_dup hx hb hK hdc hrun
  | dup_x1 => exact am_s_dup_x1 hx hb hK hdc hrun
  | dup_x2 => exact am_s_dup_x2 hx hb hK hdc hrun
  | dup2 => exact am_s_dup2 hx hb hK hdc hrun
  | goto off => exact am_s_goto hx hb hK hdc hrun
  | ifCond cnd off => obtain ⟨t, ht⟩ := hok; exact am_s_ifCond hx hb hK ht hdc hrun
  | if_icmp cnd off => obtain ⟨t, ht⟩ := hok; exact am_s_if_icmp hx hb hK ht hdc hrun
  | tableswitch d1 lo hi offs => exact am_s_tableswitch hx hb hK hok hdc hrun
  | lookupswitch d1 ps => exact am_s_lookupswitch hx hb hK hok.1 hok.2 hdc hrun
  | getfield i => obtain ⟨C, T, N, h1, h2, h3, h4, h5⟩ := hok; exact am_s_getfield hx hb hK hts hown hKn h1 h2 h5 hdc hrun
  | putfield i => obtain ⟨C, T, N, h1, h2, h3, h4, h5, h6⟩ := hok; exact am_s_putfield hx hb hK hts hown hnm hKn h1 h2 h3 h4 h5 h6 hdc hrun
  | arraylength => exact am_s_arraylength hx hb hK hdc hrun
  | iaload => exact am_s_iaload hx hb hK hdc hrun
  | baload => exact am_s_baload hx hb hK hdc hrun
  | saload => exact am_s_saload hx hb hK hdc hrun
  | iastore => exact am_s_iastore hx hb hK hdc hrun
  | bastore => exact am_s_bastore hx hb hK hdc hrun
  | sastore => exact am_s_sastore hx hb hK hdc hrun
  | newarray t => exact am_s_newarray hx hb hK hts hRc hRs hok.1 hok.2 hdc hrun
  | new i => obtain ⟨C, T, N, h1, h2, h3⟩ := hok; exact am_s_new hx hb hK hts hown hKn hRc hRs h1 h2 h3 hdc hrun
  | invokevirtual i =>
    obtain ⟨⟨np, hn, hl, hin, hsel, hC⟩, hinst⟩ := hok
    refine inv hC hdc hrun fun ad H locs cells slots ls S o h2 hc hlen T hT X' => ?_
    obtain ⟨d', -, -, hrv⟩ := hcall X.1 _ _ o h2 hc
    obtain ⟨b, t, ha, hrv⟩ := hrv hinst
    obtain ⟨cell, c1, c2, c3⟩ := hrv ad H S.1 (hKs.congr fun i hi => S.2.2.2.2.2.2.2.2 i (Or.inr hi))
    obtain ⟨bytes, maxL, ret', hh, -, hcd⟩ := hC.cd hts
    have hl9 : t.length = np := by
      have := congrArg List.length ha
      simp at this
      omega
    rw [ha]
    exact am_pcV X' hx hts hown hl hin hsel (hcd s (State.WarmedH.refl s)) hC.2.2.1 (by rw [hT]; exact c1) c2 c3 rfl (argsL := t.map (am_cv ad)) (fun sig hs => by rw [List.length_map, hl9]; exact hC.2.2.2 sig hs) (am_stk_split ha ad) (by rw [hb]; exact hdc)
  | invokespecial i =>
    rcases hok with ⟨h0, hl⟩ | ⟨h0, ⟨np, hn, hl, hy1, hin, ⟨bytes9, maxL9, hcode⟩, hC⟩, hinst⟩
    · have hrun : (match X.1 with
        | 0 => am_o1 st fun _ t => (match t with
          | [] => K (pc + 3) lv [] h
          | _ => none)
        | _ => am_inv call hd X pc lv st h K) = some r := hrun
      rw [h0] at hrun
      obtain ⟨b, t, rfl, h2⟩ := am_o1_inv hrun
      split at h2
      · intro ad H locs cells slots ls S
        exact W.objInit hx hb hown (hts _ hl) (hts _ hoi.1) (hts _ hoi.2.1) rfl (by rw [hml]; exact S.2.1.1) rfl hdc (by omega) (show 2 * (F0 m pc ls [Value.ref (ad b)]).monitorRoom + 0 + 12 ≤ R.locals by
          have : (F0 m pc ls [Value.ref (ad b)]).monitorRoom = 0 := rfl
          omega) (hK _ _ _ _ h2 ad H locs cells slots ls (S.stk (fun _ h9 => by cases h9)))
      · cases h2
    · have hrun : (match X.1 with
        | 0 => am_o1 st fun _ t => (match t with
          | [] => K (pc + 3) lv [] h
          | _ => none)
        | _ => am_inv call hd X pc lv st h K) = some r := hrun
      have hrun : am_inv call hd X pc lv st h K = some r := by
        split at hrun
        · exact absurd (by assumption) h0
        · exact hrun
      refine inv hC hdc hrun fun ad H locs cells slots ls S o h2 hc hlen T hT X' => ?_
      obtain ⟨d', -, -, hrv⟩ := hcall X.1 _ _ o h2 hc
      obtain ⟨b, t, ha, -⟩ := hrv hinst
      have hl9 : t.length = np := by
        have := congrArg List.length ha
        simp at this
        omega
      rw [ha]
      exact am_pcI X' hx hts hown hl hy1 hin hcode hC.2.2.1 rfl (argsL := t.map (am_cv ad)) (fun sig hs => by rw [List.length_map, hl9]; exact hC.2.2.2 sig hs) (am_stk_split ha ad) (by rw [hb]; exact hdc)
  | invokestatic i =>
    have hrun : (match Nat.beq X.1 901 with
      | true => am_i1 st fun n t => am_i1 t fun dp t => am_a1 t fun b v t => am_i1 t fun sp t => am_a1 t fun a u t => (match Nat.ble (am_words t) 8 with
        | true => am_cp h a u sp b v dp n fun h => K (pc + 3) lv t h
        | false => none)
      | false => am_inv call hd X pc lv st h K) = some r := hrun
    rcases hok with ⟨h0, hl⟩ | ⟨h0, hl, hst, hC⟩
    · rw [h0] at hrun
      exact am_s_copy hx hb hml hK hts hown hl hoi.2.2 (by omega) (by omega) hdc hrun
    have hrun : am_inv call hd X pc lv st h K = some r := by
      split at hrun
      · rename_i h9
        exact absurd (Nat.eq_of_beq_eq_true h9) h0
      · exact hrun
    refine inv hC hdc hrun fun ad H locs cells slots ls S o h2 hc hlen T hT X' => ?_
    obtain ⟨bytes, maxL, ret', hh, -, hcd⟩ := hC.cd hts
    refine am_pcS X' hx hts hown hl hst hC.2.1 (hcd s (State.WarmedH.refl s)) hC.2.2.1 rfl (argsL := (st.take X.2.1).reverse.map (am_cv ad)) (fun sig hs => ?_) ?_ (by rw [hb]; exact hdc)
    · rw [List.length_map, List.length_reverse, List.length_take]
      have := hC.2.2.2 sig hs
      omega
    · show st.map (am_cv ad) = _
      rw [← List.map_reverse, List.reverse_reverse, ← List.map_append, List.take_append_drop]
  | athrow => exact am_s_athrow hx hb hlocks hdc hrun hout
  | ireturn =>
    rcases hok with ⟨h0, h1⟩ | ⟨h0, h1⟩
    · exact am_s_ireturn hx hb hlocks (hret.trans h1) (Or.inl ⟨h0, rfl⟩) hdc hrun
    · exact am_s_ireturn hx hb hlocks (hret.trans h1) (Or.inr ⟨h0, rfl⟩) hdc hrun
  | lreturn => exact am_s_lreturn hx hb hlocks (hret.trans hok) hdc hrun
  | areturn => obtain ⟨C, hC⟩ := hok; exact am_s_areturn hx hb hlocks (hret.trans hC) hdc hrun
  | return_ => exact am_s_return hx hb hlocks (hret.trans hok) hdc hrun
  | _ => exact absurd (show (none : am_R) = some r from hrun) (fun h9 => by cases h9)
end
