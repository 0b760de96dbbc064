/-! how the instructions invoke: mt_Inv by kind; how a contract begins and ends -/
section MTI
variable {p : Program} {l : Launch} {e : Env} {R : Room} {s : State} {m : MethodId} {args : Array Value} {below : List Frame} {meth : Method} {c : Code} {H : Heap} {locs : List Loc} {cells slots : Nat} {Q : State → Prop}
variable {cc : ByteArray} {pc : Nat} {ls : Array Slot} {rest stk : List Value}
/-- what is known of a callee by its code word -/
def mt_Cd (y : MethodName) (maxL : Nat) (s : State) : Prop := ∃ (mk : MethodId) (meth : Method) (c : Code), s.methodNamed? y = some mk ∧ s.vm.method? mk = some meth ∧ meth.code = some c ∧ c.maxLocals = maxL ∧ parseMethodDescriptor y.desc = some meth.sig
theorem mt_Cd.code {y : MethodName} {bytes : ByteArray} {maxL : Nat} {ret : Option FieldType} (h : (Cond.code y bytes maxL ret).before args s = true) : mt_Cd y maxL s := by
  obtain ⟨mk, hn⟩ := Cond.code_named h
  obtain ⟨methM, cM, h1, h2, -, h4, -, -, -, h5⟩ := Cond.code_spec hn h
  exact ⟨mk, methM, cM, hn, h1, h2, h4, h5⟩
theorem mt_Cd.codeWith {y : MethodName} {bytes : ByteArray} {maxL : Nat} {ret : Option FieldType} {hs : List (Nat × Nat × Nat × Nat)} (h : (Cond.codeWith y bytes maxL ret hs).before args s = true) : mt_Cd y maxL s := by
  obtain ⟨mk, methM, cM, hn, h1, h2, -, h4, -, -, -, h5⟩ := Cond.codeWith_spec h
  exact ⟨mk, methM, cM, hn, h1, h2, h4, h5⟩
theorem mt_invV (hexec : p.tables.exec = Jvm.exec) (hb : c.code = cc) {own C : String} {index maxL : Nat} {y : MethodName} (hown : s.vm.findClass own = some m.cls) (hlink : (Cond.methodLink own index y).before args s = true) (hinst : (Cond.instanceMethod y).before args s = true) (hsel : (Cond.selects C y y).before args s = true) (hcode : mt_Cd y maxL s) (hy : y.cls ≠ "java/lang/invoke/MethodHandle" ∧ y.cls ≠ "java/lang/invoke/VarHandle")
    {b : Nat} (hcell : ∃ cell : Cell, H[b]? = some cell ∧ cell.vm.isStatics = false ∧ s.vm.findClass C = some cell.cls) {As : List Value} (hlen : (parseMethodDescriptor y.desc).map (fun d => d.parameters.length) = some As.length) (hstack : stk = As.reverse ++ .ref b :: rest) (hdg : decode cc pc = .ok (.invokevirtual index, 3)) :
    mt_Inv p l e R s m args below meth c H locs cells slots y maxL (Value.ref b :: As).toArray (F0 m pc ls stk) (F0 m pc ls rest) := by
  intro T hT X
  obtain ⟨cellB, hcB, hoB, hclB⟩ := hcell
  obtain ⟨mk, methM, hnamed, hmethM, hstM, habM⟩ := Cond.instanceMethod_spec hinst
  obtain ⟨mk', methM', cM, hn', hm', hcM, hlM, hsigM⟩ := hcode
  cases hnamed.symm.trans hn'
  cases hmethM.symm.trans hm'
  obtain ⟨c2, r2, m2, q1, q2, q3, q4, kP, hkP, hkPi⟩ := Cond.selects_spec hsel
  cases hclB.symm.trans q1
  cases (State.methodFound?_of_named hnamed hy).symm.trans q2
  cases hnamed.symm.trans q3
  have hselP : selectMethod e.platform s.vm cellB.cls mk = .method mk := by rw [Launch.admits_selectMethod X.admits]; exact q4
  have hl : As.length = methM.sig.parameters.length := by rw [hsigM] at hlen; exact (Option.some.inj hlen).symm
  obtain ⟨vm₁, X₁, hstep₁⟩ := X.invokevirtual hexec hown hlink hnamed hmethM hstM hkP hkPi hy (a := b) (cell := cellB) (by rw [hT]; exact hcB)
    (fun z h => by rw [h] at hoB; cases hoB) hselP hmethM habM hkP hkPi (g := F0 m pc ls stk) rfl (argsL := As) (rest := rest) hl hstack (by rw [hb]; exact hdg)
  refine ⟨vm₁, mk, methM, cM, X₁, X₁.named hnamed, ?_, hcM, hlM, fun target h => hstep₁ _ fun acts => by rw [doInvoke_state]; exact h⟩
  have := X₁.warmed.alike.method? mk
  exact this.trans hmethM
theorem mt_invVN (hexec : p.tables.exec = Jvm.exec) (hb : c.code = cc) {own C host : String} {index maxL : Nat} {y : MethodName} (hown : s.vm.findClass own = some m.cls) (hlink : (Cond.methodLinkNest own index y host).before args s = true) (hinst : (Cond.instanceMethod y).before args s = true) (hsel : (Cond.selects C y y).before args s = true) (hcode : mt_Cd y maxL s) (hy : y.cls ≠ "java/lang/invoke/MethodHandle" ∧ y.cls ≠ "java/lang/invoke/VarHandle")
    {b : Nat} (hcell : ∃ cell : Cell, H[b]? = some cell ∧ cell.vm.isStatics = false ∧ s.vm.findClass C = some cell.cls) {As : List Value} (hlen : (parseMethodDescriptor y.desc).map (fun d => d.parameters.length) = some As.length) (hstack : stk = As.reverse ++ .ref b :: rest) (hdg : decode cc pc = .ok (.invokevirtual index, 3)) :
    mt_Inv p l e R s m args below meth c H locs cells slots y maxL (Value.ref b :: As).toArray (F0 m pc ls stk) (F0 m pc ls rest) := by
  intro T hT X
  obtain ⟨cellB, hcB, hoB, hclB⟩ := hcell
  obtain ⟨mk, methM, hnamed, hmethM, hstM, habM⟩ := Cond.instanceMethod_spec hinst
  obtain ⟨mk', methM', cM, hn', hm', hcM, hlM, hsigM⟩ := hcode
  cases hnamed.symm.trans hn'
  cases hmethM.symm.trans hm'
  obtain ⟨c2, r2, m2, q1, q2, q3, q4, kP, hkP, hkPi⟩ := Cond.selects_spec hsel
  cases hclB.symm.trans q1
  cases (State.methodFound?_of_named hnamed hy).symm.trans q2
  cases hnamed.symm.trans q3
  have hselP : selectMethod e.platform s.vm cellB.cls mk = .method mk := by rw [Launch.admits_selectMethod X.admits]; exact q4
  have hl : As.length = methM.sig.parameters.length := by rw [hsigM] at hlen; exact (Option.some.inj hlen).symm
  obtain ⟨vm₁, X₁, hstep₁⟩ := X.invokevirtualNest hexec hown hlink hnamed hmethM hstM hkP hkPi hy (a := b) (cell := cellB) (by rw [hT]; exact hcB)
    (fun z h => by rw [h] at hoB; cases hoB) hselP hmethM habM hkP hkPi (g := F0 m pc ls stk) rfl (argsL := As) (rest := rest) hl hstack (by rw [hb]; exact hdg)
  refine ⟨vm₁, mk, methM, cM, X₁, X₁.named hnamed, ?_, hcM, hlM, fun target h => hstep₁ _ fun acts => by rw [doInvoke_state]; exact h⟩
  have := X₁.warmed.alike.method? mk
  exact this.trans hmethM
theorem mt_invS (hexec : p.tables.exec = Jvm.exec) (hb : c.code = cc) {own : String} {index maxL : Nat} {y : MethodName} (hown : s.vm.findClass own = some m.cls) (hlink : (Cond.methodLink own index y).before args s = true) (hstat : (Cond.static y).before args s = true) (hinit : (Cond.initialized y.cls).before args s = true) (hcode : mt_Cd y maxL s) (hy : y.cls ≠ "java/lang/invoke/MethodHandle" ∧ y.cls ≠ "java/lang/invoke/VarHandle")
    {As : List Value} (hlen : (parseMethodDescriptor y.desc).map (fun d => d.parameters.length) = some As.length) (hstack : stk = As.reverse ++ rest) (hdg : decode cc pc = .ok (.invokestatic index, 3)) :
    mt_Inv p l e R s m args below meth c H locs cells slots y maxL As.toArray (F0 m pc ls stk) (F0 m pc ls rest) := by
  intro T hT X
  obtain ⟨mk, methM, cM, hnamed, hmethM, hcM, hlM, hsigM⟩ := hcode
  have hstatic : methM.isStatic = true := Cond.static_spec hnamed hmethM hstat
  obtain ⟨kP, hkP, -⟩ := className_of_methodNamed hnamed
  have hinitP : kP.init = .initialized := Cond.initialized_spec (findClass_of_methodNamed hnamed) hkP hinit
  have hl : As.length = methM.sig.parameters.length := by rw [hsigM] at hlen; exact (Option.some.inj hlen).symm
  obtain ⟨vm₁, X₁, hstep₁⟩ := X.invokestatic hexec hown hlink hnamed hmethM hstatic hkP hinitP hy (g := F0 m pc ls stk) rfl (argsL := As) (rest := rest) hl hstack (by rw [hb]; exact hdg)
  refine ⟨vm₁, mk, methM, cM, X₁, X₁.named hnamed, ?_, hcM, hlM, fun target h => hstep₁ _ fun acts => by rw [doInvoke_state]; exact h⟩
  have := X₁.warmed.alike.method? mk
  exact this.trans hmethM
theorem mt_invSN (hexec : p.tables.exec = Jvm.exec) (hb : c.code = cc) {own host : String} {index maxL : Nat} {y : MethodName} (hown : s.vm.findClass own = some m.cls) (hlink : (Cond.methodLinkNest own index y host).before args s = true) (hstat : (Cond.static y).before args s = true) (hinit : (Cond.initialized y.cls).before args s = true) (hcode : mt_Cd y maxL s) (hy : y.cls ≠ "java/lang/invoke/MethodHandle" ∧ y.cls ≠ "java/lang/invoke/VarHandle")
    {As : List Value} (hlen : (parseMethodDescriptor y.desc).map (fun d => d.parameters.length) = some As.length) (hstack : stk = As.reverse ++ rest) (hdg : decode cc pc = .ok (.invokestatic index, 3)) :
    mt_Inv p l e R s m args below meth c H locs cells slots y maxL As.toArray (F0 m pc ls stk) (F0 m pc ls rest) := by
  intro T hT X
  obtain ⟨mk, methM, cM, hnamed, hmethM, hcM, hlM, hsigM⟩ := hcode
  have hstatic : methM.isStatic = true := Cond.static_spec hnamed hmethM hstat
  obtain ⟨kP, hkP, -⟩ := className_of_methodNamed hnamed
  have hinitP : kP.init = .initialized := Cond.initialized_spec (findClass_of_methodNamed hnamed) hkP hinit
  have hl : As.length = methM.sig.parameters.length := by rw [hsigM] at hlen; exact (Option.some.inj hlen).symm
  obtain ⟨vm₁, X₁, hstep₁⟩ := X.invokestaticNest hexec hown hlink hnamed hmethM hstatic hkP hinitP hy (g := F0 m pc ls stk) rfl (argsL := As) (rest := rest) hl hstack (by rw [hb]; exact hdg)
  refine ⟨vm₁, mk, methM, cM, X₁, X₁.named hnamed, ?_, hcM, hlM, fun target h => hstep₁ _ fun acts => by rw [doInvoke_state]; exact h⟩
  have := X₁.warmed.alike.method? mk
  exact this.trans hmethM
theorem mt_invI (hexec : p.tables.exec = Jvm.exec) (hb : c.code = cc) {own : String} {index maxL : Nat} {y : MethodName} {bytes : ByteArray} (hown : s.vm.findClass own = some m.cls) (hy1 : y.name = "<init>") (hlink : (Cond.methodLink own index y).before args s = true) (hinst : (Cond.instanceMethod y).before args s = true) (hcode : (Cond.code y bytes maxL none).before args s = true) (hy : y.cls ≠ "java/lang/invoke/MethodHandle" ∧ y.cls ≠ "java/lang/invoke/VarHandle")
    {b : Nat} {As : List Value} (hlen : (parseMethodDescriptor y.desc).map (fun d => d.parameters.length) = some As.length) (hstack : stk = As.reverse ++ .ref b :: rest) (hdg : decode cc pc = .ok (.invokespecial index, 3)) :
    mt_Inv p l e R s m args below meth c H locs cells slots y maxL (Value.ref b :: As).toArray (F0 m pc ls stk) (F0 m pc ls rest) := by
  intro T hT X
  have hpl : e.platform.magicAccessors = ({} : Platform).magicAccessors := by rw [X.admits.platform]
  obtain ⟨mk, methM, cM, kP, vm₁, hnamed, hmethM, hcodeM, -, hlocalsM, -, hkP, -, hW₁, hstep₁⟩ := Steps.initColdArgs (e := e) (a := b) (argsL := As) (rest := rest) X.here hexec X.warmed hpl hown hy1 hy hlink hinst hcode (f := F0 m pc ls stk) rfl (fun sig hs => by rw [hs] at hlen; exact (Option.some.inj hlen).symm) hstack (by rw [hb]; exact hdg)
  have X₁ := X.noted hW₁
  refine ⟨vm₁, mk, methM, cM, X₁, X₁.named hnamed, ?_, hcodeM, hlocalsM, fun target h => hstep₁ _ fun acts => by rw [doInvoke_state]; exact h⟩
  have := X₁.warmed.alike.method? mk
  exact this.trans hmethM
theorem mt_invIN (hexec : p.tables.exec = Jvm.exec) (hb : c.code = cc) {own host : String} {index maxL : Nat} {y : MethodName} {bytes : ByteArray} (hown : s.vm.findClass own = some m.cls) (hy1 : y.name = "<init>") (hlink : (Cond.methodLinkNest own index y host).before args s = true) (hinst : (Cond.instanceMethod y).before args s = true) (hcode : (Cond.code y bytes maxL none).before args s = true) (hy : y.cls ≠ "java/lang/invoke/MethodHandle" ∧ y.cls ≠ "java/lang/invoke/VarHandle")
    {b : Nat} {As : List Value} (hlen : (parseMethodDescriptor y.desc).map (fun d => d.parameters.length) = some As.length) (hstack : stk = As.reverse ++ .ref b :: rest) (hdg : decode cc pc = .ok (.invokespecial index, 3)) :
    mt_Inv p l e R s m args below meth c H locs cells slots y maxL (Value.ref b :: As).toArray (F0 m pc ls stk) (F0 m pc ls rest) := by
  intro T hT X
  have hpl : e.platform.magicAccessors = ({} : Platform).magicAccessors := by rw [X.admits.platform]
  obtain ⟨mk, methM, cM, kP, vm₁, hnamed, hmethM, hcodeM, -, hlocalsM, -, hkP, -, hW₁, hstep₁⟩ := Steps.initColdArgsNest (e := e) (a := b) (argsL := As) (rest := rest) X.here hexec X.warmed hpl hown hy1 hy hlink hinst hcode (f := F0 m pc ls stk) rfl (fun sig hs => by rw [hs] at hlen; exact (Option.some.inj hlen).symm) hstack (by rw [hb]; exact hdg)
  have X₁ := X.noted hW₁
  refine ⟨vm₁, mk, methM, cM, X₁, X₁.named hnamed, ?_, hcodeM, hlocalsM, fun target h => hstep₁ _ fun acts => by rw [doInvoke_state]; exact h⟩
  have := X₁.warmed.alike.method? mk
  exact this.trans hmethM
theorem mt_invF (hexec : p.tables.exec = Jvm.exec) (hb : c.code = cc) {own C : String} {index count maxL : Nat} {x y : MethodName} (hown : s.vm.findClass own = some m.cls) (hlink : (Cond.methodLink own index x).before args s = true) (hdecl : (Cond.declares x).before args s = true) (hface : (Cond.interfaceMethod x.cls x.cls x.name x.desc).before args s = true)
    (hsel : (Cond.selects C x y).before args s = true) (hinst : (Cond.instanceMethod y).before args s = true) (hpub : (Cond.publicMethod y).before args s = true) (hunh : (Cond.unhidden C x.name x.desc).before args s = true) (hcast : (Cond.castable C x.cls).before args s = true) (hcode : mt_Cd y maxL s) (hx : x.cls ≠ "java/lang/invoke/MethodHandle" ∧ x.cls ≠ "java/lang/invoke/VarHandle")
    {b : Nat} (hcell : ∃ cell : Cell, H[b]? = some cell ∧ cell.vm.isStatics = false ∧ s.vm.findClass C = some cell.cls) {As : List Value} (hlen : (parseMethodDescriptor x.desc).map (fun d => d.parameters.length) = some As.length) (hstack : stk = As.reverse ++ .ref b :: rest) (hdg : decode cc pc = .ok (.invokeinterface index count, 5)) :
    mt_Inv p l e R s m args below meth c H locs cells slots y maxL (Value.ref b :: As).toArray (F0 m pc ls stk) (F0 m pc ls rest) := by
  intro T hT X
  obtain ⟨cellB, hcell, hobj, hcls⟩ := hcell
  obtain ⟨kB, hkB⟩ := Vm.classAt_of_findClass hcls
  obtain ⟨r0, r, hn, hrm, hstR, hsigR⟩ := Cond.declares_spec hdecl
  obtain ⟨cL, kL, r1, hcL, hkL, hiL, hfoundL, hn1⟩ := Cond.interfaceMethod_spec hface
  cases hn.symm.trans hn1
  have hr0cls : r0.cls = cL := Option.some.inj ((findClass_of_methodNamed hn).symm.trans hcL)
  obtain ⟨hnameR, hdescR⟩ := name_of_methodNamed hn hrm
  obtain ⟨mk, methM, hnamed, hmethM, -, habM⟩ := Cond.instanceMethod_spec hinst
  obtain ⟨mk', methM', cM, hn', hm', hcM, hlM, hsigM⟩ := hcode
  cases hnamed.symm.trans hn'
  cases hmethM.symm.trans hm'
  obtain ⟨c2, r2, m2, q1, q2, q3, q4, -⟩ := Cond.selects_spec hsel
  cases hcls.symm.trans q1
  cases hfoundL.symm.trans q2
  cases hnamed.symm.trans q3
  have hselP : selectMethod e.platform s.vm cellB.cls r0 = .method mk := by rw [Launch.admits_selectMethod X.admits]; exact q4
  have hpubM : hasFlag methM.accessFlags Acc.public_ = true := Cond.publicMethod_spec hnamed hmethM hpub
  have hway : ((cellB.cls :: s.vm.superclasses cellB.cls).any fun k => (declaredIn s.vm r.name r.desc k).any fun (_, z) => z.isPrivate || z.isStatic) = false := by
    rw [hnameR, hdescR]; exact Cond.unhidden_spec hcls hunh
  obtain ⟨c3, t3, w1, w2, w3⟩ := Cond.castable_spec hcast
  cases hcls.symm.trans w1
  cases hcL.symm.trans w2
  have hl : As.length = r.sig.parameters.length := by rw [hsigR] at hlen; exact (Option.some.inj hlen).symm
  obtain ⟨vm₁, X₁, hstep₁⟩ := X.invokeinterface hexec hown hlink hn hrm hstR (by rw [hr0cls]; exact hkL) hiL hx (a := b) (cell := cellB) (kcell := kB) (by rw [hT]; exact hcell)
    (fun z h => by rw [h] at hobj; cases hobj) hkB (by rw [hr0cls]; exact w3) hselP hmethM hway hpubM habM (g := F0 m pc ls stk) rfl (argsL := As) (rest := rest) hl hstack (by rw [hb]; exact hdg)
  refine ⟨vm₁, mk, methM, cM, X₁, X₁.named hnamed, ?_, hcM, hlM, fun target h => hstep₁ _ fun acts => by rw [doInvoke_state]; exact h⟩
  have := X₁.warmed.alike.method? mk
  exact this.trans hmethM
/-- the end of a contract -/
def mt_MQ (below : List Frame) (Qc : Array Value → State → Outcome → State → Prop) (a : Array Value) (s : State) (mc ms : Nat) (free : State → Nat → Prop) : State → Prop := fun t =>
  ∃ o, t.status = .running ∧ Ended t below o ∧ Qc a s o t ∧ ∃ L, mt_Fe s t L mc ms ∧ ∀ q ∈ L, free s q.base
theorem mt_mono {Q Q' : State → Prop} {g : JFrame} (h : ∀ t, Q t → Q' t) (k : W p l e R s m args below meth c H locs cells slots Q g) : W p l e R s m args below meth c H locs cells slots Q' g := by
  intro T hT X
  obtain ⟨t, a, b⟩ := k T hT X
  exact ⟨t, a, h t b⟩
theorem mt_ofMQ {Qc : Array Value → State → Outcome → State → Prop} {a : Array Value} {mc ms : Nat} {free : State → Nat → Prop} (t : State) (h : MQ below Qc a s mc ms (free s) t) : mt_MQ below Qc a s mc ms free t := by
  obtain ⟨o, h1, h2, h3, L, h4, h5⟩ := h
  exact ⟨o, h1, h2, h3, L, ⟨h4.2.1, h4.2.2⟩, h5⟩
theorem mt_of {y : MethodName} {hc : Cond} {rm : Room} {Pc : Array Value → State → Prop} {Qc : Array Value → State → Outcome → State → Prop} {free : State → Nat → Prop} {maxL : Nat} {ret : Option FieldType}
    (hy : plainFor y = true) (his : hc = .code y cc maxL ret ∨ ∃ hs, hc = .codeWith y cc maxL ret hs)
    (body : ∀ p e s m args below meth c s₁, BodyLoose p l y (headSpec [hc] rm) cc maxL ret e s m args below meth c s₁ → c.maxLocals = maxL → hc.before args s = true → Pc args s →
      W p l e rm s m args below meth c s.heap [] 0 0 (mt_MQ below Qc args s rm.cells rm.slots free) (entryFrame m args maxL)) : MT l y hc rm Pc Qc free := by
  refine MetFree.of_bodySF (code := cc) (maxLocals := maxL) (ret := ret) hy ?_ ?_
  · intro args s m h hn
    have h0 := atoms_spec (ws := [hc]) h _ List.mem_cons_self
    rcases his with rfl | ⟨hs, rfl⟩
    · obtain ⟨meth, c, h1, h2, h3, h4, h5, h6, -, -⟩ := Cond.code_spec hn h0
      exact ⟨meth, c, h1, h2, h3, h4, h5, h6⟩
    · obtain ⟨m', meth, c, hn', h1, h2, h3, h4, -, h5, h6, -⟩ := Cond.codeWith_spec h0
      cases hn.symm.trans hn'
      exact ⟨meth, c, h1, h2, h3, h4, h5, h6⟩
  · intro p e s m args below meth c s₁ B hml hP _
    have hh0 : s₁.heap = s.heap := by rw [B.state]; rfl
    obtain ⟨t, a1, o, b1, b2, b3, b4⟩ := body p e s m args below meth c s₁ B hml (atoms_spec (ws := [hc]) B.pre _ List.mem_cons_self) hP s₁ hh0 (Stand.of_body B)
    exact ⟨t, o, a1, b1, b2, b3, b4⟩
/-- thrown out of the method -/
theorem WT.out {x : Nat} {Qc : Array Value → State → Outcome → State → Prop} {free : State → Nat → Prop} (hlocks : meth.locks = false) (hout : ∀ y ∈ c.exceptionTable.toList, covers y pc = false) (hq : ∀ t : State, t.heap = H → s.WarmedH t.vm → Qc args s (.threw x) t) (hf : ∀ q ∈ locs, free s q.base) :
    WT p l e R s m args below meth c H locs cells slots (mt_MQ below Qc args s cells slots free) x (F0 m pc ls rest) := by
  intro T hT X
  obtain ⟨h1, h2, h3, h4, h5⟩ := X.leaveThrown x (g := F0 m pc ls rest) rfl rfl rfl hout hlocks
  exact ⟨_, h1, .threw x, h2, h3, hq _ hT h4, locs, ⟨h4, h5⟩, hf⟩
end MTI
