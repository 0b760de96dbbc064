/-! a throw is caught (catch types linked only now), or made anew -/
section MTC
variable {p : Program} {l : Launch} {e : Env} {R : Room} {s : State} {m : MethodId} {args : Array Value} {below : List Frame} {meth : Method} {c : Code} {H : Heap} {locs : List Loc} {cells slots : Nat} {Q : State → Prop}
variable {cc : ByteArray} {pc : Nat} {ls : Array Slot} {rest stk : List Value}
theorem mt_goLink {f : JFrame} {a : Nat} {S : State} {x : ExceptionTableEntry} {t : List ExceptionTableEntry} {cx : ClassId} {cell : Cell} {Q : Handler → Pre} {E : CtlPost} {d : Bool} {acts : List Action} (hx : covers x f.pc = true) (h0 : x.catchType ≠ 0)
    (hl : S.vm.ClassLinks e.platform f.method.cls x.catchType cx) (hcell : S.heap[a]? = some cell) (hobj : ∀ k, cell.vm ≠ .statics k) (hk : ∃ k, S.vm.classes[cell.cls]? = some k) (hc : ∃ k, S.vm.classes[cx]? = some k) :
    wp (findHandler.go f a (x :: t)) Q E e d acts S ↔ if S.vm.assignable cell.cls cx = true then Q (.found x.handlerPc) d acts (S.setVm (S.vm.noted f.method.cls x.catchType (.cls cx))) else wp (findHandler.go f a t) Q E e d acts (S.setVm (S.vm.noted f.method.cls x.catchType (.cls cx))) := by
  simp only [covers] at hx
  obtain ⟨ha, ht⟩ := (resolveClass_links e.toSetting hl).op (op := VmOp.resolveClass f.method.cls x.catchType) rfl
  have hal : S.vm.Alike (S.vm.noted f.method.cls x.catchType (.cls cx)) := (Vm.Alike.refl S.vm).noted _ _ _
  obtain ⟨k1, hk1⟩ := hk
  obtain ⟨k2, hk2⟩ := hc
  obtain ⟨k1', hk1', -⟩ := hal.2.2 _ _ hk1
  obtain ⟨k2', hk2', -⟩ := hal.2.2 _ _ hk2
  have hz : (S.vm.noted f.method.cls x.catchType (.cls cx)).assignable cell.cls cx = S.vm.assignable cell.cls cx := by rw [hal.assignable]
  cases hfit : S.vm.assignable cell.cls cx with
  | true =>
    rw [hfit] at hz
    simp [findHandler.go, hx, h0, ha, ht, hcell, hobj, hk1', hk2', hz, VmOp.dirties, VmOp.acts]
  | false =>
    rw [hfit] at hz
    simp [findHandler.go, hx, h0, ha, ht, hcell, hobj, hk1', hk2', hz, VmOp.dirties, VmOp.acts]
theorem mt_find {f : JFrame} {a : Nat} {cell : Cell} (hobj : ∀ k, cell.vm ≠ .statics k) (hk0 : ∃ k, s.vm.classes[cell.cls]? = some k) (x : ExceptionTableEntry) (rst : List ExceptionTableEntry) (hx : covers x f.pc = true) (h0 : x.catchType ≠ 0) {cx : ClassId} (hl : s.vm.ClassLinks e.platform f.method.cls x.catchType cx) (hfit : s.vm.assignable cell.cls cx = true) :
    ∀ (pre : List ExceptionTableEntry) (S : State), s.WarmedH S.vm → S.heap[a]? = some cell → (∀ y ∈ pre, covers y f.pc = true ∧ y.catchType ≠ 0 ∧ ∃ cy, s.vm.ClassLinks e.platform f.method.cls y.catchType cy ∧ s.vm.assignable cell.cls cy = false) →
      ∃ vm', s.WarmedH vm' ∧ ∀ (Q : Handler → Pre) (E : CtlPost) (d : Bool) (acts : List Action), wp (findHandler.go f a (pre ++ x :: rst)) Q E e d acts S ↔ Q (.found x.handlerPc) d acts (S.setVm vm') := by
  obtain ⟨k0, hk0⟩ := hk0
  intro pre
  induction pre with
  | nil =>
    intro S hW hcell _
    obtain ⟨k0', hk0', -⟩ := hW.alike.2.2 _ _ hk0
    obtain ⟨dk, _, _, kt, hd, _, _, _, _, hkt, _, hopen⟩ := hl.here
    obtain ⟨kt', hkt', -⟩ := hW.alike.2.2 _ _ hkt
    refine ⟨_, hW.noted hd hopen (State.rightAt_cls hl), fun Q E d acts => ?_⟩
    rw [List.nil_append, mt_goLink hx h0 (hW.classLinks hl) hcell hobj ⟨k0', hk0'⟩ ⟨kt', hkt'⟩, if_pos (by rw [hW.alike.assignable]; exact hfit)]
  | cons y ys ih =>
    intro S hW hcell hpass
    obtain ⟨k0', hk0', -⟩ := hW.alike.2.2 _ _ hk0
    obtain ⟨hcov, h0', cy, hl', hno⟩ := hpass y List.mem_cons_self
    obtain ⟨dk, _, _, kt, hd, _, _, _, _, hkt, _, hopen⟩ := hl'.here
    obtain ⟨kt', hkt', -⟩ := hW.alike.2.2 _ _ hkt
    obtain ⟨vm', hW', hq⟩ := ih (S.setVm (S.vm.noted f.method.cls y.catchType (.cls cy))) (hW.noted hd hopen (State.rightAt_cls hl')) hcell (fun z hz => hpass z (List.mem_cons_of_mem _ hz))
    refine ⟨vm', hW', fun Q E d acts => ?_⟩
    rw [List.cons_append, mt_goLink hcov h0' (hW.classLinks hl') hcell hobj ⟨k0', hk0'⟩ ⟨kt', hkt'⟩, if_neg (by rw [hW.alike.assignable, hno]; decide)]
    exact hq Q E d acts
theorem mt_stepCatch {S : State} {vm' : Vm} {a : Nat} {f : JFrame} {r : List Frame} {pc : Nat} (hfind : ∀ (Q : Handler → Pre) (E : CtlPost) (d : Bool) (acts : List Action), wp (findHandler f a) Q E e d acts S ↔ Q (.found pc) d acts (S.setVm vm')) :
    (stepThrowing e S a (.java f :: r)).Is ((S.setVm vm').setFrames (.java { f with pc := pc, stack := [.ref a] } :: r)) [] := by
  simp only [stepThrowing, searchFrame, vmDo]
  generalize hr : Sem.go _ e false [] S = res
  obtain ⟨as, rfl, ha⟩ := Sem.eq_ok_of hr (a := Handler.found pc) (s' := S.setVm vm') (acts' := []) (by simp [hfind _ _ _ _])
  exact ⟨rfl, ha⟩
/-- a row of a handler table that takes, or does not take, an exception of a class -/
def mt_row (pl : Platform) (s : State) (d : ClassId) (pc : Nat) (thrown : ClassId) (b : Bool) (y : ExceptionTableEntry) : Prop := covers y pc = true ∧ y.catchType ≠ 0 ∧ ∃ cy, s.vm.ClassLinks pl d y.catchType cy ∧ s.vm.assignable thrown cy = b
theorem WT.caught {x : Nat} {cell : Cell} (hcell : H[x]? = some cell) (hobj : cell.vm.isStatics = false) (hk0 : ∃ k, s.vm.classes[cell.cls]? = some k) (pre : List ExceptionTableEntry) (h : ExceptionTableEntry) (rst : List ExceptionTableEntry) (hsplit : c.exceptionTable.toList = pre ++ h :: rst)
    (hpre : ∀ y ∈ pre, mt_row e.platform s m.cls pc cell.cls false y) (hh : mt_row e.platform s m.cls pc cell.cls true h)
    (k : W p l e R s m args below meth c H locs cells slots Q (F0 m h.handlerPc ls [.ref x])) : WT p l e R s m args below meth c H locs cells slots Q x (F0 m pc ls rest) := by
  intro T hT X
  obtain ⟨hx, h0, cx, hl, hfit⟩ := hh
  have hAt : At T m c below := X.here
  obtain ⟨vm', hW', hf⟩ := mt_find (e := e) (f := F0 m pc ls rest) (a := x) (VmData.ne_statics_of hobj) hk0 h rst hx h0 hl hfit pre ((T.setTop (F0 m pc ls rest)).pushFrame (.throwing x)) (by rw [Stand.throwing_vm]; exact X.warmed) (by rw [Stand.throwing_heap, hT]; exact hcell) hpre
  obtain ⟨t, a1, b1⟩ := k (T.setVm vm') hT (X.noted hW')
  refine ⟨t, ?_, b1⟩
  have hff : ∀ (Q : Handler → Pre) (E : CtlPost) (d : Bool) (acts : List Action), wp (findHandler (F0 m pc ls rest) x) Q E e d acts ((T.setTop (F0 m pc ls rest)).pushFrame (.throwing x)) ↔ Q (.found h.handlerPc) d acts (((T.setTop (F0 m pc ls rest)).pushFrame (.throwing x)).setVm vm') := by
    intro Q E d acts
    rw [W.findHandler_eq (meth := meth) (code := c) (by rw [Stand.throwing_vm]; exact X.method') X.code, hsplit]
    exact hf Q E d acts
  obtain ⟨hgo, hw⟩ := hAt.throwing (g := F0 m pc ls rest) x
  refine Steps.head hgo hw ?_
  rw [stepThread_throwing (frames_entered hAt.top _), (mt_stepCatch hff).1]
  obtain ⟨g₀, hg⟩ := Option.isSome_iff_exists.mp hAt.top
  obtain ⟨r, hr⟩ := State.topJava?_eq_some.mp hg
  have hr' : (T.setVm vm').frames = .java g₀ :: r := hr
  rw [State.setTop_of_frames _ hr'] at a1
  have hz : (((T.setTop (F0 m pc ls rest)).pushFrame (.throwing x)).setVm vm').setFrames (.java { F0 m pc ls rest with pc := h.handlerPc, stack := [.ref x] } :: T.frames.tail) = (T.setVm vm').setFrames (.java (F0 m h.handlerPc ls [.ref x]) :: r) := by
    rw [State.pushFrame, State.setTop_of_frames _ hr, hr]
    show ((((T.setFrames _).setFrames _).setVm vm').setFrames _) = _
    rw [State.setFrames_setFrames]
    show (((T.setVm vm').setFrames _).setFrames _) = _
    rw [State.setFrames_setFrames]
    rfl
  rw [hz]
  exact a1
/-- an exception object -/
def pq_exc (t : State) (x : Nat) (X : String) : Prop := ∃ cell : Cell, t.heap[x]? = some cell ∧ cell.vm.isStatics = false ∧ t.vm.findClass X = some cell.cls
theorem mt_throwNew {Qc : Array Value → State → Outcome → State → Prop} {free : State → Nat → Prop} (hexec : p.tables.exec = Jvm.exec) (hb : c.code = cc) (htr : e.platform.stackTraces = false) {own cls : String} {names : List String} {idx ic : Nat} (hown : s.vm.findClass own = some m.cls) (hcls : Bundle.fit cls = true) (hnames : ∀ n ∈ names, Bundle.fit n = true)
    (hcl : (Cond.classLink own idx cls).before args s = true) (hins : (Cond.instantiable cls 6).before args s = true) (hini : (Cond.initialized cls).before args s = true) (h : ∀ a ∈ Bundle.ownAtoms0 own ic cls names, a.before args s = true) (hlocks : meth.locks = false) (hsize : ls.size = c.maxLocals)
    (hd0 : decode cc pc = .ok (.new idx, 3)) (hd3 : decode cc (pc + 3) = .ok (.dup, 1)) (hd4 : decode cc (pc + 4) = .ok (.invokespecial ic, 3)) (hd7 : decode cc (pc + 7) = .ok (.athrow, 1)) (hout : ∀ y ∈ c.exceptionTable.toList, covers y (pc + 7) = false)
    (hR : names.length + 3 < R.frames ∧ (rest.map fun v => v.category).sum + 13 * (names.length + 1) + 60 ≤ R.locals ∧ cells + 1 ≤ R.cells ∧ slots + 6 ≤ R.slots) (hHs : s.heap.size ≤ H.size)
    (hq : ∀ (t : State) (x : Nat), s.heap.size ≤ t.heap.size → (∀ q : Nat, q < s.heap.size → t.heap[q]? = s.heap[q]?) → s.WarmedH t.vm → pq_exc t x cls → Qc args s (.threw x) t) :
    W p l e R s m args below meth c H [] cells slots (mt_MQ below Qc args s (cells + 1) (slots + 6) free) (F0 m pc ls rest) := by
  refine W.newc hexec hb hown hcl hins hini rfl hd0 hR.2.2.1 hR.2.2.2 fun cC kC h1 h2 h3 h4 => ?_
  refine lv_dup hexec hb hd3 rfl ?_
  intro T hT X
  obtain ⟨U, st, hrun, hend, hW, hsm, ce, hce, ho⟩ := X.ctorThrow0 hexec htr (own := own) (cls := cls) (names := names) (ic := ic) hown hcls hnames h (fun y hy => by cases hy) h1 h2 (a := H.size) (by rw [hT]; simp [freshCell]) hHs (g := F0 m (pc + 4) ls (.ref H.size :: .ref H.size :: rest)) rfl hsize rfl rfl rfl (by rw [hb]; exact hd4) (by rw [hb]; exact hd7) hout hR.1 (by simp; have := hR.2.1; simp [Value.category] at *; omega) hlocks
  have hkeep : ∀ q : Nat, q < s.heap.size → U.heap[q]? = s.heap[q]? := by
    intro q hq
    obtain ⟨-, -, -, -, -, q6⟩ := hsm
    obtain ⟨c', w1, w2, w3, w4⟩ := q6 q s.heap[q] (Array.getElem?_eq_getElem hq)
    have hs : c'.slots = s.heap[q].slots := by
      apply Array.ext_getElem?
      intro i
      exact w4 i (by simp)
    rw [show U.heap[q]? = some c' from w1, Array.getElem?_eq_getElem hq, w2, hs]
  refine ⟨U, st, .threw H.size, hrun, hend, hq U H.size ?_ hkeep hW ⟨ce, hce, ?_, ?_⟩, [], ⟨hW, hsm⟩, fun y hy => by cases hy⟩
  · exact hsm.2.1
  · rw [ho.vm]; rfl
  · rw [hW.alike.findClass]; exact ho.cls
end MTC
