/-! Contracts that may end by a throw. MT: a method's contract, either way of ending. WT: the machine at a frame over which an exception is being thrown. -/
section MTA
variable {p : Program} {l : Launch} {e : Env} {R : Room} {s : State} {m : MethodId} {args : Array Value} {below : List Frame} {meth : Method} {c : Code} {H : Heap} {locs : List Loc} {cells slots : Nat} {Q : State → Prop}
def mt_Fe (st t : State) (L : List Loc) (k n : Nat) : Prop := st.WarmedH t.vm ∧ st.sameButNew ({ t with vm := st.vm } : State) L k n
def MT (l : Launch) (y : MethodName) (hc : Cond) (rm : Room) (Pc : Array Value → State → Prop) (Qc : Array Value → State → Outcome → State → Prop) (free : State → Nat → Prop) : Prop :=
  MetFree l y (headSpec [hc] rm) Pc (fun _ _ _ _ _ => True) (fun a st o t => Qc a st o t ∧ ∃ L, mt_Fe st t L rm.cells rm.slots ∧ ∀ q ∈ L, free st q.base)
def mt_end (B : State) (g : JFrame) (len : Nat) (o : Outcome) : State := match o with
  | .returned v => B.setTop { g with pc := g.pc + len, stack := v.toList ++ g.stack }
  | .threw x => (B.setTop g).pushFrame (.throwing x)
/-- the callee has ended, one way or the other, and the caller stands again -/
theorem mt_back {U : State} {y : MethodName} {hc : Cond} {rm : Room} {Pc : Array Value → State → Prop} {Qc : Array Value → State → Outcome → State → Prop} {free : State → Nat → Prop} (X : Stand p l e R s m args below meth c U locs cells slots) (hM : MT l y hc rm Pc Qc free) {mk : MethodId} {methY : Method} {cY : Code} {maxL len : Nat} {ig : Instr} {a : Array Value} {g : JFrame}
    (hn : U.methodNamed? y = some mk) (hmY : U.vm.method? mk = some methY) (hcY : methY.code = some cY) (hlY : cY.maxLocals = maxL) (h1 : hc.before a U = true) (h3 : (Cond.initialized y.cls).before a U = true)
    (hframes : rm.frames + 1 ≤ R.frames) (hlocals : 8 + (maxL + 11) + rm.locals ≤ R.locals) (h4 : cells + rm.cells ≤ R.cells) (h5 : slots + rm.slots ≤ R.slots)
    (hg : g.method = m) (hsize : g.locals.size = c.maxLocals) (hdg : decode c.code g.pc = .ok (ig, len)) (hW : 2 * g.monitorRoom + (g.stack.map fun v => v.category).sum ≤ 8) (hP : Pc a (U.calling g mk a)) :
    ∃ (o : Outcome) (t B : State) (L : List Loc), Stand p l e R s m args below meth c B (locs ++ L) (cells + rm.cells) (slots + rm.slots) ∧ B.heap = t.heap ∧ B.vm = t.vm ∧ (∀ q ∈ L, free (U.calling g mk a) q.base) ∧ Qc a (U.calling g mk a) o t ∧
      Steps p.tables e below (doInvoke e (U.setTop g) [] mk a).1 (mt_end B g len o) := by
  obtain ⟨kY, hkY, -⟩ := className_of_methodNamed hn
  have hinitY : kY.init = .initialized := Cond.initialized_spec (findClass_of_methodNamed hn) hkY h3
  have h : At U g.method c below := by rw [hg]; exact X.here
  have happ : (headSpec [hc] rm).appliesLoose y e.platform (U.calling g mk a) = true :=
    Spec.appliesLoose_calling (g := g) h hdg hn hkY hinitY
      (X.room_calling (g := g) (R' := rm) hsize hmY hcY hframes (by rw [hlY]; omega) h4 h5) (atoms_intro (fun w hw => by rw [List.mem_singleton] at hw; subst hw; exact h1))
  obtain ⟨mid, hmid⟩ := h.above
  have hfr : (U.setTop g).frames = (.java g :: mid) ++ below := by rw [State.frames_setTop' g h.top, hmid]; rfl
  obtain ⟨o, s₂, hsteps, -, hend, hq0⟩ := Steps.callFree hM p X.admits X.cas X.clock (acts := []) hfr happ hP trivial
  obtain ⟨hq, L, ⟨hW₂, hsm⟩, hL⟩ := hq0
  rw [State.frames_setTop' g h.top] at hend
  obtain ⟨e2, q2, q3, q4, q5, q6⟩ := id hsm
  have e3 : s₂ = ({ (U.calling g mk a).setFrames s₂.frames with heap := s₂.heap, slotsUsed := s₂.slotsUsed } : State).setVm s₂.vm := by
    have hz : s₂ = ({ s₂ with vm := (U.calling g mk a).vm } : State).setVm s₂.vm := rfl
    exact hz.trans (congrArg (fun z : State => z.setVm s₂.vm) e2)
  have hW' : U.WarmedH s₂.vm := hW₂
  obtain ⟨g₀, hg0⟩ := Option.isSome_iff_exists.mp h.top
  obtain ⟨r, hr⟩ := State.topJava?_eq_some.mp hg0
  have hr' : (({ U with heap := s₂.heap, slotsUsed := s₂.slotsUsed } : State).setVm s₂.vm).frames = .java g₀ :: r := hr
  have hsame : U.sameButNew ({ U with heap := s₂.heap, slotsUsed := s₂.slotsUsed } : State) L rm.cells rm.slots := by
    refine ⟨?_, q2, q3, q4, q5, q6⟩
    obtain ⟨t, ht, -⟩ := State.frames_cons hr
    show ({ U with heap := s₂.heap, slotsUsed := s₂.slotsUsed } : State) = { U.setFrames U.frames with heap := s₂.heap, slotsUsed := s₂.slotsUsed }
    rw [State.setFrames_self ht]
  have hs₂ : s₂ = mt_end (({ U with heap := s₂.heap, slotsUsed := s₂.slotsUsed } : State).setVm s₂.vm) g len o := by
    cases o with
    | returned v =>
      obtain ⟨c₂, i₂, len₂, hc₂, hd₂, hf₂⟩ := hend
      have hcc : c₂ = c := by
        have h1 : s₂.code? g.method = U.code? g.method := by
          rw [State.code?_eq, State.code?_eq, hW'.alike.method?]
        exact Option.some.inj (hc₂.symm.trans (h1.trans h.code))
      subst hcc
      have hlen : len₂ = len := by rw [hdg] at hd₂; cases hd₂; rfl
      subst hlen
      refine e3.trans ?_
      show _ = State.setTop _ _
      rw [hf₂, State.calling_eq h.top, State.setFrames_setFrames, State.setTop_of_frames _ hr', hr]
      rfl
    | threw x =>
      have hf₂ : s₂.frames = .throwing x :: .java g :: U.frames.tail := hend
      refine e3.trans ?_
      show _ = State.pushFrame _ _
      rw [hf₂, State.calling_eq h.top, State.setFrames_setFrames, State.pushFrame, State.frames_setTop _ hr', State.setTop_of_frames _ hr', State.setFrames_setFrames, hr]
      rfl
  subst hg
  refine ⟨o, s₂, (({ U with heap := s₂.heap, slotsUsed := s₂.slotsUsed } : State).setVm s₂.vm), L,
    ⟨X.admits, X.cas, X.clock, X.frames, X.room, X.hears, X.method, X.code, (X.here.setHeapUsed s₂.heap s₂.slotsUsed).setVm hW'.alike, X.tail, State.WarmedH.trans X.warmed hW', X.limits, X.bytes, X.same.trans (hsame.setVm s.vm)⟩, rfl, rfl, hL, hq, ?_⟩
  rw [← hs₂]
  exact hsteps
/-- the machine comes to Q from a frame g over which x is being thrown -/
def WT (p : Program) (l : Launch) (e : Env) (R : Room) (s : State) (m : MethodId) (args : Array Value) (below : List Frame) (meth : Method) (c : Code) (H : Heap) (locs : List Loc) (cells slots : Nat) (Q : State → Prop) (x : Nat) (g : JFrame) : Prop :=
  ∀ T : State, T.heap = H → Stand p l e R s m args below meth c T locs cells slots → ∃ t, Steps p.tables e below ((T.setTop g).pushFrame (.throwing x)) t ∧ Q t
/-- the instruction at g invokes y with a; g2: the frame that waits -/
def mt_Inv (p : Program) (l : Launch) (e : Env) (R : Room) (s : State) (m : MethodId) (args : Array Value) (below : List Frame) (meth : Method) (c : Code) (H : Heap) (locs : List Loc) (cells slots : Nat) (y : MethodName) (maxL : Nat) (a : Array Value) (g g2 : JFrame) : Prop :=
  ∀ T : State, T.heap = H → Stand p l e R s m args below meth c T locs cells slots → ∃ (vm₁ : Vm) (mk : MethodId) (methY : Method) (cY : Code), Stand p l e R s m args below meth c (T.setVm vm₁) locs cells slots ∧ (T.setVm vm₁).methodNamed? y = some mk ∧ vm₁.method? mk = some methY ∧ methY.code = some cY ∧ cY.maxLocals = maxL ∧
    ∀ target, Steps p.tables e below (doInvoke e ((T.setVm vm₁).setTop g2) [] mk a).1 target → Steps p.tables e below (T.setTop g) target
theorem mt_callW {y : MethodName} {hc : Cond} {rm : Room} {Pc : Array Value → State → Prop} {Qc : Array Value → State → Outcome → State → Prop} {free : State → Nat → Prop} {maxL len : Nat} {ig : Instr} {a : Array Value} {g g2 : JFrame}
    (hI : mt_Inv p l e R s m args below meth c H locs cells slots y maxL a g g2) (hM : MT l y hc rm Pc Qc free)
    (hcd : ∀ U : State, s.WarmedH U.vm → hc.before a U = true ∧ (Cond.initialized y.cls).before a U = true)
    (hfr : rm.frames + 1 ≤ R.frames ∧ 8 + (maxL + 11) + rm.locals ≤ R.locals ∧ cells + rm.cells ≤ R.cells ∧ slots + rm.slots ≤ R.slots)
    (hg : g2.method = m) (hsize : g2.locals.size = c.maxLocals) (hdg : decode c.code g2.pc = .ok (ig, len)) (hW : 2 * g2.monitorRoom + (g2.stack.map fun v => v.category).sum ≤ 8)
    (hP : ∀ U : State, U.heap = H → s.WarmedH U.vm → Pc a U)
    (kr : ∀ (v : Option Value) (st t : State) (L : List Loc) (H1 : Heap), st.heap = H → t.heap = H1 → s.WarmedH t.vm → (∀ q ∈ L, free st q.base) → Qc a st (.returned v) t →
      W p l e R s m args below meth c H1 (locs ++ L) (cells + rm.cells) (slots + rm.slots) Q { g2 with pc := g2.pc + len, stack := v.toList ++ g2.stack })
    (kt : ∀ (x : Nat) (st t : State) (L : List Loc) (H1 : Heap), st.heap = H → t.heap = H1 → s.WarmedH t.vm → (∀ q ∈ L, free st q.base) → Qc a st (.threw x) t →
      WT p l e R s m args below meth c H1 (locs ++ L) (cells + rm.cells) (slots + rm.slots) Q x g2) :
    W p l e R s m args below meth c H locs cells slots Q g := by
  intro T hT X
  obtain ⟨vm₁, mk, methY, cY, X₁, hn, hmY, hcY, hlY, hst⟩ := hI T hT X
  obtain ⟨h1, h3⟩ := hcd (T.setVm vm₁) X₁.warmed
  obtain ⟨o, t, B, L, XB, e1, e2, hL, hq, hsteps⟩ := mt_back X₁ hM hn hmY hcY hlY h1 h3 hfr.1 hfr.2.1 hfr.2.2.1 hfr.2.2.2 hg hsize hdg hW (hP _ hT X₁.warmed)
  have hWt : s.WarmedH t.vm := by rw [← e2]; exact XB.warmed
  cases o with
  | returned v =>
    obtain ⟨u, a1, b1⟩ := kr v ((T.setVm vm₁).calling g2 mk a) t L B.heap hT e1.symm hWt hL hq B rfl XB
    exact ⟨u, hst u (hsteps.trans a1), b1⟩
  | threw x =>
    obtain ⟨u, a1, b1⟩ := kt x ((T.setVm vm₁).calling g2 mk a) t L B.heap hT e1.symm hWt hL hq B rfl XB
    exact ⟨u, hst u (hsteps.trans a1), b1⟩
end MTA
