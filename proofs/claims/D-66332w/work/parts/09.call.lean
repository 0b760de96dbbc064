/-! calls and ends of contracts -/
section CC
variable {p : Program} {l : Launch} {e : Env} {R : Room} {s : State} {m : MethodId} {args : Array Value} {below : List Frame} {meth : Method} {c : Code} {H : Heap} {locs : List Loc} {cells slots : Nat} {Q : State → Prop}
variable {cc : ByteArray} {pc : Nat} {ls : Array Slot} {rest stk : List Value} {D : pq_D} {P P0 : Pic} {A : Nat → Prop} {H0 : Heap} {nL : Nat}
def cq_Q (D : pq_D) (P : Pic) (ro : Bool) (Post : Option Value → Pic → Prop) (Thr : String → Pic → Prop) : Array Value → State → Outcome → State → Prop :=
  fun _ st o t => st.heap.size ≤ t.heap.size ∧ (∀ q : Nat, q < st.heap.size → p_k P q = 0 ∨ ro = true → t.heap[q]? = st.heap[q]?) ∧ ∃ P1, Pi D P1 t.heap ∧ (ro = true → P1 = P) ∧ (∀ q, p_k P1 q ≠ 0 → p_k P q ≠ 0 ∨ st.heap.size ≤ q) ∧ ((∃ v, o = .returned v ∧ Post v P1) ∨ ∃ x X, o = .threw x ∧ pq_exc t x X ∧ X ∈ pq_xs ∧ Thr X P1)
def cq_free (P : Pic) (ro : Bool) : State → Nat → Prop := fun st q => ro = false ∧ (p_k P q ≠ 0 ∨ st.heap.size ≤ q)
def cq_A (P : Pic) (s : State) : Nat → Prop := fun q => p_k P q ≠ 0 ∨ s.heap.size ≤ q
theorem CT.def {y : MethodName} {hc : Cond} {rm : Room} {ro : Bool} {av : List Value} {Post : Option Value → Pic → Prop} {Thr : String → Pic → Prop} : CT l D y hc rm ro av P Post Thr = MT l y hc rm (fun v U => v = av.toArray ∧ Wd D P U) (cq_Q D P ro Post Thr) (cq_free P ro) := rfl
/-- what a walk knows from its start -/
def Cx (p : Program) (e : Env) (s : State) (m : MethodId) (args : Array Value) (meth : Method) (c : Code) (cc : ByteArray) (nL : Nat) (own : String) (D : pq_D) (P0 : Pic) : Prop :=
  p.tables.exec = Jvm.exec ∧ c.code = cc ∧ c.maxLocals = nL ∧ s.vm.findClass own = some m.cls ∧ meth.locks = false ∧ e.platform.stackTraces = false ∧ pq_T s ∧ pq_K D s ∧ pq_St s ∧ pq_N D s ∧ Pi D P0 s.heap
variable {own : String}
theorem pq_vmn {a : Nat} {cell : Cell} (hP : Pi D P H) (ha : p_k P a ≠ 0) (hk : p_k P a < 15 ∨ 100 < p_k P a) (h : H[a]? = some cell) : cell.vm.isStatics = false := by
  rcases hk with hk | hk
  · obtain ⟨k, hk1⟩ : ∃ k, p_k P a = k + 1 := ⟨p_k P a - 1, by omega⟩
    have hc : classes[k]? = some (classes.getD k ("", F_Wa, 0)) := by
      rw [List.getD_eq_getElem?_getD, List.getElem?_eq_getElem (show k < classes.length by show k < 14; omega)]; rfl
    obtain ⟨cell', w1, -, w3, -⟩ := hP.2.1 a k _ hk1 hc
    cases h.symm.trans w1
    rw [w3]; rfl
  · obtain ⟨t, ht⟩ : ∃ t, p_k P a = t + 101 := ⟨p_k P a - 101, by omega⟩
    have := hP.2.2.1 a t ht
    cases h.symm.trans this
    unfold pq_A vp_cell
    split <;> rfl
theorem Cx.wd {U : State} (C : Cx p e s m args meth c cc nL own D P0) (hst : ∀ (a : Nat) (cell : Cell), s.heap[a]? = some cell → cell.vm.isStatics = true → H[a]? = some cell) (hP : Pi D P H) (hU : U.heap = H) (hW : s.WarmedH U.vm) : Wd D P U := by
  obtain ⟨-, -, -, -, -, -, hT, hK, hSt, hN, -⟩ := C
  exact ⟨hT.warm hW, va_K.moved hW.alike hK, hSt.move hW.alike (fun a cell h1 h2 => by rw [hU]; exact hst a cell h1 h2), hN.move hW.alike, by rw [hU]; exact hP⟩
theorem Cx.stat (C : Cx p e s m args meth c cc nL own D P0) (hS : Sg (cq_A P0 s) s.heap H P locs) : ∀ (a : Nat) (cell : Cell), s.heap[a]? = some cell → cell.vm.isStatics = true → H[a]? = some cell := by
  intro a cell h1 h2
  have hlt := (Array.getElem?_eq_some_iff.mp h1).1
  rw [hS.1.2.1 a hlt (fun hA => ?_)]
  · exact h1
  · rcases hA with hA | hA
    · have := pq_vmn C.2.2.2.2.2.2.2.2.2.2 hA ((C.2.2.2.2.2.2.2.2.2.2.1.2 a hA).2) h1
      rw [h2] at this; cases this
    · omega
theorem ct_call {y : MethodName} {hc : Cond} {rm : Room} {ro : Bool} {av : List Value} {Post : Option Value → Pic → Prop} {Thr : String → Pic → Prop} {maxL len : Nat} {ig : Instr} (C : Cx p e s m args meth c cc nL own D P0)
    (hI : mt_Inv p l e R s m args below meth c H locs cells slots y maxL av.toArray (F0 m pc ls stk) (F0 m pc ls rest)) (hM : CT l D y hc rm ro av P Post Thr) (hcm : hc ∈ pq_tbl) (him : Cond.initialized y.cls ∈ pq_tbl)
    (hfr : rm.frames + 1 ≤ R.frames ∧ 8 + (maxL + 11) + rm.locals ≤ R.locals) (hroom : cells + rm.cells ≤ R.cells ∧ slots + rm.slots ≤ R.slots) (hsize : ls.size = nL) (hdg : decode cc pc = .ok (ig, len)) (hW : (rest.map fun v => v.category).sum ≤ 8) (hP : Pi D P H) (hS : Sg (cq_A P0 s) s.heap H P locs)
    (kr : ∀ (v : Option Value) (P1 : Pic) (H1 : Heap) (locs1 : List Loc), Post v P1 → Pi D P1 H1 → Sg (cq_A P0 s) s.heap H1 P1 locs1 → W p l e R s m args below meth c H1 locs1 (cells + rm.cells) (slots + rm.slots) Q (F0 m (pc + len) ls (v.toList ++ rest)))
    (kt : ∀ (x : Nat) (X : String) (P1 : Pic) (H1 : Heap) (locs1 : List Loc), Thr X P1 → X ∈ pq_xs → (∃ cell : Cell, H1[x]? = some cell ∧ cell.vm.isStatics = false ∧ s.vm.findClass X = some cell.cls) → Pi D P1 H1 → Sg (cq_A P0 s) s.heap H1 P1 locs1 → WT p l e R s m args below meth c H1 locs1 (cells + rm.cells) (slots + rm.slots) Q x (F0 m pc ls rest)) :
    W p l e R s m args below meth c H locs cells slots Q (F0 m pc ls stk) := by
  have hst := Cx.stat C hS
  have hsg : ∀ (P1 : Pic) (st t : State) (L : List Loc), st.heap = H → st.heap.size ≤ t.heap.size → (∀ q : Nat, q < st.heap.size → p_k P q = 0 ∨ ro = true → t.heap[q]? = st.heap[q]?) → (∀ q, p_k P1 q ≠ 0 → p_k P q ≠ 0 ∨ st.heap.size ≤ q) → (∀ q ∈ L, cq_free P ro st q.base) → Sg (cq_A P0 s) s.heap t.heap P1 (locs ++ L) := by
    intro P1 st t L e0 h1 h2 h3 h4
    rw [e0] at h1 h2 h3
    refine ⟨⟨Nat.le_trans hS.1.1 h1, fun q hq hA => ?_, fun q hq => ?_⟩, fun q hq => ?_, hS.2.2⟩
    · rw [h2 q (Nat.lt_of_lt_of_le hq hS.1.1) (Or.inl ?_)]
      · exact hS.1.2.1 q hq hA
      · exact Classical.byContradiction fun hne => hA (hS.2.1 q hne)
    · rcases List.mem_append.mp hq with h | h
      · exact hS.1.2.2 q h
      · rcases (h4 q h).2 with h5 | h5
        · exact hS.2.1 _ h5
        · rw [e0] at h5; exact hS.2.2 _ (Nat.le_trans hS.1.1 h5)
    · rcases h3 q hq with h5 | h5
      · exact hS.2.1 _ h5
      · exact hS.2.2 _ (Nat.le_trans hS.1.1 h5)
  have C' := C
  obtain ⟨hx, hb, hml, -, -, -, hT, -⟩ := C'
  refine mt_callW hI hM (fun U hWU => ⟨hT.warm hWU _ hcm _, hT.warm hWU _ him _⟩) ⟨hfr.1, hfr.2, hroom.1, hroom.2⟩ rfl (by rw [hml]; exact hsize) (by rw [hb]; exact hdg) (by simpa using hW) (fun U hU hWU => ⟨rfl, Cx.wd C hst hP hU hWU⟩) ?_ ?_
  · intro v st t L H1 e0 e1 hWt hL hq
    obtain ⟨h1, h2, P1, h3, h4, h5, h6⟩ := hq
    rcases h6 with ⟨v', e2, h7⟩ | ⟨x, X, e2, -⟩
    · cases e2
      subst e1
      exact kr v P1 _ _ h7 h3 (hsg P1 st t L e0 h1 h2 h5 hL)
    · cases e2
  · intro x st t L H1 e0 e1 hWt hL hq
    obtain ⟨h1, h2, P1, h3, h4, h5, h6⟩ := hq
    rcases h6 with ⟨v', e2, -⟩ | ⟨x', X, e2, ⟨cell, g1, g2, g3⟩, hX, h7⟩
    · cases e2
    · cases e2
      subst e1
      exact kt x X P1 _ _ h7 hX ⟨cell, g1, g2, by rw [← hWt.alike.findClass]; exact g3⟩ h3 (hsg P1 st t L e0 h1 h2 h5 hL)
/-- a callee that writes nothing old: the picture stays -/
theorem ct_callr {y : MethodName} {hc : Cond} {rm : Room} {av : List Value} {Post : Option Value → Pic → Prop} {Thr : String → Pic → Prop} {maxL len : Nat} {ig : Instr} (C : Cx p e s m args meth c cc nL own D P0)
    (hI : mt_Inv p l e R s m args below meth c H locs cells slots y maxL av.toArray (F0 m pc ls stk) (F0 m pc ls rest)) (hM : CT l D y hc rm true av P Post Thr) (hcm : hc ∈ pq_tbl) (him : Cond.initialized y.cls ∈ pq_tbl)
    (hfr : rm.frames + 1 ≤ R.frames ∧ 8 + (maxL + 11) + rm.locals ≤ R.locals) (hroom : cells + rm.cells ≤ R.cells ∧ slots + rm.slots ≤ R.slots) (hsize : ls.size = nL) (hdg : decode cc pc = .ok (ig, len)) (hW : (rest.map fun v => v.category).sum ≤ 8) (hP : Pi D P H) (hS : Sg (cq_A P0 s) s.heap H P locs)
    (kr : ∀ (v : Option Value) (H1 : Heap) (locs1 : List Loc), Post v P → Pi D P H1 → Sg (cq_A P0 s) s.heap H1 P locs1 → W p l e R s m args below meth c H1 locs1 (cells + rm.cells) (slots + rm.slots) Q (F0 m (pc + len) ls (v.toList ++ rest)))
    (kt : ∀ (x : Nat) (X : String) (H1 : Heap) (locs1 : List Loc), Thr X P → X ∈ pq_xs → (∃ cell : Cell, H1[x]? = some cell ∧ cell.vm.isStatics = false ∧ s.vm.findClass X = some cell.cls) → Pi D P H1 → Sg (cq_A P0 s) s.heap H1 P locs1 → WT p l e R s m args below meth c H1 locs1 (cells + rm.cells) (slots + rm.slots) Q x (F0 m pc ls rest)) :
    W p l e R s m args below meth c H locs cells slots Q (F0 m pc ls stk) := by
  have hM' : CT l D y hc rm true av P (fun v P1 => P1 = P ∧ Post v P1) (fun X P1 => P1 = P ∧ Thr X P1) := by
    intro p e ha hc hk s m args below hf happ hP hK
    obtain ⟨n, o, h1, h2, h3, h4, h5⟩ := hM p e ha hc hk s m args below hf happ hP hK
    refine ⟨n, o, h1, h2, h3, ?_, h5⟩
    obtain ⟨g1, g2, P1, g3, g4, g5, g6⟩ := h4
    refine ⟨g1, g2, P1, g3, g4, g5, ?_⟩
    rcases g6 with ⟨v, e1, g7⟩ | ⟨x, X, e1, g7, g8, g9⟩
    · exact Or.inl ⟨v, e1, g4 rfl, g7⟩
    · exact Or.inr ⟨x, X, e1, g7, g8, g4 rfl, g9⟩
  refine ct_call C hI hM' hcm him hfr hroom hsize hdg hW hP hS (fun v P1 H1 locs1 h h1 h2 => ?_) (fun x X P1 H1 locs1 h h1 h2 h3 h4 => ?_)
  · obtain ⟨rfl, h⟩ := h
    exact kr v H1 locs1 h h1 h2
  · obtain ⟨rfl, h⟩ := h
    exact kt x X H1 locs1 h h1 h2 h3 h4
/-- a walk that writes nothing old -/
def So (H0 H : Heap) : Prop := H0.size ≤ H.size ∧ ∀ q : Nat, q < H0.size → H[q]? = H0[q]?
theorem So.rf : So H H := ⟨Nat.le_refl _, fun _ _ => rfl⟩
theorem So.pi (hP : Pi D P H0) (h : So H0 H) : Pi D P H := by
  refine ⟨⟨Nat.le_trans hP.1.1 h.1, hP.1.2⟩, fun a k r hk hc => ?_, fun a t hk => ?_, hP.2.2.2⟩
  · have : a < H0.size := Nat.lt_of_lt_of_le (hP.1.2 a (by rw [hk]; omega)).1 hP.1.1
    exact (hP.2.1 a k r hk hc).kept (h.2 a this)
  · have : a < H0.size := Nat.lt_of_lt_of_le (hP.1.2 a (by rw [hk]; omega)).1 hP.1.1
    rw [h.2 a this]
    exact hP.2.2.1 a t hk
theorem ct_callo {y : MethodName} {hc : Cond} {rm : Room} {av : List Value} {Post : Option Value → Pic → Prop} {Thr : String → Pic → Prop} {maxL len : Nat} {ig : Instr} (C : Cx p e s m args meth c cc nL own D P)
    (hI : mt_Inv p l e R s m args below meth c H [] cells slots y maxL av.toArray (F0 m pc ls stk) (F0 m pc ls rest)) (hM : CT l D y hc rm true av P Post Thr) (hcm : hc ∈ pq_tbl) (him : Cond.initialized y.cls ∈ pq_tbl)
    (hfr : rm.frames + 1 ≤ R.frames ∧ 8 + (maxL + 11) + rm.locals ≤ R.locals) (hroom : cells + rm.cells ≤ R.cells ∧ slots + rm.slots ≤ R.slots) (hsize : ls.size = nL) (hdg : decode cc pc = .ok (ig, len)) (hW : (rest.map fun v => v.category).sum ≤ 8) (hO : So s.heap H)
    (kr : ∀ (v : Option Value) (H1 : Heap), Post v P → So s.heap H1 → W p l e R s m args below meth c H1 [] (cells + rm.cells) (slots + rm.slots) Q (F0 m (pc + len) ls (v.toList ++ rest)))
    (kt : ∀ (x : Nat) (X : String) (H1 : Heap), Thr X P → X ∈ pq_xs → (∃ cell : Cell, H1[x]? = some cell ∧ cell.vm.isStatics = false ∧ s.vm.findClass X = some cell.cls) → So s.heap H1 → WT p l e R s m args below meth c H1 [] (cells + rm.cells) (slots + rm.slots) Q x (F0 m pc ls rest)) :
    W p l e R s m args below meth c H [] cells slots Q (F0 m pc ls stk) := by
  have hnil : ∀ (st : State) (L : List Loc), (∀ q ∈ L, cq_free P true st q.base) → L = [] := by
    intro st L h
    cases L with
    | nil => rfl
    | cons a L => exact absurd (h a List.mem_cons_self).1 (by decide)
  have C' := C
  obtain ⟨hx, hb, hml, -, -, -, hT, -, -, -, hP0⟩ := C'
  refine mt_callW hI hM (fun U hWU => ⟨hT.warm hWU _ hcm _, hT.warm hWU _ him _⟩) ⟨hfr.1, hfr.2, hroom.1, hroom.2⟩ rfl (by rw [hml]; exact hsize) (by rw [hb]; exact hdg) (by simpa using hW) (fun U hU hWU => ⟨rfl, Cx.wd C (fun a cell h1 _ => by rw [hO.2 a (Array.getElem?_eq_some_iff.mp h1).1]; exact h1) (So.pi hP0 hO) hU hWU⟩) ?_ ?_
  · intro v st t L H1 e0 e1 hWt hL hq
    obtain ⟨h1, h2, P1, h3, h4, h5, h6⟩ := hq
    have hL0 := hnil st L hL
    subst hL0
    cases h4 rfl
    rcases h6 with ⟨v', e2, h7⟩ | ⟨x, X, e2, -⟩
    · cases e2
      subst e1
      rw [e0] at h1 h2
      exact kr v _ h7 ⟨Nat.le_trans hO.1 h1, fun q hq => (h2 q (Nat.lt_of_lt_of_le hq hO.1) (Or.inr rfl)).trans (hO.2 q hq)⟩
    · cases e2
  · intro x st t L H1 e0 e1 hWt hL hq
    obtain ⟨h1, h2, P1, h3, h4, h5, h6⟩ := hq
    have hL0 := hnil st L hL
    subst hL0
    cases h4 rfl
    rcases h6 with ⟨v', e2, -⟩ | ⟨x', X, e2, ⟨cell, g1, g2, g3⟩, hX, h7⟩
    · cases e2
    · cases e2
      subst e1
      rw [e0] at h1 h2
      exact kt x X _ h7 hX ⟨cell, g1, g2, by rw [← hWt.alike.findClass]; exact g3⟩ ⟨Nat.le_trans hO.1 h1, fun q hq => (h2 q (Nat.lt_of_lt_of_le hq hO.1) (Or.inr rfl)).trans (hO.2 q hq)⟩
/-- the ends -/
theorem cq_end {Post : Option Value → Pic → Prop} {Thr : String → Pic → Prop} {v : Option Value} (hP : Pi D P H) (hS : Sg (cq_A P0 s) s.heap H P locs) (hpost : Post v P) : ∀ t : State, t.heap = H → s.WarmedH t.vm → cq_Q D P0 false Post Thr args s (.returned v) t := by
  intro t ht _
  refine ⟨by rw [ht]; exact hS.1.1, fun q hq h => ?_, P, by rw [ht]; exact hP, fun h => (by cases h), fun q hq => hS.2.1 q hq, Or.inl ⟨v, rfl, hpost⟩⟩
  rw [ht]
  refine hS.1.2.1 q hq (fun hA => ?_)
  rcases h with h | h
  · rcases hA with hA | hA
    · exact hA h
    · omega
  · cases h
theorem cq_locs (hS : Sg (cq_A P0 s) s.heap H P locs) : ∀ q ∈ locs, cq_free P0 false s q.base := fun q hq => ⟨rfl, hS.1.2.2 q hq⟩
theorem cq_endo {Post : Option Value → Pic → Prop} {Thr : String → Pic → Prop} {v : Option Value} (hP : Pi D P s.heap) (hO : So s.heap H) (hpost : Post v P) : ∀ t : State, t.heap = H → s.WarmedH t.vm → cq_Q D P true Post Thr args s (.returned v) t := by
  intro t ht _
  exact ⟨by rw [ht]; exact hO.1, fun q hq _ => by rw [ht]; exact hO.2 q hq, P, by rw [ht]; exact So.pi hP hO, fun _ => rfl, fun q hq => Or.inl hq, Or.inl ⟨v, rfl, hpost⟩⟩
theorem cq_out {Post : Option Value → Pic → Prop} {Thr : String → Pic → Prop} {x mc ms : Nat} {X : String} (hlocks : meth.locks = false) (hout : ∀ y ∈ c.exceptionTable.toList, covers y pc = false) (hmc : cells ≤ mc) (hms : slots ≤ ms) (hX : X ∈ pq_xs) (hcell : ∃ cell : Cell, H[x]? = some cell ∧ cell.vm.isStatics = false ∧ s.vm.findClass X = some cell.cls) (hP : Pi D P H) (hS : Sg (cq_A P0 s) s.heap H P locs) (hthr : Thr X P) :
    WT p l e R s m args below meth c H locs cells slots (mt_MQ below (cq_Q D P0 false Post Thr) args s mc ms (cq_free P0 false)) x (F0 m pc ls rest) := by
  have h : WT p l e R s m args below meth c H locs mc ms (mt_MQ below (cq_Q D P0 false Post Thr) args s mc ms (cq_free P0 false)) x (F0 m pc ls rest) := by
    refine WT.out hlocks hout (fun t ht hW => ?_) (cq_locs hS)
    obtain ⟨cell, g1, g2, g3⟩ := hcell
    refine ⟨by rw [ht]; exact hS.1.1, fun q hq h => ?_, P, by rw [ht]; exact hP, fun h => (by cases h), fun q hq => hS.2.1 q hq, Or.inr ⟨x, X, rfl, ⟨cell, by rw [ht]; exact g1, g2, by rw [hW.alike.findClass]; exact g3⟩, hX, hthr⟩⟩
    rw [ht]
    refine hS.1.2.1 q hq (fun hA => ?_)
    rcases h with h | h
    · rcases hA with hA | hA
      · exact hA h
      · omega
    · cases h
  intro T hT X
  exact h T hT (stand_widen X hmc hms)
theorem cq_outo {Post : Option Value → Pic → Prop} {Thr : String → Pic → Prop} {x mc ms : Nat} {X : String} (hlocks : meth.locks = false) (hout : ∀ y ∈ c.exceptionTable.toList, covers y pc = false) (hmc : cells ≤ mc) (hms : slots ≤ ms) (hX : X ∈ pq_xs) (hcell : ∃ cell : Cell, H[x]? = some cell ∧ cell.vm.isStatics = false ∧ s.vm.findClass X = some cell.cls) (hP : Pi D P s.heap) (hO : So s.heap H) (hthr : Thr X P) :
    WT p l e R s m args below meth c H [] cells slots (mt_MQ below (cq_Q D P true Post Thr) args s mc ms (cq_free P true)) x (F0 m pc ls rest) := by
  have h : WT p l e R s m args below meth c H [] mc ms (mt_MQ below (cq_Q D P true Post Thr) args s mc ms (cq_free P true)) x (F0 m pc ls rest) := by
    refine WT.out hlocks hout (fun t ht hW => ?_) (fun q hq => by cases hq)
    obtain ⟨cell, g1, g2, g3⟩ := hcell
    exact ⟨by rw [ht]; exact hO.1, fun q hq _ => by rw [ht]; exact hO.2 q hq, P, by rw [ht]; exact So.pi hP hO, fun _ => rfl, fun q hq => Or.inl hq, Or.inr ⟨x, X, rfl, ⟨cell, by rw [ht]; exact g1, g2, by rw [hW.alike.findClass]; exact g3⟩, hX, hthr⟩⟩
  intro T hT X
  exact h T hT (stand_widen X hmc hms)
/-- new X(); <init>; athrow, in a walk that has written nothing -/
theorem cq_throw {Post : Option Value → Pic → Prop} {Thr : String → Pic → Prop} {mc ms : Nat} (C : Cx p e s m args meth c cc nL own D P) {cls : String} {idx ic : Nat} (hX : cls ∈ pq_xs) (hcls : Bundle.fit cls = true) (hcl : Cond.classLink own idx cls ∈ pq_tbl) (hins : Cond.instantiable cls 6 ∈ pq_tbl) (hini : Cond.initialized cls ∈ pq_tbl) (hat : ∀ a ∈ Bundle.ownAtoms0 own ic cls ["java/lang/RuntimeException", "java/lang/Exception"], a ∈ pq_tbl ∨ a ∈ ([.laysStatic Bundle.tN "UNASSIGNED_STACK" Bundle.steD, .isRef (.static Bundle.tN "UNASSIGNED_STACK" Bundle.steD), .laysStatic Bundle.tN "SUPPRESSED_SENTINEL" Bundle.listD, .isRef (.static Bundle.tN "SUPPRESSED_SENTINEL" Bundle.listD)] : List Cond))
    (hsize : ls.size = nL) (hd0 : decode cc pc = .ok (.new idx, 3)) (hd3 : decode cc (pc + 3) = .ok (.dup, 1)) (hd4 : decode cc (pc + 4) = .ok (.invokespecial ic, 3)) (hd7 : decode cc (pc + 7) = .ok (.athrow, 1)) (hout : ∀ y ∈ c.exceptionTable.toList, covers y (pc + 7) = false)
    (hR : 5 < R.frames ∧ (rest.map fun v => v.category).sum + 100 ≤ R.locals ∧ cells + 1 ≤ R.cells ∧ slots + 6 ≤ R.slots) (hmc : cells + 1 ≤ mc) (hms : slots + 6 ≤ ms) (hO : So s.heap H) (hthr : Thr cls P) :
    W p l e R s m args below meth c H [] cells slots (mt_MQ below (cq_Q D P true Post Thr) args s mc ms (cq_free P true)) (F0 m pc ls rest) := by
  obtain ⟨hx, hb, hml, hown, hlocks, htr, hT, hK, hSt, hN, hP0⟩ := C
  have key : W p l e R s m args below meth c H [] cells slots (mt_MQ below (cq_Q D P true Post Thr) args s (cells + 1) (slots + 6) (cq_free P true)) (F0 m pc ls rest) := by
    refine mt_throwNew hx hb htr (names := ["java/lang/RuntimeException", "java/lang/Exception"]) hown hcls (by decide +kernel) (hT _ hcl _) (hT _ hins _) (hT _ hini _) (fun a ha => ?_) hlocks (hsize.trans hml.symm) hd0 hd3 hd4 hd7 hout ⟨hR.1, by have := hR.2.1; simp only [List.length]; omega, hR.2.2.1, hR.2.2.2⟩ hO.1 (fun t x h1 h2 hW hexc => ?_)
    · rcases hat a ha with h | h
      · exact hT a h _
      · simp only [List.mem_cons, List.not_mem_nil, or_false] at h
        have hm := hSt.move (u := s) (U := s) (Vm.Alike.refl _) (fun _ _ h _ => h)
        rcases h with rfl | rfl | rfl | rfl
        · exact (pq_ls_move (A' := args) (Vm.Alike.refl _) (fun _ _ h _ => h) hSt.1.1 hSt.1.2).1
        · exact (pq_ls_move (A' := args) (Vm.Alike.refl _) (fun _ _ h _ => h) hSt.1.1 hSt.1.2).2
        · exact (pq_ls_move (A' := args) (Vm.Alike.refl _) (fun _ _ h _ => h) hSt.2.1 hSt.2.2).1
        · exact (pq_ls_move (A' := args) (Vm.Alike.refl _) (fun _ _ h _ => h) hSt.2.1 hSt.2.2).2
    · exact ⟨h1, fun q hq _ => h2 q hq, P, So.pi hP0 ⟨h1, h2⟩, fun _ => rfl, fun q hq => Or.inl hq, Or.inr ⟨x, cls, rfl, hexc, hX, hthr⟩⟩
  refine mt_mono (fun t ht => ?_) key
  obtain ⟨o, h1, h2, h3, L, ⟨h4, h5⟩, h6⟩ := ht
  exact ⟨o, h1, h2, h3, L, ⟨h4, h5.mono hmc hms⟩, h6⟩
theorem cq_widen {Qc : Array Value → State → Outcome → State → Prop} {free : State → Nat → Prop} {mc ms : Nat} {g : JFrame} (hmc : cells ≤ mc) (hms : slots ≤ ms) (k : W p l e R s m args below meth c H locs mc ms (MQ below Qc args s mc ms (free s)) g) : W p l e R s m args below meth c H locs cells slots (mt_MQ below Qc args s mc ms free) g :=
  W.widen hmc hms (mt_mono mt_ofMQ k)
/-- an exception is caught by a row of the method's table -/
theorem cq_caught {hs : List (Nat × Nat × Nat × Nat)} {x i : Nat} {X : String} {ys : List String} (C : Cx p e s m args meth c cc nL own D P0) (htab : c.exceptionTable.toList = tableOf hs) (hX : X ∈ pq_xs) (hcell : ∃ cell : Cell, H[x]? = some cell ∧ cell.vm.isStatics = false ∧ s.vm.findClass X = some cell.cls) (hcast : Cond.castable X X ∈ pq_tbl) (hmg : e.platform.magicAccessors = ({} : Platform).magicAccessors)
    (hi : i < hs.length) (hys : ys.length = hs.length) (hys2 : ∀ j, j ≤ i → ys.getD j "" ∈ pq_xs ∧ Cond.classLink own (hs.getD j (0, 0, 0, 0)).2.2.2 (ys.getD j "") ∈ pq_tbl ∧ (hs.getD j (0, 0, 0, 0)).2.2.2 ≠ 0 ∧ (hs.getD j (0, 0, 0, 0)).1 ≤ pc ∧ pc < (hs.getD j (0, 0, 0, 0)).2.1) (hne : ∀ j, j < i → ys.getD j "" ≠ X) (heq : ys.getD i "" = X)
    (k : W p l e R s m args below meth c H locs cells slots Q (F0 m (hs.getD i (0, 0, 0, 0)).2.2.1 ls [.ref x])) : WT p l e R s m args below meth c H locs cells slots Q x (F0 m pc ls rest) := by
  obtain ⟨hx, hb, hml, hown, hlocks, htr, hT, hK, hSt, hN, hP0⟩ := C
  obtain ⟨cell, g1, g2, g3⟩ := hcell
  have hrow : ∀ j, j ≤ i → mt_row e.platform s m.cls pc cell.cls (decide (j = i)) ⟨(hs.getD j (0, 0, 0, 0)).1, (hs.getD j (0, 0, 0, 0)).2.1, (hs.getD j (0, 0, 0, 0)).2.2.1, (hs.getD j (0, 0, 0, 0)).2.2.2⟩ := by
    intro j hj
    obtain ⟨w1, w2, w3, w4, w5⟩ := hys2 j hj
    obtain ⟨cy, hcy, hcl⟩ := Cond.classLink_spec hown (hT _ w2 args) e.platform hmg
    refine ⟨by show (decide _ && decide _) = true; rw [decide_eq_true w4, decide_eq_true w5]; rfl, w3, cy, hcl, ?_⟩
    by_cases hji : j = i
    · subst hji
      rw [heq] at hcy
      cases hcy.symm.trans g3
      obtain ⟨c3, c4, hc3, hc4, hasg⟩ := Cond.castable_spec (hT _ hcast args)
      cases Option.some.inj (hc3.symm.trans g3)
      cases Option.some.inj (hc4.symm.trans g3)
      simpa using hasg
    · rw [hN.1 X hX (ys.getD j "") w1 (fun h => hne j (by omega) h.symm) cell.cls cy g3 hcy]
      simp [hji]
  have hsplit : c.exceptionTable.toList = (tableOf hs).take i ++ ⟨(hs.getD i (0, 0, 0, 0)).1, (hs.getD i (0, 0, 0, 0)).2.1, (hs.getD i (0, 0, 0, 0)).2.2.1, (hs.getD i (0, 0, 0, 0)).2.2.2⟩ :: (tableOf hs).drop (i + 1) := by
    rw [htab]
    have hil : i < (tableOf hs).length := by simpa [tableOf] using hi
    have hg : (tableOf hs)[i] = ⟨(hs.getD i (0, 0, 0, 0)).1, (hs.getD i (0, 0, 0, 0)).2.1, (hs.getD i (0, 0, 0, 0)).2.2.1, (hs.getD i (0, 0, 0, 0)).2.2.2⟩ := by
      simp [tableOf, List.getD_eq_getElem?_getD, List.getElem?_eq_getElem hi]
    rw [← hg]
    simp
  refine WT.caught g1 g2 (Vm.classAt_of_findClass g3) _ _ _ hsplit (fun y hy => ?_) ?_ k
  · obtain ⟨j, hj, rfl⟩ := List.mem_take_iff_getElem.mp hy
    have hjl : j < hs.length := by have := hj; simp [tableOf] at this; omega
    have hji : j < i := by have := hj; simp [tableOf] at this; omega
    have := hrow j (by omega)
    rw [show decide (j = i) = false by simp; omega] at this
    simpa [tableOf, List.getD_eq_getElem?_getD, List.getElem?_eq_getElem hjl] using this
  · have := hrow i (Nat.le_refl _)
    simpa using this
end CC
