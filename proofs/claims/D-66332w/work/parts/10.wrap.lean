/-! what a printed walk uses -/
def cp_v (K : Pic → Prop) : Option Value → Pic → Prop := fun v P => v = none ∧ K P
def cp_i (K : Int32 → Pic → Prop) : Option Value → Pic → Prop := fun v P => ∃ r, v = some (.int r) ∧ K r P
def cp_l (K : Int64 → Pic → Prop) : Option Value → Pic → Prop := fun v P => ∃ r, v = some (.long r) ∧ K r P
def cp_a (K : Nat → Pic → Prop) : Option Value → Pic → Prop := fun v P => ∃ r, v = some (.ref r) ∧ K r P
def cp_o (K : Option Nat → Pic → Prop) : Option Value → Pic → Prop := fun v P => ∃ r, v = some (va_rf r) ∧ K r P
theorem pq_nz {x : Int32} (h : x = 0 ∨ x = 1) : narrow .boolean (.int x) = .int x ∧ fits .boolean (.int x) = true := by rcases h with rfl | rfl <;> exact ⟨rfl, rfl⟩
section WR
variable {p : Program} {l : Launch} {e : Env} {R : Room} {s : State} {m : MethodId} {args : Array Value} {below : List Frame} {meth : Method} {c : Code} {H : Heap} {locs : List Loc} {cells slots : Nat} {Q : State → Prop}
variable {cc : ByteArray} {pc : Nat} {ls : Array Slot} {rest stk : List Value} {D : pq_D} {P P0 : Pic} {A : Nat → Prop} {H0 : Heap} {nL : Nat} {own : String}
theorem ct_of {y : MethodName} {hc : Cond} {rm : Room} {ro : Bool} {av : List Value} {po : Option Value → Pic → Prop} {th : String → Pic → Prop} {maxL : Nat} {ret : Option FieldType} {hs : List (Nat × Nat × Nat × Nat)}
    (hfl : l.flags = flags0) (hy : plainFor y = true) (his : (hc = .code y cc maxL ret ∧ hs = []) ∨ hc = .codeWith y cc maxL ret hs) (hlen : (lg_sl av).length ≤ maxL)
    (body : ∀ (p : Program) (e : Env) (s : State) (m : MethodId) (below : List Frame) (meth : Method) (c : Code), Cx p e s m av.toArray meth c cc maxL y.cls D P → e.platform.magicAccessors = ({} : Platform).magicAccessors → meth.sig.returnType = ret → meth.name = y.name → c.exceptionTable.toList = tableOf hs → ∀ ls : Array Slot, lv_has ls maxL (lv_args 0 av) →
      W p l e rm s m av.toArray below meth c s.heap [] 0 0 (mt_MQ below (cq_Q D P ro po th) av.toArray s rm.cells rm.slots (cq_free P ro)) (F0 m 0 ls [])) : CT l D y hc rm ro av P po th := by
  refine mt_of (cc := cc) (maxL := maxL) (ret := ret) hy (by rcases his with ⟨h, -⟩ | h; exact Or.inl h; exact Or.inr ⟨hs, h⟩) ?_
  intro p e s m args below meth c s₁ B hml hcd hPc
  obtain ⟨rfl, hT, hK, hSt, hN, hP⟩ := hPc
  have X := Stand.of_body B
  have htr : e.platform.stackTraces = false := Launch.traces_off hfl X.admits
  have hmg : e.platform.magicAccessors = ({} : Platform).magicAccessors := by rw [X.admits.platform]
  have htab : c.exceptionTable.toList = tableOf hs := by
    rcases his with ⟨h, h2⟩ | h
    · subst h; subst h2
      have := B.noHandlers hcd
      simp [tableOf] at this ⊢
      exact this
    · subst h
      obtain ⟨m', meth', c', hn', hm', hc', -, -, ht, -⟩ := Cond.codeWith_spec hcd
      cases B.named.symm.trans hn'
      cases B.method.symm.trans hm'
      cases X.code.symm.trans hc'
      rw [← ht, table_eq]
  have hl := lv_entry av (n := maxL) hlen
  rw [lg_entry_eq]
  generalize (lg_sl av ++ List.replicate (maxL - (lg_sl av).length) Slot.unset).toArray = ls at hl ⊢
  exact body p e s m below meth c ⟨B.exec, B.bytes, hml, findClass_of_methodNamed B.named, B.notSynchronized, htr, hT, hK, hSt, hN, hP⟩ hmg B.returns (name_of_methodNamed B.named B.method).1 htab ls hl
theorem pq_recv {a k : Nat} {r : vw_C} (hK : pq_K D s) (hP : Pi D P H) (hk : p_k P a = k + 1) (hc : classes[k]? = some r) : ∃ cell : Cell, H[a]? = some cell ∧ cell.vm.isStatics = false ∧ s.vm.findClass r.1 = some cell.cls := by
  obtain ⟨cell, q1, q2, q3, -⟩ := hP.2.1 a k r hk hc
  exact ⟨cell, q1, by rw [q3]; rfl, by rw [q2]; exact (hK.1 k r hc).2.1⟩
theorem Sg.start (hP : Pi D P s.heap) : Sg (cq_A P s) s.heap s.heap P [] := ⟨va_S.rf, fun _ h => Or.inl h, fun _ h => Or.inr h⟩
theorem pq_geta (hexec : p.tables.exec = Jvm.exec) (hb : c.code = cc) (hT : pq_T s) (hK : pq_K D s) (hP : Pi D P H) {a k j index f x : Nat} (L : pq_fl s m args index k j) (hk : p_k P a = k + 1) (hf : pq_F k j = (2, f)) (e1 : p_r P f a = some x) (hdg : decode cc pc = .ok (.getfield index, 3))
    (kk : W p l e R s m args below meth c H locs cells slots Q (F0 m (pc + 3) ls (.ref x :: rest))) : W p l e R s m args below meth c H locs cells slots Q (F0 m pc ls (.ref a :: rest)) :=
  pq_get hexec hb hT hK hP L hk (by unfold pq_V; rw [hf]; show va_rf (p_r P f a) = _; rw [e1]; rfl) hdg kk
theorem pq_geti2 (hexec : p.tables.exec = Jvm.exec) (hb : c.code = cc) (hT : pq_T s) (hK : pq_K D s) (hP : Pi D P H) {a index : Nat} (L1 : pq_fl s m args index 7 1) (L2 : pq_fl s m args index 8 1) (hk : p_k P a = 8 ∨ p_k P a = 9) (hdg : decode cc pc = .ok (.getfield index, 3))
    (kk : W p l e R s m args below meth c H locs cells slots Q (F0 m (pc + 3) ls (.int (p_i P 321 a) :: rest))) : W p l e R s m args below meth c H locs cells slots Q (F0 m pc ls (.ref a :: rest)) := by
  rcases hk with hk | hk
  · exact pq_geti hexec hb hT hK hP L1 hk rfl hdg kk
  · exact pq_geti hexec hb hT hK hP L2 hk rfl hdg kk
theorem pq_geta2 (hexec : p.tables.exec = Jvm.exec) (hb : c.code = cc) (hT : pq_T s) (hK : pq_K D s) (hP : Pi D P H) {a index x : Nat} (L1 : pq_fl s m args index 7 0) (L2 : pq_fl s m args index 8 0) (hk : p_k P a = 8 ∨ p_k P a = 9) (e1 : p_r P 320 a = some x) (hdg : decode cc pc = .ok (.getfield index, 3))
    (kk : W p l e R s m args below meth c H locs cells slots Q (F0 m (pc + 3) ls (.ref x :: rest))) : W p l e R s m args below meth c H locs cells slots Q (F0 m pc ls (.ref a :: rest)) := by
  rcases hk with hk | hk
  · exact pq_geta hexec hb hT hK hP L1 hk rfl e1 hdg kk
  · exact pq_geta hexec hb hT hK hP L2 hk rfl e1 hdg kk
theorem pq_puti2 (hexec : p.tables.exec = Jvm.exec) (hb : c.code = cc) (hT : pq_T s) (hK : pq_K D s) (hP : Pi D P H) (hS : Sg A H0 H P locs) {a index : Nat} {x : Int32} (L1 : pq_fl s m args index 7 1) (L2 : pq_fl s m args index 8 1) (hk : p_k P a = 8 ∨ p_k P a = 9) (hdg : decode cc pc = .ok (.putfield index, 3))
    (kk : ∀ (H1 : Heap) (locs1 : List Loc), Pi D (s_i P 321 a x) H1 → Sg A H0 H1 (s_i P 321 a x) locs1 → W p l e R s m args below meth c H1 locs1 cells slots Q (F0 m (pc + 3) ls rest)) : W p l e R s m args below meth c H locs cells slots Q (F0 m pc ls (.int x :: .ref a :: rest)) := by
  rcases hk with hk | hk
  · exact pq_puti hexec hb hT hK hP hS L1 hk rfl rfl rfl rfl hdg kk
  · exact pq_puti hexec hb hT hK hP hS L2 hk rfl rfl rfl rfl hdg kk
theorem pq_aalda (hexec : p.tables.exec = Jvm.exec) (hb : c.code = cc) (hK : pq_K D s) (hP : Pi D P H) {a x : Nat} (hk : p_k P a = 104 ∨ p_k P a = 105) {i : Int32} (hin : vp_in i (p_n P a)) (e1 : p_aq P a i.toNatClampNeg = some x) (hdg : decode cc pc = .ok (.aaload, 1))
    (kk : W p l e R s m args below meth c H locs cells slots Q (F0 m (pc + 1) ls (.ref x :: rest))) : W p l e R s m args below meth c H locs cells slots Q (F0 m pc ls (.int i :: .ref a :: rest)) :=
  pq_aald hexec hb hK hP hk hin hdg (by rw [e1]; exact kk)
/-- a putfield of a final field in a constructor: the link -/
theorem pq_putRa (hexec : p.tables.exec = Jvm.exec) (hb : c.code = cc) (hT : pq_T s) (hK : pq_K D s) (hP : Pi D P H) (hS : Sg A H0 H P locs) {a k j index f x : Nat} {own : String} (hown : s.vm.findClass own = some m.cls) (hin : meth.name = "<init>") (hdecl : ((classes.getD k ("", F_Wa, 0)).2.1 j).1 = own) (hc0 : k < 14) (hj : j < (classes.getD k ("", F_Wa, 0)).2.2) (hl : (Cond.fieldLink own index own ((classes.getD k ("", F_Wa, 0)).2.1 j).2.1 ((classes.getD k ("", F_Wa, 0)).2.1 j).2.2.1).before args s = true) (hk : p_k P a = k + 1) (hf : pq_F k j = (2, f)) (hnf : ((classes.getD k ("", F_Wa, 0)).2.1 j).2.2.2 = true) (hn : narrow ((pq_types.getD k []).getD j .int) (.ref x) = .ref x) (hfit : fits ((pq_types.getD k []).getD j .int) (.ref x) = true) (hdg : decode cc pc = .ok (.putfield index, 3))
    (kk : ∀ (H1 : Heap) (locs1 : List Loc), Pi D (s_r P f a (some x)) H1 → Sg A H0 H1 (s_r P f a (some x)) locs1 → W p l e R s m args below meth c H1 locs1 cells slots Q (F0 m (pc + 3) ls rest)) : W p l e R s m args below meth c H locs cells slots Q (F0 m pc ls (.ref x :: .ref a :: rest)) :=
  pq_putFr (x := some x) hexec hb hT hK hP hS hown hin hdecl hc0 hj hl hk hf hnf hn hfit hdg kk
theorem pq_puta (hexec : p.tables.exec = Jvm.exec) (hb : c.code = cc) (hT : pq_T s) (hK : pq_K D s) (hP : Pi D P H) (hS : Sg A H0 H P locs) {a k j index f x : Nat} (L : pq_fl s m args index k j) (hk : p_k P a = k + 1) (hf : pq_F k j = (2, f)) (hnf : ((classes.getD k ("", F_Wa, 0)).2.1 j).2.2.2 = false) (hn : narrow ((pq_types.getD k []).getD j .int) (.ref x) = .ref x) (hfit : fits ((pq_types.getD k []).getD j .int) (.ref x) = true) (hdg : decode cc pc = .ok (.putfield index, 3))
    (kk : ∀ (H1 : Heap) (locs1 : List Loc), Pi D (s_r P f a (some x)) H1 → Sg A H0 H1 (s_r P f a (some x)) locs1 → W p l e R s m args below meth c H1 locs1 cells slots Q (F0 m (pc + 3) ls rest)) : W p l e R s m args below meth c H locs cells slots Q (F0 m pc ls (.ref x :: .ref a :: rest)) :=
  pq_putr (x := some x) hexec hb hT hK hP hS L hk hf hnf hn hfit hdg kk
/-- checkcast -/
theorem pq_cast {a k index : Nat} {nm : String} {r : vw_C} (hexec : p.tables.exec = Jvm.exec) (hb : c.code = cc) (hT : pq_T s) (hK : pq_K D s) (hP : Pi D P H) (hown : s.vm.findClass own = some m.cls) (hlink : Cond.classLink own index nm ∈ pq_tbl) (hk : p_k P a = k + 1) (hc : classes[k]? = some r) (hca : Cond.castable r.1 nm ∈ pq_tbl) (hdg : decode cc pc = .ok (.checkcast index, 3))
    (kk : W p l e R s m args below meth c H locs cells slots Q (F0 m (pc + 3) ls (.ref a :: rest))) : W p l e R s m args below meth c H locs cells slots Q (F0 m pc ls (.ref a :: rest)) :=
  va_castY hexec hb hown (hT _ hlink _) (va_Nw.of rfl (hT _ hca #[])) (pq_recv hK hP hk hc) hdg kk
/-- locals that may be null -/
theorem lv_aload_nO (hexec : p.tables.exec = Jvm.exec) (hb : c.code = cc) {k : Fin 4} {i : Nat} {x : Option Nat} (hdg : decode cc pc = .ok (.aload_n k, 1)) (hi : (k : Nat) = i) (hl : ls[i]? = some (.val (va_rf x))) (kk : W p l e R s m args below meth c H locs cells slots Q (F0 m (pc + 1) ls (va_rf x :: rest))) : W p l e R s m args below meth c H locs cells slots Q (F0 m pc ls rest) := by
  cases x with
  | none => exact lv_aload_nN hexec hb hdg hi hl kk
  | some a => exact lv_aload_n hexec hb hdg hi hl kk
theorem lv_aloadO (hexec : p.tables.exec = Jvm.exec) (hb : c.code = cc) {i : Nat} {x : Option Nat} (hdg : decode cc pc = .ok (.aload i, 2)) (hl : ls[i]? = some (.val (va_rf x))) (kk : W p l e R s m args below meth c H locs cells slots Q (F0 m (pc + 2) ls (va_rf x :: rest))) : W p l e R s m args below meth c H locs cells slots Q (F0 m pc ls rest) := by
  cases x with
  | none => exact lv_aloadN hexec hb hdg hl kk
  | some a => exact lv_aload hexec hb hdg hl kk
theorem lv_astore_nO (hexec : p.tables.exec = Jvm.exec) (hb : c.code = cc) {k : Fin 4} {i nL : Nat} {x : Option Nat} {lv lv' : List (Nat × Value)} (hdg : decode cc pc = .ok (.astore_n k, 1)) (hi : (k : Nat) = i) (h : lv_has ls nL lv) (hn : i < nL) (hl : (i, va_rf x) :: lv.filter (fun q => !(q.1 == i) && !(q.1 + 1 == i && q.2.category == 2)) = lv') (kk : ∀ ls' : Array Slot, lv_has ls' nL lv' → W p l e R s m args below meth c H locs cells slots Q (F0 m (pc + 1) ls' rest)) : W p l e R s m args below meth c H locs cells slots Q (F0 m pc ls (va_rf x :: rest)) := by
  cases x with
  | none => exact lv_astore_nN hexec hb hdg hi h hn hl kk
  | some a => exact lv_astore_n hexec hb hdg hi h hn hl kk
theorem lv_astoreO (hexec : p.tables.exec = Jvm.exec) (hb : c.code = cc) {i nL : Nat} {x : Option Nat} {lv lv' : List (Nat × Value)} (hdg : decode cc pc = .ok (.astore i, 2)) (h : lv_has ls nL lv) (hn : i < nL) (hl : (i, va_rf x) :: lv.filter (fun q => !(q.1 == i) && !(q.1 + 1 == i && q.2.category == 2)) = lv') (kk : ∀ ls' : Array Slot, lv_has ls' nL lv' → W p l e R s m args below meth c H locs cells slots Q (F0 m (pc + 2) ls' rest)) : W p l e R s m args below meth c H locs cells slots Q (F0 m pc ls (va_rf x :: rest)) := by
  cases x with
  | none => exact lv_astoreN hexec hb hdg h hn hl kk
  | some a => exact lv_astore hexec hb hdg h hn hl kk
theorem lv_ifnullO (hexec : p.tables.exec = Jvm.exec) (hb : c.code = cc) {x : Option Nat} {off : Int} {tgt : Nat} (hdg : decode cc pc = .ok (.ifnull off, 3)) (ht : (pc : Int) + off = (tgt : Int)) (kt : x = none → W p l e R s m args below meth c H locs cells slots Q (F0 m tgt ls rest)) (kf : ¬ x = none → W p l e R s m args below meth c H locs cells slots Q (F0 m (pc + 3) ls rest)) : W p l e R s m args below meth c H locs cells slots Q (F0 m pc ls (va_rf x :: rest)) := by
  cases x with
  | none => exact lv_ifnullN hexec hb hdg ht (kt rfl)
  | some a => exact lv_ifnull hexec hb hdg (kf (fun h => by cases h))
theorem lv_ifnonnullO (hexec : p.tables.exec = Jvm.exec) (hb : c.code = cc) {x : Option Nat} {off : Int} {tgt : Nat} (hdg : decode cc pc = .ok (.ifnonnull off, 3)) (ht : (pc : Int) + off = (tgt : Int)) (kt : ¬ x = none → W p l e R s m args below meth c H locs cells slots Q (F0 m tgt ls rest)) (kf : x = none → W p l e R s m args below meth c H locs cells slots Q (F0 m (pc + 3) ls rest)) : W p l e R s m args below meth c H locs cells slots Q (F0 m pc ls (va_rf x :: rest)) := by
  cases x with
  | none => exact lv_ifnonnullN hexec hb hdg (kf rfl)
  | some a => exact lv_ifnonnull hexec hb hdg ht (kt (fun h => by cases h))
theorem lv_aeq (hexec : p.tables.exec = Jvm.exec) (hb : c.code = cc) {x y : Nat} {off : Int} {tgt : Nat} (hdg : decode cc pc = .ok (.if_acmp .eq off, 3)) (ht : (pc : Int) + off = (tgt : Int)) (kt : x = y → W p l e R s m args below meth c H locs cells slots Q (F0 m tgt ls rest)) (kf : ¬ x = y → W p l e R s m args below meth c H locs cells slots Q (F0 m (pc + 3) ls rest)) : W p l e R s m args below meth c H locs cells slots Q (F0 m pc ls (.ref y :: .ref x :: rest)) :=
  lv_acmp_eq (rx := some x) (ry := some y) hexec hb hdg ht (fun h => kt (Option.some.inj h)) (fun h => kf (fun z => h (congrArg some z)))
theorem lv_ane (hexec : p.tables.exec = Jvm.exec) (hb : c.code = cc) {x y : Nat} {off : Int} {tgt : Nat} (hdg : decode cc pc = .ok (.if_acmp .ne off, 3)) (ht : (pc : Int) + off = (tgt : Int)) (kt : ¬ x = y → W p l e R s m args below meth c H locs cells slots Q (F0 m tgt ls rest)) (kf : x = y → W p l e R s m args below meth c H locs cells slots Q (F0 m (pc + 3) ls rest)) : W p l e R s m args below meth c H locs cells slots Q (F0 m pc ls (.ref y :: .ref x :: rest)) :=
  lv_acmp_ne (rx := some x) (ry := some y) hexec hb hdg ht (fun h => kt (fun z => h (congrArg some z))) (fun h => kf (Option.some.inj h))
/-- the ends, printed -/
theorem we_v {po : Option Value → Pic → Prop} {th : String → Pic → Prop} {mc ms : Nat} (hexec : p.tables.exec = Jvm.exec) (hb : c.code = cc) (hlocks : meth.locks = false) (hr : meth.sig.returnType = none) (hP : Pi D P H) (hS : Sg (cq_A P0 s) s.heap H P locs) (hmc : cells ≤ mc) (hms : slots ≤ ms) (h : po none P) (hdg : decode cc pc = .ok (.return_, 1)) : W p l e R s m args below meth c H locs cells slots (mt_MQ below (cq_Q D P0 false po th) args s mc ms (cq_free P0 false)) (F0 m pc ls []) :=
  cq_widen hmc hms (W.vret hexec hb hr (cq_end hP hS h) (cq_locs hS) hdg hlocks)
theorem we_i {po : Option Value → Pic → Prop} {th : String → Pic → Prop} {mc ms : Nat} {v : Int32} (hexec : p.tables.exec = Jvm.exec) (hb : c.code = cc) (hlocks : meth.locks = false) (hr : meth.sig.returnType = some .int) (hP : Pi D P H) (hS : Sg (cq_A P0 s) s.heap H P locs) (hmc : cells ≤ mc) (hms : slots ≤ ms) (h : po (some (.int v)) P) (hdg : decode cc pc = .ok (.ireturn, 1)) : W p l e R s m args below meth c H locs cells slots (mt_MQ below (cq_Q D P0 false po th) args s mc ms (cq_free P0 false)) (F0 m pc ls [.int v]) :=
  cq_widen hmc hms (W.iret hexec hb hr (cq_end hP hS h) (cq_locs hS) hdg hlocks)
theorem we_z {po : Option Value → Pic → Prop} {th : String → Pic → Prop} {mc ms : Nat} {v : Int32} (hexec : p.tables.exec = Jvm.exec) (hb : c.code = cc) (hlocks : meth.locks = false) (hr : meth.sig.returnType = some .boolean) (hP : Pi D P H) (hS : Sg (cq_A P0 s) s.heap H P locs) (hmc : cells ≤ mc) (hms : slots ≤ ms) (hv : v = 0 ∨ v = 1) (h : po (some (.int v)) P) (hdg : decode cc pc = .ok (.ireturn, 1)) : W p l e R s m args below meth c H locs cells slots (mt_MQ below (cq_Q D P0 false po th) args s mc ms (cq_free P0 false)) (F0 m pc ls [.int v]) :=
  cq_widen hmc hms (W.zret hexec hb hr (pq_nz hv).1 (cq_end hP hS h) (cq_locs hS) hdg hlocks)
theorem we_l {po : Option Value → Pic → Prop} {th : String → Pic → Prop} {mc ms : Nat} {v : Int64} (hexec : p.tables.exec = Jvm.exec) (hb : c.code = cc) (hlocks : meth.locks = false) (hr : meth.sig.returnType = some .long) (hP : Pi D P H) (hS : Sg (cq_A P0 s) s.heap H P locs) (hmc : cells ≤ mc) (hms : slots ≤ ms) (h : po (some (.long v)) P) (hdg : decode cc pc = .ok (.lreturn, 1)) : W p l e R s m args below meth c H locs cells slots (mt_MQ below (cq_Q D P0 false po th) args s mc ms (cq_free P0 false)) (F0 m pc ls [.long v]) :=
  cq_widen hmc hms (W.lret hexec hb hr (cq_end hP hS h) (cq_locs hS) hdg hlocks)
theorem we_a {po : Option Value → Pic → Prop} {th : String → Pic → Prop} {mc ms : Nat} {v : Value} {rt : FieldType} (hexec : p.tables.exec = Jvm.exec) (hb : c.code = cc) (hlocks : meth.locks = false) (hr : meth.sig.returnType = some rt) (hrt : (∃ n, rt = .object n) ∨ ∃ t, rt = .array t) (hv : v = .null ∨ ∃ a, v = .ref a) (hP : Pi D P H) (hS : Sg (cq_A P0 s) s.heap H P locs) (hmc : cells ≤ mc) (hms : slots ≤ ms) (h : po (some v) P) (hdg : decode cc pc = .ok (.areturn, 1)) : W p l e R s m args below meth c H locs cells slots (mt_MQ below (cq_Q D P0 false po th) args s mc ms (cq_free P0 false)) (F0 m pc ls [v]) :=
  cq_widen hmc hms (W.aret hexec hb hr hrt hv (cq_end hP hS h) (cq_locs hS) hdg hlocks)
theorem wo_v {po : Option Value → Pic → Prop} {th : String → Pic → Prop} {mc ms : Nat} (hexec : p.tables.exec = Jvm.exec) (hb : c.code = cc) (hlocks : meth.locks = false) (hr : meth.sig.returnType = none) (hP : Pi D P s.heap) (hO : So s.heap H) (hmc : cells ≤ mc) (hms : slots ≤ ms) (h : po none P) (hdg : decode cc pc = .ok (.return_, 1)) : W p l e R s m args below meth c H [] cells slots (mt_MQ below (cq_Q D P true po th) args s mc ms (cq_free P true)) (F0 m pc ls []) :=
  cq_widen hmc hms (W.vret hexec hb hr (cq_endo hP hO h) (fun q hq => by cases hq) hdg hlocks)
theorem wo_i {po : Option Value → Pic → Prop} {th : String → Pic → Prop} {mc ms : Nat} {v : Int32} (hexec : p.tables.exec = Jvm.exec) (hb : c.code = cc) (hlocks : meth.locks = false) (hr : meth.sig.returnType = some .int) (hP : Pi D P s.heap) (hO : So s.heap H) (hmc : cells ≤ mc) (hms : slots ≤ ms) (h : po (some (.int v)) P) (hdg : decode cc pc = .ok (.ireturn, 1)) : W p l e R s m args below meth c H [] cells slots (mt_MQ below (cq_Q D P true po th) args s mc ms (cq_free P true)) (F0 m pc ls [.int v]) :=
  cq_widen hmc hms (W.iret hexec hb hr (cq_endo hP hO h) (fun q hq => by cases hq) hdg hlocks)
theorem wo_z {po : Option Value → Pic → Prop} {th : String → Pic → Prop} {mc ms : Nat} {v : Int32} (hexec : p.tables.exec = Jvm.exec) (hb : c.code = cc) (hlocks : meth.locks = false) (hr : meth.sig.returnType = some .boolean) (hP : Pi D P s.heap) (hO : So s.heap H) (hmc : cells ≤ mc) (hms : slots ≤ ms) (hv : v = 0 ∨ v = 1) (h : po (some (.int v)) P) (hdg : decode cc pc = .ok (.ireturn, 1)) : W p l e R s m args below meth c H [] cells slots (mt_MQ below (cq_Q D P true po th) args s mc ms (cq_free P true)) (F0 m pc ls [.int v]) :=
  cq_widen hmc hms (W.zret hexec hb hr (pq_nz hv).1 (cq_endo hP hO h) (fun q hq => by cases hq) hdg hlocks)
theorem wo_l {po : Option Value → Pic → Prop} {th : String → Pic → Prop} {mc ms : Nat} {v : Int64} (hexec : p.tables.exec = Jvm.exec) (hb : c.code = cc) (hlocks : meth.locks = false) (hr : meth.sig.returnType = some .long) (hP : Pi D P s.heap) (hO : So s.heap H) (hmc : cells ≤ mc) (hms : slots ≤ ms) (h : po (some (.long v)) P) (hdg : decode cc pc = .ok (.lreturn, 1)) : W p l e R s m args below meth c H [] cells slots (mt_MQ below (cq_Q D P true po th) args s mc ms (cq_free P true)) (F0 m pc ls [.long v]) :=
  cq_widen hmc hms (W.lret hexec hb hr (cq_endo hP hO h) (fun q hq => by cases hq) hdg hlocks)
theorem wo_a {po : Option Value → Pic → Prop} {th : String → Pic → Prop} {mc ms : Nat} {v : Value} {rt : FieldType} (hexec : p.tables.exec = Jvm.exec) (hb : c.code = cc) (hlocks : meth.locks = false) (hr : meth.sig.returnType = some rt) (hrt : (∃ n, rt = .object n) ∨ ∃ t, rt = .array t) (hv : v = .null ∨ ∃ a, v = .ref a) (hP : Pi D P s.heap) (hO : So s.heap H) (hmc : cells ≤ mc) (hms : slots ≤ ms) (h : po (some v) P) (hdg : decode cc pc = .ok (.areturn, 1)) : W p l e R s m args below meth c H [] cells slots (mt_MQ below (cq_Q D P true po th) args s mc ms (cq_free P true)) (F0 m pc ls [v]) :=
  cq_widen hmc hms (W.aret hexec hb hr hrt hv (cq_endo hP hO h) (fun q hq => by cases hq) hdg hlocks)
theorem pq_nil {hs : List (Nat × Nat × Nat × Nat)} (h : c.exceptionTable.toList = tableOf hs) (h2 : hs = []) : ∀ y ∈ c.exceptionTable.toList, covers y pc = false := by
  subst h2
  rw [h]
  intro y hy
  cases hy
theorem cc_v {y : MethodName} {hc : Cond} {rm : Room} {ro : Bool} {av : List Value} {K : Pic → Prop} {Thr : String → Pic → Prop} {maxL len : Nat} {ig : Instr} (C : Cx p e s m args meth c cc nL own D P0)
    (hI : mt_Inv p l e R s m args below meth c H locs cells slots y maxL av.toArray (F0 m pc ls stk) (F0 m pc ls rest)) (hM : CT l D y hc rm ro av P (cp_v K) Thr) (hcm : hc ∈ pq_tbl) (him : Cond.initialized y.cls ∈ pq_tbl)
    (hfr : rm.frames + 1 ≤ R.frames ∧ 8 + (maxL + 11) + rm.locals ≤ R.locals) (hroom : cells + rm.cells ≤ R.cells ∧ slots + rm.slots ≤ R.slots) (hsize : ls.size = nL) (hdg : decode cc pc = .ok (ig, len)) (hW : (rest.map fun v => v.category).sum ≤ 8) (hP : Pi D P H) (hS : Sg (cq_A P0 s) s.heap H P locs)
    (kr : ∀ (P1 : Pic) (H1 : Heap) (locs1 : List Loc), K P1 → Pi D P1 H1 → Sg (cq_A P0 s) s.heap H1 P1 locs1 → W p l e R s m args below meth c H1 locs1 (cells + rm.cells) (slots + rm.slots) Q (F0 m (pc + len) ls rest))
    (kt : ∀ (x : Nat) (X : String) (P1 : Pic) (H1 : Heap) (locs1 : List Loc), Thr X P1 → X ∈ pq_xs → (∃ cell : Cell, H1[x]? = some cell ∧ cell.vm.isStatics = false ∧ s.vm.findClass X = some cell.cls) → Pi D P1 H1 → Sg (cq_A P0 s) s.heap H1 P1 locs1 → WT p l e R s m args below meth c H1 locs1 (cells + rm.cells) (slots + rm.slots) Q x (F0 m pc ls rest)) :
    W p l e R s m args below meth c H locs cells slots Q (F0 m pc ls stk) :=
  ct_call C hI hM hcm him hfr hroom hsize hdg hW hP hS (fun v P1 H1 locs1 h h1 h2 => by
    obtain ⟨rfl, h⟩ := h
    exact kr P1 H1 locs1 h h1 h2) kt
theorem co_v {y : MethodName} {hc : Cond} {rm : Room} {av : List Value} {K : Pic → Prop} {Thr : String → Pic → Prop} {maxL len : Nat} {ig : Instr} (C : Cx p e s m args meth c cc nL own D P)
    (hI : mt_Inv p l e R s m args below meth c H [] cells slots y maxL av.toArray (F0 m pc ls stk) (F0 m pc ls rest)) (hM : CT l D y hc rm true av P (cp_v K) Thr) (hcm : hc ∈ pq_tbl) (him : Cond.initialized y.cls ∈ pq_tbl)
    (hfr : rm.frames + 1 ≤ R.frames ∧ 8 + (maxL + 11) + rm.locals ≤ R.locals) (hroom : cells + rm.cells ≤ R.cells ∧ slots + rm.slots ≤ R.slots) (hsize : ls.size = nL) (hdg : decode cc pc = .ok (ig, len)) (hW : (rest.map fun v => v.category).sum ≤ 8) (hO : So s.heap H)
    (kr : ∀ (H1 : Heap), K P → So s.heap H1 → W p l e R s m args below meth c H1 [] (cells + rm.cells) (slots + rm.slots) Q (F0 m (pc + len) ls rest))
    (kt : ∀ (x : Nat) (X : String) (H1 : Heap), Thr X P → X ∈ pq_xs → (∃ cell : Cell, H1[x]? = some cell ∧ cell.vm.isStatics = false ∧ s.vm.findClass X = some cell.cls) → So s.heap H1 → WT p l e R s m args below meth c H1 [] (cells + rm.cells) (slots + rm.slots) Q x (F0 m pc ls rest)) :
    W p l e R s m args below meth c H [] cells slots Q (F0 m pc ls stk) :=
  ct_callo C hI hM hcm him hfr hroom hsize hdg hW hO (fun v H1 h h1 => by
    obtain ⟨rfl, h⟩ := h
    exact kr H1 h h1) kt
theorem cc_i {y : MethodName} {hc : Cond} {rm : Room} {ro : Bool} {av : List Value} {K : Int32 → Pic → Prop} {Thr : String → Pic → Prop} {maxL len : Nat} {ig : Instr} (C : Cx p e s m args meth c cc nL own D P0)
    (hI : mt_Inv p l e R s m args below meth c H locs cells slots y maxL av.toArray (F0 m pc ls stk) (F0 m pc ls rest)) (hM : CT l D y hc rm ro av P (cp_i K) Thr) (hcm : hc ∈ pq_tbl) (him : Cond.initialized y.cls ∈ pq_tbl)
    (hfr : rm.frames + 1 ≤ R.frames ∧ 8 + (maxL + 11) + rm.locals ≤ R.locals) (hroom : cells + rm.cells ≤ R.cells ∧ slots + rm.slots ≤ R.slots) (hsize : ls.size = nL) (hdg : decode cc pc = .ok (ig, len)) (hW : (rest.map fun v => v.category).sum ≤ 8) (hP : Pi D P H) (hS : Sg (cq_A P0 s) s.heap H P locs)
    (kr : ∀ (r : Int32) (P1 : Pic) (H1 : Heap) (locs1 : List Loc), K r P1 → Pi D P1 H1 → Sg (cq_A P0 s) s.heap H1 P1 locs1 → W p l e R s m args below meth c H1 locs1 (cells + rm.cells) (slots + rm.slots) Q (F0 m (pc + len) ls (.int r :: rest)))
    (kt : ∀ (x : Nat) (X : String) (P1 : Pic) (H1 : Heap) (locs1 : List Loc), Thr X P1 → X ∈ pq_xs → (∃ cell : Cell, H1[x]? = some cell ∧ cell.vm.isStatics = false ∧ s.vm.findClass X = some cell.cls) → Pi D P1 H1 → Sg (cq_A P0 s) s.heap H1 P1 locs1 → WT p l e R s m args below meth c H1 locs1 (cells + rm.cells) (slots + rm.slots) Q x (F0 m pc ls rest)) :
    W p l e R s m args below meth c H locs cells slots Q (F0 m pc ls stk) :=
  ct_call C hI hM hcm him hfr hroom hsize hdg hW hP hS (fun v P1 H1 locs1 h h1 h2 => by
    obtain ⟨r, rfl, h⟩ := h
    exact kr r P1 H1 locs1 h h1 h2) kt
theorem co_i {y : MethodName} {hc : Cond} {rm : Room} {av : List Value} {K : Int32 → Pic → Prop} {Thr : String → Pic → Prop} {maxL len : Nat} {ig : Instr} (C : Cx p e s m args meth c cc nL own D P)
    (hI : mt_Inv p l e R s m args below meth c H [] cells slots y maxL av.toArray (F0 m pc ls stk) (F0 m pc ls rest)) (hM : CT l D y hc rm true av P (cp_i K) Thr) (hcm : hc ∈ pq_tbl) (him : Cond.initialized y.cls ∈ pq_tbl)
    (hfr : rm.frames + 1 ≤ R.frames ∧ 8 + (maxL + 11) + rm.locals ≤ R.locals) (hroom : cells + rm.cells ≤ R.cells ∧ slots + rm.slots ≤ R.slots) (hsize : ls.size = nL) (hdg : decode cc pc = .ok (ig, len)) (hW : (rest.map fun v => v.category).sum ≤ 8) (hO : So s.heap H)
    (kr : ∀ (r : Int32) (H1 : Heap), K r P → So s.heap H1 → W p l e R s m args below meth c H1 [] (cells + rm.cells) (slots + rm.slots) Q (F0 m (pc + len) ls (.int r :: rest)))
    (kt : ∀ (x : Nat) (X : String) (H1 : Heap), Thr X P → X ∈ pq_xs → (∃ cell : Cell, H1[x]? = some cell ∧ cell.vm.isStatics = false ∧ s.vm.findClass X = some cell.cls) → So s.heap H1 → WT p l e R s m args below meth c H1 [] (cells + rm.cells) (slots + rm.slots) Q x (F0 m pc ls rest)) :
    W p l e R s m args below meth c H [] cells slots Q (F0 m pc ls stk) :=
  ct_callo C hI hM hcm him hfr hroom hsize hdg hW hO (fun v H1 h h1 => by
    obtain ⟨r, rfl, h⟩ := h
    exact kr r H1 h h1) kt
theorem cc_l {y : MethodName} {hc : Cond} {rm : Room} {ro : Bool} {av : List Value} {K : Int64 → Pic → Prop} {Thr : String → Pic → Prop} {maxL len : Nat} {ig : Instr} (C : Cx p e s m args meth c cc nL own D P0)
    (hI : mt_Inv p l e R s m args below meth c H locs cells slots y maxL av.toArray (F0 m pc ls stk) (F0 m pc ls rest)) (hM : CT l D y hc rm ro av P (cp_l K) Thr) (hcm : hc ∈ pq_tbl) (him : Cond.initialized y.cls ∈ pq_tbl)
    (hfr : rm.frames + 1 ≤ R.frames ∧ 8 + (maxL + 11) + rm.locals ≤ R.locals) (hroom : cells + rm.cells ≤ R.cells ∧ slots + rm.slots ≤ R.slots) (hsize : ls.size = nL) (hdg : decode cc pc = .ok (ig, len)) (hW : (rest.map fun v => v.category).sum ≤ 8) (hP : Pi D P H) (hS : Sg (cq_A P0 s) s.heap H P locs)
    (kr : ∀ (r : Int64) (P1 : Pic) (H1 : Heap) (locs1 : List Loc), K r P1 → Pi D P1 H1 → Sg (cq_A P0 s) s.heap H1 P1 locs1 → W p l e R s m args below meth c H1 locs1 (cells + rm.cells) (slots + rm.slots) Q (F0 m (pc + len) ls (.long r :: rest)))
    (kt : ∀ (x : Nat) (X : String) (P1 : Pic) (H1 : Heap) (locs1 : List Loc), Thr X P1 → X ∈ pq_xs → (∃ cell : Cell, H1[x]? = some cell ∧ cell.vm.isStatics = false ∧ s.vm.findClass X = some cell.cls) → Pi D P1 H1 → Sg (cq_A P0 s) s.heap H1 P1 locs1 → WT p l e R s m args below meth c H1 locs1 (cells + rm.cells) (slots + rm.slots) Q x (F0 m pc ls rest)) :
    W p l e R s m args below meth c H locs cells slots Q (F0 m pc ls stk) :=
  ct_call C hI hM hcm him hfr hroom hsize hdg hW hP hS (fun v P1 H1 locs1 h h1 h2 => by
    obtain ⟨r, rfl, h⟩ := h
    exact kr r P1 H1 locs1 h h1 h2) kt
theorem co_l {y : MethodName} {hc : Cond} {rm : Room} {av : List Value} {K : Int64 → Pic → Prop} {Thr : String → Pic → Prop} {maxL len : Nat} {ig : Instr} (C : Cx p e s m args meth c cc nL own D P)
    (hI : mt_Inv p l e R s m args below meth c H [] cells slots y maxL av.toArray (F0 m pc ls stk) (F0 m pc ls rest)) (hM : CT l D y hc rm true av P (cp_l K) Thr) (hcm : hc ∈ pq_tbl) (him : Cond.initialized y.cls ∈ pq_tbl)
    (hfr : rm.frames + 1 ≤ R.frames ∧ 8 + (maxL + 11) + rm.locals ≤ R.locals) (hroom : cells + rm.cells ≤ R.cells ∧ slots + rm.slots ≤ R.slots) (hsize : ls.size = nL) (hdg : decode cc pc = .ok (ig, len)) (hW : (rest.map fun v => v.category).sum ≤ 8) (hO : So s.heap H)
    (kr : ∀ (r : Int64) (H1 : Heap), K r P → So s.heap H1 → W p l e R s m args below meth c H1 [] (cells + rm.cells) (slots + rm.slots) Q (F0 m (pc + len) ls (.long r :: rest)))
    (kt : ∀ (x : Nat) (X : String) (H1 : Heap), Thr X P → X ∈ pq_xs → (∃ cell : Cell, H1[x]? = some cell ∧ cell.vm.isStatics = false ∧ s.vm.findClass X = some cell.cls) → So s.heap H1 → WT p l e R s m args below meth c H1 [] (cells + rm.cells) (slots + rm.slots) Q x (F0 m pc ls rest)) :
    W p l e R s m args below meth c H [] cells slots Q (F0 m pc ls stk) :=
  ct_callo C hI hM hcm him hfr hroom hsize hdg hW hO (fun v H1 h h1 => by
    obtain ⟨r, rfl, h⟩ := h
    exact kr r H1 h h1) kt
theorem cc_a {y : MethodName} {hc : Cond} {rm : Room} {ro : Bool} {av : List Value} {K : Nat → Pic → Prop} {Thr : String → Pic → Prop} {maxL len : Nat} {ig : Instr} (C : Cx p e s m args meth c cc nL own D P0)
    (hI : mt_Inv p l e R s m args below meth c H locs cells slots y maxL av.toArray (F0 m pc ls stk) (F0 m pc ls rest)) (hM : CT l D y hc rm ro av P (cp_a K) Thr) (hcm : hc ∈ pq_tbl) (him : Cond.initialized y.cls ∈ pq_tbl)
    (hfr : rm.frames + 1 ≤ R.frames ∧ 8 + (maxL + 11) + rm.locals ≤ R.locals) (hroom : cells + rm.cells ≤ R.cells ∧ slots + rm.slots ≤ R.slots) (hsize : ls.size = nL) (hdg : decode cc pc = .ok (ig, len)) (hW : (rest.map fun v => v.category).sum ≤ 8) (hP : Pi D P H) (hS : Sg (cq_A P0 s) s.heap H P locs)
    (kr : ∀ (r : Nat) (P1 : Pic) (H1 : Heap) (locs1 : List Loc), K r P1 → Pi D P1 H1 → Sg (cq_A P0 s) s.heap H1 P1 locs1 → W p l e R s m args below meth c H1 locs1 (cells + rm.cells) (slots + rm.slots) Q (F0 m (pc + len) ls (.ref r :: rest)))
    (kt : ∀ (x : Nat) (X : String) (P1 : Pic) (H1 : Heap) (locs1 : List Loc), Thr X P1 → X ∈ pq_xs → (∃ cell : Cell, H1[x]? = some cell ∧ cell.vm.isStatics = false ∧ s.vm.findClass X = some cell.cls) → Pi D P1 H1 → Sg (cq_A P0 s) s.heap H1 P1 locs1 → WT p l e R s m args below meth c H1 locs1 (cells + rm.cells) (slots + rm.slots) Q x (F0 m pc ls rest)) :
    W p l e R s m args below meth c H locs cells slots Q (F0 m pc ls stk) :=
  ct_call C hI hM hcm him hfr hroom hsize hdg hW hP hS (fun v P1 H1 locs1 h h1 h2 => by
    obtain ⟨r, rfl, h⟩ := h
    exact kr r P1 H1 locs1 h h1 h2) kt
theorem co_a {y : MethodName} {hc : Cond} {rm : Room} {av : List Value} {K : Nat → Pic → Prop} {Thr : String → Pic → Prop} {maxL len : Nat} {ig : Instr} (C : Cx p e s m args meth c cc nL own D P)
    (hI : mt_Inv p l e R s m args below meth c H [] cells slots y maxL av.toArray (F0 m pc ls stk) (F0 m pc ls rest)) (hM : CT l D y hc rm true av P (cp_a K) Thr) (hcm : hc ∈ pq_tbl) (him : Cond.initialized y.cls ∈ pq_tbl)
    (hfr : rm.frames + 1 ≤ R.frames ∧ 8 + (maxL + 11) + rm.locals ≤ R.locals) (hroom : cells + rm.cells ≤ R.cells ∧ slots + rm.slots ≤ R.slots) (hsize : ls.size = nL) (hdg : decode cc pc = .ok (ig, len)) (hW : (rest.map fun v => v.category).sum ≤ 8) (hO : So s.heap H)
    (kr : ∀ (r : Nat) (H1 : Heap), K r P → So s.heap H1 → W p l e R s m args below meth c H1 [] (cells + rm.cells) (slots + rm.slots) Q (F0 m (pc + len) ls (.ref r :: rest)))
    (kt : ∀ (x : Nat) (X : String) (H1 : Heap), Thr X P → X ∈ pq_xs → (∃ cell : Cell, H1[x]? = some cell ∧ cell.vm.isStatics = false ∧ s.vm.findClass X = some cell.cls) → So s.heap H1 → WT p l e R s m args below meth c H1 [] (cells + rm.cells) (slots + rm.slots) Q x (F0 m pc ls rest)) :
    W p l e R s m args below meth c H [] cells slots Q (F0 m pc ls stk) :=
  ct_callo C hI hM hcm him hfr hroom hsize hdg hW hO (fun v H1 h h1 => by
    obtain ⟨r, rfl, h⟩ := h
    exact kr r H1 h h1) kt
theorem cc_o {y : MethodName} {hc : Cond} {rm : Room} {ro : Bool} {av : List Value} {K : Option Nat → Pic → Prop} {Thr : String → Pic → Prop} {maxL len : Nat} {ig : Instr} (C : Cx p e s m args meth c cc nL own D P0)
    (hI : mt_Inv p l e R s m args below meth c H locs cells slots y maxL av.toArray (F0 m pc ls stk) (F0 m pc ls rest)) (hM : CT l D y hc rm ro av P (cp_o K) Thr) (hcm : hc ∈ pq_tbl) (him : Cond.initialized y.cls ∈ pq_tbl)
    (hfr : rm.frames + 1 ≤ R.frames ∧ 8 + (maxL + 11) + rm.locals ≤ R.locals) (hroom : cells + rm.cells ≤ R.cells ∧ slots + rm.slots ≤ R.slots) (hsize : ls.size = nL) (hdg : decode cc pc = .ok (ig, len)) (hW : (rest.map fun v => v.category).sum ≤ 8) (hP : Pi D P H) (hS : Sg (cq_A P0 s) s.heap H P locs)
    (kr : ∀ (r : Option Nat) (P1 : Pic) (H1 : Heap) (locs1 : List Loc), K r P1 → Pi D P1 H1 → Sg (cq_A P0 s) s.heap H1 P1 locs1 → W p l e R s m args below meth c H1 locs1 (cells + rm.cells) (slots + rm.slots) Q (F0 m (pc + len) ls (va_rf r :: rest)))
    (kt : ∀ (x : Nat) (X : String) (P1 : Pic) (H1 : Heap) (locs1 : List Loc), Thr X P1 → X ∈ pq_xs → (∃ cell : Cell, H1[x]? = some cell ∧ cell.vm.isStatics = false ∧ s.vm.findClass X = some cell.cls) → Pi D P1 H1 → Sg (cq_A P0 s) s.heap H1 P1 locs1 → WT p l e R s m args below meth c H1 locs1 (cells + rm.cells) (slots + rm.slots) Q x (F0 m pc ls rest)) :
    W p l e R s m args below meth c H locs cells slots Q (F0 m pc ls stk) :=
  ct_call C hI hM hcm him hfr hroom hsize hdg hW hP hS (fun v P1 H1 locs1 h h1 h2 => by
    obtain ⟨r, rfl, h⟩ := h
    exact kr r P1 H1 locs1 h h1 h2) kt
theorem co_o {y : MethodName} {hc : Cond} {rm : Room} {av : List Value} {K : Option Nat → Pic → Prop} {Thr : String → Pic → Prop} {maxL len : Nat} {ig : Instr} (C : Cx p e s m args meth c cc nL own D P)
    (hI : mt_Inv p l e R s m args below meth c H [] cells slots y maxL av.toArray (F0 m pc ls stk) (F0 m pc ls rest)) (hM : CT l D y hc rm true av P (cp_o K) Thr) (hcm : hc ∈ pq_tbl) (him : Cond.initialized y.cls ∈ pq_tbl)
    (hfr : rm.frames + 1 ≤ R.frames ∧ 8 + (maxL + 11) + rm.locals ≤ R.locals) (hroom : cells + rm.cells ≤ R.cells ∧ slots + rm.slots ≤ R.slots) (hsize : ls.size = nL) (hdg : decode cc pc = .ok (ig, len)) (hW : (rest.map fun v => v.category).sum ≤ 8) (hO : So s.heap H)
    (kr : ∀ (r : Option Nat) (H1 : Heap), K r P → So s.heap H1 → W p l e R s m args below meth c H1 [] (cells + rm.cells) (slots + rm.slots) Q (F0 m (pc + len) ls (va_rf r :: rest)))
    (kt : ∀ (x : Nat) (X : String) (H1 : Heap), Thr X P → X ∈ pq_xs → (∃ cell : Cell, H1[x]? = some cell ∧ cell.vm.isStatics = false ∧ s.vm.findClass X = some cell.cls) → So s.heap H1 → WT p l e R s m args below meth c H1 [] (cells + rm.cells) (slots + rm.slots) Q x (F0 m pc ls rest)) :
    W p l e R s m args below meth c H [] cells slots Q (F0 m pc ls stk) :=
  ct_callo C hI hM hcm him hfr hroom hsize hdg hW hO (fun v H1 h h1 => by
    obtain ⟨r, rfl, h⟩ := h
    exact kr r H1 h h1) kt
theorem cr_v {y : MethodName} {hc : Cond} {rm : Room} {av : List Value} {K : Pic → Prop} {Thr : String → Pic → Prop} {maxL len : Nat} {ig : Instr} (C : Cx p e s m args meth c cc nL own D P0)
    (hI : mt_Inv p l e R s m args below meth c H locs cells slots y maxL av.toArray (F0 m pc ls stk) (F0 m pc ls rest)) (hM : CT l D y hc rm true av P (cp_v K) Thr) (hcm : hc ∈ pq_tbl) (him : Cond.initialized y.cls ∈ pq_tbl)
    (hfr : rm.frames + 1 ≤ R.frames ∧ 8 + (maxL + 11) + rm.locals ≤ R.locals) (hroom : cells + rm.cells ≤ R.cells ∧ slots + rm.slots ≤ R.slots) (hsize : ls.size = nL) (hdg : decode cc pc = .ok (ig, len)) (hW : (rest.map fun v => v.category).sum ≤ 8) (hP : Pi D P H) (hS : Sg (cq_A P0 s) s.heap H P locs)
    (kr : ∀ (H1 : Heap) (locs1 : List Loc), K P → Pi D P H1 → Sg (cq_A P0 s) s.heap H1 P locs1 → W p l e R s m args below meth c H1 locs1 (cells + rm.cells) (slots + rm.slots) Q (F0 m (pc + len) ls rest))
    (kt : ∀ (x : Nat) (X : String) (H1 : Heap) (locs1 : List Loc), Thr X P → X ∈ pq_xs → (∃ cell : Cell, H1[x]? = some cell ∧ cell.vm.isStatics = false ∧ s.vm.findClass X = some cell.cls) → Pi D P H1 → Sg (cq_A P0 s) s.heap H1 P locs1 → WT p l e R s m args below meth c H1 locs1 (cells + rm.cells) (slots + rm.slots) Q x (F0 m pc ls rest)) :
    W p l e R s m args below meth c H locs cells slots Q (F0 m pc ls stk) :=
  ct_callr C hI hM hcm him hfr hroom hsize hdg hW hP hS (fun v H1 locs1 h h1 h2 => by
    obtain ⟨rfl, h⟩ := h
    exact kr H1 locs1 h h1 h2) kt
theorem cr_i {y : MethodName} {hc : Cond} {rm : Room} {av : List Value} {K : Int32 → Pic → Prop} {Thr : String → Pic → Prop} {maxL len : Nat} {ig : Instr} (C : Cx p e s m args meth c cc nL own D P0)
    (hI : mt_Inv p l e R s m args below meth c H locs cells slots y maxL av.toArray (F0 m pc ls stk) (F0 m pc ls rest)) (hM : CT l D y hc rm true av P (cp_i K) Thr) (hcm : hc ∈ pq_tbl) (him : Cond.initialized y.cls ∈ pq_tbl)
    (hfr : rm.frames + 1 ≤ R.frames ∧ 8 + (maxL + 11) + rm.locals ≤ R.locals) (hroom : cells + rm.cells ≤ R.cells ∧ slots + rm.slots ≤ R.slots) (hsize : ls.size = nL) (hdg : decode cc pc = .ok (ig, len)) (hW : (rest.map fun v => v.category).sum ≤ 8) (hP : Pi D P H) (hS : Sg (cq_A P0 s) s.heap H P locs)
    (kr : ∀ (r : Int32) (H1 : Heap) (locs1 : List Loc), K r P → Pi D P H1 → Sg (cq_A P0 s) s.heap H1 P locs1 → W p l e R s m args below meth c H1 locs1 (cells + rm.cells) (slots + rm.slots) Q (F0 m (pc + len) ls (.int r :: rest)))
    (kt : ∀ (x : Nat) (X : String) (H1 : Heap) (locs1 : List Loc), Thr X P → X ∈ pq_xs → (∃ cell : Cell, H1[x]? = some cell ∧ cell.vm.isStatics = false ∧ s.vm.findClass X = some cell.cls) → Pi D P H1 → Sg (cq_A P0 s) s.heap H1 P locs1 → WT p l e R s m args below meth c H1 locs1 (cells + rm.cells) (slots + rm.slots) Q x (F0 m pc ls rest)) :
    W p l e R s m args below meth c H locs cells slots Q (F0 m pc ls stk) :=
  ct_callr C hI hM hcm him hfr hroom hsize hdg hW hP hS (fun v H1 locs1 h h1 h2 => by
    obtain ⟨r, rfl, h⟩ := h
    exact kr r H1 locs1 h h1 h2) kt
theorem cr_l {y : MethodName} {hc : Cond} {rm : Room} {av : List Value} {K : Int64 → Pic → Prop} {Thr : String → Pic → Prop} {maxL len : Nat} {ig : Instr} (C : Cx p e s m args meth c cc nL own D P0)
    (hI : mt_Inv p l e R s m args below meth c H locs cells slots y maxL av.toArray (F0 m pc ls stk) (F0 m pc ls rest)) (hM : CT l D y hc rm true av P (cp_l K) Thr) (hcm : hc ∈ pq_tbl) (him : Cond.initialized y.cls ∈ pq_tbl)
    (hfr : rm.frames + 1 ≤ R.frames ∧ 8 + (maxL + 11) + rm.locals ≤ R.locals) (hroom : cells + rm.cells ≤ R.cells ∧ slots + rm.slots ≤ R.slots) (hsize : ls.size = nL) (hdg : decode cc pc = .ok (ig, len)) (hW : (rest.map fun v => v.category).sum ≤ 8) (hP : Pi D P H) (hS : Sg (cq_A P0 s) s.heap H P locs)
    (kr : ∀ (r : Int64) (H1 : Heap) (locs1 : List Loc), K r P → Pi D P H1 → Sg (cq_A P0 s) s.heap H1 P locs1 → W p l e R s m args below meth c H1 locs1 (cells + rm.cells) (slots + rm.slots) Q (F0 m (pc + len) ls (.long r :: rest)))
    (kt : ∀ (x : Nat) (X : String) (H1 : Heap) (locs1 : List Loc), Thr X P → X ∈ pq_xs → (∃ cell : Cell, H1[x]? = some cell ∧ cell.vm.isStatics = false ∧ s.vm.findClass X = some cell.cls) → Pi D P H1 → Sg (cq_A P0 s) s.heap H1 P locs1 → WT p l e R s m args below meth c H1 locs1 (cells + rm.cells) (slots + rm.slots) Q x (F0 m pc ls rest)) :
    W p l e R s m args below meth c H locs cells slots Q (F0 m pc ls stk) :=
  ct_callr C hI hM hcm him hfr hroom hsize hdg hW hP hS (fun v H1 locs1 h h1 h2 => by
    obtain ⟨r, rfl, h⟩ := h
    exact kr r H1 locs1 h h1 h2) kt
theorem cr_a {y : MethodName} {hc : Cond} {rm : Room} {av : List Value} {K : Nat → Pic → Prop} {Thr : String → Pic → Prop} {maxL len : Nat} {ig : Instr} (C : Cx p e s m args meth c cc nL own D P0)
    (hI : mt_Inv p l e R s m args below meth c H locs cells slots y maxL av.toArray (F0 m pc ls stk) (F0 m pc ls rest)) (hM : CT l D y hc rm true av P (cp_a K) Thr) (hcm : hc ∈ pq_tbl) (him : Cond.initialized y.cls ∈ pq_tbl)
    (hfr : rm.frames + 1 ≤ R.frames ∧ 8 + (maxL + 11) + rm.locals ≤ R.locals) (hroom : cells + rm.cells ≤ R.cells ∧ slots + rm.slots ≤ R.slots) (hsize : ls.size = nL) (hdg : decode cc pc = .ok (ig, len)) (hW : (rest.map fun v => v.category).sum ≤ 8) (hP : Pi D P H) (hS : Sg (cq_A P0 s) s.heap H P locs)
    (kr : ∀ (r : Nat) (H1 : Heap) (locs1 : List Loc), K r P → Pi D P H1 → Sg (cq_A P0 s) s.heap H1 P locs1 → W p l e R s m args below meth c H1 locs1 (cells + rm.cells) (slots + rm.slots) Q (F0 m (pc + len) ls (.ref r :: rest)))
    (kt : ∀ (x : Nat) (X : String) (H1 : Heap) (locs1 : List Loc), Thr X P → X ∈ pq_xs → (∃ cell : Cell, H1[x]? = some cell ∧ cell.vm.isStatics = false ∧ s.vm.findClass X = some cell.cls) → Pi D P H1 → Sg (cq_A P0 s) s.heap H1 P locs1 → WT p l e R s m args below meth c H1 locs1 (cells + rm.cells) (slots + rm.slots) Q x (F0 m pc ls rest)) :
    W p l e R s m args below meth c H locs cells slots Q (F0 m pc ls stk) :=
  ct_callr C hI hM hcm him hfr hroom hsize hdg hW hP hS (fun v H1 locs1 h h1 h2 => by
    obtain ⟨r, rfl, h⟩ := h
    exact kr r H1 locs1 h h1 h2) kt
theorem cr_o {y : MethodName} {hc : Cond} {rm : Room} {av : List Value} {K : Option Nat → Pic → Prop} {Thr : String → Pic → Prop} {maxL len : Nat} {ig : Instr} (C : Cx p e s m args meth c cc nL own D P0)
    (hI : mt_Inv p l e R s m args below meth c H locs cells slots y maxL av.toArray (F0 m pc ls stk) (F0 m pc ls rest)) (hM : CT l D y hc rm true av P (cp_o K) Thr) (hcm : hc ∈ pq_tbl) (him : Cond.initialized y.cls ∈ pq_tbl)
    (hfr : rm.frames + 1 ≤ R.frames ∧ 8 + (maxL + 11) + rm.locals ≤ R.locals) (hroom : cells + rm.cells ≤ R.cells ∧ slots + rm.slots ≤ R.slots) (hsize : ls.size = nL) (hdg : decode cc pc = .ok (ig, len)) (hW : (rest.map fun v => v.category).sum ≤ 8) (hP : Pi D P H) (hS : Sg (cq_A P0 s) s.heap H P locs)
    (kr : ∀ (r : Option Nat) (H1 : Heap) (locs1 : List Loc), K r P → Pi D P H1 → Sg (cq_A P0 s) s.heap H1 P locs1 → W p l e R s m args below meth c H1 locs1 (cells + rm.cells) (slots + rm.slots) Q (F0 m (pc + len) ls (va_rf r :: rest)))
    (kt : ∀ (x : Nat) (X : String) (H1 : Heap) (locs1 : List Loc), Thr X P → X ∈ pq_xs → (∃ cell : Cell, H1[x]? = some cell ∧ cell.vm.isStatics = false ∧ s.vm.findClass X = some cell.cls) → Pi D P H1 → Sg (cq_A P0 s) s.heap H1 P locs1 → WT p l e R s m args below meth c H1 locs1 (cells + rm.cells) (slots + rm.slots) Q x (F0 m pc ls rest)) :
    W p l e R s m args below meth c H locs cells slots Q (F0 m pc ls stk) :=
  ct_callr C hI hM hcm him hfr hroom hsize hdg hW hP hS (fun v H1 locs1 h h1 h2 => by
    obtain ⟨r, rfl, h⟩ := h
    exact kr r H1 locs1 h h1 h2) kt
theorem pq_oldn {a k q j : Nat} (hP : Pi D P H) (hk : p_k P a = k + 1) (hq : p_z P ≤ q) : p_k (s_new P q j) a = k + 1 := by
  have := hP.1.2 a (by rw [hk]; omega)
  have h : p_k (s_new P q j) a = p_k P a := up_ne (by omega)
  rw [h]; exact hk
theorem pq_olda {a k q t n : Nat} (hP : Pi D P H) (hk : p_k P a = k + 1) (hq : p_z P ≤ q) : p_k (s_arr P q t n) a = k + 1 := by
  have := hP.1.2 a (by rw [hk]; omega)
  have h : p_k (s_arr P q t n) a = p_k P a := up_ne (by omega)
  rw [h]; exact hk
end WR
