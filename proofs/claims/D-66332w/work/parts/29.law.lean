/-! WaterWorksLaw.node(LWaterWorks;[J)I -/
abbrev y_La_node : MethodName := ⟨"WaterWorksLaw", "node", "(LWaterWorks;[J)I"⟩
abbrev rm_La_node : Room := { frames := 9, cells := 5, slots := 108, locals := 212 }
theorem h_La_node : y_La_node.cls ≠ "java/lang/invoke/MethodHandle" ∧ y_La_node.cls ≠ "java/lang/invoke/VarHandle" := by decide +kernel
theorem n_La_node : (parseMethodDescriptor y_La_node.desc).map (fun d => d.parameters.length) = some 2 := by decide +kernel
theorem d_La_node_0 : decode method_3_code 0 = .ok (.aload_n 1, 1) := by decide +kernel
theorem d_La_node_1 : decode method_3_code 1 = .ok (.iconst 0, 1) := by decide +kernel
theorem d_La_node_2 : decode method_3_code 2 = .ok (.aload_n 0, 1) := by decide +kernel
theorem d_La_node_3 : decode method_3_code 3 = .ok (.invokevirtual 7, 3) := by decide +kernel
theorem d_La_node_6 : decode method_3_code 6 = .ok (.i2l, 1) := by decide +kernel
theorem d_La_node_7 : decode method_3_code 7 = .ok (.lastore, 1) := by decide +kernel
theorem d_La_node_8 : decode method_3_code 8 = .ok (.goto 6, 3) := by decide +kernel
theorem d_La_node_11 : decode method_3_code 11 = .ok (.astore_n 2, 1) := by decide +kernel
theorem d_La_node_12 : decode method_3_code 12 = .ok (.iconst 1, 1) := by decide +kernel
theorem d_La_node_13 : decode method_3_code 13 = .ok (.ireturn, 1) := by decide +kernel
theorem d_La_node_14 : decode method_3_code 14 = .ok (.iconst 0, 1) := by decide +kernel
theorem d_La_node_15 : decode method_3_code 15 = .ok (.ireturn, 1) := by decide +kernel
def wb_La_node_11 (po : Option Value → Pic → Prop) (th : String → Pic → Prop) (P : Pic) (t0 : Nat) : Prop := po (some (.int (1 : Int32))) P
def wp_La_node (po : Option Value → Pic → Prop) (th : String → Pic → Prop) (P : Pic) (a0 : Nat) (a1 : Nat) : Prop := p_k P a0 = 1 ∧ wp_Wa_node (cp_i fun x102 P103 => p_k P103 a1 = 102 ∧ vp_in (0 : Int32) (p_n P103 a1) ∧ po (some (.int (0 : Int32))) (s_al P103 a1 (Int32.toNatClampNeg (0 : Int32)) (Int32.toInt64 x102))) (fun X P103 => if X = "java/lang/IllegalStateException" then (∀ (xx : Nat), wb_La_node_11 po th P103 xx) else False) P a0
set_option maxHeartbeats 4000000 in
set_option maxRecDepth 100000 in
theorem wk_La_node_11 {p : Program} {l : Launch} {e : Env} {s : State} {m : MethodId} {args : Array Value} {below : List Frame} {meth : Method} {c : Code} {D : pq_D} {P0 : Pic} {po : Option Value → Pic → Prop} {th : String → Pic → Prop} (hfl : l.flags = flags0) (C : Cx p e s m args meth c method_3_code 3 "WaterWorksLaw" D P0) (hmg : e.platform.magicAccessors = ({} : Platform).magicAccessors) (hr : meth.sig.returnType = (some .int)) (hin : meth.name = "node") (htab : c.exceptionTable.toList = tableOf [(0, 8, 11, 13)]) : ∀ (P : Pic) (t0 : Nat) (H : Heap) (locs : List Loc) (cells slots : Nat) (ls : Array Slot), wb_La_node_11 po th P t0 → Pi D P H → Sg (cq_A P0 s) s.heap H P locs → lv_has ls 3 [] → cells + 0 ≤ 5 → slots + 0 ≤ 108 → W p l e rm_La_node s m args below meth c H locs cells slots (mt_MQ below (cq_Q D P0 false po th) args s 5 108 (cq_free P0 false)) (F0 m 11 ls [.ref t0]) := by
  intro P t0 H locs cells slots ls h hP hS hl hcc hss
  obtain ⟨hx, hb, hml, hown, hlocks, htr, hT, hK, hSt, hN, hP0⟩ := id C
  unfold wb_La_node_11 at h
  refine lv_astore_n (pc := 11) (lv' := [(2, .ref t0)]) hx hb d_La_node_11 rfl hl (by decide) rfl (fun ls hl => ?_)
  refine lv_iconst (pc := 12) (v := 1) hx hb d_La_node_12 (by decide) ?_
  exact we_i (pc := 13) hx hb hlocks hr hP hS (show cells + 0 ≤ 5 by omega) (show slots + 0 ≤ 108 by omega) h d_La_node_13
set_option maxHeartbeats 4000000 in
set_option maxRecDepth 100000 in
theorem ct_La_node {l : Launch} (hfl : l.flags = flags0) (D : pq_D) {po : Option Value → Pic → Prop} {th : String → Pic → Prop} {P : Pic} {a0 : Nat} {a1 : Nat} (h : wp_La_node po th P a0 a1) : CT l D y_La_node (.codeWith y_La_node method_3_code 3 (some .int) [(0, 8, 11, 13)]) rm_La_node false [.ref a0, .ref a1] P po th := by
  refine ct_of (hs := [(0, 8, 11, 13)]) hfl (by decide +kernel) (Or.inr rfl) (Nat.le_of_ble_eq_true rfl) ?_
  intro p e s m below meth c C hmg hr hin htab ls hl
  have hl : lv_has ls 3 [(0, .ref a0), (1, .ref a1)] := hl
  generalize hargs : ([.ref a0, .ref a1] : List Value).toArray = args at C ⊢
  obtain ⟨hx, hb, hml, hown, hlocks, htr, hT, hK, hSt, hN, hP0⟩ := id C
  have hP : Pi D P s.heap := hP0
  have hS : Sg (cq_A P s) s.heap s.heap P [] := Sg.start hP0
  unfold wp_La_node at h
  refine lv_aload_n (pc := 0) hx hb d_La_node_0 rfl (lv_at hl 1 rfl) ?_
  refine lv_iconst (pc := 1) (v := 0) hx hb d_La_node_1 (by decide) ?_
  refine lv_aload_n (pc := 2) hx hb d_La_node_2 rfl (lv_at hl 0 rfl) ?_
  obtain ⟨hk101, h⟩ := h
  refine cc_i (pc := 3) C (rest := [.int (0 : Int32), .ref a1]) (mt_invV (As := []) hx hb hown (hT _ k_467 _) (hT _ k_468 _) (hT _ k_469 _) (mt_Cd.code (hT _ k_470 #[])) h_Wa_node (pq_recv hK hP hk101 rfl) n_Wa_node rfl d_La_node_3) (ct_Wa_node hfl D h) k_470 k_1 ⟨Nat.le_of_ble_eq_true rfl, Nat.le_of_ble_eq_true rfl⟩ ⟨(show 0 + 5 ≤ 5 by omega), (show 0 + 108 ≤ 108 by omega)⟩ hl.1 d_La_node_3 (Nat.le_of_ble_eq_true rfl) hP hS (fun x102 P103 H locs h hP hS => ?_) (fun xx X P103 H locs h hX hex hP hS => ?_)
  · refine lv_i2l (pc := 6) hx hb d_La_node_6 rfl ?_
    obtain ⟨hk104, h⟩ := h
    obtain ⟨hi105, h⟩ := h
    refine pq_last (pc := 7) hx hb hK hP hS hk104 hi105 d_La_node_7 (fun H locs hP hS => ?_)
    have hk104 : p_k (s_al P103 a1 (Int32.toNatClampNeg (0 : Int32)) (Int32.toInt64 x102)) a1 = 102 := by rw [pk_al]; exact hk104
    refine lv_goto (pc := 8) (tgt := 14) hx hb d_La_node_8 (by decide) ?_
    refine lv_iconst (pc := 14) (v := 0) hx hb d_La_node_14 (by decide) ?_
    exact we_i (pc := 15) hx hb hlocks hr hP hS (show 0 + 5 + 0 ≤ 5 by omega) (show 0 + 108 + 0 ≤ 108 by omega) h d_La_node_15
  · by_cases hX0 : X = "java/lang/IllegalStateException"
    · subst hX0
      simp only [String.reduceEq, if_true, if_false, reduceIte] at h
      refine cq_caught (hs := [(0, 8, 11, 13)]) (i := 0) (ys := ["java/lang/IllegalStateException"]) C htab hX hex k_480 hmg (by decide) rfl (fun j hj => by match j, hj with | 0, _ => exact ⟨by decide, k_466, by decide, by decide, by decide⟩ | j + 1, hj => omega) (fun j hj => by match j, hj with  | j + 0, hj => omega) rfl ?_
      replace h := h xx
      exact wk_La_node_11 hfl C hmg hr hin htab _ xx _ _ _ _ _ h hP hS (lv_sub hl [] rfl) (show 0 + 5 + 0 ≤ 5 by omega) (show 0 + 108 + 0 ≤ 108 by omega)
    exact absurd h (by simp [hX0])
/-! WaterWorksLaw.pipe(LWaterWorks;III[J)I -/
abbrev y_La_pipe : MethodName := ⟨"WaterWorksLaw", "pipe", "(LWaterWorks;III[J)I"⟩
abbrev rm_La_pipe : Room := { frames := 10, cells := 16, slots := 523, locals := 243 }
theorem h_La_pipe : y_La_pipe.cls ≠ "java/lang/invoke/MethodHandle" ∧ y_La_pipe.cls ≠ "java/lang/invoke/VarHandle" := by decide +kernel
theorem n_La_pipe : (parseMethodDescriptor y_La_pipe.desc).map (fun d => d.parameters.length) = some 5 := by decide +kernel
theorem d_La_pipe_0 : decode method_4_code 0 = .ok (.aload 4, 2) := by decide +kernel
theorem d_La_pipe_2 : decode method_4_code 2 = .ok (.iconst 0, 1) := by decide +kernel
theorem d_La_pipe_3 : decode method_4_code 3 = .ok (.aload_n 0, 1) := by decide +kernel
theorem d_La_pipe_4 : decode method_4_code 4 = .ok (.iload_n 1, 1) := by decide +kernel
theorem d_La_pipe_5 : decode method_4_code 5 = .ok (.iload_n 2, 1) := by decide +kernel
theorem d_La_pipe_6 : decode method_4_code 6 = .ok (.iload_n 3, 1) := by decide +kernel
theorem d_La_pipe_7 : decode method_4_code 7 = .ok (.invokevirtual 15, 3) := by decide +kernel
theorem d_La_pipe_10 : decode method_4_code 10 = .ok (.i2l, 1) := by decide +kernel
theorem d_La_pipe_11 : decode method_4_code 11 = .ok (.lastore, 1) := by decide +kernel
theorem d_La_pipe_12 : decode method_4_code 12 = .ok (.goto 15, 3) := by decide +kernel
theorem d_La_pipe_15 : decode method_4_code 15 = .ok (.astore 5, 2) := by decide +kernel
theorem d_La_pipe_17 : decode method_4_code 17 = .ok (.iconst 1, 1) := by decide +kernel
theorem d_La_pipe_18 : decode method_4_code 18 = .ok (.ireturn, 1) := by decide +kernel
theorem d_La_pipe_19 : decode method_4_code 19 = .ok (.astore 5, 2) := by decide +kernel
theorem d_La_pipe_21 : decode method_4_code 21 = .ok (.iconst 2, 1) := by decide +kernel
theorem d_La_pipe_22 : decode method_4_code 22 = .ok (.ireturn, 1) := by decide +kernel
theorem d_La_pipe_23 : decode method_4_code 23 = .ok (.astore 5, 2) := by decide +kernel
theorem d_La_pipe_25 : decode method_4_code 25 = .ok (.iconst 3, 1) := by decide +kernel
theorem d_La_pipe_26 : decode method_4_code 26 = .ok (.ireturn, 1) := by decide +kernel
theorem d_La_pipe_27 : decode method_4_code 27 = .ok (.iconst 0, 1) := by decide +kernel
theorem d_La_pipe_28 : decode method_4_code 28 = .ok (.ireturn, 1) := by decide +kernel
def wb_La_pipe_15 (po : Option Value → Pic → Prop) (th : String → Pic → Prop) (P : Pic) (t0 : Nat) : Prop := po (some (.int (1 : Int32))) P
def wb_La_pipe_19 (po : Option Value → Pic → Prop) (th : String → Pic → Prop) (P : Pic) (t0 : Nat) : Prop := po (some (.int (2 : Int32))) P
def wb_La_pipe_23 (po : Option Value → Pic → Prop) (th : String → Pic → Prop) (P : Pic) (t0 : Nat) : Prop := po (some (.int (3 : Int32))) P
def wp_La_pipe (po : Option Value → Pic → Prop) (th : String → Pic → Prop) (P : Pic) (a0 : Nat) (x1 : Int32) (x2 : Int32) (x3 : Int32) (a4 : Nat) : Prop := p_k P a0 = 1 ∧ wp_Wa_pipe (cp_i fun x102 P103 => p_k P103 a4 = 102 ∧ vp_in (0 : Int32) (p_n P103 a4) ∧ po (some (.int (0 : Int32))) (s_al P103 a4 (Int32.toNatClampNeg (0 : Int32)) (Int32.toInt64 x102))) (fun X P103 => if X = "java/lang/IndexOutOfBoundsException" then (∀ (xx : Nat), wb_La_pipe_15 po th P103 xx) else if X = "java/lang/IllegalArgumentException" then (∀ (xx : Nat), wb_La_pipe_19 po th P103 xx) else if X = "java/lang/IllegalStateException" then (∀ (xx : Nat), wb_La_pipe_23 po th P103 xx) else False) P a0 x1 x2 x3
set_option maxHeartbeats 4000000 in
set_option maxRecDepth 100000 in
theorem wk_La_pipe_15 {p : Program} {l : Launch} {e : Env} {s : State} {m : MethodId} {args : Array Value} {below : List Frame} {meth : Method} {c : Code} {D : pq_D} {P0 : Pic} {po : Option Value → Pic → Prop} {th : String → Pic → Prop} (hfl : l.flags = flags0) (C : Cx p e s m args meth c method_4_code 6 "WaterWorksLaw" D P0) (hmg : e.platform.magicAccessors = ({} : Platform).magicAccessors) (hr : meth.sig.returnType = (some .int)) (hin : meth.name = "pipe") (htab : c.exceptionTable.toList = tableOf [(0, 12, 15, 19), (0, 12, 19, 21), (0, 12, 23, 13)]) : ∀ (P : Pic) (t0 : Nat) (H : Heap) (locs : List Loc) (cells slots : Nat) (ls : Array Slot), wb_La_pipe_15 po th P t0 → Pi D P H → Sg (cq_A P0 s) s.heap H P locs → lv_has ls 6 [] → cells + 0 ≤ 16 → slots + 0 ≤ 523 → W p l e rm_La_pipe s m args below meth c H locs cells slots (mt_MQ below (cq_Q D P0 false po th) args s 16 523 (cq_free P0 false)) (F0 m 15 ls [.ref t0]) := by
  intro P t0 H locs cells slots ls h hP hS hl hcc hss
  obtain ⟨hx, hb, hml, hown, hlocks, htr, hT, hK, hSt, hN, hP0⟩ := id C
  unfold wb_La_pipe_15 at h
  refine lv_astore (pc := 15) (lv' := [(5, .ref t0)]) hx hb d_La_pipe_15 hl (by decide) rfl (fun ls hl => ?_)
  refine lv_iconst (pc := 17) (v := 1) hx hb d_La_pipe_17 (by decide) ?_
  exact we_i (pc := 18) hx hb hlocks hr hP hS (show cells + 0 ≤ 16 by omega) (show slots + 0 ≤ 523 by omega) h d_La_pipe_18
set_option maxHeartbeats 4000000 in
set_option maxRecDepth 100000 in
theorem wk_La_pipe_19 {p : Program} {l : Launch} {e : Env} {s : State} {m : MethodId} {args : Array Value} {below : List Frame} {meth : Method} {c : Code} {D : pq_D} {P0 : Pic} {po : Option Value → Pic → Prop} {th : String → Pic → Prop} (hfl : l.flags = flags0) (C : Cx p e s m args meth c method_4_code 6 "WaterWorksLaw" D P0) (hmg : e.platform.magicAccessors = ({} : Platform).magicAccessors) (hr : meth.sig.returnType = (some .int)) (hin : meth.name = "pipe") (htab : c.exceptionTable.toList = tableOf [(0, 12, 15, 19), (0, 12, 19, 21), (0, 12, 23, 13)]) : ∀ (P : Pic) (t0 : Nat) (H : Heap) (locs : List Loc) (cells slots : Nat) (ls : Array Slot), wb_La_pipe_19 po th P t0 → Pi D P H → Sg (cq_A P0 s) s.heap H P locs → lv_has ls 6 [] → cells + 0 ≤ 16 → slots + 0 ≤ 523 → W p l e rm_La_pipe s m args below meth c H locs cells slots (mt_MQ below (cq_Q D P0 false po th) args s 16 523 (cq_free P0 false)) (F0 m 19 ls [.ref t0]) := by
  intro P t0 H locs cells slots ls h hP hS hl hcc hss
  obtain ⟨hx, hb, hml, hown, hlocks, htr, hT, hK, hSt, hN, hP0⟩ := id C
  unfold wb_La_pipe_19 at h
  refine lv_astore (pc := 19) (lv' := [(5, .ref t0)]) hx hb d_La_pipe_19 hl (by decide) rfl (fun ls hl => ?_)
  refine lv_iconst (pc := 21) (v := 2) hx hb d_La_pipe_21 (by decide) ?_
  exact we_i (pc := 22) hx hb hlocks hr hP hS (show cells + 0 ≤ 16 by omega) (show slots + 0 ≤ 523 by omega) h d_La_pipe_22
set_option maxHeartbeats 4000000 in
set_option maxRecDepth 100000 in
theorem wk_La_pipe_23 {p : Program} {l : Launch} {e : Env} {s : State} {m : MethodId} {args : Array Value} {below : List Frame} {meth : Method} {c : Code} {D : pq_D} {P0 : Pic} {po : Option Value → Pic → Prop} {th : String → Pic → Prop} (hfl : l.flags = flags0) (C : Cx p e s m args meth c method_4_code 6 "WaterWorksLaw" D P0) (hmg : e.platform.magicAccessors = ({} : Platform).magicAccessors) (hr : meth.sig.returnType = (some .int)) (hin : meth.name = "pipe") (htab : c.exceptionTable.toList = tableOf [(0, 12, 15, 19), (0, 12, 19, 21), (0, 12, 23, 13)]) : ∀ (P : Pic) (t0 : Nat) (H : Heap) (locs : List Loc) (cells slots : Nat) (ls : Array Slot), wb_La_pipe_23 po th P t0 → Pi D P H → Sg (cq_A P0 s) s.heap H P locs → lv_has ls 6 [] → cells + 0 ≤ 16 → slots + 0 ≤ 523 → W p l e rm_La_pipe s m args below meth c H locs cells slots (mt_MQ below (cq_Q D P0 false po th) args s 16 523 (cq_free P0 false)) (F0 m 23 ls [.ref t0]) := by
  intro P t0 H locs cells slots ls h hP hS hl hcc hss
  obtain ⟨hx, hb, hml, hown, hlocks, htr, hT, hK, hSt, hN, hP0⟩ := id C
  unfold wb_La_pipe_23 at h
  refine lv_astore (pc := 23) (lv' := [(5, .ref t0)]) hx hb d_La_pipe_23 hl (by decide) rfl (fun ls hl => ?_)
  refine lv_iconst (pc := 25) (v := 3) hx hb d_La_pipe_25 (by decide) ?_
  exact we_i (pc := 26) hx hb hlocks hr hP hS (show cells + 0 ≤ 16 by omega) (show slots + 0 ≤ 523 by omega) h d_La_pipe_26
set_option maxHeartbeats 4000000 in
set_option maxRecDepth 100000 in
theorem ct_La_pipe {l : Launch} (hfl : l.flags = flags0) (D : pq_D) {po : Option Value → Pic → Prop} {th : String → Pic → Prop} {P : Pic} {a0 : Nat} {x1 : Int32} {x2 : Int32} {x3 : Int32} {a4 : Nat} (h : wp_La_pipe po th P a0 x1 x2 x3 a4) : CT l D y_La_pipe (.codeWith y_La_pipe method_4_code 6 (some .int) [(0, 12, 15, 19), (0, 12, 19, 21), (0, 12, 23, 13)]) rm_La_pipe false [.ref a0, .int x1, .int x2, .int x3, .ref a4] P po th := by
  refine ct_of (hs := [(0, 12, 15, 19), (0, 12, 19, 21), (0, 12, 23, 13)]) hfl (by decide +kernel) (Or.inr rfl) (Nat.le_of_ble_eq_true rfl) ?_
  intro p e s m below meth c C hmg hr hin htab ls hl
  have hl : lv_has ls 6 [(0, .ref a0), (1, .int x1), (2, .int x2), (3, .int x3), (4, .ref a4)] := hl
  generalize hargs : ([.ref a0, .int x1, .int x2, .int x3, .ref a4] : List Value).toArray = args at C ⊢
  obtain ⟨hx, hb, hml, hown, hlocks, htr, hT, hK, hSt, hN, hP0⟩ := id C
  have hP : Pi D P s.heap := hP0
  have hS : Sg (cq_A P s) s.heap s.heap P [] := Sg.start hP0
  unfold wp_La_pipe at h
  refine lv_aload (pc := 0) hx hb d_La_pipe_0 (lv_at hl 4 rfl) ?_
  refine lv_iconst (pc := 2) (v := 0) hx hb d_La_pipe_2 (by decide) ?_
  refine lv_aload_n (pc := 3) hx hb d_La_pipe_3 rfl (lv_at hl 0 rfl) ?_
  refine lv_iload_n (pc := 4) hx hb d_La_pipe_4 rfl (lv_at hl 1 rfl) ?_
  refine lv_iload_n (pc := 5) hx hb d_La_pipe_5 rfl (lv_at hl 2 rfl) ?_
  refine lv_iload_n (pc := 6) hx hb d_La_pipe_6 rfl (lv_at hl 3 rfl) ?_
  obtain ⟨hk101, h⟩ := h
  refine cc_i (pc := 7) C (rest := [.int (0 : Int32), .ref a4]) (mt_invV (As := [.int x1, .int x2, .int x3]) hx hb hown (hT _ k_580 _) (hT _ k_581 _) (hT _ k_582 _) (mt_Cd.code (hT _ k_583 #[])) h_Wa_pipe (pq_recv hK hP hk101 rfl) n_Wa_pipe rfl d_La_pipe_7) (ct_Wa_pipe hfl D h) k_583 k_1 ⟨Nat.le_of_ble_eq_true rfl, Nat.le_of_ble_eq_true rfl⟩ ⟨(show 0 + 16 ≤ 16 by omega), (show 0 + 523 ≤ 523 by omega)⟩ hl.1 d_La_pipe_7 (Nat.le_of_ble_eq_true rfl) hP hS (fun x102 P103 H locs h hP hS => ?_) (fun xx X P103 H locs h hX hex hP hS => ?_)
  · refine lv_i2l (pc := 10) hx hb d_La_pipe_10 rfl ?_
    obtain ⟨hk104, h⟩ := h
    obtain ⟨hi105, h⟩ := h
    refine pq_last (pc := 11) hx hb hK hP hS hk104 hi105 d_La_pipe_11 (fun H locs hP hS => ?_)
    have hk104 : p_k (s_al P103 a4 (Int32.toNatClampNeg (0 : Int32)) (Int32.toInt64 x102)) a4 = 102 := by rw [pk_al]; exact hk104
    refine lv_goto (pc := 12) (tgt := 27) hx hb d_La_pipe_12 (by decide) ?_
    refine lv_iconst (pc := 27) (v := 0) hx hb d_La_pipe_27 (by decide) ?_
    exact we_i (pc := 28) hx hb hlocks hr hP hS (show 0 + 16 + 0 ≤ 16 by omega) (show 0 + 523 + 0 ≤ 523 by omega) h d_La_pipe_28
  · by_cases hX0 : X = "java/lang/IndexOutOfBoundsException"
    · subst hX0
      simp only [String.reduceEq, if_true, if_false, reduceIte] at h
      refine cq_caught (hs := [(0, 12, 15, 19), (0, 12, 19, 21), (0, 12, 23, 13)]) (i := 0) (ys := ["java/lang/IndexOutOfBoundsException", "java/lang/IllegalArgumentException", "java/lang/IllegalStateException"]) C htab hX hex k_593 hmg (by decide) rfl (fun j hj => by match j, hj with | 0, _ => exact ⟨by decide, k_578, by decide, by decide, by decide⟩ | j + 1, hj => omega) (fun j hj => by match j, hj with  | j + 0, hj => omega) rfl ?_
      replace h := h xx
      exact wk_La_pipe_15 hfl C hmg hr hin htab _ xx _ _ _ _ _ h hP hS (lv_sub hl [] rfl) (show 0 + 16 + 0 ≤ 16 by omega) (show 0 + 523 + 0 ≤ 523 by omega)
    by_cases hX1 : X = "java/lang/IllegalArgumentException"
    · subst hX1
      simp only [String.reduceEq, if_true, if_false, reduceIte] at h
      refine cq_caught (hs := [(0, 12, 15, 19), (0, 12, 19, 21), (0, 12, 23, 13)]) (i := 1) (ys := ["java/lang/IndexOutOfBoundsException", "java/lang/IllegalArgumentException", "java/lang/IllegalStateException"]) C htab hX hex k_69 hmg (by decide) rfl (fun j hj => by match j, hj with | 0, _ => exact ⟨by decide, k_578, by decide, by decide, by decide⟩ | 1, _ => exact ⟨by decide, k_579, by decide, by decide, by decide⟩ | j + 2, hj => omega) (fun j hj => by match j, hj with | 0, _ => decide | j + 1, hj => omega) rfl ?_
      replace h := h xx
      exact wk_La_pipe_19 hfl C hmg hr hin htab _ xx _ _ _ _ _ h hP hS (lv_sub hl [] rfl) (show 0 + 16 + 0 ≤ 16 by omega) (show 0 + 523 + 0 ≤ 523 by omega)
    by_cases hX2 : X = "java/lang/IllegalStateException"
    · subst hX2
      simp only [String.reduceEq, if_true, if_false, reduceIte] at h
      refine cq_caught (hs := [(0, 12, 15, 19), (0, 12, 19, 21), (0, 12, 23, 13)]) (i := 2) (ys := ["java/lang/IndexOutOfBoundsException", "java/lang/IllegalArgumentException", "java/lang/IllegalStateException"]) C htab hX hex k_480 hmg (by decide) rfl (fun j hj => by match j, hj with | 0, _ => exact ⟨by decide, k_578, by decide, by decide, by decide⟩ | 1, _ => exact ⟨by decide, k_579, by decide, by decide, by decide⟩ | 2, _ => exact ⟨by decide, k_466, by decide, by decide, by decide⟩ | j + 3, hj => omega) (fun j hj => by match j, hj with | 0, _ => decide | 1, _ => decide | j + 2, hj => omega) rfl ?_
      replace h := h xx
      exact wk_La_pipe_23 hfl C hmg hr hin htab _ xx _ _ _ _ _ h hP hS (lv_sub hl [] rfl) (show 0 + 16 + 0 ≤ 16 by omega) (show 0 + 523 + 0 ≤ 523 by omega)
    exact absurd h (by simp [hX0, hX1, hX2])
/-! WaterWorksLaw.source(LWaterWorks;IZ[J)I -/
abbrev y_La_source : MethodName := ⟨"WaterWorksLaw", "source", "(LWaterWorks;IZ[J)I"⟩
abbrev rm_La_source : Room := { frames := 9, cells := 1, slots := 6, locals := 186 }
theorem h_La_source : y_La_source.cls ≠ "java/lang/invoke/MethodHandle" ∧ y_La_source.cls ≠ "java/lang/invoke/VarHandle" := by decide +kernel
theorem n_La_source : (parseMethodDescriptor y_La_source.desc).map (fun d => d.parameters.length) = some 4 := by decide +kernel
theorem d_La_source_0 : decode method_5_code 0 = .ok (.aload_n 3, 1) := by decide +kernel
theorem d_La_source_1 : decode method_5_code 1 = .ok (.iconst 0, 1) := by decide +kernel
theorem d_La_source_2 : decode method_5_code 2 = .ok (.aload_n 0, 1) := by decide +kernel
theorem d_La_source_3 : decode method_5_code 3 = .ok (.iload_n 1, 1) := by decide +kernel
theorem d_La_source_4 : decode method_5_code 4 = .ok (.iload_n 2, 1) := by decide +kernel
theorem d_La_source_5 : decode method_5_code 5 = .ok (.invokevirtual 23, 3) := by decide +kernel
theorem d_La_source_8 : decode method_5_code 8 = .ok (.ifCond .eq 7, 3) := by decide +kernel
theorem d_La_source_11 : decode method_5_code 11 = .ok (.lconst 1, 1) := by decide +kernel
theorem d_La_source_12 : decode method_5_code 12 = .ok (.goto 4, 3) := by decide +kernel
theorem d_La_source_15 : decode method_5_code 15 = .ok (.lconst 0, 1) := by decide +kernel
theorem d_La_source_16 : decode method_5_code 16 = .ok (.lastore, 1) := by decide +kernel
theorem d_La_source_17 : decode method_5_code 17 = .ok (.goto 7, 3) := by decide +kernel
theorem d_La_source_20 : decode method_5_code 20 = .ok (.astore 4, 2) := by decide +kernel
theorem d_La_source_22 : decode method_5_code 22 = .ok (.iconst 1, 1) := by decide +kernel
theorem d_La_source_23 : decode method_5_code 23 = .ok (.ireturn, 1) := by decide +kernel
theorem d_La_source_24 : decode method_5_code 24 = .ok (.iconst 0, 1) := by decide +kernel
theorem d_La_source_25 : decode method_5_code 25 = .ok (.ireturn, 1) := by decide +kernel
def wb_La_source_16 (po : Option Value → Pic → Prop) (th : String → Pic → Prop) (P : Pic) (t0 : Int64) (t1 : Int32) (t2 : Nat) : Prop := p_k P t2 = 102 ∧ vp_in t1 (p_n P t2) ∧ po (some (.int (0 : Int32))) (s_al P t2 (Int32.toNatClampNeg t1) t0)
def wb_La_source_20 (po : Option Value → Pic → Prop) (th : String → Pic → Prop) (P : Pic) (t0 : Nat) : Prop := po (some (.int (1 : Int32))) P
def wp_La_source (po : Option Value → Pic → Prop) (th : String → Pic → Prop) (P : Pic) (a0 : Nat) (x1 : Int32) (x2 : Int32) (a3 : Nat) : Prop := p_k P a0 = 1 ∧ wp_Wa_source (cp_i fun x102 P103 => ((x102 = 0 → (wb_La_source_16 po th P103 (0 : Int64) (0 : Int32) a3)) ∧ (¬ x102 = 0 → (wb_La_source_16 po th P103 (1 : Int64) (0 : Int32) a3)))) (fun X P103 => if X = "java/lang/IndexOutOfBoundsException" then (∀ (xx : Nat), wb_La_source_20 po th P103 xx) else False) P a0 x1 x2
set_option maxHeartbeats 4000000 in
set_option maxRecDepth 100000 in
theorem wk_La_source_16 {p : Program} {l : Launch} {e : Env} {s : State} {m : MethodId} {args : Array Value} {below : List Frame} {meth : Method} {c : Code} {D : pq_D} {P0 : Pic} {po : Option Value → Pic → Prop} {th : String → Pic → Prop} (hfl : l.flags = flags0) (C : Cx p e s m args meth c method_5_code 5 "WaterWorksLaw" D P0) (hmg : e.platform.magicAccessors = ({} : Platform).magicAccessors) (hr : meth.sig.returnType = (some .int)) (hin : meth.name = "source") (htab : c.exceptionTable.toList = tableOf [(0, 17, 20, 19)]) : ∀ (P : Pic) (t0 : Int64) (t1 : Int32) (t2 : Nat) (H : Heap) (locs : List Loc) (cells slots : Nat) (ls : Array Slot), wb_La_source_16 po th P t0 t1 t2 → Pi D P H → Sg (cq_A P0 s) s.heap H P locs → lv_has ls 5 [] → cells + 0 ≤ 1 → slots + 0 ≤ 6 → W p l e rm_La_source s m args below meth c H locs cells slots (mt_MQ below (cq_Q D P0 false po th) args s 1 6 (cq_free P0 false)) (F0 m 16 ls [.long t0, .int t1, .ref t2]) := by
  intro P t0 t1 t2 H locs cells slots ls h hP hS hl hcc hss
  obtain ⟨hx, hb, hml, hown, hlocks, htr, hT, hK, hSt, hN, hP0⟩ := id C
  unfold wb_La_source_16 at h
  obtain ⟨hk105, h⟩ := h
  obtain ⟨hi106, h⟩ := h
  refine pq_last (pc := 16) hx hb hK hP hS hk105 hi106 d_La_source_16 (fun H locs hP hS => ?_)
  have hk105 : p_k (s_al P t2 (Int32.toNatClampNeg t1) t0) t2 = 102 := by rw [pk_al]; exact hk105
  refine lv_goto (pc := 17) (tgt := 24) hx hb d_La_source_17 (by decide) ?_
  refine lv_iconst (pc := 24) (v := 0) hx hb d_La_source_24 (by decide) ?_
  exact we_i (pc := 25) hx hb hlocks hr hP hS (show cells + 0 ≤ 1 by omega) (show slots + 0 ≤ 6 by omega) h d_La_source_25
set_option maxHeartbeats 4000000 in
set_option maxRecDepth 100000 in
theorem wk_La_source_20 {p : Program} {l : Launch} {e : Env} {s : State} {m : MethodId} {args : Array Value} {below : List Frame} {meth : Method} {c : Code} {D : pq_D} {P0 : Pic} {po : Option Value → Pic → Prop} {th : String → Pic → Prop} (hfl : l.flags = flags0) (C : Cx p e s m args meth c method_5_code 5 "WaterWorksLaw" D P0) (hmg : e.platform.magicAccessors = ({} : Platform).magicAccessors) (hr : meth.sig.returnType = (some .int)) (hin : meth.name = "source") (htab : c.exceptionTable.toList = tableOf [(0, 17, 20, 19)]) : ∀ (P : Pic) (t0 : Nat) (H : Heap) (locs : List Loc) (cells slots : Nat) (ls : Array Slot), wb_La_source_20 po th P t0 → Pi D P H → Sg (cq_A P0 s) s.heap H P locs → lv_has ls 5 [] → cells + 0 ≤ 1 → slots + 0 ≤ 6 → W p l e rm_La_source s m args below meth c H locs cells slots (mt_MQ below (cq_Q D P0 false po th) args s 1 6 (cq_free P0 false)) (F0 m 20 ls [.ref t0]) := by
  intro P t0 H locs cells slots ls h hP hS hl hcc hss
  obtain ⟨hx, hb, hml, hown, hlocks, htr, hT, hK, hSt, hN, hP0⟩ := id C
  unfold wb_La_source_20 at h
  refine lv_astore (pc := 20) (lv' := [(4, .ref t0)]) hx hb d_La_source_20 hl (by decide) rfl (fun ls hl => ?_)
  refine lv_iconst (pc := 22) (v := 1) hx hb d_La_source_22 (by decide) ?_
  exact we_i (pc := 23) hx hb hlocks hr hP hS (show cells + 0 ≤ 1 by omega) (show slots + 0 ≤ 6 by omega) h d_La_source_23
set_option maxHeartbeats 4000000 in
set_option maxRecDepth 100000 in
theorem ct_La_source {l : Launch} (hfl : l.flags = flags0) (D : pq_D) {po : Option Value → Pic → Prop} {th : String → Pic → Prop} {P : Pic} {a0 : Nat} {x1 : Int32} {x2 : Int32} {a3 : Nat} (h : wp_La_source po th P a0 x1 x2 a3) : CT l D y_La_source (.codeWith y_La_source method_5_code 5 (some .int) [(0, 17, 20, 19)]) rm_La_source false [.ref a0, .int x1, .int x2, .ref a3] P po th := by
  refine ct_of (hs := [(0, 17, 20, 19)]) hfl (by decide +kernel) (Or.inr rfl) (Nat.le_of_ble_eq_true rfl) ?_
  intro p e s m below meth c C hmg hr hin htab ls hl
  have hl : lv_has ls 5 [(0, .ref a0), (1, .int x1), (2, .int x2), (3, .ref a3)] := hl
  generalize hargs : ([.ref a0, .int x1, .int x2, .ref a3] : List Value).toArray = args at C ⊢
  obtain ⟨hx, hb, hml, hown, hlocks, htr, hT, hK, hSt, hN, hP0⟩ := id C
  have hP : Pi D P s.heap := hP0
  have hS : Sg (cq_A P s) s.heap s.heap P [] := Sg.start hP0
  unfold wp_La_source at h
  refine lv_aload_n (pc := 0) hx hb d_La_source_0 rfl (lv_at hl 3 rfl) ?_
  refine lv_iconst (pc := 1) (v := 0) hx hb d_La_source_1 (by decide) ?_
  refine lv_aload_n (pc := 2) hx hb d_La_source_2 rfl (lv_at hl 0 rfl) ?_
  refine lv_iload_n (pc := 3) hx hb d_La_source_3 rfl (lv_at hl 1 rfl) ?_
  refine lv_iload_n (pc := 4) hx hb d_La_source_4 rfl (lv_at hl 2 rfl) ?_
  obtain ⟨hk101, h⟩ := h
  refine cc_i (pc := 5) C (rest := [.int (0 : Int32), .ref a3]) (mt_invV (As := [.int x1, .int x2]) hx hb hown (hT _ k_677 _) (hT _ k_678 _) (hT _ k_679 _) (mt_Cd.code (hT _ k_680 #[])) h_Wa_source (pq_recv hK hP hk101 rfl) n_Wa_source rfl d_La_source_5) (ct_Wa_source hfl D h) k_680 k_1 ⟨Nat.le_of_ble_eq_true rfl, Nat.le_of_ble_eq_true rfl⟩ ⟨(show 0 + 1 ≤ 1 by omega), (show 0 + 6 ≤ 6 by omega)⟩ hl.1 d_La_source_5 (Nat.le_of_ble_eq_true rfl) hP hS (fun x102 P103 H locs h hP hS => ?_) (fun xx X P103 H locs h hX hex hP hS => ?_)
  · refine lv_if_eq (pc := 8) (tgt := 15) hx hb d_La_source_8 (by decide) (fun c104 => ?_) (fun c104 => ?_)
    · replace h := h.1 c104
      refine lv_lconst (pc := 15) (v := 0) hx hb d_La_source_15 (by decide) ?_
      exact wk_La_source_16 hfl C hmg hr hin htab _ (0 : Int64) (0 : Int32) a3 _ _ _ _ _ h hP hS (lv_sub hl [] rfl) (show 0 + 1 + 0 ≤ 1 by omega) (show 0 + 6 + 0 ≤ 6 by omega)
    · replace h := h.2 c104
      refine lv_lconst (pc := 11) (v := 1) hx hb d_La_source_11 (by decide) ?_
      refine lv_goto (pc := 12) (tgt := 16) hx hb d_La_source_12 (by decide) ?_
      exact wk_La_source_16 hfl C hmg hr hin htab _ (1 : Int64) (0 : Int32) a3 _ _ _ _ _ h hP hS (lv_sub hl [] rfl) (show 0 + 1 + 0 ≤ 1 by omega) (show 0 + 6 + 0 ≤ 6 by omega)
  · by_cases hX0 : X = "java/lang/IndexOutOfBoundsException"
    · subst hX0
      simp only [String.reduceEq, if_true, if_false, reduceIte] at h
      refine cq_caught (hs := [(0, 17, 20, 19)]) (i := 0) (ys := ["java/lang/IndexOutOfBoundsException"]) C htab hX hex k_593 hmg (by decide) rfl (fun j hj => by match j, hj with | 0, _ => exact ⟨by decide, k_578, by decide, by decide, by decide⟩ | j + 1, hj => omega) (fun j hj => by match j, hj with  | j + 0, hj => omega) rfl ?_
      replace h := h xx
      exact wk_La_source_20 hfl C hmg hr hin htab _ xx _ _ _ _ _ h hP hS (lv_sub hl [] rfl) (show 0 + 1 + 0 ≤ 1 by omega) (show 0 + 6 + 0 ≤ 6 by omega)
    exact absurd h (by simp [hX0])
/-! WaterWorksLaw.customer(LWaterWorks;I[J)I -/
abbrev y_La_customer : MethodName := ⟨"WaterWorksLaw", "customer", "(LWaterWorks;I[J)I"⟩
abbrev rm_La_customer : Room := { frames := 9, cells := 8, slots := 150, locals := 214 }
theorem h_La_customer : y_La_customer.cls ≠ "java/lang/invoke/MethodHandle" ∧ y_La_customer.cls ≠ "java/lang/invoke/VarHandle" := by decide +kernel
theorem n_La_customer : (parseMethodDescriptor y_La_customer.desc).map (fun d => d.parameters.length) = some 3 := by decide +kernel
theorem d_La_customer_0 : decode method_6_code 0 = .ok (.aload_n 2, 1) := by decide +kernel
theorem d_La_customer_1 : decode method_6_code 1 = .ok (.iconst 0, 1) := by decide +kernel
theorem d_La_customer_2 : decode method_6_code 2 = .ok (.aload_n 0, 1) := by decide +kernel
theorem d_La_customer_3 : decode method_6_code 3 = .ok (.iload_n 1, 1) := by decide +kernel
theorem d_La_customer_4 : decode method_6_code 4 = .ok (.invokevirtual 27, 3) := by decide +kernel
theorem d_La_customer_7 : decode method_6_code 7 = .ok (.i2l, 1) := by decide +kernel
theorem d_La_customer_8 : decode method_6_code 8 = .ok (.lastore, 1) := by decide +kernel
theorem d_La_customer_9 : decode method_6_code 9 = .ok (.goto 9, 3) := by decide +kernel
theorem d_La_customer_12 : decode method_6_code 12 = .ok (.astore_n 3, 1) := by decide +kernel
theorem d_La_customer_13 : decode method_6_code 13 = .ok (.iconst 1, 1) := by decide +kernel
theorem d_La_customer_14 : decode method_6_code 14 = .ok (.ireturn, 1) := by decide +kernel
theorem d_La_customer_15 : decode method_6_code 15 = .ok (.astore_n 3, 1) := by decide +kernel
theorem d_La_customer_16 : decode method_6_code 16 = .ok (.iconst 2, 1) := by decide +kernel
theorem d_La_customer_17 : decode method_6_code 17 = .ok (.ireturn, 1) := by decide +kernel
theorem d_La_customer_18 : decode method_6_code 18 = .ok (.iconst 0, 1) := by decide +kernel
theorem d_La_customer_19 : decode method_6_code 19 = .ok (.ireturn, 1) := by decide +kernel
def wb_La_customer_12 (po : Option Value → Pic → Prop) (th : String → Pic → Prop) (P : Pic) (t0 : Nat) : Prop := po (some (.int (1 : Int32))) P
def wb_La_customer_15 (po : Option Value → Pic → Prop) (th : String → Pic → Prop) (P : Pic) (t0 : Nat) : Prop := po (some (.int (2 : Int32))) P
def wp_La_customer (po : Option Value → Pic → Prop) (th : String → Pic → Prop) (P : Pic) (a0 : Nat) (x1 : Int32) (a2 : Nat) : Prop := p_k P a0 = 1 ∧ wp_Wa_customer (cp_i fun x102 P103 => p_k P103 a2 = 102 ∧ vp_in (0 : Int32) (p_n P103 a2) ∧ po (some (.int (0 : Int32))) (s_al P103 a2 (Int32.toNatClampNeg (0 : Int32)) (Int32.toInt64 x102))) (fun X P103 => if X = "java/lang/IndexOutOfBoundsException" then (∀ (xx : Nat), wb_La_customer_12 po th P103 xx) else if X = "java/lang/IllegalStateException" then (∀ (xx : Nat), wb_La_customer_15 po th P103 xx) else False) P a0 x1
set_option maxHeartbeats 4000000 in
set_option maxRecDepth 100000 in
theorem wk_La_customer_12 {p : Program} {l : Launch} {e : Env} {s : State} {m : MethodId} {args : Array Value} {below : List Frame} {meth : Method} {c : Code} {D : pq_D} {P0 : Pic} {po : Option Value → Pic → Prop} {th : String → Pic → Prop} (hfl : l.flags = flags0) (C : Cx p e s m args meth c method_6_code 4 "WaterWorksLaw" D P0) (hmg : e.platform.magicAccessors = ({} : Platform).magicAccessors) (hr : meth.sig.returnType = (some .int)) (hin : meth.name = "customer") (htab : c.exceptionTable.toList = tableOf [(0, 9, 12, 19), (0, 9, 15, 13)]) : ∀ (P : Pic) (t0 : Nat) (H : Heap) (locs : List Loc) (cells slots : Nat) (ls : Array Slot), wb_La_customer_12 po th P t0 → Pi D P H → Sg (cq_A P0 s) s.heap H P locs → lv_has ls 4 [] → cells + 0 ≤ 8 → slots + 0 ≤ 150 → W p l e rm_La_customer s m args below meth c H locs cells slots (mt_MQ below (cq_Q D P0 false po th) args s 8 150 (cq_free P0 false)) (F0 m 12 ls [.ref t0]) := by
  intro P t0 H locs cells slots ls h hP hS hl hcc hss
  obtain ⟨hx, hb, hml, hown, hlocks, htr, hT, hK, hSt, hN, hP0⟩ := id C
  unfold wb_La_customer_12 at h
  refine lv_astore_n (pc := 12) (lv' := [(3, .ref t0)]) hx hb d_La_customer_12 rfl hl (by decide) rfl (fun ls hl => ?_)
  refine lv_iconst (pc := 13) (v := 1) hx hb d_La_customer_13 (by decide) ?_
  exact we_i (pc := 14) hx hb hlocks hr hP hS (show cells + 0 ≤ 8 by omega) (show slots + 0 ≤ 150 by omega) h d_La_customer_14
set_option maxHeartbeats 4000000 in
set_option maxRecDepth 100000 in
theorem wk_La_customer_15 {p : Program} {l : Launch} {e : Env} {s : State} {m : MethodId} {args : Array Value} {below : List Frame} {meth : Method} {c : Code} {D : pq_D} {P0 : Pic} {po : Option Value → Pic → Prop} {th : String → Pic → Prop} (hfl : l.flags = flags0) (C : Cx p e s m args meth c method_6_code 4 "WaterWorksLaw" D P0) (hmg : e.platform.magicAccessors = ({} : Platform).magicAccessors) (hr : meth.sig.returnType = (some .int)) (hin : meth.name = "customer") (htab : c.exceptionTable.toList = tableOf [(0, 9, 12, 19), (0, 9, 15, 13)]) : ∀ (P : Pic) (t0 : Nat) (H : Heap) (locs : List Loc) (cells slots : Nat) (ls : Array Slot), wb_La_customer_15 po th P t0 → Pi D P H → Sg (cq_A P0 s) s.heap H P locs → lv_has ls 4 [] → cells + 0 ≤ 8 → slots + 0 ≤ 150 → W p l e rm_La_customer s m args below meth c H locs cells slots (mt_MQ below (cq_Q D P0 false po th) args s 8 150 (cq_free P0 false)) (F0 m 15 ls [.ref t0]) := by
  intro P t0 H locs cells slots ls h hP hS hl hcc hss
  obtain ⟨hx, hb, hml, hown, hlocks, htr, hT, hK, hSt, hN, hP0⟩ := id C
  unfold wb_La_customer_15 at h
  refine lv_astore_n (pc := 15) (lv' := [(3, .ref t0)]) hx hb d_La_customer_15 rfl hl (by decide) rfl (fun ls hl => ?_)
  refine lv_iconst (pc := 16) (v := 2) hx hb d_La_customer_16 (by decide) ?_
  exact we_i (pc := 17) hx hb hlocks hr hP hS (show cells + 0 ≤ 8 by omega) (show slots + 0 ≤ 150 by omega) h d_La_customer_17
set_option maxHeartbeats 4000000 in
set_option maxRecDepth 100000 in
theorem ct_La_customer {l : Launch} (hfl : l.flags = flags0) (D : pq_D) {po : Option Value → Pic → Prop} {th : String → Pic → Prop} {P : Pic} {a0 : Nat} {x1 : Int32} {a2 : Nat} (h : wp_La_customer po th P a0 x1 a2) : CT l D y_La_customer (.codeWith y_La_customer method_6_code 4 (some .int) [(0, 9, 12, 19), (0, 9, 15, 13)]) rm_La_customer false [.ref a0, .int x1, .ref a2] P po th := by
  refine ct_of (hs := [(0, 9, 12, 19), (0, 9, 15, 13)]) hfl (by decide +kernel) (Or.inr rfl) (Nat.le_of_ble_eq_true rfl) ?_
  intro p e s m below meth c C hmg hr hin htab ls hl
  have hl : lv_has ls 4 [(0, .ref a0), (1, .int x1), (2, .ref a2)] := hl
  generalize hargs : ([.ref a0, .int x1, .ref a2] : List Value).toArray = args at C ⊢
  obtain ⟨hx, hb, hml, hown, hlocks, htr, hT, hK, hSt, hN, hP0⟩ := id C
  have hP : Pi D P s.heap := hP0
  have hS : Sg (cq_A P s) s.heap s.heap P [] := Sg.start hP0
  unfold wp_La_customer at h
  refine lv_aload_n (pc := 0) hx hb d_La_customer_0 rfl (lv_at hl 2 rfl) ?_
  refine lv_iconst (pc := 1) (v := 0) hx hb d_La_customer_1 (by decide) ?_
  refine lv_aload_n (pc := 2) hx hb d_La_customer_2 rfl (lv_at hl 0 rfl) ?_
  refine lv_iload_n (pc := 3) hx hb d_La_customer_3 rfl (lv_at hl 1 rfl) ?_
  obtain ⟨hk101, h⟩ := h
  refine cc_i (pc := 4) C (rest := [.int (0 : Int32), .ref a2]) (mt_invV (As := [.int x1]) hx hb hown (hT _ k_684 _) (hT _ k_685 _) (hT _ k_686 _) (mt_Cd.code (hT _ k_687 #[])) h_Wa_customer (pq_recv hK hP hk101 rfl) n_Wa_customer rfl d_La_customer_4) (ct_Wa_customer hfl D h) k_687 k_1 ⟨Nat.le_of_ble_eq_true rfl, Nat.le_of_ble_eq_true rfl⟩ ⟨(show 0 + 8 ≤ 8 by omega), (show 0 + 150 ≤ 150 by omega)⟩ hl.1 d_La_customer_4 (Nat.le_of_ble_eq_true rfl) hP hS (fun x102 P103 H locs h hP hS => ?_) (fun xx X P103 H locs h hX hex hP hS => ?_)
  · refine lv_i2l (pc := 7) hx hb d_La_customer_7 rfl ?_
    obtain ⟨hk104, h⟩ := h
    obtain ⟨hi105, h⟩ := h
    refine pq_last (pc := 8) hx hb hK hP hS hk104 hi105 d_La_customer_8 (fun H locs hP hS => ?_)
    have hk104 : p_k (s_al P103 a2 (Int32.toNatClampNeg (0 : Int32)) (Int32.toInt64 x102)) a2 = 102 := by rw [pk_al]; exact hk104
    refine lv_goto (pc := 9) (tgt := 18) hx hb d_La_customer_9 (by decide) ?_
    refine lv_iconst (pc := 18) (v := 0) hx hb d_La_customer_18 (by decide) ?_
    exact we_i (pc := 19) hx hb hlocks hr hP hS (show 0 + 8 + 0 ≤ 8 by omega) (show 0 + 150 + 0 ≤ 150 by omega) h d_La_customer_19
  · by_cases hX0 : X = "java/lang/IndexOutOfBoundsException"
    · subst hX0
      simp only [String.reduceEq, if_true, if_false, reduceIte] at h
      refine cq_caught (hs := [(0, 9, 12, 19), (0, 9, 15, 13)]) (i := 0) (ys := ["java/lang/IndexOutOfBoundsException", "java/lang/IllegalStateException"]) C htab hX hex k_593 hmg (by decide) rfl (fun j hj => by match j, hj with | 0, _ => exact ⟨by decide, k_578, by decide, by decide, by decide⟩ | j + 1, hj => omega) (fun j hj => by match j, hj with  | j + 0, hj => omega) rfl ?_
      replace h := h xx
      exact wk_La_customer_12 hfl C hmg hr hin htab _ xx _ _ _ _ _ h hP hS (lv_sub hl [] rfl) (show 0 + 8 + 0 ≤ 8 by omega) (show 0 + 150 + 0 ≤ 150 by omega)
    by_cases hX1 : X = "java/lang/IllegalStateException"
    · subst hX1
      simp only [String.reduceEq, if_true, if_false, reduceIte] at h
      refine cq_caught (hs := [(0, 9, 12, 19), (0, 9, 15, 13)]) (i := 1) (ys := ["java/lang/IndexOutOfBoundsException", "java/lang/IllegalStateException"]) C htab hX hex k_480 hmg (by decide) rfl (fun j hj => by match j, hj with | 0, _ => exact ⟨by decide, k_578, by decide, by decide, by decide⟩ | 1, _ => exact ⟨by decide, k_466, by decide, by decide, by decide⟩ | j + 2, hj => omega) (fun j hj => by match j, hj with | 0, _ => decide | j + 1, hj => omega) rfl ?_
      replace h := h xx
      exact wk_La_customer_15 hfl C hmg hr hin htab _ xx _ _ _ _ _ h hP hS (lv_sub hl [] rfl) (show 0 + 8 + 0 ≤ 8 by omega) (show 0 + 150 + 0 ≤ 150 by omega)
    exact absurd h (by simp [hX0, hX1])
/-! WaterWorksLaw.turn(LWaterWorks;IIZ[J)I -/
abbrev y_La_turn : MethodName := ⟨"WaterWorksLaw", "turn", "(LWaterWorks;IIZ[J)I"⟩
abbrev rm_La_turn : Room := { frames := 9, cells := 4, slots := 24, locals := 189 }
theorem h_La_turn : y_La_turn.cls ≠ "java/lang/invoke/MethodHandle" ∧ y_La_turn.cls ≠ "java/lang/invoke/VarHandle" := by decide +kernel
theorem n_La_turn : (parseMethodDescriptor y_La_turn.desc).map (fun d => d.parameters.length) = some 5 := by decide +kernel
theorem d_La_turn_0 : decode method_7_code 0 = .ok (.aload 4, 2) := by decide +kernel
theorem d_La_turn_2 : decode method_7_code 2 = .ok (.iconst 0, 1) := by decide +kernel
theorem d_La_turn_3 : decode method_7_code 3 = .ok (.aload_n 0, 1) := by decide +kernel
theorem d_La_turn_4 : decode method_7_code 4 = .ok (.iload_n 1, 1) := by decide +kernel
theorem d_La_turn_5 : decode method_7_code 5 = .ok (.iload_n 2, 1) := by decide +kernel
theorem d_La_turn_6 : decode method_7_code 6 = .ok (.iload_n 3, 1) := by decide +kernel
theorem d_La_turn_7 : decode method_7_code 7 = .ok (.invokevirtual 31, 3) := by decide +kernel
theorem d_La_turn_10 : decode method_7_code 10 = .ok (.ifCond .eq 7, 3) := by decide +kernel
theorem d_La_turn_13 : decode method_7_code 13 = .ok (.lconst 1, 1) := by decide +kernel
theorem d_La_turn_14 : decode method_7_code 14 = .ok (.goto 4, 3) := by decide +kernel
theorem d_La_turn_17 : decode method_7_code 17 = .ok (.lconst 0, 1) := by decide +kernel
theorem d_La_turn_18 : decode method_7_code 18 = .ok (.lastore, 1) := by decide +kernel
theorem d_La_turn_19 : decode method_7_code 19 = .ok (.goto 15, 3) := by decide +kernel
theorem d_La_turn_22 : decode method_7_code 22 = .ok (.astore 5, 2) := by decide +kernel
theorem d_La_turn_24 : decode method_7_code 24 = .ok (.iconst 1, 1) := by decide +kernel
theorem d_La_turn_25 : decode method_7_code 25 = .ok (.ireturn, 1) := by decide +kernel
theorem d_La_turn_26 : decode method_7_code 26 = .ok (.astore 5, 2) := by decide +kernel
theorem d_La_turn_28 : decode method_7_code 28 = .ok (.iconst 2, 1) := by decide +kernel
theorem d_La_turn_29 : decode method_7_code 29 = .ok (.ireturn, 1) := by decide +kernel
theorem d_La_turn_30 : decode method_7_code 30 = .ok (.astore 5, 2) := by decide +kernel
theorem d_La_turn_32 : decode method_7_code 32 = .ok (.iconst 3, 1) := by decide +kernel
theorem d_La_turn_33 : decode method_7_code 33 = .ok (.ireturn, 1) := by decide +kernel
theorem d_La_turn_34 : decode method_7_code 34 = .ok (.iconst 0, 1) := by decide +kernel
theorem d_La_turn_35 : decode method_7_code 35 = .ok (.ireturn, 1) := by decide +kernel
def wb_La_turn_18 (po : Option Value → Pic → Prop) (th : String → Pic → Prop) (P : Pic) (t0 : Int64) (t1 : Int32) (t2 : Nat) : Prop := p_k P t2 = 102 ∧ vp_in t1 (p_n P t2) ∧ po (some (.int (0 : Int32))) (s_al P t2 (Int32.toNatClampNeg t1) t0)
def wb_La_turn_22 (po : Option Value → Pic → Prop) (th : String → Pic → Prop) (P : Pic) (t0 : Nat) : Prop := po (some (.int (1 : Int32))) P
def wb_La_turn_26 (po : Option Value → Pic → Prop) (th : String → Pic → Prop) (P : Pic) (t0 : Nat) : Prop := po (some (.int (2 : Int32))) P
def wb_La_turn_30 (po : Option Value → Pic → Prop) (th : String → Pic → Prop) (P : Pic) (t0 : Nat) : Prop := po (some (.int (3 : Int32))) P
def wp_La_turn (po : Option Value → Pic → Prop) (th : String → Pic → Prop) (P : Pic) (a0 : Nat) (x1 : Int32) (x2 : Int32) (x3 : Int32) (a4 : Nat) : Prop := p_k P a0 = 1 ∧ wp_Wa_turn (cp_i fun x102 P103 => ((x102 = 0 → (wb_La_turn_18 po th P103 (0 : Int64) (0 : Int32) a4)) ∧ (¬ x102 = 0 → (wb_La_turn_18 po th P103 (1 : Int64) (0 : Int32) a4)))) (fun X P103 => if X = "java/lang/IndexOutOfBoundsException" then (∀ (xx : Nat), wb_La_turn_22 po th P103 xx) else if X = "java/util/NoSuchElementException" then (∀ (xx : Nat), wb_La_turn_26 po th P103 xx) else if X = "java/lang/IllegalStateException" then (∀ (xx : Nat), wb_La_turn_30 po th P103 xx) else False) P a0 x1 x2 x3
set_option maxHeartbeats 4000000 in
set_option maxRecDepth 100000 in
theorem wk_La_turn_18 {p : Program} {l : Launch} {e : Env} {s : State} {m : MethodId} {args : Array Value} {below : List Frame} {meth : Method} {c : Code} {D : pq_D} {P0 : Pic} {po : Option Value → Pic → Prop} {th : String → Pic → Prop} (hfl : l.flags = flags0) (C : Cx p e s m args meth c method_7_code 6 "WaterWorksLaw" D P0) (hmg : e.platform.magicAccessors = ({} : Platform).magicAccessors) (hr : meth.sig.returnType = (some .int)) (hin : meth.name = "turn") (htab : c.exceptionTable.toList = tableOf [(0, 19, 22, 19), (0, 19, 26, 35), (0, 19, 30, 13)]) : ∀ (P : Pic) (t0 : Int64) (t1 : Int32) (t2 : Nat) (H : Heap) (locs : List Loc) (cells slots : Nat) (ls : Array Slot), wb_La_turn_18 po th P t0 t1 t2 → Pi D P H → Sg (cq_A P0 s) s.heap H P locs → lv_has ls 6 [] → cells + 0 ≤ 4 → slots + 0 ≤ 24 → W p l e rm_La_turn s m args below meth c H locs cells slots (mt_MQ below (cq_Q D P0 false po th) args s 4 24 (cq_free P0 false)) (F0 m 18 ls [.long t0, .int t1, .ref t2]) := by
  intro P t0 t1 t2 H locs cells slots ls h hP hS hl hcc hss
  obtain ⟨hx, hb, hml, hown, hlocks, htr, hT, hK, hSt, hN, hP0⟩ := id C
  unfold wb_La_turn_18 at h
  obtain ⟨hk105, h⟩ := h
  obtain ⟨hi106, h⟩ := h
  refine pq_last (pc := 18) hx hb hK hP hS hk105 hi106 d_La_turn_18 (fun H locs hP hS => ?_)
  have hk105 : p_k (s_al P t2 (Int32.toNatClampNeg t1) t0) t2 = 102 := by rw [pk_al]; exact hk105
  refine lv_goto (pc := 19) (tgt := 34) hx hb d_La_turn_19 (by decide) ?_
  refine lv_iconst (pc := 34) (v := 0) hx hb d_La_turn_34 (by decide) ?_
  exact we_i (pc := 35) hx hb hlocks hr hP hS (show cells + 0 ≤ 4 by omega) (show slots + 0 ≤ 24 by omega) h d_La_turn_35
set_option maxHeartbeats 4000000 in
set_option maxRecDepth 100000 in
theorem wk_La_turn_22 {p : Program} {l : Launch} {e : Env} {s : State} {m : MethodId} {args : Array Value} {below : List Frame} {meth : Method} {c : Code} {D : pq_D} {P0 : Pic} {po : Option Value → Pic → Prop} {th : String → Pic → Prop} (hfl : l.flags = flags0) (C : Cx p e s m args meth c method_7_code 6 "WaterWorksLaw" D P0) (hmg : e.platform.magicAccessors = ({} : Platform).magicAccessors) (hr : meth.sig.returnType = (some .int)) (hin : meth.name = "turn") (htab : c.exceptionTable.toList = tableOf [(0, 19, 22, 19), (0, 19, 26, 35), (0, 19, 30, 13)]) : ∀ (P : Pic) (t0 : Nat) (H : Heap) (locs : List Loc) (cells slots : Nat) (ls : Array Slot), wb_La_turn_22 po th P t0 → Pi D P H → Sg (cq_A P0 s) s.heap H P locs → lv_has ls 6 [] → cells + 0 ≤ 4 → slots + 0 ≤ 24 → W p l e rm_La_turn s m args below meth c H locs cells slots (mt_MQ below (cq_Q D P0 false po th) args s 4 24 (cq_free P0 false)) (F0 m 22 ls [.ref t0]) := by
  intro P t0 H locs cells slots ls h hP hS hl hcc hss
  obtain ⟨hx, hb, hml, hown, hlocks, htr, hT, hK, hSt, hN, hP0⟩ := id C
  unfold wb_La_turn_22 at h
  refine lv_astore (pc := 22) (lv' := [(5, .ref t0)]) hx hb d_La_turn_22 hl (by decide) rfl (fun ls hl => ?_)
  refine lv_iconst (pc := 24) (v := 1) hx hb d_La_turn_24 (by decide) ?_
  exact we_i (pc := 25) hx hb hlocks hr hP hS (show cells + 0 ≤ 4 by omega) (show slots + 0 ≤ 24 by omega) h d_La_turn_25
set_option maxHeartbeats 4000000 in
set_option maxRecDepth 100000 in
theorem wk_La_turn_26 {p : Program} {l : Launch} {e : Env} {s : State} {m : MethodId} {args : Array Value} {below : List Frame} {meth : Method} {c : Code} {D : pq_D} {P0 : Pic} {po : Option Value → Pic → Prop} {th : String → Pic → Prop} (hfl : l.flags = flags0) (C : Cx p e s m args meth c method_7_code 6 "WaterWorksLaw" D P0) (hmg : e.platform.magicAccessors = ({} : Platform).magicAccessors) (hr : meth.sig.returnType = (some .int)) (hin : meth.name = "turn") (htab : c.exceptionTable.toList = tableOf [(0, 19, 22, 19), (0, 19, 26, 35), (0, 19, 30, 13)]) : ∀ (P : Pic) (t0 : Nat) (H : Heap) (locs : List Loc) (cells slots : Nat) (ls : Array Slot), wb_La_turn_26 po th P t0 → Pi D P H → Sg (cq_A P0 s) s.heap H P locs → lv_has ls 6 [] → cells + 0 ≤ 4 → slots + 0 ≤ 24 → W p l e rm_La_turn s m args below meth c H locs cells slots (mt_MQ below (cq_Q D P0 false po th) args s 4 24 (cq_free P0 false)) (F0 m 26 ls [.ref t0]) := by
  intro P t0 H locs cells slots ls h hP hS hl hcc hss
  obtain ⟨hx, hb, hml, hown, hlocks, htr, hT, hK, hSt, hN, hP0⟩ := id C
  unfold wb_La_turn_26 at h
  refine lv_astore (pc := 26) (lv' := [(5, .ref t0)]) hx hb d_La_turn_26 hl (by decide) rfl (fun ls hl => ?_)
  refine lv_iconst (pc := 28) (v := 2) hx hb d_La_turn_28 (by decide) ?_
  exact we_i (pc := 29) hx hb hlocks hr hP hS (show cells + 0 ≤ 4 by omega) (show slots + 0 ≤ 24 by omega) h d_La_turn_29
set_option maxHeartbeats 4000000 in
set_option maxRecDepth 100000 in
theorem wk_La_turn_30 {p : Program} {l : Launch} {e : Env} {s : State} {m : MethodId} {args : Array Value} {below : List Frame} {meth : Method} {c : Code} {D : pq_D} {P0 : Pic} {po : Option Value → Pic → Prop} {th : String → Pic → Prop} (hfl : l.flags = flags0) (C : Cx p e s m args meth c method_7_code 6 "WaterWorksLaw" D P0) (hmg : e.platform.magicAccessors = ({} : Platform).magicAccessors) (hr : meth.sig.returnType = (some .int)) (hin : meth.name = "turn") (htab : c.exceptionTable.toList = tableOf [(0, 19, 22, 19), (0, 19, 26, 35), (0, 19, 30, 13)]) : ∀ (P : Pic) (t0 : Nat) (H : Heap) (locs : List Loc) (cells slots : Nat) (ls : Array Slot), wb_La_turn_30 po th P t0 → Pi D P H → Sg (cq_A P0 s) s.heap H P locs → lv_has ls 6 [] → cells + 0 ≤ 4 → slots + 0 ≤ 24 → W p l e rm_La_turn s m args below meth c H locs cells slots (mt_MQ below (cq_Q D P0 false po th) args s 4 24 (cq_free P0 false)) (F0 m 30 ls [.ref t0]) := by
  intro P t0 H locs cells slots ls h hP hS hl hcc hss
  obtain ⟨hx, hb, hml, hown, hlocks, htr, hT, hK, hSt, hN, hP0⟩ := id C
  unfold wb_La_turn_30 at h
  refine lv_astore (pc := 30) (lv' := [(5, .ref t0)]) hx hb d_La_turn_30 hl (by decide) rfl (fun ls hl => ?_)
  refine lv_iconst (pc := 32) (v := 3) hx hb d_La_turn_32 (by decide) ?_
  exact we_i (pc := 33) hx hb hlocks hr hP hS (show cells + 0 ≤ 4 by omega) (show slots + 0 ≤ 24 by omega) h d_La_turn_33
set_option maxHeartbeats 4000000 in
set_option maxRecDepth 100000 in
theorem ct_La_turn {l : Launch} (hfl : l.flags = flags0) (D : pq_D) {po : Option Value → Pic → Prop} {th : String → Pic → Prop} {P : Pic} {a0 : Nat} {x1 : Int32} {x2 : Int32} {x3 : Int32} {a4 : Nat} (h : wp_La_turn po th P a0 x1 x2 x3 a4) : CT l D y_La_turn (.codeWith y_La_turn method_7_code 6 (some .int) [(0, 19, 22, 19), (0, 19, 26, 35), (0, 19, 30, 13)]) rm_La_turn false [.ref a0, .int x1, .int x2, .int x3, .ref a4] P po th := by
  refine ct_of (hs := [(0, 19, 22, 19), (0, 19, 26, 35), (0, 19, 30, 13)]) hfl (by decide +kernel) (Or.inr rfl) (Nat.le_of_ble_eq_true rfl) ?_
  intro p e s m below meth c C hmg hr hin htab ls hl
  have hl : lv_has ls 6 [(0, .ref a0), (1, .int x1), (2, .int x2), (3, .int x3), (4, .ref a4)] := hl
  generalize hargs : ([.ref a0, .int x1, .int x2, .int x3, .ref a4] : List Value).toArray = args at C ⊢
  obtain ⟨hx, hb, hml, hown, hlocks, htr, hT, hK, hSt, hN, hP0⟩ := id C
  have hP : Pi D P s.heap := hP0
  have hS : Sg (cq_A P s) s.heap s.heap P [] := Sg.start hP0
  unfold wp_La_turn at h
  refine lv_aload (pc := 0) hx hb d_La_turn_0 (lv_at hl 4 rfl) ?_
  refine lv_iconst (pc := 2) (v := 0) hx hb d_La_turn_2 (by decide) ?_
  refine lv_aload_n (pc := 3) hx hb d_La_turn_3 rfl (lv_at hl 0 rfl) ?_
  refine lv_iload_n (pc := 4) hx hb d_La_turn_4 rfl (lv_at hl 1 rfl) ?_
  refine lv_iload_n (pc := 5) hx hb d_La_turn_5 rfl (lv_at hl 2 rfl) ?_
  refine lv_iload_n (pc := 6) hx hb d_La_turn_6 rfl (lv_at hl 3 rfl) ?_
  obtain ⟨hk101, h⟩ := h
  refine cc_i (pc := 7) C (rest := [.int (0 : Int32), .ref a4]) (mt_invV (As := [.int x1, .int x2, .int x3]) hx hb hown (hT _ k_717 _) (hT _ k_718 _) (hT _ k_719 _) (mt_Cd.code (hT _ k_720 #[])) h_Wa_turn (pq_recv hK hP hk101 rfl) n_Wa_turn rfl d_La_turn_7) (ct_Wa_turn hfl D h) k_720 k_1 ⟨Nat.le_of_ble_eq_true rfl, Nat.le_of_ble_eq_true rfl⟩ ⟨(show 0 + 4 ≤ 4 by omega), (show 0 + 24 ≤ 24 by omega)⟩ hl.1 d_La_turn_7 (Nat.le_of_ble_eq_true rfl) hP hS (fun x102 P103 H locs h hP hS => ?_) (fun xx X P103 H locs h hX hex hP hS => ?_)
  · refine lv_if_eq (pc := 10) (tgt := 17) hx hb d_La_turn_10 (by decide) (fun c104 => ?_) (fun c104 => ?_)
    · replace h := h.1 c104
      refine lv_lconst (pc := 17) (v := 0) hx hb d_La_turn_17 (by decide) ?_
      exact wk_La_turn_18 hfl C hmg hr hin htab _ (0 : Int64) (0 : Int32) a4 _ _ _ _ _ h hP hS (lv_sub hl [] rfl) (show 0 + 4 + 0 ≤ 4 by omega) (show 0 + 24 + 0 ≤ 24 by omega)
    · replace h := h.2 c104
      refine lv_lconst (pc := 13) (v := 1) hx hb d_La_turn_13 (by decide) ?_
      refine lv_goto (pc := 14) (tgt := 18) hx hb d_La_turn_14 (by decide) ?_
      exact wk_La_turn_18 hfl C hmg hr hin htab _ (1 : Int64) (0 : Int32) a4 _ _ _ _ _ h hP hS (lv_sub hl [] rfl) (show 0 + 4 + 0 ≤ 4 by omega) (show 0 + 24 + 0 ≤ 24 by omega)
  · by_cases hX0 : X = "java/lang/IndexOutOfBoundsException"
    · subst hX0
      simp only [String.reduceEq, if_true, if_false, reduceIte] at h
      refine cq_caught (hs := [(0, 19, 22, 19), (0, 19, 26, 35), (0, 19, 30, 13)]) (i := 0) (ys := ["java/lang/IndexOutOfBoundsException", "java/util/NoSuchElementException", "java/lang/IllegalStateException"]) C htab hX hex k_593 hmg (by decide) rfl (fun j hj => by match j, hj with | 0, _ => exact ⟨by decide, k_578, by decide, by decide, by decide⟩ | j + 1, hj => omega) (fun j hj => by match j, hj with  | j + 0, hj => omega) rfl ?_
      replace h := h xx
      exact wk_La_turn_22 hfl C hmg hr hin htab _ xx _ _ _ _ _ h hP hS (lv_sub hl [] rfl) (show 0 + 4 + 0 ≤ 4 by omega) (show 0 + 24 + 0 ≤ 24 by omega)
    by_cases hX1 : X = "java/util/NoSuchElementException"
    · subst hX1
      simp only [String.reduceEq, if_true, if_false, reduceIte] at h
      refine cq_caught (hs := [(0, 19, 22, 19), (0, 19, 26, 35), (0, 19, 30, 13)]) (i := 1) (ys := ["java/lang/IndexOutOfBoundsException", "java/util/NoSuchElementException", "java/lang/IllegalStateException"]) C htab hX hex k_730 hmg (by decide) rfl (fun j hj => by match j, hj with | 0, _ => exact ⟨by decide, k_578, by decide, by decide, by decide⟩ | 1, _ => exact ⟨by decide, k_716, by decide, by decide, by decide⟩ | j + 2, hj => omega) (fun j hj => by match j, hj with | 0, _ => decide | j + 1, hj => omega) rfl ?_
      replace h := h xx
      exact wk_La_turn_26 hfl C hmg hr hin htab _ xx _ _ _ _ _ h hP hS (lv_sub hl [] rfl) (show 0 + 4 + 0 ≤ 4 by omega) (show 0 + 24 + 0 ≤ 24 by omega)
    by_cases hX2 : X = "java/lang/IllegalStateException"
    · subst hX2
      simp only [String.reduceEq, if_true, if_false, reduceIte] at h
      refine cq_caught (hs := [(0, 19, 22, 19), (0, 19, 26, 35), (0, 19, 30, 13)]) (i := 2) (ys := ["java/lang/IndexOutOfBoundsException", "java/util/NoSuchElementException", "java/lang/IllegalStateException"]) C htab hX hex k_480 hmg (by decide) rfl (fun j hj => by match j, hj with | 0, _ => exact ⟨by decide, k_578, by decide, by decide, by decide⟩ | 1, _ => exact ⟨by decide, k_716, by decide, by decide, by decide⟩ | 2, _ => exact ⟨by decide, k_466, by decide, by decide, by decide⟩ | j + 3, hj => omega) (fun j hj => by match j, hj with | 0, _ => decide | 1, _ => decide | j + 2, hj => omega) rfl ?_
      replace h := h xx
      exact wk_La_turn_30 hfl C hmg hr hin htab _ xx _ _ _ _ _ h hP hS (lv_sub hl [] rfl) (show 0 + 4 + 0 ≤ 4 by omega) (show 0 + 24 + 0 ≤ 24 by omega)
    exact absurd h (by simp [hX0, hX1, hX2])
/-! WaterWorksLaw.stick(LWaterWorks;IIZ[J)I -/
abbrev y_La_stick : MethodName := ⟨"WaterWorksLaw", "stick", "(LWaterWorks;IIZ[J)I"⟩
abbrev rm_La_stick : Room := { frames := 9, cells := 3, slots := 18, locals := 189 }
theorem h_La_stick : y_La_stick.cls ≠ "java/lang/invoke/MethodHandle" ∧ y_La_stick.cls ≠ "java/lang/invoke/VarHandle" := by decide +kernel
theorem n_La_stick : (parseMethodDescriptor y_La_stick.desc).map (fun d => d.parameters.length) = some 5 := by decide +kernel
theorem d_La_stick_0 : decode method_8_code 0 = .ok (.aload 4, 2) := by decide +kernel
theorem d_La_stick_2 : decode method_8_code 2 = .ok (.iconst 0, 1) := by decide +kernel
theorem d_La_stick_3 : decode method_8_code 3 = .ok (.aload_n 0, 1) := by decide +kernel
theorem d_La_stick_4 : decode method_8_code 4 = .ok (.iload_n 1, 1) := by decide +kernel
theorem d_La_stick_5 : decode method_8_code 5 = .ok (.iload_n 2, 1) := by decide +kernel
theorem d_La_stick_6 : decode method_8_code 6 = .ok (.iload_n 3, 1) := by decide +kernel
theorem d_La_stick_7 : decode method_8_code 7 = .ok (.invokevirtual 37, 3) := by decide +kernel
theorem d_La_stick_10 : decode method_8_code 10 = .ok (.ifCond .eq 7, 3) := by decide +kernel
theorem d_La_stick_13 : decode method_8_code 13 = .ok (.lconst 1, 1) := by decide +kernel
theorem d_La_stick_14 : decode method_8_code 14 = .ok (.goto 4, 3) := by decide +kernel
theorem d_La_stick_17 : decode method_8_code 17 = .ok (.lconst 0, 1) := by decide +kernel
theorem d_La_stick_18 : decode method_8_code 18 = .ok (.lastore, 1) := by decide +kernel
theorem d_La_stick_19 : decode method_8_code 19 = .ok (.goto 11, 3) := by decide +kernel
theorem d_La_stick_22 : decode method_8_code 22 = .ok (.astore 5, 2) := by decide +kernel
theorem d_La_stick_24 : decode method_8_code 24 = .ok (.iconst 1, 1) := by decide +kernel
theorem d_La_stick_25 : decode method_8_code 25 = .ok (.ireturn, 1) := by decide +kernel
theorem d_La_stick_26 : decode method_8_code 26 = .ok (.astore 5, 2) := by decide +kernel
theorem d_La_stick_28 : decode method_8_code 28 = .ok (.iconst 2, 1) := by decide +kernel
theorem d_La_stick_29 : decode method_8_code 29 = .ok (.ireturn, 1) := by decide +kernel
theorem d_La_stick_30 : decode method_8_code 30 = .ok (.iconst 0, 1) := by decide +kernel
theorem d_La_stick_31 : decode method_8_code 31 = .ok (.ireturn, 1) := by decide +kernel
def wb_La_stick_18 (po : Option Value → Pic → Prop) (th : String → Pic → Prop) (P : Pic) (t0 : Int64) (t1 : Int32) (t2 : Nat) : Prop := p_k P t2 = 102 ∧ vp_in t1 (p_n P t2) ∧ po (some (.int (0 : Int32))) (s_al P t2 (Int32.toNatClampNeg t1) t0)
def wb_La_stick_22 (po : Option Value → Pic → Prop) (th : String → Pic → Prop) (P : Pic) (t0 : Nat) : Prop := po (some (.int (1 : Int32))) P
def wb_La_stick_26 (po : Option Value → Pic → Prop) (th : String → Pic → Prop) (P : Pic) (t0 : Nat) : Prop := po (some (.int (2 : Int32))) P
def wp_La_stick (po : Option Value → Pic → Prop) (th : String → Pic → Prop) (P : Pic) (a0 : Nat) (x1 : Int32) (x2 : Int32) (x3 : Int32) (a4 : Nat) : Prop := p_k P a0 = 1 ∧ wp_Wa_stick (cp_i fun x102 P103 => ((x102 = 0 → (wb_La_stick_18 po th P103 (0 : Int64) (0 : Int32) a4)) ∧ (¬ x102 = 0 → (wb_La_stick_18 po th P103 (1 : Int64) (0 : Int32) a4)))) (fun X P103 => if X = "java/lang/IndexOutOfBoundsException" then (∀ (xx : Nat), wb_La_stick_22 po th P103 xx) else if X = "java/util/NoSuchElementException" then (∀ (xx : Nat), wb_La_stick_26 po th P103 xx) else False) P a0 x1 x2 x3
set_option maxHeartbeats 4000000 in
set_option maxRecDepth 100000 in
theorem wk_La_stick_18 {p : Program} {l : Launch} {e : Env} {s : State} {m : MethodId} {args : Array Value} {below : List Frame} {meth : Method} {c : Code} {D : pq_D} {P0 : Pic} {po : Option Value → Pic → Prop} {th : String → Pic → Prop} (hfl : l.flags = flags0) (C : Cx p e s m args meth c method_8_code 6 "WaterWorksLaw" D P0) (hmg : e.platform.magicAccessors = ({} : Platform).magicAccessors) (hr : meth.sig.returnType = (some .int)) (hin : meth.name = "stick") (htab : c.exceptionTable.toList = tableOf [(0, 19, 22, 19), (0, 19, 26, 35)]) : ∀ (P : Pic) (t0 : Int64) (t1 : Int32) (t2 : Nat) (H : Heap) (locs : List Loc) (cells slots : Nat) (ls : Array Slot), wb_La_stick_18 po th P t0 t1 t2 → Pi D P H → Sg (cq_A P0 s) s.heap H P locs → lv_has ls 6 [] → cells + 0 ≤ 3 → slots + 0 ≤ 18 → W p l e rm_La_stick s m args below meth c H locs cells slots (mt_MQ below (cq_Q D P0 false po th) args s 3 18 (cq_free P0 false)) (F0 m 18 ls [.long t0, .int t1, .ref t2]) := by
  intro P t0 t1 t2 H locs cells slots ls h hP hS hl hcc hss
  obtain ⟨hx, hb, hml, hown, hlocks, htr, hT, hK, hSt, hN, hP0⟩ := id C
  unfold wb_La_stick_18 at h
  obtain ⟨hk105, h⟩ := h
  obtain ⟨hi106, h⟩ := h
  refine pq_last (pc := 18) hx hb hK hP hS hk105 hi106 d_La_stick_18 (fun H locs hP hS => ?_)
  have hk105 : p_k (s_al P t2 (Int32.toNatClampNeg t1) t0) t2 = 102 := by rw [pk_al]; exact hk105
  refine lv_goto (pc := 19) (tgt := 30) hx hb d_La_stick_19 (by decide) ?_
  refine lv_iconst (pc := 30) (v := 0) hx hb d_La_stick_30 (by decide) ?_
  exact we_i (pc := 31) hx hb hlocks hr hP hS (show cells + 0 ≤ 3 by omega) (show slots + 0 ≤ 18 by omega) h d_La_stick_31
set_option maxHeartbeats 4000000 in
set_option maxRecDepth 100000 in
theorem wk_La_stick_22 {p : Program} {l : Launch} {e : Env} {s : State} {m : MethodId} {args : Array Value} {below : List Frame} {meth : Method} {c : Code} {D : pq_D} {P0 : Pic} {po : Option Value → Pic → Prop} {th : String → Pic → Prop} (hfl : l.flags = flags0) (C : Cx p e s m args meth c method_8_code 6 "WaterWorksLaw" D P0) (hmg : e.platform.magicAccessors = ({} : Platform).magicAccessors) (hr : meth.sig.returnType = (some .int)) (hin : meth.name = "stick") (htab : c.exceptionTable.toList = tableOf [(0, 19, 22, 19), (0, 19, 26, 35)]) : ∀ (P : Pic) (t0 : Nat) (H : Heap) (locs : List Loc) (cells slots : Nat) (ls : Array Slot), wb_La_stick_22 po th P t0 → Pi D P H → Sg (cq_A P0 s) s.heap H P locs → lv_has ls 6 [] → cells + 0 ≤ 3 → slots + 0 ≤ 18 → W p l e rm_La_stick s m args below meth c H locs cells slots (mt_MQ below (cq_Q D P0 false po th) args s 3 18 (cq_free P0 false)) (F0 m 22 ls [.ref t0]) := by
  intro P t0 H locs cells slots ls h hP hS hl hcc hss
  obtain ⟨hx, hb, hml, hown, hlocks, htr, hT, hK, hSt, hN, hP0⟩ := id C
  unfold wb_La_stick_22 at h
  refine lv_astore (pc := 22) (lv' := [(5, .ref t0)]) hx hb d_La_stick_22 hl (by decide) rfl (fun ls hl => ?_)
  refine lv_iconst (pc := 24) (v := 1) hx hb d_La_stick_24 (by decide) ?_
  exact we_i (pc := 25) hx hb hlocks hr hP hS (show cells + 0 ≤ 3 by omega) (show slots + 0 ≤ 18 by omega) h d_La_stick_25
set_option maxHeartbeats 4000000 in
set_option maxRecDepth 100000 in
theorem wk_La_stick_26 {p : Program} {l : Launch} {e : Env} {s : State} {m : MethodId} {args : Array Value} {below : List Frame} {meth : Method} {c : Code} {D : pq_D} {P0 : Pic} {po : Option Value → Pic → Prop} {th : String → Pic → Prop} (hfl : l.flags = flags0) (C : Cx p e s m args meth c method_8_code 6 "WaterWorksLaw" D P0) (hmg : e.platform.magicAccessors = ({} : Platform).magicAccessors) (hr : meth.sig.returnType = (some .int)) (hin : meth.name = "stick") (htab : c.exceptionTable.toList = tableOf [(0, 19, 22, 19), (0, 19, 26, 35)]) : ∀ (P : Pic) (t0 : Nat) (H : Heap) (locs : List Loc) (cells slots : Nat) (ls : Array Slot), wb_La_stick_26 po th P t0 → Pi D P H → Sg (cq_A P0 s) s.heap H P locs → lv_has ls 6 [] → cells + 0 ≤ 3 → slots + 0 ≤ 18 → W p l e rm_La_stick s m args below meth c H locs cells slots (mt_MQ below (cq_Q D P0 false po th) args s 3 18 (cq_free P0 false)) (F0 m 26 ls [.ref t0]) := by
  intro P t0 H locs cells slots ls h hP hS hl hcc hss
  obtain ⟨hx, hb, hml, hown, hlocks, htr, hT, hK, hSt, hN, hP0⟩ := id C
  unfold wb_La_stick_26 at h
  refine lv_astore (pc := 26) (lv' := [(5, .ref t0)]) hx hb d_La_stick_26 hl (by decide) rfl (fun ls hl => ?_)
  refine lv_iconst (pc := 28) (v := 2) hx hb d_La_stick_28 (by decide) ?_
  exact we_i (pc := 29) hx hb hlocks hr hP hS (show cells + 0 ≤ 3 by omega) (show slots + 0 ≤ 18 by omega) h d_La_stick_29
set_option maxHeartbeats 4000000 in
set_option maxRecDepth 100000 in
theorem ct_La_stick {l : Launch} (hfl : l.flags = flags0) (D : pq_D) {po : Option Value → Pic → Prop} {th : String → Pic → Prop} {P : Pic} {a0 : Nat} {x1 : Int32} {x2 : Int32} {x3 : Int32} {a4 : Nat} (h : wp_La_stick po th P a0 x1 x2 x3 a4) : CT l D y_La_stick (.codeWith y_La_stick method_8_code 6 (some .int) [(0, 19, 22, 19), (0, 19, 26, 35)]) rm_La_stick false [.ref a0, .int x1, .int x2, .int x3, .ref a4] P po th := by
  refine ct_of (hs := [(0, 19, 22, 19), (0, 19, 26, 35)]) hfl (by decide +kernel) (Or.inr rfl) (Nat.le_of_ble_eq_true rfl) ?_
  intro p e s m below meth c C hmg hr hin htab ls hl
  have hl : lv_has ls 6 [(0, .ref a0), (1, .int x1), (2, .int x2), (3, .int x3), (4, .ref a4)] := hl
  generalize hargs : ([.ref a0, .int x1, .int x2, .int x3, .ref a4] : List Value).toArray = args at C ⊢
  obtain ⟨hx, hb, hml, hown, hlocks, htr, hT, hK, hSt, hN, hP0⟩ := id C
  have hP : Pi D P s.heap := hP0
  have hS : Sg (cq_A P s) s.heap s.heap P [] := Sg.start hP0
  unfold wp_La_stick at h
  refine lv_aload (pc := 0) hx hb d_La_stick_0 (lv_at hl 4 rfl) ?_
  refine lv_iconst (pc := 2) (v := 0) hx hb d_La_stick_2 (by decide) ?_
  refine lv_aload_n (pc := 3) hx hb d_La_stick_3 rfl (lv_at hl 0 rfl) ?_
  refine lv_iload_n (pc := 4) hx hb d_La_stick_4 rfl (lv_at hl 1 rfl) ?_
  refine lv_iload_n (pc := 5) hx hb d_La_stick_5 rfl (lv_at hl 2 rfl) ?_
  refine lv_iload_n (pc := 6) hx hb d_La_stick_6 rfl (lv_at hl 3 rfl) ?_
  obtain ⟨hk101, h⟩ := h
  refine cc_i (pc := 7) C (rest := [.int (0 : Int32), .ref a4]) (mt_invV (As := [.int x1, .int x2, .int x3]) hx hb hown (hT _ k_746 _) (hT _ k_747 _) (hT _ k_748 _) (mt_Cd.code (hT _ k_749 #[])) h_Wa_stick (pq_recv hK hP hk101 rfl) n_Wa_stick rfl d_La_stick_7) (ct_Wa_stick hfl D h) k_749 k_1 ⟨Nat.le_of_ble_eq_true rfl, Nat.le_of_ble_eq_true rfl⟩ ⟨(show 0 + 3 ≤ 3 by omega), (show 0 + 18 ≤ 18 by omega)⟩ hl.1 d_La_stick_7 (Nat.le_of_ble_eq_true rfl) hP hS (fun x102 P103 H locs h hP hS => ?_) (fun xx X P103 H locs h hX hex hP hS => ?_)
  · refine lv_if_eq (pc := 10) (tgt := 17) hx hb d_La_stick_10 (by decide) (fun c104 => ?_) (fun c104 => ?_)
    · replace h := h.1 c104
      refine lv_lconst (pc := 17) (v := 0) hx hb d_La_stick_17 (by decide) ?_
      exact wk_La_stick_18 hfl C hmg hr hin htab _ (0 : Int64) (0 : Int32) a4 _ _ _ _ _ h hP hS (lv_sub hl [] rfl) (show 0 + 3 + 0 ≤ 3 by omega) (show 0 + 18 + 0 ≤ 18 by omega)
    · replace h := h.2 c104
      refine lv_lconst (pc := 13) (v := 1) hx hb d_La_stick_13 (by decide) ?_
      refine lv_goto (pc := 14) (tgt := 18) hx hb d_La_stick_14 (by decide) ?_
      exact wk_La_stick_18 hfl C hmg hr hin htab _ (1 : Int64) (0 : Int32) a4 _ _ _ _ _ h hP hS (lv_sub hl [] rfl) (show 0 + 3 + 0 ≤ 3 by omega) (show 0 + 18 + 0 ≤ 18 by omega)
  · by_cases hX0 : X = "java/lang/IndexOutOfBoundsException"
    · subst hX0
      simp only [String.reduceEq, if_true, if_false, reduceIte] at h
      refine cq_caught (hs := [(0, 19, 22, 19), (0, 19, 26, 35)]) (i := 0) (ys := ["java/lang/IndexOutOfBoundsException", "java/util/NoSuchElementException"]) C htab hX hex k_593 hmg (by decide) rfl (fun j hj => by match j, hj with | 0, _ => exact ⟨by decide, k_578, by decide, by decide, by decide⟩ | j + 1, hj => omega) (fun j hj => by match j, hj with  | j + 0, hj => omega) rfl ?_
      replace h := h xx
      exact wk_La_stick_22 hfl C hmg hr hin htab _ xx _ _ _ _ _ h hP hS (lv_sub hl [] rfl) (show 0 + 3 + 0 ≤ 3 by omega) (show 0 + 18 + 0 ≤ 18 by omega)
    by_cases hX1 : X = "java/util/NoSuchElementException"
    · subst hX1
      simp only [String.reduceEq, if_true, if_false, reduceIte] at h
      refine cq_caught (hs := [(0, 19, 22, 19), (0, 19, 26, 35)]) (i := 1) (ys := ["java/lang/IndexOutOfBoundsException", "java/util/NoSuchElementException"]) C htab hX hex k_730 hmg (by decide) rfl (fun j hj => by match j, hj with | 0, _ => exact ⟨by decide, k_578, by decide, by decide, by decide⟩ | 1, _ => exact ⟨by decide, k_716, by decide, by decide, by decide⟩ | j + 2, hj => omega) (fun j hj => by match j, hj with | 0, _ => decide | j + 1, hj => omega) rfl ?_
      replace h := h xx
      exact wk_La_stick_26 hfl C hmg hr hin htab _ xx _ _ _ _ _ h hP hS (lv_sub hl [] rfl) (show 0 + 3 + 0 ≤ 3 by omega) (show 0 + 18 + 0 ≤ 18 by omega)
    exact absurd h (by simp [hX0, hX1])
/-! WaterWorksLaw.fed(LWaterWorks;I[J)I -/
abbrev y_La_fed : MethodName := ⟨"WaterWorksLaw", "fed", "(LWaterWorks;I[J)I"⟩
abbrev rm_La_fed : Room := { frames := 9, cells := 1, slots := 6, locals := 269 }
theorem h_La_fed : y_La_fed.cls ≠ "java/lang/invoke/MethodHandle" ∧ y_La_fed.cls ≠ "java/lang/invoke/VarHandle" := by decide +kernel
theorem n_La_fed : (parseMethodDescriptor y_La_fed.desc).map (fun d => d.parameters.length) = some 3 := by decide +kernel
theorem d_La_fed_0 : decode method_9_code 0 = .ok (.aload_n 2, 1) := by decide +kernel
theorem d_La_fed_1 : decode method_9_code 1 = .ok (.iconst 0, 1) := by decide +kernel
theorem d_La_fed_2 : decode method_9_code 2 = .ok (.aload_n 0, 1) := by decide +kernel
theorem d_La_fed_3 : decode method_9_code 3 = .ok (.iload_n 1, 1) := by decide +kernel
theorem d_La_fed_4 : decode method_9_code 4 = .ok (.invokevirtual 40, 3) := by decide +kernel
theorem d_La_fed_7 : decode method_9_code 7 = .ok (.ifCond .eq 7, 3) := by decide +kernel
theorem d_La_fed_10 : decode method_9_code 10 = .ok (.lconst 1, 1) := by decide +kernel
theorem d_La_fed_11 : decode method_9_code 11 = .ok (.goto 4, 3) := by decide +kernel
theorem d_La_fed_14 : decode method_9_code 14 = .ok (.lconst 0, 1) := by decide +kernel
theorem d_La_fed_15 : decode method_9_code 15 = .ok (.lastore, 1) := by decide +kernel
theorem d_La_fed_16 : decode method_9_code 16 = .ok (.goto 6, 3) := by decide +kernel
theorem d_La_fed_19 : decode method_9_code 19 = .ok (.astore_n 3, 1) := by decide +kernel
theorem d_La_fed_20 : decode method_9_code 20 = .ok (.iconst 1, 1) := by decide +kernel
theorem d_La_fed_21 : decode method_9_code 21 = .ok (.ireturn, 1) := by decide +kernel
theorem d_La_fed_22 : decode method_9_code 22 = .ok (.iconst 0, 1) := by decide +kernel
theorem d_La_fed_23 : decode method_9_code 23 = .ok (.ireturn, 1) := by decide +kernel
def wb_La_fed_15 (po : Option Value → Pic → Prop) (th : String → Pic → Prop) (P : Pic) (t0 : Int64) (t1 : Int32) (t2 : Nat) : Prop := p_k P t2 = 102 ∧ vp_in t1 (p_n P t2) ∧ po (some (.int (0 : Int32))) (s_al P t2 (Int32.toNatClampNeg t1) t0)
def wb_La_fed_19 (po : Option Value → Pic → Prop) (th : String → Pic → Prop) (P : Pic) (t0 : Nat) : Prop := po (some (.int (1 : Int32))) P
def wp_La_fed (po : Option Value → Pic → Prop) (th : String → Pic → Prop) (P : Pic) (a0 : Nat) (x1 : Int32) (a2 : Nat) : Prop := p_k P a0 = 1 ∧ wp_Wa_fed (cp_i fun x102 P103 => ((x102 = 0 → (wb_La_fed_15 po th P103 (0 : Int64) (0 : Int32) a2)) ∧ (¬ x102 = 0 → (wb_La_fed_15 po th P103 (1 : Int64) (0 : Int32) a2)))) (fun X P103 => if X = "java/lang/IndexOutOfBoundsException" then (∀ (xx : Nat), wb_La_fed_19 po th P103 xx) else False) P a0 x1
set_option maxHeartbeats 4000000 in
set_option maxRecDepth 100000 in
theorem wk_La_fed_15 {p : Program} {l : Launch} {e : Env} {s : State} {m : MethodId} {args : Array Value} {below : List Frame} {meth : Method} {c : Code} {D : pq_D} {P0 : Pic} {po : Option Value → Pic → Prop} {th : String → Pic → Prop} (hfl : l.flags = flags0) (C : Cx p e s m args meth c method_9_code 4 "WaterWorksLaw" D P0) (hmg : e.platform.magicAccessors = ({} : Platform).magicAccessors) (hr : meth.sig.returnType = (some .int)) (hin : meth.name = "fed") (htab : c.exceptionTable.toList = tableOf [(0, 16, 19, 19)]) : ∀ (P : Pic) (t0 : Int64) (t1 : Int32) (t2 : Nat) (H : Heap) (locs : List Loc) (cells slots : Nat) (ls : Array Slot), wb_La_fed_15 po th P t0 t1 t2 → Pi D P H → Sg (cq_A P0 s) s.heap H P locs → lv_has ls 4 [] → cells + 0 ≤ 1 → slots + 0 ≤ 6 → W p l e rm_La_fed s m args below meth c H locs cells slots (mt_MQ below (cq_Q D P0 false po th) args s 1 6 (cq_free P0 false)) (F0 m 15 ls [.long t0, .int t1, .ref t2]) := by
  intro P t0 t1 t2 H locs cells slots ls h hP hS hl hcc hss
  obtain ⟨hx, hb, hml, hown, hlocks, htr, hT, hK, hSt, hN, hP0⟩ := id C
  unfold wb_La_fed_15 at h
  obtain ⟨hk105, h⟩ := h
  obtain ⟨hi106, h⟩ := h
  refine pq_last (pc := 15) hx hb hK hP hS hk105 hi106 d_La_fed_15 (fun H locs hP hS => ?_)
  have hk105 : p_k (s_al P t2 (Int32.toNatClampNeg t1) t0) t2 = 102 := by rw [pk_al]; exact hk105
  refine lv_goto (pc := 16) (tgt := 22) hx hb d_La_fed_16 (by decide) ?_
  refine lv_iconst (pc := 22) (v := 0) hx hb d_La_fed_22 (by decide) ?_
  exact we_i (pc := 23) hx hb hlocks hr hP hS (show cells + 0 ≤ 1 by omega) (show slots + 0 ≤ 6 by omega) h d_La_fed_23
set_option maxHeartbeats 4000000 in
set_option maxRecDepth 100000 in
theorem wk_La_fed_19 {p : Program} {l : Launch} {e : Env} {s : State} {m : MethodId} {args : Array Value} {below : List Frame} {meth : Method} {c : Code} {D : pq_D} {P0 : Pic} {po : Option Value → Pic → Prop} {th : String → Pic → Prop} (hfl : l.flags = flags0) (C : Cx p e s m args meth c method_9_code 4 "WaterWorksLaw" D P0) (hmg : e.platform.magicAccessors = ({} : Platform).magicAccessors) (hr : meth.sig.returnType = (some .int)) (hin : meth.name = "fed") (htab : c.exceptionTable.toList = tableOf [(0, 16, 19, 19)]) : ∀ (P : Pic) (t0 : Nat) (H : Heap) (locs : List Loc) (cells slots : Nat) (ls : Array Slot), wb_La_fed_19 po th P t0 → Pi D P H → Sg (cq_A P0 s) s.heap H P locs → lv_has ls 4 [] → cells + 0 ≤ 1 → slots + 0 ≤ 6 → W p l e rm_La_fed s m args below meth c H locs cells slots (mt_MQ below (cq_Q D P0 false po th) args s 1 6 (cq_free P0 false)) (F0 m 19 ls [.ref t0]) := by
  intro P t0 H locs cells slots ls h hP hS hl hcc hss
  obtain ⟨hx, hb, hml, hown, hlocks, htr, hT, hK, hSt, hN, hP0⟩ := id C
  unfold wb_La_fed_19 at h
  refine lv_astore_n (pc := 19) (lv' := [(3, .ref t0)]) hx hb d_La_fed_19 rfl hl (by decide) rfl (fun ls hl => ?_)
  refine lv_iconst (pc := 20) (v := 1) hx hb d_La_fed_20 (by decide) ?_
  exact we_i (pc := 21) hx hb hlocks hr hP hS (show cells + 0 ≤ 1 by omega) (show slots + 0 ≤ 6 by omega) h d_La_fed_21
set_option maxHeartbeats 4000000 in
set_option maxRecDepth 100000 in
theorem ct_La_fed {l : Launch} (hfl : l.flags = flags0) (D : pq_D) {po : Option Value → Pic → Prop} {th : String → Pic → Prop} {P : Pic} {a0 : Nat} {x1 : Int32} {a2 : Nat} (h : wp_La_fed po th P a0 x1 a2) : CT l D y_La_fed (.codeWith y_La_fed method_9_code 4 (some .int) [(0, 16, 19, 19)]) rm_La_fed false [.ref a0, .int x1, .ref a2] P po th := by
  refine ct_of (hs := [(0, 16, 19, 19)]) hfl (by decide +kernel) (Or.inr rfl) (Nat.le_of_ble_eq_true rfl) ?_
  intro p e s m below meth c C hmg hr hin htab ls hl
  have hl : lv_has ls 4 [(0, .ref a0), (1, .int x1), (2, .ref a2)] := hl
  generalize hargs : ([.ref a0, .int x1, .ref a2] : List Value).toArray = args at C ⊢
  obtain ⟨hx, hb, hml, hown, hlocks, htr, hT, hK, hSt, hN, hP0⟩ := id C
  have hP : Pi D P s.heap := hP0
  have hS : Sg (cq_A P s) s.heap s.heap P [] := Sg.start hP0
  unfold wp_La_fed at h
  refine lv_aload_n (pc := 0) hx hb d_La_fed_0 rfl (lv_at hl 2 rfl) ?_
  refine lv_iconst (pc := 1) (v := 0) hx hb d_La_fed_1 (by decide) ?_
  refine lv_aload_n (pc := 2) hx hb d_La_fed_2 rfl (lv_at hl 0 rfl) ?_
  refine lv_iload_n (pc := 3) hx hb d_La_fed_3 rfl (lv_at hl 1 rfl) ?_
  obtain ⟨hk101, h⟩ := h
  refine cc_i (pc := 4) C (rest := [.int (0 : Int32), .ref a2]) (mt_invV (As := [.int x1]) hx hb hown (hT _ k_753 _) (hT _ k_754 _) (hT _ k_755 _) (mt_Cd.code (hT _ k_756 #[])) h_Wa_fed (pq_recv hK hP hk101 rfl) n_Wa_fed rfl d_La_fed_4) (ct_Wa_fed hfl D h) k_756 k_1 ⟨Nat.le_of_ble_eq_true rfl, Nat.le_of_ble_eq_true rfl⟩ ⟨(show 0 + 1 ≤ 1 by omega), (show 0 + 6 ≤ 6 by omega)⟩ hl.1 d_La_fed_4 (Nat.le_of_ble_eq_true rfl) hP hS (fun x102 P103 H locs h hP hS => ?_) (fun xx X P103 H locs h hX hex hP hS => ?_)
  · refine lv_if_eq (pc := 7) (tgt := 14) hx hb d_La_fed_7 (by decide) (fun c104 => ?_) (fun c104 => ?_)
    · replace h := h.1 c104
      refine lv_lconst (pc := 14) (v := 0) hx hb d_La_fed_14 (by decide) ?_
      exact wk_La_fed_15 hfl C hmg hr hin htab _ (0 : Int64) (0 : Int32) a2 _ _ _ _ _ h hP hS (lv_sub hl [] rfl) (show 0 + 1 + 0 ≤ 1 by omega) (show 0 + 6 + 0 ≤ 6 by omega)
    · replace h := h.2 c104
      refine lv_lconst (pc := 10) (v := 1) hx hb d_La_fed_10 (by decide) ?_
      refine lv_goto (pc := 11) (tgt := 15) hx hb d_La_fed_11 (by decide) ?_
      exact wk_La_fed_15 hfl C hmg hr hin htab _ (1 : Int64) (0 : Int32) a2 _ _ _ _ _ h hP hS (lv_sub hl [] rfl) (show 0 + 1 + 0 ≤ 1 by omega) (show 0 + 6 + 0 ≤ 6 by omega)
  · by_cases hX0 : X = "java/lang/IndexOutOfBoundsException"
    · subst hX0
      simp only [String.reduceEq, if_true, if_false, reduceIte] at h
      refine cq_caught (hs := [(0, 16, 19, 19)]) (i := 0) (ys := ["java/lang/IndexOutOfBoundsException"]) C htab hX hex k_593 hmg (by decide) rfl (fun j hj => by match j, hj with | 0, _ => exact ⟨by decide, k_578, by decide, by decide, by decide⟩ | j + 1, hj => omega) (fun j hj => by match j, hj with  | j + 0, hj => omega) rfl ?_
      replace h := h xx
      exact wk_La_fed_19 hfl C hmg hr hin htab _ xx _ _ _ _ _ h hP hS (lv_sub hl [] rfl) (show 0 + 1 + 0 ≤ 1 by omega) (show 0 + 6 + 0 ≤ 6 by omega)
    exact absurd h (by simp [hX0])
/-! WaterWorksLaw.shutOff(LWaterWorks;I[J)I -/
abbrev y_La_shutOff : MethodName := ⟨"WaterWorksLaw", "shutOff", "(LWaterWorks;I[J)I"⟩
abbrev rm_La_shutOff : Room := { frames := 9, cells := 1, slots := 6, locals := 291 }
theorem h_La_shutOff : y_La_shutOff.cls ≠ "java/lang/invoke/MethodHandle" ∧ y_La_shutOff.cls ≠ "java/lang/invoke/VarHandle" := by decide +kernel
theorem n_La_shutOff : (parseMethodDescriptor y_La_shutOff.desc).map (fun d => d.parameters.length) = some 3 := by decide +kernel
theorem d_La_shutOff_0 : decode method_10_code 0 = .ok (.aload_n 2, 1) := by decide +kernel
theorem d_La_shutOff_1 : decode method_10_code 1 = .ok (.iconst 0, 1) := by decide +kernel
theorem d_La_shutOff_2 : decode method_10_code 2 = .ok (.aload_n 0, 1) := by decide +kernel
theorem d_La_shutOff_3 : decode method_10_code 3 = .ok (.iload_n 1, 1) := by decide +kernel
theorem d_La_shutOff_4 : decode method_10_code 4 = .ok (.invokevirtual 44, 3) := by decide +kernel
theorem d_La_shutOff_7 : decode method_10_code 7 = .ok (.i2l, 1) := by decide +kernel
theorem d_La_shutOff_8 : decode method_10_code 8 = .ok (.lastore, 1) := by decide +kernel
theorem d_La_shutOff_9 : decode method_10_code 9 = .ok (.goto 6, 3) := by decide +kernel
theorem d_La_shutOff_12 : decode method_10_code 12 = .ok (.astore_n 3, 1) := by decide +kernel
theorem d_La_shutOff_13 : decode method_10_code 13 = .ok (.iconst 1, 1) := by decide +kernel
theorem d_La_shutOff_14 : decode method_10_code 14 = .ok (.ireturn, 1) := by decide +kernel
theorem d_La_shutOff_15 : decode method_10_code 15 = .ok (.iconst 0, 1) := by decide +kernel
theorem d_La_shutOff_16 : decode method_10_code 16 = .ok (.ireturn, 1) := by decide +kernel
def wb_La_shutOff_12 (po : Option Value → Pic → Prop) (th : String → Pic → Prop) (P : Pic) (t0 : Nat) : Prop := po (some (.int (1 : Int32))) P
def wp_La_shutOff (po : Option Value → Pic → Prop) (th : String → Pic → Prop) (P : Pic) (a0 : Nat) (x1 : Int32) (a2 : Nat) : Prop := p_k P a0 = 1 ∧ wp_Wa_shutOff (cp_i fun x102 P103 => p_k P103 a2 = 102 ∧ vp_in (0 : Int32) (p_n P103 a2) ∧ po (some (.int (0 : Int32))) (s_al P103 a2 (Int32.toNatClampNeg (0 : Int32)) (Int32.toInt64 x102))) (fun X P103 => if X = "java/lang/IndexOutOfBoundsException" then (∀ (xx : Nat), wb_La_shutOff_12 po th P103 xx) else False) P a0 x1
set_option maxHeartbeats 4000000 in
set_option maxRecDepth 100000 in
theorem wk_La_shutOff_12 {p : Program} {l : Launch} {e : Env} {s : State} {m : MethodId} {args : Array Value} {below : List Frame} {meth : Method} {c : Code} {D : pq_D} {P0 : Pic} {po : Option Value → Pic → Prop} {th : String → Pic → Prop} (hfl : l.flags = flags0) (C : Cx p e s m args meth c method_10_code 4 "WaterWorksLaw" D P0) (hmg : e.platform.magicAccessors = ({} : Platform).magicAccessors) (hr : meth.sig.returnType = (some .int)) (hin : meth.name = "shutOff") (htab : c.exceptionTable.toList = tableOf [(0, 9, 12, 19)]) : ∀ (P : Pic) (t0 : Nat) (H : Heap) (locs : List Loc) (cells slots : Nat) (ls : Array Slot), wb_La_shutOff_12 po th P t0 → Pi D P H → Sg (cq_A P0 s) s.heap H P locs → lv_has ls 4 [] → cells + 0 ≤ 1 → slots + 0 ≤ 6 → W p l e rm_La_shutOff s m args below meth c H locs cells slots (mt_MQ below (cq_Q D P0 false po th) args s 1 6 (cq_free P0 false)) (F0 m 12 ls [.ref t0]) := by
  intro P t0 H locs cells slots ls h hP hS hl hcc hss
  obtain ⟨hx, hb, hml, hown, hlocks, htr, hT, hK, hSt, hN, hP0⟩ := id C
  unfold wb_La_shutOff_12 at h
  refine lv_astore_n (pc := 12) (lv' := [(3, .ref t0)]) hx hb d_La_shutOff_12 rfl hl (by decide) rfl (fun ls hl => ?_)
  refine lv_iconst (pc := 13) (v := 1) hx hb d_La_shutOff_13 (by decide) ?_
  exact we_i (pc := 14) hx hb hlocks hr hP hS (show cells + 0 ≤ 1 by omega) (show slots + 0 ≤ 6 by omega) h d_La_shutOff_14
set_option maxHeartbeats 4000000 in
set_option maxRecDepth 100000 in
theorem ct_La_shutOff {l : Launch} (hfl : l.flags = flags0) (D : pq_D) {po : Option Value → Pic → Prop} {th : String → Pic → Prop} {P : Pic} {a0 : Nat} {x1 : Int32} {a2 : Nat} (h : wp_La_shutOff po th P a0 x1 a2) : CT l D y_La_shutOff (.codeWith y_La_shutOff method_10_code 4 (some .int) [(0, 9, 12, 19)]) rm_La_shutOff false [.ref a0, .int x1, .ref a2] P po th := by
  refine ct_of (hs := [(0, 9, 12, 19)]) hfl (by decide +kernel) (Or.inr rfl) (Nat.le_of_ble_eq_true rfl) ?_
  intro p e s m below meth c C hmg hr hin htab ls hl
  have hl : lv_has ls 4 [(0, .ref a0), (1, .int x1), (2, .ref a2)] := hl
  generalize hargs : ([.ref a0, .int x1, .ref a2] : List Value).toArray = args at C ⊢
  obtain ⟨hx, hb, hml, hown, hlocks, htr, hT, hK, hSt, hN, hP0⟩ := id C
  have hP : Pi D P s.heap := hP0
  have hS : Sg (cq_A P s) s.heap s.heap P [] := Sg.start hP0
  unfold wp_La_shutOff at h
  refine lv_aload_n (pc := 0) hx hb d_La_shutOff_0 rfl (lv_at hl 2 rfl) ?_
  refine lv_iconst (pc := 1) (v := 0) hx hb d_La_shutOff_1 (by decide) ?_
  refine lv_aload_n (pc := 2) hx hb d_La_shutOff_2 rfl (lv_at hl 0 rfl) ?_
  refine lv_iload_n (pc := 3) hx hb d_La_shutOff_3 rfl (lv_at hl 1 rfl) ?_
  obtain ⟨hk101, h⟩ := h
  refine cc_i (pc := 4) C (rest := [.int (0 : Int32), .ref a2]) (mt_invV (As := [.int x1]) hx hb hown (hT _ k_814 _) (hT _ k_815 _) (hT _ k_816 _) (mt_Cd.code (hT _ k_817 #[])) h_Wa_shutOff (pq_recv hK hP hk101 rfl) n_Wa_shutOff rfl d_La_shutOff_4) (ct_Wa_shutOff hfl D h) k_817 k_1 ⟨Nat.le_of_ble_eq_true rfl, Nat.le_of_ble_eq_true rfl⟩ ⟨(show 0 + 1 ≤ 1 by omega), (show 0 + 6 ≤ 6 by omega)⟩ hl.1 d_La_shutOff_4 (Nat.le_of_ble_eq_true rfl) hP hS (fun x102 P103 H locs h hP hS => ?_) (fun xx X P103 H locs h hX hex hP hS => ?_)
  · refine lv_i2l (pc := 7) hx hb d_La_shutOff_7 rfl ?_
    obtain ⟨hk104, h⟩ := h
    obtain ⟨hi105, h⟩ := h
    refine pq_last (pc := 8) hx hb hK hP hS hk104 hi105 d_La_shutOff_8 (fun H locs hP hS => ?_)
    have hk104 : p_k (s_al P103 a2 (Int32.toNatClampNeg (0 : Int32)) (Int32.toInt64 x102)) a2 = 102 := by rw [pk_al]; exact hk104
    refine lv_goto (pc := 9) (tgt := 15) hx hb d_La_shutOff_9 (by decide) ?_
    refine lv_iconst (pc := 15) (v := 0) hx hb d_La_shutOff_15 (by decide) ?_
    exact we_i (pc := 16) hx hb hlocks hr hP hS (show 0 + 1 + 0 ≤ 1 by omega) (show 0 + 6 + 0 ≤ 6 by omega) h d_La_shutOff_16
  · by_cases hX0 : X = "java/lang/IndexOutOfBoundsException"
    · subst hX0
      simp only [String.reduceEq, if_true, if_false, reduceIte] at h
      refine cq_caught (hs := [(0, 9, 12, 19)]) (i := 0) (ys := ["java/lang/IndexOutOfBoundsException"]) C htab hX hex k_593 hmg (by decide) rfl (fun j hj => by match j, hj with | 0, _ => exact ⟨by decide, k_578, by decide, by decide, by decide⟩ | j + 1, hj => omega) (fun j hj => by match j, hj with  | j + 0, hj => omega) rfl ?_
      replace h := h xx
      exact wk_La_shutOff_12 hfl C hmg hr hin htab _ xx _ _ _ _ _ h hP hS (lv_sub hl [] rfl) (show 0 + 1 + 0 ≤ 1 by omega) (show 0 + 6 + 0 ≤ 6 by omega)
    exact absurd h (by simp [hX0])
/-! WaterWorksLaw.plan(LWaterWorks;II[J)I -/
abbrev y_La_plan : MethodName := ⟨"WaterWorksLaw", "plan", "(LWaterWorks;II[J)I"⟩
abbrev rm_La_plan : Room := { frames := 9, cells := 1, slots := 6, locals := 295 }
theorem h_La_plan : y_La_plan.cls ≠ "java/lang/invoke/MethodHandle" ∧ y_La_plan.cls ≠ "java/lang/invoke/VarHandle" := by decide +kernel
theorem n_La_plan : (parseMethodDescriptor y_La_plan.desc).map (fun d => d.parameters.length) = some 4 := by decide +kernel
theorem d_La_plan_0 : decode method_11_code 0 = .ok (.aload_n 3, 1) := by decide +kernel
theorem d_La_plan_1 : decode method_11_code 1 = .ok (.iconst 0, 1) := by decide +kernel
theorem d_La_plan_2 : decode method_11_code 2 = .ok (.aload_n 0, 1) := by decide +kernel
theorem d_La_plan_3 : decode method_11_code 3 = .ok (.iload_n 1, 1) := by decide +kernel
theorem d_La_plan_4 : decode method_11_code 4 = .ok (.iload_n 2, 1) := by decide +kernel
theorem d_La_plan_5 : decode method_11_code 5 = .ok (.invokevirtual 47, 3) := by decide +kernel
theorem d_La_plan_8 : decode method_11_code 8 = .ok (.i2l, 1) := by decide +kernel
theorem d_La_plan_9 : decode method_11_code 9 = .ok (.lastore, 1) := by decide +kernel
theorem d_La_plan_10 : decode method_11_code 10 = .ok (.goto 7, 3) := by decide +kernel
theorem d_La_plan_13 : decode method_11_code 13 = .ok (.astore 4, 2) := by decide +kernel
theorem d_La_plan_15 : decode method_11_code 15 = .ok (.iconst 1, 1) := by decide +kernel
theorem d_La_plan_16 : decode method_11_code 16 = .ok (.ireturn, 1) := by decide +kernel
theorem d_La_plan_17 : decode method_11_code 17 = .ok (.iconst 0, 1) := by decide +kernel
theorem d_La_plan_18 : decode method_11_code 18 = .ok (.ireturn, 1) := by decide +kernel
def wb_La_plan_13 (po : Option Value → Pic → Prop) (th : String → Pic → Prop) (P : Pic) (t0 : Nat) : Prop := po (some (.int (1 : Int32))) P
def wp_La_plan (po : Option Value → Pic → Prop) (th : String → Pic → Prop) (P : Pic) (a0 : Nat) (x1 : Int32) (x2 : Int32) (a3 : Nat) : Prop := p_k P a0 = 1 ∧ wp_Wa_plan (cp_i fun x102 P103 => p_k P103 a3 = 102 ∧ vp_in (0 : Int32) (p_n P103 a3) ∧ po (some (.int (0 : Int32))) (s_al P103 a3 (Int32.toNatClampNeg (0 : Int32)) (Int32.toInt64 x102))) (fun X P103 => if X = "java/lang/IndexOutOfBoundsException" then (∀ (xx : Nat), wb_La_plan_13 po th P103 xx) else False) P a0 x1 x2
set_option maxHeartbeats 4000000 in
set_option maxRecDepth 100000 in
theorem wk_La_plan_13 {p : Program} {l : Launch} {e : Env} {s : State} {m : MethodId} {args : Array Value} {below : List Frame} {meth : Method} {c : Code} {D : pq_D} {P0 : Pic} {po : Option Value → Pic → Prop} {th : String → Pic → Prop} (hfl : l.flags = flags0) (C : Cx p e s m args meth c method_11_code 5 "WaterWorksLaw" D P0) (hmg : e.platform.magicAccessors = ({} : Platform).magicAccessors) (hr : meth.sig.returnType = (some .int)) (hin : meth.name = "plan") (htab : c.exceptionTable.toList = tableOf [(0, 10, 13, 19)]) : ∀ (P : Pic) (t0 : Nat) (H : Heap) (locs : List Loc) (cells slots : Nat) (ls : Array Slot), wb_La_plan_13 po th P t0 → Pi D P H → Sg (cq_A P0 s) s.heap H P locs → lv_has ls 5 [] → cells + 0 ≤ 1 → slots + 0 ≤ 6 → W p l e rm_La_plan s m args below meth c H locs cells slots (mt_MQ below (cq_Q D P0 false po th) args s 1 6 (cq_free P0 false)) (F0 m 13 ls [.ref t0]) := by
  intro P t0 H locs cells slots ls h hP hS hl hcc hss
  obtain ⟨hx, hb, hml, hown, hlocks, htr, hT, hK, hSt, hN, hP0⟩ := id C
  unfold wb_La_plan_13 at h
  refine lv_astore (pc := 13) (lv' := [(4, .ref t0)]) hx hb d_La_plan_13 hl (by decide) rfl (fun ls hl => ?_)
  refine lv_iconst (pc := 15) (v := 1) hx hb d_La_plan_15 (by decide) ?_
  exact we_i (pc := 16) hx hb hlocks hr hP hS (show cells + 0 ≤ 1 by omega) (show slots + 0 ≤ 6 by omega) h d_La_plan_16
set_option maxHeartbeats 4000000 in
set_option maxRecDepth 100000 in
theorem ct_La_plan {l : Launch} (hfl : l.flags = flags0) (D : pq_D) {po : Option Value → Pic → Prop} {th : String → Pic → Prop} {P : Pic} {a0 : Nat} {x1 : Int32} {x2 : Int32} {a3 : Nat} (h : wp_La_plan po th P a0 x1 x2 a3) : CT l D y_La_plan (.codeWith y_La_plan method_11_code 5 (some .int) [(0, 10, 13, 19)]) rm_La_plan false [.ref a0, .int x1, .int x2, .ref a3] P po th := by
  refine ct_of (hs := [(0, 10, 13, 19)]) hfl (by decide +kernel) (Or.inr rfl) (Nat.le_of_ble_eq_true rfl) ?_
  intro p e s m below meth c C hmg hr hin htab ls hl
  have hl : lv_has ls 5 [(0, .ref a0), (1, .int x1), (2, .int x2), (3, .ref a3)] := hl
  generalize hargs : ([.ref a0, .int x1, .int x2, .ref a3] : List Value).toArray = args at C ⊢
  obtain ⟨hx, hb, hml, hown, hlocks, htr, hT, hK, hSt, hN, hP0⟩ := id C
  have hP : Pi D P s.heap := hP0
  have hS : Sg (cq_A P s) s.heap s.heap P [] := Sg.start hP0
  unfold wp_La_plan at h
  refine lv_aload_n (pc := 0) hx hb d_La_plan_0 rfl (lv_at hl 3 rfl) ?_
  refine lv_iconst (pc := 1) (v := 0) hx hb d_La_plan_1 (by decide) ?_
  refine lv_aload_n (pc := 2) hx hb d_La_plan_2 rfl (lv_at hl 0 rfl) ?_
  refine lv_iload_n (pc := 3) hx hb d_La_plan_3 rfl (lv_at hl 1 rfl) ?_
  refine lv_iload_n (pc := 4) hx hb d_La_plan_4 rfl (lv_at hl 2 rfl) ?_
  obtain ⟨hk101, h⟩ := h
  refine cc_i (pc := 5) C (rest := [.int (0 : Int32), .ref a3]) (mt_invV (As := [.int x1, .int x2]) hx hb hown (hT _ k_844 _) (hT _ k_845 _) (hT _ k_846 _) (mt_Cd.code (hT _ k_847 #[])) h_Wa_plan (pq_recv hK hP hk101 rfl) n_Wa_plan rfl d_La_plan_5) (ct_Wa_plan hfl D h) k_847 k_1 ⟨Nat.le_of_ble_eq_true rfl, Nat.le_of_ble_eq_true rfl⟩ ⟨(show 0 + 1 ≤ 1 by omega), (show 0 + 6 ≤ 6 by omega)⟩ hl.1 d_La_plan_5 (Nat.le_of_ble_eq_true rfl) hP hS (fun x102 P103 H locs h hP hS => ?_) (fun xx X P103 H locs h hX hex hP hS => ?_)
  · refine lv_i2l (pc := 8) hx hb d_La_plan_8 rfl ?_
    obtain ⟨hk104, h⟩ := h
    obtain ⟨hi105, h⟩ := h
    refine pq_last (pc := 9) hx hb hK hP hS hk104 hi105 d_La_plan_9 (fun H locs hP hS => ?_)
    have hk104 : p_k (s_al P103 a3 (Int32.toNatClampNeg (0 : Int32)) (Int32.toInt64 x102)) a3 = 102 := by rw [pk_al]; exact hk104
    refine lv_goto (pc := 10) (tgt := 17) hx hb d_La_plan_10 (by decide) ?_
    refine lv_iconst (pc := 17) (v := 0) hx hb d_La_plan_17 (by decide) ?_
    exact we_i (pc := 18) hx hb hlocks hr hP hS (show 0 + 1 + 0 ≤ 1 by omega) (show 0 + 6 + 0 ≤ 6 by omega) h d_La_plan_18
  · by_cases hX0 : X = "java/lang/IndexOutOfBoundsException"
    · subst hX0
      simp only [String.reduceEq, if_true, if_false, reduceIte] at h
      refine cq_caught (hs := [(0, 10, 13, 19)]) (i := 0) (ys := ["java/lang/IndexOutOfBoundsException"]) C htab hX hex k_593 hmg (by decide) rfl (fun j hj => by match j, hj with | 0, _ => exact ⟨by decide, k_578, by decide, by decide, by decide⟩ | j + 1, hj => omega) (fun j hj => by match j, hj with  | j + 0, hj => omega) rfl ?_
      replace h := h xx
      exact wk_La_plan_13 hfl C hmg hr hin htab _ xx _ _ _ _ _ h hP hS (lv_sub hl [] rfl) (show 0 + 1 + 0 ≤ 1 by omega) (show 0 + 6 + 0 ≤ 6 by omega)
    exact absurd h (by simp [hX0])
/-! WaterWorksLaw.dry(LWaterWorks;I[J)I -/
abbrev y_La_dry : MethodName := ⟨"WaterWorksLaw", "dry", "(LWaterWorks;I[J)I"⟩
abbrev rm_La_dry : Room := { frames := 9, cells := 1, slots := 6, locals := 291 }
theorem h_La_dry : y_La_dry.cls ≠ "java/lang/invoke/MethodHandle" ∧ y_La_dry.cls ≠ "java/lang/invoke/VarHandle" := by decide +kernel
theorem n_La_dry : (parseMethodDescriptor y_La_dry.desc).map (fun d => d.parameters.length) = some 3 := by decide +kernel
theorem d_La_dry_0 : decode method_12_code 0 = .ok (.aload_n 2, 1) := by decide +kernel
theorem d_La_dry_1 : decode method_12_code 1 = .ok (.iconst 0, 1) := by decide +kernel
theorem d_La_dry_2 : decode method_12_code 2 = .ok (.aload_n 0, 1) := by decide +kernel
theorem d_La_dry_3 : decode method_12_code 3 = .ok (.iload_n 1, 1) := by decide +kernel
theorem d_La_dry_4 : decode method_12_code 4 = .ok (.invokevirtual 51, 3) := by decide +kernel
theorem d_La_dry_7 : decode method_12_code 7 = .ok (.i2l, 1) := by decide +kernel
theorem d_La_dry_8 : decode method_12_code 8 = .ok (.lastore, 1) := by decide +kernel
theorem d_La_dry_9 : decode method_12_code 9 = .ok (.goto 6, 3) := by decide +kernel
theorem d_La_dry_12 : decode method_12_code 12 = .ok (.astore_n 3, 1) := by decide +kernel
theorem d_La_dry_13 : decode method_12_code 13 = .ok (.iconst 1, 1) := by decide +kernel
theorem d_La_dry_14 : decode method_12_code 14 = .ok (.ireturn, 1) := by decide +kernel
theorem d_La_dry_15 : decode method_12_code 15 = .ok (.iconst 0, 1) := by decide +kernel
theorem d_La_dry_16 : decode method_12_code 16 = .ok (.ireturn, 1) := by decide +kernel
def wb_La_dry_12 (po : Option Value → Pic → Prop) (th : String → Pic → Prop) (P : Pic) (t0 : Nat) : Prop := po (some (.int (1 : Int32))) P
def wp_La_dry (po : Option Value → Pic → Prop) (th : String → Pic → Prop) (P : Pic) (a0 : Nat) (x1 : Int32) (a2 : Nat) : Prop := p_k P a0 = 1 ∧ wp_Wa_dry (cp_i fun x102 P103 => p_k P103 a2 = 102 ∧ vp_in (0 : Int32) (p_n P103 a2) ∧ po (some (.int (0 : Int32))) (s_al P103 a2 (Int32.toNatClampNeg (0 : Int32)) (Int32.toInt64 x102))) (fun X P103 => if X = "java/lang/IndexOutOfBoundsException" then (∀ (xx : Nat), wb_La_dry_12 po th P103 xx) else False) P a0 x1
set_option maxHeartbeats 4000000 in
set_option maxRecDepth 100000 in
theorem wk_La_dry_12 {p : Program} {l : Launch} {e : Env} {s : State} {m : MethodId} {args : Array Value} {below : List Frame} {meth : Method} {c : Code} {D : pq_D} {P0 : Pic} {po : Option Value → Pic → Prop} {th : String → Pic → Prop} (hfl : l.flags = flags0) (C : Cx p e s m args meth c method_12_code 4 "WaterWorksLaw" D P0) (hmg : e.platform.magicAccessors = ({} : Platform).magicAccessors) (hr : meth.sig.returnType = (some .int)) (hin : meth.name = "dry") (htab : c.exceptionTable.toList = tableOf [(0, 9, 12, 19)]) : ∀ (P : Pic) (t0 : Nat) (H : Heap) (locs : List Loc) (cells slots : Nat) (ls : Array Slot), wb_La_dry_12 po th P t0 → Pi D P H → Sg (cq_A P0 s) s.heap H P locs → lv_has ls 4 [] → cells + 0 ≤ 1 → slots + 0 ≤ 6 → W p l e rm_La_dry s m args below meth c H locs cells slots (mt_MQ below (cq_Q D P0 false po th) args s 1 6 (cq_free P0 false)) (F0 m 12 ls [.ref t0]) := by
  intro P t0 H locs cells slots ls h hP hS hl hcc hss
  obtain ⟨hx, hb, hml, hown, hlocks, htr, hT, hK, hSt, hN, hP0⟩ := id C
  unfold wb_La_dry_12 at h
  refine lv_astore_n (pc := 12) (lv' := [(3, .ref t0)]) hx hb d_La_dry_12 rfl hl (by decide) rfl (fun ls hl => ?_)
  refine lv_iconst (pc := 13) (v := 1) hx hb d_La_dry_13 (by decide) ?_
  exact we_i (pc := 14) hx hb hlocks hr hP hS (show cells + 0 ≤ 1 by omega) (show slots + 0 ≤ 6 by omega) h d_La_dry_14
set_option maxHeartbeats 4000000 in
set_option maxRecDepth 100000 in
theorem ct_La_dry {l : Launch} (hfl : l.flags = flags0) (D : pq_D) {po : Option Value → Pic → Prop} {th : String → Pic → Prop} {P : Pic} {a0 : Nat} {x1 : Int32} {a2 : Nat} (h : wp_La_dry po th P a0 x1 a2) : CT l D y_La_dry (.codeWith y_La_dry method_12_code 4 (some .int) [(0, 9, 12, 19)]) rm_La_dry false [.ref a0, .int x1, .ref a2] P po th := by
  refine ct_of (hs := [(0, 9, 12, 19)]) hfl (by decide +kernel) (Or.inr rfl) (Nat.le_of_ble_eq_true rfl) ?_
  intro p e s m below meth c C hmg hr hin htab ls hl
  have hl : lv_has ls 4 [(0, .ref a0), (1, .int x1), (2, .ref a2)] := hl
  generalize hargs : ([.ref a0, .int x1, .ref a2] : List Value).toArray = args at C ⊢
  obtain ⟨hx, hb, hml, hown, hlocks, htr, hT, hK, hSt, hN, hP0⟩ := id C
  have hP : Pi D P s.heap := hP0
  have hS : Sg (cq_A P s) s.heap s.heap P [] := Sg.start hP0
  unfold wp_La_dry at h
  refine lv_aload_n (pc := 0) hx hb d_La_dry_0 rfl (lv_at hl 2 rfl) ?_
  refine lv_iconst (pc := 1) (v := 0) hx hb d_La_dry_1 (by decide) ?_
  refine lv_aload_n (pc := 2) hx hb d_La_dry_2 rfl (lv_at hl 0 rfl) ?_
  refine lv_iload_n (pc := 3) hx hb d_La_dry_3 rfl (lv_at hl 1 rfl) ?_
  obtain ⟨hk101, h⟩ := h
  refine cc_i (pc := 4) C (rest := [.int (0 : Int32), .ref a2]) (mt_invV (As := [.int x1]) hx hb hown (hT _ k_851 _) (hT _ k_852 _) (hT _ k_853 _) (mt_Cd.code (hT _ k_854 #[])) h_Wa_dry (pq_recv hK hP hk101 rfl) n_Wa_dry rfl d_La_dry_4) (ct_Wa_dry hfl D h) k_854 k_1 ⟨Nat.le_of_ble_eq_true rfl, Nat.le_of_ble_eq_true rfl⟩ ⟨(show 0 + 1 ≤ 1 by omega), (show 0 + 6 ≤ 6 by omega)⟩ hl.1 d_La_dry_4 (Nat.le_of_ble_eq_true rfl) hP hS (fun x102 P103 H locs h hP hS => ?_) (fun xx X P103 H locs h hX hex hP hS => ?_)
  · refine lv_i2l (pc := 7) hx hb d_La_dry_7 rfl ?_
    obtain ⟨hk104, h⟩ := h
    obtain ⟨hi105, h⟩ := h
    refine pq_last (pc := 8) hx hb hK hP hS hk104 hi105 d_La_dry_8 (fun H locs hP hS => ?_)
    have hk104 : p_k (s_al P103 a2 (Int32.toNatClampNeg (0 : Int32)) (Int32.toInt64 x102)) a2 = 102 := by rw [pk_al]; exact hk104
    refine lv_goto (pc := 9) (tgt := 15) hx hb d_La_dry_9 (by decide) ?_
    refine lv_iconst (pc := 15) (v := 0) hx hb d_La_dry_15 (by decide) ?_
    exact we_i (pc := 16) hx hb hlocks hr hP hS (show 0 + 1 + 0 ≤ 1 by omega) (show 0 + 6 + 0 ≤ 6 by omega) h d_La_dry_16
  · by_cases hX0 : X = "java/lang/IndexOutOfBoundsException"
    · subst hX0
      simp only [String.reduceEq, if_true, if_false, reduceIte] at h
      refine cq_caught (hs := [(0, 9, 12, 19)]) (i := 0) (ys := ["java/lang/IndexOutOfBoundsException"]) C htab hX hex k_593 hmg (by decide) rfl (fun j hj => by match j, hj with | 0, _ => exact ⟨by decide, k_578, by decide, by decide, by decide⟩ | j + 1, hj => omega) (fun j hj => by match j, hj with  | j + 0, hj => omega) rfl ?_
      replace h := h xx
      exact wk_La_dry_12 hfl C hmg hr hin htab _ xx _ _ _ _ _ h hP hS (lv_sub hl [] rfl) (show 0 + 1 + 0 ≤ 1 by omega) (show 0 + 6 + 0 ≤ 6 by omega)
    exact absurd h (by simp [hX0])
/-! WaterWorksLaw.carryOut(LWaterWorks;I[J)I -/
abbrev y_La_carryOut : MethodName := ⟨"WaterWorksLaw", "carryOut", "(LWaterWorks;I[J)I"⟩
abbrev rm_La_carryOut : Room := { frames := 9, cells := 1, slots := 6, locals := 292 }
theorem h_La_carryOut : y_La_carryOut.cls ≠ "java/lang/invoke/MethodHandle" ∧ y_La_carryOut.cls ≠ "java/lang/invoke/VarHandle" := by decide +kernel
theorem n_La_carryOut : (parseMethodDescriptor y_La_carryOut.desc).map (fun d => d.parameters.length) = some 3 := by decide +kernel
theorem d_La_carryOut_0 : decode method_13_code 0 = .ok (.aload_n 2, 1) := by decide +kernel
theorem d_La_carryOut_1 : decode method_13_code 1 = .ok (.iconst 0, 1) := by decide +kernel
theorem d_La_carryOut_2 : decode method_13_code 2 = .ok (.aload_n 0, 1) := by decide +kernel
theorem d_La_carryOut_3 : decode method_13_code 3 = .ok (.iload_n 1, 1) := by decide +kernel
theorem d_La_carryOut_4 : decode method_13_code 4 = .ok (.invokevirtual 54, 3) := by decide +kernel
theorem d_La_carryOut_7 : decode method_13_code 7 = .ok (.i2l, 1) := by decide +kernel
theorem d_La_carryOut_8 : decode method_13_code 8 = .ok (.lastore, 1) := by decide +kernel
theorem d_La_carryOut_9 : decode method_13_code 9 = .ok (.goto 6, 3) := by decide +kernel
theorem d_La_carryOut_12 : decode method_13_code 12 = .ok (.astore_n 3, 1) := by decide +kernel
theorem d_La_carryOut_13 : decode method_13_code 13 = .ok (.iconst 1, 1) := by decide +kernel
theorem d_La_carryOut_14 : decode method_13_code 14 = .ok (.ireturn, 1) := by decide +kernel
theorem d_La_carryOut_15 : decode method_13_code 15 = .ok (.iconst 0, 1) := by decide +kernel
theorem d_La_carryOut_16 : decode method_13_code 16 = .ok (.ireturn, 1) := by decide +kernel
def wb_La_carryOut_12 (po : Option Value → Pic → Prop) (th : String → Pic → Prop) (P : Pic) (t0 : Nat) : Prop := po (some (.int (1 : Int32))) P
def wp_La_carryOut (po : Option Value → Pic → Prop) (th : String → Pic → Prop) (P : Pic) (a0 : Nat) (x1 : Int32) (a2 : Nat) : Prop := p_k P a0 = 1 ∧ wp_Wa_carryOut (cp_i fun x102 P103 => p_k P103 a2 = 102 ∧ vp_in (0 : Int32) (p_n P103 a2) ∧ po (some (.int (0 : Int32))) (s_al P103 a2 (Int32.toNatClampNeg (0 : Int32)) (Int32.toInt64 x102))) (fun X P103 => if X = "java/lang/IndexOutOfBoundsException" then (∀ (xx : Nat), wb_La_carryOut_12 po th P103 xx) else False) P a0 x1
set_option maxHeartbeats 4000000 in
set_option maxRecDepth 100000 in
theorem wk_La_carryOut_12 {p : Program} {l : Launch} {e : Env} {s : State} {m : MethodId} {args : Array Value} {below : List Frame} {meth : Method} {c : Code} {D : pq_D} {P0 : Pic} {po : Option Value → Pic → Prop} {th : String → Pic → Prop} (hfl : l.flags = flags0) (C : Cx p e s m args meth c method_13_code 4 "WaterWorksLaw" D P0) (hmg : e.platform.magicAccessors = ({} : Platform).magicAccessors) (hr : meth.sig.returnType = (some .int)) (hin : meth.name = "carryOut") (htab : c.exceptionTable.toList = tableOf [(0, 9, 12, 19)]) : ∀ (P : Pic) (t0 : Nat) (H : Heap) (locs : List Loc) (cells slots : Nat) (ls : Array Slot), wb_La_carryOut_12 po th P t0 → Pi D P H → Sg (cq_A P0 s) s.heap H P locs → lv_has ls 4 [] → cells + 0 ≤ 1 → slots + 0 ≤ 6 → W p l e rm_La_carryOut s m args below meth c H locs cells slots (mt_MQ below (cq_Q D P0 false po th) args s 1 6 (cq_free P0 false)) (F0 m 12 ls [.ref t0]) := by
  intro P t0 H locs cells slots ls h hP hS hl hcc hss
  obtain ⟨hx, hb, hml, hown, hlocks, htr, hT, hK, hSt, hN, hP0⟩ := id C
  unfold wb_La_carryOut_12 at h
  refine lv_astore_n (pc := 12) (lv' := [(3, .ref t0)]) hx hb d_La_carryOut_12 rfl hl (by decide) rfl (fun ls hl => ?_)
  refine lv_iconst (pc := 13) (v := 1) hx hb d_La_carryOut_13 (by decide) ?_
  exact we_i (pc := 14) hx hb hlocks hr hP hS (show cells + 0 ≤ 1 by omega) (show slots + 0 ≤ 6 by omega) h d_La_carryOut_14
set_option maxHeartbeats 4000000 in
set_option maxRecDepth 100000 in
theorem ct_La_carryOut {l : Launch} (hfl : l.flags = flags0) (D : pq_D) {po : Option Value → Pic → Prop} {th : String → Pic → Prop} {P : Pic} {a0 : Nat} {x1 : Int32} {a2 : Nat} (h : wp_La_carryOut po th P a0 x1 a2) : CT l D y_La_carryOut (.codeWith y_La_carryOut method_13_code 4 (some .int) [(0, 9, 12, 19)]) rm_La_carryOut false [.ref a0, .int x1, .ref a2] P po th := by
  refine ct_of (hs := [(0, 9, 12, 19)]) hfl (by decide +kernel) (Or.inr rfl) (Nat.le_of_ble_eq_true rfl) ?_
  intro p e s m below meth c C hmg hr hin htab ls hl
  have hl : lv_has ls 4 [(0, .ref a0), (1, .int x1), (2, .ref a2)] := hl
  generalize hargs : ([.ref a0, .int x1, .ref a2] : List Value).toArray = args at C ⊢
  obtain ⟨hx, hb, hml, hown, hlocks, htr, hT, hK, hSt, hN, hP0⟩ := id C
  have hP : Pi D P s.heap := hP0
  have hS : Sg (cq_A P s) s.heap s.heap P [] := Sg.start hP0
  unfold wp_La_carryOut at h
  refine lv_aload_n (pc := 0) hx hb d_La_carryOut_0 rfl (lv_at hl 2 rfl) ?_
  refine lv_iconst (pc := 1) (v := 0) hx hb d_La_carryOut_1 (by decide) ?_
  refine lv_aload_n (pc := 2) hx hb d_La_carryOut_2 rfl (lv_at hl 0 rfl) ?_
  refine lv_iload_n (pc := 3) hx hb d_La_carryOut_3 rfl (lv_at hl 1 rfl) ?_
  obtain ⟨hk101, h⟩ := h
  refine cc_i (pc := 4) C (rest := [.int (0 : Int32), .ref a2]) (mt_invV (As := [.int x1]) hx hb hown (hT _ k_862 _) (hT _ k_863 _) (hT _ k_864 _) (mt_Cd.code (hT _ k_865 #[])) h_Wa_carryOut (pq_recv hK hP hk101 rfl) n_Wa_carryOut rfl d_La_carryOut_4) (ct_Wa_carryOut hfl D h) k_865 k_1 ⟨Nat.le_of_ble_eq_true rfl, Nat.le_of_ble_eq_true rfl⟩ ⟨(show 0 + 1 ≤ 1 by omega), (show 0 + 6 ≤ 6 by omega)⟩ hl.1 d_La_carryOut_4 (Nat.le_of_ble_eq_true rfl) hP hS (fun x102 P103 H locs h hP hS => ?_) (fun xx X P103 H locs h hX hex hP hS => ?_)
  · refine lv_i2l (pc := 7) hx hb d_La_carryOut_7 rfl ?_
    obtain ⟨hk104, h⟩ := h
    obtain ⟨hi105, h⟩ := h
    refine pq_last (pc := 8) hx hb hK hP hS hk104 hi105 d_La_carryOut_8 (fun H locs hP hS => ?_)
    have hk104 : p_k (s_al P103 a2 (Int32.toNatClampNeg (0 : Int32)) (Int32.toInt64 x102)) a2 = 102 := by rw [pk_al]; exact hk104
    refine lv_goto (pc := 9) (tgt := 15) hx hb d_La_carryOut_9 (by decide) ?_
    refine lv_iconst (pc := 15) (v := 0) hx hb d_La_carryOut_15 (by decide) ?_
    exact we_i (pc := 16) hx hb hlocks hr hP hS (show 0 + 1 + 0 ≤ 1 by omega) (show 0 + 6 + 0 ≤ 6 by omega) h d_La_carryOut_16
  · by_cases hX0 : X = "java/lang/IndexOutOfBoundsException"
    · subst hX0
      simp only [String.reduceEq, if_true, if_false, reduceIte] at h
      refine cq_caught (hs := [(0, 9, 12, 19)]) (i := 0) (ys := ["java/lang/IndexOutOfBoundsException"]) C htab hX hex k_593 hmg (by decide) rfl (fun j hj => by match j, hj with | 0, _ => exact ⟨by decide, k_578, by decide, by decide, by decide⟩ | j + 1, hj => omega) (fun j hj => by match j, hj with  | j + 0, hj => omega) rfl ?_
      replace h := h xx
      exact wk_La_carryOut_12 hfl C hmg hr hin htab _ xx _ _ _ _ _ h hP hS (lv_sub hl [] rfl) (show 0 + 1 + 0 ≤ 1 by omega) (show 0 + 6 + 0 ≤ 6 by omega)
    exact absurd h (by simp [hX0])
/-! WaterWorksLaw.pass(LWaterWorks;I[J)I -/
abbrev y_La_pass : MethodName := ⟨"WaterWorksLaw", "pass", "(LWaterWorks;I[J)I"⟩
abbrev rm_La_pass : Room := { frames := 8, cells := 1, slots := 6, locals := 161 }
theorem h_La_pass : y_La_pass.cls ≠ "java/lang/invoke/MethodHandle" ∧ y_La_pass.cls ≠ "java/lang/invoke/VarHandle" := by decide +kernel
theorem n_La_pass : (parseMethodDescriptor y_La_pass.desc).map (fun d => d.parameters.length) = some 3 := by decide +kernel
theorem d_La_pass_0 : decode method_14_code 0 = .ok (.aload_n 2, 1) := by decide +kernel
theorem d_La_pass_1 : decode method_14_code 1 = .ok (.iconst 0, 1) := by decide +kernel
theorem d_La_pass_2 : decode method_14_code 2 = .ok (.aload_n 0, 1) := by decide +kernel
theorem d_La_pass_3 : decode method_14_code 3 = .ok (.iload_n 1, 1) := by decide +kernel
theorem d_La_pass_4 : decode method_14_code 4 = .ok (.invokevirtual 57, 3) := by decide +kernel
theorem d_La_pass_7 : decode method_14_code 7 = .ok (.i2l, 1) := by decide +kernel
theorem d_La_pass_8 : decode method_14_code 8 = .ok (.lastore, 1) := by decide +kernel
theorem d_La_pass_9 : decode method_14_code 9 = .ok (.goto 6, 3) := by decide +kernel
theorem d_La_pass_12 : decode method_14_code 12 = .ok (.astore_n 3, 1) := by decide +kernel
theorem d_La_pass_13 : decode method_14_code 13 = .ok (.iconst 1, 1) := by decide +kernel
theorem d_La_pass_14 : decode method_14_code 14 = .ok (.ireturn, 1) := by decide +kernel
theorem d_La_pass_15 : decode method_14_code 15 = .ok (.iconst 0, 1) := by decide +kernel
theorem d_La_pass_16 : decode method_14_code 16 = .ok (.ireturn, 1) := by decide +kernel
def wb_La_pass_12 (po : Option Value → Pic → Prop) (th : String → Pic → Prop) (P : Pic) (t0 : Nat) : Prop := po (some (.int (1 : Int32))) P
def wp_La_pass (po : Option Value → Pic → Prop) (th : String → Pic → Prop) (P : Pic) (a0 : Nat) (x1 : Int32) (a2 : Nat) : Prop := p_k P a0 = 1 ∧ wp_Wa_pass (cp_i fun x102 P103 => p_k P103 a2 = 102 ∧ vp_in (0 : Int32) (p_n P103 a2) ∧ po (some (.int (0 : Int32))) (s_al P103 a2 (Int32.toNatClampNeg (0 : Int32)) (Int32.toInt64 x102))) (fun X P103 => if X = "java/lang/IllegalArgumentException" then (∀ (xx : Nat), wb_La_pass_12 po th P103 xx) else False) P a0 x1
set_option maxHeartbeats 4000000 in
set_option maxRecDepth 100000 in
theorem wk_La_pass_12 {p : Program} {l : Launch} {e : Env} {s : State} {m : MethodId} {args : Array Value} {below : List Frame} {meth : Method} {c : Code} {D : pq_D} {P0 : Pic} {po : Option Value → Pic → Prop} {th : String → Pic → Prop} (hfl : l.flags = flags0) (C : Cx p e s m args meth c method_14_code 4 "WaterWorksLaw" D P0) (hmg : e.platform.magicAccessors = ({} : Platform).magicAccessors) (hr : meth.sig.returnType = (some .int)) (hin : meth.name = "pass") (htab : c.exceptionTable.toList = tableOf [(0, 9, 12, 21)]) : ∀ (P : Pic) (t0 : Nat) (H : Heap) (locs : List Loc) (cells slots : Nat) (ls : Array Slot), wb_La_pass_12 po th P t0 → Pi D P H → Sg (cq_A P0 s) s.heap H P locs → lv_has ls 4 [] → cells + 0 ≤ 1 → slots + 0 ≤ 6 → W p l e rm_La_pass s m args below meth c H locs cells slots (mt_MQ below (cq_Q D P0 false po th) args s 1 6 (cq_free P0 false)) (F0 m 12 ls [.ref t0]) := by
  intro P t0 H locs cells slots ls h hP hS hl hcc hss
  obtain ⟨hx, hb, hml, hown, hlocks, htr, hT, hK, hSt, hN, hP0⟩ := id C
  unfold wb_La_pass_12 at h
  refine lv_astore_n (pc := 12) (lv' := [(3, .ref t0)]) hx hb d_La_pass_12 rfl hl (by decide) rfl (fun ls hl => ?_)
  refine lv_iconst (pc := 13) (v := 1) hx hb d_La_pass_13 (by decide) ?_
  exact we_i (pc := 14) hx hb hlocks hr hP hS (show cells + 0 ≤ 1 by omega) (show slots + 0 ≤ 6 by omega) h d_La_pass_14
set_option maxHeartbeats 4000000 in
set_option maxRecDepth 100000 in
theorem ct_La_pass {l : Launch} (hfl : l.flags = flags0) (D : pq_D) {po : Option Value → Pic → Prop} {th : String → Pic → Prop} {P : Pic} {a0 : Nat} {x1 : Int32} {a2 : Nat} (h : wp_La_pass po th P a0 x1 a2) : CT l D y_La_pass (.codeWith y_La_pass method_14_code 4 (some .int) [(0, 9, 12, 21)]) rm_La_pass false [.ref a0, .int x1, .ref a2] P po th := by
  refine ct_of (hs := [(0, 9, 12, 21)]) hfl (by decide +kernel) (Or.inr rfl) (Nat.le_of_ble_eq_true rfl) ?_
  intro p e s m below meth c C hmg hr hin htab ls hl
  have hl : lv_has ls 4 [(0, .ref a0), (1, .int x1), (2, .ref a2)] := hl
  generalize hargs : ([.ref a0, .int x1, .ref a2] : List Value).toArray = args at C ⊢
  obtain ⟨hx, hb, hml, hown, hlocks, htr, hT, hK, hSt, hN, hP0⟩ := id C
  have hP : Pi D P s.heap := hP0
  have hS : Sg (cq_A P s) s.heap s.heap P [] := Sg.start hP0
  unfold wp_La_pass at h
  refine lv_aload_n (pc := 0) hx hb d_La_pass_0 rfl (lv_at hl 2 rfl) ?_
  refine lv_iconst (pc := 1) (v := 0) hx hb d_La_pass_1 (by decide) ?_
  refine lv_aload_n (pc := 2) hx hb d_La_pass_2 rfl (lv_at hl 0 rfl) ?_
  refine lv_iload_n (pc := 3) hx hb d_La_pass_3 rfl (lv_at hl 1 rfl) ?_
  obtain ⟨hk101, h⟩ := h
  refine cc_i (pc := 4) C (rest := [.int (0 : Int32), .ref a2]) (mt_invV (As := [.int x1]) hx hb hown (hT _ k_869 _) (hT _ k_870 _) (hT _ k_871 _) (mt_Cd.code (hT _ k_872 #[])) h_Wa_pass (pq_recv hK hP hk101 rfl) n_Wa_pass rfl d_La_pass_4) (ct_Wa_pass hfl D h) k_872 k_1 ⟨Nat.le_of_ble_eq_true rfl, Nat.le_of_ble_eq_true rfl⟩ ⟨(show 0 + 1 ≤ 1 by omega), (show 0 + 6 ≤ 6 by omega)⟩ hl.1 d_La_pass_4 (Nat.le_of_ble_eq_true rfl) hP hS (fun x102 P103 H locs h hP hS => ?_) (fun xx X P103 H locs h hX hex hP hS => ?_)
  · refine lv_i2l (pc := 7) hx hb d_La_pass_7 rfl ?_
    obtain ⟨hk104, h⟩ := h
    obtain ⟨hi105, h⟩ := h
    refine pq_last (pc := 8) hx hb hK hP hS hk104 hi105 d_La_pass_8 (fun H locs hP hS => ?_)
    have hk104 : p_k (s_al P103 a2 (Int32.toNatClampNeg (0 : Int32)) (Int32.toInt64 x102)) a2 = 102 := by rw [pk_al]; exact hk104
    refine lv_goto (pc := 9) (tgt := 15) hx hb d_La_pass_9 (by decide) ?_
    refine lv_iconst (pc := 15) (v := 0) hx hb d_La_pass_15 (by decide) ?_
    exact we_i (pc := 16) hx hb hlocks hr hP hS (show 0 + 1 + 0 ≤ 1 by omega) (show 0 + 6 + 0 ≤ 6 by omega) h d_La_pass_16
  · by_cases hX0 : X = "java/lang/IllegalArgumentException"
    · subst hX0
      simp only [String.reduceEq, if_true, if_false, reduceIte] at h
      refine cq_caught (hs := [(0, 9, 12, 21)]) (i := 0) (ys := ["java/lang/IllegalArgumentException"]) C htab hX hex k_69 hmg (by decide) rfl (fun j hj => by match j, hj with | 0, _ => exact ⟨by decide, k_579, by decide, by decide, by decide⟩ | j + 1, hj => omega) (fun j hj => by match j, hj with  | j + 0, hj => omega) rfl ?_
      replace h := h xx
      exact wk_La_pass_12 hfl C hmg hr hin htab _ xx _ _ _ _ _ h hP hS (lv_sub hl [] rfl) (show 0 + 1 + 0 ≤ 1 by omega) (show 0 + 6 + 0 ≤ 6 by omega)
    exact absurd h (by simp [hX0])
/-! WaterWorksLaw.install(LWaterWorks;III[J)I -/
abbrev y_La_install : MethodName := ⟨"WaterWorksLaw", "install", "(LWaterWorks;III[J)I"⟩
abbrev rm_La_install : Room := { frames := 9, cells := 5, slots := 86, locals := 217 }
theorem h_La_install : y_La_install.cls ≠ "java/lang/invoke/MethodHandle" ∧ y_La_install.cls ≠ "java/lang/invoke/VarHandle" := by decide +kernel
theorem n_La_install : (parseMethodDescriptor y_La_install.desc).map (fun d => d.parameters.length) = some 5 := by decide +kernel
theorem d_La_install_0 : decode method_15_code 0 = .ok (.aload 4, 2) := by decide +kernel
theorem d_La_install_2 : decode method_15_code 2 = .ok (.iconst 0, 1) := by decide +kernel
theorem d_La_install_3 : decode method_15_code 3 = .ok (.aload_n 0, 1) := by decide +kernel
theorem d_La_install_4 : decode method_15_code 4 = .ok (.iload_n 1, 1) := by decide +kernel
theorem d_La_install_5 : decode method_15_code 5 = .ok (.iload_n 2, 1) := by decide +kernel
theorem d_La_install_6 : decode method_15_code 6 = .ok (.iload_n 3, 1) := by decide +kernel
theorem d_La_install_7 : decode method_15_code 7 = .ok (.invokevirtual 60, 3) := by decide +kernel
theorem d_La_install_10 : decode method_15_code 10 = .ok (.i2l, 1) := by decide +kernel
theorem d_La_install_11 : decode method_15_code 11 = .ok (.lastore, 1) := by decide +kernel
theorem d_La_install_12 : decode method_15_code 12 = .ok (.goto 15, 3) := by decide +kernel
theorem d_La_install_15 : decode method_15_code 15 = .ok (.astore 5, 2) := by decide +kernel
theorem d_La_install_17 : decode method_15_code 17 = .ok (.iconst 1, 1) := by decide +kernel
theorem d_La_install_18 : decode method_15_code 18 = .ok (.ireturn, 1) := by decide +kernel
theorem d_La_install_19 : decode method_15_code 19 = .ok (.astore 5, 2) := by decide +kernel
theorem d_La_install_21 : decode method_15_code 21 = .ok (.iconst 2, 1) := by decide +kernel
theorem d_La_install_22 : decode method_15_code 22 = .ok (.ireturn, 1) := by decide +kernel
theorem d_La_install_23 : decode method_15_code 23 = .ok (.astore 5, 2) := by decide +kernel
theorem d_La_install_25 : decode method_15_code 25 = .ok (.iconst 3, 1) := by decide +kernel
theorem d_La_install_26 : decode method_15_code 26 = .ok (.ireturn, 1) := by decide +kernel
theorem d_La_install_27 : decode method_15_code 27 = .ok (.iconst 0, 1) := by decide +kernel
theorem d_La_install_28 : decode method_15_code 28 = .ok (.ireturn, 1) := by decide +kernel
def wb_La_install_15 (po : Option Value → Pic → Prop) (th : String → Pic → Prop) (P : Pic) (t0 : Nat) : Prop := po (some (.int (1 : Int32))) P
def wb_La_install_19 (po : Option Value → Pic → Prop) (th : String → Pic → Prop) (P : Pic) (t0 : Nat) : Prop := po (some (.int (2 : Int32))) P
def wb_La_install_23 (po : Option Value → Pic → Prop) (th : String → Pic → Prop) (P : Pic) (t0 : Nat) : Prop := po (some (.int (3 : Int32))) P
def wp_La_install (po : Option Value → Pic → Prop) (th : String → Pic → Prop) (P : Pic) (a0 : Nat) (x1 : Int32) (x2 : Int32) (x3 : Int32) (a4 : Nat) : Prop := p_k P a0 = 1 ∧ wp_Wa_install (cp_i fun x102 P103 => p_k P103 a4 = 102 ∧ vp_in (0 : Int32) (p_n P103 a4) ∧ po (some (.int (0 : Int32))) (s_al P103 a4 (Int32.toNatClampNeg (0 : Int32)) (Int32.toInt64 x102))) (fun X P103 => if X = "java/lang/IndexOutOfBoundsException" then (∀ (xx : Nat), wb_La_install_15 po th P103 xx) else if X = "java/lang/IllegalArgumentException" then (∀ (xx : Nat), wb_La_install_19 po th P103 xx) else if X = "java/lang/IllegalStateException" then (∀ (xx : Nat), wb_La_install_23 po th P103 xx) else False) P a0 x1 x2 x3
set_option maxHeartbeats 4000000 in
set_option maxRecDepth 100000 in
theorem wk_La_install_15 {p : Program} {l : Launch} {e : Env} {s : State} {m : MethodId} {args : Array Value} {below : List Frame} {meth : Method} {c : Code} {D : pq_D} {P0 : Pic} {po : Option Value → Pic → Prop} {th : String → Pic → Prop} (hfl : l.flags = flags0) (C : Cx p e s m args meth c method_15_code 6 "WaterWorksLaw" D P0) (hmg : e.platform.magicAccessors = ({} : Platform).magicAccessors) (hr : meth.sig.returnType = (some .int)) (hin : meth.name = "install") (htab : c.exceptionTable.toList = tableOf [(0, 12, 15, 19), (0, 12, 19, 21), (0, 12, 23, 13)]) : ∀ (P : Pic) (t0 : Nat) (H : Heap) (locs : List Loc) (cells slots : Nat) (ls : Array Slot), wb_La_install_15 po th P t0 → Pi D P H → Sg (cq_A P0 s) s.heap H P locs → lv_has ls 6 [] → cells + 0 ≤ 5 → slots + 0 ≤ 86 → W p l e rm_La_install s m args below meth c H locs cells slots (mt_MQ below (cq_Q D P0 false po th) args s 5 86 (cq_free P0 false)) (F0 m 15 ls [.ref t0]) := by
  intro P t0 H locs cells slots ls h hP hS hl hcc hss
  obtain ⟨hx, hb, hml, hown, hlocks, htr, hT, hK, hSt, hN, hP0⟩ := id C
  unfold wb_La_install_15 at h
  refine lv_astore (pc := 15) (lv' := [(5, .ref t0)]) hx hb d_La_install_15 hl (by decide) rfl (fun ls hl => ?_)
  refine lv_iconst (pc := 17) (v := 1) hx hb d_La_install_17 (by decide) ?_
  exact we_i (pc := 18) hx hb hlocks hr hP hS (show cells + 0 ≤ 5 by omega) (show slots + 0 ≤ 86 by omega) h d_La_install_18
set_option maxHeartbeats 4000000 in
set_option maxRecDepth 100000 in
theorem wk_La_install_19 {p : Program} {l : Launch} {e : Env} {s : State} {m : MethodId} {args : Array Value} {below : List Frame} {meth : Method} {c : Code} {D : pq_D} {P0 : Pic} {po : Option Value → Pic → Prop} {th : String → Pic → Prop} (hfl : l.flags = flags0) (C : Cx p e s m args meth c method_15_code 6 "WaterWorksLaw" D P0) (hmg : e.platform.magicAccessors = ({} : Platform).magicAccessors) (hr : meth.sig.returnType = (some .int)) (hin : meth.name = "install") (htab : c.exceptionTable.toList = tableOf [(0, 12, 15, 19), (0, 12, 19, 21), (0, 12, 23, 13)]) : ∀ (P : Pic) (t0 : Nat) (H : Heap) (locs : List Loc) (cells slots : Nat) (ls : Array Slot), wb_La_install_19 po th P t0 → Pi D P H → Sg (cq_A P0 s) s.heap H P locs → lv_has ls 6 [] → cells + 0 ≤ 5 → slots + 0 ≤ 86 → W p l e rm_La_install s m args below meth c H locs cells slots (mt_MQ below (cq_Q D P0 false po th) args s 5 86 (cq_free P0 false)) (F0 m 19 ls [.ref t0]) := by
  intro P t0 H locs cells slots ls h hP hS hl hcc hss
  obtain ⟨hx, hb, hml, hown, hlocks, htr, hT, hK, hSt, hN, hP0⟩ := id C
  unfold wb_La_install_19 at h
  refine lv_astore (pc := 19) (lv' := [(5, .ref t0)]) hx hb d_La_install_19 hl (by decide) rfl (fun ls hl => ?_)
  refine lv_iconst (pc := 21) (v := 2) hx hb d_La_install_21 (by decide) ?_
  exact we_i (pc := 22) hx hb hlocks hr hP hS (show cells + 0 ≤ 5 by omega) (show slots + 0 ≤ 86 by omega) h d_La_install_22
set_option maxHeartbeats 4000000 in
set_option maxRecDepth 100000 in
theorem wk_La_install_23 {p : Program} {l : Launch} {e : Env} {s : State} {m : MethodId} {args : Array Value} {below : List Frame} {meth : Method} {c : Code} {D : pq_D} {P0 : Pic} {po : Option Value → Pic → Prop} {th : String → Pic → Prop} (hfl : l.flags = flags0) (C : Cx p e s m args meth c method_15_code 6 "WaterWorksLaw" D P0) (hmg : e.platform.magicAccessors = ({} : Platform).magicAccessors) (hr : meth.sig.returnType = (some .int)) (hin : meth.name = "install") (htab : c.exceptionTable.toList = tableOf [(0, 12, 15, 19), (0, 12, 19, 21), (0, 12, 23, 13)]) : ∀ (P : Pic) (t0 : Nat) (H : Heap) (locs : List Loc) (cells slots : Nat) (ls : Array Slot), wb_La_install_23 po th P t0 → Pi D P H → Sg (cq_A P0 s) s.heap H P locs → lv_has ls 6 [] → cells + 0 ≤ 5 → slots + 0 ≤ 86 → W p l e rm_La_install s m args below meth c H locs cells slots (mt_MQ below (cq_Q D P0 false po th) args s 5 86 (cq_free P0 false)) (F0 m 23 ls [.ref t0]) := by
  intro P t0 H locs cells slots ls h hP hS hl hcc hss
  obtain ⟨hx, hb, hml, hown, hlocks, htr, hT, hK, hSt, hN, hP0⟩ := id C
  unfold wb_La_install_23 at h
  refine lv_astore (pc := 23) (lv' := [(5, .ref t0)]) hx hb d_La_install_23 hl (by decide) rfl (fun ls hl => ?_)
  refine lv_iconst (pc := 25) (v := 3) hx hb d_La_install_25 (by decide) ?_
  exact we_i (pc := 26) hx hb hlocks hr hP hS (show cells + 0 ≤ 5 by omega) (show slots + 0 ≤ 86 by omega) h d_La_install_26
set_option maxHeartbeats 4000000 in
set_option maxRecDepth 100000 in
theorem ct_La_install {l : Launch} (hfl : l.flags = flags0) (D : pq_D) {po : Option Value → Pic → Prop} {th : String → Pic → Prop} {P : Pic} {a0 : Nat} {x1 : Int32} {x2 : Int32} {x3 : Int32} {a4 : Nat} (h : wp_La_install po th P a0 x1 x2 x3 a4) : CT l D y_La_install (.codeWith y_La_install method_15_code 6 (some .int) [(0, 12, 15, 19), (0, 12, 19, 21), (0, 12, 23, 13)]) rm_La_install false [.ref a0, .int x1, .int x2, .int x3, .ref a4] P po th := by
  refine ct_of (hs := [(0, 12, 15, 19), (0, 12, 19, 21), (0, 12, 23, 13)]) hfl (by decide +kernel) (Or.inr rfl) (Nat.le_of_ble_eq_true rfl) ?_
  intro p e s m below meth c C hmg hr hin htab ls hl
  have hl : lv_has ls 6 [(0, .ref a0), (1, .int x1), (2, .int x2), (3, .int x3), (4, .ref a4)] := hl
  generalize hargs : ([.ref a0, .int x1, .int x2, .int x3, .ref a4] : List Value).toArray = args at C ⊢
  obtain ⟨hx, hb, hml, hown, hlocks, htr, hT, hK, hSt, hN, hP0⟩ := id C
  have hP : Pi D P s.heap := hP0
  have hS : Sg (cq_A P s) s.heap s.heap P [] := Sg.start hP0
  unfold wp_La_install at h
  refine lv_aload (pc := 0) hx hb d_La_install_0 (lv_at hl 4 rfl) ?_
  refine lv_iconst (pc := 2) (v := 0) hx hb d_La_install_2 (by decide) ?_
  refine lv_aload_n (pc := 3) hx hb d_La_install_3 rfl (lv_at hl 0 rfl) ?_
  refine lv_iload_n (pc := 4) hx hb d_La_install_4 rfl (lv_at hl 1 rfl) ?_
  refine lv_iload_n (pc := 5) hx hb d_La_install_5 rfl (lv_at hl 2 rfl) ?_
  refine lv_iload_n (pc := 6) hx hb d_La_install_6 rfl (lv_at hl 3 rfl) ?_
  obtain ⟨hk101, h⟩ := h
  refine cc_i (pc := 7) C (rest := [.int (0 : Int32), .ref a4]) (mt_invV (As := [.int x1, .int x2, .int x3]) hx hb hown (hT _ k_876 _) (hT _ k_877 _) (hT _ k_878 _) (mt_Cd.code (hT _ k_879 #[])) h_Wa_install (pq_recv hK hP hk101 rfl) n_Wa_install rfl d_La_install_7) (ct_Wa_install hfl D h) k_879 k_1 ⟨Nat.le_of_ble_eq_true rfl, Nat.le_of_ble_eq_true rfl⟩ ⟨(show 0 + 5 ≤ 5 by omega), (show 0 + 86 ≤ 86 by omega)⟩ hl.1 d_La_install_7 (Nat.le_of_ble_eq_true rfl) hP hS (fun x102 P103 H locs h hP hS => ?_) (fun xx X P103 H locs h hX hex hP hS => ?_)
  · refine lv_i2l (pc := 10) hx hb d_La_install_10 rfl ?_
    obtain ⟨hk104, h⟩ := h
    obtain ⟨hi105, h⟩ := h
    refine pq_last (pc := 11) hx hb hK hP hS hk104 hi105 d_La_install_11 (fun H locs hP hS => ?_)
    have hk104 : p_k (s_al P103 a4 (Int32.toNatClampNeg (0 : Int32)) (Int32.toInt64 x102)) a4 = 102 := by rw [pk_al]; exact hk104
    refine lv_goto (pc := 12) (tgt := 27) hx hb d_La_install_12 (by decide) ?_
    refine lv_iconst (pc := 27) (v := 0) hx hb d_La_install_27 (by decide) ?_
    exact we_i (pc := 28) hx hb hlocks hr hP hS (show 0 + 5 + 0 ≤ 5 by omega) (show 0 + 86 + 0 ≤ 86 by omega) h d_La_install_28
  · by_cases hX0 : X = "java/lang/IndexOutOfBoundsException"
    · subst hX0
      simp only [String.reduceEq, if_true, if_false, reduceIte] at h
      refine cq_caught (hs := [(0, 12, 15, 19), (0, 12, 19, 21), (0, 12, 23, 13)]) (i := 0) (ys := ["java/lang/IndexOutOfBoundsException", "java/lang/IllegalArgumentException", "java/lang/IllegalStateException"]) C htab hX hex k_593 hmg (by decide) rfl (fun j hj => by match j, hj with | 0, _ => exact ⟨by decide, k_578, by decide, by decide, by decide⟩ | j + 1, hj => omega) (fun j hj => by match j, hj with  | j + 0, hj => omega) rfl ?_
      replace h := h xx
      exact wk_La_install_15 hfl C hmg hr hin htab _ xx _ _ _ _ _ h hP hS (lv_sub hl [] rfl) (show 0 + 5 + 0 ≤ 5 by omega) (show 0 + 86 + 0 ≤ 86 by omega)
    by_cases hX1 : X = "java/lang/IllegalArgumentException"
    · subst hX1
      simp only [String.reduceEq, if_true, if_false, reduceIte] at h
      refine cq_caught (hs := [(0, 12, 15, 19), (0, 12, 19, 21), (0, 12, 23, 13)]) (i := 1) (ys := ["java/lang/IndexOutOfBoundsException", "java/lang/IllegalArgumentException", "java/lang/IllegalStateException"]) C htab hX hex k_69 hmg (by decide) rfl (fun j hj => by match j, hj with | 0, _ => exact ⟨by decide, k_578, by decide, by decide, by decide⟩ | 1, _ => exact ⟨by decide, k_579, by decide, by decide, by decide⟩ | j + 2, hj => omega) (fun j hj => by match j, hj with | 0, _ => decide | j + 1, hj => omega) rfl ?_
      replace h := h xx
      exact wk_La_install_19 hfl C hmg hr hin htab _ xx _ _ _ _ _ h hP hS (lv_sub hl [] rfl) (show 0 + 5 + 0 ≤ 5 by omega) (show 0 + 86 + 0 ≤ 86 by omega)
    by_cases hX2 : X = "java/lang/IllegalStateException"
    · subst hX2
      simp only [String.reduceEq, if_true, if_false, reduceIte] at h
      refine cq_caught (hs := [(0, 12, 15, 19), (0, 12, 19, 21), (0, 12, 23, 13)]) (i := 2) (ys := ["java/lang/IndexOutOfBoundsException", "java/lang/IllegalArgumentException", "java/lang/IllegalStateException"]) C htab hX hex k_480 hmg (by decide) rfl (fun j hj => by match j, hj with | 0, _ => exact ⟨by decide, k_578, by decide, by decide, by decide⟩ | 1, _ => exact ⟨by decide, k_579, by decide, by decide, by decide⟩ | 2, _ => exact ⟨by decide, k_466, by decide, by decide, by decide⟩ | j + 3, hj => omega) (fun j hj => by match j, hj with | 0, _ => decide | 1, _ => decide | j + 2, hj => omega) rfl ?_
      replace h := h xx
      exact wk_La_install_23 hfl C hmg hr hin htab _ xx _ _ _ _ _ h hP hS (lv_sub hl [] rfl) (show 0 + 5 + 0 ≤ 5 by omega) (show 0 + 86 + 0 ≤ 86 by omega)
    exact absurd h (by simp [hX0, hX1, hX2])
/-! WaterWorksLaw.read(LWaterWorks;II[J)I -/
abbrev y_La_read : MethodName := ⟨"WaterWorksLaw", "read", "(LWaterWorks;II[J)I"⟩
abbrev rm_La_read : Room := { frames := 9, cells := 5, slots := 86, locals := 216 }
theorem h_La_read : y_La_read.cls ≠ "java/lang/invoke/MethodHandle" ∧ y_La_read.cls ≠ "java/lang/invoke/VarHandle" := by decide +kernel
theorem n_La_read : (parseMethodDescriptor y_La_read.desc).map (fun d => d.parameters.length) = some 4 := by decide +kernel
theorem d_La_read_0 : decode method_16_code 0 = .ok (.aload_n 3, 1) := by decide +kernel
theorem d_La_read_1 : decode method_16_code 1 = .ok (.iconst 0, 1) := by decide +kernel
theorem d_La_read_2 : decode method_16_code 2 = .ok (.aload_n 0, 1) := by decide +kernel
theorem d_La_read_3 : decode method_16_code 3 = .ok (.iload_n 1, 1) := by decide +kernel
theorem d_La_read_4 : decode method_16_code 4 = .ok (.iload_n 2, 1) := by decide +kernel
theorem d_La_read_5 : decode method_16_code 5 = .ok (.invokevirtual 63, 3) := by decide +kernel
theorem d_La_read_8 : decode method_16_code 8 = .ok (.i2l, 1) := by decide +kernel
theorem d_La_read_9 : decode method_16_code 9 = .ok (.lastore, 1) := by decide +kernel
theorem d_La_read_10 : decode method_16_code 10 = .ok (.goto 15, 3) := by decide +kernel
theorem d_La_read_13 : decode method_16_code 13 = .ok (.astore 4, 2) := by decide +kernel
theorem d_La_read_15 : decode method_16_code 15 = .ok (.iconst 1, 1) := by decide +kernel
theorem d_La_read_16 : decode method_16_code 16 = .ok (.ireturn, 1) := by decide +kernel
theorem d_La_read_17 : decode method_16_code 17 = .ok (.astore 4, 2) := by decide +kernel
theorem d_La_read_19 : decode method_16_code 19 = .ok (.iconst 2, 1) := by decide +kernel
theorem d_La_read_20 : decode method_16_code 20 = .ok (.ireturn, 1) := by decide +kernel
theorem d_La_read_21 : decode method_16_code 21 = .ok (.astore 4, 2) := by decide +kernel
theorem d_La_read_23 : decode method_16_code 23 = .ok (.iconst 3, 1) := by decide +kernel
theorem d_La_read_24 : decode method_16_code 24 = .ok (.ireturn, 1) := by decide +kernel
theorem d_La_read_25 : decode method_16_code 25 = .ok (.iconst 0, 1) := by decide +kernel
theorem d_La_read_26 : decode method_16_code 26 = .ok (.ireturn, 1) := by decide +kernel
def wb_La_read_13 (po : Option Value → Pic → Prop) (th : String → Pic → Prop) (P : Pic) (t0 : Nat) : Prop := po (some (.int (1 : Int32))) P
def wb_La_read_17 (po : Option Value → Pic → Prop) (th : String → Pic → Prop) (P : Pic) (t0 : Nat) : Prop := po (some (.int (2 : Int32))) P
def wb_La_read_21 (po : Option Value → Pic → Prop) (th : String → Pic → Prop) (P : Pic) (t0 : Nat) : Prop := po (some (.int (3 : Int32))) P
def wp_La_read (po : Option Value → Pic → Prop) (th : String → Pic → Prop) (P : Pic) (a0 : Nat) (x1 : Int32) (x2 : Int32) (a3 : Nat) : Prop := p_k P a0 = 1 ∧ wp_Wa_read (cp_i fun x102 P103 => p_k P103 a3 = 102 ∧ vp_in (0 : Int32) (p_n P103 a3) ∧ po (some (.int (0 : Int32))) (s_al P103 a3 (Int32.toNatClampNeg (0 : Int32)) (Int32.toInt64 x102))) (fun X P103 => if X = "java/lang/IndexOutOfBoundsException" then (∀ (xx : Nat), wb_La_read_13 po th P103 xx) else if X = "java/lang/IllegalStateException" then (∀ (xx : Nat), wb_La_read_17 po th P103 xx) else if X = "java/lang/IllegalArgumentException" then (∀ (xx : Nat), wb_La_read_21 po th P103 xx) else False) P a0 x1 x2
set_option maxHeartbeats 4000000 in
set_option maxRecDepth 100000 in
theorem wk_La_read_13 {p : Program} {l : Launch} {e : Env} {s : State} {m : MethodId} {args : Array Value} {below : List Frame} {meth : Method} {c : Code} {D : pq_D} {P0 : Pic} {po : Option Value → Pic → Prop} {th : String → Pic → Prop} (hfl : l.flags = flags0) (C : Cx p e s m args meth c method_16_code 5 "WaterWorksLaw" D P0) (hmg : e.platform.magicAccessors = ({} : Platform).magicAccessors) (hr : meth.sig.returnType = (some .int)) (hin : meth.name = "read") (htab : c.exceptionTable.toList = tableOf [(0, 10, 13, 19), (0, 10, 17, 13), (0, 10, 21, 21)]) : ∀ (P : Pic) (t0 : Nat) (H : Heap) (locs : List Loc) (cells slots : Nat) (ls : Array Slot), wb_La_read_13 po th P t0 → Pi D P H → Sg (cq_A P0 s) s.heap H P locs → lv_has ls 5 [] → cells + 0 ≤ 5 → slots + 0 ≤ 86 → W p l e rm_La_read s m args below meth c H locs cells slots (mt_MQ below (cq_Q D P0 false po th) args s 5 86 (cq_free P0 false)) (F0 m 13 ls [.ref t0]) := by
  intro P t0 H locs cells slots ls h hP hS hl hcc hss
  obtain ⟨hx, hb, hml, hown, hlocks, htr, hT, hK, hSt, hN, hP0⟩ := id C
  unfold wb_La_read_13 at h
  refine lv_astore (pc := 13) (lv' := [(4, .ref t0)]) hx hb d_La_read_13 hl (by decide) rfl (fun ls hl => ?_)
  refine lv_iconst (pc := 15) (v := 1) hx hb d_La_read_15 (by decide) ?_
  exact we_i (pc := 16) hx hb hlocks hr hP hS (show cells + 0 ≤ 5 by omega) (show slots + 0 ≤ 86 by omega) h d_La_read_16
set_option maxHeartbeats 4000000 in
set_option maxRecDepth 100000 in
theorem wk_La_read_17 {p : Program} {l : Launch} {e : Env} {s : State} {m : MethodId} {args : Array Value} {below : List Frame} {meth : Method} {c : Code} {D : pq_D} {P0 : Pic} {po : Option Value → Pic → Prop} {th : String → Pic → Prop} (hfl : l.flags = flags0) (C : Cx p e s m args meth c method_16_code 5 "WaterWorksLaw" D P0) (hmg : e.platform.magicAccessors = ({} : Platform).magicAccessors) (hr : meth.sig.returnType = (some .int)) (hin : meth.name = "read") (htab : c.exceptionTable.toList = tableOf [(0, 10, 13, 19), (0, 10, 17, 13), (0, 10, 21, 21)]) : ∀ (P : Pic) (t0 : Nat) (H : Heap) (locs : List Loc) (cells slots : Nat) (ls : Array Slot), wb_La_read_17 po th P t0 → Pi D P H → Sg (cq_A P0 s) s.heap H P locs → lv_has ls 5 [] → cells + 0 ≤ 5 → slots + 0 ≤ 86 → W p l e rm_La_read s m args below meth c H locs cells slots (mt_MQ below (cq_Q D P0 false po th) args s 5 86 (cq_free P0 false)) (F0 m 17 ls [.ref t0]) := by
  intro P t0 H locs cells slots ls h hP hS hl hcc hss
  obtain ⟨hx, hb, hml, hown, hlocks, htr, hT, hK, hSt, hN, hP0⟩ := id C
  unfold wb_La_read_17 at h
  refine lv_astore (pc := 17) (lv' := [(4, .ref t0)]) hx hb d_La_read_17 hl (by decide) rfl (fun ls hl => ?_)
  refine lv_iconst (pc := 19) (v := 2) hx hb d_La_read_19 (by decide) ?_
  exact we_i (pc := 20) hx hb hlocks hr hP hS (show cells + 0 ≤ 5 by omega) (show slots + 0 ≤ 86 by omega) h d_La_read_20
set_option maxHeartbeats 4000000 in
set_option maxRecDepth 100000 in
theorem wk_La_read_21 {p : Program} {l : Launch} {e : Env} {s : State} {m : MethodId} {args : Array Value} {below : List Frame} {meth : Method} {c : Code} {D : pq_D} {P0 : Pic} {po : Option Value → Pic → Prop} {th : String → Pic → Prop} (hfl : l.flags = flags0) (C : Cx p e s m args meth c method_16_code 5 "WaterWorksLaw" D P0) (hmg : e.platform.magicAccessors = ({} : Platform).magicAccessors) (hr : meth.sig.returnType = (some .int)) (hin : meth.name = "read") (htab : c.exceptionTable.toList = tableOf [(0, 10, 13, 19), (0, 10, 17, 13), (0, 10, 21, 21)]) : ∀ (P : Pic) (t0 : Nat) (H : Heap) (locs : List Loc) (cells slots : Nat) (ls : Array Slot), wb_La_read_21 po th P t0 → Pi D P H → Sg (cq_A P0 s) s.heap H P locs → lv_has ls 5 [] → cells + 0 ≤ 5 → slots + 0 ≤ 86 → W p l e rm_La_read s m args below meth c H locs cells slots (mt_MQ below (cq_Q D P0 false po th) args s 5 86 (cq_free P0 false)) (F0 m 21 ls [.ref t0]) := by
  intro P t0 H locs cells slots ls h hP hS hl hcc hss
  obtain ⟨hx, hb, hml, hown, hlocks, htr, hT, hK, hSt, hN, hP0⟩ := id C
  unfold wb_La_read_21 at h
  refine lv_astore (pc := 21) (lv' := [(4, .ref t0)]) hx hb d_La_read_21 hl (by decide) rfl (fun ls hl => ?_)
  refine lv_iconst (pc := 23) (v := 3) hx hb d_La_read_23 (by decide) ?_
  exact we_i (pc := 24) hx hb hlocks hr hP hS (show cells + 0 ≤ 5 by omega) (show slots + 0 ≤ 86 by omega) h d_La_read_24
set_option maxHeartbeats 4000000 in
set_option maxRecDepth 100000 in
theorem ct_La_read {l : Launch} (hfl : l.flags = flags0) (D : pq_D) {po : Option Value → Pic → Prop} {th : String → Pic → Prop} {P : Pic} {a0 : Nat} {x1 : Int32} {x2 : Int32} {a3 : Nat} (h : wp_La_read po th P a0 x1 x2 a3) : CT l D y_La_read (.codeWith y_La_read method_16_code 5 (some .int) [(0, 10, 13, 19), (0, 10, 17, 13), (0, 10, 21, 21)]) rm_La_read false [.ref a0, .int x1, .int x2, .ref a3] P po th := by
  refine ct_of (hs := [(0, 10, 13, 19), (0, 10, 17, 13), (0, 10, 21, 21)]) hfl (by decide +kernel) (Or.inr rfl) (Nat.le_of_ble_eq_true rfl) ?_
  intro p e s m below meth c C hmg hr hin htab ls hl
  have hl : lv_has ls 5 [(0, .ref a0), (1, .int x1), (2, .int x2), (3, .ref a3)] := hl
  generalize hargs : ([.ref a0, .int x1, .int x2, .ref a3] : List Value).toArray = args at C ⊢
  obtain ⟨hx, hb, hml, hown, hlocks, htr, hT, hK, hSt, hN, hP0⟩ := id C
  have hP : Pi D P s.heap := hP0
  have hS : Sg (cq_A P s) s.heap s.heap P [] := Sg.start hP0
  unfold wp_La_read at h
  refine lv_aload_n (pc := 0) hx hb d_La_read_0 rfl (lv_at hl 3 rfl) ?_
  refine lv_iconst (pc := 1) (v := 0) hx hb d_La_read_1 (by decide) ?_
  refine lv_aload_n (pc := 2) hx hb d_La_read_2 rfl (lv_at hl 0 rfl) ?_
  refine lv_iload_n (pc := 3) hx hb d_La_read_3 rfl (lv_at hl 1 rfl) ?_
  refine lv_iload_n (pc := 4) hx hb d_La_read_4 rfl (lv_at hl 2 rfl) ?_
  obtain ⟨hk101, h⟩ := h
  refine cc_i (pc := 5) C (rest := [.int (0 : Int32), .ref a3]) (mt_invV (As := [.int x1, .int x2]) hx hb hown (hT _ k_930 _) (hT _ k_931 _) (hT _ k_932 _) (mt_Cd.code (hT _ k_933 #[])) h_Wa_read (pq_recv hK hP hk101 rfl) n_Wa_read rfl d_La_read_5) (ct_Wa_read hfl D h) k_933 k_1 ⟨Nat.le_of_ble_eq_true rfl, Nat.le_of_ble_eq_true rfl⟩ ⟨(show 0 + 5 ≤ 5 by omega), (show 0 + 86 ≤ 86 by omega)⟩ hl.1 d_La_read_5 (Nat.le_of_ble_eq_true rfl) hP hS (fun x102 P103 H locs h hP hS => ?_) (fun xx X P103 H locs h hX hex hP hS => ?_)
  · refine lv_i2l (pc := 8) hx hb d_La_read_8 rfl ?_
    obtain ⟨hk104, h⟩ := h
    obtain ⟨hi105, h⟩ := h
    refine pq_last (pc := 9) hx hb hK hP hS hk104 hi105 d_La_read_9 (fun H locs hP hS => ?_)
    have hk104 : p_k (s_al P103 a3 (Int32.toNatClampNeg (0 : Int32)) (Int32.toInt64 x102)) a3 = 102 := by rw [pk_al]; exact hk104
    refine lv_goto (pc := 10) (tgt := 25) hx hb d_La_read_10 (by decide) ?_
    refine lv_iconst (pc := 25) (v := 0) hx hb d_La_read_25 (by decide) ?_
    exact we_i (pc := 26) hx hb hlocks hr hP hS (show 0 + 5 + 0 ≤ 5 by omega) (show 0 + 86 + 0 ≤ 86 by omega) h d_La_read_26
  · by_cases hX0 : X = "java/lang/IndexOutOfBoundsException"
    · subst hX0
      simp only [String.reduceEq, if_true, if_false, reduceIte] at h
      refine cq_caught (hs := [(0, 10, 13, 19), (0, 10, 17, 13), (0, 10, 21, 21)]) (i := 0) (ys := ["java/lang/IndexOutOfBoundsException", "java/lang/IllegalStateException", "java/lang/IllegalArgumentException"]) C htab hX hex k_593 hmg (by decide) rfl (fun j hj => by match j, hj with | 0, _ => exact ⟨by decide, k_578, by decide, by decide, by decide⟩ | j + 1, hj => omega) (fun j hj => by match j, hj with  | j + 0, hj => omega) rfl ?_
      replace h := h xx
      exact wk_La_read_13 hfl C hmg hr hin htab _ xx _ _ _ _ _ h hP hS (lv_sub hl [] rfl) (show 0 + 5 + 0 ≤ 5 by omega) (show 0 + 86 + 0 ≤ 86 by omega)
    by_cases hX1 : X = "java/lang/IllegalStateException"
    · subst hX1
      simp only [String.reduceEq, if_true, if_false, reduceIte] at h
      refine cq_caught (hs := [(0, 10, 13, 19), (0, 10, 17, 13), (0, 10, 21, 21)]) (i := 1) (ys := ["java/lang/IndexOutOfBoundsException", "java/lang/IllegalStateException", "java/lang/IllegalArgumentException"]) C htab hX hex k_480 hmg (by decide) rfl (fun j hj => by match j, hj with | 0, _ => exact ⟨by decide, k_578, by decide, by decide, by decide⟩ | 1, _ => exact ⟨by decide, k_466, by decide, by decide, by decide⟩ | j + 2, hj => omega) (fun j hj => by match j, hj with | 0, _ => decide | j + 1, hj => omega) rfl ?_
      replace h := h xx
      exact wk_La_read_17 hfl C hmg hr hin htab _ xx _ _ _ _ _ h hP hS (lv_sub hl [] rfl) (show 0 + 5 + 0 ≤ 5 by omega) (show 0 + 86 + 0 ≤ 86 by omega)
    by_cases hX2 : X = "java/lang/IllegalArgumentException"
    · subst hX2
      simp only [String.reduceEq, if_true, if_false, reduceIte] at h
      refine cq_caught (hs := [(0, 10, 13, 19), (0, 10, 17, 13), (0, 10, 21, 21)]) (i := 2) (ys := ["java/lang/IndexOutOfBoundsException", "java/lang/IllegalStateException", "java/lang/IllegalArgumentException"]) C htab hX hex k_69 hmg (by decide) rfl (fun j hj => by match j, hj with | 0, _ => exact ⟨by decide, k_578, by decide, by decide, by decide⟩ | 1, _ => exact ⟨by decide, k_466, by decide, by decide, by decide⟩ | 2, _ => exact ⟨by decide, k_579, by decide, by decide, by decide⟩ | j + 3, hj => omega) (fun j hj => by match j, hj with | 0, _ => decide | 1, _ => decide | j + 2, hj => omega) rfl ?_
      replace h := h xx
      exact wk_La_read_21 hfl C hmg hr hin htab _ xx _ _ _ _ _ h hP hS (lv_sub hl [] rfl) (show 0 + 5 + 0 ≤ 5 by omega) (show 0 + 86 + 0 ≤ 86 by omega)
    exact absurd h (by simp [hX0, hX1, hX2])
/-! WaterWorksLaw.amend(LWaterWorks;III[J)I -/
abbrev y_La_amend : MethodName := ⟨"WaterWorksLaw", "amend", "(LWaterWorks;III[J)I"⟩
abbrev rm_La_amend : Room := { frames := 9, cells := 4, slots := 22, locals := 187 }
theorem h_La_amend : y_La_amend.cls ≠ "java/lang/invoke/MethodHandle" ∧ y_La_amend.cls ≠ "java/lang/invoke/VarHandle" := by decide +kernel
theorem n_La_amend : (parseMethodDescriptor y_La_amend.desc).map (fun d => d.parameters.length) = some 5 := by decide +kernel
theorem d_La_amend_0 : decode method_17_code 0 = .ok (.aload 4, 2) := by decide +kernel
theorem d_La_amend_2 : decode method_17_code 2 = .ok (.iconst 0, 1) := by decide +kernel
theorem d_La_amend_3 : decode method_17_code 3 = .ok (.aload_n 0, 1) := by decide +kernel
theorem d_La_amend_4 : decode method_17_code 4 = .ok (.iload_n 1, 1) := by decide +kernel
theorem d_La_amend_5 : decode method_17_code 5 = .ok (.iload_n 2, 1) := by decide +kernel
theorem d_La_amend_6 : decode method_17_code 6 = .ok (.iload_n 3, 1) := by decide +kernel
theorem d_La_amend_7 : decode method_17_code 7 = .ok (.invokevirtual 66, 3) := by decide +kernel
theorem d_La_amend_10 : decode method_17_code 10 = .ok (.i2l, 1) := by decide +kernel
theorem d_La_amend_11 : decode method_17_code 11 = .ok (.lastore, 1) := by decide +kernel
theorem d_La_amend_12 : decode method_17_code 12 = .ok (.goto 15, 3) := by decide +kernel
theorem d_La_amend_15 : decode method_17_code 15 = .ok (.astore 5, 2) := by decide +kernel
theorem d_La_amend_17 : decode method_17_code 17 = .ok (.iconst 1, 1) := by decide +kernel
theorem d_La_amend_18 : decode method_17_code 18 = .ok (.ireturn, 1) := by decide +kernel
theorem d_La_amend_19 : decode method_17_code 19 = .ok (.astore 5, 2) := by decide +kernel
theorem d_La_amend_21 : decode method_17_code 21 = .ok (.iconst 2, 1) := by decide +kernel
theorem d_La_amend_22 : decode method_17_code 22 = .ok (.ireturn, 1) := by decide +kernel
theorem d_La_amend_23 : decode method_17_code 23 = .ok (.astore 5, 2) := by decide +kernel
theorem d_La_amend_25 : decode method_17_code 25 = .ok (.iconst 3, 1) := by decide +kernel
theorem d_La_amend_26 : decode method_17_code 26 = .ok (.ireturn, 1) := by decide +kernel
theorem d_La_amend_27 : decode method_17_code 27 = .ok (.iconst 0, 1) := by decide +kernel
theorem d_La_amend_28 : decode method_17_code 28 = .ok (.ireturn, 1) := by decide +kernel
def wb_La_amend_15 (po : Option Value → Pic → Prop) (th : String → Pic → Prop) (P : Pic) (t0 : Nat) : Prop := po (some (.int (1 : Int32))) P
def wb_La_amend_19 (po : Option Value → Pic → Prop) (th : String → Pic → Prop) (P : Pic) (t0 : Nat) : Prop := po (some (.int (2 : Int32))) P
def wb_La_amend_23 (po : Option Value → Pic → Prop) (th : String → Pic → Prop) (P : Pic) (t0 : Nat) : Prop := po (some (.int (3 : Int32))) P
def wp_La_amend (po : Option Value → Pic → Prop) (th : String → Pic → Prop) (P : Pic) (a0 : Nat) (x1 : Int32) (x2 : Int32) (x3 : Int32) (a4 : Nat) : Prop := p_k P a0 = 1 ∧ wp_Wa_amend (cp_i fun x102 P103 => p_k P103 a4 = 102 ∧ vp_in (0 : Int32) (p_n P103 a4) ∧ po (some (.int (0 : Int32))) (s_al P103 a4 (Int32.toNatClampNeg (0 : Int32)) (Int32.toInt64 x102))) (fun X P103 => if X = "java/lang/IndexOutOfBoundsException" then (∀ (xx : Nat), wb_La_amend_15 po th P103 xx) else if X = "java/util/NoSuchElementException" then (∀ (xx : Nat), wb_La_amend_19 po th P103 xx) else if X = "java/lang/IllegalArgumentException" then (∀ (xx : Nat), wb_La_amend_23 po th P103 xx) else False) P a0 x1 x2 x3
set_option maxHeartbeats 4000000 in
set_option maxRecDepth 100000 in
theorem wk_La_amend_15 {p : Program} {l : Launch} {e : Env} {s : State} {m : MethodId} {args : Array Value} {below : List Frame} {meth : Method} {c : Code} {D : pq_D} {P0 : Pic} {po : Option Value → Pic → Prop} {th : String → Pic → Prop} (hfl : l.flags = flags0) (C : Cx p e s m args meth c method_17_code 6 "WaterWorksLaw" D P0) (hmg : e.platform.magicAccessors = ({} : Platform).magicAccessors) (hr : meth.sig.returnType = (some .int)) (hin : meth.name = "amend") (htab : c.exceptionTable.toList = tableOf [(0, 12, 15, 19), (0, 12, 19, 35), (0, 12, 23, 21)]) : ∀ (P : Pic) (t0 : Nat) (H : Heap) (locs : List Loc) (cells slots : Nat) (ls : Array Slot), wb_La_amend_15 po th P t0 → Pi D P H → Sg (cq_A P0 s) s.heap H P locs → lv_has ls 6 [] → cells + 0 ≤ 4 → slots + 0 ≤ 22 → W p l e rm_La_amend s m args below meth c H locs cells slots (mt_MQ below (cq_Q D P0 false po th) args s 4 22 (cq_free P0 false)) (F0 m 15 ls [.ref t0]) := by
  intro P t0 H locs cells slots ls h hP hS hl hcc hss
  obtain ⟨hx, hb, hml, hown, hlocks, htr, hT, hK, hSt, hN, hP0⟩ := id C
  unfold wb_La_amend_15 at h
  refine lv_astore (pc := 15) (lv' := [(5, .ref t0)]) hx hb d_La_amend_15 hl (by decide) rfl (fun ls hl => ?_)
  refine lv_iconst (pc := 17) (v := 1) hx hb d_La_amend_17 (by decide) ?_
  exact we_i (pc := 18) hx hb hlocks hr hP hS (show cells + 0 ≤ 4 by omega) (show slots + 0 ≤ 22 by omega) h d_La_amend_18
set_option maxHeartbeats 4000000 in
set_option maxRecDepth 100000 in
theorem wk_La_amend_19 {p : Program} {l : Launch} {e : Env} {s : State} {m : MethodId} {args : Array Value} {below : List Frame} {meth : Method} {c : Code} {D : pq_D} {P0 : Pic} {po : Option Value → Pic → Prop} {th : String → Pic → Prop} (hfl : l.flags = flags0) (C : Cx p e s m args meth c method_17_code 6 "WaterWorksLaw" D P0) (hmg : e.platform.magicAccessors = ({} : Platform).magicAccessors) (hr : meth.sig.returnType = (some .int)) (hin : meth.name = "amend") (htab : c.exceptionTable.toList = tableOf [(0, 12, 15, 19), (0, 12, 19, 35), (0, 12, 23, 21)]) : ∀ (P : Pic) (t0 : Nat) (H : Heap) (locs : List Loc) (cells slots : Nat) (ls : Array Slot), wb_La_amend_19 po th P t0 → Pi D P H → Sg (cq_A P0 s) s.heap H P locs → lv_has ls 6 [] → cells + 0 ≤ 4 → slots + 0 ≤ 22 → W p l e rm_La_amend s m args below meth c H locs cells slots (mt_MQ below (cq_Q D P0 false po th) args s 4 22 (cq_free P0 false)) (F0 m 19 ls [.ref t0]) := by
  intro P t0 H locs cells slots ls h hP hS hl hcc hss
  obtain ⟨hx, hb, hml, hown, hlocks, htr, hT, hK, hSt, hN, hP0⟩ := id C
  unfold wb_La_amend_19 at h
  refine lv_astore (pc := 19) (lv' := [(5, .ref t0)]) hx hb d_La_amend_19 hl (by decide) rfl (fun ls hl => ?_)
  refine lv_iconst (pc := 21) (v := 2) hx hb d_La_amend_21 (by decide) ?_
  exact we_i (pc := 22) hx hb hlocks hr hP hS (show cells + 0 ≤ 4 by omega) (show slots + 0 ≤ 22 by omega) h d_La_amend_22
set_option maxHeartbeats 4000000 in
set_option maxRecDepth 100000 in
theorem wk_La_amend_23 {p : Program} {l : Launch} {e : Env} {s : State} {m : MethodId} {args : Array Value} {below : List Frame} {meth : Method} {c : Code} {D : pq_D} {P0 : Pic} {po : Option Value → Pic → Prop} {th : String → Pic → Prop} (hfl : l.flags = flags0) (C : Cx p e s m args meth c method_17_code 6 "WaterWorksLaw" D P0) (hmg : e.platform.magicAccessors = ({} : Platform).magicAccessors) (hr : meth.sig.returnType = (some .int)) (hin : meth.name = "amend") (htab : c.exceptionTable.toList = tableOf [(0, 12, 15, 19), (0, 12, 19, 35), (0, 12, 23, 21)]) : ∀ (P : Pic) (t0 : Nat) (H : Heap) (locs : List Loc) (cells slots : Nat) (ls : Array Slot), wb_La_amend_23 po th P t0 → Pi D P H → Sg (cq_A P0 s) s.heap H P locs → lv_has ls 6 [] → cells + 0 ≤ 4 → slots + 0 ≤ 22 → W p l e rm_La_amend s m args below meth c H locs cells slots (mt_MQ below (cq_Q D P0 false po th) args s 4 22 (cq_free P0 false)) (F0 m 23 ls [.ref t0]) := by
  intro P t0 H locs cells slots ls h hP hS hl hcc hss
  obtain ⟨hx, hb, hml, hown, hlocks, htr, hT, hK, hSt, hN, hP0⟩ := id C
  unfold wb_La_amend_23 at h
  refine lv_astore (pc := 23) (lv' := [(5, .ref t0)]) hx hb d_La_amend_23 hl (by decide) rfl (fun ls hl => ?_)
  refine lv_iconst (pc := 25) (v := 3) hx hb d_La_amend_25 (by decide) ?_
  exact we_i (pc := 26) hx hb hlocks hr hP hS (show cells + 0 ≤ 4 by omega) (show slots + 0 ≤ 22 by omega) h d_La_amend_26
set_option maxHeartbeats 4000000 in
set_option maxRecDepth 100000 in
theorem ct_La_amend {l : Launch} (hfl : l.flags = flags0) (D : pq_D) {po : Option Value → Pic → Prop} {th : String → Pic → Prop} {P : Pic} {a0 : Nat} {x1 : Int32} {x2 : Int32} {x3 : Int32} {a4 : Nat} (h : wp_La_amend po th P a0 x1 x2 x3 a4) : CT l D y_La_amend (.codeWith y_La_amend method_17_code 6 (some .int) [(0, 12, 15, 19), (0, 12, 19, 35), (0, 12, 23, 21)]) rm_La_amend false [.ref a0, .int x1, .int x2, .int x3, .ref a4] P po th := by
  refine ct_of (hs := [(0, 12, 15, 19), (0, 12, 19, 35), (0, 12, 23, 21)]) hfl (by decide +kernel) (Or.inr rfl) (Nat.le_of_ble_eq_true rfl) ?_
  intro p e s m below meth c C hmg hr hin htab ls hl
  have hl : lv_has ls 6 [(0, .ref a0), (1, .int x1), (2, .int x2), (3, .int x3), (4, .ref a4)] := hl
  generalize hargs : ([.ref a0, .int x1, .int x2, .int x3, .ref a4] : List Value).toArray = args at C ⊢
  obtain ⟨hx, hb, hml, hown, hlocks, htr, hT, hK, hSt, hN, hP0⟩ := id C
  have hP : Pi D P s.heap := hP0
  have hS : Sg (cq_A P s) s.heap s.heap P [] := Sg.start hP0
  unfold wp_La_amend at h
  refine lv_aload (pc := 0) hx hb d_La_amend_0 (lv_at hl 4 rfl) ?_
  refine lv_iconst (pc := 2) (v := 0) hx hb d_La_amend_2 (by decide) ?_
  refine lv_aload_n (pc := 3) hx hb d_La_amend_3 rfl (lv_at hl 0 rfl) ?_
  refine lv_iload_n (pc := 4) hx hb d_La_amend_4 rfl (lv_at hl 1 rfl) ?_
  refine lv_iload_n (pc := 5) hx hb d_La_amend_5 rfl (lv_at hl 2 rfl) ?_
  refine lv_iload_n (pc := 6) hx hb d_La_amend_6 rfl (lv_at hl 3 rfl) ?_
  obtain ⟨hk101, h⟩ := h
  refine cc_i (pc := 7) C (rest := [.int (0 : Int32), .ref a4]) (mt_invV (As := [.int x1, .int x2, .int x3]) hx hb hown (hT _ k_941 _) (hT _ k_942 _) (hT _ k_943 _) (mt_Cd.code (hT _ k_944 #[])) h_Wa_amend (pq_recv hK hP hk101 rfl) n_Wa_amend rfl d_La_amend_7) (ct_Wa_amend hfl D h) k_944 k_1 ⟨Nat.le_of_ble_eq_true rfl, Nat.le_of_ble_eq_true rfl⟩ ⟨(show 0 + 4 ≤ 4 by omega), (show 0 + 22 ≤ 22 by omega)⟩ hl.1 d_La_amend_7 (Nat.le_of_ble_eq_true rfl) hP hS (fun x102 P103 H locs h hP hS => ?_) (fun xx X P103 H locs h hX hex hP hS => ?_)
  · refine lv_i2l (pc := 10) hx hb d_La_amend_10 rfl ?_
    obtain ⟨hk104, h⟩ := h
    obtain ⟨hi105, h⟩ := h
    refine pq_last (pc := 11) hx hb hK hP hS hk104 hi105 d_La_amend_11 (fun H locs hP hS => ?_)
    have hk104 : p_k (s_al P103 a4 (Int32.toNatClampNeg (0 : Int32)) (Int32.toInt64 x102)) a4 = 102 := by rw [pk_al]; exact hk104
    refine lv_goto (pc := 12) (tgt := 27) hx hb d_La_amend_12 (by decide) ?_
    refine lv_iconst (pc := 27) (v := 0) hx hb d_La_amend_27 (by decide) ?_
    exact we_i (pc := 28) hx hb hlocks hr hP hS (show 0 + 4 + 0 ≤ 4 by omega) (show 0 + 22 + 0 ≤ 22 by omega) h d_La_amend_28
  · by_cases hX0 : X = "java/lang/IndexOutOfBoundsException"
    · subst hX0
      simp only [String.reduceEq, if_true, if_false, reduceIte] at h
      refine cq_caught (hs := [(0, 12, 15, 19), (0, 12, 19, 35), (0, 12, 23, 21)]) (i := 0) (ys := ["java/lang/IndexOutOfBoundsException", "java/util/NoSuchElementException", "java/lang/IllegalArgumentException"]) C htab hX hex k_593 hmg (by decide) rfl (fun j hj => by match j, hj with | 0, _ => exact ⟨by decide, k_578, by decide, by decide, by decide⟩ | j + 1, hj => omega) (fun j hj => by match j, hj with  | j + 0, hj => omega) rfl ?_
      replace h := h xx
      exact wk_La_amend_15 hfl C hmg hr hin htab _ xx _ _ _ _ _ h hP hS (lv_sub hl [] rfl) (show 0 + 4 + 0 ≤ 4 by omega) (show 0 + 22 + 0 ≤ 22 by omega)
    by_cases hX1 : X = "java/util/NoSuchElementException"
    · subst hX1
      simp only [String.reduceEq, if_true, if_false, reduceIte] at h
      refine cq_caught (hs := [(0, 12, 15, 19), (0, 12, 19, 35), (0, 12, 23, 21)]) (i := 1) (ys := ["java/lang/IndexOutOfBoundsException", "java/util/NoSuchElementException", "java/lang/IllegalArgumentException"]) C htab hX hex k_730 hmg (by decide) rfl (fun j hj => by match j, hj with | 0, _ => exact ⟨by decide, k_578, by decide, by decide, by decide⟩ | 1, _ => exact ⟨by decide, k_716, by decide, by decide, by decide⟩ | j + 2, hj => omega) (fun j hj => by match j, hj with | 0, _ => decide | j + 1, hj => omega) rfl ?_
      replace h := h xx
      exact wk_La_amend_19 hfl C hmg hr hin htab _ xx _ _ _ _ _ h hP hS (lv_sub hl [] rfl) (show 0 + 4 + 0 ≤ 4 by omega) (show 0 + 22 + 0 ≤ 22 by omega)
    by_cases hX2 : X = "java/lang/IllegalArgumentException"
    · subst hX2
      simp only [String.reduceEq, if_true, if_false, reduceIte] at h
      refine cq_caught (hs := [(0, 12, 15, 19), (0, 12, 19, 35), (0, 12, 23, 21)]) (i := 2) (ys := ["java/lang/IndexOutOfBoundsException", "java/util/NoSuchElementException", "java/lang/IllegalArgumentException"]) C htab hX hex k_69 hmg (by decide) rfl (fun j hj => by match j, hj with | 0, _ => exact ⟨by decide, k_578, by decide, by decide, by decide⟩ | 1, _ => exact ⟨by decide, k_716, by decide, by decide, by decide⟩ | 2, _ => exact ⟨by decide, k_579, by decide, by decide, by decide⟩ | j + 3, hj => omega) (fun j hj => by match j, hj with | 0, _ => decide | 1, _ => decide | j + 2, hj => omega) rfl ?_
      replace h := h xx
      exact wk_La_amend_23 hfl C hmg hr hin htab _ xx _ _ _ _ _ h hP hS (lv_sub hl [] rfl) (show 0 + 4 + 0 ≤ 4 by omega) (show 0 + 22 + 0 ≤ 22 by omega)
    exact absurd h (by simp [hX0, hX1, hX2])
/-! WaterWorksLaw.used(LWaterWorks;III[J)I -/
abbrev y_La_used : MethodName := ⟨"WaterWorksLaw", "used", "(LWaterWorks;III[J)I"⟩
abbrev rm_La_used : Room := { frames := 9, cells := 4, slots := 24, locals := 186 }
theorem h_La_used : y_La_used.cls ≠ "java/lang/invoke/MethodHandle" ∧ y_La_used.cls ≠ "java/lang/invoke/VarHandle" := by decide +kernel
theorem n_La_used : (parseMethodDescriptor y_La_used.desc).map (fun d => d.parameters.length) = some 5 := by decide +kernel
theorem d_La_used_0 : decode method_18_code 0 = .ok (.aload 4, 2) := by decide +kernel
theorem d_La_used_2 : decode method_18_code 2 = .ok (.iconst 0, 1) := by decide +kernel
theorem d_La_used_3 : decode method_18_code 3 = .ok (.aload_n 0, 1) := by decide +kernel
theorem d_La_used_4 : decode method_18_code 4 = .ok (.iload_n 1, 1) := by decide +kernel
theorem d_La_used_5 : decode method_18_code 5 = .ok (.iload_n 2, 1) := by decide +kernel
theorem d_La_used_6 : decode method_18_code 6 = .ok (.iload_n 3, 1) := by decide +kernel
theorem d_La_used_7 : decode method_18_code 7 = .ok (.invokevirtual 69, 3) := by decide +kernel
theorem d_La_used_10 : decode method_18_code 10 = .ok (.i2l, 1) := by decide +kernel
theorem d_La_used_11 : decode method_18_code 11 = .ok (.lastore, 1) := by decide +kernel
theorem d_La_used_12 : decode method_18_code 12 = .ok (.goto 15, 3) := by decide +kernel
theorem d_La_used_15 : decode method_18_code 15 = .ok (.astore 5, 2) := by decide +kernel
theorem d_La_used_17 : decode method_18_code 17 = .ok (.iconst 1, 1) := by decide +kernel
theorem d_La_used_18 : decode method_18_code 18 = .ok (.ireturn, 1) := by decide +kernel
theorem d_La_used_19 : decode method_18_code 19 = .ok (.astore 5, 2) := by decide +kernel
theorem d_La_used_21 : decode method_18_code 21 = .ok (.iconst 2, 1) := by decide +kernel
theorem d_La_used_22 : decode method_18_code 22 = .ok (.ireturn, 1) := by decide +kernel
theorem d_La_used_23 : decode method_18_code 23 = .ok (.astore 5, 2) := by decide +kernel
theorem d_La_used_25 : decode method_18_code 25 = .ok (.iconst 3, 1) := by decide +kernel
theorem d_La_used_26 : decode method_18_code 26 = .ok (.ireturn, 1) := by decide +kernel
theorem d_La_used_27 : decode method_18_code 27 = .ok (.iconst 0, 1) := by decide +kernel
theorem d_La_used_28 : decode method_18_code 28 = .ok (.ireturn, 1) := by decide +kernel
def wb_La_used_15 (po : Option Value → Pic → Prop) (th : String → Pic → Prop) (P : Pic) (t0 : Nat) : Prop := po (some (.int (1 : Int32))) P
def wb_La_used_19 (po : Option Value → Pic → Prop) (th : String → Pic → Prop) (P : Pic) (t0 : Nat) : Prop := po (some (.int (2 : Int32))) P
def wb_La_used_23 (po : Option Value → Pic → Prop) (th : String → Pic → Prop) (P : Pic) (t0 : Nat) : Prop := po (some (.int (3 : Int32))) P
def wp_La_used (po : Option Value → Pic → Prop) (th : String → Pic → Prop) (P : Pic) (a0 : Nat) (x1 : Int32) (x2 : Int32) (x3 : Int32) (a4 : Nat) : Prop := p_k P a0 = 1 ∧ wp_Wa_used (cp_i fun x102 _ => p_k P a4 = 102 ∧ vp_in (0 : Int32) (p_n P a4) ∧ po (some (.int (0 : Int32))) (s_al P a4 (Int32.toNatClampNeg (0 : Int32)) (Int32.toInt64 x102))) (fun X _ => if X = "java/lang/IndexOutOfBoundsException" then (∀ (xx : Nat), wb_La_used_15 po th P xx) else if X = "java/lang/IllegalArgumentException" then (∀ (xx : Nat), wb_La_used_19 po th P xx) else if X = "java/util/NoSuchElementException" then (∀ (xx : Nat), wb_La_used_23 po th P xx) else False) P a0 x1 x2 x3
set_option maxHeartbeats 4000000 in
set_option maxRecDepth 100000 in
theorem wk_La_used_15 {p : Program} {l : Launch} {e : Env} {s : State} {m : MethodId} {args : Array Value} {below : List Frame} {meth : Method} {c : Code} {D : pq_D} {P0 : Pic} {po : Option Value → Pic → Prop} {th : String → Pic → Prop} (hfl : l.flags = flags0) (C : Cx p e s m args meth c method_18_code 6 "WaterWorksLaw" D P0) (hmg : e.platform.magicAccessors = ({} : Platform).magicAccessors) (hr : meth.sig.returnType = (some .int)) (hin : meth.name = "used") (htab : c.exceptionTable.toList = tableOf [(0, 12, 15, 19), (0, 12, 19, 21), (0, 12, 23, 35)]) : ∀ (P : Pic) (t0 : Nat) (H : Heap) (locs : List Loc) (cells slots : Nat) (ls : Array Slot), wb_La_used_15 po th P t0 → Pi D P H → Sg (cq_A P0 s) s.heap H P locs → lv_has ls 6 [] → cells + 0 ≤ 4 → slots + 0 ≤ 24 → W p l e rm_La_used s m args below meth c H locs cells slots (mt_MQ below (cq_Q D P0 false po th) args s 4 24 (cq_free P0 false)) (F0 m 15 ls [.ref t0]) := by
  intro P t0 H locs cells slots ls h hP hS hl hcc hss
  obtain ⟨hx, hb, hml, hown, hlocks, htr, hT, hK, hSt, hN, hP0⟩ := id C
  unfold wb_La_used_15 at h
  refine lv_astore (pc := 15) (lv' := [(5, .ref t0)]) hx hb d_La_used_15 hl (by decide) rfl (fun ls hl => ?_)
  refine lv_iconst (pc := 17) (v := 1) hx hb d_La_used_17 (by decide) ?_
  exact we_i (pc := 18) hx hb hlocks hr hP hS (show cells + 0 ≤ 4 by omega) (show slots + 0 ≤ 24 by omega) h d_La_used_18
set_option maxHeartbeats 4000000 in
set_option maxRecDepth 100000 in
theorem wk_La_used_19 {p : Program} {l : Launch} {e : Env} {s : State} {m : MethodId} {args : Array Value} {below : List Frame} {meth : Method} {c : Code} {D : pq_D} {P0 : Pic} {po : Option Value → Pic → Prop} {th : String → Pic → Prop} (hfl : l.flags = flags0) (C : Cx p e s m args meth c method_18_code 6 "WaterWorksLaw" D P0) (hmg : e.platform.magicAccessors = ({} : Platform).magicAccessors) (hr : meth.sig.returnType = (some .int)) (hin : meth.name = "used") (htab : c.exceptionTable.toList = tableOf [(0, 12, 15, 19), (0, 12, 19, 21), (0, 12, 23, 35)]) : ∀ (P : Pic) (t0 : Nat) (H : Heap) (locs : List Loc) (cells slots : Nat) (ls : Array Slot), wb_La_used_19 po th P t0 → Pi D P H → Sg (cq_A P0 s) s.heap H P locs → lv_has ls 6 [] → cells + 0 ≤ 4 → slots + 0 ≤ 24 → W p l e rm_La_used s m args below meth c H locs cells slots (mt_MQ below (cq_Q D P0 false po th) args s 4 24 (cq_free P0 false)) (F0 m 19 ls [.ref t0]) := by
  intro P t0 H locs cells slots ls h hP hS hl hcc hss
  obtain ⟨hx, hb, hml, hown, hlocks, htr, hT, hK, hSt, hN, hP0⟩ := id C
  unfold wb_La_used_19 at h
  refine lv_astore (pc := 19) (lv' := [(5, .ref t0)]) hx hb d_La_used_19 hl (by decide) rfl (fun ls hl => ?_)
  refine lv_iconst (pc := 21) (v := 2) hx hb d_La_used_21 (by decide) ?_
  exact we_i (pc := 22) hx hb hlocks hr hP hS (show cells + 0 ≤ 4 by omega) (show slots + 0 ≤ 24 by omega) h d_La_used_22
set_option maxHeartbeats 4000000 in
set_option maxRecDepth 100000 in
theorem wk_La_used_23 {p : Program} {l : Launch} {e : Env} {s : State} {m : MethodId} {args : Array Value} {below : List Frame} {meth : Method} {c : Code} {D : pq_D} {P0 : Pic} {po : Option Value → Pic → Prop} {th : String → Pic → Prop} (hfl : l.flags = flags0) (C : Cx p e s m args meth c method_18_code 6 "WaterWorksLaw" D P0) (hmg : e.platform.magicAccessors = ({} : Platform).magicAccessors) (hr : meth.sig.returnType = (some .int)) (hin : meth.name = "used") (htab : c.exceptionTable.toList = tableOf [(0, 12, 15, 19), (0, 12, 19, 21), (0, 12, 23, 35)]) : ∀ (P : Pic) (t0 : Nat) (H : Heap) (locs : List Loc) (cells slots : Nat) (ls : Array Slot), wb_La_used_23 po th P t0 → Pi D P H → Sg (cq_A P0 s) s.heap H P locs → lv_has ls 6 [] → cells + 0 ≤ 4 → slots + 0 ≤ 24 → W p l e rm_La_used s m args below meth c H locs cells slots (mt_MQ below (cq_Q D P0 false po th) args s 4 24 (cq_free P0 false)) (F0 m 23 ls [.ref t0]) := by
  intro P t0 H locs cells slots ls h hP hS hl hcc hss
  obtain ⟨hx, hb, hml, hown, hlocks, htr, hT, hK, hSt, hN, hP0⟩ := id C
  unfold wb_La_used_23 at h
  refine lv_astore (pc := 23) (lv' := [(5, .ref t0)]) hx hb d_La_used_23 hl (by decide) rfl (fun ls hl => ?_)
  refine lv_iconst (pc := 25) (v := 3) hx hb d_La_used_25 (by decide) ?_
  exact we_i (pc := 26) hx hb hlocks hr hP hS (show cells + 0 ≤ 4 by omega) (show slots + 0 ≤ 24 by omega) h d_La_used_26
set_option maxHeartbeats 4000000 in
set_option maxRecDepth 100000 in
theorem ct_La_used {l : Launch} (hfl : l.flags = flags0) (D : pq_D) {po : Option Value → Pic → Prop} {th : String → Pic → Prop} {P : Pic} {a0 : Nat} {x1 : Int32} {x2 : Int32} {x3 : Int32} {a4 : Nat} (h : wp_La_used po th P a0 x1 x2 x3 a4) : CT l D y_La_used (.codeWith y_La_used method_18_code 6 (some .int) [(0, 12, 15, 19), (0, 12, 19, 21), (0, 12, 23, 35)]) rm_La_used false [.ref a0, .int x1, .int x2, .int x3, .ref a4] P po th := by
  refine ct_of (hs := [(0, 12, 15, 19), (0, 12, 19, 21), (0, 12, 23, 35)]) hfl (by decide +kernel) (Or.inr rfl) (Nat.le_of_ble_eq_true rfl) ?_
  intro p e s m below meth c C hmg hr hin htab ls hl
  have hl : lv_has ls 6 [(0, .ref a0), (1, .int x1), (2, .int x2), (3, .int x3), (4, .ref a4)] := hl
  generalize hargs : ([.ref a0, .int x1, .int x2, .int x3, .ref a4] : List Value).toArray = args at C ⊢
  obtain ⟨hx, hb, hml, hown, hlocks, htr, hT, hK, hSt, hN, hP0⟩ := id C
  have hP : Pi D P s.heap := hP0
  have hS : Sg (cq_A P s) s.heap s.heap P [] := Sg.start hP0
  unfold wp_La_used at h
  refine lv_aload (pc := 0) hx hb d_La_used_0 (lv_at hl 4 rfl) ?_
  refine lv_iconst (pc := 2) (v := 0) hx hb d_La_used_2 (by decide) ?_
  refine lv_aload_n (pc := 3) hx hb d_La_used_3 rfl (lv_at hl 0 rfl) ?_
  refine lv_iload_n (pc := 4) hx hb d_La_used_4 rfl (lv_at hl 1 rfl) ?_
  refine lv_iload_n (pc := 5) hx hb d_La_used_5 rfl (lv_at hl 2 rfl) ?_
  refine lv_iload_n (pc := 6) hx hb d_La_used_6 rfl (lv_at hl 3 rfl) ?_
  obtain ⟨hk101, h⟩ := h
  refine cr_i (pc := 7) C (rest := [.int (0 : Int32), .ref a4]) (mt_invV (As := [.int x1, .int x2, .int x3]) hx hb hown (hT _ k_956 _) (hT _ k_957 _) (hT _ k_958 _) (mt_Cd.code (hT _ k_959 #[])) h_Wa_used (pq_recv hK hP hk101 rfl) n_Wa_used rfl d_La_used_7) (ct_Wa_used hfl D h) k_959 k_1 ⟨Nat.le_of_ble_eq_true rfl, Nat.le_of_ble_eq_true rfl⟩ ⟨(show 0 + 4 ≤ 4 by omega), (show 0 + 24 ≤ 24 by omega)⟩ hl.1 d_La_used_7 (Nat.le_of_ble_eq_true rfl) hP hS (fun x102 H locs h hP hS => ?_) (fun xx X H locs h hX hex hP hS => ?_)
  · refine lv_i2l (pc := 10) hx hb d_La_used_10 rfl ?_
    obtain ⟨hk103, h⟩ := h
    obtain ⟨hi104, h⟩ := h
    refine pq_last (pc := 11) hx hb hK hP hS hk103 hi104 d_La_used_11 (fun H locs hP hS => ?_)
    have hk101 : p_k (s_al P a4 (Int32.toNatClampNeg (0 : Int32)) (Int32.toInt64 x102)) a0 = 1 := by rw [pk_al]; exact hk101
    have hk103 : p_k (s_al P a4 (Int32.toNatClampNeg (0 : Int32)) (Int32.toInt64 x102)) a4 = 102 := by rw [pk_al]; exact hk103
    refine lv_goto (pc := 12) (tgt := 27) hx hb d_La_used_12 (by decide) ?_
    refine lv_iconst (pc := 27) (v := 0) hx hb d_La_used_27 (by decide) ?_
    exact we_i (pc := 28) hx hb hlocks hr hP hS (show 0 + 4 + 0 ≤ 4 by omega) (show 0 + 24 + 0 ≤ 24 by omega) h d_La_used_28
  · by_cases hX0 : X = "java/lang/IndexOutOfBoundsException"
    · subst hX0
      simp only [String.reduceEq, if_true, if_false, reduceIte] at h
      refine cq_caught (hs := [(0, 12, 15, 19), (0, 12, 19, 21), (0, 12, 23, 35)]) (i := 0) (ys := ["java/lang/IndexOutOfBoundsException", "java/lang/IllegalArgumentException", "java/util/NoSuchElementException"]) C htab hX hex k_593 hmg (by decide) rfl (fun j hj => by match j, hj with | 0, _ => exact ⟨by decide, k_578, by decide, by decide, by decide⟩ | j + 1, hj => omega) (fun j hj => by match j, hj with  | j + 0, hj => omega) rfl ?_
      replace h := h xx
      exact wk_La_used_15 hfl C hmg hr hin htab _ xx _ _ _ _ _ h hP hS (lv_sub hl [] rfl) (show 0 + 4 + 0 ≤ 4 by omega) (show 0 + 24 + 0 ≤ 24 by omega)
    by_cases hX1 : X = "java/lang/IllegalArgumentException"
    · subst hX1
      simp only [String.reduceEq, if_true, if_false, reduceIte] at h
      refine cq_caught (hs := [(0, 12, 15, 19), (0, 12, 19, 21), (0, 12, 23, 35)]) (i := 1) (ys := ["java/lang/IndexOutOfBoundsException", "java/lang/IllegalArgumentException", "java/util/NoSuchElementException"]) C htab hX hex k_69 hmg (by decide) rfl (fun j hj => by match j, hj with | 0, _ => exact ⟨by decide, k_578, by decide, by decide, by decide⟩ | 1, _ => exact ⟨by decide, k_579, by decide, by decide, by decide⟩ | j + 2, hj => omega) (fun j hj => by match j, hj with | 0, _ => decide | j + 1, hj => omega) rfl ?_
      replace h := h xx
      exact wk_La_used_19 hfl C hmg hr hin htab _ xx _ _ _ _ _ h hP hS (lv_sub hl [] rfl) (show 0 + 4 + 0 ≤ 4 by omega) (show 0 + 24 + 0 ≤ 24 by omega)
    by_cases hX2 : X = "java/util/NoSuchElementException"
    · subst hX2
      simp only [String.reduceEq, if_true, if_false, reduceIte] at h
      refine cq_caught (hs := [(0, 12, 15, 19), (0, 12, 19, 21), (0, 12, 23, 35)]) (i := 2) (ys := ["java/lang/IndexOutOfBoundsException", "java/lang/IllegalArgumentException", "java/util/NoSuchElementException"]) C htab hX hex k_730 hmg (by decide) rfl (fun j hj => by match j, hj with | 0, _ => exact ⟨by decide, k_578, by decide, by decide, by decide⟩ | 1, _ => exact ⟨by decide, k_579, by decide, by decide, by decide⟩ | 2, _ => exact ⟨by decide, k_716, by decide, by decide, by decide⟩ | j + 3, hj => omega) (fun j hj => by match j, hj with | 0, _ => decide | 1, _ => decide | j + 2, hj => omega) rfl ?_
      replace h := h xx
      exact wk_La_used_23 hfl C hmg hr hin htab _ xx _ _ _ _ _ h hP hS (lv_sub hl [] rfl) (show 0 + 4 + 0 ≤ 4 by omega) (show 0 + 24 + 0 ≤ 24 by omega)
    exact absurd h (by simp [hX0, hX1, hX2])
/-! WaterWorksLaw.tariff(LWaterWorks;IJ[J)I -/
abbrev y_La_tariff : MethodName := ⟨"WaterWorksLaw", "tariff", "(LWaterWorks;IJ[J)I"⟩
abbrev rm_La_tariff : Room := { frames := 8, cells := 4, slots := 78, locals := 197 }
theorem h_La_tariff : y_La_tariff.cls ≠ "java/lang/invoke/MethodHandle" ∧ y_La_tariff.cls ≠ "java/lang/invoke/VarHandle" := by decide +kernel
theorem n_La_tariff : (parseMethodDescriptor y_La_tariff.desc).map (fun d => d.parameters.length) = some 4 := by decide +kernel
theorem d_La_tariff_0 : decode method_19_code 0 = .ok (.aload 4, 2) := by decide +kernel
theorem d_La_tariff_2 : decode method_19_code 2 = .ok (.iconst 0, 1) := by decide +kernel
theorem d_La_tariff_3 : decode method_19_code 3 = .ok (.aload_n 0, 1) := by decide +kernel
theorem d_La_tariff_4 : decode method_19_code 4 = .ok (.iload_n 1, 1) := by decide +kernel
theorem d_La_tariff_5 : decode method_19_code 5 = .ok (.lload_n 2, 1) := by decide +kernel
theorem d_La_tariff_6 : decode method_19_code 6 = .ok (.invokevirtual 72, 3) := by decide +kernel
theorem d_La_tariff_9 : decode method_19_code 9 = .ok (.i2l, 1) := by decide +kernel
theorem d_La_tariff_10 : decode method_19_code 10 = .ok (.lastore, 1) := by decide +kernel
theorem d_La_tariff_11 : decode method_19_code 11 = .ok (.goto 11, 3) := by decide +kernel
theorem d_La_tariff_14 : decode method_19_code 14 = .ok (.astore 5, 2) := by decide +kernel
theorem d_La_tariff_16 : decode method_19_code 16 = .ok (.iconst 1, 1) := by decide +kernel
theorem d_La_tariff_17 : decode method_19_code 17 = .ok (.ireturn, 1) := by decide +kernel
theorem d_La_tariff_18 : decode method_19_code 18 = .ok (.astore 5, 2) := by decide +kernel
theorem d_La_tariff_20 : decode method_19_code 20 = .ok (.iconst 2, 1) := by decide +kernel
theorem d_La_tariff_21 : decode method_19_code 21 = .ok (.ireturn, 1) := by decide +kernel
theorem d_La_tariff_22 : decode method_19_code 22 = .ok (.iconst 0, 1) := by decide +kernel
theorem d_La_tariff_23 : decode method_19_code 23 = .ok (.ireturn, 1) := by decide +kernel
def wb_La_tariff_14 (po : Option Value → Pic → Prop) (th : String → Pic → Prop) (P : Pic) (t0 : Nat) : Prop := po (some (.int (1 : Int32))) P
def wb_La_tariff_18 (po : Option Value → Pic → Prop) (th : String → Pic → Prop) (P : Pic) (t0 : Nat) : Prop := po (some (.int (2 : Int32))) P
def wp_La_tariff (po : Option Value → Pic → Prop) (th : String → Pic → Prop) (P : Pic) (a0 : Nat) (x1 : Int32) (w2 : Int64) (a4 : Nat) : Prop := p_k P a0 = 1 ∧ wp_Wa_tariff (cp_i fun x102 P103 => p_k P103 a4 = 102 ∧ vp_in (0 : Int32) (p_n P103 a4) ∧ po (some (.int (0 : Int32))) (s_al P103 a4 (Int32.toNatClampNeg (0 : Int32)) (Int32.toInt64 x102))) (fun X P103 => if X = "java/lang/IllegalArgumentException" then (∀ (xx : Nat), wb_La_tariff_14 po th P103 xx) else if X = "java/lang/IllegalStateException" then (∀ (xx : Nat), wb_La_tariff_18 po th P103 xx) else False) P a0 x1 w2
set_option maxHeartbeats 4000000 in
set_option maxRecDepth 100000 in
theorem wk_La_tariff_14 {p : Program} {l : Launch} {e : Env} {s : State} {m : MethodId} {args : Array Value} {below : List Frame} {meth : Method} {c : Code} {D : pq_D} {P0 : Pic} {po : Option Value → Pic → Prop} {th : String → Pic → Prop} (hfl : l.flags = flags0) (C : Cx p e s m args meth c method_19_code 6 "WaterWorksLaw" D P0) (hmg : e.platform.magicAccessors = ({} : Platform).magicAccessors) (hr : meth.sig.returnType = (some .int)) (hin : meth.name = "tariff") (htab : c.exceptionTable.toList = tableOf [(0, 11, 14, 21), (0, 11, 18, 13)]) : ∀ (P : Pic) (t0 : Nat) (H : Heap) (locs : List Loc) (cells slots : Nat) (ls : Array Slot), wb_La_tariff_14 po th P t0 → Pi D P H → Sg (cq_A P0 s) s.heap H P locs → lv_has ls 6 [] → cells + 0 ≤ 4 → slots + 0 ≤ 78 → W p l e rm_La_tariff s m args below meth c H locs cells slots (mt_MQ below (cq_Q D P0 false po th) args s 4 78 (cq_free P0 false)) (F0 m 14 ls [.ref t0]) := by
  intro P t0 H locs cells slots ls h hP hS hl hcc hss
  obtain ⟨hx, hb, hml, hown, hlocks, htr, hT, hK, hSt, hN, hP0⟩ := id C
  unfold wb_La_tariff_14 at h
  refine lv_astore (pc := 14) (lv' := [(5, .ref t0)]) hx hb d_La_tariff_14 hl (by decide) rfl (fun ls hl => ?_)
  refine lv_iconst (pc := 16) (v := 1) hx hb d_La_tariff_16 (by decide) ?_
  exact we_i (pc := 17) hx hb hlocks hr hP hS (show cells + 0 ≤ 4 by omega) (show slots + 0 ≤ 78 by omega) h d_La_tariff_17
set_option maxHeartbeats 4000000 in
set_option maxRecDepth 100000 in
theorem wk_La_tariff_18 {p : Program} {l : Launch} {e : Env} {s : State} {m : MethodId} {args : Array Value} {below : List Frame} {meth : Method} {c : Code} {D : pq_D} {P0 : Pic} {po : Option Value → Pic → Prop} {th : String → Pic → Prop} (hfl : l.flags = flags0) (C : Cx p e s m args meth c method_19_code 6 "WaterWorksLaw" D P0) (hmg : e.platform.magicAccessors = ({} : Platform).magicAccessors) (hr : meth.sig.returnType = (some .int)) (hin : meth.name = "tariff") (htab : c.exceptionTable.toList = tableOf [(0, 11, 14, 21), (0, 11, 18, 13)]) : ∀ (P : Pic) (t0 : Nat) (H : Heap) (locs : List Loc) (cells slots : Nat) (ls : Array Slot), wb_La_tariff_18 po th P t0 → Pi D P H → Sg (cq_A P0 s) s.heap H P locs → lv_has ls 6 [] → cells + 0 ≤ 4 → slots + 0 ≤ 78 → W p l e rm_La_tariff s m args below meth c H locs cells slots (mt_MQ below (cq_Q D P0 false po th) args s 4 78 (cq_free P0 false)) (F0 m 18 ls [.ref t0]) := by
  intro P t0 H locs cells slots ls h hP hS hl hcc hss
  obtain ⟨hx, hb, hml, hown, hlocks, htr, hT, hK, hSt, hN, hP0⟩ := id C
  unfold wb_La_tariff_18 at h
  refine lv_astore (pc := 18) (lv' := [(5, .ref t0)]) hx hb d_La_tariff_18 hl (by decide) rfl (fun ls hl => ?_)
  refine lv_iconst (pc := 20) (v := 2) hx hb d_La_tariff_20 (by decide) ?_
  exact we_i (pc := 21) hx hb hlocks hr hP hS (show cells + 0 ≤ 4 by omega) (show slots + 0 ≤ 78 by omega) h d_La_tariff_21
set_option maxHeartbeats 4000000 in
set_option maxRecDepth 100000 in
theorem ct_La_tariff {l : Launch} (hfl : l.flags = flags0) (D : pq_D) {po : Option Value → Pic → Prop} {th : String → Pic → Prop} {P : Pic} {a0 : Nat} {x1 : Int32} {w2 : Int64} {a4 : Nat} (h : wp_La_tariff po th P a0 x1 w2 a4) : CT l D y_La_tariff (.codeWith y_La_tariff method_19_code 6 (some .int) [(0, 11, 14, 21), (0, 11, 18, 13)]) rm_La_tariff false [.ref a0, .int x1, .long w2, .ref a4] P po th := by
  refine ct_of (hs := [(0, 11, 14, 21), (0, 11, 18, 13)]) hfl (by decide +kernel) (Or.inr rfl) (Nat.le_of_ble_eq_true rfl) ?_
  intro p e s m below meth c C hmg hr hin htab ls hl
  have hl : lv_has ls 6 [(0, .ref a0), (1, .int x1), (2, .long w2), (4, .ref a4)] := hl
  generalize hargs : ([.ref a0, .int x1, .long w2, .ref a4] : List Value).toArray = args at C ⊢
  obtain ⟨hx, hb, hml, hown, hlocks, htr, hT, hK, hSt, hN, hP0⟩ := id C
  have hP : Pi D P s.heap := hP0
  have hS : Sg (cq_A P s) s.heap s.heap P [] := Sg.start hP0
  unfold wp_La_tariff at h
  refine lv_aload (pc := 0) hx hb d_La_tariff_0 (lv_at hl 3 rfl) ?_
  refine lv_iconst (pc := 2) (v := 0) hx hb d_La_tariff_2 (by decide) ?_
  refine lv_aload_n (pc := 3) hx hb d_La_tariff_3 rfl (lv_at hl 0 rfl) ?_
  refine lv_iload_n (pc := 4) hx hb d_La_tariff_4 rfl (lv_at hl 1 rfl) ?_
  refine lv_lload_n (pc := 5) hx hb d_La_tariff_5 rfl (lv_at hl 2 rfl) ?_
  obtain ⟨hk101, h⟩ := h
  refine cc_i (pc := 6) C (rest := [.int (0 : Int32), .ref a4]) (mt_invV (As := [.int x1, .long w2]) hx hb hown (hT _ k_978 _) (hT _ k_979 _) (hT _ k_980 _) (mt_Cd.code (hT _ k_981 #[])) h_Wa_tariff (pq_recv hK hP hk101 rfl) n_Wa_tariff rfl d_La_tariff_6) (ct_Wa_tariff hfl D h) k_981 k_1 ⟨Nat.le_of_ble_eq_true rfl, Nat.le_of_ble_eq_true rfl⟩ ⟨(show 0 + 4 ≤ 4 by omega), (show 0 + 78 ≤ 78 by omega)⟩ hl.1 d_La_tariff_6 (Nat.le_of_ble_eq_true rfl) hP hS (fun x102 P103 H locs h hP hS => ?_) (fun xx X P103 H locs h hX hex hP hS => ?_)
  · refine lv_i2l (pc := 9) hx hb d_La_tariff_9 rfl ?_
    obtain ⟨hk104, h⟩ := h
    obtain ⟨hi105, h⟩ := h
    refine pq_last (pc := 10) hx hb hK hP hS hk104 hi105 d_La_tariff_10 (fun H locs hP hS => ?_)
    have hk104 : p_k (s_al P103 a4 (Int32.toNatClampNeg (0 : Int32)) (Int32.toInt64 x102)) a4 = 102 := by rw [pk_al]; exact hk104
    refine lv_goto (pc := 11) (tgt := 22) hx hb d_La_tariff_11 (by decide) ?_
    refine lv_iconst (pc := 22) (v := 0) hx hb d_La_tariff_22 (by decide) ?_
    exact we_i (pc := 23) hx hb hlocks hr hP hS (show 0 + 4 + 0 ≤ 4 by omega) (show 0 + 78 + 0 ≤ 78 by omega) h d_La_tariff_23
  · by_cases hX0 : X = "java/lang/IllegalArgumentException"
    · subst hX0
      simp only [String.reduceEq, if_true, if_false, reduceIte] at h
      refine cq_caught (hs := [(0, 11, 14, 21), (0, 11, 18, 13)]) (i := 0) (ys := ["java/lang/IllegalArgumentException", "java/lang/IllegalStateException"]) C htab hX hex k_69 hmg (by decide) rfl (fun j hj => by match j, hj with | 0, _ => exact ⟨by decide, k_579, by decide, by decide, by decide⟩ | j + 1, hj => omega) (fun j hj => by match j, hj with  | j + 0, hj => omega) rfl ?_
      replace h := h xx
      exact wk_La_tariff_14 hfl C hmg hr hin htab _ xx _ _ _ _ _ h hP hS (lv_sub hl [] rfl) (show 0 + 4 + 0 ≤ 4 by omega) (show 0 + 78 + 0 ≤ 78 by omega)
    by_cases hX1 : X = "java/lang/IllegalStateException"
    · subst hX1
      simp only [String.reduceEq, if_true, if_false, reduceIte] at h
      refine cq_caught (hs := [(0, 11, 14, 21), (0, 11, 18, 13)]) (i := 1) (ys := ["java/lang/IllegalArgumentException", "java/lang/IllegalStateException"]) C htab hX hex k_480 hmg (by decide) rfl (fun j hj => by match j, hj with | 0, _ => exact ⟨by decide, k_579, by decide, by decide, by decide⟩ | 1, _ => exact ⟨by decide, k_466, by decide, by decide, by decide⟩ | j + 2, hj => omega) (fun j hj => by match j, hj with | 0, _ => decide | j + 1, hj => omega) rfl ?_
      replace h := h xx
      exact wk_La_tariff_18 hfl C hmg hr hin htab _ xx _ _ _ _ _ h hP hS (lv_sub hl [] rfl) (show 0 + 4 + 0 ≤ 4 by omega) (show 0 + 78 + 0 ≤ 78 by omega)
    exact absurd h (by simp [hX0, hX1])
/-! WaterWorksLaw.bill(LWaterWorks;II[J)I -/
abbrev y_La_bill : MethodName := ⟨"WaterWorksLaw", "bill", "(LWaterWorks;II[J)I"⟩
abbrev rm_La_bill : Room := { frames := 9, cells := 19, slots := 169, locals := 218 }
theorem h_La_bill : y_La_bill.cls ≠ "java/lang/invoke/MethodHandle" ∧ y_La_bill.cls ≠ "java/lang/invoke/VarHandle" := by decide +kernel
theorem n_La_bill : (parseMethodDescriptor y_La_bill.desc).map (fun d => d.parameters.length) = some 4 := by decide +kernel
theorem d_La_bill_0 : decode method_20_code 0 = .ok (.aload_n 3, 1) := by decide +kernel
theorem d_La_bill_1 : decode method_20_code 1 = .ok (.iconst 0, 1) := by decide +kernel
theorem d_La_bill_2 : decode method_20_code 2 = .ok (.aload_n 0, 1) := by decide +kernel
theorem d_La_bill_3 : decode method_20_code 3 = .ok (.iload_n 1, 1) := by decide +kernel
theorem d_La_bill_4 : decode method_20_code 4 = .ok (.iload_n 2, 1) := by decide +kernel
theorem d_La_bill_5 : decode method_20_code 5 = .ok (.invokevirtual 76, 3) := by decide +kernel
theorem d_La_bill_8 : decode method_20_code 8 = .ok (.lastore, 1) := by decide +kernel
theorem d_La_bill_9 : decode method_20_code 9 = .ok (.goto 19, 3) := by decide +kernel
theorem d_La_bill_12 : decode method_20_code 12 = .ok (.astore 4, 2) := by decide +kernel
theorem d_La_bill_14 : decode method_20_code 14 = .ok (.iconst 1, 1) := by decide +kernel
theorem d_La_bill_15 : decode method_20_code 15 = .ok (.ireturn, 1) := by decide +kernel
theorem d_La_bill_16 : decode method_20_code 16 = .ok (.astore 4, 2) := by decide +kernel
theorem d_La_bill_18 : decode method_20_code 18 = .ok (.iconst 2, 1) := by decide +kernel
theorem d_La_bill_19 : decode method_20_code 19 = .ok (.ireturn, 1) := by decide +kernel
theorem d_La_bill_20 : decode method_20_code 20 = .ok (.astore 4, 2) := by decide +kernel
theorem d_La_bill_22 : decode method_20_code 22 = .ok (.iconst 3, 1) := by decide +kernel
theorem d_La_bill_23 : decode method_20_code 23 = .ok (.ireturn, 1) := by decide +kernel
theorem d_La_bill_24 : decode method_20_code 24 = .ok (.astore 4, 2) := by decide +kernel
theorem d_La_bill_26 : decode method_20_code 26 = .ok (.iconst 4, 1) := by decide +kernel
theorem d_La_bill_27 : decode method_20_code 27 = .ok (.ireturn, 1) := by decide +kernel
theorem d_La_bill_28 : decode method_20_code 28 = .ok (.iconst 0, 1) := by decide +kernel
theorem d_La_bill_29 : decode method_20_code 29 = .ok (.ireturn, 1) := by decide +kernel
def wb_La_bill_12 (po : Option Value → Pic → Prop) (th : String → Pic → Prop) (P : Pic) (t0 : Nat) : Prop := po (some (.int (1 : Int32))) P
def wb_La_bill_16 (po : Option Value → Pic → Prop) (th : String → Pic → Prop) (P : Pic) (t0 : Nat) : Prop := po (some (.int (2 : Int32))) P
def wb_La_bill_20 (po : Option Value → Pic → Prop) (th : String → Pic → Prop) (P : Pic) (t0 : Nat) : Prop := po (some (.int (3 : Int32))) P
def wb_La_bill_24 (po : Option Value → Pic → Prop) (th : String → Pic → Prop) (P : Pic) (t0 : Nat) : Prop := po (some (.int (4 : Int32))) P
def wp_La_bill (po : Option Value → Pic → Prop) (th : String → Pic → Prop) (P : Pic) (a0 : Nat) (x1 : Int32) (x2 : Int32) (a3 : Nat) : Prop := p_k P a0 = 1 ∧ wp_Wa_bill (cp_l fun w102 P103 => p_k P103 a3 = 102 ∧ vp_in (0 : Int32) (p_n P103 a3) ∧ po (some (.int (0 : Int32))) (s_al P103 a3 (Int32.toNatClampNeg (0 : Int32)) w102)) (fun X P103 => if X = "java/lang/IndexOutOfBoundsException" then (∀ (xx : Nat), wb_La_bill_12 po th P103 xx) else if X = "java/lang/IllegalArgumentException" then (∀ (xx : Nat), wb_La_bill_16 po th P103 xx) else if X = "java/lang/IllegalStateException" then (∀ (xx : Nat), wb_La_bill_20 po th P103 xx) else if X = "java/util/NoSuchElementException" then (∀ (xx : Nat), wb_La_bill_24 po th P103 xx) else False) P a0 x1 x2
set_option maxHeartbeats 4000000 in
set_option maxRecDepth 100000 in
theorem wk_La_bill_12 {p : Program} {l : Launch} {e : Env} {s : State} {m : MethodId} {args : Array Value} {below : List Frame} {meth : Method} {c : Code} {D : pq_D} {P0 : Pic} {po : Option Value → Pic → Prop} {th : String → Pic → Prop} (hfl : l.flags = flags0) (C : Cx p e s m args meth c method_20_code 5 "WaterWorksLaw" D P0) (hmg : e.platform.magicAccessors = ({} : Platform).magicAccessors) (hr : meth.sig.returnType = (some .int)) (hin : meth.name = "bill") (htab : c.exceptionTable.toList = tableOf [(0, 9, 12, 19), (0, 9, 16, 21), (0, 9, 20, 13), (0, 9, 24, 35)]) : ∀ (P : Pic) (t0 : Nat) (H : Heap) (locs : List Loc) (cells slots : Nat) (ls : Array Slot), wb_La_bill_12 po th P t0 → Pi D P H → Sg (cq_A P0 s) s.heap H P locs → lv_has ls 5 [] → cells + 0 ≤ 19 → slots + 0 ≤ 169 → W p l e rm_La_bill s m args below meth c H locs cells slots (mt_MQ below (cq_Q D P0 false po th) args s 19 169 (cq_free P0 false)) (F0 m 12 ls [.ref t0]) := by
  intro P t0 H locs cells slots ls h hP hS hl hcc hss
  obtain ⟨hx, hb, hml, hown, hlocks, htr, hT, hK, hSt, hN, hP0⟩ := id C
  unfold wb_La_bill_12 at h
  refine lv_astore (pc := 12) (lv' := [(4, .ref t0)]) hx hb d_La_bill_12 hl (by decide) rfl (fun ls hl => ?_)
  refine lv_iconst (pc := 14) (v := 1) hx hb d_La_bill_14 (by decide) ?_
  exact we_i (pc := 15) hx hb hlocks hr hP hS (show cells + 0 ≤ 19 by omega) (show slots + 0 ≤ 169 by omega) h d_La_bill_15
set_option maxHeartbeats 4000000 in
set_option maxRecDepth 100000 in
theorem wk_La_bill_16 {p : Program} {l : Launch} {e : Env} {s : State} {m : MethodId} {args : Array Value} {below : List Frame} {meth : Method} {c : Code} {D : pq_D} {P0 : Pic} {po : Option Value → Pic → Prop} {th : String → Pic → Prop} (hfl : l.flags = flags0) (C : Cx p e s m args meth c method_20_code 5 "WaterWorksLaw" D P0) (hmg : e.platform.magicAccessors = ({} : Platform).magicAccessors) (hr : meth.sig.returnType = (some .int)) (hin : meth.name = "bill") (htab : c.exceptionTable.toList = tableOf [(0, 9, 12, 19), (0, 9, 16, 21), (0, 9, 20, 13), (0, 9, 24, 35)]) : ∀ (P : Pic) (t0 : Nat) (H : Heap) (locs : List Loc) (cells slots : Nat) (ls : Array Slot), wb_La_bill_16 po th P t0 → Pi D P H → Sg (cq_A P0 s) s.heap H P locs → lv_has ls 5 [] → cells + 0 ≤ 19 → slots + 0 ≤ 169 → W p l e rm_La_bill s m args below meth c H locs cells slots (mt_MQ below (cq_Q D P0 false po th) args s 19 169 (cq_free P0 false)) (F0 m 16 ls [.ref t0]) := by
  intro P t0 H locs cells slots ls h hP hS hl hcc hss
  obtain ⟨hx, hb, hml, hown, hlocks, htr, hT, hK, hSt, hN, hP0⟩ := id C
  unfold wb_La_bill_16 at h
  refine lv_astore (pc := 16) (lv' := [(4, .ref t0)]) hx hb d_La_bill_16 hl (by decide) rfl (fun ls hl => ?_)
  refine lv_iconst (pc := 18) (v := 2) hx hb d_La_bill_18 (by decide) ?_
  exact we_i (pc := 19) hx hb hlocks hr hP hS (show cells + 0 ≤ 19 by omega) (show slots + 0 ≤ 169 by omega) h d_La_bill_19
set_option maxHeartbeats 4000000 in
set_option maxRecDepth 100000 in
theorem wk_La_bill_20 {p : Program} {l : Launch} {e : Env} {s : State} {m : MethodId} {args : Array Value} {below : List Frame} {meth : Method} {c : Code} {D : pq_D} {P0 : Pic} {po : Option Value → Pic → Prop} {th : String → Pic → Prop} (hfl : l.flags = flags0) (C : Cx p e s m args meth c method_20_code 5 "WaterWorksLaw" D P0) (hmg : e.platform.magicAccessors = ({} : Platform).magicAccessors) (hr : meth.sig.returnType = (some .int)) (hin : meth.name = "bill") (htab : c.exceptionTable.toList = tableOf [(0, 9, 12, 19), (0, 9, 16, 21), (0, 9, 20, 13), (0, 9, 24, 35)]) : ∀ (P : Pic) (t0 : Nat) (H : Heap) (locs : List Loc) (cells slots : Nat) (ls : Array Slot), wb_La_bill_20 po th P t0 → Pi D P H → Sg (cq_A P0 s) s.heap H P locs → lv_has ls 5 [] → cells + 0 ≤ 19 → slots + 0 ≤ 169 → W p l e rm_La_bill s m args below meth c H locs cells slots (mt_MQ below (cq_Q D P0 false po th) args s 19 169 (cq_free P0 false)) (F0 m 20 ls [.ref t0]) := by
  intro P t0 H locs cells slots ls h hP hS hl hcc hss
  obtain ⟨hx, hb, hml, hown, hlocks, htr, hT, hK, hSt, hN, hP0⟩ := id C
  unfold wb_La_bill_20 at h
  refine lv_astore (pc := 20) (lv' := [(4, .ref t0)]) hx hb d_La_bill_20 hl (by decide) rfl (fun ls hl => ?_)
  refine lv_iconst (pc := 22) (v := 3) hx hb d_La_bill_22 (by decide) ?_
  exact we_i (pc := 23) hx hb hlocks hr hP hS (show cells + 0 ≤ 19 by omega) (show slots + 0 ≤ 169 by omega) h d_La_bill_23
set_option maxHeartbeats 4000000 in
set_option maxRecDepth 100000 in
theorem wk_La_bill_24 {p : Program} {l : Launch} {e : Env} {s : State} {m : MethodId} {args : Array Value} {below : List Frame} {meth : Method} {c : Code} {D : pq_D} {P0 : Pic} {po : Option Value → Pic → Prop} {th : String → Pic → Prop} (hfl : l.flags = flags0) (C : Cx p e s m args meth c method_20_code 5 "WaterWorksLaw" D P0) (hmg : e.platform.magicAccessors = ({} : Platform).magicAccessors) (hr : meth.sig.returnType = (some .int)) (hin : meth.name = "bill") (htab : c.exceptionTable.toList = tableOf [(0, 9, 12, 19), (0, 9, 16, 21), (0, 9, 20, 13), (0, 9, 24, 35)]) : ∀ (P : Pic) (t0 : Nat) (H : Heap) (locs : List Loc) (cells slots : Nat) (ls : Array Slot), wb_La_bill_24 po th P t0 → Pi D P H → Sg (cq_A P0 s) s.heap H P locs → lv_has ls 5 [] → cells + 0 ≤ 19 → slots + 0 ≤ 169 → W p l e rm_La_bill s m args below meth c H locs cells slots (mt_MQ below (cq_Q D P0 false po th) args s 19 169 (cq_free P0 false)) (F0 m 24 ls [.ref t0]) := by
  intro P t0 H locs cells slots ls h hP hS hl hcc hss
  obtain ⟨hx, hb, hml, hown, hlocks, htr, hT, hK, hSt, hN, hP0⟩ := id C
  unfold wb_La_bill_24 at h
  refine lv_astore (pc := 24) (lv' := [(4, .ref t0)]) hx hb d_La_bill_24 hl (by decide) rfl (fun ls hl => ?_)
  refine lv_iconst (pc := 26) (v := 4) hx hb d_La_bill_26 (by decide) ?_
  exact we_i (pc := 27) hx hb hlocks hr hP hS (show cells + 0 ≤ 19 by omega) (show slots + 0 ≤ 169 by omega) h d_La_bill_27
set_option maxHeartbeats 4000000 in
set_option maxRecDepth 100000 in
theorem ct_La_bill {l : Launch} (hfl : l.flags = flags0) (D : pq_D) {po : Option Value → Pic → Prop} {th : String → Pic → Prop} {P : Pic} {a0 : Nat} {x1 : Int32} {x2 : Int32} {a3 : Nat} (h : wp_La_bill po th P a0 x1 x2 a3) : CT l D y_La_bill (.codeWith y_La_bill method_20_code 5 (some .int) [(0, 9, 12, 19), (0, 9, 16, 21), (0, 9, 20, 13), (0, 9, 24, 35)]) rm_La_bill false [.ref a0, .int x1, .int x2, .ref a3] P po th := by
  refine ct_of (hs := [(0, 9, 12, 19), (0, 9, 16, 21), (0, 9, 20, 13), (0, 9, 24, 35)]) hfl (by decide +kernel) (Or.inr rfl) (Nat.le_of_ble_eq_true rfl) ?_
  intro p e s m below meth c C hmg hr hin htab ls hl
  have hl : lv_has ls 5 [(0, .ref a0), (1, .int x1), (2, .int x2), (3, .ref a3)] := hl
  generalize hargs : ([.ref a0, .int x1, .int x2, .ref a3] : List Value).toArray = args at C ⊢
  obtain ⟨hx, hb, hml, hown, hlocks, htr, hT, hK, hSt, hN, hP0⟩ := id C
  have hP : Pi D P s.heap := hP0
  have hS : Sg (cq_A P s) s.heap s.heap P [] := Sg.start hP0
  unfold wp_La_bill at h
  refine lv_aload_n (pc := 0) hx hb d_La_bill_0 rfl (lv_at hl 3 rfl) ?_
  refine lv_iconst (pc := 1) (v := 0) hx hb d_La_bill_1 (by decide) ?_
  refine lv_aload_n (pc := 2) hx hb d_La_bill_2 rfl (lv_at hl 0 rfl) ?_
  refine lv_iload_n (pc := 3) hx hb d_La_bill_3 rfl (lv_at hl 1 rfl) ?_
  refine lv_iload_n (pc := 4) hx hb d_La_bill_4 rfl (lv_at hl 2 rfl) ?_
  obtain ⟨hk101, h⟩ := h
  refine cc_l (pc := 5) C (rest := [.int (0 : Int32), .ref a3]) (mt_invV (As := [.int x1, .int x2]) hx hb hown (hT _ k_1028 _) (hT _ k_1029 _) (hT _ k_1030 _) (mt_Cd.code (hT _ k_1031 #[])) h_Wa_bill (pq_recv hK hP hk101 rfl) n_Wa_bill rfl d_La_bill_5) (ct_Wa_bill hfl D h) k_1031 k_1 ⟨Nat.le_of_ble_eq_true rfl, Nat.le_of_ble_eq_true rfl⟩ ⟨(show 0 + 19 ≤ 19 by omega), (show 0 + 169 ≤ 169 by omega)⟩ hl.1 d_La_bill_5 (Nat.le_of_ble_eq_true rfl) hP hS (fun w102 P103 H locs h hP hS => ?_) (fun xx X P103 H locs h hX hex hP hS => ?_)
  · obtain ⟨hk104, h⟩ := h
    obtain ⟨hi105, h⟩ := h
    refine pq_last (pc := 8) hx hb hK hP hS hk104 hi105 d_La_bill_8 (fun H locs hP hS => ?_)
    have hk104 : p_k (s_al P103 a3 (Int32.toNatClampNeg (0 : Int32)) w102) a3 = 102 := by rw [pk_al]; exact hk104
    refine lv_goto (pc := 9) (tgt := 28) hx hb d_La_bill_9 (by decide) ?_
    refine lv_iconst (pc := 28) (v := 0) hx hb d_La_bill_28 (by decide) ?_
    exact we_i (pc := 29) hx hb hlocks hr hP hS (show 0 + 19 + 0 ≤ 19 by omega) (show 0 + 169 + 0 ≤ 169 by omega) h d_La_bill_29
  · by_cases hX0 : X = "java/lang/IndexOutOfBoundsException"
    · subst hX0
      simp only [String.reduceEq, if_true, if_false, reduceIte] at h
      refine cq_caught (hs := [(0, 9, 12, 19), (0, 9, 16, 21), (0, 9, 20, 13), (0, 9, 24, 35)]) (i := 0) (ys := ["java/lang/IndexOutOfBoundsException", "java/lang/IllegalArgumentException", "java/lang/IllegalStateException", "java/util/NoSuchElementException"]) C htab hX hex k_593 hmg (by decide) rfl (fun j hj => by match j, hj with | 0, _ => exact ⟨by decide, k_578, by decide, by decide, by decide⟩ | j + 1, hj => omega) (fun j hj => by match j, hj with  | j + 0, hj => omega) rfl ?_
      replace h := h xx
      exact wk_La_bill_12 hfl C hmg hr hin htab _ xx _ _ _ _ _ h hP hS (lv_sub hl [] rfl) (show 0 + 19 + 0 ≤ 19 by omega) (show 0 + 169 + 0 ≤ 169 by omega)
    by_cases hX1 : X = "java/lang/IllegalArgumentException"
    · subst hX1
      simp only [String.reduceEq, if_true, if_false, reduceIte] at h
      refine cq_caught (hs := [(0, 9, 12, 19), (0, 9, 16, 21), (0, 9, 20, 13), (0, 9, 24, 35)]) (i := 1) (ys := ["java/lang/IndexOutOfBoundsException", "java/lang/IllegalArgumentException", "java/lang/IllegalStateException", "java/util/NoSuchElementException"]) C htab hX hex k_69 hmg (by decide) rfl (fun j hj => by match j, hj with | 0, _ => exact ⟨by decide, k_578, by decide, by decide, by decide⟩ | 1, _ => exact ⟨by decide, k_579, by decide, by decide, by decide⟩ | j + 2, hj => omega) (fun j hj => by match j, hj with | 0, _ => decide | j + 1, hj => omega) rfl ?_
      replace h := h xx
      exact wk_La_bill_16 hfl C hmg hr hin htab _ xx _ _ _ _ _ h hP hS (lv_sub hl [] rfl) (show 0 + 19 + 0 ≤ 19 by omega) (show 0 + 169 + 0 ≤ 169 by omega)
    by_cases hX2 : X = "java/lang/IllegalStateException"
    · subst hX2
      simp only [String.reduceEq, if_true, if_false, reduceIte] at h
      refine cq_caught (hs := [(0, 9, 12, 19), (0, 9, 16, 21), (0, 9, 20, 13), (0, 9, 24, 35)]) (i := 2) (ys := ["java/lang/IndexOutOfBoundsException", "java/lang/IllegalArgumentException", "java/lang/IllegalStateException", "java/util/NoSuchElementException"]) C htab hX hex k_480 hmg (by decide) rfl (fun j hj => by match j, hj with | 0, _ => exact ⟨by decide, k_578, by decide, by decide, by decide⟩ | 1, _ => exact ⟨by decide, k_579, by decide, by decide, by decide⟩ | 2, _ => exact ⟨by decide, k_466, by decide, by decide, by decide⟩ | j + 3, hj => omega) (fun j hj => by match j, hj with | 0, _ => decide | 1, _ => decide | j + 2, hj => omega) rfl ?_
      replace h := h xx
      exact wk_La_bill_20 hfl C hmg hr hin htab _ xx _ _ _ _ _ h hP hS (lv_sub hl [] rfl) (show 0 + 19 + 0 ≤ 19 by omega) (show 0 + 169 + 0 ≤ 169 by omega)
    by_cases hX3 : X = "java/util/NoSuchElementException"
    · subst hX3
      simp only [String.reduceEq, if_true, if_false, reduceIte] at h
      refine cq_caught (hs := [(0, 9, 12, 19), (0, 9, 16, 21), (0, 9, 20, 13), (0, 9, 24, 35)]) (i := 3) (ys := ["java/lang/IndexOutOfBoundsException", "java/lang/IllegalArgumentException", "java/lang/IllegalStateException", "java/util/NoSuchElementException"]) C htab hX hex k_730 hmg (by decide) rfl (fun j hj => by match j, hj with | 0, _ => exact ⟨by decide, k_578, by decide, by decide, by decide⟩ | 1, _ => exact ⟨by decide, k_579, by decide, by decide, by decide⟩ | 2, _ => exact ⟨by decide, k_466, by decide, by decide, by decide⟩ | 3, _ => exact ⟨by decide, k_716, by decide, by decide, by decide⟩ | j + 4, hj => omega) (fun j hj => by match j, hj with | 0, _ => decide | 1, _ => decide | 2, _ => decide | j + 3, hj => omega) rfl ?_
      replace h := h xx
      exact wk_La_bill_24 hfl C hmg hr hin htab _ xx _ _ _ _ _ h hP hS (lv_sub hl [] rfl) (show 0 + 19 + 0 ≤ 19 by omega) (show 0 + 169 + 0 ≤ 169 by omega)
    exact absurd h (by simp [hX0, hX1, hX2, hX3])
/-! WaterWorksLaw.correct(LWaterWorks;I[J)I -/
abbrev y_La_correct : MethodName := ⟨"WaterWorksLaw", "correct", "(LWaterWorks;I[J)I"⟩
abbrev rm_La_correct : Room := { frames := 10, cells := 203, slots := 1218, locals := 231 }
theorem h_La_correct : y_La_correct.cls ≠ "java/lang/invoke/MethodHandle" ∧ y_La_correct.cls ≠ "java/lang/invoke/VarHandle" := by decide +kernel
theorem n_La_correct : (parseMethodDescriptor y_La_correct.desc).map (fun d => d.parameters.length) = some 3 := by decide +kernel
theorem d_La_correct_0 : decode method_21_code 0 = .ok (.aload_n 2, 1) := by decide +kernel
theorem d_La_correct_1 : decode method_21_code 1 = .ok (.iconst 0, 1) := by decide +kernel
theorem d_La_correct_2 : decode method_21_code 2 = .ok (.aload_n 0, 1) := by decide +kernel
theorem d_La_correct_3 : decode method_21_code 3 = .ok (.iload_n 1, 1) := by decide +kernel
theorem d_La_correct_4 : decode method_21_code 4 = .ok (.invokevirtual 80, 3) := by decide +kernel
theorem d_La_correct_7 : decode method_21_code 7 = .ok (.lastore, 1) := by decide +kernel
theorem d_La_correct_8 : decode method_21_code 8 = .ok (.goto 9, 3) := by decide +kernel
theorem d_La_correct_11 : decode method_21_code 11 = .ok (.astore_n 3, 1) := by decide +kernel
theorem d_La_correct_12 : decode method_21_code 12 = .ok (.iconst 1, 1) := by decide +kernel
theorem d_La_correct_13 : decode method_21_code 13 = .ok (.ireturn, 1) := by decide +kernel
theorem d_La_correct_14 : decode method_21_code 14 = .ok (.astore_n 3, 1) := by decide +kernel
theorem d_La_correct_15 : decode method_21_code 15 = .ok (.iconst 2, 1) := by decide +kernel
theorem d_La_correct_16 : decode method_21_code 16 = .ok (.ireturn, 1) := by decide +kernel
theorem d_La_correct_17 : decode method_21_code 17 = .ok (.iconst 0, 1) := by decide +kernel
theorem d_La_correct_18 : decode method_21_code 18 = .ok (.ireturn, 1) := by decide +kernel
def wb_La_correct_11 (po : Option Value → Pic → Prop) (th : String → Pic → Prop) (P : Pic) (t0 : Nat) : Prop := po (some (.int (1 : Int32))) P
def wb_La_correct_14 (po : Option Value → Pic → Prop) (th : String → Pic → Prop) (P : Pic) (t0 : Nat) : Prop := po (some (.int (2 : Int32))) P
def wp_La_correct (po : Option Value → Pic → Prop) (th : String → Pic → Prop) (P : Pic) (a0 : Nat) (x1 : Int32) (a2 : Nat) : Prop := p_k P a0 = 1 ∧ wp_Wa_correct (cp_l fun w102 P103 => p_k P103 a2 = 102 ∧ vp_in (0 : Int32) (p_n P103 a2) ∧ po (some (.int (0 : Int32))) (s_al P103 a2 (Int32.toNatClampNeg (0 : Int32)) w102)) (fun X P103 => if X = "java/lang/IndexOutOfBoundsException" then (∀ (xx : Nat), wb_La_correct_11 po th P103 xx) else if X = "java/util/NoSuchElementException" then (∀ (xx : Nat), wb_La_correct_14 po th P103 xx) else False) P a0 x1
set_option maxHeartbeats 4000000 in
set_option maxRecDepth 100000 in
theorem wk_La_correct_11 {p : Program} {l : Launch} {e : Env} {s : State} {m : MethodId} {args : Array Value} {below : List Frame} {meth : Method} {c : Code} {D : pq_D} {P0 : Pic} {po : Option Value → Pic → Prop} {th : String → Pic → Prop} (hfl : l.flags = flags0) (C : Cx p e s m args meth c method_21_code 4 "WaterWorksLaw" D P0) (hmg : e.platform.magicAccessors = ({} : Platform).magicAccessors) (hr : meth.sig.returnType = (some .int)) (hin : meth.name = "correct") (htab : c.exceptionTable.toList = tableOf [(0, 8, 11, 19), (0, 8, 14, 35)]) : ∀ (P : Pic) (t0 : Nat) (H : Heap) (locs : List Loc) (cells slots : Nat) (ls : Array Slot), wb_La_correct_11 po th P t0 → Pi D P H → Sg (cq_A P0 s) s.heap H P locs → lv_has ls 4 [] → cells + 0 ≤ 203 → slots + 0 ≤ 1218 → W p l e rm_La_correct s m args below meth c H locs cells slots (mt_MQ below (cq_Q D P0 false po th) args s 203 1218 (cq_free P0 false)) (F0 m 11 ls [.ref t0]) := by
  intro P t0 H locs cells slots ls h hP hS hl hcc hss
  obtain ⟨hx, hb, hml, hown, hlocks, htr, hT, hK, hSt, hN, hP0⟩ := id C
  unfold wb_La_correct_11 at h
  refine lv_astore_n (pc := 11) (lv' := [(3, .ref t0)]) hx hb d_La_correct_11 rfl hl (by decide) rfl (fun ls hl => ?_)
  refine lv_iconst (pc := 12) (v := 1) hx hb d_La_correct_12 (by decide) ?_
  exact we_i (pc := 13) hx hb hlocks hr hP hS (show cells + 0 ≤ 203 by omega) (show slots + 0 ≤ 1218 by omega) h d_La_correct_13
set_option maxHeartbeats 4000000 in
set_option maxRecDepth 100000 in
theorem wk_La_correct_14 {p : Program} {l : Launch} {e : Env} {s : State} {m : MethodId} {args : Array Value} {below : List Frame} {meth : Method} {c : Code} {D : pq_D} {P0 : Pic} {po : Option Value → Pic → Prop} {th : String → Pic → Prop} (hfl : l.flags = flags0) (C : Cx p e s m args meth c method_21_code 4 "WaterWorksLaw" D P0) (hmg : e.platform.magicAccessors = ({} : Platform).magicAccessors) (hr : meth.sig.returnType = (some .int)) (hin : meth.name = "correct") (htab : c.exceptionTable.toList = tableOf [(0, 8, 11, 19), (0, 8, 14, 35)]) : ∀ (P : Pic) (t0 : Nat) (H : Heap) (locs : List Loc) (cells slots : Nat) (ls : Array Slot), wb_La_correct_14 po th P t0 → Pi D P H → Sg (cq_A P0 s) s.heap H P locs → lv_has ls 4 [] → cells + 0 ≤ 203 → slots + 0 ≤ 1218 → W p l e rm_La_correct s m args below meth c H locs cells slots (mt_MQ below (cq_Q D P0 false po th) args s 203 1218 (cq_free P0 false)) (F0 m 14 ls [.ref t0]) := by
  intro P t0 H locs cells slots ls h hP hS hl hcc hss
  obtain ⟨hx, hb, hml, hown, hlocks, htr, hT, hK, hSt, hN, hP0⟩ := id C
  unfold wb_La_correct_14 at h
  refine lv_astore_n (pc := 14) (lv' := [(3, .ref t0)]) hx hb d_La_correct_14 rfl hl (by decide) rfl (fun ls hl => ?_)
  refine lv_iconst (pc := 15) (v := 2) hx hb d_La_correct_15 (by decide) ?_
  exact we_i (pc := 16) hx hb hlocks hr hP hS (show cells + 0 ≤ 203 by omega) (show slots + 0 ≤ 1218 by omega) h d_La_correct_16
set_option maxHeartbeats 4000000 in
set_option maxRecDepth 100000 in
theorem ct_La_correct {l : Launch} (hfl : l.flags = flags0) (D : pq_D) {po : Option Value → Pic → Prop} {th : String → Pic → Prop} {P : Pic} {a0 : Nat} {x1 : Int32} {a2 : Nat} (h : wp_La_correct po th P a0 x1 a2) : CT l D y_La_correct (.codeWith y_La_correct method_21_code 4 (some .int) [(0, 8, 11, 19), (0, 8, 14, 35)]) rm_La_correct false [.ref a0, .int x1, .ref a2] P po th := by
  refine ct_of (hs := [(0, 8, 11, 19), (0, 8, 14, 35)]) hfl (by decide +kernel) (Or.inr rfl) (Nat.le_of_ble_eq_true rfl) ?_
  intro p e s m below meth c C hmg hr hin htab ls hl
  have hl : lv_has ls 4 [(0, .ref a0), (1, .int x1), (2, .ref a2)] := hl
  generalize hargs : ([.ref a0, .int x1, .ref a2] : List Value).toArray = args at C ⊢
  obtain ⟨hx, hb, hml, hown, hlocks, htr, hT, hK, hSt, hN, hP0⟩ := id C
  have hP : Pi D P s.heap := hP0
  have hS : Sg (cq_A P s) s.heap s.heap P [] := Sg.start hP0
  unfold wp_La_correct at h
  refine lv_aload_n (pc := 0) hx hb d_La_correct_0 rfl (lv_at hl 2 rfl) ?_
  refine lv_iconst (pc := 1) (v := 0) hx hb d_La_correct_1 (by decide) ?_
  refine lv_aload_n (pc := 2) hx hb d_La_correct_2 rfl (lv_at hl 0 rfl) ?_
  refine lv_iload_n (pc := 3) hx hb d_La_correct_3 rfl (lv_at hl 1 rfl) ?_
  obtain ⟨hk101, h⟩ := h
  refine cc_l (pc := 4) C (rest := [.int (0 : Int32), .ref a2]) (mt_invV (As := [.int x1]) hx hb hown (hT _ k_1078 _) (hT _ k_1079 _) (hT _ k_1080 _) (mt_Cd.code (hT _ k_1081 #[])) h_Wa_correct (pq_recv hK hP hk101 rfl) n_Wa_correct rfl d_La_correct_4) (ct_Wa_correct hfl D h) k_1081 k_1 ⟨Nat.le_of_ble_eq_true rfl, Nat.le_of_ble_eq_true rfl⟩ ⟨(show 0 + 203 ≤ 203 by omega), (show 0 + 1218 ≤ 1218 by omega)⟩ hl.1 d_La_correct_4 (Nat.le_of_ble_eq_true rfl) hP hS (fun w102 P103 H locs h hP hS => ?_) (fun xx X P103 H locs h hX hex hP hS => ?_)
  · obtain ⟨hk104, h⟩ := h
    obtain ⟨hi105, h⟩ := h
    refine pq_last (pc := 7) hx hb hK hP hS hk104 hi105 d_La_correct_7 (fun H locs hP hS => ?_)
    have hk104 : p_k (s_al P103 a2 (Int32.toNatClampNeg (0 : Int32)) w102) a2 = 102 := by rw [pk_al]; exact hk104
    refine lv_goto (pc := 8) (tgt := 17) hx hb d_La_correct_8 (by decide) ?_
    refine lv_iconst (pc := 17) (v := 0) hx hb d_La_correct_17 (by decide) ?_
    exact we_i (pc := 18) hx hb hlocks hr hP hS (show 0 + 203 + 0 ≤ 203 by omega) (show 0 + 1218 + 0 ≤ 1218 by omega) h d_La_correct_18
  · by_cases hX0 : X = "java/lang/IndexOutOfBoundsException"
    · subst hX0
      simp only [String.reduceEq, if_true, if_false, reduceIte] at h
      refine cq_caught (hs := [(0, 8, 11, 19), (0, 8, 14, 35)]) (i := 0) (ys := ["java/lang/IndexOutOfBoundsException", "java/util/NoSuchElementException"]) C htab hX hex k_593 hmg (by decide) rfl (fun j hj => by match j, hj with | 0, _ => exact ⟨by decide, k_578, by decide, by decide, by decide⟩ | j + 1, hj => omega) (fun j hj => by match j, hj with  | j + 0, hj => omega) rfl ?_
      replace h := h xx
      exact wk_La_correct_11 hfl C hmg hr hin htab _ xx _ _ _ _ _ h hP hS (lv_sub hl [] rfl) (show 0 + 203 + 0 ≤ 203 by omega) (show 0 + 1218 + 0 ≤ 1218 by omega)
    by_cases hX1 : X = "java/util/NoSuchElementException"
    · subst hX1
      simp only [String.reduceEq, if_true, if_false, reduceIte] at h
      refine cq_caught (hs := [(0, 8, 11, 19), (0, 8, 14, 35)]) (i := 1) (ys := ["java/lang/IndexOutOfBoundsException", "java/util/NoSuchElementException"]) C htab hX hex k_730 hmg (by decide) rfl (fun j hj => by match j, hj with | 0, _ => exact ⟨by decide, k_578, by decide, by decide, by decide⟩ | 1, _ => exact ⟨by decide, k_716, by decide, by decide, by decide⟩ | j + 2, hj => omega) (fun j hj => by match j, hj with | 0, _ => decide | j + 1, hj => omega) rfl ?_
      replace h := h xx
      exact wk_La_correct_14 hfl C hmg hr hin htab _ xx _ _ _ _ _ h hP hS (lv_sub hl [] rfl) (show 0 + 203 + 0 ≤ 203 by omega) (show 0 + 1218 + 0 ≤ 1218 by omega)
    exact absurd h (by simp [hX0, hX1])
/-! WaterWorksLaw.pay(LWaterWorks;II[J)I -/
abbrev y_La_pay : MethodName := ⟨"WaterWorksLaw", "pay", "(LWaterWorks;II[J)I"⟩
abbrev rm_La_pay : Room := { frames := 9, cells := 2, slots := 12, locals := 185 }
theorem h_La_pay : y_La_pay.cls ≠ "java/lang/invoke/MethodHandle" ∧ y_La_pay.cls ≠ "java/lang/invoke/VarHandle" := by decide +kernel
theorem n_La_pay : (parseMethodDescriptor y_La_pay.desc).map (fun d => d.parameters.length) = some 4 := by decide +kernel
theorem d_La_pay_0 : decode method_22_code 0 = .ok (.aload_n 3, 1) := by decide +kernel
theorem d_La_pay_1 : decode method_22_code 1 = .ok (.iconst 0, 1) := by decide +kernel
theorem d_La_pay_2 : decode method_22_code 2 = .ok (.aload_n 0, 1) := by decide +kernel
theorem d_La_pay_3 : decode method_22_code 3 = .ok (.iload_n 1, 1) := by decide +kernel
theorem d_La_pay_4 : decode method_22_code 4 = .ok (.iload_n 2, 1) := by decide +kernel
theorem d_La_pay_5 : decode method_22_code 5 = .ok (.invokevirtual 84, 3) := by decide +kernel
theorem d_La_pay_8 : decode method_22_code 8 = .ok (.lastore, 1) := by decide +kernel
theorem d_La_pay_9 : decode method_22_code 9 = .ok (.goto 11, 3) := by decide +kernel
theorem d_La_pay_12 : decode method_22_code 12 = .ok (.astore 4, 2) := by decide +kernel
theorem d_La_pay_14 : decode method_22_code 14 = .ok (.iconst 1, 1) := by decide +kernel
theorem d_La_pay_15 : decode method_22_code 15 = .ok (.ireturn, 1) := by decide +kernel
theorem d_La_pay_16 : decode method_22_code 16 = .ok (.astore 4, 2) := by decide +kernel
theorem d_La_pay_18 : decode method_22_code 18 = .ok (.iconst 2, 1) := by decide +kernel
theorem d_La_pay_19 : decode method_22_code 19 = .ok (.ireturn, 1) := by decide +kernel
theorem d_La_pay_20 : decode method_22_code 20 = .ok (.iconst 0, 1) := by decide +kernel
theorem d_La_pay_21 : decode method_22_code 21 = .ok (.ireturn, 1) := by decide +kernel
def wb_La_pay_12 (po : Option Value → Pic → Prop) (th : String → Pic → Prop) (P : Pic) (t0 : Nat) : Prop := po (some (.int (1 : Int32))) P
def wb_La_pay_16 (po : Option Value → Pic → Prop) (th : String → Pic → Prop) (P : Pic) (t0 : Nat) : Prop := po (some (.int (2 : Int32))) P
def wp_La_pay (po : Option Value → Pic → Prop) (th : String → Pic → Prop) (P : Pic) (a0 : Nat) (x1 : Int32) (x2 : Int32) (a3 : Nat) : Prop := p_k P a0 = 1 ∧ wp_Wa_pay (cp_l fun w102 P103 => p_k P103 a3 = 102 ∧ vp_in (0 : Int32) (p_n P103 a3) ∧ po (some (.int (0 : Int32))) (s_al P103 a3 (Int32.toNatClampNeg (0 : Int32)) w102)) (fun X P103 => if X = "java/lang/IndexOutOfBoundsException" then (∀ (xx : Nat), wb_La_pay_12 po th P103 xx) else if X = "java/lang/IllegalArgumentException" then (∀ (xx : Nat), wb_La_pay_16 po th P103 xx) else False) P a0 x1 x2
set_option maxHeartbeats 4000000 in
set_option maxRecDepth 100000 in
theorem wk_La_pay_12 {p : Program} {l : Launch} {e : Env} {s : State} {m : MethodId} {args : Array Value} {below : List Frame} {meth : Method} {c : Code} {D : pq_D} {P0 : Pic} {po : Option Value → Pic → Prop} {th : String → Pic → Prop} (hfl : l.flags = flags0) (C : Cx p e s m args meth c method_22_code 5 "WaterWorksLaw" D P0) (hmg : e.platform.magicAccessors = ({} : Platform).magicAccessors) (hr : meth.sig.returnType = (some .int)) (hin : meth.name = "pay") (htab : c.exceptionTable.toList = tableOf [(0, 9, 12, 19), (0, 9, 16, 21)]) : ∀ (P : Pic) (t0 : Nat) (H : Heap) (locs : List Loc) (cells slots : Nat) (ls : Array Slot), wb_La_pay_12 po th P t0 → Pi D P H → Sg (cq_A P0 s) s.heap H P locs → lv_has ls 5 [] → cells + 0 ≤ 2 → slots + 0 ≤ 12 → W p l e rm_La_pay s m args below meth c H locs cells slots (mt_MQ below (cq_Q D P0 false po th) args s 2 12 (cq_free P0 false)) (F0 m 12 ls [.ref t0]) := by
  intro P t0 H locs cells slots ls h hP hS hl hcc hss
  obtain ⟨hx, hb, hml, hown, hlocks, htr, hT, hK, hSt, hN, hP0⟩ := id C
  unfold wb_La_pay_12 at h
  refine lv_astore (pc := 12) (lv' := [(4, .ref t0)]) hx hb d_La_pay_12 hl (by decide) rfl (fun ls hl => ?_)
  refine lv_iconst (pc := 14) (v := 1) hx hb d_La_pay_14 (by decide) ?_
  exact we_i (pc := 15) hx hb hlocks hr hP hS (show cells + 0 ≤ 2 by omega) (show slots + 0 ≤ 12 by omega) h d_La_pay_15
set_option maxHeartbeats 4000000 in
set_option maxRecDepth 100000 in
theorem wk_La_pay_16 {p : Program} {l : Launch} {e : Env} {s : State} {m : MethodId} {args : Array Value} {below : List Frame} {meth : Method} {c : Code} {D : pq_D} {P0 : Pic} {po : Option Value → Pic → Prop} {th : String → Pic → Prop} (hfl : l.flags = flags0) (C : Cx p e s m args meth c method_22_code 5 "WaterWorksLaw" D P0) (hmg : e.platform.magicAccessors = ({} : Platform).magicAccessors) (hr : meth.sig.returnType = (some .int)) (hin : meth.name = "pay") (htab : c.exceptionTable.toList = tableOf [(0, 9, 12, 19), (0, 9, 16, 21)]) : ∀ (P : Pic) (t0 : Nat) (H : Heap) (locs : List Loc) (cells slots : Nat) (ls : Array Slot), wb_La_pay_16 po th P t0 → Pi D P H → Sg (cq_A P0 s) s.heap H P locs → lv_has ls 5 [] → cells + 0 ≤ 2 → slots + 0 ≤ 12 → W p l e rm_La_pay s m args below meth c H locs cells slots (mt_MQ below (cq_Q D P0 false po th) args s 2 12 (cq_free P0 false)) (F0 m 16 ls [.ref t0]) := by
  intro P t0 H locs cells slots ls h hP hS hl hcc hss
  obtain ⟨hx, hb, hml, hown, hlocks, htr, hT, hK, hSt, hN, hP0⟩ := id C
  unfold wb_La_pay_16 at h
  refine lv_astore (pc := 16) (lv' := [(4, .ref t0)]) hx hb d_La_pay_16 hl (by decide) rfl (fun ls hl => ?_)
  refine lv_iconst (pc := 18) (v := 2) hx hb d_La_pay_18 (by decide) ?_
  exact we_i (pc := 19) hx hb hlocks hr hP hS (show cells + 0 ≤ 2 by omega) (show slots + 0 ≤ 12 by omega) h d_La_pay_19
set_option maxHeartbeats 4000000 in
set_option maxRecDepth 100000 in
theorem ct_La_pay {l : Launch} (hfl : l.flags = flags0) (D : pq_D) {po : Option Value → Pic → Prop} {th : String → Pic → Prop} {P : Pic} {a0 : Nat} {x1 : Int32} {x2 : Int32} {a3 : Nat} (h : wp_La_pay po th P a0 x1 x2 a3) : CT l D y_La_pay (.codeWith y_La_pay method_22_code 5 (some .int) [(0, 9, 12, 19), (0, 9, 16, 21)]) rm_La_pay false [.ref a0, .int x1, .int x2, .ref a3] P po th := by
  refine ct_of (hs := [(0, 9, 12, 19), (0, 9, 16, 21)]) hfl (by decide +kernel) (Or.inr rfl) (Nat.le_of_ble_eq_true rfl) ?_
  intro p e s m below meth c C hmg hr hin htab ls hl
  have hl : lv_has ls 5 [(0, .ref a0), (1, .int x1), (2, .int x2), (3, .ref a3)] := hl
  generalize hargs : ([.ref a0, .int x1, .int x2, .ref a3] : List Value).toArray = args at C ⊢
  obtain ⟨hx, hb, hml, hown, hlocks, htr, hT, hK, hSt, hN, hP0⟩ := id C
  have hP : Pi D P s.heap := hP0
  have hS : Sg (cq_A P s) s.heap s.heap P [] := Sg.start hP0
  unfold wp_La_pay at h
  refine lv_aload_n (pc := 0) hx hb d_La_pay_0 rfl (lv_at hl 3 rfl) ?_
  refine lv_iconst (pc := 1) (v := 0) hx hb d_La_pay_1 (by decide) ?_
  refine lv_aload_n (pc := 2) hx hb d_La_pay_2 rfl (lv_at hl 0 rfl) ?_
  refine lv_iload_n (pc := 3) hx hb d_La_pay_3 rfl (lv_at hl 1 rfl) ?_
  refine lv_iload_n (pc := 4) hx hb d_La_pay_4 rfl (lv_at hl 2 rfl) ?_
  obtain ⟨hk101, h⟩ := h
  refine cc_l (pc := 5) C (rest := [.int (0 : Int32), .ref a3]) (mt_invV (As := [.int x1, .int x2]) hx hb hown (hT _ k_1094 _) (hT _ k_1095 _) (hT _ k_1096 _) (mt_Cd.code (hT _ k_1097 #[])) h_Wa_pay (pq_recv hK hP hk101 rfl) n_Wa_pay rfl d_La_pay_5) (ct_Wa_pay hfl D h) k_1097 k_1 ⟨Nat.le_of_ble_eq_true rfl, Nat.le_of_ble_eq_true rfl⟩ ⟨(show 0 + 2 ≤ 2 by omega), (show 0 + 12 ≤ 12 by omega)⟩ hl.1 d_La_pay_5 (Nat.le_of_ble_eq_true rfl) hP hS (fun w102 P103 H locs h hP hS => ?_) (fun xx X P103 H locs h hX hex hP hS => ?_)
  · obtain ⟨hk104, h⟩ := h
    obtain ⟨hi105, h⟩ := h
    refine pq_last (pc := 8) hx hb hK hP hS hk104 hi105 d_La_pay_8 (fun H locs hP hS => ?_)
    have hk104 : p_k (s_al P103 a3 (Int32.toNatClampNeg (0 : Int32)) w102) a3 = 102 := by rw [pk_al]; exact hk104
    refine lv_goto (pc := 9) (tgt := 20) hx hb d_La_pay_9 (by decide) ?_
    refine lv_iconst (pc := 20) (v := 0) hx hb d_La_pay_20 (by decide) ?_
    exact we_i (pc := 21) hx hb hlocks hr hP hS (show 0 + 2 + 0 ≤ 2 by omega) (show 0 + 12 + 0 ≤ 12 by omega) h d_La_pay_21
  · by_cases hX0 : X = "java/lang/IndexOutOfBoundsException"
    · subst hX0
      simp only [String.reduceEq, if_true, if_false, reduceIte] at h
      refine cq_caught (hs := [(0, 9, 12, 19), (0, 9, 16, 21)]) (i := 0) (ys := ["java/lang/IndexOutOfBoundsException", "java/lang/IllegalArgumentException"]) C htab hX hex k_593 hmg (by decide) rfl (fun j hj => by match j, hj with | 0, _ => exact ⟨by decide, k_578, by decide, by decide, by decide⟩ | j + 1, hj => omega) (fun j hj => by match j, hj with  | j + 0, hj => omega) rfl ?_
      replace h := h xx
      exact wk_La_pay_12 hfl C hmg hr hin htab _ xx _ _ _ _ _ h hP hS (lv_sub hl [] rfl) (show 0 + 2 + 0 ≤ 2 by omega) (show 0 + 12 + 0 ≤ 12 by omega)
    by_cases hX1 : X = "java/lang/IllegalArgumentException"
    · subst hX1
      simp only [String.reduceEq, if_true, if_false, reduceIte] at h
      refine cq_caught (hs := [(0, 9, 12, 19), (0, 9, 16, 21)]) (i := 1) (ys := ["java/lang/IndexOutOfBoundsException", "java/lang/IllegalArgumentException"]) C htab hX hex k_69 hmg (by decide) rfl (fun j hj => by match j, hj with | 0, _ => exact ⟨by decide, k_578, by decide, by decide, by decide⟩ | 1, _ => exact ⟨by decide, k_579, by decide, by decide, by decide⟩ | j + 2, hj => omega) (fun j hj => by match j, hj with | 0, _ => decide | j + 1, hj => omega) rfl ?_
      replace h := h xx
      exact wk_La_pay_16 hfl C hmg hr hin htab _ xx _ _ _ _ _ h hP hS (lv_sub hl [] rfl) (show 0 + 2 + 0 ≤ 2 by omega) (show 0 + 12 + 0 ≤ 12 by omega)
    exact absurd h (by simp [hX0, hX1])
