/-! WaterWorksModel.thrown()I -/
abbrev y_Mo_thrown : MethodName := ⟨"WaterWorksModel", "thrown", "()I"⟩
abbrev rm_Mo_thrown : Room := { frames := 1, cells := 0, slots := 0, locals := 40 }
theorem h_Mo_thrown : y_Mo_thrown.cls ≠ "java/lang/invoke/MethodHandle" ∧ y_Mo_thrown.cls ≠ "java/lang/invoke/VarHandle" := by decide +kernel
theorem n_Mo_thrown : (parseMethodDescriptor y_Mo_thrown.desc).map (fun d => d.parameters.length) = some 0 := by decide +kernel
theorem d_Mo_thrown_0 : decode prog_15_method_2_code 0 = .ok (.aload_n 0, 1) := by decide +kernel
theorem d_Mo_thrown_1 : decode prog_15_method_2_code 1 = .ok (.getfield 81, 3) := by decide +kernel
theorem d_Mo_thrown_4 : decode prog_15_method_2_code 4 = .ok (.ireturn, 1) := by decide +kernel
def wp_Mo_thrown (po : Option Value → Pic → Prop) (th : String → Pic → Prop) (P : Pic) (a0 : Nat) : Prop := p_k P a0 = 13 ∧ po (some (.int (p_i P 480 a0))) P
set_option maxHeartbeats 4000000 in
set_option maxRecDepth 100000 in
theorem ct_Mo_thrown {l : Launch} (hfl : l.flags = flags0) (D : pq_D) {po : Option Value → Pic → Prop} {th : String → Pic → Prop} {P : Pic} {a0 : Nat} (h : wp_Mo_thrown po th P a0) : CT l D y_Mo_thrown (.code y_Mo_thrown prog_15_method_2_code 1 (some .int)) rm_Mo_thrown true [.ref a0] P po th := by
  refine ct_of (hs := []) hfl (by decide +kernel) (Or.inl ⟨rfl, rfl⟩) (Nat.le_of_ble_eq_true rfl) ?_
  intro p e s m below meth c C hmg hr hin htab ls hl
  have hl : lv_has ls 1 [(0, .ref a0)] := hl
  generalize hargs : ([.ref a0] : List Value).toArray = args at C ⊢
  obtain ⟨hx, hb, hml, hown, hlocks, htr, hT, hK, hSt, hN, hP0⟩ := id C
  have L81_12 : pq_fl s m args 81 12 0 := ⟨_, "WaterWorksModel", "WaterWorksModel", rfl, by decide, hown, Or.inl (hT _ k_1104 _), (fun _ z => z)⟩
  have hO : So s.heap s.heap := So.rf
  have hP : Pi D P s.heap := hP0
  unfold wp_Mo_thrown at h
  refine lv_aload_n (pc := 0) hx hb d_Mo_thrown_0 rfl (lv_at hl 0 rfl) ?_
  obtain ⟨hk101, h⟩ := h
  refine pq_geti (pc := 1) (f := 480) hx hb hT hK hP L81_12 hk101 rfl d_Mo_thrown_1 ?_
  exact wo_i (pc := 4) hx hb hlocks hr hP0 hO (show 0 + 0 ≤ 0 by omega) (show 0 + 0 ≤ 0 by omega) h d_Mo_thrown_4
/-! WaterWorksModel.noNode(I)Z -/
abbrev y_Mo_noNode : MethodName := ⟨"WaterWorksModel", "noNode", "(I)Z"⟩
abbrev rm_Mo_noNode : Room := { frames := 1, cells := 0, slots := 0, locals := 40 }
theorem h_Mo_noNode : y_Mo_noNode.cls ≠ "java/lang/invoke/MethodHandle" ∧ y_Mo_noNode.cls ≠ "java/lang/invoke/VarHandle" := by decide +kernel
theorem n_Mo_noNode : (parseMethodDescriptor y_Mo_noNode.desc).map (fun d => d.parameters.length) = some 1 := by decide +kernel
theorem d_Mo_noNode_0 : decode prog_15_method_3_code 0 = .ok (.iload_n 1, 1) := by decide +kernel
theorem d_Mo_noNode_1 : decode prog_15_method_3_code 1 = .ok (.ifCond .lt 11, 3) := by decide +kernel
theorem d_Mo_noNode_4 : decode prog_15_method_3_code 4 = .ok (.iload_n 1, 1) := by decide +kernel
theorem d_Mo_noNode_5 : decode prog_15_method_3_code 5 = .ok (.aload_n 0, 1) := by decide +kernel
theorem d_Mo_noNode_6 : decode prog_15_method_3_code 6 = .ok (.getfield 85, 3) := by decide +kernel
theorem d_Mo_noNode_9 : decode prog_15_method_3_code 9 = .ok (.if_icmp .lt 7, 3) := by decide +kernel
theorem d_Mo_noNode_12 : decode prog_15_method_3_code 12 = .ok (.iconst 1, 1) := by decide +kernel
theorem d_Mo_noNode_13 : decode prog_15_method_3_code 13 = .ok (.goto 4, 3) := by decide +kernel
theorem d_Mo_noNode_16 : decode prog_15_method_3_code 16 = .ok (.iconst 0, 1) := by decide +kernel
theorem d_Mo_noNode_17 : decode prog_15_method_3_code 17 = .ok (.ireturn, 1) := by decide +kernel
def wb_Mo_noNode_12 (po : Option Value → Pic → Prop) (th : String → Pic → Prop) (P : Pic) : Prop := po (some (.int (1 : Int32))) P
def wp_Mo_noNode (po : Option Value → Pic → Prop) (th : String → Pic → Prop) (P : Pic) (a0 : Nat) (x1 : Int32) : Prop := ((x1 < 0 → (wb_Mo_noNode_12 po th P )) ∧ (¬ x1 < 0 → (p_k P a0 = 13 ∧ ((x1 < (p_i P 481 a0) → (po (some (.int (0 : Int32))) P)) ∧ (¬ x1 < (p_i P 481 a0) → (wb_Mo_noNode_12 po th P ))))))
set_option maxHeartbeats 4000000 in
set_option maxRecDepth 100000 in
theorem wk_Mo_noNode_12 {p : Program} {l : Launch} {e : Env} {s : State} {m : MethodId} {args : Array Value} {below : List Frame} {meth : Method} {c : Code} {D : pq_D} {P : Pic} {po : Option Value → Pic → Prop} {th : String → Pic → Prop} (hfl : l.flags = flags0) (C : Cx p e s m args meth c prog_15_method_3_code 2 "WaterWorksModel" D P) (hmg : e.platform.magicAccessors = ({} : Platform).magicAccessors) (hr : meth.sig.returnType = (some .boolean)) (hin : meth.name = "noNode") (htab : c.exceptionTable.toList = tableOf []) : ∀ (H : Heap) (cells slots : Nat) (ls : Array Slot), wb_Mo_noNode_12 po th P  → So s.heap H → lv_has ls 2 [] → cells + 0 ≤ 0 → slots + 0 ≤ 0 → W p l e rm_Mo_noNode s m args below meth c H [] cells slots (mt_MQ below (cq_Q D P true po th) args s 0 0 (cq_free P true)) (F0 m 12 ls []) := by
  intro  H cells slots ls h hO hl hcc hss
  obtain ⟨hx, hb, hml, hown, hlocks, htr, hT, hK, hSt, hN, hP0⟩ := id C
  have L85_12 : pq_fl s m args 85 12 1 := ⟨_, "WaterWorksModel", "WaterWorksModel", rfl, by decide, hown, Or.inl (hT _ k_1105 _), (fun _ z => z)⟩
  have hP : Pi D P H := So.pi hP0 hO
  unfold wb_Mo_noNode_12 at h
  refine lv_iconst (pc := 12) (v := 1) hx hb d_Mo_noNode_12 (by decide) ?_
  refine lv_goto (pc := 13) (tgt := 17) hx hb d_Mo_noNode_13 (by decide) ?_
  exact wo_z (pc := 17) hx hb hlocks hr hP0 hO (show cells + 0 ≤ 0 by omega) (show slots + 0 ≤ 0 by omega) (by decide) h d_Mo_noNode_17
set_option maxHeartbeats 4000000 in
set_option maxRecDepth 100000 in
theorem ct_Mo_noNode {l : Launch} (hfl : l.flags = flags0) (D : pq_D) {po : Option Value → Pic → Prop} {th : String → Pic → Prop} {P : Pic} {a0 : Nat} {x1 : Int32} (h : wp_Mo_noNode po th P a0 x1) : CT l D y_Mo_noNode (.code y_Mo_noNode prog_15_method_3_code 2 (some .boolean)) rm_Mo_noNode true [.ref a0, .int x1] P po th := by
  refine ct_of (hs := []) hfl (by decide +kernel) (Or.inl ⟨rfl, rfl⟩) (Nat.le_of_ble_eq_true rfl) ?_
  intro p e s m below meth c C hmg hr hin htab ls hl
  have hl : lv_has ls 2 [(0, .ref a0), (1, .int x1)] := hl
  generalize hargs : ([.ref a0, .int x1] : List Value).toArray = args at C ⊢
  obtain ⟨hx, hb, hml, hown, hlocks, htr, hT, hK, hSt, hN, hP0⟩ := id C
  have L85_12 : pq_fl s m args 85 12 1 := ⟨_, "WaterWorksModel", "WaterWorksModel", rfl, by decide, hown, Or.inl (hT _ k_1105 _), (fun _ z => z)⟩
  have hO : So s.heap s.heap := So.rf
  have hP : Pi D P s.heap := hP0
  unfold wp_Mo_noNode at h
  refine lv_iload_n (pc := 0) hx hb d_Mo_noNode_0 rfl (lv_at hl 1 rfl) ?_
  refine lv_if_lt (pc := 1) (tgt := 12) hx hb d_Mo_noNode_1 (by decide) (fun c103 => ?_) (fun c103 => ?_)
  · replace h := h.1 c103
    exact wk_Mo_noNode_12 hfl C hmg hr hin htab  _ _ _ _ h hO (lv_sub hl [] rfl) (show 0 + 0 ≤ 0 by omega) (show 0 + 0 ≤ 0 by omega)
  · replace h := h.2 c103
    refine lv_iload_n (pc := 4) hx hb d_Mo_noNode_4 rfl (lv_at hl 1 rfl) ?_
    refine lv_aload_n (pc := 5) hx hb d_Mo_noNode_5 rfl (lv_at hl 0 rfl) ?_
    obtain ⟨hk101, h⟩ := h
    refine pq_geti (pc := 6) (f := 481) hx hb hT hK hP L85_12 hk101 rfl d_Mo_noNode_6 ?_
    refine lv_icmp_lt (pc := 9) (tgt := 16) hx hb d_Mo_noNode_9 (by decide) (fun c102 => ?_) (fun c102 => ?_)
    · replace h := h.1 c102
      refine lv_iconst (pc := 16) (v := 0) hx hb d_Mo_noNode_16 (by decide) ?_
      exact wo_z (pc := 17) hx hb hlocks hr hP0 hO (show 0 + 0 ≤ 0 by omega) (show 0 + 0 ≤ 0 by omega) (by decide) h d_Mo_noNode_17
    · replace h := h.2 c102
      exact wk_Mo_noNode_12 hfl C hmg hr hin htab  _ _ _ _ h hO (lv_sub hl [] rfl) (show 0 + 0 ≤ 0 by omega) (show 0 + 0 ≤ 0 by omega)
/-! WaterWorksModel.noPipe(I)Z -/
abbrev y_Mo_noPipe : MethodName := ⟨"WaterWorksModel", "noPipe", "(I)Z"⟩
abbrev rm_Mo_noPipe : Room := { frames := 1, cells := 0, slots := 0, locals := 40 }
theorem h_Mo_noPipe : y_Mo_noPipe.cls ≠ "java/lang/invoke/MethodHandle" ∧ y_Mo_noPipe.cls ≠ "java/lang/invoke/VarHandle" := by decide +kernel
theorem n_Mo_noPipe : (parseMethodDescriptor y_Mo_noPipe.desc).map (fun d => d.parameters.length) = some 1 := by decide +kernel
theorem d_Mo_noPipe_0 : decode prog_15_method_4_code 0 = .ok (.iload_n 1, 1) := by decide +kernel
theorem d_Mo_noPipe_1 : decode prog_15_method_4_code 1 = .ok (.ifCond .lt 11, 3) := by decide +kernel
theorem d_Mo_noPipe_4 : decode prog_15_method_4_code 4 = .ok (.iload_n 1, 1) := by decide +kernel
theorem d_Mo_noPipe_5 : decode prog_15_method_4_code 5 = .ok (.aload_n 0, 1) := by decide +kernel
theorem d_Mo_noPipe_6 : decode prog_15_method_4_code 6 = .ok (.getfield 88, 3) := by decide +kernel
theorem d_Mo_noPipe_9 : decode prog_15_method_4_code 9 = .ok (.if_icmp .lt 7, 3) := by decide +kernel
theorem d_Mo_noPipe_12 : decode prog_15_method_4_code 12 = .ok (.iconst 1, 1) := by decide +kernel
theorem d_Mo_noPipe_13 : decode prog_15_method_4_code 13 = .ok (.goto 4, 3) := by decide +kernel
theorem d_Mo_noPipe_16 : decode prog_15_method_4_code 16 = .ok (.iconst 0, 1) := by decide +kernel
theorem d_Mo_noPipe_17 : decode prog_15_method_4_code 17 = .ok (.ireturn, 1) := by decide +kernel
def wb_Mo_noPipe_12 (po : Option Value → Pic → Prop) (th : String → Pic → Prop) (P : Pic) : Prop := po (some (.int (1 : Int32))) P
def wp_Mo_noPipe (po : Option Value → Pic → Prop) (th : String → Pic → Prop) (P : Pic) (a0 : Nat) (x1 : Int32) : Prop := ((x1 < 0 → (wb_Mo_noPipe_12 po th P )) ∧ (¬ x1 < 0 → (p_k P a0 = 13 ∧ ((x1 < (p_i P 482 a0) → (po (some (.int (0 : Int32))) P)) ∧ (¬ x1 < (p_i P 482 a0) → (wb_Mo_noPipe_12 po th P ))))))
set_option maxHeartbeats 4000000 in
set_option maxRecDepth 100000 in
theorem wk_Mo_noPipe_12 {p : Program} {l : Launch} {e : Env} {s : State} {m : MethodId} {args : Array Value} {below : List Frame} {meth : Method} {c : Code} {D : pq_D} {P : Pic} {po : Option Value → Pic → Prop} {th : String → Pic → Prop} (hfl : l.flags = flags0) (C : Cx p e s m args meth c prog_15_method_4_code 2 "WaterWorksModel" D P) (hmg : e.platform.magicAccessors = ({} : Platform).magicAccessors) (hr : meth.sig.returnType = (some .boolean)) (hin : meth.name = "noPipe") (htab : c.exceptionTable.toList = tableOf []) : ∀ (H : Heap) (cells slots : Nat) (ls : Array Slot), wb_Mo_noPipe_12 po th P  → So s.heap H → lv_has ls 2 [] → cells + 0 ≤ 0 → slots + 0 ≤ 0 → W p l e rm_Mo_noPipe s m args below meth c H [] cells slots (mt_MQ below (cq_Q D P true po th) args s 0 0 (cq_free P true)) (F0 m 12 ls []) := by
  intro  H cells slots ls h hO hl hcc hss
  obtain ⟨hx, hb, hml, hown, hlocks, htr, hT, hK, hSt, hN, hP0⟩ := id C
  have L88_12 : pq_fl s m args 88 12 2 := ⟨_, "WaterWorksModel", "WaterWorksModel", rfl, by decide, hown, Or.inl (hT _ k_1106 _), (fun _ z => z)⟩
  have hP : Pi D P H := So.pi hP0 hO
  unfold wb_Mo_noPipe_12 at h
  refine lv_iconst (pc := 12) (v := 1) hx hb d_Mo_noPipe_12 (by decide) ?_
  refine lv_goto (pc := 13) (tgt := 17) hx hb d_Mo_noPipe_13 (by decide) ?_
  exact wo_z (pc := 17) hx hb hlocks hr hP0 hO (show cells + 0 ≤ 0 by omega) (show slots + 0 ≤ 0 by omega) (by decide) h d_Mo_noPipe_17
set_option maxHeartbeats 4000000 in
set_option maxRecDepth 100000 in
theorem ct_Mo_noPipe {l : Launch} (hfl : l.flags = flags0) (D : pq_D) {po : Option Value → Pic → Prop} {th : String → Pic → Prop} {P : Pic} {a0 : Nat} {x1 : Int32} (h : wp_Mo_noPipe po th P a0 x1) : CT l D y_Mo_noPipe (.code y_Mo_noPipe prog_15_method_4_code 2 (some .boolean)) rm_Mo_noPipe true [.ref a0, .int x1] P po th := by
  refine ct_of (hs := []) hfl (by decide +kernel) (Or.inl ⟨rfl, rfl⟩) (Nat.le_of_ble_eq_true rfl) ?_
  intro p e s m below meth c C hmg hr hin htab ls hl
  have hl : lv_has ls 2 [(0, .ref a0), (1, .int x1)] := hl
  generalize hargs : ([.ref a0, .int x1] : List Value).toArray = args at C ⊢
  obtain ⟨hx, hb, hml, hown, hlocks, htr, hT, hK, hSt, hN, hP0⟩ := id C
  have L88_12 : pq_fl s m args 88 12 2 := ⟨_, "WaterWorksModel", "WaterWorksModel", rfl, by decide, hown, Or.inl (hT _ k_1106 _), (fun _ z => z)⟩
  have hO : So s.heap s.heap := So.rf
  have hP : Pi D P s.heap := hP0
  unfold wp_Mo_noPipe at h
  refine lv_iload_n (pc := 0) hx hb d_Mo_noPipe_0 rfl (lv_at hl 1 rfl) ?_
  refine lv_if_lt (pc := 1) (tgt := 12) hx hb d_Mo_noPipe_1 (by decide) (fun c103 => ?_) (fun c103 => ?_)
  · replace h := h.1 c103
    exact wk_Mo_noPipe_12 hfl C hmg hr hin htab  _ _ _ _ h hO (lv_sub hl [] rfl) (show 0 + 0 ≤ 0 by omega) (show 0 + 0 ≤ 0 by omega)
  · replace h := h.2 c103
    refine lv_iload_n (pc := 4) hx hb d_Mo_noPipe_4 rfl (lv_at hl 1 rfl) ?_
    refine lv_aload_n (pc := 5) hx hb d_Mo_noPipe_5 rfl (lv_at hl 0 rfl) ?_
    obtain ⟨hk101, h⟩ := h
    refine pq_geti (pc := 6) (f := 482) hx hb hT hK hP L88_12 hk101 rfl d_Mo_noPipe_6 ?_
    refine lv_icmp_lt (pc := 9) (tgt := 16) hx hb d_Mo_noPipe_9 (by decide) (fun c102 => ?_) (fun c102 => ?_)
    · replace h := h.1 c102
      refine lv_iconst (pc := 16) (v := 0) hx hb d_Mo_noPipe_16 (by decide) ?_
      exact wo_z (pc := 17) hx hb hlocks hr hP0 hO (show 0 + 0 ≤ 0 by omega) (show 0 + 0 ≤ 0 by omega) (by decide) h d_Mo_noPipe_17
    · replace h := h.2 c102
      exact wk_Mo_noPipe_12 hfl C hmg hr hin htab  _ _ _ _ h hO (lv_sub hl [] rfl) (show 0 + 0 ≤ 0 by omega) (show 0 + 0 ≤ 0 by omega)
/-! WaterWorksModel.noEnd(II)Z -/
abbrev y_Mo_noEnd : MethodName := ⟨"WaterWorksModel", "noEnd", "(II)Z"⟩
abbrev rm_Mo_noEnd : Room := { frames := 2, cells := 0, slots := 0, locals := 61 }
theorem h_Mo_noEnd : y_Mo_noEnd.cls ≠ "java/lang/invoke/MethodHandle" ∧ y_Mo_noEnd.cls ≠ "java/lang/invoke/VarHandle" := by decide +kernel
theorem n_Mo_noEnd : (parseMethodDescriptor y_Mo_noEnd.desc).map (fun d => d.parameters.length) = some 2 := by decide +kernel
theorem d_Mo_noEnd_0 : decode prog_15_method_5_code 0 = .ok (.aload_n 0, 1) := by decide +kernel
theorem d_Mo_noEnd_1 : decode prog_15_method_5_code 1 = .ok (.iload_n 1, 1) := by decide +kernel
theorem d_Mo_noEnd_2 : decode prog_15_method_5_code 2 = .ok (.invokevirtual 91, 3) := by decide +kernel
theorem d_Mo_noEnd_5 : decode prog_15_method_5_code 5 = .ok (.ifCond .ne 12, 3) := by decide +kernel
theorem d_Mo_noEnd_8 : decode prog_15_method_5_code 8 = .ok (.iload_n 2, 1) := by decide +kernel
theorem d_Mo_noEnd_9 : decode prog_15_method_5_code 9 = .ok (.ifCond .lt 8, 3) := by decide +kernel
theorem d_Mo_noEnd_12 : decode prog_15_method_5_code 12 = .ok (.iload_n 2, 1) := by decide +kernel
theorem d_Mo_noEnd_13 : decode prog_15_method_5_code 13 = .ok (.iconst 1, 1) := by decide +kernel
theorem d_Mo_noEnd_14 : decode prog_15_method_5_code 14 = .ok (.if_icmp .le 7, 3) := by decide +kernel
theorem d_Mo_noEnd_17 : decode prog_15_method_5_code 17 = .ok (.iconst 1, 1) := by decide +kernel
theorem d_Mo_noEnd_18 : decode prog_15_method_5_code 18 = .ok (.goto 4, 3) := by decide +kernel
theorem d_Mo_noEnd_21 : decode prog_15_method_5_code 21 = .ok (.iconst 0, 1) := by decide +kernel
theorem d_Mo_noEnd_22 : decode prog_15_method_5_code 22 = .ok (.ireturn, 1) := by decide +kernel
def wb_Mo_noEnd_17 (po : Option Value → Pic → Prop) (th : String → Pic → Prop) (P : Pic) : Prop := po (some (.int (1 : Int32))) P
def wp_Mo_noEnd (po : Option Value → Pic → Prop) (th : String → Pic → Prop) (P : Pic) (a0 : Nat) (x1 : Int32) (x2 : Int32) : Prop := p_k P a0 = 13 ∧ wp_Mo_noPipe (cp_i fun x102 _ => ((¬ x102 = 0 → (wb_Mo_noEnd_17 po th P )) ∧ (x102 = 0 → (((x2 < 0 → (wb_Mo_noEnd_17 po th P )) ∧ (¬ x2 < 0 → (((x2 ≤ (1 : Int32) → (po (some (.int (0 : Int32))) P)) ∧ (¬ x2 ≤ (1 : Int32) → (wb_Mo_noEnd_17 po th P )))))))))) th P a0 x1
set_option maxHeartbeats 4000000 in
set_option maxRecDepth 100000 in
theorem wk_Mo_noEnd_17 {p : Program} {l : Launch} {e : Env} {s : State} {m : MethodId} {args : Array Value} {below : List Frame} {meth : Method} {c : Code} {D : pq_D} {P : Pic} {po : Option Value → Pic → Prop} {th : String → Pic → Prop} (hfl : l.flags = flags0) (C : Cx p e s m args meth c prog_15_method_5_code 3 "WaterWorksModel" D P) (hmg : e.platform.magicAccessors = ({} : Platform).magicAccessors) (hr : meth.sig.returnType = (some .boolean)) (hin : meth.name = "noEnd") (htab : c.exceptionTable.toList = tableOf []) : ∀ (H : Heap) (cells slots : Nat) (ls : Array Slot), wb_Mo_noEnd_17 po th P  → So s.heap H → lv_has ls 3 [] → cells + 0 ≤ 0 → slots + 0 ≤ 0 → W p l e rm_Mo_noEnd s m args below meth c H [] cells slots (mt_MQ below (cq_Q D P true po th) args s 0 0 (cq_free P true)) (F0 m 17 ls []) := by
  intro  H cells slots ls h hO hl hcc hss
  obtain ⟨hx, hb, hml, hown, hlocks, htr, hT, hK, hSt, hN, hP0⟩ := id C
  have hP : Pi D P H := So.pi hP0 hO
  unfold wb_Mo_noEnd_17 at h
  refine lv_iconst (pc := 17) (v := 1) hx hb d_Mo_noEnd_17 (by decide) ?_
  refine lv_goto (pc := 18) (tgt := 22) hx hb d_Mo_noEnd_18 (by decide) ?_
  exact wo_z (pc := 22) hx hb hlocks hr hP0 hO (show cells + 0 ≤ 0 by omega) (show slots + 0 ≤ 0 by omega) (by decide) h d_Mo_noEnd_22
set_option maxHeartbeats 4000000 in
set_option maxRecDepth 100000 in
theorem ct_Mo_noEnd {l : Launch} (hfl : l.flags = flags0) (D : pq_D) {po : Option Value → Pic → Prop} {th : String → Pic → Prop} {P : Pic} {a0 : Nat} {x1 : Int32} {x2 : Int32} (h : wp_Mo_noEnd po th P a0 x1 x2) : CT l D y_Mo_noEnd (.code y_Mo_noEnd prog_15_method_5_code 3 (some .boolean)) rm_Mo_noEnd true [.ref a0, .int x1, .int x2] P po th := by
  refine ct_of (hs := []) hfl (by decide +kernel) (Or.inl ⟨rfl, rfl⟩) (Nat.le_of_ble_eq_true rfl) ?_
  intro p e s m below meth c C hmg hr hin htab ls hl
  have hl : lv_has ls 3 [(0, .ref a0), (1, .int x1), (2, .int x2)] := hl
  generalize hargs : ([.ref a0, .int x1, .int x2] : List Value).toArray = args at C ⊢
  obtain ⟨hx, hb, hml, hown, hlocks, htr, hT, hK, hSt, hN, hP0⟩ := id C
  have hO : So s.heap s.heap := So.rf
  have hP : Pi D P s.heap := hP0
  unfold wp_Mo_noEnd at h
  refine lv_aload_n (pc := 0) hx hb d_Mo_noEnd_0 rfl (lv_at hl 0 rfl) ?_
  refine lv_iload_n (pc := 1) hx hb d_Mo_noEnd_1 rfl (lv_at hl 1 rfl) ?_
  obtain ⟨hk101, h⟩ := h
  refine co_i (pc := 2) C (rest := []) (mt_invV (As := [.int x1]) hx hb hown (hT _ k_1227 _) (hT _ k_1229 _) (hT _ ks_19 _) (mt_Cd.code (hT _ k_1230 #[])) h_Mo_noPipe (pq_recv hK hP hk101 rfl) n_Mo_noPipe rfl d_Mo_noEnd_2) (ct_Mo_noPipe hfl D h) k_1230 k_24 ⟨Nat.le_of_ble_eq_true rfl, Nat.le_of_ble_eq_true rfl⟩ ⟨(show 0 + 0 ≤ 0 by omega), (show 0 + 0 ≤ 0 by omega)⟩ hl.1 d_Mo_noEnd_2 (Nat.le_of_ble_eq_true rfl) hO (fun x102 H h hO => ?_) (fun xx X H h hX hex hO => ?_)
  · have hP : Pi D P H := So.pi hP0 hO
    refine lv_if_ne (pc := 5) (tgt := 17) hx hb d_Mo_noEnd_5 (by decide) (fun c105 => ?_) (fun c105 => ?_)
    · replace h := h.1 c105
      exact wk_Mo_noEnd_17 hfl C hmg hr hin htab  _ _ _ _ h hO (lv_sub hl [] rfl) (show 0 + 0 + 0 ≤ 0 by omega) (show 0 + 0 + 0 ≤ 0 by omega)
    · replace h := h.2 c105
      refine lv_iload_n (pc := 8) hx hb d_Mo_noEnd_8 rfl (lv_at hl 2 rfl) ?_
      refine lv_if_lt (pc := 9) (tgt := 17) hx hb d_Mo_noEnd_9 (by decide) (fun c104 => ?_) (fun c104 => ?_)
      · replace h := h.1 c104
        exact wk_Mo_noEnd_17 hfl C hmg hr hin htab  _ _ _ _ h hO (lv_sub hl [] rfl) (show 0 + 0 + 0 ≤ 0 by omega) (show 0 + 0 + 0 ≤ 0 by omega)
      · replace h := h.2 c104
        refine lv_iload_n (pc := 12) hx hb d_Mo_noEnd_12 rfl (lv_at hl 2 rfl) ?_
        refine lv_iconst (pc := 13) (v := 1) hx hb d_Mo_noEnd_13 (by decide) ?_
        refine lv_icmp_le (pc := 14) (tgt := 21) hx hb d_Mo_noEnd_14 (by decide) (fun c103 => ?_) (fun c103 => ?_)
        · replace h := h.1 c103
          refine lv_iconst (pc := 21) (v := 0) hx hb d_Mo_noEnd_21 (by decide) ?_
          exact wo_z (pc := 22) hx hb hlocks hr hP0 hO (show 0 + 0 + 0 ≤ 0 by omega) (show 0 + 0 + 0 ≤ 0 by omega) (by decide) h d_Mo_noEnd_22
        · replace h := h.2 c103
          exact wk_Mo_noEnd_17 hfl C hmg hr hin htab  _ _ _ _ h hO (lv_sub hl [] rfl) (show 0 + 0 + 0 ≤ 0 by omega) (show 0 + 0 + 0 ≤ 0 by omega)
  · exact cq_outo hlocks (pq_nil htab rfl) (show 0 + 0 + 0 ≤ 0 by omega) (show 0 + 0 + 0 ≤ 0 by omega) hX hex hP0 hO h
/-! WaterWorksModel.noCustomer(I)Z -/
abbrev y_Mo_noCustomer : MethodName := ⟨"WaterWorksModel", "noCustomer", "(I)Z"⟩
abbrev rm_Mo_noCustomer : Room := { frames := 1, cells := 0, slots := 0, locals := 40 }
theorem h_Mo_noCustomer : y_Mo_noCustomer.cls ≠ "java/lang/invoke/MethodHandle" ∧ y_Mo_noCustomer.cls ≠ "java/lang/invoke/VarHandle" := by decide +kernel
theorem n_Mo_noCustomer : (parseMethodDescriptor y_Mo_noCustomer.desc).map (fun d => d.parameters.length) = some 1 := by decide +kernel
theorem d_Mo_noCustomer_0 : decode prog_15_method_6_code 0 = .ok (.iload_n 1, 1) := by decide +kernel
theorem d_Mo_noCustomer_1 : decode prog_15_method_6_code 1 = .ok (.ifCond .lt 11, 3) := by decide +kernel
theorem d_Mo_noCustomer_4 : decode prog_15_method_6_code 4 = .ok (.iload_n 1, 1) := by decide +kernel
theorem d_Mo_noCustomer_5 : decode prog_15_method_6_code 5 = .ok (.aload_n 0, 1) := by decide +kernel
theorem d_Mo_noCustomer_6 : decode prog_15_method_6_code 6 = .ok (.getfield 95, 3) := by decide +kernel
theorem d_Mo_noCustomer_9 : decode prog_15_method_6_code 9 = .ok (.if_icmp .lt 7, 3) := by decide +kernel
theorem d_Mo_noCustomer_12 : decode prog_15_method_6_code 12 = .ok (.iconst 1, 1) := by decide +kernel
theorem d_Mo_noCustomer_13 : decode prog_15_method_6_code 13 = .ok (.goto 4, 3) := by decide +kernel
theorem d_Mo_noCustomer_16 : decode prog_15_method_6_code 16 = .ok (.iconst 0, 1) := by decide +kernel
theorem d_Mo_noCustomer_17 : decode prog_15_method_6_code 17 = .ok (.ireturn, 1) := by decide +kernel
def wb_Mo_noCustomer_12 (po : Option Value → Pic → Prop) (th : String → Pic → Prop) (P : Pic) : Prop := po (some (.int (1 : Int32))) P
def wp_Mo_noCustomer (po : Option Value → Pic → Prop) (th : String → Pic → Prop) (P : Pic) (a0 : Nat) (x1 : Int32) : Prop := ((x1 < 0 → (wb_Mo_noCustomer_12 po th P )) ∧ (¬ x1 < 0 → (p_k P a0 = 13 ∧ ((x1 < (p_i P 483 a0) → (po (some (.int (0 : Int32))) P)) ∧ (¬ x1 < (p_i P 483 a0) → (wb_Mo_noCustomer_12 po th P ))))))
set_option maxHeartbeats 4000000 in
set_option maxRecDepth 100000 in
theorem wk_Mo_noCustomer_12 {p : Program} {l : Launch} {e : Env} {s : State} {m : MethodId} {args : Array Value} {below : List Frame} {meth : Method} {c : Code} {D : pq_D} {P : Pic} {po : Option Value → Pic → Prop} {th : String → Pic → Prop} (hfl : l.flags = flags0) (C : Cx p e s m args meth c prog_15_method_6_code 2 "WaterWorksModel" D P) (hmg : e.platform.magicAccessors = ({} : Platform).magicAccessors) (hr : meth.sig.returnType = (some .boolean)) (hin : meth.name = "noCustomer") (htab : c.exceptionTable.toList = tableOf []) : ∀ (H : Heap) (cells slots : Nat) (ls : Array Slot), wb_Mo_noCustomer_12 po th P  → So s.heap H → lv_has ls 2 [] → cells + 0 ≤ 0 → slots + 0 ≤ 0 → W p l e rm_Mo_noCustomer s m args below meth c H [] cells slots (mt_MQ below (cq_Q D P true po th) args s 0 0 (cq_free P true)) (F0 m 12 ls []) := by
  intro  H cells slots ls h hO hl hcc hss
  obtain ⟨hx, hb, hml, hown, hlocks, htr, hT, hK, hSt, hN, hP0⟩ := id C
  have L95_12 : pq_fl s m args 95 12 3 := ⟨_, "WaterWorksModel", "WaterWorksModel", rfl, by decide, hown, Or.inl (hT _ k_1107 _), (fun _ z => z)⟩
  have hP : Pi D P H := So.pi hP0 hO
  unfold wb_Mo_noCustomer_12 at h
  refine lv_iconst (pc := 12) (v := 1) hx hb d_Mo_noCustomer_12 (by decide) ?_
  refine lv_goto (pc := 13) (tgt := 17) hx hb d_Mo_noCustomer_13 (by decide) ?_
  exact wo_z (pc := 17) hx hb hlocks hr hP0 hO (show cells + 0 ≤ 0 by omega) (show slots + 0 ≤ 0 by omega) (by decide) h d_Mo_noCustomer_17
set_option maxHeartbeats 4000000 in
set_option maxRecDepth 100000 in
theorem ct_Mo_noCustomer {l : Launch} (hfl : l.flags = flags0) (D : pq_D) {po : Option Value → Pic → Prop} {th : String → Pic → Prop} {P : Pic} {a0 : Nat} {x1 : Int32} (h : wp_Mo_noCustomer po th P a0 x1) : CT l D y_Mo_noCustomer (.code y_Mo_noCustomer prog_15_method_6_code 2 (some .boolean)) rm_Mo_noCustomer true [.ref a0, .int x1] P po th := by
  refine ct_of (hs := []) hfl (by decide +kernel) (Or.inl ⟨rfl, rfl⟩) (Nat.le_of_ble_eq_true rfl) ?_
  intro p e s m below meth c C hmg hr hin htab ls hl
  have hl : lv_has ls 2 [(0, .ref a0), (1, .int x1)] := hl
  generalize hargs : ([.ref a0, .int x1] : List Value).toArray = args at C ⊢
  obtain ⟨hx, hb, hml, hown, hlocks, htr, hT, hK, hSt, hN, hP0⟩ := id C
  have L95_12 : pq_fl s m args 95 12 3 := ⟨_, "WaterWorksModel", "WaterWorksModel", rfl, by decide, hown, Or.inl (hT _ k_1107 _), (fun _ z => z)⟩
  have hO : So s.heap s.heap := So.rf
  have hP : Pi D P s.heap := hP0
  unfold wp_Mo_noCustomer at h
  refine lv_iload_n (pc := 0) hx hb d_Mo_noCustomer_0 rfl (lv_at hl 1 rfl) ?_
  refine lv_if_lt (pc := 1) (tgt := 12) hx hb d_Mo_noCustomer_1 (by decide) (fun c103 => ?_) (fun c103 => ?_)
  · replace h := h.1 c103
    exact wk_Mo_noCustomer_12 hfl C hmg hr hin htab  _ _ _ _ h hO (lv_sub hl [] rfl) (show 0 + 0 ≤ 0 by omega) (show 0 + 0 ≤ 0 by omega)
  · replace h := h.2 c103
    refine lv_iload_n (pc := 4) hx hb d_Mo_noCustomer_4 rfl (lv_at hl 1 rfl) ?_
    refine lv_aload_n (pc := 5) hx hb d_Mo_noCustomer_5 rfl (lv_at hl 0 rfl) ?_
    obtain ⟨hk101, h⟩ := h
    refine pq_geti (pc := 6) (f := 483) hx hb hT hK hP L95_12 hk101 rfl d_Mo_noCustomer_6 ?_
    refine lv_icmp_lt (pc := 9) (tgt := 16) hx hb d_Mo_noCustomer_9 (by decide) (fun c102 => ?_) (fun c102 => ?_)
    · replace h := h.1 c102
      refine lv_iconst (pc := 16) (v := 0) hx hb d_Mo_noCustomer_16 (by decide) ?_
      exact wo_z (pc := 17) hx hb hlocks hr hP0 hO (show 0 + 0 ≤ 0 by omega) (show 0 + 0 ≤ 0 by omega) (by decide) h d_Mo_noCustomer_17
    · replace h := h.2 c102
      exact wk_Mo_noCustomer_12 hfl C hmg hr hin htab  _ _ _ _ h hO (lv_sub hl [] rfl) (show 0 + 0 ≤ 0 by omega) (show 0 + 0 ≤ 0 by omega)
/-! WaterWorksModel.node()I -/
abbrev y_Mo_node : MethodName := ⟨"WaterWorksModel", "node", "()I"⟩
abbrev rm_Mo_node : Room := { frames := 1, cells := 0, slots := 0, locals := 40 }
theorem h_Mo_node : y_Mo_node.cls ≠ "java/lang/invoke/MethodHandle" ∧ y_Mo_node.cls ≠ "java/lang/invoke/VarHandle" := by decide +kernel
theorem n_Mo_node : (parseMethodDescriptor y_Mo_node.desc).map (fun d => d.parameters.length) = some 0 := by decide +kernel
theorem d_Mo_node_0 : decode prog_15_method_7_code 0 = .ok (.aload_n 0, 1) := by decide +kernel
theorem d_Mo_node_1 : decode prog_15_method_7_code 1 = .ok (.aload_n 0, 1) := by decide +kernel
theorem d_Mo_node_2 : decode prog_15_method_7_code 2 = .ok (.getfield 85, 3) := by decide +kernel
theorem d_Mo_node_5 : decode prog_15_method_7_code 5 = .ok (.bipush 12, 2) := by decide +kernel
theorem d_Mo_node_7 : decode prog_15_method_7_code 7 = .ok (.if_icmp .ne 7, 3) := by decide +kernel
theorem d_Mo_node_10 : decode prog_15_method_7_code 10 = .ok (.iconst 1, 1) := by decide +kernel
theorem d_Mo_node_11 : decode prog_15_method_7_code 11 = .ok (.goto 4, 3) := by decide +kernel
theorem d_Mo_node_14 : decode prog_15_method_7_code 14 = .ok (.iconst 0, 1) := by decide +kernel
theorem d_Mo_node_15 : decode prog_15_method_7_code 15 = .ok (.putfield 81, 3) := by decide +kernel
theorem d_Mo_node_18 : decode prog_15_method_7_code 18 = .ok (.aload_n 0, 1) := by decide +kernel
theorem d_Mo_node_19 : decode prog_15_method_7_code 19 = .ok (.getfield 81, 3) := by decide +kernel
theorem d_Mo_node_22 : decode prog_15_method_7_code 22 = .ok (.ifCond .le 5, 3) := by decide +kernel
theorem d_Mo_node_25 : decode prog_15_method_7_code 25 = .ok (.iconst 0, 1) := by decide +kernel
theorem d_Mo_node_26 : decode prog_15_method_7_code 26 = .ok (.ireturn, 1) := by decide +kernel
theorem d_Mo_node_27 : decode prog_15_method_7_code 27 = .ok (.aload_n 0, 1) := by decide +kernel
theorem d_Mo_node_28 : decode prog_15_method_7_code 28 = .ok (.dup, 1) := by decide +kernel
theorem d_Mo_node_29 : decode prog_15_method_7_code 29 = .ok (.getfield 85, 3) := by decide +kernel
theorem d_Mo_node_32 : decode prog_15_method_7_code 32 = .ok (.iconst 1, 1) := by decide +kernel
theorem d_Mo_node_33 : decode prog_15_method_7_code 33 = .ok (.iadd, 1) := by decide +kernel
theorem d_Mo_node_34 : decode prog_15_method_7_code 34 = .ok (.putfield 85, 3) := by decide +kernel
theorem d_Mo_node_37 : decode prog_15_method_7_code 37 = .ok (.aload_n 0, 1) := by decide +kernel
theorem d_Mo_node_38 : decode prog_15_method_7_code 38 = .ok (.getfield 85, 3) := by decide +kernel
theorem d_Mo_node_41 : decode prog_15_method_7_code 41 = .ok (.iconst 1, 1) := by decide +kernel
theorem d_Mo_node_42 : decode prog_15_method_7_code 42 = .ok (.isub, 1) := by decide +kernel
theorem d_Mo_node_43 : decode prog_15_method_7_code 43 = .ok (.ireturn, 1) := by decide +kernel
def wb_Mo_node_15 (po : Option Value → Pic → Prop) (th : String → Pic → Prop) (P : Pic) (a0 : Nat) (t0 : Int32) (t1 : Nat) : Prop := p_k P t1 = 13 ∧ p_k (s_i P 480 t1 t0) a0 = 13 ∧ (((p_i (s_i P 480 t1 t0) 480 a0) ≤ 0 → (∀ (P105 : Pic), P105 = s_i (s_i P 480 t1 t0) 481 a0 ((p_i (s_i P 480 t1 t0) 481 a0) + (1 : Int32)) → po (some (.int ((p_i P105 481 a0) - (1 : Int32)))) P105)) ∧ (¬ (p_i (s_i P 480 t1 t0) 480 a0) ≤ 0 → (po (some (.int (0 : Int32))) (s_i P 480 t1 t0))))
def wp_Mo_node (po : Option Value → Pic → Prop) (th : String → Pic → Prop) (P : Pic) (a0 : Nat) : Prop := p_k P a0 = 13 ∧ ((¬ (p_i P 481 a0) = (12 : Int32) → (wb_Mo_node_15 po th P a0 (0 : Int32) a0)) ∧ ((p_i P 481 a0) = (12 : Int32) → (wb_Mo_node_15 po th P a0 (1 : Int32) a0)))
set_option maxHeartbeats 4000000 in
set_option maxRecDepth 100000 in
theorem wk_Mo_node_15 {p : Program} {l : Launch} {e : Env} {s : State} {m : MethodId} {args : Array Value} {below : List Frame} {meth : Method} {c : Code} {D : pq_D} {P0 : Pic} {po : Option Value → Pic → Prop} {th : String → Pic → Prop} (hfl : l.flags = flags0) (C : Cx p e s m args meth c prog_15_method_7_code 1 "WaterWorksModel" D P0) (hmg : e.platform.magicAccessors = ({} : Platform).magicAccessors) (hr : meth.sig.returnType = (some .int)) (hin : meth.name = "node") (htab : c.exceptionTable.toList = tableOf []) : ∀ (P : Pic) (a0 : Nat) (t0 : Int32) (t1 : Nat) (H : Heap) (locs : List Loc) (cells slots : Nat) (ls : Array Slot), wb_Mo_node_15 po th P a0 t0 t1 → Pi D P H → Sg (cq_A P0 s) s.heap H P locs → lv_has ls 1 [(0, .ref a0)] → cells + 0 ≤ 0 → slots + 0 ≤ 0 → W p l e rm_Mo_node s m args below meth c H locs cells slots (mt_MQ below (cq_Q D P0 false po th) args s 0 0 (cq_free P0 false)) (F0 m 15 ls [.int t0, .ref t1]) := by
  intro P a0 t0 t1 H locs cells slots ls h hP hS hl hcc hss
  obtain ⟨hx, hb, hml, hown, hlocks, htr, hT, hK, hSt, hN, hP0⟩ := id C
  have L81_12 : pq_fl s m args 81 12 0 := ⟨_, "WaterWorksModel", "WaterWorksModel", rfl, by decide, hown, Or.inl (hT _ k_1104 _), (fun _ z => z)⟩
  have L85_12 : pq_fl s m args 85 12 1 := ⟨_, "WaterWorksModel", "WaterWorksModel", rfl, by decide, hown, Or.inl (hT _ k_1105 _), (fun _ z => z)⟩
  unfold wb_Mo_node_15 at h
  obtain ⟨hk103, h⟩ := h
  refine pq_puti (pc := 15) (f := 480) hx hb hT hK hP hS L81_12 hk103 rfl rfl rfl rfl d_Mo_node_15 (fun H locs hP hS => ?_)
  have hk103 : p_k (s_i P 480 t1 t0) t1 = 13 := by rw [pk_i]; exact hk103
  refine lv_aload_n (pc := 18) hx hb d_Mo_node_18 rfl (lv_at hl 0 rfl) ?_
  obtain ⟨hk104, h⟩ := h
  refine pq_geti (pc := 19) (f := 480) hx hb hT hK hP L81_12 hk104 rfl d_Mo_node_19 ?_
  refine lv_if_le (pc := 22) (tgt := 27) hx hb d_Mo_node_22 (by decide) (fun c106 => ?_) (fun c106 => ?_)
  · replace h := h.1 c106
    refine lv_aload_n (pc := 27) hx hb d_Mo_node_27 rfl (lv_at hl 0 rfl) ?_
    refine lv_dup (pc := 28) hx hb d_Mo_node_28 rfl ?_
    refine pq_geti (pc := 29) (f := 481) hx hb hT hK hP L85_12 hk104 rfl d_Mo_node_29 ?_
    refine lv_iconst (pc := 32) (v := 1) hx hb d_Mo_node_32 (by decide) ?_
    refine lv_iadd (pc := 33) hx hb d_Mo_node_33 ?_
    refine pq_puti (pc := 34) (f := 481) hx hb hT hK hP hS L85_12 hk104 rfl rfl rfl rfl d_Mo_node_34 (fun H locs hP hS => ?_)
    have hk103 : p_k (s_i (s_i P 480 t1 t0) 481 a0 ((p_i (s_i P 480 t1 t0) 481 a0) + (1 : Int32))) t1 = 13 := by rw [pk_i]; exact hk103
    have hk104 : p_k (s_i (s_i P 480 t1 t0) 481 a0 ((p_i (s_i P 480 t1 t0) 481 a0) + (1 : Int32))) a0 = 13 := by rw [pk_i]; exact hk104
    obtain ⟨P105, eP105⟩ : ∃ z : Pic, z = s_i (s_i P 480 t1 t0) 481 a0 ((p_i (s_i P 480 t1 t0) 481 a0) + (1 : Int32)) := ⟨_, rfl⟩
    replace h := h P105 eP105
    rw [← eP105] at hP hS
    have hk103 : p_k P105 t1 = 13 := by rw [eP105]; exact hk103
    have hk104 : p_k P105 a0 = 13 := by rw [eP105]; exact hk104
    refine lv_aload_n (pc := 37) hx hb d_Mo_node_37 rfl (lv_at hl 0 rfl) ?_
    refine pq_geti (pc := 38) (f := 481) hx hb hT hK hP L85_12 hk104 rfl d_Mo_node_38 ?_
    refine lv_iconst (pc := 41) (v := 1) hx hb d_Mo_node_41 (by decide) ?_
    refine lv_isub (pc := 42) hx hb d_Mo_node_42 ?_
    exact we_i (pc := 43) hx hb hlocks hr hP hS (show cells + 0 ≤ 0 by omega) (show slots + 0 ≤ 0 by omega) h d_Mo_node_43
  · replace h := h.2 c106
    refine lv_iconst (pc := 25) (v := 0) hx hb d_Mo_node_25 (by decide) ?_
    exact we_i (pc := 26) hx hb hlocks hr hP hS (show cells + 0 ≤ 0 by omega) (show slots + 0 ≤ 0 by omega) h d_Mo_node_26
set_option maxHeartbeats 4000000 in
set_option maxRecDepth 100000 in
theorem ct_Mo_node {l : Launch} (hfl : l.flags = flags0) (D : pq_D) {po : Option Value → Pic → Prop} {th : String → Pic → Prop} {P : Pic} {a0 : Nat} (h : wp_Mo_node po th P a0) : CT l D y_Mo_node (.code y_Mo_node prog_15_method_7_code 1 (some .int)) rm_Mo_node false [.ref a0] P po th := by
  refine ct_of (hs := []) hfl (by decide +kernel) (Or.inl ⟨rfl, rfl⟩) (Nat.le_of_ble_eq_true rfl) ?_
  intro p e s m below meth c C hmg hr hin htab ls hl
  have hl : lv_has ls 1 [(0, .ref a0)] := hl
  generalize hargs : ([.ref a0] : List Value).toArray = args at C ⊢
  obtain ⟨hx, hb, hml, hown, hlocks, htr, hT, hK, hSt, hN, hP0⟩ := id C
  have L81_12 : pq_fl s m args 81 12 0 := ⟨_, "WaterWorksModel", "WaterWorksModel", rfl, by decide, hown, Or.inl (hT _ k_1104 _), (fun _ z => z)⟩
  have L85_12 : pq_fl s m args 85 12 1 := ⟨_, "WaterWorksModel", "WaterWorksModel", rfl, by decide, hown, Or.inl (hT _ k_1105 _), (fun _ z => z)⟩
  have hP : Pi D P s.heap := hP0
  have hS : Sg (cq_A P s) s.heap s.heap P [] := Sg.start hP0
  unfold wp_Mo_node at h
  refine lv_aload_n (pc := 0) hx hb d_Mo_node_0 rfl (lv_at hl 0 rfl) ?_
  refine lv_aload_n (pc := 1) hx hb d_Mo_node_1 rfl (lv_at hl 0 rfl) ?_
  obtain ⟨hk101, h⟩ := h
  refine pq_geti (pc := 2) (f := 481) hx hb hT hK hP L85_12 hk101 rfl d_Mo_node_2 ?_
  refine lv_bipush (pc := 5) (v := 12) hx hb d_Mo_node_5 (by decide) ?_
  refine lv_icmp_ne (pc := 7) (tgt := 14) hx hb d_Mo_node_7 (by decide) (fun c102 => ?_) (fun c102 => ?_)
  · replace h := h.1 c102
    refine lv_iconst (pc := 14) (v := 0) hx hb d_Mo_node_14 (by decide) ?_
    exact wk_Mo_node_15 hfl C hmg hr hin htab _ a0 (0 : Int32) a0 _ _ _ _ _ h hP hS (lv_sub hl [0] rfl) (show 0 + 0 ≤ 0 by omega) (show 0 + 0 ≤ 0 by omega)
  · replace h := h.2 c102
    refine lv_iconst (pc := 10) (v := 1) hx hb d_Mo_node_10 (by decide) ?_
    refine lv_goto (pc := 11) (tgt := 15) hx hb d_Mo_node_11 (by decide) ?_
    exact wk_Mo_node_15 hfl C hmg hr hin htab _ a0 (1 : Int32) a0 _ _ _ _ _ h hP hS (lv_sub hl [0] rfl) (show 0 + 0 ≤ 0 by omega) (show 0 + 0 ≤ 0 by omega)
/-! WaterWorksModel.pipe(III)I -/
abbrev y_Mo_pipe : MethodName := ⟨"WaterWorksModel", "pipe", "(III)I"⟩
abbrev rm_Mo_pipe : Room := { frames := 2, cells := 0, slots := 0, locals := 61 }
theorem h_Mo_pipe : y_Mo_pipe.cls ≠ "java/lang/invoke/MethodHandle" ∧ y_Mo_pipe.cls ≠ "java/lang/invoke/VarHandle" := by decide +kernel
theorem n_Mo_pipe : (parseMethodDescriptor y_Mo_pipe.desc).map (fun d => d.parameters.length) = some 3 := by decide +kernel
theorem d_Mo_pipe_0 : decode prog_15_method_8_code 0 = .ok (.aload_n 0, 1) := by decide +kernel
theorem d_Mo_pipe_1 : decode prog_15_method_8_code 1 = .ok (.aload_n 0, 1) := by decide +kernel
theorem d_Mo_pipe_2 : decode prog_15_method_8_code 2 = .ok (.iload_n 1, 1) := by decide +kernel
theorem d_Mo_pipe_3 : decode prog_15_method_8_code 3 = .ok (.invokevirtual 98, 3) := by decide +kernel
theorem d_Mo_pipe_6 : decode prog_15_method_8_code 6 = .ok (.ifCond .ne 11, 3) := by decide +kernel
theorem d_Mo_pipe_9 : decode prog_15_method_8_code 9 = .ok (.aload_n 0, 1) := by decide +kernel
theorem d_Mo_pipe_10 : decode prog_15_method_8_code 10 = .ok (.iload_n 2, 1) := by decide +kernel
theorem d_Mo_pipe_11 : decode prog_15_method_8_code 11 = .ok (.invokevirtual 98, 3) := by decide +kernel
theorem d_Mo_pipe_14 : decode prog_15_method_8_code 14 = .ok (.ifCond .eq 7, 3) := by decide +kernel
theorem d_Mo_pipe_17 : decode prog_15_method_8_code 17 = .ok (.iconst 1, 1) := by decide +kernel
theorem d_Mo_pipe_18 : decode prog_15_method_8_code 18 = .ok (.goto 35, 3) := by decide +kernel
theorem d_Mo_pipe_21 : decode prog_15_method_8_code 21 = .ok (.iload_n 1, 1) := by decide +kernel
theorem d_Mo_pipe_22 : decode prog_15_method_8_code 22 = .ok (.iload_n 2, 1) := by decide +kernel
theorem d_Mo_pipe_23 : decode prog_15_method_8_code 23 = .ok (.if_icmp .eq 12, 3) := by decide +kernel
theorem d_Mo_pipe_26 : decode prog_15_method_8_code 26 = .ok (.iload_n 3, 1) := by decide +kernel
theorem d_Mo_pipe_27 : decode prog_15_method_8_code 27 = .ok (.ifCond .lt 8, 3) := by decide +kernel
theorem d_Mo_pipe_30 : decode prog_15_method_8_code 30 = .ok (.iload_n 3, 1) := by decide +kernel
theorem d_Mo_pipe_31 : decode prog_15_method_8_code 31 = .ok (.iconst 3, 1) := by decide +kernel
theorem d_Mo_pipe_32 : decode prog_15_method_8_code 32 = .ok (.if_icmp .le 7, 3) := by decide +kernel
theorem d_Mo_pipe_35 : decode prog_15_method_8_code 35 = .ok (.iconst 2, 1) := by decide +kernel
theorem d_Mo_pipe_36 : decode prog_15_method_8_code 36 = .ok (.goto 17, 3) := by decide +kernel
theorem d_Mo_pipe_39 : decode prog_15_method_8_code 39 = .ok (.aload_n 0, 1) := by decide +kernel
theorem d_Mo_pipe_40 : decode prog_15_method_8_code 40 = .ok (.getfield 88, 3) := by decide +kernel
theorem d_Mo_pipe_43 : decode prog_15_method_8_code 43 = .ok (.bipush 16, 2) := by decide +kernel
theorem d_Mo_pipe_45 : decode prog_15_method_8_code 45 = .ok (.if_icmp .ne 7, 3) := by decide +kernel
theorem d_Mo_pipe_48 : decode prog_15_method_8_code 48 = .ok (.iconst 3, 1) := by decide +kernel
theorem d_Mo_pipe_49 : decode prog_15_method_8_code 49 = .ok (.goto 4, 3) := by decide +kernel
theorem d_Mo_pipe_52 : decode prog_15_method_8_code 52 = .ok (.iconst 0, 1) := by decide +kernel
theorem d_Mo_pipe_53 : decode prog_15_method_8_code 53 = .ok (.putfield 81, 3) := by decide +kernel
theorem d_Mo_pipe_56 : decode prog_15_method_8_code 56 = .ok (.aload_n 0, 1) := by decide +kernel
theorem d_Mo_pipe_57 : decode prog_15_method_8_code 57 = .ok (.getfield 81, 3) := by decide +kernel
theorem d_Mo_pipe_60 : decode prog_15_method_8_code 60 = .ok (.ifCond .le 5, 3) := by decide +kernel
theorem d_Mo_pipe_63 : decode prog_15_method_8_code 63 = .ok (.iconst 0, 1) := by decide +kernel
theorem d_Mo_pipe_64 : decode prog_15_method_8_code 64 = .ok (.ireturn, 1) := by decide +kernel
theorem d_Mo_pipe_65 : decode prog_15_method_8_code 65 = .ok (.aload_n 0, 1) := by decide +kernel
theorem d_Mo_pipe_66 : decode prog_15_method_8_code 66 = .ok (.getfield 13, 3) := by decide +kernel
theorem d_Mo_pipe_69 : decode prog_15_method_8_code 69 = .ok (.iconst 2, 1) := by decide +kernel
theorem d_Mo_pipe_70 : decode prog_15_method_8_code 70 = .ok (.aload_n 0, 1) := by decide +kernel
theorem d_Mo_pipe_71 : decode prog_15_method_8_code 71 = .ok (.getfield 88, 3) := by decide +kernel
theorem d_Mo_pipe_74 : decode prog_15_method_8_code 74 = .ok (.imul, 1) := by decide +kernel
theorem d_Mo_pipe_75 : decode prog_15_method_8_code 75 = .ok (.iload_n 1, 1) := by decide +kernel
theorem d_Mo_pipe_76 : decode prog_15_method_8_code 76 = .ok (.iastore, 1) := by decide +kernel
theorem d_Mo_pipe_77 : decode prog_15_method_8_code 77 = .ok (.aload_n 0, 1) := by decide +kernel
theorem d_Mo_pipe_78 : decode prog_15_method_8_code 78 = .ok (.getfield 13, 3) := by decide +kernel
theorem d_Mo_pipe_81 : decode prog_15_method_8_code 81 = .ok (.iconst 2, 1) := by decide +kernel
theorem d_Mo_pipe_82 : decode prog_15_method_8_code 82 = .ok (.aload_n 0, 1) := by decide +kernel
theorem d_Mo_pipe_83 : decode prog_15_method_8_code 83 = .ok (.getfield 88, 3) := by decide +kernel
theorem d_Mo_pipe_86 : decode prog_15_method_8_code 86 = .ok (.imul, 1) := by decide +kernel
theorem d_Mo_pipe_87 : decode prog_15_method_8_code 87 = .ok (.iconst 1, 1) := by decide +kernel
theorem d_Mo_pipe_88 : decode prog_15_method_8_code 88 = .ok (.iadd, 1) := by decide +kernel
theorem d_Mo_pipe_89 : decode prog_15_method_8_code 89 = .ok (.iload_n 2, 1) := by decide +kernel
theorem d_Mo_pipe_90 : decode prog_15_method_8_code 90 = .ok (.iastore, 1) := by decide +kernel
theorem d_Mo_pipe_91 : decode prog_15_method_8_code 91 = .ok (.iconst 0, 1) := by decide +kernel
theorem d_Mo_pipe_92 : decode prog_15_method_8_code 92 = .ok (.istore 4, 2) := by decide +kernel
theorem d_Mo_pipe_94 : decode prog_15_method_8_code 94 = .ok (.iload 4, 2) := by decide +kernel
theorem d_Mo_pipe_96 : decode prog_15_method_8_code 96 = .ok (.iconst 2, 1) := by decide +kernel
theorem d_Mo_pipe_97 : decode prog_15_method_8_code 97 = .ok (.if_icmp .ge 53, 3) := by decide +kernel
theorem d_Mo_pipe_100 : decode prog_15_method_8_code 100 = .ok (.aload_n 0, 1) := by decide +kernel
theorem d_Mo_pipe_101 : decode prog_15_method_8_code 101 = .ok (.getfield 17, 3) := by decide +kernel
theorem d_Mo_pipe_104 : decode prog_15_method_8_code 104 = .ok (.iconst 2, 1) := by decide +kernel
theorem d_Mo_pipe_105 : decode prog_15_method_8_code 105 = .ok (.aload_n 0, 1) := by decide +kernel
theorem d_Mo_pipe_106 : decode prog_15_method_8_code 106 = .ok (.getfield 88, 3) := by decide +kernel
theorem d_Mo_pipe_109 : decode prog_15_method_8_code 109 = .ok (.imul, 1) := by decide +kernel
theorem d_Mo_pipe_110 : decode prog_15_method_8_code 110 = .ok (.iload 4, 2) := by decide +kernel
theorem d_Mo_pipe_112 : decode prog_15_method_8_code 112 = .ok (.iadd, 1) := by decide +kernel
theorem d_Mo_pipe_113 : decode prog_15_method_8_code 113 = .ok (.iload_n 3, 1) := by decide +kernel
theorem d_Mo_pipe_114 : decode prog_15_method_8_code 114 = .ok (.iload 4, 2) := by decide +kernel
theorem d_Mo_pipe_116 : decode prog_15_method_8_code 116 = .ok (.ishr, 1) := by decide +kernel
theorem d_Mo_pipe_117 : decode prog_15_method_8_code 117 = .ok (.iconst 1, 1) := by decide +kernel
theorem d_Mo_pipe_118 : decode prog_15_method_8_code 118 = .ok (.iand, 1) := by decide +kernel
theorem d_Mo_pipe_119 : decode prog_15_method_8_code 119 = .ok (.iconst 1, 1) := by decide +kernel
theorem d_Mo_pipe_120 : decode prog_15_method_8_code 120 = .ok (.if_icmp .ne 7, 3) := by decide +kernel
theorem d_Mo_pipe_123 : decode prog_15_method_8_code 123 = .ok (.iconst 1, 1) := by decide +kernel
theorem d_Mo_pipe_124 : decode prog_15_method_8_code 124 = .ok (.goto 4, 3) := by decide +kernel
theorem d_Mo_pipe_127 : decode prog_15_method_8_code 127 = .ok (.iconst 0, 1) := by decide +kernel
theorem d_Mo_pipe_128 : decode prog_15_method_8_code 128 = .ok (.bastore, 1) := by decide +kernel
theorem d_Mo_pipe_129 : decode prog_15_method_8_code 129 = .ok (.aload_n 0, 1) := by decide +kernel
theorem d_Mo_pipe_130 : decode prog_15_method_8_code 130 = .ok (.getfield 20, 3) := by decide +kernel
theorem d_Mo_pipe_133 : decode prog_15_method_8_code 133 = .ok (.iconst 2, 1) := by decide +kernel
theorem d_Mo_pipe_134 : decode prog_15_method_8_code 134 = .ok (.aload_n 0, 1) := by decide +kernel
theorem d_Mo_pipe_135 : decode prog_15_method_8_code 135 = .ok (.getfield 88, 3) := by decide +kernel
theorem d_Mo_pipe_138 : decode prog_15_method_8_code 138 = .ok (.imul, 1) := by decide +kernel
theorem d_Mo_pipe_139 : decode prog_15_method_8_code 139 = .ok (.iload 4, 2) := by decide +kernel
theorem d_Mo_pipe_141 : decode prog_15_method_8_code 141 = .ok (.iadd, 1) := by decide +kernel
theorem d_Mo_pipe_142 : decode prog_15_method_8_code 142 = .ok (.iconst 1, 1) := by decide +kernel
theorem d_Mo_pipe_143 : decode prog_15_method_8_code 143 = .ok (.bastore, 1) := by decide +kernel
theorem d_Mo_pipe_144 : decode prog_15_method_8_code 144 = .ok (.iinc 4 1, 3) := by decide +kernel
theorem d_Mo_pipe_147 : decode prog_15_method_8_code 147 = .ok (.goto (-53), 3) := by decide +kernel
theorem d_Mo_pipe_150 : decode prog_15_method_8_code 150 = .ok (.aload_n 0, 1) := by decide +kernel
theorem d_Mo_pipe_151 : decode prog_15_method_8_code 151 = .ok (.dup, 1) := by decide +kernel
theorem d_Mo_pipe_152 : decode prog_15_method_8_code 152 = .ok (.getfield 88, 3) := by decide +kernel
theorem d_Mo_pipe_155 : decode prog_15_method_8_code 155 = .ok (.iconst 1, 1) := by decide +kernel
theorem d_Mo_pipe_156 : decode prog_15_method_8_code 156 = .ok (.iadd, 1) := by decide +kernel
theorem d_Mo_pipe_157 : decode prog_15_method_8_code 157 = .ok (.putfield 88, 3) := by decide +kernel
theorem d_Mo_pipe_160 : decode prog_15_method_8_code 160 = .ok (.aload_n 0, 1) := by decide +kernel
theorem d_Mo_pipe_161 : decode prog_15_method_8_code 161 = .ok (.getfield 88, 3) := by decide +kernel
theorem d_Mo_pipe_164 : decode prog_15_method_8_code 164 = .ok (.iconst 1, 1) := by decide +kernel
theorem d_Mo_pipe_165 : decode prog_15_method_8_code 165 = .ok (.isub, 1) := by decide +kernel
theorem d_Mo_pipe_166 : decode prog_15_method_8_code 166 = .ok (.ireturn, 1) := by decide +kernel
def wb_Mo_pipe_128 (po : Option Value → Pic → Prop) (th : String → Pic → Prop) (K94 : Pic → Nat → Int32 → Int32 → Prop) (P : Pic) (a0 : Nat) (x3 : Int32) (x4 : Int32) (t0 : Int32) (t1 : Int32) (t2 : Nat) : Prop := p_k P t2 = 103 ∧ vp_in t1 (p_n P t2) ∧ (t0 = 0 ∨ t0 = 1) ∧ p_k (s_ai P t2 (Int32.toNatClampNeg t1) t0) a0 = 13 ∧ ∃ a130, p_r (s_ai P t2 (Int32.toNatClampNeg t1) t0) 487 a0 = some a130 ∧ p_k (s_ai P t2 (Int32.toNatClampNeg t1) t0) a130 = 103 ∧ vp_in (((2 : Int32) * (p_i (s_ai P t2 (Int32.toNatClampNeg t1) t0) 482 a0)) + x4) (p_n (s_ai P t2 (Int32.toNatClampNeg t1) t0) a130) ∧ ∀ (P133 : Pic), P133 = s_ai (s_ai P t2 (Int32.toNatClampNeg t1) t0) a130 (Int32.toNatClampNeg (((2 : Int32) * (p_i (s_ai P t2 (Int32.toNatClampNeg t1) t0) 482 a0)) + x4)) (1 : Int32) → ∀ (x134 : Int32), x134 = x4 + 1 → K94 P133 a0 x3 x134
def wb_Mo_pipe_94 (po : Option Value → Pic → Prop) (th : String → Pic → Prop) (K94 : Pic → Nat → Int32 → Int32 → Prop) (P : Pic) (a0 : Nat) (x3 : Int32) (x4 : Int32) : Prop := (((2 : Int32) ≤ x4 → (p_k P a0 = 13 ∧ po (some (.int ((p_i (s_i P 482 a0 ((p_i P 482 a0) + (1 : Int32))) 482 a0) - (1 : Int32)))) (s_i P 482 a0 ((p_i P 482 a0) + (1 : Int32))))) ∧ (¬ (2 : Int32) ≤ x4 → (p_k P a0 = 13 ∧ ∃ a123, p_r P 486 a0 = some a123 ∧ ((¬ ((x3 >>> (x4 &&& 31)) &&& (1 : Int32)) = (1 : Int32) → (wb_Mo_pipe_128 po th K94 P a0 x3 x4 (0 : Int32) (((2 : Int32) * (p_i P 482 a0)) + x4) a123)) ∧ (((x3 >>> (x4 &&& 31)) &&& (1 : Int32)) = (1 : Int32) → (wb_Mo_pipe_128 po th K94 P a0 x3 x4 (1 : Int32) (((2 : Int32) * (p_i P 482 a0)) + x4) a123))))))
def wl_Mo_pipe_94 (po : Option Value → Pic → Prop) (th : String → Pic → Prop) : Nat → Pic → Nat → Int32 → Int32 → Prop
  | 0 => fun _ _ _ _ => False
  | n + 1 => wb_Mo_pipe_94 po th (wl_Mo_pipe_94 po th n)
def wb_Mo_pipe_53 (po : Option Value → Pic → Prop) (th : String → Pic → Prop) (P : Pic) (a0 : Nat) (x1 : Int32) (x2 : Int32) (x3 : Int32) (t0 : Int32) (t1 : Nat) : Prop := p_k P t1 = 13 ∧ p_k (s_i P 480 t1 t0) a0 = 13 ∧ (((p_i (s_i P 480 t1 t0) 480 a0) ≤ 0 → (∃ a112, p_r (s_i P 480 t1 t0) 485 a0 = some a112 ∧ p_k (s_i P 480 t1 t0) a112 = 101 ∧ vp_in ((2 : Int32) * (p_i (s_i P 480 t1 t0) 482 a0)) (p_n (s_i P 480 t1 t0) a112) ∧ ∀ (P115 : Pic), P115 = s_ai (s_i P 480 t1 t0) a112 (Int32.toNatClampNeg ((2 : Int32) * (p_i (s_i P 480 t1 t0) 482 a0))) x1 → ∃ a116, p_r P115 485 a0 = some a116 ∧ p_k P115 a116 = 101 ∧ vp_in (((2 : Int32) * (p_i P115 482 a0)) + (1 : Int32)) (p_n P115 a116) ∧ ∀ (P119 : Pic), P119 = s_ai P115 a116 (Int32.toNatClampNeg (((2 : Int32) * (p_i P115 482 a0)) + (1 : Int32))) x2 → ∃ n, wl_Mo_pipe_94 po th n P119 a0 x3 (0 : Int32))) ∧ (¬ (p_i (s_i P 480 t1 t0) 480 a0) ≤ 0 → (po (some (.int (0 : Int32))) (s_i P 480 t1 t0))))
def wb_Mo_pipe_17 (po : Option Value → Pic → Prop) (th : String → Pic → Prop) (P : Pic) (a0 : Nat) (x1 : Int32) (x2 : Int32) (x3 : Int32) (t0 : Nat) : Prop := wb_Mo_pipe_53 po th P a0 x1 x2 x3 (1 : Int32) t0
def wb_Mo_pipe_35 (po : Option Value → Pic → Prop) (th : String → Pic → Prop) (P : Pic) (a0 : Nat) (x1 : Int32) (x2 : Int32) (x3 : Int32) (t0 : Nat) : Prop := wb_Mo_pipe_53 po th P a0 x1 x2 x3 (2 : Int32) t0
def wp_Mo_pipe (po : Option Value → Pic → Prop) (th : String → Pic → Prop) (P : Pic) (a0 : Nat) (x1 : Int32) (x2 : Int32) (x3 : Int32) : Prop := p_k P a0 = 13 ∧ wp_Mo_noNode (cp_i fun x102 _ => ((¬ x102 = 0 → (wb_Mo_pipe_17 po th P a0 x1 x2 x3 a0)) ∧ (x102 = 0 → (wp_Mo_noNode (cp_i fun x103 _ => ((x103 = 0 → (((x1 = x2 → (wb_Mo_pipe_35 po th P a0 x1 x2 x3 a0)) ∧ (¬ x1 = x2 → (((x3 < 0 → (wb_Mo_pipe_35 po th P a0 x1 x2 x3 a0)) ∧ (¬ x3 < 0 → (((x3 ≤ (3 : Int32) → (((¬ (p_i P 482 a0) = (16 : Int32) → (wb_Mo_pipe_53 po th P a0 x1 x2 x3 (0 : Int32) a0)) ∧ ((p_i P 482 a0) = (16 : Int32) → (wb_Mo_pipe_53 po th P a0 x1 x2 x3 (3 : Int32) a0))))) ∧ (¬ x3 ≤ (3 : Int32) → (wb_Mo_pipe_35 po th P a0 x1 x2 x3 a0))))))))))) ∧ (¬ x103 = 0 → (wb_Mo_pipe_17 po th P a0 x1 x2 x3 a0)))) th P a0 x2)))) th P a0 x1
set_option maxHeartbeats 4000000 in
set_option maxRecDepth 100000 in
theorem wk_Mo_pipe_128 {p : Program} {l : Launch} {e : Env} {s : State} {m : MethodId} {args : Array Value} {below : List Frame} {meth : Method} {c : Code} {D : pq_D} {P0 : Pic} {po : Option Value → Pic → Prop} {th : String → Pic → Prop} {K94 : Pic → Nat → Int32 → Int32 → Prop} (hfl : l.flags = flags0) (C : Cx p e s m args meth c prog_15_method_8_code 5 "WaterWorksModel" D P0) (hmg : e.platform.magicAccessors = ({} : Platform).magicAccessors) (hr : meth.sig.returnType = (some .int)) (hin : meth.name = "pipe") (htab : c.exceptionTable.toList = tableOf []) (HK94 : ∀ (P : Pic) (a0 : Nat) (x3 : Int32) (x4 : Int32) (H : Heap) (locs : List Loc) (cells slots : Nat) (ls : Array Slot), K94 P a0 x3 x4 → Pi D P H → Sg (cq_A P0 s) s.heap H P locs → lv_has ls 5 [(0, .ref a0), (3, .int x3), (4, .int x4)] → cells + 0 ≤ 0 → slots + 0 ≤ 0 → W p l e rm_Mo_pipe s m args below meth c H locs cells slots (mt_MQ below (cq_Q D P0 false po th) args s 0 0 (cq_free P0 false)) (F0 m 94 ls [])) : ∀ (P : Pic) (a0 : Nat) (x3 : Int32) (x4 : Int32) (t0 : Int32) (t1 : Int32) (t2 : Nat) (H : Heap) (locs : List Loc) (cells slots : Nat) (ls : Array Slot), wb_Mo_pipe_128 po th K94 P a0 x3 x4 t0 t1 t2 → Pi D P H → Sg (cq_A P0 s) s.heap H P locs → lv_has ls 5 [(0, .ref a0), (3, .int x3), (4, .int x4)] → cells + 0 ≤ 0 → slots + 0 ≤ 0 → W p l e rm_Mo_pipe s m args below meth c H locs cells slots (mt_MQ below (cq_Q D P0 false po th) args s 0 0 (cq_free P0 false)) (F0 m 128 ls [.int t0, .int t1, .ref t2]) := by
  intro P a0 x3 x4 t0 t1 t2 H locs cells slots ls h hP hS hl hcc hss
  obtain ⟨hx, hb, hml, hown, hlocks, htr, hT, hK, hSt, hN, hP0⟩ := id C
  have L13_12 : pq_fl s m args 13 12 5 := ⟨_, "WaterWorksModel", "WaterWorksModel", rfl, by decide, hown, Or.inl (hT _ k_1109 _), (fun _ z => z)⟩
  have L17_12 : pq_fl s m args 17 12 6 := ⟨_, "WaterWorksModel", "WaterWorksModel", rfl, by decide, hown, Or.inl (hT _ k_1110 _), (fun _ z => z)⟩
  have L20_12 : pq_fl s m args 20 12 7 := ⟨_, "WaterWorksModel", "WaterWorksModel", rfl, by decide, hown, Or.inl (hT _ k_1111 _), (fun _ z => z)⟩
  have L81_12 : pq_fl s m args 81 12 0 := ⟨_, "WaterWorksModel", "WaterWorksModel", rfl, by decide, hown, Or.inl (hT _ k_1104 _), (fun _ z => z)⟩
  have L88_12 : pq_fl s m args 88 12 2 := ⟨_, "WaterWorksModel", "WaterWorksModel", rfl, by decide, hown, Or.inl (hT _ k_1106 _), (fun _ z => z)⟩
  unfold wb_Mo_pipe_128 at h
  obtain ⟨hk126, h⟩ := h
  obtain ⟨hi127, h⟩ := h
  obtain ⟨hz128, h⟩ := h
  refine pq_zast (pc := 128) hx hb hK hP hS hk126 hi127 hz128 d_Mo_pipe_128 (fun H locs hP hS => ?_)
  have hk126 : p_k (s_ai P t2 (Int32.toNatClampNeg t1) t0) t2 = 103 := by rw [pk_ai]; exact hk126
  refine lv_aload_n (pc := 129) hx hb d_Mo_pipe_129 rfl (lv_at hl 0 rfl) ?_
  obtain ⟨hk129, h⟩ := h
  obtain ⟨a130, ea130, h⟩ := h
  refine pq_geta (pc := 130) (f := 487) hx hb hT hK hP L20_12 hk129 rfl ea130 d_Mo_pipe_130 ?_
  refine lv_iconst (pc := 133) (v := 2) hx hb d_Mo_pipe_133 (by decide) ?_
  refine lv_aload_n (pc := 134) hx hb d_Mo_pipe_134 rfl (lv_at hl 0 rfl) ?_
  refine pq_geti (pc := 135) (f := 482) hx hb hT hK hP L88_12 hk129 rfl d_Mo_pipe_135 ?_
  refine lv_imul (pc := 138) hx hb d_Mo_pipe_138 ?_
  refine lv_iload (pc := 139) hx hb d_Mo_pipe_139 (lv_at hl 2 rfl) ?_
  refine lv_iadd (pc := 141) hx hb d_Mo_pipe_141 ?_
  refine lv_iconst (pc := 142) (v := 1) hx hb d_Mo_pipe_142 (by decide) ?_
  obtain ⟨hk131, h⟩ := h
  obtain ⟨hi132, h⟩ := h
  refine pq_zast (pc := 143) hx hb hK hP hS hk131 hi132 (by decide) d_Mo_pipe_143 (fun H locs hP hS => ?_)
  have hk126 : p_k (s_ai (s_ai P t2 (Int32.toNatClampNeg t1) t0) a130 (Int32.toNatClampNeg (((2 : Int32) * (p_i (s_ai P t2 (Int32.toNatClampNeg t1) t0) 482 a0)) + x4)) (1 : Int32)) t2 = 103 := by rw [pk_ai]; exact hk126
  have hk129 : p_k (s_ai (s_ai P t2 (Int32.toNatClampNeg t1) t0) a130 (Int32.toNatClampNeg (((2 : Int32) * (p_i (s_ai P t2 (Int32.toNatClampNeg t1) t0) 482 a0)) + x4)) (1 : Int32)) a0 = 13 := by rw [pk_ai]; exact hk129
  have hk131 : p_k (s_ai (s_ai P t2 (Int32.toNatClampNeg t1) t0) a130 (Int32.toNatClampNeg (((2 : Int32) * (p_i (s_ai P t2 (Int32.toNatClampNeg t1) t0) 482 a0)) + x4)) (1 : Int32)) a130 = 103 := by rw [pk_ai]; exact hk131
  obtain ⟨P133, eP133⟩ : ∃ z : Pic, z = s_ai (s_ai P t2 (Int32.toNatClampNeg t1) t0) a130 (Int32.toNatClampNeg (((2 : Int32) * (p_i (s_ai P t2 (Int32.toNatClampNeg t1) t0) 482 a0)) + x4)) (1 : Int32) := ⟨_, rfl⟩
  replace h := h P133 eP133
  rw [← eP133] at hP hS
  have hk126 : p_k P133 t2 = 103 := by rw [eP133]; exact hk126
  have hk129 : p_k P133 a0 = 13 := by rw [eP133]; exact hk129
  have hk131 : p_k P133 a130 = 103 := by rw [eP133]; exact hk131
  obtain ⟨x134, ex134⟩ : ∃ z : Int32, z = x4 + 1 := ⟨_, rfl⟩
  replace h := h x134 ex134
  refine lv_iinc (pc := 144) (v := x134) (lv' := [(4, .int x134), (0, .ref a0), (3, .int x3)]) hx hb d_Mo_pipe_144 hl (k := 2) rfl (by rw [ex134]; rfl) (by decide) rfl (fun ls hl => ?_)
  refine lv_goto (pc := 147) (tgt := 94) hx hb d_Mo_pipe_147 (by decide) ?_
  exact HK94 _ a0 x3 x134 _ _ _ _ _ h hP hS (lv_sub hl [1, 2, 0] rfl) (show cells + 0 ≤ 0 by omega) (show slots + 0 ≤ 0 by omega)
set_option maxHeartbeats 4000000 in
set_option maxRecDepth 100000 in
theorem wk_Mo_pipe_94 {p : Program} {l : Launch} {e : Env} {s : State} {m : MethodId} {args : Array Value} {below : List Frame} {meth : Method} {c : Code} {D : pq_D} {P0 : Pic} {po : Option Value → Pic → Prop} {th : String → Pic → Prop} {K94 : Pic → Nat → Int32 → Int32 → Prop} (hfl : l.flags = flags0) (C : Cx p e s m args meth c prog_15_method_8_code 5 "WaterWorksModel" D P0) (hmg : e.platform.magicAccessors = ({} : Platform).magicAccessors) (hr : meth.sig.returnType = (some .int)) (hin : meth.name = "pipe") (htab : c.exceptionTable.toList = tableOf []) (HK94 : ∀ (P : Pic) (a0 : Nat) (x3 : Int32) (x4 : Int32) (H : Heap) (locs : List Loc) (cells slots : Nat) (ls : Array Slot), K94 P a0 x3 x4 → Pi D P H → Sg (cq_A P0 s) s.heap H P locs → lv_has ls 5 [(0, .ref a0), (3, .int x3), (4, .int x4)] → cells + 0 ≤ 0 → slots + 0 ≤ 0 → W p l e rm_Mo_pipe s m args below meth c H locs cells slots (mt_MQ below (cq_Q D P0 false po th) args s 0 0 (cq_free P0 false)) (F0 m 94 ls [])) : ∀ (P : Pic) (a0 : Nat) (x3 : Int32) (x4 : Int32) (H : Heap) (locs : List Loc) (cells slots : Nat) (ls : Array Slot), wb_Mo_pipe_94 po th K94 P a0 x3 x4 → Pi D P H → Sg (cq_A P0 s) s.heap H P locs → lv_has ls 5 [(0, .ref a0), (3, .int x3), (4, .int x4)] → cells + 0 ≤ 0 → slots + 0 ≤ 0 → W p l e rm_Mo_pipe s m args below meth c H locs cells slots (mt_MQ below (cq_Q D P0 false po th) args s 0 0 (cq_free P0 false)) (F0 m 94 ls []) := by
  intro P a0 x3 x4 H locs cells slots ls h hP hS hl hcc hss
  obtain ⟨hx, hb, hml, hown, hlocks, htr, hT, hK, hSt, hN, hP0⟩ := id C
  have L13_12 : pq_fl s m args 13 12 5 := ⟨_, "WaterWorksModel", "WaterWorksModel", rfl, by decide, hown, Or.inl (hT _ k_1109 _), (fun _ z => z)⟩
  have L17_12 : pq_fl s m args 17 12 6 := ⟨_, "WaterWorksModel", "WaterWorksModel", rfl, by decide, hown, Or.inl (hT _ k_1110 _), (fun _ z => z)⟩
  have L20_12 : pq_fl s m args 20 12 7 := ⟨_, "WaterWorksModel", "WaterWorksModel", rfl, by decide, hown, Or.inl (hT _ k_1111 _), (fun _ z => z)⟩
  have L81_12 : pq_fl s m args 81 12 0 := ⟨_, "WaterWorksModel", "WaterWorksModel", rfl, by decide, hown, Or.inl (hT _ k_1104 _), (fun _ z => z)⟩
  have L88_12 : pq_fl s m args 88 12 2 := ⟨_, "WaterWorksModel", "WaterWorksModel", rfl, by decide, hown, Or.inl (hT _ k_1106 _), (fun _ z => z)⟩
  unfold wb_Mo_pipe_94 at h
  refine lv_iload (pc := 94) hx hb d_Mo_pipe_94 (lv_at hl 2 rfl) ?_
  refine lv_iconst (pc := 96) (v := 2) hx hb d_Mo_pipe_96 (by decide) ?_
  refine lv_icmp_ge (pc := 97) (tgt := 150) hx hb d_Mo_pipe_97 (by decide) (fun c125 => ?_) (fun c125 => ?_)
  · replace h := h.1 c125
    refine lv_aload_n (pc := 150) hx hb d_Mo_pipe_150 rfl (lv_at hl 0 rfl) ?_
    refine lv_dup (pc := 151) hx hb d_Mo_pipe_151 rfl ?_
    obtain ⟨hk121, h⟩ := h
    refine pq_geti (pc := 152) (f := 482) hx hb hT hK hP L88_12 hk121 rfl d_Mo_pipe_152 ?_
    refine lv_iconst (pc := 155) (v := 1) hx hb d_Mo_pipe_155 (by decide) ?_
    refine lv_iadd (pc := 156) hx hb d_Mo_pipe_156 ?_
    refine pq_puti (pc := 157) (f := 482) hx hb hT hK hP hS L88_12 hk121 rfl rfl rfl rfl d_Mo_pipe_157 (fun H locs hP hS => ?_)
    have hk121 : p_k (s_i P 482 a0 ((p_i P 482 a0) + (1 : Int32))) a0 = 13 := by rw [pk_i]; exact hk121
    refine lv_aload_n (pc := 160) hx hb d_Mo_pipe_160 rfl (lv_at hl 0 rfl) ?_
    refine pq_geti (pc := 161) (f := 482) hx hb hT hK hP L88_12 hk121 rfl d_Mo_pipe_161 ?_
    refine lv_iconst (pc := 164) (v := 1) hx hb d_Mo_pipe_164 (by decide) ?_
    refine lv_isub (pc := 165) hx hb d_Mo_pipe_165 ?_
    exact we_i (pc := 166) hx hb hlocks hr hP hS (show cells + 0 ≤ 0 by omega) (show slots + 0 ≤ 0 by omega) h d_Mo_pipe_166
  · replace h := h.2 c125
    refine lv_aload_n (pc := 100) hx hb d_Mo_pipe_100 rfl (lv_at hl 0 rfl) ?_
    obtain ⟨hk122, h⟩ := h
    obtain ⟨a123, ea123, h⟩ := h
    refine pq_geta (pc := 101) (f := 486) hx hb hT hK hP L17_12 hk122 rfl ea123 d_Mo_pipe_101 ?_
    refine lv_iconst (pc := 104) (v := 2) hx hb d_Mo_pipe_104 (by decide) ?_
    refine lv_aload_n (pc := 105) hx hb d_Mo_pipe_105 rfl (lv_at hl 0 rfl) ?_
    refine pq_geti (pc := 106) (f := 482) hx hb hT hK hP L88_12 hk122 rfl d_Mo_pipe_106 ?_
    refine lv_imul (pc := 109) hx hb d_Mo_pipe_109 ?_
    refine lv_iload (pc := 110) hx hb d_Mo_pipe_110 (lv_at hl 2 rfl) ?_
    refine lv_iadd (pc := 112) hx hb d_Mo_pipe_112 ?_
    refine lv_iload_n (pc := 113) hx hb d_Mo_pipe_113 rfl (lv_at hl 1 rfl) ?_
    refine lv_iload (pc := 114) hx hb d_Mo_pipe_114 (lv_at hl 2 rfl) ?_
    refine lv_ishr (pc := 116) hx hb d_Mo_pipe_116 ?_
    refine lv_iconst (pc := 117) (v := 1) hx hb d_Mo_pipe_117 (by decide) ?_
    refine lv_iand (pc := 118) hx hb d_Mo_pipe_118 ?_
    refine lv_iconst (pc := 119) (v := 1) hx hb d_Mo_pipe_119 (by decide) ?_
    refine lv_icmp_ne (pc := 120) (tgt := 127) hx hb d_Mo_pipe_120 (by decide) (fun c124 => ?_) (fun c124 => ?_)
    · replace h := h.1 c124
      refine lv_iconst (pc := 127) (v := 0) hx hb d_Mo_pipe_127 (by decide) ?_
      exact wk_Mo_pipe_128 hfl C hmg hr hin htab HK94 _ a0 x3 x4 (0 : Int32) (((2 : Int32) * (p_i P 482 a0)) + x4) a123 _ _ _ _ _ h hP hS (lv_sub hl [0, 1, 2] rfl) (show cells + 0 ≤ 0 by omega) (show slots + 0 ≤ 0 by omega)
    · replace h := h.2 c124
      refine lv_iconst (pc := 123) (v := 1) hx hb d_Mo_pipe_123 (by decide) ?_
      refine lv_goto (pc := 124) (tgt := 128) hx hb d_Mo_pipe_124 (by decide) ?_
      exact wk_Mo_pipe_128 hfl C hmg hr hin htab HK94 _ a0 x3 x4 (1 : Int32) (((2 : Int32) * (p_i P 482 a0)) + x4) a123 _ _ _ _ _ h hP hS (lv_sub hl [0, 1, 2] rfl) (show cells + 0 ≤ 0 by omega) (show slots + 0 ≤ 0 by omega)
theorem wm_Mo_pipe_94 {p : Program} {l : Launch} {e : Env} {s : State} {m : MethodId} {args : Array Value} {below : List Frame} {meth : Method} {c : Code} {D : pq_D} {P0 : Pic} {po : Option Value → Pic → Prop} {th : String → Pic → Prop} (hfl : l.flags = flags0) (C : Cx p e s m args meth c prog_15_method_8_code 5 "WaterWorksModel" D P0) (hmg : e.platform.magicAccessors = ({} : Platform).magicAccessors) (hr : meth.sig.returnType = (some .int)) (hin : meth.name = "pipe") (htab : c.exceptionTable.toList = tableOf []) : ∀ n : Nat, ∀ (P : Pic) (a0 : Nat) (x3 : Int32) (x4 : Int32) (H : Heap) (locs : List Loc) (cells slots : Nat) (ls : Array Slot), wl_Mo_pipe_94 po th n P a0 x3 x4 → Pi D P H → Sg (cq_A P0 s) s.heap H P locs → lv_has ls 5 [(0, .ref a0), (3, .int x3), (4, .int x4)] → cells + 0 ≤ 0 → slots + 0 ≤ 0 → W p l e rm_Mo_pipe s m args below meth c H locs cells slots (mt_MQ below (cq_Q D P0 false po th) args s 0 0 (cq_free P0 false)) (F0 m 94 ls []) := by
  intro n
  induction n with
  | zero => intro P a0 x3 x4 H locs cells slots ls h; exact h.elim
  | succ n ih => exact wk_Mo_pipe_94 hfl C hmg hr hin htab ih
set_option maxHeartbeats 4000000 in
set_option maxRecDepth 100000 in
theorem wk_Mo_pipe_53 {p : Program} {l : Launch} {e : Env} {s : State} {m : MethodId} {args : Array Value} {below : List Frame} {meth : Method} {c : Code} {D : pq_D} {P0 : Pic} {po : Option Value → Pic → Prop} {th : String → Pic → Prop} (hfl : l.flags = flags0) (C : Cx p e s m args meth c prog_15_method_8_code 5 "WaterWorksModel" D P0) (hmg : e.platform.magicAccessors = ({} : Platform).magicAccessors) (hr : meth.sig.returnType = (some .int)) (hin : meth.name = "pipe") (htab : c.exceptionTable.toList = tableOf []) : ∀ (P : Pic) (a0 : Nat) (x1 : Int32) (x2 : Int32) (x3 : Int32) (t0 : Int32) (t1 : Nat) (H : Heap) (locs : List Loc) (cells slots : Nat) (ls : Array Slot), wb_Mo_pipe_53 po th P a0 x1 x2 x3 t0 t1 → Pi D P H → Sg (cq_A P0 s) s.heap H P locs → lv_has ls 5 [(0, .ref a0), (1, .int x1), (2, .int x2), (3, .int x3)] → cells + 0 ≤ 0 → slots + 0 ≤ 0 → W p l e rm_Mo_pipe s m args below meth c H locs cells slots (mt_MQ below (cq_Q D P0 false po th) args s 0 0 (cq_free P0 false)) (F0 m 53 ls [.int t0, .ref t1]) := by
  intro P a0 x1 x2 x3 t0 t1 H locs cells slots ls h hP hS hl hcc hss
  obtain ⟨hx, hb, hml, hown, hlocks, htr, hT, hK, hSt, hN, hP0⟩ := id C
  have L13_12 : pq_fl s m args 13 12 5 := ⟨_, "WaterWorksModel", "WaterWorksModel", rfl, by decide, hown, Or.inl (hT _ k_1109 _), (fun _ z => z)⟩
  have L17_12 : pq_fl s m args 17 12 6 := ⟨_, "WaterWorksModel", "WaterWorksModel", rfl, by decide, hown, Or.inl (hT _ k_1110 _), (fun _ z => z)⟩
  have L20_12 : pq_fl s m args 20 12 7 := ⟨_, "WaterWorksModel", "WaterWorksModel", rfl, by decide, hown, Or.inl (hT _ k_1111 _), (fun _ z => z)⟩
  have L81_12 : pq_fl s m args 81 12 0 := ⟨_, "WaterWorksModel", "WaterWorksModel", rfl, by decide, hown, Or.inl (hT _ k_1104 _), (fun _ z => z)⟩
  have L88_12 : pq_fl s m args 88 12 2 := ⟨_, "WaterWorksModel", "WaterWorksModel", rfl, by decide, hown, Or.inl (hT _ k_1106 _), (fun _ z => z)⟩
  unfold wb_Mo_pipe_53 at h
  obtain ⟨hk110, h⟩ := h
  refine pq_puti (pc := 53) (f := 480) hx hb hT hK hP hS L81_12 hk110 rfl rfl rfl rfl d_Mo_pipe_53 (fun H locs hP hS => ?_)
  have hk110 : p_k (s_i P 480 t1 t0) t1 = 13 := by rw [pk_i]; exact hk110
  refine lv_aload_n (pc := 56) hx hb d_Mo_pipe_56 rfl (lv_at hl 0 rfl) ?_
  obtain ⟨hk111, h⟩ := h
  refine pq_geti (pc := 57) (f := 480) hx hb hT hK hP L81_12 hk111 rfl d_Mo_pipe_57 ?_
  refine lv_if_le (pc := 60) (tgt := 65) hx hb d_Mo_pipe_60 (by decide) (fun c120 => ?_) (fun c120 => ?_)
  · replace h := h.1 c120
    refine lv_aload_n (pc := 65) hx hb d_Mo_pipe_65 rfl (lv_at hl 0 rfl) ?_
    obtain ⟨a112, ea112, h⟩ := h
    refine pq_geta (pc := 66) (f := 485) hx hb hT hK hP L13_12 hk111 rfl ea112 d_Mo_pipe_66 ?_
    refine lv_iconst (pc := 69) (v := 2) hx hb d_Mo_pipe_69 (by decide) ?_
    refine lv_aload_n (pc := 70) hx hb d_Mo_pipe_70 rfl (lv_at hl 0 rfl) ?_
    refine pq_geti (pc := 71) (f := 482) hx hb hT hK hP L88_12 hk111 rfl d_Mo_pipe_71 ?_
    refine lv_imul (pc := 74) hx hb d_Mo_pipe_74 ?_
    refine lv_iload_n (pc := 75) hx hb d_Mo_pipe_75 rfl (lv_at hl 1 rfl) ?_
    obtain ⟨hk113, h⟩ := h
    obtain ⟨hi114, h⟩ := h
    refine pq_iast (pc := 76) hx hb hK hP hS hk113 hi114 d_Mo_pipe_76 (fun H locs hP hS => ?_)
    have hk110 : p_k (s_ai (s_i P 480 t1 t0) a112 (Int32.toNatClampNeg ((2 : Int32) * (p_i (s_i P 480 t1 t0) 482 a0))) x1) t1 = 13 := by rw [pk_ai]; exact hk110
    have hk111 : p_k (s_ai (s_i P 480 t1 t0) a112 (Int32.toNatClampNeg ((2 : Int32) * (p_i (s_i P 480 t1 t0) 482 a0))) x1) a0 = 13 := by rw [pk_ai]; exact hk111
    have hk113 : p_k (s_ai (s_i P 480 t1 t0) a112 (Int32.toNatClampNeg ((2 : Int32) * (p_i (s_i P 480 t1 t0) 482 a0))) x1) a112 = 101 := by rw [pk_ai]; exact hk113
    obtain ⟨P115, eP115⟩ : ∃ z : Pic, z = s_ai (s_i P 480 t1 t0) a112 (Int32.toNatClampNeg ((2 : Int32) * (p_i (s_i P 480 t1 t0) 482 a0))) x1 := ⟨_, rfl⟩
    replace h := h P115 eP115
    rw [← eP115] at hP hS
    have hk110 : p_k P115 t1 = 13 := by rw [eP115]; exact hk110
    have hk111 : p_k P115 a0 = 13 := by rw [eP115]; exact hk111
    have hk113 : p_k P115 a112 = 101 := by rw [eP115]; exact hk113
    refine lv_aload_n (pc := 77) hx hb d_Mo_pipe_77 rfl (lv_at hl 0 rfl) ?_
    obtain ⟨a116, ea116, h⟩ := h
    refine pq_geta (pc := 78) (f := 485) hx hb hT hK hP L13_12 hk111 rfl ea116 d_Mo_pipe_78 ?_
    refine lv_iconst (pc := 81) (v := 2) hx hb d_Mo_pipe_81 (by decide) ?_
    refine lv_aload_n (pc := 82) hx hb d_Mo_pipe_82 rfl (lv_at hl 0 rfl) ?_
    refine pq_geti (pc := 83) (f := 482) hx hb hT hK hP L88_12 hk111 rfl d_Mo_pipe_83 ?_
    refine lv_imul (pc := 86) hx hb d_Mo_pipe_86 ?_
    refine lv_iconst (pc := 87) (v := 1) hx hb d_Mo_pipe_87 (by decide) ?_
    refine lv_iadd (pc := 88) hx hb d_Mo_pipe_88 ?_
    refine lv_iload_n (pc := 89) hx hb d_Mo_pipe_89 rfl (lv_at hl 2 rfl) ?_
    obtain ⟨hk117, h⟩ := h
    obtain ⟨hi118, h⟩ := h
    refine pq_iast (pc := 90) hx hb hK hP hS hk117 hi118 d_Mo_pipe_90 (fun H locs hP hS => ?_)
    have hk110 : p_k (s_ai P115 a116 (Int32.toNatClampNeg (((2 : Int32) * (p_i P115 482 a0)) + (1 : Int32))) x2) t1 = 13 := by rw [pk_ai]; exact hk110
    have hk111 : p_k (s_ai P115 a116 (Int32.toNatClampNeg (((2 : Int32) * (p_i P115 482 a0)) + (1 : Int32))) x2) a0 = 13 := by rw [pk_ai]; exact hk111
    have hk113 : p_k (s_ai P115 a116 (Int32.toNatClampNeg (((2 : Int32) * (p_i P115 482 a0)) + (1 : Int32))) x2) a112 = 101 := by rw [pk_ai]; exact hk113
    have hk117 : p_k (s_ai P115 a116 (Int32.toNatClampNeg (((2 : Int32) * (p_i P115 482 a0)) + (1 : Int32))) x2) a116 = 101 := by rw [pk_ai]; exact hk117
    obtain ⟨P119, eP119⟩ : ∃ z : Pic, z = s_ai P115 a116 (Int32.toNatClampNeg (((2 : Int32) * (p_i P115 482 a0)) + (1 : Int32))) x2 := ⟨_, rfl⟩
    replace h := h P119 eP119
    rw [← eP119] at hP hS
    have hk110 : p_k P119 t1 = 13 := by rw [eP119]; exact hk110
    have hk111 : p_k P119 a0 = 13 := by rw [eP119]; exact hk111
    have hk113 : p_k P119 a112 = 101 := by rw [eP119]; exact hk113
    have hk117 : p_k P119 a116 = 101 := by rw [eP119]; exact hk117
    refine lv_iconst (pc := 91) (v := 0) hx hb d_Mo_pipe_91 (by decide) ?_
    refine lv_istore (pc := 92) (lv' := [(4, .int (0 : Int32)), (0, .ref a0), (1, .int x1), (2, .int x2), (3, .int x3)]) hx hb d_Mo_pipe_92 hl (by decide) rfl (fun ls hl => ?_)
    obtain ⟨n, h⟩ := h
    exact wm_Mo_pipe_94 hfl C hmg hr hin htab n _ a0 x3 (0 : Int32) _ _ _ _ _ h hP hS (lv_sub hl [1, 4, 0] rfl) (show cells + 0 ≤ 0 by omega) (show slots + 0 ≤ 0 by omega)
  · replace h := h.2 c120
    refine lv_iconst (pc := 63) (v := 0) hx hb d_Mo_pipe_63 (by decide) ?_
    exact we_i (pc := 64) hx hb hlocks hr hP hS (show cells + 0 ≤ 0 by omega) (show slots + 0 ≤ 0 by omega) h d_Mo_pipe_64
set_option maxHeartbeats 4000000 in
set_option maxRecDepth 100000 in
theorem wk_Mo_pipe_17 {p : Program} {l : Launch} {e : Env} {s : State} {m : MethodId} {args : Array Value} {below : List Frame} {meth : Method} {c : Code} {D : pq_D} {P0 : Pic} {po : Option Value → Pic → Prop} {th : String → Pic → Prop} (hfl : l.flags = flags0) (C : Cx p e s m args meth c prog_15_method_8_code 5 "WaterWorksModel" D P0) (hmg : e.platform.magicAccessors = ({} : Platform).magicAccessors) (hr : meth.sig.returnType = (some .int)) (hin : meth.name = "pipe") (htab : c.exceptionTable.toList = tableOf []) : ∀ (P : Pic) (a0 : Nat) (x1 : Int32) (x2 : Int32) (x3 : Int32) (t0 : Nat) (H : Heap) (locs : List Loc) (cells slots : Nat) (ls : Array Slot), wb_Mo_pipe_17 po th P a0 x1 x2 x3 t0 → Pi D P H → Sg (cq_A P0 s) s.heap H P locs → lv_has ls 5 [(0, .ref a0), (1, .int x1), (2, .int x2), (3, .int x3)] → cells + 0 ≤ 0 → slots + 0 ≤ 0 → W p l e rm_Mo_pipe s m args below meth c H locs cells slots (mt_MQ below (cq_Q D P0 false po th) args s 0 0 (cq_free P0 false)) (F0 m 17 ls [.ref t0]) := by
  intro P a0 x1 x2 x3 t0 H locs cells slots ls h hP hS hl hcc hss
  obtain ⟨hx, hb, hml, hown, hlocks, htr, hT, hK, hSt, hN, hP0⟩ := id C
  have L13_12 : pq_fl s m args 13 12 5 := ⟨_, "WaterWorksModel", "WaterWorksModel", rfl, by decide, hown, Or.inl (hT _ k_1109 _), (fun _ z => z)⟩
  have L17_12 : pq_fl s m args 17 12 6 := ⟨_, "WaterWorksModel", "WaterWorksModel", rfl, by decide, hown, Or.inl (hT _ k_1110 _), (fun _ z => z)⟩
  have L20_12 : pq_fl s m args 20 12 7 := ⟨_, "WaterWorksModel", "WaterWorksModel", rfl, by decide, hown, Or.inl (hT _ k_1111 _), (fun _ z => z)⟩
  have L81_12 : pq_fl s m args 81 12 0 := ⟨_, "WaterWorksModel", "WaterWorksModel", rfl, by decide, hown, Or.inl (hT _ k_1104 _), (fun _ z => z)⟩
  have L88_12 : pq_fl s m args 88 12 2 := ⟨_, "WaterWorksModel", "WaterWorksModel", rfl, by decide, hown, Or.inl (hT _ k_1106 _), (fun _ z => z)⟩
  unfold wb_Mo_pipe_17 at h
  refine lv_iconst (pc := 17) (v := 1) hx hb d_Mo_pipe_17 (by decide) ?_
  refine lv_goto (pc := 18) (tgt := 53) hx hb d_Mo_pipe_18 (by decide) ?_
  exact wk_Mo_pipe_53 hfl C hmg hr hin htab _ a0 x1 x2 x3 (1 : Int32) t0 _ _ _ _ _ h hP hS (lv_sub hl [0, 1, 2, 3] rfl) (show cells + 0 ≤ 0 by omega) (show slots + 0 ≤ 0 by omega)
set_option maxHeartbeats 4000000 in
set_option maxRecDepth 100000 in
theorem wk_Mo_pipe_35 {p : Program} {l : Launch} {e : Env} {s : State} {m : MethodId} {args : Array Value} {below : List Frame} {meth : Method} {c : Code} {D : pq_D} {P0 : Pic} {po : Option Value → Pic → Prop} {th : String → Pic → Prop} (hfl : l.flags = flags0) (C : Cx p e s m args meth c prog_15_method_8_code 5 "WaterWorksModel" D P0) (hmg : e.platform.magicAccessors = ({} : Platform).magicAccessors) (hr : meth.sig.returnType = (some .int)) (hin : meth.name = "pipe") (htab : c.exceptionTable.toList = tableOf []) : ∀ (P : Pic) (a0 : Nat) (x1 : Int32) (x2 : Int32) (x3 : Int32) (t0 : Nat) (H : Heap) (locs : List Loc) (cells slots : Nat) (ls : Array Slot), wb_Mo_pipe_35 po th P a0 x1 x2 x3 t0 → Pi D P H → Sg (cq_A P0 s) s.heap H P locs → lv_has ls 5 [(0, .ref a0), (1, .int x1), (2, .int x2), (3, .int x3)] → cells + 0 ≤ 0 → slots + 0 ≤ 0 → W p l e rm_Mo_pipe s m args below meth c H locs cells slots (mt_MQ below (cq_Q D P0 false po th) args s 0 0 (cq_free P0 false)) (F0 m 35 ls [.ref t0]) := by
  intro P a0 x1 x2 x3 t0 H locs cells slots ls h hP hS hl hcc hss
  obtain ⟨hx, hb, hml, hown, hlocks, htr, hT, hK, hSt, hN, hP0⟩ := id C
  have L13_12 : pq_fl s m args 13 12 5 := ⟨_, "WaterWorksModel", "WaterWorksModel", rfl, by decide, hown, Or.inl (hT _ k_1109 _), (fun _ z => z)⟩
  have L17_12 : pq_fl s m args 17 12 6 := ⟨_, "WaterWorksModel", "WaterWorksModel", rfl, by decide, hown, Or.inl (hT _ k_1110 _), (fun _ z => z)⟩
  have L20_12 : pq_fl s m args 20 12 7 := ⟨_, "WaterWorksModel", "WaterWorksModel", rfl, by decide, hown, Or.inl (hT _ k_1111 _), (fun _ z => z)⟩
  have L81_12 : pq_fl s m args 81 12 0 := ⟨_, "WaterWorksModel", "WaterWorksModel", rfl, by decide, hown, Or.inl (hT _ k_1104 _), (fun _ z => z)⟩
  have L88_12 : pq_fl s m args 88 12 2 := ⟨_, "WaterWorksModel", "WaterWorksModel", rfl, by decide, hown, Or.inl (hT _ k_1106 _), (fun _ z => z)⟩
  unfold wb_Mo_pipe_35 at h
  refine lv_iconst (pc := 35) (v := 2) hx hb d_Mo_pipe_35 (by decide) ?_
  refine lv_goto (pc := 36) (tgt := 53) hx hb d_Mo_pipe_36 (by decide) ?_
  exact wk_Mo_pipe_53 hfl C hmg hr hin htab _ a0 x1 x2 x3 (2 : Int32) t0 _ _ _ _ _ h hP hS (lv_sub hl [0, 1, 2, 3] rfl) (show cells + 0 ≤ 0 by omega) (show slots + 0 ≤ 0 by omega)
set_option maxHeartbeats 4000000 in
set_option maxRecDepth 100000 in
theorem ct_Mo_pipe {l : Launch} (hfl : l.flags = flags0) (D : pq_D) {po : Option Value → Pic → Prop} {th : String → Pic → Prop} {P : Pic} {a0 : Nat} {x1 : Int32} {x2 : Int32} {x3 : Int32} (h : wp_Mo_pipe po th P a0 x1 x2 x3) : CT l D y_Mo_pipe (.code y_Mo_pipe prog_15_method_8_code 5 (some .int)) rm_Mo_pipe false [.ref a0, .int x1, .int x2, .int x3] P po th := by
  refine ct_of (hs := []) hfl (by decide +kernel) (Or.inl ⟨rfl, rfl⟩) (Nat.le_of_ble_eq_true rfl) ?_
  intro p e s m below meth c C hmg hr hin htab ls hl
  have hl : lv_has ls 5 [(0, .ref a0), (1, .int x1), (2, .int x2), (3, .int x3)] := hl
  generalize hargs : ([.ref a0, .int x1, .int x2, .int x3] : List Value).toArray = args at C ⊢
  obtain ⟨hx, hb, hml, hown, hlocks, htr, hT, hK, hSt, hN, hP0⟩ := id C
  have L13_12 : pq_fl s m args 13 12 5 := ⟨_, "WaterWorksModel", "WaterWorksModel", rfl, by decide, hown, Or.inl (hT _ k_1109 _), (fun _ z => z)⟩
  have L17_12 : pq_fl s m args 17 12 6 := ⟨_, "WaterWorksModel", "WaterWorksModel", rfl, by decide, hown, Or.inl (hT _ k_1110 _), (fun _ z => z)⟩
  have L20_12 : pq_fl s m args 20 12 7 := ⟨_, "WaterWorksModel", "WaterWorksModel", rfl, by decide, hown, Or.inl (hT _ k_1111 _), (fun _ z => z)⟩
  have L81_12 : pq_fl s m args 81 12 0 := ⟨_, "WaterWorksModel", "WaterWorksModel", rfl, by decide, hown, Or.inl (hT _ k_1104 _), (fun _ z => z)⟩
  have L88_12 : pq_fl s m args 88 12 2 := ⟨_, "WaterWorksModel", "WaterWorksModel", rfl, by decide, hown, Or.inl (hT _ k_1106 _), (fun _ z => z)⟩
  have hP : Pi D P s.heap := hP0
  have hS : Sg (cq_A P s) s.heap s.heap P [] := Sg.start hP0
  unfold wp_Mo_pipe at h
  refine lv_aload_n (pc := 0) hx hb d_Mo_pipe_0 rfl (lv_at hl 0 rfl) ?_
  refine lv_aload_n (pc := 1) hx hb d_Mo_pipe_1 rfl (lv_at hl 0 rfl) ?_
  refine lv_iload_n (pc := 2) hx hb d_Mo_pipe_2 rfl (lv_at hl 1 rfl) ?_
  obtain ⟨hk101, h⟩ := h
  refine cr_i (pc := 3) C (rest := [.ref a0]) (mt_invV (As := [.int x1]) hx hb hown (hT _ k_1207 _) (hT _ k_1209 _) (hT _ ks_17 _) (mt_Cd.code (hT _ k_1210 #[])) h_Mo_noNode (pq_recv hK hP hk101 rfl) n_Mo_noNode rfl d_Mo_pipe_3) (ct_Mo_noNode hfl D h) k_1210 k_24 ⟨Nat.le_of_ble_eq_true rfl, Nat.le_of_ble_eq_true rfl⟩ ⟨(show 0 + 0 ≤ 0 by omega), (show 0 + 0 ≤ 0 by omega)⟩ hl.1 d_Mo_pipe_3 (Nat.le_of_ble_eq_true rfl) hP hS (fun x102 H locs h hP hS => ?_) (fun xx X H locs h hX hex hP hS => ?_)
  · refine lv_if_ne (pc := 6) (tgt := 17) hx hb d_Mo_pipe_6 (by decide) (fun c109 => ?_) (fun c109 => ?_)
    · replace h := h.1 c109
      exact wk_Mo_pipe_17 hfl C hmg hr hin htab _ a0 x1 x2 x3 a0 _ _ _ _ _ h hP hS (lv_sub hl [0, 1, 2, 3] rfl) (show 0 + 0 + 0 ≤ 0 by omega) (show 0 + 0 + 0 ≤ 0 by omega)
    · replace h := h.2 c109
      refine lv_aload_n (pc := 9) hx hb d_Mo_pipe_9 rfl (lv_at hl 0 rfl) ?_
      refine lv_iload_n (pc := 10) hx hb d_Mo_pipe_10 rfl (lv_at hl 2 rfl) ?_
      refine cr_i (pc := 11) C (rest := [.ref a0]) (mt_invV (As := [.int x2]) hx hb hown (hT _ k_1207 _) (hT _ k_1209 _) (hT _ ks_17 _) (mt_Cd.code (hT _ k_1210 #[])) h_Mo_noNode (pq_recv hK hP hk101 rfl) n_Mo_noNode rfl d_Mo_pipe_11) (ct_Mo_noNode hfl D h) k_1210 k_24 ⟨Nat.le_of_ble_eq_true rfl, Nat.le_of_ble_eq_true rfl⟩ ⟨(show 0 + 0 + 0 ≤ 0 by omega), (show 0 + 0 + 0 ≤ 0 by omega)⟩ hl.1 d_Mo_pipe_11 (Nat.le_of_ble_eq_true rfl) hP hS (fun x103 H locs h hP hS => ?_) (fun xx X H locs h hX hex hP hS => ?_)
      · refine lv_if_eq (pc := 14) (tgt := 21) hx hb d_Mo_pipe_14 (by decide) (fun c108 => ?_) (fun c108 => ?_)
        · replace h := h.1 c108
          refine lv_iload_n (pc := 21) hx hb d_Mo_pipe_21 rfl (lv_at hl 1 rfl) ?_
          refine lv_iload_n (pc := 22) hx hb d_Mo_pipe_22 rfl (lv_at hl 2 rfl) ?_
          refine lv_icmp_eq (pc := 23) (tgt := 35) hx hb d_Mo_pipe_23 (by decide) (fun c107 => ?_) (fun c107 => ?_)
          · replace h := h.1 c107
            exact wk_Mo_pipe_35 hfl C hmg hr hin htab _ a0 x1 x2 x3 a0 _ _ _ _ _ h hP hS (lv_sub hl [0, 1, 2, 3] rfl) (show 0 + 0 + 0 + 0 ≤ 0 by omega) (show 0 + 0 + 0 + 0 ≤ 0 by omega)
          · replace h := h.2 c107
            refine lv_iload_n (pc := 26) hx hb d_Mo_pipe_26 rfl (lv_at hl 3 rfl) ?_
            refine lv_if_lt (pc := 27) (tgt := 35) hx hb d_Mo_pipe_27 (by decide) (fun c106 => ?_) (fun c106 => ?_)
            · replace h := h.1 c106
              exact wk_Mo_pipe_35 hfl C hmg hr hin htab _ a0 x1 x2 x3 a0 _ _ _ _ _ h hP hS (lv_sub hl [0, 1, 2, 3] rfl) (show 0 + 0 + 0 + 0 ≤ 0 by omega) (show 0 + 0 + 0 + 0 ≤ 0 by omega)
            · replace h := h.2 c106
              refine lv_iload_n (pc := 30) hx hb d_Mo_pipe_30 rfl (lv_at hl 3 rfl) ?_
              refine lv_iconst (pc := 31) (v := 3) hx hb d_Mo_pipe_31 (by decide) ?_
              refine lv_icmp_le (pc := 32) (tgt := 39) hx hb d_Mo_pipe_32 (by decide) (fun c105 => ?_) (fun c105 => ?_)
              · replace h := h.1 c105
                refine lv_aload_n (pc := 39) hx hb d_Mo_pipe_39 rfl (lv_at hl 0 rfl) ?_
                refine pq_geti (pc := 40) (f := 482) hx hb hT hK hP L88_12 hk101 rfl d_Mo_pipe_40 ?_
                refine lv_bipush (pc := 43) (v := 16) hx hb d_Mo_pipe_43 (by decide) ?_
                refine lv_icmp_ne (pc := 45) (tgt := 52) hx hb d_Mo_pipe_45 (by decide) (fun c104 => ?_) (fun c104 => ?_)
                · replace h := h.1 c104
                  refine lv_iconst (pc := 52) (v := 0) hx hb d_Mo_pipe_52 (by decide) ?_
                  exact wk_Mo_pipe_53 hfl C hmg hr hin htab _ a0 x1 x2 x3 (0 : Int32) a0 _ _ _ _ _ h hP hS (lv_sub hl [0, 1, 2, 3] rfl) (show 0 + 0 + 0 + 0 ≤ 0 by omega) (show 0 + 0 + 0 + 0 ≤ 0 by omega)
                · replace h := h.2 c104
                  refine lv_iconst (pc := 48) (v := 3) hx hb d_Mo_pipe_48 (by decide) ?_
                  refine lv_goto (pc := 49) (tgt := 53) hx hb d_Mo_pipe_49 (by decide) ?_
                  exact wk_Mo_pipe_53 hfl C hmg hr hin htab _ a0 x1 x2 x3 (3 : Int32) a0 _ _ _ _ _ h hP hS (lv_sub hl [0, 1, 2, 3] rfl) (show 0 + 0 + 0 + 0 ≤ 0 by omega) (show 0 + 0 + 0 + 0 ≤ 0 by omega)
              · replace h := h.2 c105
                exact wk_Mo_pipe_35 hfl C hmg hr hin htab _ a0 x1 x2 x3 a0 _ _ _ _ _ h hP hS (lv_sub hl [0, 1, 2, 3] rfl) (show 0 + 0 + 0 + 0 ≤ 0 by omega) (show 0 + 0 + 0 + 0 ≤ 0 by omega)
        · replace h := h.2 c108
          exact wk_Mo_pipe_17 hfl C hmg hr hin htab _ a0 x1 x2 x3 a0 _ _ _ _ _ h hP hS (lv_sub hl [0, 1, 2, 3] rfl) (show 0 + 0 + 0 + 0 ≤ 0 by omega) (show 0 + 0 + 0 + 0 ≤ 0 by omega)
      · exact cq_out hlocks (pq_nil htab rfl) (show 0 + 0 + 0 + 0 ≤ 0 by omega) (show 0 + 0 + 0 + 0 ≤ 0 by omega) hX hex hP hS h
  · exact cq_out hlocks (pq_nil htab rfl) (show 0 + 0 + 0 ≤ 0 by omega) (show 0 + 0 + 0 ≤ 0 by omega) hX hex hP hS h
/-! WaterWorksModel.source(IZ)Z -/
abbrev y_Mo_source : MethodName := ⟨"WaterWorksModel", "source", "(IZ)Z"⟩
abbrev rm_Mo_source : Room := { frames := 2, cells := 0, slots := 0, locals := 61 }
theorem h_Mo_source : y_Mo_source.cls ≠ "java/lang/invoke/MethodHandle" ∧ y_Mo_source.cls ≠ "java/lang/invoke/VarHandle" := by decide +kernel
theorem n_Mo_source : (parseMethodDescriptor y_Mo_source.desc).map (fun d => d.parameters.length) = some 2 := by decide +kernel
theorem d_Mo_source_0 : decode prog_15_method_9_code 0 = .ok (.aload_n 0, 1) := by decide +kernel
theorem d_Mo_source_1 : decode prog_15_method_9_code 1 = .ok (.aload_n 0, 1) := by decide +kernel
theorem d_Mo_source_2 : decode prog_15_method_9_code 2 = .ok (.iload_n 1, 1) := by decide +kernel
theorem d_Mo_source_3 : decode prog_15_method_9_code 3 = .ok (.invokevirtual 98, 3) := by decide +kernel
theorem d_Mo_source_6 : decode prog_15_method_9_code 6 = .ok (.ifCond .eq 7, 3) := by decide +kernel
theorem d_Mo_source_9 : decode prog_15_method_9_code 9 = .ok (.iconst 1, 1) := by decide +kernel
theorem d_Mo_source_10 : decode prog_15_method_9_code 10 = .ok (.goto 4, 3) := by decide +kernel
theorem d_Mo_source_13 : decode prog_15_method_9_code 13 = .ok (.iconst 0, 1) := by decide +kernel
theorem d_Mo_source_14 : decode prog_15_method_9_code 14 = .ok (.putfield 81, 3) := by decide +kernel
theorem d_Mo_source_17 : decode prog_15_method_9_code 17 = .ok (.aload_n 0, 1) := by decide +kernel
theorem d_Mo_source_18 : decode prog_15_method_9_code 18 = .ok (.getfield 81, 3) := by decide +kernel
theorem d_Mo_source_21 : decode prog_15_method_9_code 21 = .ok (.ifCond .le 5, 3) := by decide +kernel
theorem d_Mo_source_24 : decode prog_15_method_9_code 24 = .ok (.iconst 0, 1) := by decide +kernel
theorem d_Mo_source_25 : decode prog_15_method_9_code 25 = .ok (.ireturn, 1) := by decide +kernel
theorem d_Mo_source_26 : decode prog_15_method_9_code 26 = .ok (.aload_n 0, 1) := by decide +kernel
theorem d_Mo_source_27 : decode prog_15_method_9_code 27 = .ok (.getfield 7, 3) := by decide +kernel
theorem d_Mo_source_30 : decode prog_15_method_9_code 30 = .ok (.iload_n 1, 1) := by decide +kernel
theorem d_Mo_source_31 : decode prog_15_method_9_code 31 = .ok (.baload, 1) := by decide +kernel
theorem d_Mo_source_32 : decode prog_15_method_9_code 32 = .ok (.istore_n 3, 1) := by decide +kernel
theorem d_Mo_source_33 : decode prog_15_method_9_code 33 = .ok (.aload_n 0, 1) := by decide +kernel
theorem d_Mo_source_34 : decode prog_15_method_9_code 34 = .ok (.getfield 7, 3) := by decide +kernel
theorem d_Mo_source_37 : decode prog_15_method_9_code 37 = .ok (.iload_n 1, 1) := by decide +kernel
theorem d_Mo_source_38 : decode prog_15_method_9_code 38 = .ok (.iload_n 2, 1) := by decide +kernel
theorem d_Mo_source_39 : decode prog_15_method_9_code 39 = .ok (.bastore, 1) := by decide +kernel
theorem d_Mo_source_40 : decode prog_15_method_9_code 40 = .ok (.iload_n 3, 1) := by decide +kernel
theorem d_Mo_source_41 : decode prog_15_method_9_code 41 = .ok (.ireturn, 1) := by decide +kernel
def wb_Mo_source_14 (po : Option Value → Pic → Prop) (th : String → Pic → Prop) (P : Pic) (a0 : Nat) (x1 : Int32) (x2 : Int32) (t0 : Int32) (t1 : Nat) : Prop := p_k P t1 = 13 ∧ p_k (s_i P 480 t1 t0) a0 = 13 ∧ (((p_i (s_i P 480 t1 t0) 480 a0) ≤ 0 → (∃ a106, p_r (s_i P 480 t1 t0) 484 a0 = some a106 ∧ p_k (s_i P 480 t1 t0) a106 = 103 ∧ vp_in x1 (p_n (s_i P 480 t1 t0) a106) ∧ ∀ (x109 : Int32), x109 = (p_ai (s_i P 480 t1 t0) a106 (Int32.toNatClampNeg x1)) → ∃ a110, p_r (s_i P 480 t1 t0) 484 a0 = some a110 ∧ p_k (s_i P 480 t1 t0) a110 = 103 ∧ vp_in x1 (p_n (s_i P 480 t1 t0) a110) ∧ (x2 = 0 ∨ x2 = 1) ∧ (x109 = 0 ∨ x109 = 1) ∧ po (some (.int x109)) (s_ai (s_i P 480 t1 t0) a110 (Int32.toNatClampNeg x1) x2))) ∧ (¬ (p_i (s_i P 480 t1 t0) 480 a0) ≤ 0 → (po (some (.int (0 : Int32))) (s_i P 480 t1 t0))))
def wp_Mo_source (po : Option Value → Pic → Prop) (th : String → Pic → Prop) (P : Pic) (a0 : Nat) (x1 : Int32) (x2 : Int32) : Prop := p_k P a0 = 13 ∧ wp_Mo_noNode (cp_i fun x102 _ => ((x102 = 0 → (wb_Mo_source_14 po th P a0 x1 x2 (0 : Int32) a0)) ∧ (¬ x102 = 0 → (wb_Mo_source_14 po th P a0 x1 x2 (1 : Int32) a0)))) th P a0 x1
set_option maxHeartbeats 4000000 in
set_option maxRecDepth 100000 in
theorem wk_Mo_source_14 {p : Program} {l : Launch} {e : Env} {s : State} {m : MethodId} {args : Array Value} {below : List Frame} {meth : Method} {c : Code} {D : pq_D} {P0 : Pic} {po : Option Value → Pic → Prop} {th : String → Pic → Prop} (hfl : l.flags = flags0) (C : Cx p e s m args meth c prog_15_method_9_code 4 "WaterWorksModel" D P0) (hmg : e.platform.magicAccessors = ({} : Platform).magicAccessors) (hr : meth.sig.returnType = (some .boolean)) (hin : meth.name = "source") (htab : c.exceptionTable.toList = tableOf []) : ∀ (P : Pic) (a0 : Nat) (x1 : Int32) (x2 : Int32) (t0 : Int32) (t1 : Nat) (H : Heap) (locs : List Loc) (cells slots : Nat) (ls : Array Slot), wb_Mo_source_14 po th P a0 x1 x2 t0 t1 → Pi D P H → Sg (cq_A P0 s) s.heap H P locs → lv_has ls 4 [(0, .ref a0), (1, .int x1), (2, .int x2)] → cells + 0 ≤ 0 → slots + 0 ≤ 0 → W p l e rm_Mo_source s m args below meth c H locs cells slots (mt_MQ below (cq_Q D P0 false po th) args s 0 0 (cq_free P0 false)) (F0 m 14 ls [.int t0, .ref t1]) := by
  intro P a0 x1 x2 t0 t1 H locs cells slots ls h hP hS hl hcc hss
  obtain ⟨hx, hb, hml, hown, hlocks, htr, hT, hK, hSt, hN, hP0⟩ := id C
  have L7_12 : pq_fl s m args 7 12 4 := ⟨_, "WaterWorksModel", "WaterWorksModel", rfl, by decide, hown, Or.inl (hT _ k_1108 _), (fun _ z => z)⟩
  have L81_12 : pq_fl s m args 81 12 0 := ⟨_, "WaterWorksModel", "WaterWorksModel", rfl, by decide, hown, Or.inl (hT _ k_1104 _), (fun _ z => z)⟩
  unfold wb_Mo_source_14 at h
  obtain ⟨hk104, h⟩ := h
  refine pq_puti (pc := 14) (f := 480) hx hb hT hK hP hS L81_12 hk104 rfl rfl rfl rfl d_Mo_source_14 (fun H locs hP hS => ?_)
  have hk104 : p_k (s_i P 480 t1 t0) t1 = 13 := by rw [pk_i]; exact hk104
  refine lv_aload_n (pc := 17) hx hb d_Mo_source_17 rfl (lv_at hl 0 rfl) ?_
  obtain ⟨hk105, h⟩ := h
  refine pq_geti (pc := 18) (f := 480) hx hb hT hK hP L81_12 hk105 rfl d_Mo_source_18 ?_
  refine lv_if_le (pc := 21) (tgt := 26) hx hb d_Mo_source_21 (by decide) (fun c114 => ?_) (fun c114 => ?_)
  · replace h := h.1 c114
    refine lv_aload_n (pc := 26) hx hb d_Mo_source_26 rfl (lv_at hl 0 rfl) ?_
    obtain ⟨a106, ea106, h⟩ := h
    refine pq_geta (pc := 27) (f := 484) hx hb hT hK hP L7_12 hk105 rfl ea106 d_Mo_source_27 ?_
    refine lv_iload_n (pc := 30) hx hb d_Mo_source_30 rfl (lv_at hl 1 rfl) ?_
    obtain ⟨hk107, h⟩ := h
    obtain ⟨hi108, h⟩ := h
    refine pq_zald (pc := 31) hx hb hK hP hk107 hi108 d_Mo_source_31 ?_
    refine lv_topi (fun x109 ex109 => ?_)
    replace h := h x109 ex109
    refine lv_istore_n (pc := 32) (lv' := [(3, .int x109), (0, .ref a0), (1, .int x1), (2, .int x2)]) hx hb d_Mo_source_32 rfl hl (by decide) rfl (fun ls hl => ?_)
    refine lv_aload_n (pc := 33) hx hb d_Mo_source_33 rfl (lv_at hl 1 rfl) ?_
    obtain ⟨a110, ea110, h⟩ := h
    refine pq_geta (pc := 34) (f := 484) hx hb hT hK hP L7_12 hk105 rfl ea110 d_Mo_source_34 ?_
    refine lv_iload_n (pc := 37) hx hb d_Mo_source_37 rfl (lv_at hl 2 rfl) ?_
    refine lv_iload_n (pc := 38) hx hb d_Mo_source_38 rfl (lv_at hl 3 rfl) ?_
    obtain ⟨hk111, h⟩ := h
    obtain ⟨hi112, h⟩ := h
    obtain ⟨hz113, h⟩ := h
    refine pq_zast (pc := 39) hx hb hK hP hS hk111 hi112 hz113 d_Mo_source_39 (fun H locs hP hS => ?_)
    have hk104 : p_k (s_ai (s_i P 480 t1 t0) a110 (Int32.toNatClampNeg x1) x2) t1 = 13 := by rw [pk_ai]; exact hk104
    have hk105 : p_k (s_ai (s_i P 480 t1 t0) a110 (Int32.toNatClampNeg x1) x2) a0 = 13 := by rw [pk_ai]; exact hk105
    have hk107 : p_k (s_ai (s_i P 480 t1 t0) a110 (Int32.toNatClampNeg x1) x2) a106 = 103 := by rw [pk_ai]; exact hk107
    have hk111 : p_k (s_ai (s_i P 480 t1 t0) a110 (Int32.toNatClampNeg x1) x2) a110 = 103 := by rw [pk_ai]; exact hk111
    refine lv_iload_n (pc := 40) hx hb d_Mo_source_40 rfl (lv_at hl 0 rfl) ?_
    exact we_z (pc := 41) hx hb hlocks hr hP hS (show cells + 0 ≤ 0 by omega) (show slots + 0 ≤ 0 by omega) h.1 h.2 d_Mo_source_41
  · replace h := h.2 c114
    refine lv_iconst (pc := 24) (v := 0) hx hb d_Mo_source_24 (by decide) ?_
    exact we_z (pc := 25) hx hb hlocks hr hP hS (show cells + 0 ≤ 0 by omega) (show slots + 0 ≤ 0 by omega) (by decide) h d_Mo_source_25
set_option maxHeartbeats 4000000 in
set_option maxRecDepth 100000 in
theorem ct_Mo_source {l : Launch} (hfl : l.flags = flags0) (D : pq_D) {po : Option Value → Pic → Prop} {th : String → Pic → Prop} {P : Pic} {a0 : Nat} {x1 : Int32} {x2 : Int32} (h : wp_Mo_source po th P a0 x1 x2) : CT l D y_Mo_source (.code y_Mo_source prog_15_method_9_code 4 (some .boolean)) rm_Mo_source false [.ref a0, .int x1, .int x2] P po th := by
  refine ct_of (hs := []) hfl (by decide +kernel) (Or.inl ⟨rfl, rfl⟩) (Nat.le_of_ble_eq_true rfl) ?_
  intro p e s m below meth c C hmg hr hin htab ls hl
  have hl : lv_has ls 4 [(0, .ref a0), (1, .int x1), (2, .int x2)] := hl
  generalize hargs : ([.ref a0, .int x1, .int x2] : List Value).toArray = args at C ⊢
  obtain ⟨hx, hb, hml, hown, hlocks, htr, hT, hK, hSt, hN, hP0⟩ := id C
  have L7_12 : pq_fl s m args 7 12 4 := ⟨_, "WaterWorksModel", "WaterWorksModel", rfl, by decide, hown, Or.inl (hT _ k_1108 _), (fun _ z => z)⟩
  have L81_12 : pq_fl s m args 81 12 0 := ⟨_, "WaterWorksModel", "WaterWorksModel", rfl, by decide, hown, Or.inl (hT _ k_1104 _), (fun _ z => z)⟩
  have hP : Pi D P s.heap := hP0
  have hS : Sg (cq_A P s) s.heap s.heap P [] := Sg.start hP0
  unfold wp_Mo_source at h
  refine lv_aload_n (pc := 0) hx hb d_Mo_source_0 rfl (lv_at hl 0 rfl) ?_
  refine lv_aload_n (pc := 1) hx hb d_Mo_source_1 rfl (lv_at hl 0 rfl) ?_
  refine lv_iload_n (pc := 2) hx hb d_Mo_source_2 rfl (lv_at hl 1 rfl) ?_
  obtain ⟨hk101, h⟩ := h
  refine cr_i (pc := 3) C (rest := [.ref a0]) (mt_invV (As := [.int x1]) hx hb hown (hT _ k_1207 _) (hT _ k_1209 _) (hT _ ks_17 _) (mt_Cd.code (hT _ k_1210 #[])) h_Mo_noNode (pq_recv hK hP hk101 rfl) n_Mo_noNode rfl d_Mo_source_3) (ct_Mo_noNode hfl D h) k_1210 k_24 ⟨Nat.le_of_ble_eq_true rfl, Nat.le_of_ble_eq_true rfl⟩ ⟨(show 0 + 0 ≤ 0 by omega), (show 0 + 0 ≤ 0 by omega)⟩ hl.1 d_Mo_source_3 (Nat.le_of_ble_eq_true rfl) hP hS (fun x102 H locs h hP hS => ?_) (fun xx X H locs h hX hex hP hS => ?_)
  · refine lv_if_eq (pc := 6) (tgt := 13) hx hb d_Mo_source_6 (by decide) (fun c103 => ?_) (fun c103 => ?_)
    · replace h := h.1 c103
      refine lv_iconst (pc := 13) (v := 0) hx hb d_Mo_source_13 (by decide) ?_
      exact wk_Mo_source_14 hfl C hmg hr hin htab _ a0 x1 x2 (0 : Int32) a0 _ _ _ _ _ h hP hS (lv_sub hl [0, 1, 2] rfl) (show 0 + 0 + 0 ≤ 0 by omega) (show 0 + 0 + 0 ≤ 0 by omega)
    · replace h := h.2 c103
      refine lv_iconst (pc := 9) (v := 1) hx hb d_Mo_source_9 (by decide) ?_
      refine lv_goto (pc := 10) (tgt := 14) hx hb d_Mo_source_10 (by decide) ?_
      exact wk_Mo_source_14 hfl C hmg hr hin htab _ a0 x1 x2 (1 : Int32) a0 _ _ _ _ _ h hP hS (lv_sub hl [0, 1, 2] rfl) (show 0 + 0 + 0 ≤ 0 by omega) (show 0 + 0 + 0 ≤ 0 by omega)
  · exact cq_out hlocks (pq_nil htab rfl) (show 0 + 0 + 0 ≤ 0 by omega) (show 0 + 0 + 0 ≤ 0 by omega) hX hex hP hS h
/-! WaterWorksModel.customer(I)I -/
abbrev y_Mo_customer : MethodName := ⟨"WaterWorksModel", "customer", "(I)I"⟩
abbrev rm_Mo_customer : Room := { frames := 2, cells := 0, slots := 0, locals := 61 }
theorem h_Mo_customer : y_Mo_customer.cls ≠ "java/lang/invoke/MethodHandle" ∧ y_Mo_customer.cls ≠ "java/lang/invoke/VarHandle" := by decide +kernel
theorem n_Mo_customer : (parseMethodDescriptor y_Mo_customer.desc).map (fun d => d.parameters.length) = some 1 := by decide +kernel
theorem d_Mo_customer_0 : decode prog_15_method_10_code 0 = .ok (.aload_n 0, 1) := by decide +kernel
theorem d_Mo_customer_1 : decode prog_15_method_10_code 1 = .ok (.aload_n 0, 1) := by decide +kernel
theorem d_Mo_customer_2 : decode prog_15_method_10_code 2 = .ok (.iload_n 1, 1) := by decide +kernel
theorem d_Mo_customer_3 : decode prog_15_method_10_code 3 = .ok (.invokevirtual 98, 3) := by decide +kernel
theorem d_Mo_customer_6 : decode prog_15_method_10_code 6 = .ok (.ifCond .eq 7, 3) := by decide +kernel
theorem d_Mo_customer_9 : decode prog_15_method_10_code 9 = .ok (.iconst 1, 1) := by decide +kernel
theorem d_Mo_customer_10 : decode prog_15_method_10_code 10 = .ok (.goto 17, 3) := by decide +kernel
theorem d_Mo_customer_13 : decode prog_15_method_10_code 13 = .ok (.aload_n 0, 1) := by decide +kernel
theorem d_Mo_customer_14 : decode prog_15_method_10_code 14 = .ok (.getfield 95, 3) := by decide +kernel
theorem d_Mo_customer_17 : decode prog_15_method_10_code 17 = .ok (.bipush 10, 2) := by decide +kernel
theorem d_Mo_customer_19 : decode prog_15_method_10_code 19 = .ok (.if_icmp .ne 7, 3) := by decide +kernel
theorem d_Mo_customer_22 : decode prog_15_method_10_code 22 = .ok (.iconst 2, 1) := by decide +kernel
theorem d_Mo_customer_23 : decode prog_15_method_10_code 23 = .ok (.goto 4, 3) := by decide +kernel
theorem d_Mo_customer_26 : decode prog_15_method_10_code 26 = .ok (.iconst 0, 1) := by decide +kernel
theorem d_Mo_customer_27 : decode prog_15_method_10_code 27 = .ok (.putfield 81, 3) := by decide +kernel
theorem d_Mo_customer_30 : decode prog_15_method_10_code 30 = .ok (.aload_n 0, 1) := by decide +kernel
theorem d_Mo_customer_31 : decode prog_15_method_10_code 31 = .ok (.getfield 81, 3) := by decide +kernel
theorem d_Mo_customer_34 : decode prog_15_method_10_code 34 = .ok (.ifCond .le 5, 3) := by decide +kernel
theorem d_Mo_customer_37 : decode prog_15_method_10_code 37 = .ok (.iconst 0, 1) := by decide +kernel
theorem d_Mo_customer_38 : decode prog_15_method_10_code 38 = .ok (.ireturn, 1) := by decide +kernel
theorem d_Mo_customer_39 : decode prog_15_method_10_code 39 = .ok (.aload_n 0, 1) := by decide +kernel
theorem d_Mo_customer_40 : decode prog_15_method_10_code 40 = .ok (.getfield 26, 3) := by decide +kernel
theorem d_Mo_customer_43 : decode prog_15_method_10_code 43 = .ok (.aload_n 0, 1) := by decide +kernel
theorem d_Mo_customer_44 : decode prog_15_method_10_code 44 = .ok (.getfield 95, 3) := by decide +kernel
theorem d_Mo_customer_47 : decode prog_15_method_10_code 47 = .ok (.iload_n 1, 1) := by decide +kernel
theorem d_Mo_customer_48 : decode prog_15_method_10_code 48 = .ok (.iastore, 1) := by decide +kernel
theorem d_Mo_customer_49 : decode prog_15_method_10_code 49 = .ok (.aload_n 0, 1) := by decide +kernel
theorem d_Mo_customer_50 : decode prog_15_method_10_code 50 = .ok (.dup, 1) := by decide +kernel
theorem d_Mo_customer_51 : decode prog_15_method_10_code 51 = .ok (.getfield 95, 3) := by decide +kernel
theorem d_Mo_customer_54 : decode prog_15_method_10_code 54 = .ok (.iconst 1, 1) := by decide +kernel
theorem d_Mo_customer_55 : decode prog_15_method_10_code 55 = .ok (.iadd, 1) := by decide +kernel
theorem d_Mo_customer_56 : decode prog_15_method_10_code 56 = .ok (.putfield 95, 3) := by decide +kernel
theorem d_Mo_customer_59 : decode prog_15_method_10_code 59 = .ok (.aload_n 0, 1) := by decide +kernel
theorem d_Mo_customer_60 : decode prog_15_method_10_code 60 = .ok (.getfield 95, 3) := by decide +kernel
theorem d_Mo_customer_63 : decode prog_15_method_10_code 63 = .ok (.iconst 1, 1) := by decide +kernel
theorem d_Mo_customer_64 : decode prog_15_method_10_code 64 = .ok (.isub, 1) := by decide +kernel
theorem d_Mo_customer_65 : decode prog_15_method_10_code 65 = .ok (.ireturn, 1) := by decide +kernel
def wb_Mo_customer_27 (po : Option Value → Pic → Prop) (th : String → Pic → Prop) (P : Pic) (a0 : Nat) (x1 : Int32) (t0 : Int32) (t1 : Nat) : Prop := p_k P t1 = 13 ∧ p_k (s_i P 480 t1 t0) a0 = 13 ∧ (((p_i (s_i P 480 t1 t0) 480 a0) ≤ 0 → (∃ a107, p_r (s_i P 480 t1 t0) 489 a0 = some a107 ∧ p_k (s_i P 480 t1 t0) a107 = 101 ∧ vp_in (p_i (s_i P 480 t1 t0) 483 a0) (p_n (s_i P 480 t1 t0) a107) ∧ ∀ (P110 : Pic), P110 = s_ai (s_i P 480 t1 t0) a107 (Int32.toNatClampNeg (p_i (s_i P 480 t1 t0) 483 a0)) x1 → po (some (.int ((p_i (s_i P110 483 a0 ((p_i P110 483 a0) + (1 : Int32))) 483 a0) - (1 : Int32)))) (s_i P110 483 a0 ((p_i P110 483 a0) + (1 : Int32))))) ∧ (¬ (p_i (s_i P 480 t1 t0) 480 a0) ≤ 0 → (po (some (.int (0 : Int32))) (s_i P 480 t1 t0))))
def wp_Mo_customer (po : Option Value → Pic → Prop) (th : String → Pic → Prop) (P : Pic) (a0 : Nat) (x1 : Int32) : Prop := p_k P a0 = 13 ∧ wp_Mo_noNode (cp_i fun x102 _ => ((x102 = 0 → (((¬ (p_i P 483 a0) = (10 : Int32) → (wb_Mo_customer_27 po th P a0 x1 (0 : Int32) a0)) ∧ ((p_i P 483 a0) = (10 : Int32) → (wb_Mo_customer_27 po th P a0 x1 (2 : Int32) a0))))) ∧ (¬ x102 = 0 → (wb_Mo_customer_27 po th P a0 x1 (1 : Int32) a0)))) th P a0 x1
set_option maxHeartbeats 4000000 in
set_option maxRecDepth 100000 in
theorem wk_Mo_customer_27 {p : Program} {l : Launch} {e : Env} {s : State} {m : MethodId} {args : Array Value} {below : List Frame} {meth : Method} {c : Code} {D : pq_D} {P0 : Pic} {po : Option Value → Pic → Prop} {th : String → Pic → Prop} (hfl : l.flags = flags0) (C : Cx p e s m args meth c prog_15_method_10_code 2 "WaterWorksModel" D P0) (hmg : e.platform.magicAccessors = ({} : Platform).magicAccessors) (hr : meth.sig.returnType = (some .int)) (hin : meth.name = "customer") (htab : c.exceptionTable.toList = tableOf []) : ∀ (P : Pic) (a0 : Nat) (x1 : Int32) (t0 : Int32) (t1 : Nat) (H : Heap) (locs : List Loc) (cells slots : Nat) (ls : Array Slot), wb_Mo_customer_27 po th P a0 x1 t0 t1 → Pi D P H → Sg (cq_A P0 s) s.heap H P locs → lv_has ls 2 [(0, .ref a0), (1, .int x1)] → cells + 0 ≤ 0 → slots + 0 ≤ 0 → W p l e rm_Mo_customer s m args below meth c H locs cells slots (mt_MQ below (cq_Q D P0 false po th) args s 0 0 (cq_free P0 false)) (F0 m 27 ls [.int t0, .ref t1]) := by
  intro P a0 x1 t0 t1 H locs cells slots ls h hP hS hl hcc hss
  obtain ⟨hx, hb, hml, hown, hlocks, htr, hT, hK, hSt, hN, hP0⟩ := id C
  have L26_12 : pq_fl s m args 26 12 9 := ⟨_, "WaterWorksModel", "WaterWorksModel", rfl, by decide, hown, Or.inl (hT _ k_1113 _), (fun _ z => z)⟩
  have L81_12 : pq_fl s m args 81 12 0 := ⟨_, "WaterWorksModel", "WaterWorksModel", rfl, by decide, hown, Or.inl (hT _ k_1104 _), (fun _ z => z)⟩
  have L95_12 : pq_fl s m args 95 12 3 := ⟨_, "WaterWorksModel", "WaterWorksModel", rfl, by decide, hown, Or.inl (hT _ k_1107 _), (fun _ z => z)⟩
  unfold wb_Mo_customer_27 at h
  obtain ⟨hk105, h⟩ := h
  refine pq_puti (pc := 27) (f := 480) hx hb hT hK hP hS L81_12 hk105 rfl rfl rfl rfl d_Mo_customer_27 (fun H locs hP hS => ?_)
  have hk105 : p_k (s_i P 480 t1 t0) t1 = 13 := by rw [pk_i]; exact hk105
  refine lv_aload_n (pc := 30) hx hb d_Mo_customer_30 rfl (lv_at hl 0 rfl) ?_
  obtain ⟨hk106, h⟩ := h
  refine pq_geti (pc := 31) (f := 480) hx hb hT hK hP L81_12 hk106 rfl d_Mo_customer_31 ?_
  refine lv_if_le (pc := 34) (tgt := 39) hx hb d_Mo_customer_34 (by decide) (fun c111 => ?_) (fun c111 => ?_)
  · replace h := h.1 c111
    refine lv_aload_n (pc := 39) hx hb d_Mo_customer_39 rfl (lv_at hl 0 rfl) ?_
    obtain ⟨a107, ea107, h⟩ := h
    refine pq_geta (pc := 40) (f := 489) hx hb hT hK hP L26_12 hk106 rfl ea107 d_Mo_customer_40 ?_
    refine lv_aload_n (pc := 43) hx hb d_Mo_customer_43 rfl (lv_at hl 0 rfl) ?_
    refine pq_geti (pc := 44) (f := 483) hx hb hT hK hP L95_12 hk106 rfl d_Mo_customer_44 ?_
    refine lv_iload_n (pc := 47) hx hb d_Mo_customer_47 rfl (lv_at hl 1 rfl) ?_
    obtain ⟨hk108, h⟩ := h
    obtain ⟨hi109, h⟩ := h
    refine pq_iast (pc := 48) hx hb hK hP hS hk108 hi109 d_Mo_customer_48 (fun H locs hP hS => ?_)
    have hk105 : p_k (s_ai (s_i P 480 t1 t0) a107 (Int32.toNatClampNeg (p_i (s_i P 480 t1 t0) 483 a0)) x1) t1 = 13 := by rw [pk_ai]; exact hk105
    have hk106 : p_k (s_ai (s_i P 480 t1 t0) a107 (Int32.toNatClampNeg (p_i (s_i P 480 t1 t0) 483 a0)) x1) a0 = 13 := by rw [pk_ai]; exact hk106
    have hk108 : p_k (s_ai (s_i P 480 t1 t0) a107 (Int32.toNatClampNeg (p_i (s_i P 480 t1 t0) 483 a0)) x1) a107 = 101 := by rw [pk_ai]; exact hk108
    obtain ⟨P110, eP110⟩ : ∃ z : Pic, z = s_ai (s_i P 480 t1 t0) a107 (Int32.toNatClampNeg (p_i (s_i P 480 t1 t0) 483 a0)) x1 := ⟨_, rfl⟩
    replace h := h P110 eP110
    rw [← eP110] at hP hS
    have hk105 : p_k P110 t1 = 13 := by rw [eP110]; exact hk105
    have hk106 : p_k P110 a0 = 13 := by rw [eP110]; exact hk106
    have hk108 : p_k P110 a107 = 101 := by rw [eP110]; exact hk108
    refine lv_aload_n (pc := 49) hx hb d_Mo_customer_49 rfl (lv_at hl 0 rfl) ?_
    refine lv_dup (pc := 50) hx hb d_Mo_customer_50 rfl ?_
    refine pq_geti (pc := 51) (f := 483) hx hb hT hK hP L95_12 hk106 rfl d_Mo_customer_51 ?_
    refine lv_iconst (pc := 54) (v := 1) hx hb d_Mo_customer_54 (by decide) ?_
    refine lv_iadd (pc := 55) hx hb d_Mo_customer_55 ?_
    refine pq_puti (pc := 56) (f := 483) hx hb hT hK hP hS L95_12 hk106 rfl rfl rfl rfl d_Mo_customer_56 (fun H locs hP hS => ?_)
    have hk105 : p_k (s_i P110 483 a0 ((p_i P110 483 a0) + (1 : Int32))) t1 = 13 := by rw [pk_i]; exact hk105
    have hk106 : p_k (s_i P110 483 a0 ((p_i P110 483 a0) + (1 : Int32))) a0 = 13 := by rw [pk_i]; exact hk106
    have hk108 : p_k (s_i P110 483 a0 ((p_i P110 483 a0) + (1 : Int32))) a107 = 101 := by rw [pk_i]; exact hk108
    refine lv_aload_n (pc := 59) hx hb d_Mo_customer_59 rfl (lv_at hl 0 rfl) ?_
    refine pq_geti (pc := 60) (f := 483) hx hb hT hK hP L95_12 hk106 rfl d_Mo_customer_60 ?_
    refine lv_iconst (pc := 63) (v := 1) hx hb d_Mo_customer_63 (by decide) ?_
    refine lv_isub (pc := 64) hx hb d_Mo_customer_64 ?_
    exact we_i (pc := 65) hx hb hlocks hr hP hS (show cells + 0 ≤ 0 by omega) (show slots + 0 ≤ 0 by omega) h d_Mo_customer_65
  · replace h := h.2 c111
    refine lv_iconst (pc := 37) (v := 0) hx hb d_Mo_customer_37 (by decide) ?_
    exact we_i (pc := 38) hx hb hlocks hr hP hS (show cells + 0 ≤ 0 by omega) (show slots + 0 ≤ 0 by omega) h d_Mo_customer_38
set_option maxHeartbeats 4000000 in
set_option maxRecDepth 100000 in
theorem ct_Mo_customer {l : Launch} (hfl : l.flags = flags0) (D : pq_D) {po : Option Value → Pic → Prop} {th : String → Pic → Prop} {P : Pic} {a0 : Nat} {x1 : Int32} (h : wp_Mo_customer po th P a0 x1) : CT l D y_Mo_customer (.code y_Mo_customer prog_15_method_10_code 2 (some .int)) rm_Mo_customer false [.ref a0, .int x1] P po th := by
  refine ct_of (hs := []) hfl (by decide +kernel) (Or.inl ⟨rfl, rfl⟩) (Nat.le_of_ble_eq_true rfl) ?_
  intro p e s m below meth c C hmg hr hin htab ls hl
  have hl : lv_has ls 2 [(0, .ref a0), (1, .int x1)] := hl
  generalize hargs : ([.ref a0, .int x1] : List Value).toArray = args at C ⊢
  obtain ⟨hx, hb, hml, hown, hlocks, htr, hT, hK, hSt, hN, hP0⟩ := id C
  have L26_12 : pq_fl s m args 26 12 9 := ⟨_, "WaterWorksModel", "WaterWorksModel", rfl, by decide, hown, Or.inl (hT _ k_1113 _), (fun _ z => z)⟩
  have L81_12 : pq_fl s m args 81 12 0 := ⟨_, "WaterWorksModel", "WaterWorksModel", rfl, by decide, hown, Or.inl (hT _ k_1104 _), (fun _ z => z)⟩
  have L95_12 : pq_fl s m args 95 12 3 := ⟨_, "WaterWorksModel", "WaterWorksModel", rfl, by decide, hown, Or.inl (hT _ k_1107 _), (fun _ z => z)⟩
  have hP : Pi D P s.heap := hP0
  have hS : Sg (cq_A P s) s.heap s.heap P [] := Sg.start hP0
  unfold wp_Mo_customer at h
  refine lv_aload_n (pc := 0) hx hb d_Mo_customer_0 rfl (lv_at hl 0 rfl) ?_
  refine lv_aload_n (pc := 1) hx hb d_Mo_customer_1 rfl (lv_at hl 0 rfl) ?_
  refine lv_iload_n (pc := 2) hx hb d_Mo_customer_2 rfl (lv_at hl 1 rfl) ?_
  obtain ⟨hk101, h⟩ := h
  refine cr_i (pc := 3) C (rest := [.ref a0]) (mt_invV (As := [.int x1]) hx hb hown (hT _ k_1207 _) (hT _ k_1209 _) (hT _ ks_17 _) (mt_Cd.code (hT _ k_1210 #[])) h_Mo_noNode (pq_recv hK hP hk101 rfl) n_Mo_noNode rfl d_Mo_customer_3) (ct_Mo_noNode hfl D h) k_1210 k_24 ⟨Nat.le_of_ble_eq_true rfl, Nat.le_of_ble_eq_true rfl⟩ ⟨(show 0 + 0 ≤ 0 by omega), (show 0 + 0 ≤ 0 by omega)⟩ hl.1 d_Mo_customer_3 (Nat.le_of_ble_eq_true rfl) hP hS (fun x102 H locs h hP hS => ?_) (fun xx X H locs h hX hex hP hS => ?_)
  · refine lv_if_eq (pc := 6) (tgt := 13) hx hb d_Mo_customer_6 (by decide) (fun c104 => ?_) (fun c104 => ?_)
    · replace h := h.1 c104
      refine lv_aload_n (pc := 13) hx hb d_Mo_customer_13 rfl (lv_at hl 0 rfl) ?_
      refine pq_geti (pc := 14) (f := 483) hx hb hT hK hP L95_12 hk101 rfl d_Mo_customer_14 ?_
      refine lv_bipush (pc := 17) (v := 10) hx hb d_Mo_customer_17 (by decide) ?_
      refine lv_icmp_ne (pc := 19) (tgt := 26) hx hb d_Mo_customer_19 (by decide) (fun c103 => ?_) (fun c103 => ?_)
      · replace h := h.1 c103
        refine lv_iconst (pc := 26) (v := 0) hx hb d_Mo_customer_26 (by decide) ?_
        exact wk_Mo_customer_27 hfl C hmg hr hin htab _ a0 x1 (0 : Int32) a0 _ _ _ _ _ h hP hS (lv_sub hl [0, 1] rfl) (show 0 + 0 + 0 ≤ 0 by omega) (show 0 + 0 + 0 ≤ 0 by omega)
      · replace h := h.2 c103
        refine lv_iconst (pc := 22) (v := 2) hx hb d_Mo_customer_22 (by decide) ?_
        refine lv_goto (pc := 23) (tgt := 27) hx hb d_Mo_customer_23 (by decide) ?_
        exact wk_Mo_customer_27 hfl C hmg hr hin htab _ a0 x1 (2 : Int32) a0 _ _ _ _ _ h hP hS (lv_sub hl [0, 1] rfl) (show 0 + 0 + 0 ≤ 0 by omega) (show 0 + 0 + 0 ≤ 0 by omega)
    · replace h := h.2 c104
      refine lv_iconst (pc := 9) (v := 1) hx hb d_Mo_customer_9 (by decide) ?_
      refine lv_goto (pc := 10) (tgt := 27) hx hb d_Mo_customer_10 (by decide) ?_
      exact wk_Mo_customer_27 hfl C hmg hr hin htab _ a0 x1 (1 : Int32) a0 _ _ _ _ _ h hP hS (lv_sub hl [0, 1] rfl) (show 0 + 0 + 0 ≤ 0 by omega) (show 0 + 0 + 0 ≤ 0 by omega)
  · exact cq_out hlocks (pq_nil htab rfl) (show 0 + 0 + 0 ≤ 0 by omega) (show 0 + 0 + 0 ≤ 0 by omega) hX hex hP hS h
/-! WaterWorksModel.turn(IIZ)Z -/
abbrev y_Mo_turn : MethodName := ⟨"WaterWorksModel", "turn", "(IIZ)Z"⟩
abbrev rm_Mo_turn : Room := { frames := 3, cells := 0, slots := 0, locals := 83 }
theorem h_Mo_turn : y_Mo_turn.cls ≠ "java/lang/invoke/MethodHandle" ∧ y_Mo_turn.cls ≠ "java/lang/invoke/VarHandle" := by decide +kernel
theorem n_Mo_turn : (parseMethodDescriptor y_Mo_turn.desc).map (fun d => d.parameters.length) = some 3 := by decide +kernel
theorem d_Mo_turn_0 : decode prog_15_method_11_code 0 = .ok (.iconst 2, 1) := by decide +kernel
theorem d_Mo_turn_1 : decode prog_15_method_11_code 1 = .ok (.iload_n 1, 1) := by decide +kernel
theorem d_Mo_turn_2 : decode prog_15_method_11_code 2 = .ok (.imul, 1) := by decide +kernel
theorem d_Mo_turn_3 : decode prog_15_method_11_code 3 = .ok (.iload_n 2, 1) := by decide +kernel
theorem d_Mo_turn_4 : decode prog_15_method_11_code 4 = .ok (.iadd, 1) := by decide +kernel
theorem d_Mo_turn_5 : decode prog_15_method_11_code 5 = .ok (.istore 4, 2) := by decide +kernel
theorem d_Mo_turn_7 : decode prog_15_method_11_code 7 = .ok (.aload_n 0, 1) := by decide +kernel
theorem d_Mo_turn_8 : decode prog_15_method_11_code 8 = .ok (.aload_n 0, 1) := by decide +kernel
theorem d_Mo_turn_9 : decode prog_15_method_11_code 9 = .ok (.iload_n 1, 1) := by decide +kernel
theorem d_Mo_turn_10 : decode prog_15_method_11_code 10 = .ok (.iload_n 2, 1) := by decide +kernel
theorem d_Mo_turn_11 : decode prog_15_method_11_code 11 = .ok (.invokevirtual 101, 3) := by decide +kernel
theorem d_Mo_turn_14 : decode prog_15_method_11_code 14 = .ok (.ifCond .eq 7, 3) := by decide +kernel
theorem d_Mo_turn_17 : decode prog_15_method_11_code 17 = .ok (.iconst 1, 1) := by decide +kernel
theorem d_Mo_turn_18 : decode prog_15_method_11_code 18 = .ok (.goto 32, 3) := by decide +kernel
theorem d_Mo_turn_21 : decode prog_15_method_11_code 21 = .ok (.aload_n 0, 1) := by decide +kernel
theorem d_Mo_turn_22 : decode prog_15_method_11_code 22 = .ok (.getfield 17, 3) := by decide +kernel
theorem d_Mo_turn_25 : decode prog_15_method_11_code 25 = .ok (.iload 4, 2) := by decide +kernel
theorem d_Mo_turn_27 : decode prog_15_method_11_code 27 = .ok (.baload, 1) := by decide +kernel
theorem d_Mo_turn_28 : decode prog_15_method_11_code 28 = .ok (.ifCond .ne 7, 3) := by decide +kernel
theorem d_Mo_turn_31 : decode prog_15_method_11_code 31 = .ok (.iconst 2, 1) := by decide +kernel
theorem d_Mo_turn_32 : decode prog_15_method_11_code 32 = .ok (.goto 18, 3) := by decide +kernel
theorem d_Mo_turn_35 : decode prog_15_method_11_code 35 = .ok (.aload_n 0, 1) := by decide +kernel
theorem d_Mo_turn_36 : decode prog_15_method_11_code 36 = .ok (.getfield 23, 3) := by decide +kernel
theorem d_Mo_turn_39 : decode prog_15_method_11_code 39 = .ok (.iload 4, 2) := by decide +kernel
theorem d_Mo_turn_41 : decode prog_15_method_11_code 41 = .ok (.baload, 1) := by decide +kernel
theorem d_Mo_turn_42 : decode prog_15_method_11_code 42 = .ok (.ifCond .eq 7, 3) := by decide +kernel
theorem d_Mo_turn_45 : decode prog_15_method_11_code 45 = .ok (.iconst 3, 1) := by decide +kernel
theorem d_Mo_turn_46 : decode prog_15_method_11_code 46 = .ok (.goto 4, 3) := by decide +kernel
theorem d_Mo_turn_49 : decode prog_15_method_11_code 49 = .ok (.iconst 0, 1) := by decide +kernel
theorem d_Mo_turn_50 : decode prog_15_method_11_code 50 = .ok (.putfield 81, 3) := by decide +kernel
theorem d_Mo_turn_53 : decode prog_15_method_11_code 53 = .ok (.aload_n 0, 1) := by decide +kernel
theorem d_Mo_turn_54 : decode prog_15_method_11_code 54 = .ok (.getfield 81, 3) := by decide +kernel
theorem d_Mo_turn_57 : decode prog_15_method_11_code 57 = .ok (.ifCond .le 5, 3) := by decide +kernel
theorem d_Mo_turn_60 : decode prog_15_method_11_code 60 = .ok (.iconst 0, 1) := by decide +kernel
theorem d_Mo_turn_61 : decode prog_15_method_11_code 61 = .ok (.ireturn, 1) := by decide +kernel
theorem d_Mo_turn_62 : decode prog_15_method_11_code 62 = .ok (.aload_n 0, 1) := by decide +kernel
theorem d_Mo_turn_63 : decode prog_15_method_11_code 63 = .ok (.getfield 20, 3) := by decide +kernel
theorem d_Mo_turn_66 : decode prog_15_method_11_code 66 = .ok (.iload 4, 2) := by decide +kernel
theorem d_Mo_turn_68 : decode prog_15_method_11_code 68 = .ok (.baload, 1) := by decide +kernel
theorem d_Mo_turn_69 : decode prog_15_method_11_code 69 = .ok (.iload_n 3, 1) := by decide +kernel
theorem d_Mo_turn_70 : decode prog_15_method_11_code 70 = .ok (.if_icmp .eq 7, 3) := by decide +kernel
theorem d_Mo_turn_73 : decode prog_15_method_11_code 73 = .ok (.iconst 1, 1) := by decide +kernel
theorem d_Mo_turn_74 : decode prog_15_method_11_code 74 = .ok (.goto 4, 3) := by decide +kernel
theorem d_Mo_turn_77 : decode prog_15_method_11_code 77 = .ok (.iconst 0, 1) := by decide +kernel
theorem d_Mo_turn_78 : decode prog_15_method_11_code 78 = .ok (.istore 5, 2) := by decide +kernel
theorem d_Mo_turn_80 : decode prog_15_method_11_code 80 = .ok (.aload_n 0, 1) := by decide +kernel
theorem d_Mo_turn_81 : decode prog_15_method_11_code 81 = .ok (.getfield 20, 3) := by decide +kernel
theorem d_Mo_turn_84 : decode prog_15_method_11_code 84 = .ok (.iload 4, 2) := by decide +kernel
theorem d_Mo_turn_86 : decode prog_15_method_11_code 86 = .ok (.iload_n 3, 1) := by decide +kernel
theorem d_Mo_turn_87 : decode prog_15_method_11_code 87 = .ok (.bastore, 1) := by decide +kernel
theorem d_Mo_turn_88 : decode prog_15_method_11_code 88 = .ok (.iload 5, 2) := by decide +kernel
theorem d_Mo_turn_90 : decode prog_15_method_11_code 90 = .ok (.ireturn, 1) := by decide +kernel
def wb_Mo_turn_78 (po : Option Value → Pic → Prop) (th : String → Pic → Prop) (P : Pic) (a0 : Nat) (x3 : Int32) (x4 : Int32) (t0 : Int32) : Prop := p_k P a0 = 13 ∧ ∃ a121, p_r P 487 a0 = some a121 ∧ p_k P a121 = 103 ∧ vp_in x4 (p_n P a121) ∧ (x3 = 0 ∨ x3 = 1) ∧ (t0 = 0 ∨ t0 = 1) ∧ po (some (.int t0)) (s_ai P a121 (Int32.toNatClampNeg x4) x3)
def wb_Mo_turn_50 (po : Option Value → Pic → Prop) (th : String → Pic → Prop) (P : Pic) (a0 : Nat) (x3 : Int32) (x4 : Int32) (t0 : Int32) (t1 : Nat) : Prop := p_k P t1 = 13 ∧ p_k (s_i P 480 t1 t0) a0 = 13 ∧ (((p_i (s_i P 480 t1 t0) 480 a0) ≤ 0 → (∃ a115, p_r (s_i P 480 t1 t0) 487 a0 = some a115 ∧ p_k (s_i P 480 t1 t0) a115 = 103 ∧ vp_in x4 (p_n (s_i P 480 t1 t0) a115) ∧ (((p_ai (s_i P 480 t1 t0) a115 (Int32.toNatClampNeg x4)) = x3 → (wb_Mo_turn_78 po th (s_i P 480 t1 t0) a0 x3 x4 (0 : Int32))) ∧ (¬ (p_ai (s_i P 480 t1 t0) a115 (Int32.toNatClampNeg x4)) = x3 → (wb_Mo_turn_78 po th (s_i P 480 t1 t0) a0 x3 x4 (1 : Int32)))))) ∧ (¬ (p_i (s_i P 480 t1 t0) 480 a0) ≤ 0 → (po (some (.int (0 : Int32))) (s_i P 480 t1 t0))))
def wp_Mo_turn (po : Option Value → Pic → Prop) (th : String → Pic → Prop) (P : Pic) (a0 : Nat) (x1 : Int32) (x2 : Int32) (x3 : Int32) : Prop := ∀ (x101 : Int32), x101 = (((2 : Int32) * x1) + x2) → p_k P a0 = 13 ∧ wp_Mo_noEnd (cp_i fun x103 _ => ((x103 = 0 → (∃ a104, p_r P 486 a0 = some a104 ∧ p_k P a104 = 103 ∧ vp_in x101 (p_n P a104) ∧ ((¬ (p_ai P a104 (Int32.toNatClampNeg x101)) = 0 → (∃ a107, p_r P 488 a0 = some a107 ∧ p_k P a107 = 103 ∧ vp_in x101 (p_n P a107) ∧ (((p_ai P a107 (Int32.toNatClampNeg x101)) = 0 → (wb_Mo_turn_50 po th P a0 x3 x101 (0 : Int32) a0)) ∧ (¬ (p_ai P a107 (Int32.toNatClampNeg x101)) = 0 → (wb_Mo_turn_50 po th P a0 x3 x101 (3 : Int32) a0))))) ∧ ((p_ai P a104 (Int32.toNatClampNeg x101)) = 0 → (wb_Mo_turn_50 po th P a0 x3 x101 (2 : Int32) a0))))) ∧ (¬ x103 = 0 → (wb_Mo_turn_50 po th P a0 x3 x101 (1 : Int32) a0)))) th P a0 x1 x2
set_option maxHeartbeats 4000000 in
set_option maxRecDepth 100000 in
theorem wk_Mo_turn_78 {p : Program} {l : Launch} {e : Env} {s : State} {m : MethodId} {args : Array Value} {below : List Frame} {meth : Method} {c : Code} {D : pq_D} {P0 : Pic} {po : Option Value → Pic → Prop} {th : String → Pic → Prop} (hfl : l.flags = flags0) (C : Cx p e s m args meth c prog_15_method_11_code 6 "WaterWorksModel" D P0) (hmg : e.platform.magicAccessors = ({} : Platform).magicAccessors) (hr : meth.sig.returnType = (some .boolean)) (hin : meth.name = "turn") (htab : c.exceptionTable.toList = tableOf []) : ∀ (P : Pic) (a0 : Nat) (x3 : Int32) (x4 : Int32) (t0 : Int32) (H : Heap) (locs : List Loc) (cells slots : Nat) (ls : Array Slot), wb_Mo_turn_78 po th P a0 x3 x4 t0 → Pi D P H → Sg (cq_A P0 s) s.heap H P locs → lv_has ls 6 [(0, .ref a0), (3, .int x3), (4, .int x4)] → cells + 0 ≤ 0 → slots + 0 ≤ 0 → W p l e rm_Mo_turn s m args below meth c H locs cells slots (mt_MQ below (cq_Q D P0 false po th) args s 0 0 (cq_free P0 false)) (F0 m 78 ls [.int t0]) := by
  intro P a0 x3 x4 t0 H locs cells slots ls h hP hS hl hcc hss
  obtain ⟨hx, hb, hml, hown, hlocks, htr, hT, hK, hSt, hN, hP0⟩ := id C
  have L17_12 : pq_fl s m args 17 12 6 := ⟨_, "WaterWorksModel", "WaterWorksModel", rfl, by decide, hown, Or.inl (hT _ k_1110 _), (fun _ z => z)⟩
  have L20_12 : pq_fl s m args 20 12 7 := ⟨_, "WaterWorksModel", "WaterWorksModel", rfl, by decide, hown, Or.inl (hT _ k_1111 _), (fun _ z => z)⟩
  have L23_12 : pq_fl s m args 23 12 8 := ⟨_, "WaterWorksModel", "WaterWorksModel", rfl, by decide, hown, Or.inl (hT _ k_1112 _), (fun _ z => z)⟩
  have L81_12 : pq_fl s m args 81 12 0 := ⟨_, "WaterWorksModel", "WaterWorksModel", rfl, by decide, hown, Or.inl (hT _ k_1104 _), (fun _ z => z)⟩
  unfold wb_Mo_turn_78 at h
  refine lv_istore (pc := 78) (lv' := [(5, .int t0), (0, .ref a0), (3, .int x3), (4, .int x4)]) hx hb d_Mo_turn_78 hl (by decide) rfl (fun ls hl => ?_)
  refine lv_aload_n (pc := 80) hx hb d_Mo_turn_80 rfl (lv_at hl 1 rfl) ?_
  obtain ⟨hk120, h⟩ := h
  obtain ⟨a121, ea121, h⟩ := h
  refine pq_geta (pc := 81) (f := 487) hx hb hT hK hP L20_12 hk120 rfl ea121 d_Mo_turn_81 ?_
  refine lv_iload (pc := 84) hx hb d_Mo_turn_84 (lv_at hl 3 rfl) ?_
  refine lv_iload_n (pc := 86) hx hb d_Mo_turn_86 rfl (lv_at hl 2 rfl) ?_
  obtain ⟨hk122, h⟩ := h
  obtain ⟨hi123, h⟩ := h
  obtain ⟨hz124, h⟩ := h
  refine pq_zast (pc := 87) hx hb hK hP hS hk122 hi123 hz124 d_Mo_turn_87 (fun H locs hP hS => ?_)
  have hk120 : p_k (s_ai P a121 (Int32.toNatClampNeg x4) x3) a0 = 13 := by rw [pk_ai]; exact hk120
  have hk122 : p_k (s_ai P a121 (Int32.toNatClampNeg x4) x3) a121 = 103 := by rw [pk_ai]; exact hk122
  refine lv_iload (pc := 88) hx hb d_Mo_turn_88 (lv_at hl 0 rfl) ?_
  exact we_z (pc := 90) hx hb hlocks hr hP hS (show cells + 0 ≤ 0 by omega) (show slots + 0 ≤ 0 by omega) h.1 h.2 d_Mo_turn_90
set_option maxHeartbeats 4000000 in
set_option maxRecDepth 100000 in
theorem wk_Mo_turn_50 {p : Program} {l : Launch} {e : Env} {s : State} {m : MethodId} {args : Array Value} {below : List Frame} {meth : Method} {c : Code} {D : pq_D} {P0 : Pic} {po : Option Value → Pic → Prop} {th : String → Pic → Prop} (hfl : l.flags = flags0) (C : Cx p e s m args meth c prog_15_method_11_code 6 "WaterWorksModel" D P0) (hmg : e.platform.magicAccessors = ({} : Platform).magicAccessors) (hr : meth.sig.returnType = (some .boolean)) (hin : meth.name = "turn") (htab : c.exceptionTable.toList = tableOf []) : ∀ (P : Pic) (a0 : Nat) (x3 : Int32) (x4 : Int32) (t0 : Int32) (t1 : Nat) (H : Heap) (locs : List Loc) (cells slots : Nat) (ls : Array Slot), wb_Mo_turn_50 po th P a0 x3 x4 t0 t1 → Pi D P H → Sg (cq_A P0 s) s.heap H P locs → lv_has ls 6 [(0, .ref a0), (3, .int x3), (4, .int x4)] → cells + 0 ≤ 0 → slots + 0 ≤ 0 → W p l e rm_Mo_turn s m args below meth c H locs cells slots (mt_MQ below (cq_Q D P0 false po th) args s 0 0 (cq_free P0 false)) (F0 m 50 ls [.int t0, .ref t1]) := by
  intro P a0 x3 x4 t0 t1 H locs cells slots ls h hP hS hl hcc hss
  obtain ⟨hx, hb, hml, hown, hlocks, htr, hT, hK, hSt, hN, hP0⟩ := id C
  have L17_12 : pq_fl s m args 17 12 6 := ⟨_, "WaterWorksModel", "WaterWorksModel", rfl, by decide, hown, Or.inl (hT _ k_1110 _), (fun _ z => z)⟩
  have L20_12 : pq_fl s m args 20 12 7 := ⟨_, "WaterWorksModel", "WaterWorksModel", rfl, by decide, hown, Or.inl (hT _ k_1111 _), (fun _ z => z)⟩
  have L23_12 : pq_fl s m args 23 12 8 := ⟨_, "WaterWorksModel", "WaterWorksModel", rfl, by decide, hown, Or.inl (hT _ k_1112 _), (fun _ z => z)⟩
  have L81_12 : pq_fl s m args 81 12 0 := ⟨_, "WaterWorksModel", "WaterWorksModel", rfl, by decide, hown, Or.inl (hT _ k_1104 _), (fun _ z => z)⟩
  unfold wb_Mo_turn_50 at h
  obtain ⟨hk113, h⟩ := h
  refine pq_puti (pc := 50) (f := 480) hx hb hT hK hP hS L81_12 hk113 rfl rfl rfl rfl d_Mo_turn_50 (fun H locs hP hS => ?_)
  have hk113 : p_k (s_i P 480 t1 t0) t1 = 13 := by rw [pk_i]; exact hk113
  refine lv_aload_n (pc := 53) hx hb d_Mo_turn_53 rfl (lv_at hl 0 rfl) ?_
  obtain ⟨hk114, h⟩ := h
  refine pq_geti (pc := 54) (f := 480) hx hb hT hK hP L81_12 hk114 rfl d_Mo_turn_54 ?_
  refine lv_if_le (pc := 57) (tgt := 62) hx hb d_Mo_turn_57 (by decide) (fun c119 => ?_) (fun c119 => ?_)
  · replace h := h.1 c119
    refine lv_aload_n (pc := 62) hx hb d_Mo_turn_62 rfl (lv_at hl 0 rfl) ?_
    obtain ⟨a115, ea115, h⟩ := h
    refine pq_geta (pc := 63) (f := 487) hx hb hT hK hP L20_12 hk114 rfl ea115 d_Mo_turn_63 ?_
    refine lv_iload (pc := 66) hx hb d_Mo_turn_66 (lv_at hl 2 rfl) ?_
    obtain ⟨hk116, h⟩ := h
    obtain ⟨hi117, h⟩ := h
    refine pq_zald (pc := 68) hx hb hK hP hk116 hi117 d_Mo_turn_68 ?_
    refine lv_iload_n (pc := 69) hx hb d_Mo_turn_69 rfl (lv_at hl 1 rfl) ?_
    refine lv_icmp_eq (pc := 70) (tgt := 77) hx hb d_Mo_turn_70 (by decide) (fun c118 => ?_) (fun c118 => ?_)
    · replace h := h.1 c118
      refine lv_iconst (pc := 77) (v := 0) hx hb d_Mo_turn_77 (by decide) ?_
      exact wk_Mo_turn_78 hfl C hmg hr hin htab _ a0 x3 x4 (0 : Int32) _ _ _ _ _ h hP hS (lv_sub hl [0, 1, 2] rfl) (show cells + 0 ≤ 0 by omega) (show slots + 0 ≤ 0 by omega)
    · replace h := h.2 c118
      refine lv_iconst (pc := 73) (v := 1) hx hb d_Mo_turn_73 (by decide) ?_
      refine lv_goto (pc := 74) (tgt := 78) hx hb d_Mo_turn_74 (by decide) ?_
      exact wk_Mo_turn_78 hfl C hmg hr hin htab _ a0 x3 x4 (1 : Int32) _ _ _ _ _ h hP hS (lv_sub hl [0, 1, 2] rfl) (show cells + 0 ≤ 0 by omega) (show slots + 0 ≤ 0 by omega)
  · replace h := h.2 c119
    refine lv_iconst (pc := 60) (v := 0) hx hb d_Mo_turn_60 (by decide) ?_
    exact we_z (pc := 61) hx hb hlocks hr hP hS (show cells + 0 ≤ 0 by omega) (show slots + 0 ≤ 0 by omega) (by decide) h d_Mo_turn_61
set_option maxHeartbeats 4000000 in
set_option maxRecDepth 100000 in
theorem ct_Mo_turn {l : Launch} (hfl : l.flags = flags0) (D : pq_D) {po : Option Value → Pic → Prop} {th : String → Pic → Prop} {P : Pic} {a0 : Nat} {x1 : Int32} {x2 : Int32} {x3 : Int32} (h : wp_Mo_turn po th P a0 x1 x2 x3) : CT l D y_Mo_turn (.code y_Mo_turn prog_15_method_11_code 6 (some .boolean)) rm_Mo_turn false [.ref a0, .int x1, .int x2, .int x3] P po th := by
  refine ct_of (hs := []) hfl (by decide +kernel) (Or.inl ⟨rfl, rfl⟩) (Nat.le_of_ble_eq_true rfl) ?_
  intro p e s m below meth c C hmg hr hin htab ls hl
  have hl : lv_has ls 6 [(0, .ref a0), (1, .int x1), (2, .int x2), (3, .int x3)] := hl
  generalize hargs : ([.ref a0, .int x1, .int x2, .int x3] : List Value).toArray = args at C ⊢
  obtain ⟨hx, hb, hml, hown, hlocks, htr, hT, hK, hSt, hN, hP0⟩ := id C
  have L17_12 : pq_fl s m args 17 12 6 := ⟨_, "WaterWorksModel", "WaterWorksModel", rfl, by decide, hown, Or.inl (hT _ k_1110 _), (fun _ z => z)⟩
  have L20_12 : pq_fl s m args 20 12 7 := ⟨_, "WaterWorksModel", "WaterWorksModel", rfl, by decide, hown, Or.inl (hT _ k_1111 _), (fun _ z => z)⟩
  have L23_12 : pq_fl s m args 23 12 8 := ⟨_, "WaterWorksModel", "WaterWorksModel", rfl, by decide, hown, Or.inl (hT _ k_1112 _), (fun _ z => z)⟩
  have L81_12 : pq_fl s m args 81 12 0 := ⟨_, "WaterWorksModel", "WaterWorksModel", rfl, by decide, hown, Or.inl (hT _ k_1104 _), (fun _ z => z)⟩
  have hP : Pi D P s.heap := hP0
  have hS : Sg (cq_A P s) s.heap s.heap P [] := Sg.start hP0
  unfold wp_Mo_turn at h
  refine lv_iconst (pc := 0) (v := 2) hx hb d_Mo_turn_0 (by decide) ?_
  refine lv_iload_n (pc := 1) hx hb d_Mo_turn_1 rfl (lv_at hl 1 rfl) ?_
  refine lv_imul (pc := 2) hx hb d_Mo_turn_2 ?_
  refine lv_iload_n (pc := 3) hx hb d_Mo_turn_3 rfl (lv_at hl 2 rfl) ?_
  refine lv_iadd (pc := 4) hx hb d_Mo_turn_4 ?_
  refine lv_topi (fun x101 ex101 => ?_)
  replace h := h x101 ex101
  refine lv_istore (pc := 5) (lv' := [(4, .int x101), (0, .ref a0), (1, .int x1), (2, .int x2), (3, .int x3)]) hx hb d_Mo_turn_5 hl (by decide) rfl (fun ls hl => ?_)
  refine lv_aload_n (pc := 7) hx hb d_Mo_turn_7 rfl (lv_at hl 1 rfl) ?_
  refine lv_aload_n (pc := 8) hx hb d_Mo_turn_8 rfl (lv_at hl 1 rfl) ?_
  refine lv_iload_n (pc := 9) hx hb d_Mo_turn_9 rfl (lv_at hl 2 rfl) ?_
  refine lv_iload_n (pc := 10) hx hb d_Mo_turn_10 rfl (lv_at hl 3 rfl) ?_
  obtain ⟨hk102, h⟩ := h
  refine cr_i (pc := 11) C (rest := [.ref a0]) (mt_invV (As := [.int x1, .int x2]) hx hb hown (hT _ k_1223 _) (hT _ k_1225 _) (hT _ ks_18 _) (mt_Cd.code (hT _ k_1226 #[])) h_Mo_noEnd (pq_recv hK hP hk102 rfl) n_Mo_noEnd rfl d_Mo_turn_11) (ct_Mo_noEnd hfl D h) k_1226 k_24 ⟨Nat.le_of_ble_eq_true rfl, Nat.le_of_ble_eq_true rfl⟩ ⟨(show 0 + 0 ≤ 0 by omega), (show 0 + 0 ≤ 0 by omega)⟩ hl.1 d_Mo_turn_11 (Nat.le_of_ble_eq_true rfl) hP hS (fun x103 H locs h hP hS => ?_) (fun xx X H locs h hX hex hP hS => ?_)
  · refine lv_if_eq (pc := 14) (tgt := 21) hx hb d_Mo_turn_14 (by decide) (fun c112 => ?_) (fun c112 => ?_)
    · replace h := h.1 c112
      refine lv_aload_n (pc := 21) hx hb d_Mo_turn_21 rfl (lv_at hl 1 rfl) ?_
      obtain ⟨a104, ea104, h⟩ := h
      refine pq_geta (pc := 22) (f := 486) hx hb hT hK hP L17_12 hk102 rfl ea104 d_Mo_turn_22 ?_
      refine lv_iload (pc := 25) hx hb d_Mo_turn_25 (lv_at hl 0 rfl) ?_
      obtain ⟨hk105, h⟩ := h
      obtain ⟨hi106, h⟩ := h
      refine pq_zald (pc := 27) hx hb hK hP hk105 hi106 d_Mo_turn_27 ?_
      refine lv_if_ne (pc := 28) (tgt := 35) hx hb d_Mo_turn_28 (by decide) (fun c111 => ?_) (fun c111 => ?_)
      · replace h := h.1 c111
        refine lv_aload_n (pc := 35) hx hb d_Mo_turn_35 rfl (lv_at hl 1 rfl) ?_
        obtain ⟨a107, ea107, h⟩ := h
        refine pq_geta (pc := 36) (f := 488) hx hb hT hK hP L23_12 hk102 rfl ea107 d_Mo_turn_36 ?_
        refine lv_iload (pc := 39) hx hb d_Mo_turn_39 (lv_at hl 0 rfl) ?_
        obtain ⟨hk108, h⟩ := h
        obtain ⟨hi109, h⟩ := h
        refine pq_zald (pc := 41) hx hb hK hP hk108 hi109 d_Mo_turn_41 ?_
        refine lv_if_eq (pc := 42) (tgt := 49) hx hb d_Mo_turn_42 (by decide) (fun c110 => ?_) (fun c110 => ?_)
        · replace h := h.1 c110
          refine lv_iconst (pc := 49) (v := 0) hx hb d_Mo_turn_49 (by decide) ?_
          exact wk_Mo_turn_50 hfl C hmg hr hin htab _ a0 x3 x101 (0 : Int32) a0 _ _ _ _ _ h hP hS (lv_sub hl [1, 4, 0] rfl) (show 0 + 0 + 0 ≤ 0 by omega) (show 0 + 0 + 0 ≤ 0 by omega)
        · replace h := h.2 c110
          refine lv_iconst (pc := 45) (v := 3) hx hb d_Mo_turn_45 (by decide) ?_
          refine lv_goto (pc := 46) (tgt := 50) hx hb d_Mo_turn_46 (by decide) ?_
          exact wk_Mo_turn_50 hfl C hmg hr hin htab _ a0 x3 x101 (3 : Int32) a0 _ _ _ _ _ h hP hS (lv_sub hl [1, 4, 0] rfl) (show 0 + 0 + 0 ≤ 0 by omega) (show 0 + 0 + 0 ≤ 0 by omega)
      · replace h := h.2 c111
        refine lv_iconst (pc := 31) (v := 2) hx hb d_Mo_turn_31 (by decide) ?_
        refine lv_goto (pc := 32) (tgt := 50) hx hb d_Mo_turn_32 (by decide) ?_
        exact wk_Mo_turn_50 hfl C hmg hr hin htab _ a0 x3 x101 (2 : Int32) a0 _ _ _ _ _ h hP hS (lv_sub hl [1, 4, 0] rfl) (show 0 + 0 + 0 ≤ 0 by omega) (show 0 + 0 + 0 ≤ 0 by omega)
    · replace h := h.2 c112
      refine lv_iconst (pc := 17) (v := 1) hx hb d_Mo_turn_17 (by decide) ?_
      refine lv_goto (pc := 18) (tgt := 50) hx hb d_Mo_turn_18 (by decide) ?_
      exact wk_Mo_turn_50 hfl C hmg hr hin htab _ a0 x3 x101 (1 : Int32) a0 _ _ _ _ _ h hP hS (lv_sub hl [1, 4, 0] rfl) (show 0 + 0 + 0 ≤ 0 by omega) (show 0 + 0 + 0 ≤ 0 by omega)
  · exact cq_out hlocks (pq_nil htab rfl) (show 0 + 0 + 0 ≤ 0 by omega) (show 0 + 0 + 0 ≤ 0 by omega) hX hex hP hS h
/-! WaterWorksModel.stick(IIZ)Z -/
abbrev y_Mo_stick : MethodName := ⟨"WaterWorksModel", "stick", "(IIZ)Z"⟩
abbrev rm_Mo_stick : Room := { frames := 3, cells := 0, slots := 0, locals := 83 }
theorem h_Mo_stick : y_Mo_stick.cls ≠ "java/lang/invoke/MethodHandle" ∧ y_Mo_stick.cls ≠ "java/lang/invoke/VarHandle" := by decide +kernel
theorem n_Mo_stick : (parseMethodDescriptor y_Mo_stick.desc).map (fun d => d.parameters.length) = some 3 := by decide +kernel
theorem d_Mo_stick_0 : decode prog_15_method_12_code 0 = .ok (.iconst 2, 1) := by decide +kernel
theorem d_Mo_stick_1 : decode prog_15_method_12_code 1 = .ok (.iload_n 1, 1) := by decide +kernel
theorem d_Mo_stick_2 : decode prog_15_method_12_code 2 = .ok (.imul, 1) := by decide +kernel
theorem d_Mo_stick_3 : decode prog_15_method_12_code 3 = .ok (.iload_n 2, 1) := by decide +kernel
theorem d_Mo_stick_4 : decode prog_15_method_12_code 4 = .ok (.iadd, 1) := by decide +kernel
theorem d_Mo_stick_5 : decode prog_15_method_12_code 5 = .ok (.istore 4, 2) := by decide +kernel
theorem d_Mo_stick_7 : decode prog_15_method_12_code 7 = .ok (.aload_n 0, 1) := by decide +kernel
theorem d_Mo_stick_8 : decode prog_15_method_12_code 8 = .ok (.aload_n 0, 1) := by decide +kernel
theorem d_Mo_stick_9 : decode prog_15_method_12_code 9 = .ok (.iload_n 1, 1) := by decide +kernel
theorem d_Mo_stick_10 : decode prog_15_method_12_code 10 = .ok (.iload_n 2, 1) := by decide +kernel
theorem d_Mo_stick_11 : decode prog_15_method_12_code 11 = .ok (.invokevirtual 101, 3) := by decide +kernel
theorem d_Mo_stick_14 : decode prog_15_method_12_code 14 = .ok (.ifCond .eq 7, 3) := by decide +kernel
theorem d_Mo_stick_17 : decode prog_15_method_12_code 17 = .ok (.iconst 1, 1) := by decide +kernel
theorem d_Mo_stick_18 : decode prog_15_method_12_code 18 = .ok (.goto 18, 3) := by decide +kernel
theorem d_Mo_stick_21 : decode prog_15_method_12_code 21 = .ok (.aload_n 0, 1) := by decide +kernel
theorem d_Mo_stick_22 : decode prog_15_method_12_code 22 = .ok (.getfield 17, 3) := by decide +kernel
theorem d_Mo_stick_25 : decode prog_15_method_12_code 25 = .ok (.iload 4, 2) := by decide +kernel
theorem d_Mo_stick_27 : decode prog_15_method_12_code 27 = .ok (.baload, 1) := by decide +kernel
theorem d_Mo_stick_28 : decode prog_15_method_12_code 28 = .ok (.ifCond .ne 7, 3) := by decide +kernel
theorem d_Mo_stick_31 : decode prog_15_method_12_code 31 = .ok (.iconst 2, 1) := by decide +kernel
theorem d_Mo_stick_32 : decode prog_15_method_12_code 32 = .ok (.goto 4, 3) := by decide +kernel
theorem d_Mo_stick_35 : decode prog_15_method_12_code 35 = .ok (.iconst 0, 1) := by decide +kernel
theorem d_Mo_stick_36 : decode prog_15_method_12_code 36 = .ok (.putfield 81, 3) := by decide +kernel
theorem d_Mo_stick_39 : decode prog_15_method_12_code 39 = .ok (.aload_n 0, 1) := by decide +kernel
theorem d_Mo_stick_40 : decode prog_15_method_12_code 40 = .ok (.getfield 81, 3) := by decide +kernel
theorem d_Mo_stick_43 : decode prog_15_method_12_code 43 = .ok (.ifCond .le 5, 3) := by decide +kernel
theorem d_Mo_stick_46 : decode prog_15_method_12_code 46 = .ok (.iconst 0, 1) := by decide +kernel
theorem d_Mo_stick_47 : decode prog_15_method_12_code 47 = .ok (.ireturn, 1) := by decide +kernel
theorem d_Mo_stick_48 : decode prog_15_method_12_code 48 = .ok (.aload_n 0, 1) := by decide +kernel
theorem d_Mo_stick_49 : decode prog_15_method_12_code 49 = .ok (.getfield 23, 3) := by decide +kernel
theorem d_Mo_stick_52 : decode prog_15_method_12_code 52 = .ok (.iload 4, 2) := by decide +kernel
theorem d_Mo_stick_54 : decode prog_15_method_12_code 54 = .ok (.baload, 1) := by decide +kernel
theorem d_Mo_stick_55 : decode prog_15_method_12_code 55 = .ok (.iload_n 3, 1) := by decide +kernel
theorem d_Mo_stick_56 : decode prog_15_method_12_code 56 = .ok (.if_icmp .eq 7, 3) := by decide +kernel
theorem d_Mo_stick_59 : decode prog_15_method_12_code 59 = .ok (.iconst 1, 1) := by decide +kernel
theorem d_Mo_stick_60 : decode prog_15_method_12_code 60 = .ok (.goto 4, 3) := by decide +kernel
theorem d_Mo_stick_63 : decode prog_15_method_12_code 63 = .ok (.iconst 0, 1) := by decide +kernel
theorem d_Mo_stick_64 : decode prog_15_method_12_code 64 = .ok (.istore 5, 2) := by decide +kernel
theorem d_Mo_stick_66 : decode prog_15_method_12_code 66 = .ok (.aload_n 0, 1) := by decide +kernel
theorem d_Mo_stick_67 : decode prog_15_method_12_code 67 = .ok (.getfield 23, 3) := by decide +kernel
theorem d_Mo_stick_70 : decode prog_15_method_12_code 70 = .ok (.iload 4, 2) := by decide +kernel
theorem d_Mo_stick_72 : decode prog_15_method_12_code 72 = .ok (.iload_n 3, 1) := by decide +kernel
theorem d_Mo_stick_73 : decode prog_15_method_12_code 73 = .ok (.bastore, 1) := by decide +kernel
theorem d_Mo_stick_74 : decode prog_15_method_12_code 74 = .ok (.iload 5, 2) := by decide +kernel
theorem d_Mo_stick_76 : decode prog_15_method_12_code 76 = .ok (.ireturn, 1) := by decide +kernel
def wb_Mo_stick_64 (po : Option Value → Pic → Prop) (th : String → Pic → Prop) (P : Pic) (a0 : Nat) (x3 : Int32) (x4 : Int32) (t0 : Int32) : Prop := p_k P a0 = 13 ∧ ∃ a117, p_r P 488 a0 = some a117 ∧ p_k P a117 = 103 ∧ vp_in x4 (p_n P a117) ∧ (x3 = 0 ∨ x3 = 1) ∧ (t0 = 0 ∨ t0 = 1) ∧ po (some (.int t0)) (s_ai P a117 (Int32.toNatClampNeg x4) x3)
def wb_Mo_stick_36 (po : Option Value → Pic → Prop) (th : String → Pic → Prop) (P : Pic) (a0 : Nat) (x3 : Int32) (x4 : Int32) (t0 : Int32) (t1 : Nat) : Prop := p_k P t1 = 13 ∧ p_k (s_i P 480 t1 t0) a0 = 13 ∧ (((p_i (s_i P 480 t1 t0) 480 a0) ≤ 0 → (∃ a111, p_r (s_i P 480 t1 t0) 488 a0 = some a111 ∧ p_k (s_i P 480 t1 t0) a111 = 103 ∧ vp_in x4 (p_n (s_i P 480 t1 t0) a111) ∧ (((p_ai (s_i P 480 t1 t0) a111 (Int32.toNatClampNeg x4)) = x3 → (wb_Mo_stick_64 po th (s_i P 480 t1 t0) a0 x3 x4 (0 : Int32))) ∧ (¬ (p_ai (s_i P 480 t1 t0) a111 (Int32.toNatClampNeg x4)) = x3 → (wb_Mo_stick_64 po th (s_i P 480 t1 t0) a0 x3 x4 (1 : Int32)))))) ∧ (¬ (p_i (s_i P 480 t1 t0) 480 a0) ≤ 0 → (po (some (.int (0 : Int32))) (s_i P 480 t1 t0))))
def wp_Mo_stick (po : Option Value → Pic → Prop) (th : String → Pic → Prop) (P : Pic) (a0 : Nat) (x1 : Int32) (x2 : Int32) (x3 : Int32) : Prop := ∀ (x101 : Int32), x101 = (((2 : Int32) * x1) + x2) → p_k P a0 = 13 ∧ wp_Mo_noEnd (cp_i fun x103 _ => ((x103 = 0 → (∃ a104, p_r P 486 a0 = some a104 ∧ p_k P a104 = 103 ∧ vp_in x101 (p_n P a104) ∧ ((¬ (p_ai P a104 (Int32.toNatClampNeg x101)) = 0 → (wb_Mo_stick_36 po th P a0 x3 x101 (0 : Int32) a0)) ∧ ((p_ai P a104 (Int32.toNatClampNeg x101)) = 0 → (wb_Mo_stick_36 po th P a0 x3 x101 (2 : Int32) a0))))) ∧ (¬ x103 = 0 → (wb_Mo_stick_36 po th P a0 x3 x101 (1 : Int32) a0)))) th P a0 x1 x2
set_option maxHeartbeats 4000000 in
set_option maxRecDepth 100000 in
theorem wk_Mo_stick_64 {p : Program} {l : Launch} {e : Env} {s : State} {m : MethodId} {args : Array Value} {below : List Frame} {meth : Method} {c : Code} {D : pq_D} {P0 : Pic} {po : Option Value → Pic → Prop} {th : String → Pic → Prop} (hfl : l.flags = flags0) (C : Cx p e s m args meth c prog_15_method_12_code 6 "WaterWorksModel" D P0) (hmg : e.platform.magicAccessors = ({} : Platform).magicAccessors) (hr : meth.sig.returnType = (some .boolean)) (hin : meth.name = "stick") (htab : c.exceptionTable.toList = tableOf []) : ∀ (P : Pic) (a0 : Nat) (x3 : Int32) (x4 : Int32) (t0 : Int32) (H : Heap) (locs : List Loc) (cells slots : Nat) (ls : Array Slot), wb_Mo_stick_64 po th P a0 x3 x4 t0 → Pi D P H → Sg (cq_A P0 s) s.heap H P locs → lv_has ls 6 [(0, .ref a0), (3, .int x3), (4, .int x4)] → cells + 0 ≤ 0 → slots + 0 ≤ 0 → W p l e rm_Mo_stick s m args below meth c H locs cells slots (mt_MQ below (cq_Q D P0 false po th) args s 0 0 (cq_free P0 false)) (F0 m 64 ls [.int t0]) := by
  intro P a0 x3 x4 t0 H locs cells slots ls h hP hS hl hcc hss
  obtain ⟨hx, hb, hml, hown, hlocks, htr, hT, hK, hSt, hN, hP0⟩ := id C
  have L17_12 : pq_fl s m args 17 12 6 := ⟨_, "WaterWorksModel", "WaterWorksModel", rfl, by decide, hown, Or.inl (hT _ k_1110 _), (fun _ z => z)⟩
  have L23_12 : pq_fl s m args 23 12 8 := ⟨_, "WaterWorksModel", "WaterWorksModel", rfl, by decide, hown, Or.inl (hT _ k_1112 _), (fun _ z => z)⟩
  have L81_12 : pq_fl s m args 81 12 0 := ⟨_, "WaterWorksModel", "WaterWorksModel", rfl, by decide, hown, Or.inl (hT _ k_1104 _), (fun _ z => z)⟩
  unfold wb_Mo_stick_64 at h
  refine lv_istore (pc := 64) (lv' := [(5, .int t0), (0, .ref a0), (3, .int x3), (4, .int x4)]) hx hb d_Mo_stick_64 hl (by decide) rfl (fun ls hl => ?_)
  refine lv_aload_n (pc := 66) hx hb d_Mo_stick_66 rfl (lv_at hl 1 rfl) ?_
  obtain ⟨hk116, h⟩ := h
  obtain ⟨a117, ea117, h⟩ := h
  refine pq_geta (pc := 67) (f := 488) hx hb hT hK hP L23_12 hk116 rfl ea117 d_Mo_stick_67 ?_
  refine lv_iload (pc := 70) hx hb d_Mo_stick_70 (lv_at hl 3 rfl) ?_
  refine lv_iload_n (pc := 72) hx hb d_Mo_stick_72 rfl (lv_at hl 2 rfl) ?_
  obtain ⟨hk118, h⟩ := h
  obtain ⟨hi119, h⟩ := h
  obtain ⟨hz120, h⟩ := h
  refine pq_zast (pc := 73) hx hb hK hP hS hk118 hi119 hz120 d_Mo_stick_73 (fun H locs hP hS => ?_)
  have hk116 : p_k (s_ai P a117 (Int32.toNatClampNeg x4) x3) a0 = 13 := by rw [pk_ai]; exact hk116
  have hk118 : p_k (s_ai P a117 (Int32.toNatClampNeg x4) x3) a117 = 103 := by rw [pk_ai]; exact hk118
  refine lv_iload (pc := 74) hx hb d_Mo_stick_74 (lv_at hl 0 rfl) ?_
  exact we_z (pc := 76) hx hb hlocks hr hP hS (show cells + 0 ≤ 0 by omega) (show slots + 0 ≤ 0 by omega) h.1 h.2 d_Mo_stick_76
set_option maxHeartbeats 4000000 in
set_option maxRecDepth 100000 in
theorem wk_Mo_stick_36 {p : Program} {l : Launch} {e : Env} {s : State} {m : MethodId} {args : Array Value} {below : List Frame} {meth : Method} {c : Code} {D : pq_D} {P0 : Pic} {po : Option Value → Pic → Prop} {th : String → Pic → Prop} (hfl : l.flags = flags0) (C : Cx p e s m args meth c prog_15_method_12_code 6 "WaterWorksModel" D P0) (hmg : e.platform.magicAccessors = ({} : Platform).magicAccessors) (hr : meth.sig.returnType = (some .boolean)) (hin : meth.name = "stick") (htab : c.exceptionTable.toList = tableOf []) : ∀ (P : Pic) (a0 : Nat) (x3 : Int32) (x4 : Int32) (t0 : Int32) (t1 : Nat) (H : Heap) (locs : List Loc) (cells slots : Nat) (ls : Array Slot), wb_Mo_stick_36 po th P a0 x3 x4 t0 t1 → Pi D P H → Sg (cq_A P0 s) s.heap H P locs → lv_has ls 6 [(0, .ref a0), (3, .int x3), (4, .int x4)] → cells + 0 ≤ 0 → slots + 0 ≤ 0 → W p l e rm_Mo_stick s m args below meth c H locs cells slots (mt_MQ below (cq_Q D P0 false po th) args s 0 0 (cq_free P0 false)) (F0 m 36 ls [.int t0, .ref t1]) := by
  intro P a0 x3 x4 t0 t1 H locs cells slots ls h hP hS hl hcc hss
  obtain ⟨hx, hb, hml, hown, hlocks, htr, hT, hK, hSt, hN, hP0⟩ := id C
  have L17_12 : pq_fl s m args 17 12 6 := ⟨_, "WaterWorksModel", "WaterWorksModel", rfl, by decide, hown, Or.inl (hT _ k_1110 _), (fun _ z => z)⟩
  have L23_12 : pq_fl s m args 23 12 8 := ⟨_, "WaterWorksModel", "WaterWorksModel", rfl, by decide, hown, Or.inl (hT _ k_1112 _), (fun _ z => z)⟩
  have L81_12 : pq_fl s m args 81 12 0 := ⟨_, "WaterWorksModel", "WaterWorksModel", rfl, by decide, hown, Or.inl (hT _ k_1104 _), (fun _ z => z)⟩
  unfold wb_Mo_stick_36 at h
  obtain ⟨hk109, h⟩ := h
  refine pq_puti (pc := 36) (f := 480) hx hb hT hK hP hS L81_12 hk109 rfl rfl rfl rfl d_Mo_stick_36 (fun H locs hP hS => ?_)
  have hk109 : p_k (s_i P 480 t1 t0) t1 = 13 := by rw [pk_i]; exact hk109
  refine lv_aload_n (pc := 39) hx hb d_Mo_stick_39 rfl (lv_at hl 0 rfl) ?_
  obtain ⟨hk110, h⟩ := h
  refine pq_geti (pc := 40) (f := 480) hx hb hT hK hP L81_12 hk110 rfl d_Mo_stick_40 ?_
  refine lv_if_le (pc := 43) (tgt := 48) hx hb d_Mo_stick_43 (by decide) (fun c115 => ?_) (fun c115 => ?_)
  · replace h := h.1 c115
    refine lv_aload_n (pc := 48) hx hb d_Mo_stick_48 rfl (lv_at hl 0 rfl) ?_
    obtain ⟨a111, ea111, h⟩ := h
    refine pq_geta (pc := 49) (f := 488) hx hb hT hK hP L23_12 hk110 rfl ea111 d_Mo_stick_49 ?_
    refine lv_iload (pc := 52) hx hb d_Mo_stick_52 (lv_at hl 2 rfl) ?_
    obtain ⟨hk112, h⟩ := h
    obtain ⟨hi113, h⟩ := h
    refine pq_zald (pc := 54) hx hb hK hP hk112 hi113 d_Mo_stick_54 ?_
    refine lv_iload_n (pc := 55) hx hb d_Mo_stick_55 rfl (lv_at hl 1 rfl) ?_
    refine lv_icmp_eq (pc := 56) (tgt := 63) hx hb d_Mo_stick_56 (by decide) (fun c114 => ?_) (fun c114 => ?_)
    · replace h := h.1 c114
      refine lv_iconst (pc := 63) (v := 0) hx hb d_Mo_stick_63 (by decide) ?_
      exact wk_Mo_stick_64 hfl C hmg hr hin htab _ a0 x3 x4 (0 : Int32) _ _ _ _ _ h hP hS (lv_sub hl [0, 1, 2] rfl) (show cells + 0 ≤ 0 by omega) (show slots + 0 ≤ 0 by omega)
    · replace h := h.2 c114
      refine lv_iconst (pc := 59) (v := 1) hx hb d_Mo_stick_59 (by decide) ?_
      refine lv_goto (pc := 60) (tgt := 64) hx hb d_Mo_stick_60 (by decide) ?_
      exact wk_Mo_stick_64 hfl C hmg hr hin htab _ a0 x3 x4 (1 : Int32) _ _ _ _ _ h hP hS (lv_sub hl [0, 1, 2] rfl) (show cells + 0 ≤ 0 by omega) (show slots + 0 ≤ 0 by omega)
  · replace h := h.2 c115
    refine lv_iconst (pc := 46) (v := 0) hx hb d_Mo_stick_46 (by decide) ?_
    exact we_z (pc := 47) hx hb hlocks hr hP hS (show cells + 0 ≤ 0 by omega) (show slots + 0 ≤ 0 by omega) (by decide) h d_Mo_stick_47
set_option maxHeartbeats 4000000 in
set_option maxRecDepth 100000 in
theorem ct_Mo_stick {l : Launch} (hfl : l.flags = flags0) (D : pq_D) {po : Option Value → Pic → Prop} {th : String → Pic → Prop} {P : Pic} {a0 : Nat} {x1 : Int32} {x2 : Int32} {x3 : Int32} (h : wp_Mo_stick po th P a0 x1 x2 x3) : CT l D y_Mo_stick (.code y_Mo_stick prog_15_method_12_code 6 (some .boolean)) rm_Mo_stick false [.ref a0, .int x1, .int x2, .int x3] P po th := by
  refine ct_of (hs := []) hfl (by decide +kernel) (Or.inl ⟨rfl, rfl⟩) (Nat.le_of_ble_eq_true rfl) ?_
  intro p e s m below meth c C hmg hr hin htab ls hl
  have hl : lv_has ls 6 [(0, .ref a0), (1, .int x1), (2, .int x2), (3, .int x3)] := hl
  generalize hargs : ([.ref a0, .int x1, .int x2, .int x3] : List Value).toArray = args at C ⊢
  obtain ⟨hx, hb, hml, hown, hlocks, htr, hT, hK, hSt, hN, hP0⟩ := id C
  have L17_12 : pq_fl s m args 17 12 6 := ⟨_, "WaterWorksModel", "WaterWorksModel", rfl, by decide, hown, Or.inl (hT _ k_1110 _), (fun _ z => z)⟩
  have L23_12 : pq_fl s m args 23 12 8 := ⟨_, "WaterWorksModel", "WaterWorksModel", rfl, by decide, hown, Or.inl (hT _ k_1112 _), (fun _ z => z)⟩
  have L81_12 : pq_fl s m args 81 12 0 := ⟨_, "WaterWorksModel", "WaterWorksModel", rfl, by decide, hown, Or.inl (hT _ k_1104 _), (fun _ z => z)⟩
  have hP : Pi D P s.heap := hP0
  have hS : Sg (cq_A P s) s.heap s.heap P [] := Sg.start hP0
  unfold wp_Mo_stick at h
  refine lv_iconst (pc := 0) (v := 2) hx hb d_Mo_stick_0 (by decide) ?_
  refine lv_iload_n (pc := 1) hx hb d_Mo_stick_1 rfl (lv_at hl 1 rfl) ?_
  refine lv_imul (pc := 2) hx hb d_Mo_stick_2 ?_
  refine lv_iload_n (pc := 3) hx hb d_Mo_stick_3 rfl (lv_at hl 2 rfl) ?_
  refine lv_iadd (pc := 4) hx hb d_Mo_stick_4 ?_
  refine lv_topi (fun x101 ex101 => ?_)
  replace h := h x101 ex101
  refine lv_istore (pc := 5) (lv' := [(4, .int x101), (0, .ref a0), (1, .int x1), (2, .int x2), (3, .int x3)]) hx hb d_Mo_stick_5 hl (by decide) rfl (fun ls hl => ?_)
  refine lv_aload_n (pc := 7) hx hb d_Mo_stick_7 rfl (lv_at hl 1 rfl) ?_
  refine lv_aload_n (pc := 8) hx hb d_Mo_stick_8 rfl (lv_at hl 1 rfl) ?_
  refine lv_iload_n (pc := 9) hx hb d_Mo_stick_9 rfl (lv_at hl 2 rfl) ?_
  refine lv_iload_n (pc := 10) hx hb d_Mo_stick_10 rfl (lv_at hl 3 rfl) ?_
  obtain ⟨hk102, h⟩ := h
  refine cr_i (pc := 11) C (rest := [.ref a0]) (mt_invV (As := [.int x1, .int x2]) hx hb hown (hT _ k_1223 _) (hT _ k_1225 _) (hT _ ks_18 _) (mt_Cd.code (hT _ k_1226 #[])) h_Mo_noEnd (pq_recv hK hP hk102 rfl) n_Mo_noEnd rfl d_Mo_stick_11) (ct_Mo_noEnd hfl D h) k_1226 k_24 ⟨Nat.le_of_ble_eq_true rfl, Nat.le_of_ble_eq_true rfl⟩ ⟨(show 0 + 0 ≤ 0 by omega), (show 0 + 0 ≤ 0 by omega)⟩ hl.1 d_Mo_stick_11 (Nat.le_of_ble_eq_true rfl) hP hS (fun x103 H locs h hP hS => ?_) (fun xx X H locs h hX hex hP hS => ?_)
  · refine lv_if_eq (pc := 14) (tgt := 21) hx hb d_Mo_stick_14 (by decide) (fun c108 => ?_) (fun c108 => ?_)
    · replace h := h.1 c108
      refine lv_aload_n (pc := 21) hx hb d_Mo_stick_21 rfl (lv_at hl 1 rfl) ?_
      obtain ⟨a104, ea104, h⟩ := h
      refine pq_geta (pc := 22) (f := 486) hx hb hT hK hP L17_12 hk102 rfl ea104 d_Mo_stick_22 ?_
      refine lv_iload (pc := 25) hx hb d_Mo_stick_25 (lv_at hl 0 rfl) ?_
      obtain ⟨hk105, h⟩ := h
      obtain ⟨hi106, h⟩ := h
      refine pq_zald (pc := 27) hx hb hK hP hk105 hi106 d_Mo_stick_27 ?_
      refine lv_if_ne (pc := 28) (tgt := 35) hx hb d_Mo_stick_28 (by decide) (fun c107 => ?_) (fun c107 => ?_)
      · replace h := h.1 c107
        refine lv_iconst (pc := 35) (v := 0) hx hb d_Mo_stick_35 (by decide) ?_
        exact wk_Mo_stick_36 hfl C hmg hr hin htab _ a0 x3 x101 (0 : Int32) a0 _ _ _ _ _ h hP hS (lv_sub hl [1, 4, 0] rfl) (show 0 + 0 + 0 ≤ 0 by omega) (show 0 + 0 + 0 ≤ 0 by omega)
      · replace h := h.2 c107
        refine lv_iconst (pc := 31) (v := 2) hx hb d_Mo_stick_31 (by decide) ?_
        refine lv_goto (pc := 32) (tgt := 36) hx hb d_Mo_stick_32 (by decide) ?_
        exact wk_Mo_stick_36 hfl C hmg hr hin htab _ a0 x3 x101 (2 : Int32) a0 _ _ _ _ _ h hP hS (lv_sub hl [1, 4, 0] rfl) (show 0 + 0 + 0 ≤ 0 by omega) (show 0 + 0 + 0 ≤ 0 by omega)
    · replace h := h.2 c108
      refine lv_iconst (pc := 17) (v := 1) hx hb d_Mo_stick_17 (by decide) ?_
      refine lv_goto (pc := 18) (tgt := 36) hx hb d_Mo_stick_18 (by decide) ?_
      exact wk_Mo_stick_36 hfl C hmg hr hin htab _ a0 x3 x101 (1 : Int32) a0 _ _ _ _ _ h hP hS (lv_sub hl [1, 4, 0] rfl) (show 0 + 0 + 0 ≤ 0 by omega) (show 0 + 0 + 0 ≤ 0 by omega)
  · exact cq_out hlocks (pq_nil htab rfl) (show 0 + 0 + 0 ≤ 0 by omega) (show 0 + 0 + 0 ≤ 0 by omega) hX hex hP hS h
/-! WaterWorksModel.spread()V -/
abbrev y_Mo_spread : MethodName := ⟨"WaterWorksModel", "spread", "()V"⟩
abbrev rm_Mo_spread : Room := { frames := 1, cells := 0, slots := 0, locals := 40 }
theorem h_Mo_spread : y_Mo_spread.cls ≠ "java/lang/invoke/MethodHandle" ∧ y_Mo_spread.cls ≠ "java/lang/invoke/VarHandle" := by decide +kernel
theorem n_Mo_spread : (parseMethodDescriptor y_Mo_spread.desc).map (fun d => d.parameters.length) = some 0 := by decide +kernel
theorem d_Mo_spread_0 : decode prog_15_method_13_code 0 = .ok (.iconst 1, 1) := by decide +kernel
theorem d_Mo_spread_1 : decode prog_15_method_13_code 1 = .ok (.istore_n 1, 1) := by decide +kernel
theorem d_Mo_spread_2 : decode prog_15_method_13_code 2 = .ok (.iload_n 1, 1) := by decide +kernel
theorem d_Mo_spread_3 : decode prog_15_method_13_code 3 = .ok (.ifCond .eq 83, 3) := by decide +kernel
theorem d_Mo_spread_6 : decode prog_15_method_13_code 6 = .ok (.iconst 0, 1) := by decide +kernel
theorem d_Mo_spread_7 : decode prog_15_method_13_code 7 = .ok (.istore_n 1, 1) := by decide +kernel
theorem d_Mo_spread_8 : decode prog_15_method_13_code 8 = .ok (.iconst 0, 1) := by decide +kernel
theorem d_Mo_spread_9 : decode prog_15_method_13_code 9 = .ok (.istore_n 2, 1) := by decide +kernel
theorem d_Mo_spread_10 : decode prog_15_method_13_code 10 = .ok (.iload_n 2, 1) := by decide +kernel
theorem d_Mo_spread_11 : decode prog_15_method_13_code 11 = .ok (.iconst 2, 1) := by decide +kernel
theorem d_Mo_spread_12 : decode prog_15_method_13_code 12 = .ok (.aload_n 0, 1) := by decide +kernel
theorem d_Mo_spread_13 : decode prog_15_method_13_code 13 = .ok (.getfield 88, 3) := by decide +kernel
theorem d_Mo_spread_16 : decode prog_15_method_13_code 16 = .ok (.imul, 1) := by decide +kernel
theorem d_Mo_spread_17 : decode prog_15_method_13_code 17 = .ok (.if_icmp .ge 66, 3) := by decide +kernel
theorem d_Mo_spread_20 : decode prog_15_method_13_code 20 = .ok (.bipush 12, 2) := by decide +kernel
theorem d_Mo_spread_22 : decode prog_15_method_13_code 22 = .ok (.iload_n 2, 1) := by decide +kernel
theorem d_Mo_spread_23 : decode prog_15_method_13_code 23 = .ok (.iconst 2, 1) := by decide +kernel
theorem d_Mo_spread_24 : decode prog_15_method_13_code 24 = .ok (.idiv, 1) := by decide +kernel
theorem d_Mo_spread_25 : decode prog_15_method_13_code 25 = .ok (.iadd, 1) := by decide +kernel
theorem d_Mo_spread_26 : decode prog_15_method_13_code 26 = .ok (.istore_n 3, 1) := by decide +kernel
theorem d_Mo_spread_27 : decode prog_15_method_13_code 27 = .ok (.aload_n 0, 1) := by decide +kernel
theorem d_Mo_spread_28 : decode prog_15_method_13_code 28 = .ok (.getfield 32, 3) := by decide +kernel
theorem d_Mo_spread_31 : decode prog_15_method_13_code 31 = .ok (.iload_n 2, 1) := by decide +kernel
theorem d_Mo_spread_32 : decode prog_15_method_13_code 32 = .ok (.baload, 1) := by decide +kernel
theorem d_Mo_spread_33 : decode prog_15_method_13_code 33 = .ok (.ifCond .eq 44, 3) := by decide +kernel
theorem d_Mo_spread_36 : decode prog_15_method_13_code 36 = .ok (.aload_n 0, 1) := by decide +kernel
theorem d_Mo_spread_37 : decode prog_15_method_13_code 37 = .ok (.getfield 29, 3) := by decide +kernel
theorem d_Mo_spread_40 : decode prog_15_method_13_code 40 = .ok (.iload_n 3, 1) := by decide +kernel
theorem d_Mo_spread_41 : decode prog_15_method_13_code 41 = .ok (.baload, 1) := by decide +kernel
theorem d_Mo_spread_42 : decode prog_15_method_13_code 42 = .ok (.aload_n 0, 1) := by decide +kernel
theorem d_Mo_spread_43 : decode prog_15_method_13_code 43 = .ok (.getfield 29, 3) := by decide +kernel
theorem d_Mo_spread_46 : decode prog_15_method_13_code 46 = .ok (.aload_n 0, 1) := by decide +kernel
theorem d_Mo_spread_47 : decode prog_15_method_13_code 47 = .ok (.getfield 13, 3) := by decide +kernel
theorem d_Mo_spread_50 : decode prog_15_method_13_code 50 = .ok (.iload_n 2, 1) := by decide +kernel
theorem d_Mo_spread_51 : decode prog_15_method_13_code 51 = .ok (.iaload, 1) := by decide +kernel
theorem d_Mo_spread_52 : decode prog_15_method_13_code 52 = .ok (.baload, 1) := by decide +kernel
theorem d_Mo_spread_53 : decode prog_15_method_13_code 53 = .ok (.if_icmp .eq 24, 3) := by decide +kernel
theorem d_Mo_spread_56 : decode prog_15_method_13_code 56 = .ok (.aload_n 0, 1) := by decide +kernel
theorem d_Mo_spread_57 : decode prog_15_method_13_code 57 = .ok (.getfield 29, 3) := by decide +kernel
theorem d_Mo_spread_60 : decode prog_15_method_13_code 60 = .ok (.iload_n 3, 1) := by decide +kernel
theorem d_Mo_spread_61 : decode prog_15_method_13_code 61 = .ok (.iconst 1, 1) := by decide +kernel
theorem d_Mo_spread_62 : decode prog_15_method_13_code 62 = .ok (.bastore, 1) := by decide +kernel
theorem d_Mo_spread_63 : decode prog_15_method_13_code 63 = .ok (.aload_n 0, 1) := by decide +kernel
theorem d_Mo_spread_64 : decode prog_15_method_13_code 64 = .ok (.getfield 29, 3) := by decide +kernel
theorem d_Mo_spread_67 : decode prog_15_method_13_code 67 = .ok (.aload_n 0, 1) := by decide +kernel
theorem d_Mo_spread_68 : decode prog_15_method_13_code 68 = .ok (.getfield 13, 3) := by decide +kernel
theorem d_Mo_spread_71 : decode prog_15_method_13_code 71 = .ok (.iload_n 2, 1) := by decide +kernel
theorem d_Mo_spread_72 : decode prog_15_method_13_code 72 = .ok (.iaload, 1) := by decide +kernel
theorem d_Mo_spread_73 : decode prog_15_method_13_code 73 = .ok (.iconst 1, 1) := by decide +kernel
theorem d_Mo_spread_74 : decode prog_15_method_13_code 74 = .ok (.bastore, 1) := by decide +kernel
theorem d_Mo_spread_75 : decode prog_15_method_13_code 75 = .ok (.iconst 1, 1) := by decide +kernel
theorem d_Mo_spread_76 : decode prog_15_method_13_code 76 = .ok (.istore_n 1, 1) := by decide +kernel
theorem d_Mo_spread_77 : decode prog_15_method_13_code 77 = .ok (.iinc 2 1, 3) := by decide +kernel
theorem d_Mo_spread_80 : decode prog_15_method_13_code 80 = .ok (.goto (-70), 3) := by decide +kernel
theorem d_Mo_spread_83 : decode prog_15_method_13_code 83 = .ok (.goto (-81), 3) := by decide +kernel
theorem d_Mo_spread_86 : decode prog_15_method_13_code 86 = .ok (.return_, 1) := by decide +kernel
def wb_Mo_spread_77 (po : Option Value → Pic → Prop) (th : String → Pic → Prop) (K2 : Pic → Nat → Int32 → Prop) (K10 : Pic → Nat → Int32 → Int32 → Prop) (P : Pic) (a0 : Nat) (x1 : Int32) (x2 : Int32) : Prop := ∀ (x129 : Int32), x129 = x2 + 1 → K10 P a0 x1 x129
def wb_Mo_spread_10 (po : Option Value → Pic → Prop) (th : String → Pic → Prop) (K2 : Pic → Nat → Int32 → Prop) (K10 : Pic → Nat → Int32 → Int32 → Prop) (P : Pic) (a0 : Nat) (x1 : Int32) (x2 : Int32) : Prop := p_k P a0 = 13 ∧ ((((2 : Int32) * (p_i P 482 a0)) ≤ x2 → (K2 P a0 x1)) ∧ (¬ ((2 : Int32) * (p_i P 482 a0)) ≤ x2 → (∀ (x103 : Int32), x103 = ((12 : Int32) + (x2 / (2 : Int32))) → ∃ a104, p_r P 491 a0 = some a104 ∧ p_k P a104 = 103 ∧ vp_in x2 (p_n P a104) ∧ (((p_ai P a104 (Int32.toNatClampNeg x2)) = 0 → (wb_Mo_spread_77 po th K2 K10 P a0 x1 x2)) ∧ (¬ (p_ai P a104 (Int32.toNatClampNeg x2)) = 0 → (∃ a107, p_r P 490 a0 = some a107 ∧ p_k P a107 = 103 ∧ vp_in x103 (p_n P a107) ∧ ∃ a110, p_r P 490 a0 = some a110 ∧ ∃ a111, p_r P 485 a0 = some a111 ∧ p_k P a111 = 101 ∧ vp_in x2 (p_n P a111) ∧ p_k P a110 = 103 ∧ vp_in (p_ai P a111 (Int32.toNatClampNeg x2)) (p_n P a110) ∧ (((p_ai P a107 (Int32.toNatClampNeg x103)) = (p_ai P a110 (Int32.toNatClampNeg (p_ai P a111 (Int32.toNatClampNeg x2)))) → (wb_Mo_spread_77 po th K2 K10 P a0 x1 x2)) ∧ (¬ (p_ai P a107 (Int32.toNatClampNeg x103)) = (p_ai P a110 (Int32.toNatClampNeg (p_ai P a111 (Int32.toNatClampNeg x2)))) → (∃ a116, p_r P 490 a0 = some a116 ∧ p_k P a116 = 103 ∧ vp_in x103 (p_n P a116) ∧ ∃ a119, p_r (s_ai P a116 (Int32.toNatClampNeg x103) (1 : Int32)) 490 a0 = some a119 ∧ ∃ a120, p_r (s_ai P a116 (Int32.toNatClampNeg x103) (1 : Int32)) 485 a0 = some a120 ∧ p_k (s_ai P a116 (Int32.toNatClampNeg x103) (1 : Int32)) a120 = 101 ∧ vp_in x2 (p_n (s_ai P a116 (Int32.toNatClampNeg x103) (1 : Int32)) a120) ∧ p_k (s_ai P a116 (Int32.toNatClampNeg x103) (1 : Int32)) a119 = 103 ∧ vp_in (p_ai (s_ai P a116 (Int32.toNatClampNeg x103) (1 : Int32)) a120 (Int32.toNatClampNeg x2)) (p_n (s_ai P a116 (Int32.toNatClampNeg x103) (1 : Int32)) a119) ∧ ∀ (P125 : Pic), P125 = s_ai (s_ai P a116 (Int32.toNatClampNeg x103) (1 : Int32)) a119 (Int32.toNatClampNeg (p_ai (s_ai P a116 (Int32.toNatClampNeg x103) (1 : Int32)) a120 (Int32.toNatClampNeg x2))) (1 : Int32) → wb_Mo_spread_77 po th K2 K10 P125 a0 (1 : Int32) x2)))))))))
def wl_Mo_spread_10 (po : Option Value → Pic → Prop) (th : String → Pic → Prop) (K2 : Pic → Nat → Int32 → Prop) : Nat → Pic → Nat → Int32 → Int32 → Prop
  | 0 => fun _ _ _ _ => False
  | n + 1 => wb_Mo_spread_10 po th K2 (wl_Mo_spread_10 po th K2 n)
def wb_Mo_spread_2 (po : Option Value → Pic → Prop) (th : String → Pic → Prop) (K2 : Pic → Nat → Int32 → Prop) (P : Pic) (a0 : Nat) (x1 : Int32) : Prop := ((x1 = 0 → (po none P)) ∧ (¬ x1 = 0 → (∃ n, wl_Mo_spread_10 po th K2 n P a0 (0 : Int32) (0 : Int32))))
def wl_Mo_spread_2 (po : Option Value → Pic → Prop) (th : String → Pic → Prop) : Nat → Pic → Nat → Int32 → Prop
  | 0 => fun _ _ _ => False
  | n + 1 => wb_Mo_spread_2 po th (wl_Mo_spread_2 po th n)
def wp_Mo_spread (po : Option Value → Pic → Prop) (th : String → Pic → Prop) (P : Pic) (a0 : Nat) : Prop := ∃ n, wl_Mo_spread_2 po th n P a0 (1 : Int32)
set_option maxHeartbeats 4000000 in
set_option maxRecDepth 100000 in
theorem wk_Mo_spread_77 {p : Program} {l : Launch} {e : Env} {s : State} {m : MethodId} {args : Array Value} {below : List Frame} {meth : Method} {c : Code} {D : pq_D} {P0 : Pic} {po : Option Value → Pic → Prop} {th : String → Pic → Prop} {K2 : Pic → Nat → Int32 → Prop} {K10 : Pic → Nat → Int32 → Int32 → Prop} (hfl : l.flags = flags0) (C : Cx p e s m args meth c prog_15_method_13_code 4 "WaterWorksModel" D P0) (hmg : e.platform.magicAccessors = ({} : Platform).magicAccessors) (hr : meth.sig.returnType = none) (hin : meth.name = "spread") (htab : c.exceptionTable.toList = tableOf []) (HK2 : ∀ (P : Pic) (a0 : Nat) (x1 : Int32) (H : Heap) (locs : List Loc) (cells slots : Nat) (ls : Array Slot), K2 P a0 x1 → Pi D P H → Sg (cq_A P0 s) s.heap H P locs → lv_has ls 4 [(0, .ref a0), (1, .int x1)] → cells + 0 ≤ 0 → slots + 0 ≤ 0 → W p l e rm_Mo_spread s m args below meth c H locs cells slots (mt_MQ below (cq_Q D P0 false po th) args s 0 0 (cq_free P0 false)) (F0 m 2 ls [])) (HK10 : ∀ (P : Pic) (a0 : Nat) (x1 : Int32) (x2 : Int32) (H : Heap) (locs : List Loc) (cells slots : Nat) (ls : Array Slot), K10 P a0 x1 x2 → Pi D P H → Sg (cq_A P0 s) s.heap H P locs → lv_has ls 4 [(0, .ref a0), (1, .int x1), (2, .int x2)] → cells + 0 ≤ 0 → slots + 0 ≤ 0 → W p l e rm_Mo_spread s m args below meth c H locs cells slots (mt_MQ below (cq_Q D P0 false po th) args s 0 0 (cq_free P0 false)) (F0 m 10 ls [])) : ∀ (P : Pic) (a0 : Nat) (x1 : Int32) (x2 : Int32) (H : Heap) (locs : List Loc) (cells slots : Nat) (ls : Array Slot), wb_Mo_spread_77 po th K2 K10 P a0 x1 x2 → Pi D P H → Sg (cq_A P0 s) s.heap H P locs → lv_has ls 4 [(0, .ref a0), (1, .int x1), (2, .int x2)] → cells + 0 ≤ 0 → slots + 0 ≤ 0 → W p l e rm_Mo_spread s m args below meth c H locs cells slots (mt_MQ below (cq_Q D P0 false po th) args s 0 0 (cq_free P0 false)) (F0 m 77 ls []) := by
  intro P a0 x1 x2 H locs cells slots ls h hP hS hl hcc hss
  obtain ⟨hx, hb, hml, hown, hlocks, htr, hT, hK, hSt, hN, hP0⟩ := id C
  have L13_12 : pq_fl s m args 13 12 5 := ⟨_, "WaterWorksModel", "WaterWorksModel", rfl, by decide, hown, Or.inl (hT _ k_1109 _), (fun _ z => z)⟩
  have L29_12 : pq_fl s m args 29 12 10 := ⟨_, "WaterWorksModel", "WaterWorksModel", rfl, by decide, hown, Or.inl (hT _ k_1114 _), (fun _ z => z)⟩
  have L32_12 : pq_fl s m args 32 12 11 := ⟨_, "WaterWorksModel", "WaterWorksModel", rfl, by decide, hown, Or.inl (hT _ k_1115 _), (fun _ z => z)⟩
  have L88_12 : pq_fl s m args 88 12 2 := ⟨_, "WaterWorksModel", "WaterWorksModel", rfl, by decide, hown, Or.inl (hT _ k_1106 _), (fun _ z => z)⟩
  unfold wb_Mo_spread_77 at h
  obtain ⟨x129, ex129⟩ : ∃ z : Int32, z = x2 + 1 := ⟨_, rfl⟩
  replace h := h x129 ex129
  refine lv_iinc (pc := 77) (v := x129) (lv' := [(2, .int x129), (0, .ref a0), (1, .int x1)]) hx hb d_Mo_spread_77 hl (k := 2) rfl (by rw [ex129]; rfl) (by decide) rfl (fun ls hl => ?_)
  refine lv_goto (pc := 80) (tgt := 10) hx hb d_Mo_spread_80 (by decide) ?_
  exact HK10 _ a0 x1 x129 _ _ _ _ _ h hP hS (lv_sub hl [1, 2, 0] rfl) (show cells + 0 ≤ 0 by omega) (show slots + 0 ≤ 0 by omega)
set_option maxHeartbeats 4000000 in
set_option maxRecDepth 100000 in
theorem wk_Mo_spread_10 {p : Program} {l : Launch} {e : Env} {s : State} {m : MethodId} {args : Array Value} {below : List Frame} {meth : Method} {c : Code} {D : pq_D} {P0 : Pic} {po : Option Value → Pic → Prop} {th : String → Pic → Prop} {K2 : Pic → Nat → Int32 → Prop} {K10 : Pic → Nat → Int32 → Int32 → Prop} (hfl : l.flags = flags0) (C : Cx p e s m args meth c prog_15_method_13_code 4 "WaterWorksModel" D P0) (hmg : e.platform.magicAccessors = ({} : Platform).magicAccessors) (hr : meth.sig.returnType = none) (hin : meth.name = "spread") (htab : c.exceptionTable.toList = tableOf []) (HK2 : ∀ (P : Pic) (a0 : Nat) (x1 : Int32) (H : Heap) (locs : List Loc) (cells slots : Nat) (ls : Array Slot), K2 P a0 x1 → Pi D P H → Sg (cq_A P0 s) s.heap H P locs → lv_has ls 4 [(0, .ref a0), (1, .int x1)] → cells + 0 ≤ 0 → slots + 0 ≤ 0 → W p l e rm_Mo_spread s m args below meth c H locs cells slots (mt_MQ below (cq_Q D P0 false po th) args s 0 0 (cq_free P0 false)) (F0 m 2 ls [])) (HK10 : ∀ (P : Pic) (a0 : Nat) (x1 : Int32) (x2 : Int32) (H : Heap) (locs : List Loc) (cells slots : Nat) (ls : Array Slot), K10 P a0 x1 x2 → Pi D P H → Sg (cq_A P0 s) s.heap H P locs → lv_has ls 4 [(0, .ref a0), (1, .int x1), (2, .int x2)] → cells + 0 ≤ 0 → slots + 0 ≤ 0 → W p l e rm_Mo_spread s m args below meth c H locs cells slots (mt_MQ below (cq_Q D P0 false po th) args s 0 0 (cq_free P0 false)) (F0 m 10 ls [])) : ∀ (P : Pic) (a0 : Nat) (x1 : Int32) (x2 : Int32) (H : Heap) (locs : List Loc) (cells slots : Nat) (ls : Array Slot), wb_Mo_spread_10 po th K2 K10 P a0 x1 x2 → Pi D P H → Sg (cq_A P0 s) s.heap H P locs → lv_has ls 4 [(0, .ref a0), (1, .int x1), (2, .int x2)] → cells + 0 ≤ 0 → slots + 0 ≤ 0 → W p l e rm_Mo_spread s m args below meth c H locs cells slots (mt_MQ below (cq_Q D P0 false po th) args s 0 0 (cq_free P0 false)) (F0 m 10 ls []) := by
  intro P a0 x1 x2 H locs cells slots ls h hP hS hl hcc hss
  obtain ⟨hx, hb, hml, hown, hlocks, htr, hT, hK, hSt, hN, hP0⟩ := id C
  have L13_12 : pq_fl s m args 13 12 5 := ⟨_, "WaterWorksModel", "WaterWorksModel", rfl, by decide, hown, Or.inl (hT _ k_1109 _), (fun _ z => z)⟩
  have L29_12 : pq_fl s m args 29 12 10 := ⟨_, "WaterWorksModel", "WaterWorksModel", rfl, by decide, hown, Or.inl (hT _ k_1114 _), (fun _ z => z)⟩
  have L32_12 : pq_fl s m args 32 12 11 := ⟨_, "WaterWorksModel", "WaterWorksModel", rfl, by decide, hown, Or.inl (hT _ k_1115 _), (fun _ z => z)⟩
  have L88_12 : pq_fl s m args 88 12 2 := ⟨_, "WaterWorksModel", "WaterWorksModel", rfl, by decide, hown, Or.inl (hT _ k_1106 _), (fun _ z => z)⟩
  unfold wb_Mo_spread_10 at h
  refine lv_iload_n (pc := 10) hx hb d_Mo_spread_10 rfl (lv_at hl 2 rfl) ?_
  refine lv_iconst (pc := 11) (v := 2) hx hb d_Mo_spread_11 (by decide) ?_
  refine lv_aload_n (pc := 12) hx hb d_Mo_spread_12 rfl (lv_at hl 0 rfl) ?_
  obtain ⟨hk102, h⟩ := h
  refine pq_geti (pc := 13) (f := 482) hx hb hT hK hP L88_12 hk102 rfl d_Mo_spread_13 ?_
  refine lv_imul (pc := 16) hx hb d_Mo_spread_16 ?_
  refine lv_icmp_ge (pc := 17) (tgt := 83) hx hb d_Mo_spread_17 (by decide) (fun c128 => ?_) (fun c128 => ?_)
  · replace h := h.1 c128
    refine lv_goto (pc := 83) (tgt := 2) hx hb d_Mo_spread_83 (by decide) ?_
    exact HK2 _ a0 x1 _ _ _ _ _ h hP hS (lv_sub hl [0, 1] rfl) (show cells + 0 ≤ 0 by omega) (show slots + 0 ≤ 0 by omega)
  · replace h := h.2 c128
    refine lv_bipush (pc := 20) (v := 12) hx hb d_Mo_spread_20 (by decide) ?_
    refine lv_iload_n (pc := 22) hx hb d_Mo_spread_22 rfl (lv_at hl 2 rfl) ?_
    refine lv_iconst (pc := 23) (v := 2) hx hb d_Mo_spread_23 (by decide) ?_
    refine lv_idiv (pc := 24) hx hb d_Mo_spread_24 (by decide) ?_
    refine lv_iadd (pc := 25) hx hb d_Mo_spread_25 ?_
    refine lv_topi (fun x103 ex103 => ?_)
    replace h := h x103 ex103
    refine lv_istore_n (pc := 26) (lv' := [(3, .int x103), (0, .ref a0), (1, .int x1), (2, .int x2)]) hx hb d_Mo_spread_26 rfl hl (by decide) rfl (fun ls hl => ?_)
    refine lv_aload_n (pc := 27) hx hb d_Mo_spread_27 rfl (lv_at hl 1 rfl) ?_
    obtain ⟨a104, ea104, h⟩ := h
    refine pq_geta (pc := 28) (f := 491) hx hb hT hK hP L32_12 hk102 rfl ea104 d_Mo_spread_28 ?_
    refine lv_iload_n (pc := 31) hx hb d_Mo_spread_31 rfl (lv_at hl 3 rfl) ?_
    obtain ⟨hk105, h⟩ := h
    obtain ⟨hi106, h⟩ := h
    refine pq_zald (pc := 32) hx hb hK hP hk105 hi106 d_Mo_spread_32 ?_
    refine lv_if_eq (pc := 33) (tgt := 77) hx hb d_Mo_spread_33 (by decide) (fun c127 => ?_) (fun c127 => ?_)
    · replace h := h.1 c127
      exact wk_Mo_spread_77 hfl C hmg hr hin htab HK2 HK10 _ a0 x1 x2 _ _ _ _ _ h hP hS (lv_sub hl [1, 2, 3] rfl) (show cells + 0 ≤ 0 by omega) (show slots + 0 ≤ 0 by omega)
    · replace h := h.2 c127
      refine lv_aload_n (pc := 36) hx hb d_Mo_spread_36 rfl (lv_at hl 1 rfl) ?_
      obtain ⟨a107, ea107, h⟩ := h
      refine pq_geta (pc := 37) (f := 490) hx hb hT hK hP L29_12 hk102 rfl ea107 d_Mo_spread_37 ?_
      refine lv_iload_n (pc := 40) hx hb d_Mo_spread_40 rfl (lv_at hl 0 rfl) ?_
      obtain ⟨hk108, h⟩ := h
      obtain ⟨hi109, h⟩ := h
      refine pq_zald (pc := 41) hx hb hK hP hk108 hi109 d_Mo_spread_41 ?_
      refine lv_aload_n (pc := 42) hx hb d_Mo_spread_42 rfl (lv_at hl 1 rfl) ?_
      obtain ⟨a110, ea110, h⟩ := h
      refine pq_geta (pc := 43) (f := 490) hx hb hT hK hP L29_12 hk102 rfl ea110 d_Mo_spread_43 ?_
      refine lv_aload_n (pc := 46) hx hb d_Mo_spread_46 rfl (lv_at hl 1 rfl) ?_
      obtain ⟨a111, ea111, h⟩ := h
      refine pq_geta (pc := 47) (f := 485) hx hb hT hK hP L13_12 hk102 rfl ea111 d_Mo_spread_47 ?_
      refine lv_iload_n (pc := 50) hx hb d_Mo_spread_50 rfl (lv_at hl 3 rfl) ?_
      obtain ⟨hk112, h⟩ := h
      obtain ⟨hi113, h⟩ := h
      refine pq_iald (pc := 51) hx hb hK hP hk112 hi113 d_Mo_spread_51 ?_
      obtain ⟨hk114, h⟩ := h
      obtain ⟨hi115, h⟩ := h
      refine pq_zald (pc := 52) hx hb hK hP hk114 hi115 d_Mo_spread_52 ?_
      refine lv_icmp_eq (pc := 53) (tgt := 77) hx hb d_Mo_spread_53 (by decide) (fun c126 => ?_) (fun c126 => ?_)
      · replace h := h.1 c126
        exact wk_Mo_spread_77 hfl C hmg hr hin htab HK2 HK10 _ a0 x1 x2 _ _ _ _ _ h hP hS (lv_sub hl [1, 2, 3] rfl) (show cells + 0 ≤ 0 by omega) (show slots + 0 ≤ 0 by omega)
      · replace h := h.2 c126
        refine lv_aload_n (pc := 56) hx hb d_Mo_spread_56 rfl (lv_at hl 1 rfl) ?_
        obtain ⟨a116, ea116, h⟩ := h
        refine pq_geta (pc := 57) (f := 490) hx hb hT hK hP L29_12 hk102 rfl ea116 d_Mo_spread_57 ?_
        refine lv_iload_n (pc := 60) hx hb d_Mo_spread_60 rfl (lv_at hl 0 rfl) ?_
        refine lv_iconst (pc := 61) (v := 1) hx hb d_Mo_spread_61 (by decide) ?_
        obtain ⟨hk117, h⟩ := h
        obtain ⟨hi118, h⟩ := h
        refine pq_zast (pc := 62) hx hb hK hP hS hk117 hi118 (by decide) d_Mo_spread_62 (fun H locs hP hS => ?_)
        have hk102 : p_k (s_ai P a116 (Int32.toNatClampNeg x103) (1 : Int32)) a0 = 13 := by rw [pk_ai]; exact hk102
        have hk105 : p_k (s_ai P a116 (Int32.toNatClampNeg x103) (1 : Int32)) a104 = 103 := by rw [pk_ai]; exact hk105
        have hk108 : p_k (s_ai P a116 (Int32.toNatClampNeg x103) (1 : Int32)) a107 = 103 := by rw [pk_ai]; exact hk108
        have hk112 : p_k (s_ai P a116 (Int32.toNatClampNeg x103) (1 : Int32)) a111 = 101 := by rw [pk_ai]; exact hk112
        have hk114 : p_k (s_ai P a116 (Int32.toNatClampNeg x103) (1 : Int32)) a110 = 103 := by rw [pk_ai]; exact hk114
        have hk117 : p_k (s_ai P a116 (Int32.toNatClampNeg x103) (1 : Int32)) a116 = 103 := by rw [pk_ai]; exact hk117
        refine lv_aload_n (pc := 63) hx hb d_Mo_spread_63 rfl (lv_at hl 1 rfl) ?_
        obtain ⟨a119, ea119, h⟩ := h
        refine pq_geta (pc := 64) (f := 490) hx hb hT hK hP L29_12 hk102 rfl ea119 d_Mo_spread_64 ?_
        refine lv_aload_n (pc := 67) hx hb d_Mo_spread_67 rfl (lv_at hl 1 rfl) ?_
        obtain ⟨a120, ea120, h⟩ := h
        refine pq_geta (pc := 68) (f := 485) hx hb hT hK hP L13_12 hk102 rfl ea120 d_Mo_spread_68 ?_
        refine lv_iload_n (pc := 71) hx hb d_Mo_spread_71 rfl (lv_at hl 3 rfl) ?_
        obtain ⟨hk121, h⟩ := h
        obtain ⟨hi122, h⟩ := h
        refine pq_iald (pc := 72) hx hb hK hP hk121 hi122 d_Mo_spread_72 ?_
        refine lv_iconst (pc := 73) (v := 1) hx hb d_Mo_spread_73 (by decide) ?_
        obtain ⟨hk123, h⟩ := h
        obtain ⟨hi124, h⟩ := h
        refine pq_zast (pc := 74) hx hb hK hP hS hk123 hi124 (by decide) d_Mo_spread_74 (fun H locs hP hS => ?_)
        have hk102 : p_k (s_ai (s_ai P a116 (Int32.toNatClampNeg x103) (1 : Int32)) a119 (Int32.toNatClampNeg (p_ai (s_ai P a116 (Int32.toNatClampNeg x103) (1 : Int32)) a120 (Int32.toNatClampNeg x2))) (1 : Int32)) a0 = 13 := by rw [pk_ai]; exact hk102
        have hk105 : p_k (s_ai (s_ai P a116 (Int32.toNatClampNeg x103) (1 : Int32)) a119 (Int32.toNatClampNeg (p_ai (s_ai P a116 (Int32.toNatClampNeg x103) (1 : Int32)) a120 (Int32.toNatClampNeg x2))) (1 : Int32)) a104 = 103 := by rw [pk_ai]; exact hk105
        have hk108 : p_k (s_ai (s_ai P a116 (Int32.toNatClampNeg x103) (1 : Int32)) a119 (Int32.toNatClampNeg (p_ai (s_ai P a116 (Int32.toNatClampNeg x103) (1 : Int32)) a120 (Int32.toNatClampNeg x2))) (1 : Int32)) a107 = 103 := by rw [pk_ai]; exact hk108
        have hk112 : p_k (s_ai (s_ai P a116 (Int32.toNatClampNeg x103) (1 : Int32)) a119 (Int32.toNatClampNeg (p_ai (s_ai P a116 (Int32.toNatClampNeg x103) (1 : Int32)) a120 (Int32.toNatClampNeg x2))) (1 : Int32)) a111 = 101 := by rw [pk_ai]; exact hk112
        have hk114 : p_k (s_ai (s_ai P a116 (Int32.toNatClampNeg x103) (1 : Int32)) a119 (Int32.toNatClampNeg (p_ai (s_ai P a116 (Int32.toNatClampNeg x103) (1 : Int32)) a120 (Int32.toNatClampNeg x2))) (1 : Int32)) a110 = 103 := by rw [pk_ai]; exact hk114
        have hk117 : p_k (s_ai (s_ai P a116 (Int32.toNatClampNeg x103) (1 : Int32)) a119 (Int32.toNatClampNeg (p_ai (s_ai P a116 (Int32.toNatClampNeg x103) (1 : Int32)) a120 (Int32.toNatClampNeg x2))) (1 : Int32)) a116 = 103 := by rw [pk_ai]; exact hk117
        have hk121 : p_k (s_ai (s_ai P a116 (Int32.toNatClampNeg x103) (1 : Int32)) a119 (Int32.toNatClampNeg (p_ai (s_ai P a116 (Int32.toNatClampNeg x103) (1 : Int32)) a120 (Int32.toNatClampNeg x2))) (1 : Int32)) a120 = 101 := by rw [pk_ai]; exact hk121
        have hk123 : p_k (s_ai (s_ai P a116 (Int32.toNatClampNeg x103) (1 : Int32)) a119 (Int32.toNatClampNeg (p_ai (s_ai P a116 (Int32.toNatClampNeg x103) (1 : Int32)) a120 (Int32.toNatClampNeg x2))) (1 : Int32)) a119 = 103 := by rw [pk_ai]; exact hk123
        obtain ⟨P125, eP125⟩ : ∃ z : Pic, z = s_ai (s_ai P a116 (Int32.toNatClampNeg x103) (1 : Int32)) a119 (Int32.toNatClampNeg (p_ai (s_ai P a116 (Int32.toNatClampNeg x103) (1 : Int32)) a120 (Int32.toNatClampNeg x2))) (1 : Int32) := ⟨_, rfl⟩
        replace h := h P125 eP125
        rw [← eP125] at hP hS
        have hk102 : p_k P125 a0 = 13 := by rw [eP125]; exact hk102
        have hk105 : p_k P125 a104 = 103 := by rw [eP125]; exact hk105
        have hk108 : p_k P125 a107 = 103 := by rw [eP125]; exact hk108
        have hk112 : p_k P125 a111 = 101 := by rw [eP125]; exact hk112
        have hk114 : p_k P125 a110 = 103 := by rw [eP125]; exact hk114
        have hk117 : p_k P125 a116 = 103 := by rw [eP125]; exact hk117
        have hk121 : p_k P125 a120 = 101 := by rw [eP125]; exact hk121
        have hk123 : p_k P125 a119 = 103 := by rw [eP125]; exact hk123
        refine lv_iconst (pc := 75) (v := 1) hx hb d_Mo_spread_75 (by decide) ?_
        refine lv_istore_n (pc := 76) (lv' := [(1, .int (1 : Int32)), (3, .int x103), (0, .ref a0), (2, .int x2)]) hx hb d_Mo_spread_76 rfl hl (by decide) rfl (fun ls hl => ?_)
        exact wk_Mo_spread_77 hfl C hmg hr hin htab HK2 HK10 _ a0 (1 : Int32) x2 _ _ _ _ _ h hP hS (lv_sub hl [2, 0, 3] rfl) (show cells + 0 ≤ 0 by omega) (show slots + 0 ≤ 0 by omega)
theorem wm_Mo_spread_10 {p : Program} {l : Launch} {e : Env} {s : State} {m : MethodId} {args : Array Value} {below : List Frame} {meth : Method} {c : Code} {D : pq_D} {P0 : Pic} {po : Option Value → Pic → Prop} {th : String → Pic → Prop} {K2 : Pic → Nat → Int32 → Prop} (hfl : l.flags = flags0) (C : Cx p e s m args meth c prog_15_method_13_code 4 "WaterWorksModel" D P0) (hmg : e.platform.magicAccessors = ({} : Platform).magicAccessors) (hr : meth.sig.returnType = none) (hin : meth.name = "spread") (htab : c.exceptionTable.toList = tableOf []) (HK2 : ∀ (P : Pic) (a0 : Nat) (x1 : Int32) (H : Heap) (locs : List Loc) (cells slots : Nat) (ls : Array Slot), K2 P a0 x1 → Pi D P H → Sg (cq_A P0 s) s.heap H P locs → lv_has ls 4 [(0, .ref a0), (1, .int x1)] → cells + 0 ≤ 0 → slots + 0 ≤ 0 → W p l e rm_Mo_spread s m args below meth c H locs cells slots (mt_MQ below (cq_Q D P0 false po th) args s 0 0 (cq_free P0 false)) (F0 m 2 ls [])) : ∀ n : Nat, ∀ (P : Pic) (a0 : Nat) (x1 : Int32) (x2 : Int32) (H : Heap) (locs : List Loc) (cells slots : Nat) (ls : Array Slot), wl_Mo_spread_10 po th K2 n P a0 x1 x2 → Pi D P H → Sg (cq_A P0 s) s.heap H P locs → lv_has ls 4 [(0, .ref a0), (1, .int x1), (2, .int x2)] → cells + 0 ≤ 0 → slots + 0 ≤ 0 → W p l e rm_Mo_spread s m args below meth c H locs cells slots (mt_MQ below (cq_Q D P0 false po th) args s 0 0 (cq_free P0 false)) (F0 m 10 ls []) := by
  intro n
  induction n with
  | zero => intro P a0 x1 x2 H locs cells slots ls h; exact h.elim
  | succ n ih => exact wk_Mo_spread_10 hfl C hmg hr hin htab HK2 ih
set_option maxHeartbeats 4000000 in
set_option maxRecDepth 100000 in
theorem wk_Mo_spread_2 {p : Program} {l : Launch} {e : Env} {s : State} {m : MethodId} {args : Array Value} {below : List Frame} {meth : Method} {c : Code} {D : pq_D} {P0 : Pic} {po : Option Value → Pic → Prop} {th : String → Pic → Prop} {K2 : Pic → Nat → Int32 → Prop} (hfl : l.flags = flags0) (C : Cx p e s m args meth c prog_15_method_13_code 4 "WaterWorksModel" D P0) (hmg : e.platform.magicAccessors = ({} : Platform).magicAccessors) (hr : meth.sig.returnType = none) (hin : meth.name = "spread") (htab : c.exceptionTable.toList = tableOf []) (HK2 : ∀ (P : Pic) (a0 : Nat) (x1 : Int32) (H : Heap) (locs : List Loc) (cells slots : Nat) (ls : Array Slot), K2 P a0 x1 → Pi D P H → Sg (cq_A P0 s) s.heap H P locs → lv_has ls 4 [(0, .ref a0), (1, .int x1)] → cells + 0 ≤ 0 → slots + 0 ≤ 0 → W p l e rm_Mo_spread s m args below meth c H locs cells slots (mt_MQ below (cq_Q D P0 false po th) args s 0 0 (cq_free P0 false)) (F0 m 2 ls [])) : ∀ (P : Pic) (a0 : Nat) (x1 : Int32) (H : Heap) (locs : List Loc) (cells slots : Nat) (ls : Array Slot), wb_Mo_spread_2 po th K2 P a0 x1 → Pi D P H → Sg (cq_A P0 s) s.heap H P locs → lv_has ls 4 [(0, .ref a0), (1, .int x1)] → cells + 0 ≤ 0 → slots + 0 ≤ 0 → W p l e rm_Mo_spread s m args below meth c H locs cells slots (mt_MQ below (cq_Q D P0 false po th) args s 0 0 (cq_free P0 false)) (F0 m 2 ls []) := by
  intro P a0 x1 H locs cells slots ls h hP hS hl hcc hss
  obtain ⟨hx, hb, hml, hown, hlocks, htr, hT, hK, hSt, hN, hP0⟩ := id C
  have L13_12 : pq_fl s m args 13 12 5 := ⟨_, "WaterWorksModel", "WaterWorksModel", rfl, by decide, hown, Or.inl (hT _ k_1109 _), (fun _ z => z)⟩
  have L29_12 : pq_fl s m args 29 12 10 := ⟨_, "WaterWorksModel", "WaterWorksModel", rfl, by decide, hown, Or.inl (hT _ k_1114 _), (fun _ z => z)⟩
  have L32_12 : pq_fl s m args 32 12 11 := ⟨_, "WaterWorksModel", "WaterWorksModel", rfl, by decide, hown, Or.inl (hT _ k_1115 _), (fun _ z => z)⟩
  have L88_12 : pq_fl s m args 88 12 2 := ⟨_, "WaterWorksModel", "WaterWorksModel", rfl, by decide, hown, Or.inl (hT _ k_1106 _), (fun _ z => z)⟩
  unfold wb_Mo_spread_2 at h
  refine lv_iload_n (pc := 2) hx hb d_Mo_spread_2 rfl (lv_at hl 1 rfl) ?_
  refine lv_if_eq (pc := 3) (tgt := 86) hx hb d_Mo_spread_3 (by decide) (fun c101 => ?_) (fun c101 => ?_)
  · replace h := h.1 c101
    exact we_v (pc := 86) hx hb hlocks hr hP hS (show cells + 0 ≤ 0 by omega) (show slots + 0 ≤ 0 by omega) h d_Mo_spread_86
  · replace h := h.2 c101
    refine lv_iconst (pc := 6) (v := 0) hx hb d_Mo_spread_6 (by decide) ?_
    refine lv_istore_n (pc := 7) (lv' := [(1, .int (0 : Int32)), (0, .ref a0)]) hx hb d_Mo_spread_7 rfl hl (by decide) rfl (fun ls hl => ?_)
    refine lv_iconst (pc := 8) (v := 0) hx hb d_Mo_spread_8 (by decide) ?_
    refine lv_istore_n (pc := 9) (lv' := [(2, .int (0 : Int32)), (1, .int (0 : Int32)), (0, .ref a0)]) hx hb d_Mo_spread_9 rfl hl (by decide) rfl (fun ls hl => ?_)
    obtain ⟨n, h⟩ := h
    exact wm_Mo_spread_10 hfl C hmg hr hin htab HK2 n _ a0 (0 : Int32) (0 : Int32) _ _ _ _ _ h hP hS (lv_sub hl [2, 1, 0] rfl) (show cells + 0 ≤ 0 by omega) (show slots + 0 ≤ 0 by omega)
theorem wm_Mo_spread_2 {p : Program} {l : Launch} {e : Env} {s : State} {m : MethodId} {args : Array Value} {below : List Frame} {meth : Method} {c : Code} {D : pq_D} {P0 : Pic} {po : Option Value → Pic → Prop} {th : String → Pic → Prop} (hfl : l.flags = flags0) (C : Cx p e s m args meth c prog_15_method_13_code 4 "WaterWorksModel" D P0) (hmg : e.platform.magicAccessors = ({} : Platform).magicAccessors) (hr : meth.sig.returnType = none) (hin : meth.name = "spread") (htab : c.exceptionTable.toList = tableOf []) : ∀ n : Nat, ∀ (P : Pic) (a0 : Nat) (x1 : Int32) (H : Heap) (locs : List Loc) (cells slots : Nat) (ls : Array Slot), wl_Mo_spread_2 po th n P a0 x1 → Pi D P H → Sg (cq_A P0 s) s.heap H P locs → lv_has ls 4 [(0, .ref a0), (1, .int x1)] → cells + 0 ≤ 0 → slots + 0 ≤ 0 → W p l e rm_Mo_spread s m args below meth c H locs cells slots (mt_MQ below (cq_Q D P0 false po th) args s 0 0 (cq_free P0 false)) (F0 m 2 ls []) := by
  intro n
  induction n with
  | zero => intro P a0 x1 H locs cells slots ls h; exact h.elim
  | succ n ih => exact wk_Mo_spread_2 hfl C hmg hr hin htab ih
set_option maxHeartbeats 4000000 in
set_option maxRecDepth 100000 in
theorem ct_Mo_spread {l : Launch} (hfl : l.flags = flags0) (D : pq_D) {po : Option Value → Pic → Prop} {th : String → Pic → Prop} {P : Pic} {a0 : Nat} (h : wp_Mo_spread po th P a0) : CT l D y_Mo_spread (.code y_Mo_spread prog_15_method_13_code 4 none) rm_Mo_spread false [.ref a0] P po th := by
  refine ct_of (hs := []) hfl (by decide +kernel) (Or.inl ⟨rfl, rfl⟩) (Nat.le_of_ble_eq_true rfl) ?_
  intro p e s m below meth c C hmg hr hin htab ls hl
  have hl : lv_has ls 4 [(0, .ref a0)] := hl
  generalize hargs : ([.ref a0] : List Value).toArray = args at C ⊢
  obtain ⟨hx, hb, hml, hown, hlocks, htr, hT, hK, hSt, hN, hP0⟩ := id C
  have L13_12 : pq_fl s m args 13 12 5 := ⟨_, "WaterWorksModel", "WaterWorksModel", rfl, by decide, hown, Or.inl (hT _ k_1109 _), (fun _ z => z)⟩
  have L29_12 : pq_fl s m args 29 12 10 := ⟨_, "WaterWorksModel", "WaterWorksModel", rfl, by decide, hown, Or.inl (hT _ k_1114 _), (fun _ z => z)⟩
  have L32_12 : pq_fl s m args 32 12 11 := ⟨_, "WaterWorksModel", "WaterWorksModel", rfl, by decide, hown, Or.inl (hT _ k_1115 _), (fun _ z => z)⟩
  have L88_12 : pq_fl s m args 88 12 2 := ⟨_, "WaterWorksModel", "WaterWorksModel", rfl, by decide, hown, Or.inl (hT _ k_1106 _), (fun _ z => z)⟩
  have hP : Pi D P s.heap := hP0
  have hS : Sg (cq_A P s) s.heap s.heap P [] := Sg.start hP0
  unfold wp_Mo_spread at h
  refine lv_iconst (pc := 0) (v := 1) hx hb d_Mo_spread_0 (by decide) ?_
  refine lv_istore_n (pc := 1) (lv' := [(1, .int (1 : Int32)), (0, .ref a0)]) hx hb d_Mo_spread_1 rfl hl (by decide) rfl (fun ls hl => ?_)
  obtain ⟨n, h⟩ := h
  exact wm_Mo_spread_2 hfl C hmg hr hin htab n _ a0 (1 : Int32) _ _ _ _ _ h hP hS (lv_sub hl [1, 0] rfl) (show 0 + 0 ≤ 0 by omega) (show 0 + 0 ≤ 0 by omega)
/-! WaterWorksModel.feed(Z)V -/
abbrev y_Mo_feed : MethodName := ⟨"WaterWorksModel", "feed", "(Z)V"⟩
abbrev rm_Mo_feed : Room := { frames := 2, cells := 0, slots := 0, locals := 63 }
theorem h_Mo_feed : y_Mo_feed.cls ≠ "java/lang/invoke/MethodHandle" ∧ y_Mo_feed.cls ≠ "java/lang/invoke/VarHandle" := by decide +kernel
theorem n_Mo_feed : (parseMethodDescriptor y_Mo_feed.desc).map (fun d => d.parameters.length) = some 1 := by decide +kernel
theorem d_Mo_feed_0 : decode prog_15_method_14_code 0 = .ok (.iconst 0, 1) := by decide +kernel
theorem d_Mo_feed_1 : decode prog_15_method_14_code 1 = .ok (.istore_n 2, 1) := by decide +kernel
theorem d_Mo_feed_2 : decode prog_15_method_14_code 2 = .ok (.iload_n 2, 1) := by decide +kernel
theorem d_Mo_feed_3 : decode prog_15_method_14_code 3 = .ok (.bipush 28, 2) := by decide +kernel
theorem d_Mo_feed_5 : decode prog_15_method_14_code 5 = .ok (.if_icmp .ge 37, 3) := by decide +kernel
theorem d_Mo_feed_8 : decode prog_15_method_14_code 8 = .ok (.aload_n 0, 1) := by decide +kernel
theorem d_Mo_feed_9 : decode prog_15_method_14_code 9 = .ok (.getfield 29, 3) := by decide +kernel
theorem d_Mo_feed_12 : decode prog_15_method_14_code 12 = .ok (.iload_n 2, 1) := by decide +kernel
theorem d_Mo_feed_13 : decode prog_15_method_14_code 13 = .ok (.iload_n 2, 1) := by decide +kernel
theorem d_Mo_feed_14 : decode prog_15_method_14_code 14 = .ok (.aload_n 0, 1) := by decide +kernel
theorem d_Mo_feed_15 : decode prog_15_method_14_code 15 = .ok (.getfield 85, 3) := by decide +kernel
theorem d_Mo_feed_18 : decode prog_15_method_14_code 18 = .ok (.if_icmp .ge 16, 3) := by decide +kernel
theorem d_Mo_feed_21 : decode prog_15_method_14_code 21 = .ok (.aload_n 0, 1) := by decide +kernel
theorem d_Mo_feed_22 : decode prog_15_method_14_code 22 = .ok (.getfield 7, 3) := by decide +kernel
theorem d_Mo_feed_25 : decode prog_15_method_14_code 25 = .ok (.iload_n 2, 1) := by decide +kernel
theorem d_Mo_feed_26 : decode prog_15_method_14_code 26 = .ok (.baload, 1) := by decide +kernel
theorem d_Mo_feed_27 : decode prog_15_method_14_code 27 = .ok (.ifCond .eq 7, 3) := by decide +kernel
theorem d_Mo_feed_30 : decode prog_15_method_14_code 30 = .ok (.iconst 1, 1) := by decide +kernel
theorem d_Mo_feed_31 : decode prog_15_method_14_code 31 = .ok (.goto 4, 3) := by decide +kernel
theorem d_Mo_feed_34 : decode prog_15_method_14_code 34 = .ok (.iconst 0, 1) := by decide +kernel
theorem d_Mo_feed_35 : decode prog_15_method_14_code 35 = .ok (.bastore, 1) := by decide +kernel
theorem d_Mo_feed_36 : decode prog_15_method_14_code 36 = .ok (.iinc 2 1, 3) := by decide +kernel
theorem d_Mo_feed_39 : decode prog_15_method_14_code 39 = .ok (.goto (-37), 3) := by decide +kernel
theorem d_Mo_feed_42 : decode prog_15_method_14_code 42 = .ok (.iconst 0, 1) := by decide +kernel
theorem d_Mo_feed_43 : decode prog_15_method_14_code 43 = .ok (.istore_n 2, 1) := by decide +kernel
theorem d_Mo_feed_44 : decode prog_15_method_14_code 44 = .ok (.iload_n 2, 1) := by decide +kernel
theorem d_Mo_feed_45 : decode prog_15_method_14_code 45 = .ok (.iconst 2, 1) := by decide +kernel
theorem d_Mo_feed_46 : decode prog_15_method_14_code 46 = .ok (.aload_n 0, 1) := by decide +kernel
theorem d_Mo_feed_47 : decode prog_15_method_14_code 47 = .ok (.getfield 88, 3) := by decide +kernel
theorem d_Mo_feed_50 : decode prog_15_method_14_code 50 = .ok (.imul, 1) := by decide +kernel
theorem d_Mo_feed_51 : decode prog_15_method_14_code 51 = .ok (.if_icmp .ge 51, 3) := by decide +kernel
theorem d_Mo_feed_54 : decode prog_15_method_14_code 54 = .ok (.aload_n 0, 1) := by decide +kernel
theorem d_Mo_feed_55 : decode prog_15_method_14_code 55 = .ok (.getfield 32, 3) := by decide +kernel
theorem d_Mo_feed_58 : decode prog_15_method_14_code 58 = .ok (.iload_n 2, 1) := by decide +kernel
theorem d_Mo_feed_59 : decode prog_15_method_14_code 59 = .ok (.aload_n 0, 1) := by decide +kernel
theorem d_Mo_feed_60 : decode prog_15_method_14_code 60 = .ok (.getfield 17, 3) := by decide +kernel
theorem d_Mo_feed_63 : decode prog_15_method_14_code 63 = .ok (.iload_n 2, 1) := by decide +kernel
theorem d_Mo_feed_64 : decode prog_15_method_14_code 64 = .ok (.baload, 1) := by decide +kernel
theorem d_Mo_feed_65 : decode prog_15_method_14_code 65 = .ok (.ifCond .eq 25, 3) := by decide +kernel
theorem d_Mo_feed_68 : decode prog_15_method_14_code 68 = .ok (.aload_n 0, 1) := by decide +kernel
theorem d_Mo_feed_69 : decode prog_15_method_14_code 69 = .ok (.getfield 20, 3) := by decide +kernel
theorem d_Mo_feed_72 : decode prog_15_method_14_code 72 = .ok (.iload_n 2, 1) := by decide +kernel
theorem d_Mo_feed_73 : decode prog_15_method_14_code 73 = .ok (.baload, 1) := by decide +kernel
theorem d_Mo_feed_74 : decode prog_15_method_14_code 74 = .ok (.ifCond .eq 20, 3) := by decide +kernel
theorem d_Mo_feed_77 : decode prog_15_method_14_code 77 = .ok (.iload_n 1, 1) := by decide +kernel
theorem d_Mo_feed_78 : decode prog_15_method_14_code 78 = .ok (.ifCond .eq 12, 3) := by decide +kernel
theorem d_Mo_feed_81 : decode prog_15_method_14_code 81 = .ok (.aload_n 0, 1) := by decide +kernel
theorem d_Mo_feed_82 : decode prog_15_method_14_code 82 = .ok (.getfield 38, 3) := by decide +kernel
theorem d_Mo_feed_85 : decode prog_15_method_14_code 85 = .ok (.iload_n 2, 1) := by decide +kernel
theorem d_Mo_feed_86 : decode prog_15_method_14_code 86 = .ok (.baload, 1) := by decide +kernel
theorem d_Mo_feed_87 : decode prog_15_method_14_code 87 = .ok (.ifCond .ne 7, 3) := by decide +kernel
theorem d_Mo_feed_90 : decode prog_15_method_14_code 90 = .ok (.iconst 1, 1) := by decide +kernel
theorem d_Mo_feed_91 : decode prog_15_method_14_code 91 = .ok (.goto 4, 3) := by decide +kernel
theorem d_Mo_feed_94 : decode prog_15_method_14_code 94 = .ok (.iconst 0, 1) := by decide +kernel
theorem d_Mo_feed_95 : decode prog_15_method_14_code 95 = .ok (.bastore, 1) := by decide +kernel
theorem d_Mo_feed_96 : decode prog_15_method_14_code 96 = .ok (.iinc 2 1, 3) := by decide +kernel
theorem d_Mo_feed_99 : decode prog_15_method_14_code 99 = .ok (.goto (-55), 3) := by decide +kernel
theorem d_Mo_feed_102 : decode prog_15_method_14_code 102 = .ok (.aload_n 0, 1) := by decide +kernel
theorem d_Mo_feed_103 : decode prog_15_method_14_code 103 = .ok (.invokevirtual 105, 3) := by decide +kernel
theorem d_Mo_feed_106 : decode prog_15_method_14_code 106 = .ok (.return_, 1) := by decide +kernel
def wb_Mo_feed_35 (po : Option Value → Pic → Prop) (th : String → Pic → Prop) (K2 : Pic → Nat → Int32 → Int32 → Prop) (P : Pic) (a0 : Nat) (x1 : Int32) (x2 : Int32) (t0 : Int32) (t1 : Int32) (t2 : Nat) : Prop := p_k P t2 = 103 ∧ vp_in t1 (p_n P t2) ∧ (t0 = 0 ∨ t0 = 1) ∧ ∀ (x112 : Int32), x112 = x2 + 1 → K2 (s_ai P t2 (Int32.toNatClampNeg t1) t0) a0 x1 x112
def wb_Mo_feed_34 (po : Option Value → Pic → Prop) (th : String → Pic → Prop) (K2 : Pic → Nat → Int32 → Int32 → Prop) (P : Pic) (a0 : Nat) (x1 : Int32) (x2 : Int32) (t0 : Int32) (t1 : Nat) : Prop := wb_Mo_feed_35 po th K2 P a0 x1 x2 (0 : Int32) t0 t1
def wb_Mo_feed_95 (po : Option Value → Pic → Prop) (th : String → Pic → Prop) (K44 : Pic → Nat → Int32 → Int32 → Prop) (P : Pic) (a0 : Nat) (x1 : Int32) (x2 : Int32) (t0 : Int32) (t1 : Int32) (t2 : Nat) : Prop := p_k P t2 = 103 ∧ vp_in t1 (p_n P t2) ∧ (t0 = 0 ∨ t0 = 1) ∧ ∀ (x133 : Int32), x133 = x2 + 1 → K44 (s_ai P t2 (Int32.toNatClampNeg t1) t0) a0 x1 x133
def wb_Mo_feed_90 (po : Option Value → Pic → Prop) (th : String → Pic → Prop) (K44 : Pic → Nat → Int32 → Int32 → Prop) (P : Pic) (a0 : Nat) (x1 : Int32) (x2 : Int32) (t0 : Int32) (t1 : Nat) : Prop := wb_Mo_feed_95 po th K44 P a0 x1 x2 (1 : Int32) t0 t1
def wb_Mo_feed_94 (po : Option Value → Pic → Prop) (th : String → Pic → Prop) (K44 : Pic → Nat → Int32 → Int32 → Prop) (P : Pic) (a0 : Nat) (x1 : Int32) (x2 : Int32) (t0 : Int32) (t1 : Nat) : Prop := wb_Mo_feed_95 po th K44 P a0 x1 x2 (0 : Int32) t0 t1
def wb_Mo_feed_44 (po : Option Value → Pic → Prop) (th : String → Pic → Prop) (K44 : Pic → Nat → Int32 → Int32 → Prop) (P : Pic) (a0 : Nat) (x1 : Int32) (x2 : Int32) : Prop := p_k P a0 = 13 ∧ ((((2 : Int32) * (p_i P 482 a0)) ≤ x2 → (wp_Mo_spread (cp_v fun P114 => po none P114) th P a0)) ∧ (¬ ((2 : Int32) * (p_i P 482 a0)) ≤ x2 → (∃ a115, p_r P 491 a0 = some a115 ∧ ∃ a116, p_r P 486 a0 = some a116 ∧ p_k P a116 = 103 ∧ vp_in x2 (p_n P a116) ∧ (((p_ai P a116 (Int32.toNatClampNeg x2)) = 0 → (wb_Mo_feed_90 po th K44 P a0 x1 x2 x2 a115)) ∧ (¬ (p_ai P a116 (Int32.toNatClampNeg x2)) = 0 → (∃ a119, p_r P 487 a0 = some a119 ∧ p_k P a119 = 103 ∧ vp_in x2 (p_n P a119) ∧ (((p_ai P a119 (Int32.toNatClampNeg x2)) = 0 → (wb_Mo_feed_94 po th K44 P a0 x1 x2 x2 a115)) ∧ (¬ (p_ai P a119 (Int32.toNatClampNeg x2)) = 0 → (((x1 = 0 → (wb_Mo_feed_90 po th K44 P a0 x1 x2 x2 a115)) ∧ (¬ x1 = 0 → (∃ a122, p_r P 493 a0 = some a122 ∧ p_k P a122 = 103 ∧ vp_in x2 (p_n P a122) ∧ ((¬ (p_ai P a122 (Int32.toNatClampNeg x2)) = 0 → (wb_Mo_feed_94 po th K44 P a0 x1 x2 x2 a115)) ∧ ((p_ai P a122 (Int32.toNatClampNeg x2)) = 0 → (wb_Mo_feed_90 po th K44 P a0 x1 x2 x2 a115)))))))))))))))
def wl_Mo_feed_44 (po : Option Value → Pic → Prop) (th : String → Pic → Prop) : Nat → Pic → Nat → Int32 → Int32 → Prop
  | 0 => fun _ _ _ _ => False
  | n + 1 => wb_Mo_feed_44 po th (wl_Mo_feed_44 po th n)
def wb_Mo_feed_2 (po : Option Value → Pic → Prop) (th : String → Pic → Prop) (K2 : Pic → Nat → Int32 → Int32 → Prop) (P : Pic) (a0 : Nat) (x1 : Int32) (x2 : Int32) : Prop := (((28 : Int32) ≤ x2 → (∃ n, wl_Mo_feed_44 po th n P a0 x1 (0 : Int32))) ∧ (¬ (28 : Int32) ≤ x2 → (p_k P a0 = 13 ∧ ∃ a102, p_r P 490 a0 = some a102 ∧ (((p_i P 481 a0) ≤ x2 → (wb_Mo_feed_34 po th K2 P a0 x1 x2 x2 a102)) ∧ (¬ (p_i P 481 a0) ≤ x2 → (∃ a103, p_r P 484 a0 = some a103 ∧ p_k P a103 = 103 ∧ vp_in x2 (p_n P a103) ∧ (((p_ai P a103 (Int32.toNatClampNeg x2)) = 0 → (wb_Mo_feed_34 po th K2 P a0 x1 x2 x2 a102)) ∧ (¬ (p_ai P a103 (Int32.toNatClampNeg x2)) = 0 → (wb_Mo_feed_35 po th K2 P a0 x1 x2 (1 : Int32) x2 a102)))))))))
def wl_Mo_feed_2 (po : Option Value → Pic → Prop) (th : String → Pic → Prop) : Nat → Pic → Nat → Int32 → Int32 → Prop
  | 0 => fun _ _ _ _ => False
  | n + 1 => wb_Mo_feed_2 po th (wl_Mo_feed_2 po th n)
def wp_Mo_feed (po : Option Value → Pic → Prop) (th : String → Pic → Prop) (P : Pic) (a0 : Nat) (x1 : Int32) : Prop := ∃ n, wl_Mo_feed_2 po th n P a0 x1 (0 : Int32)
set_option maxHeartbeats 4000000 in
set_option maxRecDepth 100000 in
theorem wk_Mo_feed_35 {p : Program} {l : Launch} {e : Env} {s : State} {m : MethodId} {args : Array Value} {below : List Frame} {meth : Method} {c : Code} {D : pq_D} {P0 : Pic} {po : Option Value → Pic → Prop} {th : String → Pic → Prop} {K2 : Pic → Nat → Int32 → Int32 → Prop} (hfl : l.flags = flags0) (C : Cx p e s m args meth c prog_15_method_14_code 3 "WaterWorksModel" D P0) (hmg : e.platform.magicAccessors = ({} : Platform).magicAccessors) (hr : meth.sig.returnType = none) (hin : meth.name = "feed") (htab : c.exceptionTable.toList = tableOf []) (HK2 : ∀ (P : Pic) (a0 : Nat) (x1 : Int32) (x2 : Int32) (H : Heap) (locs : List Loc) (cells slots : Nat) (ls : Array Slot), K2 P a0 x1 x2 → Pi D P H → Sg (cq_A P0 s) s.heap H P locs → lv_has ls 3 [(0, .ref a0), (1, .int x1), (2, .int x2)] → cells + 0 ≤ 0 → slots + 0 ≤ 0 → W p l e rm_Mo_feed s m args below meth c H locs cells slots (mt_MQ below (cq_Q D P0 false po th) args s 0 0 (cq_free P0 false)) (F0 m 2 ls [])) : ∀ (P : Pic) (a0 : Nat) (x1 : Int32) (x2 : Int32) (t0 : Int32) (t1 : Int32) (t2 : Nat) (H : Heap) (locs : List Loc) (cells slots : Nat) (ls : Array Slot), wb_Mo_feed_35 po th K2 P a0 x1 x2 t0 t1 t2 → Pi D P H → Sg (cq_A P0 s) s.heap H P locs → lv_has ls 3 [(0, .ref a0), (1, .int x1), (2, .int x2)] → cells + 0 ≤ 0 → slots + 0 ≤ 0 → W p l e rm_Mo_feed s m args below meth c H locs cells slots (mt_MQ below (cq_Q D P0 false po th) args s 0 0 (cq_free P0 false)) (F0 m 35 ls [.int t0, .int t1, .ref t2]) := by
  intro P a0 x1 x2 t0 t1 t2 H locs cells slots ls h hP hS hl hcc hss
  obtain ⟨hx, hb, hml, hown, hlocks, htr, hT, hK, hSt, hN, hP0⟩ := id C
  have L17_12 : pq_fl s m args 17 12 6 := ⟨_, "WaterWorksModel", "WaterWorksModel", rfl, by decide, hown, Or.inl (hT _ k_1110 _), (fun _ z => z)⟩
  have L20_12 : pq_fl s m args 20 12 7 := ⟨_, "WaterWorksModel", "WaterWorksModel", rfl, by decide, hown, Or.inl (hT _ k_1111 _), (fun _ z => z)⟩
  have L29_12 : pq_fl s m args 29 12 10 := ⟨_, "WaterWorksModel", "WaterWorksModel", rfl, by decide, hown, Or.inl (hT _ k_1114 _), (fun _ z => z)⟩
  have L32_12 : pq_fl s m args 32 12 11 := ⟨_, "WaterWorksModel", "WaterWorksModel", rfl, by decide, hown, Or.inl (hT _ k_1115 _), (fun _ z => z)⟩
  have L38_12 : pq_fl s m args 38 12 13 := ⟨_, "WaterWorksModel", "WaterWorksModel", rfl, by decide, hown, Or.inl (hT _ k_1117 _), (fun _ z => z)⟩
  have L7_12 : pq_fl s m args 7 12 4 := ⟨_, "WaterWorksModel", "WaterWorksModel", rfl, by decide, hown, Or.inl (hT _ k_1108 _), (fun _ z => z)⟩
  have L85_12 : pq_fl s m args 85 12 1 := ⟨_, "WaterWorksModel", "WaterWorksModel", rfl, by decide, hown, Or.inl (hT _ k_1105 _), (fun _ z => z)⟩
  have L88_12 : pq_fl s m args 88 12 2 := ⟨_, "WaterWorksModel", "WaterWorksModel", rfl, by decide, hown, Or.inl (hT _ k_1106 _), (fun _ z => z)⟩
  unfold wb_Mo_feed_35 at h
  obtain ⟨hk109, h⟩ := h
  obtain ⟨hi110, h⟩ := h
  obtain ⟨hz111, h⟩ := h
  refine pq_zast (pc := 35) hx hb hK hP hS hk109 hi110 hz111 d_Mo_feed_35 (fun H locs hP hS => ?_)
  have hk109 : p_k (s_ai P t2 (Int32.toNatClampNeg t1) t0) t2 = 103 := by rw [pk_ai]; exact hk109
  obtain ⟨x112, ex112⟩ : ∃ z : Int32, z = x2 + 1 := ⟨_, rfl⟩
  replace h := h x112 ex112
  refine lv_iinc (pc := 36) (v := x112) (lv' := [(2, .int x112), (0, .ref a0), (1, .int x1)]) hx hb d_Mo_feed_36 hl (k := 2) rfl (by rw [ex112]; rfl) (by decide) rfl (fun ls hl => ?_)
  refine lv_goto (pc := 39) (tgt := 2) hx hb d_Mo_feed_39 (by decide) ?_
  exact HK2 _ a0 x1 x112 _ _ _ _ _ h hP hS (lv_sub hl [1, 2, 0] rfl) (show cells + 0 ≤ 0 by omega) (show slots + 0 ≤ 0 by omega)
set_option maxHeartbeats 4000000 in
set_option maxRecDepth 100000 in
theorem wk_Mo_feed_34 {p : Program} {l : Launch} {e : Env} {s : State} {m : MethodId} {args : Array Value} {below : List Frame} {meth : Method} {c : Code} {D : pq_D} {P0 : Pic} {po : Option Value → Pic → Prop} {th : String → Pic → Prop} {K2 : Pic → Nat → Int32 → Int32 → Prop} (hfl : l.flags = flags0) (C : Cx p e s m args meth c prog_15_method_14_code 3 "WaterWorksModel" D P0) (hmg : e.platform.magicAccessors = ({} : Platform).magicAccessors) (hr : meth.sig.returnType = none) (hin : meth.name = "feed") (htab : c.exceptionTable.toList = tableOf []) (HK2 : ∀ (P : Pic) (a0 : Nat) (x1 : Int32) (x2 : Int32) (H : Heap) (locs : List Loc) (cells slots : Nat) (ls : Array Slot), K2 P a0 x1 x2 → Pi D P H → Sg (cq_A P0 s) s.heap H P locs → lv_has ls 3 [(0, .ref a0), (1, .int x1), (2, .int x2)] → cells + 0 ≤ 0 → slots + 0 ≤ 0 → W p l e rm_Mo_feed s m args below meth c H locs cells slots (mt_MQ below (cq_Q D P0 false po th) args s 0 0 (cq_free P0 false)) (F0 m 2 ls [])) : ∀ (P : Pic) (a0 : Nat) (x1 : Int32) (x2 : Int32) (t0 : Int32) (t1 : Nat) (H : Heap) (locs : List Loc) (cells slots : Nat) (ls : Array Slot), wb_Mo_feed_34 po th K2 P a0 x1 x2 t0 t1 → Pi D P H → Sg (cq_A P0 s) s.heap H P locs → lv_has ls 3 [(0, .ref a0), (1, .int x1), (2, .int x2)] → cells + 0 ≤ 0 → slots + 0 ≤ 0 → W p l e rm_Mo_feed s m args below meth c H locs cells slots (mt_MQ below (cq_Q D P0 false po th) args s 0 0 (cq_free P0 false)) (F0 m 34 ls [.int t0, .ref t1]) := by
  intro P a0 x1 x2 t0 t1 H locs cells slots ls h hP hS hl hcc hss
  obtain ⟨hx, hb, hml, hown, hlocks, htr, hT, hK, hSt, hN, hP0⟩ := id C
  have L17_12 : pq_fl s m args 17 12 6 := ⟨_, "WaterWorksModel", "WaterWorksModel", rfl, by decide, hown, Or.inl (hT _ k_1110 _), (fun _ z => z)⟩
  have L20_12 : pq_fl s m args 20 12 7 := ⟨_, "WaterWorksModel", "WaterWorksModel", rfl, by decide, hown, Or.inl (hT _ k_1111 _), (fun _ z => z)⟩
  have L29_12 : pq_fl s m args 29 12 10 := ⟨_, "WaterWorksModel", "WaterWorksModel", rfl, by decide, hown, Or.inl (hT _ k_1114 _), (fun _ z => z)⟩
  have L32_12 : pq_fl s m args 32 12 11 := ⟨_, "WaterWorksModel", "WaterWorksModel", rfl, by decide, hown, Or.inl (hT _ k_1115 _), (fun _ z => z)⟩
  have L38_12 : pq_fl s m args 38 12 13 := ⟨_, "WaterWorksModel", "WaterWorksModel", rfl, by decide, hown, Or.inl (hT _ k_1117 _), (fun _ z => z)⟩
  have L7_12 : pq_fl s m args 7 12 4 := ⟨_, "WaterWorksModel", "WaterWorksModel", rfl, by decide, hown, Or.inl (hT _ k_1108 _), (fun _ z => z)⟩
  have L85_12 : pq_fl s m args 85 12 1 := ⟨_, "WaterWorksModel", "WaterWorksModel", rfl, by decide, hown, Or.inl (hT _ k_1105 _), (fun _ z => z)⟩
  have L88_12 : pq_fl s m args 88 12 2 := ⟨_, "WaterWorksModel", "WaterWorksModel", rfl, by decide, hown, Or.inl (hT _ k_1106 _), (fun _ z => z)⟩
  unfold wb_Mo_feed_34 at h
  refine lv_iconst (pc := 34) (v := 0) hx hb d_Mo_feed_34 (by decide) ?_
  exact wk_Mo_feed_35 hfl C hmg hr hin htab HK2 _ a0 x1 x2 (0 : Int32) t0 t1 _ _ _ _ _ h hP hS (lv_sub hl [0, 1, 2] rfl) (show cells + 0 ≤ 0 by omega) (show slots + 0 ≤ 0 by omega)
set_option maxHeartbeats 4000000 in
set_option maxRecDepth 100000 in
theorem wk_Mo_feed_95 {p : Program} {l : Launch} {e : Env} {s : State} {m : MethodId} {args : Array Value} {below : List Frame} {meth : Method} {c : Code} {D : pq_D} {P0 : Pic} {po : Option Value → Pic → Prop} {th : String → Pic → Prop} {K44 : Pic → Nat → Int32 → Int32 → Prop} (hfl : l.flags = flags0) (C : Cx p e s m args meth c prog_15_method_14_code 3 "WaterWorksModel" D P0) (hmg : e.platform.magicAccessors = ({} : Platform).magicAccessors) (hr : meth.sig.returnType = none) (hin : meth.name = "feed") (htab : c.exceptionTable.toList = tableOf []) (HK44 : ∀ (P : Pic) (a0 : Nat) (x1 : Int32) (x2 : Int32) (H : Heap) (locs : List Loc) (cells slots : Nat) (ls : Array Slot), K44 P a0 x1 x2 → Pi D P H → Sg (cq_A P0 s) s.heap H P locs → lv_has ls 3 [(0, .ref a0), (1, .int x1), (2, .int x2)] → cells + 0 ≤ 0 → slots + 0 ≤ 0 → W p l e rm_Mo_feed s m args below meth c H locs cells slots (mt_MQ below (cq_Q D P0 false po th) args s 0 0 (cq_free P0 false)) (F0 m 44 ls [])) : ∀ (P : Pic) (a0 : Nat) (x1 : Int32) (x2 : Int32) (t0 : Int32) (t1 : Int32) (t2 : Nat) (H : Heap) (locs : List Loc) (cells slots : Nat) (ls : Array Slot), wb_Mo_feed_95 po th K44 P a0 x1 x2 t0 t1 t2 → Pi D P H → Sg (cq_A P0 s) s.heap H P locs → lv_has ls 3 [(0, .ref a0), (1, .int x1), (2, .int x2)] → cells + 0 ≤ 0 → slots + 0 ≤ 0 → W p l e rm_Mo_feed s m args below meth c H locs cells slots (mt_MQ below (cq_Q D P0 false po th) args s 0 0 (cq_free P0 false)) (F0 m 95 ls [.int t0, .int t1, .ref t2]) := by
  intro P a0 x1 x2 t0 t1 t2 H locs cells slots ls h hP hS hl hcc hss
  obtain ⟨hx, hb, hml, hown, hlocks, htr, hT, hK, hSt, hN, hP0⟩ := id C
  have L17_12 : pq_fl s m args 17 12 6 := ⟨_, "WaterWorksModel", "WaterWorksModel", rfl, by decide, hown, Or.inl (hT _ k_1110 _), (fun _ z => z)⟩
  have L20_12 : pq_fl s m args 20 12 7 := ⟨_, "WaterWorksModel", "WaterWorksModel", rfl, by decide, hown, Or.inl (hT _ k_1111 _), (fun _ z => z)⟩
  have L29_12 : pq_fl s m args 29 12 10 := ⟨_, "WaterWorksModel", "WaterWorksModel", rfl, by decide, hown, Or.inl (hT _ k_1114 _), (fun _ z => z)⟩
  have L32_12 : pq_fl s m args 32 12 11 := ⟨_, "WaterWorksModel", "WaterWorksModel", rfl, by decide, hown, Or.inl (hT _ k_1115 _), (fun _ z => z)⟩
  have L38_12 : pq_fl s m args 38 12 13 := ⟨_, "WaterWorksModel", "WaterWorksModel", rfl, by decide, hown, Or.inl (hT _ k_1117 _), (fun _ z => z)⟩
  have L7_12 : pq_fl s m args 7 12 4 := ⟨_, "WaterWorksModel", "WaterWorksModel", rfl, by decide, hown, Or.inl (hT _ k_1108 _), (fun _ z => z)⟩
  have L85_12 : pq_fl s m args 85 12 1 := ⟨_, "WaterWorksModel", "WaterWorksModel", rfl, by decide, hown, Or.inl (hT _ k_1105 _), (fun _ z => z)⟩
  have L88_12 : pq_fl s m args 88 12 2 := ⟨_, "WaterWorksModel", "WaterWorksModel", rfl, by decide, hown, Or.inl (hT _ k_1106 _), (fun _ z => z)⟩
  unfold wb_Mo_feed_95 at h
  obtain ⟨hk130, h⟩ := h
  obtain ⟨hi131, h⟩ := h
  obtain ⟨hz132, h⟩ := h
  refine pq_zast (pc := 95) hx hb hK hP hS hk130 hi131 hz132 d_Mo_feed_95 (fun H locs hP hS => ?_)
  have hk130 : p_k (s_ai P t2 (Int32.toNatClampNeg t1) t0) t2 = 103 := by rw [pk_ai]; exact hk130
  obtain ⟨x133, ex133⟩ : ∃ z : Int32, z = x2 + 1 := ⟨_, rfl⟩
  replace h := h x133 ex133
  refine lv_iinc (pc := 96) (v := x133) (lv' := [(2, .int x133), (0, .ref a0), (1, .int x1)]) hx hb d_Mo_feed_96 hl (k := 2) rfl (by rw [ex133]; rfl) (by decide) rfl (fun ls hl => ?_)
  refine lv_goto (pc := 99) (tgt := 44) hx hb d_Mo_feed_99 (by decide) ?_
  exact HK44 _ a0 x1 x133 _ _ _ _ _ h hP hS (lv_sub hl [1, 2, 0] rfl) (show cells + 0 ≤ 0 by omega) (show slots + 0 ≤ 0 by omega)
set_option maxHeartbeats 4000000 in
set_option maxRecDepth 100000 in
theorem wk_Mo_feed_90 {p : Program} {l : Launch} {e : Env} {s : State} {m : MethodId} {args : Array Value} {below : List Frame} {meth : Method} {c : Code} {D : pq_D} {P0 : Pic} {po : Option Value → Pic → Prop} {th : String → Pic → Prop} {K44 : Pic → Nat → Int32 → Int32 → Prop} (hfl : l.flags = flags0) (C : Cx p e s m args meth c prog_15_method_14_code 3 "WaterWorksModel" D P0) (hmg : e.platform.magicAccessors = ({} : Platform).magicAccessors) (hr : meth.sig.returnType = none) (hin : meth.name = "feed") (htab : c.exceptionTable.toList = tableOf []) (HK44 : ∀ (P : Pic) (a0 : Nat) (x1 : Int32) (x2 : Int32) (H : Heap) (locs : List Loc) (cells slots : Nat) (ls : Array Slot), K44 P a0 x1 x2 → Pi D P H → Sg (cq_A P0 s) s.heap H P locs → lv_has ls 3 [(0, .ref a0), (1, .int x1), (2, .int x2)] → cells + 0 ≤ 0 → slots + 0 ≤ 0 → W p l e rm_Mo_feed s m args below meth c H locs cells slots (mt_MQ below (cq_Q D P0 false po th) args s 0 0 (cq_free P0 false)) (F0 m 44 ls [])) : ∀ (P : Pic) (a0 : Nat) (x1 : Int32) (x2 : Int32) (t0 : Int32) (t1 : Nat) (H : Heap) (locs : List Loc) (cells slots : Nat) (ls : Array Slot), wb_Mo_feed_90 po th K44 P a0 x1 x2 t0 t1 → Pi D P H → Sg (cq_A P0 s) s.heap H P locs → lv_has ls 3 [(0, .ref a0), (1, .int x1), (2, .int x2)] → cells + 0 ≤ 0 → slots + 0 ≤ 0 → W p l e rm_Mo_feed s m args below meth c H locs cells slots (mt_MQ below (cq_Q D P0 false po th) args s 0 0 (cq_free P0 false)) (F0 m 90 ls [.int t0, .ref t1]) := by
  intro P a0 x1 x2 t0 t1 H locs cells slots ls h hP hS hl hcc hss
  obtain ⟨hx, hb, hml, hown, hlocks, htr, hT, hK, hSt, hN, hP0⟩ := id C
  have L17_12 : pq_fl s m args 17 12 6 := ⟨_, "WaterWorksModel", "WaterWorksModel", rfl, by decide, hown, Or.inl (hT _ k_1110 _), (fun _ z => z)⟩
  have L20_12 : pq_fl s m args 20 12 7 := ⟨_, "WaterWorksModel", "WaterWorksModel", rfl, by decide, hown, Or.inl (hT _ k_1111 _), (fun _ z => z)⟩
  have L29_12 : pq_fl s m args 29 12 10 := ⟨_, "WaterWorksModel", "WaterWorksModel", rfl, by decide, hown, Or.inl (hT _ k_1114 _), (fun _ z => z)⟩
  have L32_12 : pq_fl s m args 32 12 11 := ⟨_, "WaterWorksModel", "WaterWorksModel", rfl, by decide, hown, Or.inl (hT _ k_1115 _), (fun _ z => z)⟩
  have L38_12 : pq_fl s m args 38 12 13 := ⟨_, "WaterWorksModel", "WaterWorksModel", rfl, by decide, hown, Or.inl (hT _ k_1117 _), (fun _ z => z)⟩
  have L7_12 : pq_fl s m args 7 12 4 := ⟨_, "WaterWorksModel", "WaterWorksModel", rfl, by decide, hown, Or.inl (hT _ k_1108 _), (fun _ z => z)⟩
  have L85_12 : pq_fl s m args 85 12 1 := ⟨_, "WaterWorksModel", "WaterWorksModel", rfl, by decide, hown, Or.inl (hT _ k_1105 _), (fun _ z => z)⟩
  have L88_12 : pq_fl s m args 88 12 2 := ⟨_, "WaterWorksModel", "WaterWorksModel", rfl, by decide, hown, Or.inl (hT _ k_1106 _), (fun _ z => z)⟩
  unfold wb_Mo_feed_90 at h
  refine lv_iconst (pc := 90) (v := 1) hx hb d_Mo_feed_90 (by decide) ?_
  refine lv_goto (pc := 91) (tgt := 95) hx hb d_Mo_feed_91 (by decide) ?_
  exact wk_Mo_feed_95 hfl C hmg hr hin htab HK44 _ a0 x1 x2 (1 : Int32) t0 t1 _ _ _ _ _ h hP hS (lv_sub hl [0, 1, 2] rfl) (show cells + 0 ≤ 0 by omega) (show slots + 0 ≤ 0 by omega)
set_option maxHeartbeats 4000000 in
set_option maxRecDepth 100000 in
theorem wk_Mo_feed_94 {p : Program} {l : Launch} {e : Env} {s : State} {m : MethodId} {args : Array Value} {below : List Frame} {meth : Method} {c : Code} {D : pq_D} {P0 : Pic} {po : Option Value → Pic → Prop} {th : String → Pic → Prop} {K44 : Pic → Nat → Int32 → Int32 → Prop} (hfl : l.flags = flags0) (C : Cx p e s m args meth c prog_15_method_14_code 3 "WaterWorksModel" D P0) (hmg : e.platform.magicAccessors = ({} : Platform).magicAccessors) (hr : meth.sig.returnType = none) (hin : meth.name = "feed") (htab : c.exceptionTable.toList = tableOf []) (HK44 : ∀ (P : Pic) (a0 : Nat) (x1 : Int32) (x2 : Int32) (H : Heap) (locs : List Loc) (cells slots : Nat) (ls : Array Slot), K44 P a0 x1 x2 → Pi D P H → Sg (cq_A P0 s) s.heap H P locs → lv_has ls 3 [(0, .ref a0), (1, .int x1), (2, .int x2)] → cells + 0 ≤ 0 → slots + 0 ≤ 0 → W p l e rm_Mo_feed s m args below meth c H locs cells slots (mt_MQ below (cq_Q D P0 false po th) args s 0 0 (cq_free P0 false)) (F0 m 44 ls [])) : ∀ (P : Pic) (a0 : Nat) (x1 : Int32) (x2 : Int32) (t0 : Int32) (t1 : Nat) (H : Heap) (locs : List Loc) (cells slots : Nat) (ls : Array Slot), wb_Mo_feed_94 po th K44 P a0 x1 x2 t0 t1 → Pi D P H → Sg (cq_A P0 s) s.heap H P locs → lv_has ls 3 [(0, .ref a0), (1, .int x1), (2, .int x2)] → cells + 0 ≤ 0 → slots + 0 ≤ 0 → W p l e rm_Mo_feed s m args below meth c H locs cells slots (mt_MQ below (cq_Q D P0 false po th) args s 0 0 (cq_free P0 false)) (F0 m 94 ls [.int t0, .ref t1]) := by
  intro P a0 x1 x2 t0 t1 H locs cells slots ls h hP hS hl hcc hss
  obtain ⟨hx, hb, hml, hown, hlocks, htr, hT, hK, hSt, hN, hP0⟩ := id C
  have L17_12 : pq_fl s m args 17 12 6 := ⟨_, "WaterWorksModel", "WaterWorksModel", rfl, by decide, hown, Or.inl (hT _ k_1110 _), (fun _ z => z)⟩
  have L20_12 : pq_fl s m args 20 12 7 := ⟨_, "WaterWorksModel", "WaterWorksModel", rfl, by decide, hown, Or.inl (hT _ k_1111 _), (fun _ z => z)⟩
  have L29_12 : pq_fl s m args 29 12 10 := ⟨_, "WaterWorksModel", "WaterWorksModel", rfl, by decide, hown, Or.inl (hT _ k_1114 _), (fun _ z => z)⟩
  have L32_12 : pq_fl s m args 32 12 11 := ⟨_, "WaterWorksModel", "WaterWorksModel", rfl, by decide, hown, Or.inl (hT _ k_1115 _), (fun _ z => z)⟩
  have L38_12 : pq_fl s m args 38 12 13 := ⟨_, "WaterWorksModel", "WaterWorksModel", rfl, by decide, hown, Or.inl (hT _ k_1117 _), (fun _ z => z)⟩
  have L7_12 : pq_fl s m args 7 12 4 := ⟨_, "WaterWorksModel", "WaterWorksModel", rfl, by decide, hown, Or.inl (hT _ k_1108 _), (fun _ z => z)⟩
  have L85_12 : pq_fl s m args 85 12 1 := ⟨_, "WaterWorksModel", "WaterWorksModel", rfl, by decide, hown, Or.inl (hT _ k_1105 _), (fun _ z => z)⟩
  have L88_12 : pq_fl s m args 88 12 2 := ⟨_, "WaterWorksModel", "WaterWorksModel", rfl, by decide, hown, Or.inl (hT _ k_1106 _), (fun _ z => z)⟩
  unfold wb_Mo_feed_94 at h
  refine lv_iconst (pc := 94) (v := 0) hx hb d_Mo_feed_94 (by decide) ?_
  exact wk_Mo_feed_95 hfl C hmg hr hin htab HK44 _ a0 x1 x2 (0 : Int32) t0 t1 _ _ _ _ _ h hP hS (lv_sub hl [0, 1, 2] rfl) (show cells + 0 ≤ 0 by omega) (show slots + 0 ≤ 0 by omega)
set_option maxHeartbeats 4000000 in
set_option maxRecDepth 100000 in
theorem wk_Mo_feed_44 {p : Program} {l : Launch} {e : Env} {s : State} {m : MethodId} {args : Array Value} {below : List Frame} {meth : Method} {c : Code} {D : pq_D} {P0 : Pic} {po : Option Value → Pic → Prop} {th : String → Pic → Prop} {K44 : Pic → Nat → Int32 → Int32 → Prop} (hfl : l.flags = flags0) (C : Cx p e s m args meth c prog_15_method_14_code 3 "WaterWorksModel" D P0) (hmg : e.platform.magicAccessors = ({} : Platform).magicAccessors) (hr : meth.sig.returnType = none) (hin : meth.name = "feed") (htab : c.exceptionTable.toList = tableOf []) (HK44 : ∀ (P : Pic) (a0 : Nat) (x1 : Int32) (x2 : Int32) (H : Heap) (locs : List Loc) (cells slots : Nat) (ls : Array Slot), K44 P a0 x1 x2 → Pi D P H → Sg (cq_A P0 s) s.heap H P locs → lv_has ls 3 [(0, .ref a0), (1, .int x1), (2, .int x2)] → cells + 0 ≤ 0 → slots + 0 ≤ 0 → W p l e rm_Mo_feed s m args below meth c H locs cells slots (mt_MQ below (cq_Q D P0 false po th) args s 0 0 (cq_free P0 false)) (F0 m 44 ls [])) : ∀ (P : Pic) (a0 : Nat) (x1 : Int32) (x2 : Int32) (H : Heap) (locs : List Loc) (cells slots : Nat) (ls : Array Slot), wb_Mo_feed_44 po th K44 P a0 x1 x2 → Pi D P H → Sg (cq_A P0 s) s.heap H P locs → lv_has ls 3 [(0, .ref a0), (1, .int x1), (2, .int x2)] → cells + 0 ≤ 0 → slots + 0 ≤ 0 → W p l e rm_Mo_feed s m args below meth c H locs cells slots (mt_MQ below (cq_Q D P0 false po th) args s 0 0 (cq_free P0 false)) (F0 m 44 ls []) := by
  intro P a0 x1 x2 H locs cells slots ls h hP hS hl hcc hss
  obtain ⟨hx, hb, hml, hown, hlocks, htr, hT, hK, hSt, hN, hP0⟩ := id C
  have L17_12 : pq_fl s m args 17 12 6 := ⟨_, "WaterWorksModel", "WaterWorksModel", rfl, by decide, hown, Or.inl (hT _ k_1110 _), (fun _ z => z)⟩
  have L20_12 : pq_fl s m args 20 12 7 := ⟨_, "WaterWorksModel", "WaterWorksModel", rfl, by decide, hown, Or.inl (hT _ k_1111 _), (fun _ z => z)⟩
  have L29_12 : pq_fl s m args 29 12 10 := ⟨_, "WaterWorksModel", "WaterWorksModel", rfl, by decide, hown, Or.inl (hT _ k_1114 _), (fun _ z => z)⟩
  have L32_12 : pq_fl s m args 32 12 11 := ⟨_, "WaterWorksModel", "WaterWorksModel", rfl, by decide, hown, Or.inl (hT _ k_1115 _), (fun _ z => z)⟩
  have L38_12 : pq_fl s m args 38 12 13 := ⟨_, "WaterWorksModel", "WaterWorksModel", rfl, by decide, hown, Or.inl (hT _ k_1117 _), (fun _ z => z)⟩
  have L7_12 : pq_fl s m args 7 12 4 := ⟨_, "WaterWorksModel", "WaterWorksModel", rfl, by decide, hown, Or.inl (hT _ k_1108 _), (fun _ z => z)⟩
  have L85_12 : pq_fl s m args 85 12 1 := ⟨_, "WaterWorksModel", "WaterWorksModel", rfl, by decide, hown, Or.inl (hT _ k_1105 _), (fun _ z => z)⟩
  have L88_12 : pq_fl s m args 88 12 2 := ⟨_, "WaterWorksModel", "WaterWorksModel", rfl, by decide, hown, Or.inl (hT _ k_1106 _), (fun _ z => z)⟩
  unfold wb_Mo_feed_44 at h
  refine lv_iload_n (pc := 44) hx hb d_Mo_feed_44 rfl (lv_at hl 2 rfl) ?_
  refine lv_iconst (pc := 45) (v := 2) hx hb d_Mo_feed_45 (by decide) ?_
  refine lv_aload_n (pc := 46) hx hb d_Mo_feed_46 rfl (lv_at hl 0 rfl) ?_
  obtain ⟨hk113, h⟩ := h
  refine pq_geti (pc := 47) (f := 482) hx hb hT hK hP L88_12 hk113 rfl d_Mo_feed_47 ?_
  refine lv_imul (pc := 50) hx hb d_Mo_feed_50 ?_
  refine lv_icmp_ge (pc := 51) (tgt := 102) hx hb d_Mo_feed_51 (by decide) (fun c129 => ?_) (fun c129 => ?_)
  · replace h := h.1 c129
    refine lv_aload_n (pc := 102) hx hb d_Mo_feed_102 rfl (lv_at hl 0 rfl) ?_
    refine cc_v (pc := 103) C (rest := []) (mt_invV (As := []) hx hb hown (hT _ k_1247 _) (hT _ k_1249 _) (hT _ ks_22 _) (mt_Cd.code (hT _ k_1250 #[])) h_Mo_spread (pq_recv hK hP hk113 rfl) n_Mo_spread rfl d_Mo_feed_103) (ct_Mo_spread hfl D h) k_1250 k_24 ⟨Nat.le_of_ble_eq_true rfl, Nat.le_of_ble_eq_true rfl⟩ ⟨(show cells + 0 ≤ 0 by omega), (show slots + 0 ≤ 0 by omega)⟩ hl.1 d_Mo_feed_103 (Nat.le_of_ble_eq_true rfl) hP hS (fun P114 H locs h hP hS => ?_) (fun xx X P114 H locs h hX hex hP hS => ?_)
    · exact we_v (pc := 106) hx hb hlocks hr hP hS (show cells + 0 + 0 ≤ 0 by omega) (show slots + 0 + 0 ≤ 0 by omega) h d_Mo_feed_106
    · exact cq_out hlocks (pq_nil htab rfl) (show cells + 0 + 0 ≤ 0 by omega) (show slots + 0 + 0 ≤ 0 by omega) hX hex hP hS h
  · replace h := h.2 c129
    refine lv_aload_n (pc := 54) hx hb d_Mo_feed_54 rfl (lv_at hl 0 rfl) ?_
    obtain ⟨a115, ea115, h⟩ := h
    refine pq_geta (pc := 55) (f := 491) hx hb hT hK hP L32_12 hk113 rfl ea115 d_Mo_feed_55 ?_
    refine lv_iload_n (pc := 58) hx hb d_Mo_feed_58 rfl (lv_at hl 2 rfl) ?_
    refine lv_aload_n (pc := 59) hx hb d_Mo_feed_59 rfl (lv_at hl 0 rfl) ?_
    obtain ⟨a116, ea116, h⟩ := h
    refine pq_geta (pc := 60) (f := 486) hx hb hT hK hP L17_12 hk113 rfl ea116 d_Mo_feed_60 ?_
    refine lv_iload_n (pc := 63) hx hb d_Mo_feed_63 rfl (lv_at hl 2 rfl) ?_
    obtain ⟨hk117, h⟩ := h
    obtain ⟨hi118, h⟩ := h
    refine pq_zald (pc := 64) hx hb hK hP hk117 hi118 d_Mo_feed_64 ?_
    refine lv_if_eq (pc := 65) (tgt := 90) hx hb d_Mo_feed_65 (by decide) (fun c128 => ?_) (fun c128 => ?_)
    · replace h := h.1 c128
      exact wk_Mo_feed_90 hfl C hmg hr hin htab HK44 _ a0 x1 x2 x2 a115 _ _ _ _ _ h hP hS (lv_sub hl [0, 1, 2] rfl) (show cells + 0 ≤ 0 by omega) (show slots + 0 ≤ 0 by omega)
    · replace h := h.2 c128
      refine lv_aload_n (pc := 68) hx hb d_Mo_feed_68 rfl (lv_at hl 0 rfl) ?_
      obtain ⟨a119, ea119, h⟩ := h
      refine pq_geta (pc := 69) (f := 487) hx hb hT hK hP L20_12 hk113 rfl ea119 d_Mo_feed_69 ?_
      refine lv_iload_n (pc := 72) hx hb d_Mo_feed_72 rfl (lv_at hl 2 rfl) ?_
      obtain ⟨hk120, h⟩ := h
      obtain ⟨hi121, h⟩ := h
      refine pq_zald (pc := 73) hx hb hK hP hk120 hi121 d_Mo_feed_73 ?_
      refine lv_if_eq (pc := 74) (tgt := 94) hx hb d_Mo_feed_74 (by decide) (fun c127 => ?_) (fun c127 => ?_)
      · replace h := h.1 c127
        exact wk_Mo_feed_94 hfl C hmg hr hin htab HK44 _ a0 x1 x2 x2 a115 _ _ _ _ _ h hP hS (lv_sub hl [0, 1, 2] rfl) (show cells + 0 ≤ 0 by omega) (show slots + 0 ≤ 0 by omega)
      · replace h := h.2 c127
        refine lv_iload_n (pc := 77) hx hb d_Mo_feed_77 rfl (lv_at hl 1 rfl) ?_
        refine lv_if_eq (pc := 78) (tgt := 90) hx hb d_Mo_feed_78 (by decide) (fun c126 => ?_) (fun c126 => ?_)
        · replace h := h.1 c126
          exact wk_Mo_feed_90 hfl C hmg hr hin htab HK44 _ a0 x1 x2 x2 a115 _ _ _ _ _ h hP hS (lv_sub hl [0, 1, 2] rfl) (show cells + 0 ≤ 0 by omega) (show slots + 0 ≤ 0 by omega)
        · replace h := h.2 c126
          refine lv_aload_n (pc := 81) hx hb d_Mo_feed_81 rfl (lv_at hl 0 rfl) ?_
          obtain ⟨a122, ea122, h⟩ := h
          refine pq_geta (pc := 82) (f := 493) hx hb hT hK hP L38_12 hk113 rfl ea122 d_Mo_feed_82 ?_
          refine lv_iload_n (pc := 85) hx hb d_Mo_feed_85 rfl (lv_at hl 2 rfl) ?_
          obtain ⟨hk123, h⟩ := h
          obtain ⟨hi124, h⟩ := h
          refine pq_zald (pc := 86) hx hb hK hP hk123 hi124 d_Mo_feed_86 ?_
          refine lv_if_ne (pc := 87) (tgt := 94) hx hb d_Mo_feed_87 (by decide) (fun c125 => ?_) (fun c125 => ?_)
          · replace h := h.1 c125
            exact wk_Mo_feed_94 hfl C hmg hr hin htab HK44 _ a0 x1 x2 x2 a115 _ _ _ _ _ h hP hS (lv_sub hl [0, 1, 2] rfl) (show cells + 0 ≤ 0 by omega) (show slots + 0 ≤ 0 by omega)
          · replace h := h.2 c125
            exact wk_Mo_feed_90 hfl C hmg hr hin htab HK44 _ a0 x1 x2 x2 a115 _ _ _ _ _ h hP hS (lv_sub hl [0, 1, 2] rfl) (show cells + 0 ≤ 0 by omega) (show slots + 0 ≤ 0 by omega)
theorem wm_Mo_feed_44 {p : Program} {l : Launch} {e : Env} {s : State} {m : MethodId} {args : Array Value} {below : List Frame} {meth : Method} {c : Code} {D : pq_D} {P0 : Pic} {po : Option Value → Pic → Prop} {th : String → Pic → Prop} (hfl : l.flags = flags0) (C : Cx p e s m args meth c prog_15_method_14_code 3 "WaterWorksModel" D P0) (hmg : e.platform.magicAccessors = ({} : Platform).magicAccessors) (hr : meth.sig.returnType = none) (hin : meth.name = "feed") (htab : c.exceptionTable.toList = tableOf []) : ∀ n : Nat, ∀ (P : Pic) (a0 : Nat) (x1 : Int32) (x2 : Int32) (H : Heap) (locs : List Loc) (cells slots : Nat) (ls : Array Slot), wl_Mo_feed_44 po th n P a0 x1 x2 → Pi D P H → Sg (cq_A P0 s) s.heap H P locs → lv_has ls 3 [(0, .ref a0), (1, .int x1), (2, .int x2)] → cells + 0 ≤ 0 → slots + 0 ≤ 0 → W p l e rm_Mo_feed s m args below meth c H locs cells slots (mt_MQ below (cq_Q D P0 false po th) args s 0 0 (cq_free P0 false)) (F0 m 44 ls []) := by
  intro n
  induction n with
  | zero => intro P a0 x1 x2 H locs cells slots ls h; exact h.elim
  | succ n ih => exact wk_Mo_feed_44 hfl C hmg hr hin htab ih
set_option maxHeartbeats 4000000 in
set_option maxRecDepth 100000 in
theorem wk_Mo_feed_2 {p : Program} {l : Launch} {e : Env} {s : State} {m : MethodId} {args : Array Value} {below : List Frame} {meth : Method} {c : Code} {D : pq_D} {P0 : Pic} {po : Option Value → Pic → Prop} {th : String → Pic → Prop} {K2 : Pic → Nat → Int32 → Int32 → Prop} (hfl : l.flags = flags0) (C : Cx p e s m args meth c prog_15_method_14_code 3 "WaterWorksModel" D P0) (hmg : e.platform.magicAccessors = ({} : Platform).magicAccessors) (hr : meth.sig.returnType = none) (hin : meth.name = "feed") (htab : c.exceptionTable.toList = tableOf []) (HK2 : ∀ (P : Pic) (a0 : Nat) (x1 : Int32) (x2 : Int32) (H : Heap) (locs : List Loc) (cells slots : Nat) (ls : Array Slot), K2 P a0 x1 x2 → Pi D P H → Sg (cq_A P0 s) s.heap H P locs → lv_has ls 3 [(0, .ref a0), (1, .int x1), (2, .int x2)] → cells + 0 ≤ 0 → slots + 0 ≤ 0 → W p l e rm_Mo_feed s m args below meth c H locs cells slots (mt_MQ below (cq_Q D P0 false po th) args s 0 0 (cq_free P0 false)) (F0 m 2 ls [])) : ∀ (P : Pic) (a0 : Nat) (x1 : Int32) (x2 : Int32) (H : Heap) (locs : List Loc) (cells slots : Nat) (ls : Array Slot), wb_Mo_feed_2 po th K2 P a0 x1 x2 → Pi D P H → Sg (cq_A P0 s) s.heap H P locs → lv_has ls 3 [(0, .ref a0), (1, .int x1), (2, .int x2)] → cells + 0 ≤ 0 → slots + 0 ≤ 0 → W p l e rm_Mo_feed s m args below meth c H locs cells slots (mt_MQ below (cq_Q D P0 false po th) args s 0 0 (cq_free P0 false)) (F0 m 2 ls []) := by
  intro P a0 x1 x2 H locs cells slots ls h hP hS hl hcc hss
  obtain ⟨hx, hb, hml, hown, hlocks, htr, hT, hK, hSt, hN, hP0⟩ := id C
  have L17_12 : pq_fl s m args 17 12 6 := ⟨_, "WaterWorksModel", "WaterWorksModel", rfl, by decide, hown, Or.inl (hT _ k_1110 _), (fun _ z => z)⟩
  have L20_12 : pq_fl s m args 20 12 7 := ⟨_, "WaterWorksModel", "WaterWorksModel", rfl, by decide, hown, Or.inl (hT _ k_1111 _), (fun _ z => z)⟩
  have L29_12 : pq_fl s m args 29 12 10 := ⟨_, "WaterWorksModel", "WaterWorksModel", rfl, by decide, hown, Or.inl (hT _ k_1114 _), (fun _ z => z)⟩
  have L32_12 : pq_fl s m args 32 12 11 := ⟨_, "WaterWorksModel", "WaterWorksModel", rfl, by decide, hown, Or.inl (hT _ k_1115 _), (fun _ z => z)⟩
  have L38_12 : pq_fl s m args 38 12 13 := ⟨_, "WaterWorksModel", "WaterWorksModel", rfl, by decide, hown, Or.inl (hT _ k_1117 _), (fun _ z => z)⟩
  have L7_12 : pq_fl s m args 7 12 4 := ⟨_, "WaterWorksModel", "WaterWorksModel", rfl, by decide, hown, Or.inl (hT _ k_1108 _), (fun _ z => z)⟩
  have L85_12 : pq_fl s m args 85 12 1 := ⟨_, "WaterWorksModel", "WaterWorksModel", rfl, by decide, hown, Or.inl (hT _ k_1105 _), (fun _ z => z)⟩
  have L88_12 : pq_fl s m args 88 12 2 := ⟨_, "WaterWorksModel", "WaterWorksModel", rfl, by decide, hown, Or.inl (hT _ k_1106 _), (fun _ z => z)⟩
  unfold wb_Mo_feed_2 at h
  refine lv_iload_n (pc := 2) hx hb d_Mo_feed_2 rfl (lv_at hl 2 rfl) ?_
  refine lv_bipush (pc := 3) (v := 28) hx hb d_Mo_feed_3 (by decide) ?_
  refine lv_icmp_ge (pc := 5) (tgt := 42) hx hb d_Mo_feed_5 (by decide) (fun c108 => ?_) (fun c108 => ?_)
  · replace h := h.1 c108
    refine lv_iconst (pc := 42) (v := 0) hx hb d_Mo_feed_42 (by decide) ?_
    refine lv_istore_n (pc := 43) (lv' := [(2, .int (0 : Int32)), (0, .ref a0), (1, .int x1)]) hx hb d_Mo_feed_43 rfl hl (by decide) rfl (fun ls hl => ?_)
    obtain ⟨n, h⟩ := h
    exact wm_Mo_feed_44 hfl C hmg hr hin htab n _ a0 x1 (0 : Int32) _ _ _ _ _ h hP hS (lv_sub hl [1, 2, 0] rfl) (show cells + 0 ≤ 0 by omega) (show slots + 0 ≤ 0 by omega)
  · replace h := h.2 c108
    refine lv_aload_n (pc := 8) hx hb d_Mo_feed_8 rfl (lv_at hl 0 rfl) ?_
    obtain ⟨hk101, h⟩ := h
    obtain ⟨a102, ea102, h⟩ := h
    refine pq_geta (pc := 9) (f := 490) hx hb hT hK hP L29_12 hk101 rfl ea102 d_Mo_feed_9 ?_
    refine lv_iload_n (pc := 12) hx hb d_Mo_feed_12 rfl (lv_at hl 2 rfl) ?_
    refine lv_iload_n (pc := 13) hx hb d_Mo_feed_13 rfl (lv_at hl 2 rfl) ?_
    refine lv_aload_n (pc := 14) hx hb d_Mo_feed_14 rfl (lv_at hl 0 rfl) ?_
    refine pq_geti (pc := 15) (f := 481) hx hb hT hK hP L85_12 hk101 rfl d_Mo_feed_15 ?_
    refine lv_icmp_ge (pc := 18) (tgt := 34) hx hb d_Mo_feed_18 (by decide) (fun c107 => ?_) (fun c107 => ?_)
    · replace h := h.1 c107
      exact wk_Mo_feed_34 hfl C hmg hr hin htab HK2 _ a0 x1 x2 x2 a102 _ _ _ _ _ h hP hS (lv_sub hl [0, 1, 2] rfl) (show cells + 0 ≤ 0 by omega) (show slots + 0 ≤ 0 by omega)
    · replace h := h.2 c107
      refine lv_aload_n (pc := 21) hx hb d_Mo_feed_21 rfl (lv_at hl 0 rfl) ?_
      obtain ⟨a103, ea103, h⟩ := h
      refine pq_geta (pc := 22) (f := 484) hx hb hT hK hP L7_12 hk101 rfl ea103 d_Mo_feed_22 ?_
      refine lv_iload_n (pc := 25) hx hb d_Mo_feed_25 rfl (lv_at hl 2 rfl) ?_
      obtain ⟨hk104, h⟩ := h
      obtain ⟨hi105, h⟩ := h
      refine pq_zald (pc := 26) hx hb hK hP hk104 hi105 d_Mo_feed_26 ?_
      refine lv_if_eq (pc := 27) (tgt := 34) hx hb d_Mo_feed_27 (by decide) (fun c106 => ?_) (fun c106 => ?_)
      · replace h := h.1 c106
        exact wk_Mo_feed_34 hfl C hmg hr hin htab HK2 _ a0 x1 x2 x2 a102 _ _ _ _ _ h hP hS (lv_sub hl [0, 1, 2] rfl) (show cells + 0 ≤ 0 by omega) (show slots + 0 ≤ 0 by omega)
      · replace h := h.2 c106
        refine lv_iconst (pc := 30) (v := 1) hx hb d_Mo_feed_30 (by decide) ?_
        refine lv_goto (pc := 31) (tgt := 35) hx hb d_Mo_feed_31 (by decide) ?_
        exact wk_Mo_feed_35 hfl C hmg hr hin htab HK2 _ a0 x1 x2 (1 : Int32) x2 a102 _ _ _ _ _ h hP hS (lv_sub hl [0, 1, 2] rfl) (show cells + 0 ≤ 0 by omega) (show slots + 0 ≤ 0 by omega)
theorem wm_Mo_feed_2 {p : Program} {l : Launch} {e : Env} {s : State} {m : MethodId} {args : Array Value} {below : List Frame} {meth : Method} {c : Code} {D : pq_D} {P0 : Pic} {po : Option Value → Pic → Prop} {th : String → Pic → Prop} (hfl : l.flags = flags0) (C : Cx p e s m args meth c prog_15_method_14_code 3 "WaterWorksModel" D P0) (hmg : e.platform.magicAccessors = ({} : Platform).magicAccessors) (hr : meth.sig.returnType = none) (hin : meth.name = "feed") (htab : c.exceptionTable.toList = tableOf []) : ∀ n : Nat, ∀ (P : Pic) (a0 : Nat) (x1 : Int32) (x2 : Int32) (H : Heap) (locs : List Loc) (cells slots : Nat) (ls : Array Slot), wl_Mo_feed_2 po th n P a0 x1 x2 → Pi D P H → Sg (cq_A P0 s) s.heap H P locs → lv_has ls 3 [(0, .ref a0), (1, .int x1), (2, .int x2)] → cells + 0 ≤ 0 → slots + 0 ≤ 0 → W p l e rm_Mo_feed s m args below meth c H locs cells slots (mt_MQ below (cq_Q D P0 false po th) args s 0 0 (cq_free P0 false)) (F0 m 2 ls []) := by
  intro n
  induction n with
  | zero => intro P a0 x1 x2 H locs cells slots ls h; exact h.elim
  | succ n ih => exact wk_Mo_feed_2 hfl C hmg hr hin htab ih
set_option maxHeartbeats 4000000 in
set_option maxRecDepth 100000 in
theorem ct_Mo_feed {l : Launch} (hfl : l.flags = flags0) (D : pq_D) {po : Option Value → Pic → Prop} {th : String → Pic → Prop} {P : Pic} {a0 : Nat} {x1 : Int32} (h : wp_Mo_feed po th P a0 x1) : CT l D y_Mo_feed (.code y_Mo_feed prog_15_method_14_code 3 none) rm_Mo_feed false [.ref a0, .int x1] P po th := by
  refine ct_of (hs := []) hfl (by decide +kernel) (Or.inl ⟨rfl, rfl⟩) (Nat.le_of_ble_eq_true rfl) ?_
  intro p e s m below meth c C hmg hr hin htab ls hl
  have hl : lv_has ls 3 [(0, .ref a0), (1, .int x1)] := hl
  generalize hargs : ([.ref a0, .int x1] : List Value).toArray = args at C ⊢
  obtain ⟨hx, hb, hml, hown, hlocks, htr, hT, hK, hSt, hN, hP0⟩ := id C
  have L17_12 : pq_fl s m args 17 12 6 := ⟨_, "WaterWorksModel", "WaterWorksModel", rfl, by decide, hown, Or.inl (hT _ k_1110 _), (fun _ z => z)⟩
  have L20_12 : pq_fl s m args 20 12 7 := ⟨_, "WaterWorksModel", "WaterWorksModel", rfl, by decide, hown, Or.inl (hT _ k_1111 _), (fun _ z => z)⟩
  have L29_12 : pq_fl s m args 29 12 10 := ⟨_, "WaterWorksModel", "WaterWorksModel", rfl, by decide, hown, Or.inl (hT _ k_1114 _), (fun _ z => z)⟩
  have L32_12 : pq_fl s m args 32 12 11 := ⟨_, "WaterWorksModel", "WaterWorksModel", rfl, by decide, hown, Or.inl (hT _ k_1115 _), (fun _ z => z)⟩
  have L38_12 : pq_fl s m args 38 12 13 := ⟨_, "WaterWorksModel", "WaterWorksModel", rfl, by decide, hown, Or.inl (hT _ k_1117 _), (fun _ z => z)⟩
  have L7_12 : pq_fl s m args 7 12 4 := ⟨_, "WaterWorksModel", "WaterWorksModel", rfl, by decide, hown, Or.inl (hT _ k_1108 _), (fun _ z => z)⟩
  have L85_12 : pq_fl s m args 85 12 1 := ⟨_, "WaterWorksModel", "WaterWorksModel", rfl, by decide, hown, Or.inl (hT _ k_1105 _), (fun _ z => z)⟩
  have L88_12 : pq_fl s m args 88 12 2 := ⟨_, "WaterWorksModel", "WaterWorksModel", rfl, by decide, hown, Or.inl (hT _ k_1106 _), (fun _ z => z)⟩
  have hP : Pi D P s.heap := hP0
  have hS : Sg (cq_A P s) s.heap s.heap P [] := Sg.start hP0
  unfold wp_Mo_feed at h
  refine lv_iconst (pc := 0) (v := 0) hx hb d_Mo_feed_0 (by decide) ?_
  refine lv_istore_n (pc := 1) (lv' := [(2, .int (0 : Int32)), (0, .ref a0), (1, .int x1)]) hx hb d_Mo_feed_1 rfl hl (by decide) rfl (fun ls hl => ?_)
  obtain ⟨n, h⟩ := h
  exact wm_Mo_feed_2 hfl C hmg hr hin htab n _ a0 x1 (0 : Int32) _ _ _ _ _ h hP hS (lv_sub hl [1, 2, 0] rfl) (show 0 + 0 ≤ 0 by omega) (show 0 + 0 ≤ 0 by omega)
/-! WaterWorksModel.fed(I)Z -/
abbrev y_Mo_fed : MethodName := ⟨"WaterWorksModel", "fed", "(I)Z"⟩
abbrev rm_Mo_fed : Room := { frames := 3, cells := 0, slots := 0, locals := 85 }
theorem h_Mo_fed : y_Mo_fed.cls ≠ "java/lang/invoke/MethodHandle" ∧ y_Mo_fed.cls ≠ "java/lang/invoke/VarHandle" := by decide +kernel
theorem n_Mo_fed : (parseMethodDescriptor y_Mo_fed.desc).map (fun d => d.parameters.length) = some 1 := by decide +kernel
theorem d_Mo_fed_0 : decode prog_15_method_15_code 0 = .ok (.aload_n 0, 1) := by decide +kernel
theorem d_Mo_fed_1 : decode prog_15_method_15_code 1 = .ok (.aload_n 0, 1) := by decide +kernel
theorem d_Mo_fed_2 : decode prog_15_method_15_code 2 = .ok (.iload_n 1, 1) := by decide +kernel
theorem d_Mo_fed_3 : decode prog_15_method_15_code 3 = .ok (.invokevirtual 108, 3) := by decide +kernel
theorem d_Mo_fed_6 : decode prog_15_method_15_code 6 = .ok (.ifCond .eq 7, 3) := by decide +kernel
theorem d_Mo_fed_9 : decode prog_15_method_15_code 9 = .ok (.iconst 1, 1) := by decide +kernel
theorem d_Mo_fed_10 : decode prog_15_method_15_code 10 = .ok (.goto 4, 3) := by decide +kernel
theorem d_Mo_fed_13 : decode prog_15_method_15_code 13 = .ok (.iconst 0, 1) := by decide +kernel
theorem d_Mo_fed_14 : decode prog_15_method_15_code 14 = .ok (.putfield 81, 3) := by decide +kernel
theorem d_Mo_fed_17 : decode prog_15_method_15_code 17 = .ok (.aload_n 0, 1) := by decide +kernel
theorem d_Mo_fed_18 : decode prog_15_method_15_code 18 = .ok (.getfield 81, 3) := by decide +kernel
theorem d_Mo_fed_21 : decode prog_15_method_15_code 21 = .ok (.ifCond .le 5, 3) := by decide +kernel
theorem d_Mo_fed_24 : decode prog_15_method_15_code 24 = .ok (.iconst 0, 1) := by decide +kernel
theorem d_Mo_fed_25 : decode prog_15_method_15_code 25 = .ok (.ireturn, 1) := by decide +kernel
theorem d_Mo_fed_26 : decode prog_15_method_15_code 26 = .ok (.aload_n 0, 1) := by decide +kernel
theorem d_Mo_fed_27 : decode prog_15_method_15_code 27 = .ok (.iconst 0, 1) := by decide +kernel
theorem d_Mo_fed_28 : decode prog_15_method_15_code 28 = .ok (.invokevirtual 111, 3) := by decide +kernel
theorem d_Mo_fed_31 : decode prog_15_method_15_code 31 = .ok (.aload_n 0, 1) := by decide +kernel
theorem d_Mo_fed_32 : decode prog_15_method_15_code 32 = .ok (.getfield 29, 3) := by decide +kernel
theorem d_Mo_fed_35 : decode prog_15_method_15_code 35 = .ok (.aload_n 0, 1) := by decide +kernel
theorem d_Mo_fed_36 : decode prog_15_method_15_code 36 = .ok (.getfield 26, 3) := by decide +kernel
theorem d_Mo_fed_39 : decode prog_15_method_15_code 39 = .ok (.iload_n 1, 1) := by decide +kernel
theorem d_Mo_fed_40 : decode prog_15_method_15_code 40 = .ok (.iaload, 1) := by decide +kernel
theorem d_Mo_fed_41 : decode prog_15_method_15_code 41 = .ok (.baload, 1) := by decide +kernel
theorem d_Mo_fed_42 : decode prog_15_method_15_code 42 = .ok (.ireturn, 1) := by decide +kernel
def wb_Mo_fed_14 (po : Option Value → Pic → Prop) (th : String → Pic → Prop) (P : Pic) (a0 : Nat) (x1 : Int32) (t0 : Int32) (t1 : Nat) : Prop := p_k P t1 = 13 ∧ p_k (s_i P 480 t1 t0) a0 = 13 ∧ (((p_i (s_i P 480 t1 t0) 480 a0) ≤ 0 → (wp_Mo_feed (cp_v fun P106 => p_k P106 a0 = 13 ∧ ∃ a108, p_r P106 490 a0 = some a108 ∧ ∃ a109, p_r P106 489 a0 = some a109 ∧ p_k P106 a109 = 101 ∧ vp_in x1 (p_n P106 a109) ∧ p_k P106 a108 = 103 ∧ vp_in (p_ai P106 a109 (Int32.toNatClampNeg x1)) (p_n P106 a108) ∧ ((p_ai P106 a108 (Int32.toNatClampNeg (p_ai P106 a109 (Int32.toNatClampNeg x1)))) = 0 ∨ (p_ai P106 a108 (Int32.toNatClampNeg (p_ai P106 a109 (Int32.toNatClampNeg x1)))) = 1) ∧ po (some (.int (p_ai P106 a108 (Int32.toNatClampNeg (p_ai P106 a109 (Int32.toNatClampNeg x1)))))) P106) th (s_i P 480 t1 t0) a0 (0 : Int32))) ∧ (¬ (p_i (s_i P 480 t1 t0) 480 a0) ≤ 0 → (po (some (.int (0 : Int32))) (s_i P 480 t1 t0))))
def wp_Mo_fed (po : Option Value → Pic → Prop) (th : String → Pic → Prop) (P : Pic) (a0 : Nat) (x1 : Int32) : Prop := p_k P a0 = 13 ∧ wp_Mo_noCustomer (cp_i fun x102 _ => ((x102 = 0 → (wb_Mo_fed_14 po th P a0 x1 (0 : Int32) a0)) ∧ (¬ x102 = 0 → (wb_Mo_fed_14 po th P a0 x1 (1 : Int32) a0)))) th P a0 x1
set_option maxHeartbeats 4000000 in
set_option maxRecDepth 100000 in
theorem wk_Mo_fed_14 {p : Program} {l : Launch} {e : Env} {s : State} {m : MethodId} {args : Array Value} {below : List Frame} {meth : Method} {c : Code} {D : pq_D} {P0 : Pic} {po : Option Value → Pic → Prop} {th : String → Pic → Prop} (hfl : l.flags = flags0) (C : Cx p e s m args meth c prog_15_method_15_code 2 "WaterWorksModel" D P0) (hmg : e.platform.magicAccessors = ({} : Platform).magicAccessors) (hr : meth.sig.returnType = (some .boolean)) (hin : meth.name = "fed") (htab : c.exceptionTable.toList = tableOf []) : ∀ (P : Pic) (a0 : Nat) (x1 : Int32) (t0 : Int32) (t1 : Nat) (H : Heap) (locs : List Loc) (cells slots : Nat) (ls : Array Slot), wb_Mo_fed_14 po th P a0 x1 t0 t1 → Pi D P H → Sg (cq_A P0 s) s.heap H P locs → lv_has ls 2 [(0, .ref a0), (1, .int x1)] → cells + 0 ≤ 0 → slots + 0 ≤ 0 → W p l e rm_Mo_fed s m args below meth c H locs cells slots (mt_MQ below (cq_Q D P0 false po th) args s 0 0 (cq_free P0 false)) (F0 m 14 ls [.int t0, .ref t1]) := by
  intro P a0 x1 t0 t1 H locs cells slots ls h hP hS hl hcc hss
  obtain ⟨hx, hb, hml, hown, hlocks, htr, hT, hK, hSt, hN, hP0⟩ := id C
  have L26_12 : pq_fl s m args 26 12 9 := ⟨_, "WaterWorksModel", "WaterWorksModel", rfl, by decide, hown, Or.inl (hT _ k_1113 _), (fun _ z => z)⟩
  have L29_12 : pq_fl s m args 29 12 10 := ⟨_, "WaterWorksModel", "WaterWorksModel", rfl, by decide, hown, Or.inl (hT _ k_1114 _), (fun _ z => z)⟩
  have L81_12 : pq_fl s m args 81 12 0 := ⟨_, "WaterWorksModel", "WaterWorksModel", rfl, by decide, hown, Or.inl (hT _ k_1104 _), (fun _ z => z)⟩
  unfold wb_Mo_fed_14 at h
  obtain ⟨hk104, h⟩ := h
  refine pq_puti (pc := 14) (f := 480) hx hb hT hK hP hS L81_12 hk104 rfl rfl rfl rfl d_Mo_fed_14 (fun H locs hP hS => ?_)
  have hk104 : p_k (s_i P 480 t1 t0) t1 = 13 := by rw [pk_i]; exact hk104
  refine lv_aload_n (pc := 17) hx hb d_Mo_fed_17 rfl (lv_at hl 0 rfl) ?_
  obtain ⟨hk105, h⟩ := h
  refine pq_geti (pc := 18) (f := 480) hx hb hT hK hP L81_12 hk105 rfl d_Mo_fed_18 ?_
  refine lv_if_le (pc := 21) (tgt := 26) hx hb d_Mo_fed_21 (by decide) (fun c114 => ?_) (fun c114 => ?_)
  · replace h := h.1 c114
    refine lv_aload_n (pc := 26) hx hb d_Mo_fed_26 rfl (lv_at hl 0 rfl) ?_
    refine lv_iconst (pc := 27) (v := 0) hx hb d_Mo_fed_27 (by decide) ?_
    refine cc_v (pc := 28) C (rest := []) (mt_invV (As := [.int (0 : Int32)]) hx hb hown (hT _ k_1243 _) (hT _ k_1245 _) (hT _ ks_21 _) (mt_Cd.code (hT _ k_1246 #[])) h_Mo_feed (pq_recv hK hP hk105 rfl) n_Mo_feed rfl d_Mo_fed_28) (ct_Mo_feed hfl D h) k_1246 k_24 ⟨Nat.le_of_ble_eq_true rfl, Nat.le_of_ble_eq_true rfl⟩ ⟨(show cells + 0 ≤ 0 by omega), (show slots + 0 ≤ 0 by omega)⟩ hl.1 d_Mo_fed_28 (Nat.le_of_ble_eq_true rfl) hP hS (fun P106 H locs h hP hS => ?_) (fun xx X P106 H locs h hX hex hP hS => ?_)
    · refine lv_aload_n (pc := 31) hx hb d_Mo_fed_31 rfl (lv_at hl 0 rfl) ?_
      obtain ⟨hk107, h⟩ := h
      obtain ⟨a108, ea108, h⟩ := h
      refine pq_geta (pc := 32) (f := 490) hx hb hT hK hP L29_12 hk107 rfl ea108 d_Mo_fed_32 ?_
      refine lv_aload_n (pc := 35) hx hb d_Mo_fed_35 rfl (lv_at hl 0 rfl) ?_
      obtain ⟨a109, ea109, h⟩ := h
      refine pq_geta (pc := 36) (f := 489) hx hb hT hK hP L26_12 hk107 rfl ea109 d_Mo_fed_36 ?_
      refine lv_iload_n (pc := 39) hx hb d_Mo_fed_39 rfl (lv_at hl 1 rfl) ?_
      obtain ⟨hk110, h⟩ := h
      obtain ⟨hi111, h⟩ := h
      refine pq_iald (pc := 40) hx hb hK hP hk110 hi111 d_Mo_fed_40 ?_
      obtain ⟨hk112, h⟩ := h
      obtain ⟨hi113, h⟩ := h
      refine pq_zald (pc := 41) hx hb hK hP hk112 hi113 d_Mo_fed_41 ?_
      exact we_z (pc := 42) hx hb hlocks hr hP hS (show cells + 0 + 0 ≤ 0 by omega) (show slots + 0 + 0 ≤ 0 by omega) h.1 h.2 d_Mo_fed_42
    · exact cq_out hlocks (pq_nil htab rfl) (show cells + 0 + 0 ≤ 0 by omega) (show slots + 0 + 0 ≤ 0 by omega) hX hex hP hS h
  · replace h := h.2 c114
    refine lv_iconst (pc := 24) (v := 0) hx hb d_Mo_fed_24 (by decide) ?_
    exact we_z (pc := 25) hx hb hlocks hr hP hS (show cells + 0 ≤ 0 by omega) (show slots + 0 ≤ 0 by omega) (by decide) h d_Mo_fed_25
set_option maxHeartbeats 4000000 in
set_option maxRecDepth 100000 in
theorem ct_Mo_fed {l : Launch} (hfl : l.flags = flags0) (D : pq_D) {po : Option Value → Pic → Prop} {th : String → Pic → Prop} {P : Pic} {a0 : Nat} {x1 : Int32} (h : wp_Mo_fed po th P a0 x1) : CT l D y_Mo_fed (.code y_Mo_fed prog_15_method_15_code 2 (some .boolean)) rm_Mo_fed false [.ref a0, .int x1] P po th := by
  refine ct_of (hs := []) hfl (by decide +kernel) (Or.inl ⟨rfl, rfl⟩) (Nat.le_of_ble_eq_true rfl) ?_
  intro p e s m below meth c C hmg hr hin htab ls hl
  have hl : lv_has ls 2 [(0, .ref a0), (1, .int x1)] := hl
  generalize hargs : ([.ref a0, .int x1] : List Value).toArray = args at C ⊢
  obtain ⟨hx, hb, hml, hown, hlocks, htr, hT, hK, hSt, hN, hP0⟩ := id C
  have L26_12 : pq_fl s m args 26 12 9 := ⟨_, "WaterWorksModel", "WaterWorksModel", rfl, by decide, hown, Or.inl (hT _ k_1113 _), (fun _ z => z)⟩
  have L29_12 : pq_fl s m args 29 12 10 := ⟨_, "WaterWorksModel", "WaterWorksModel", rfl, by decide, hown, Or.inl (hT _ k_1114 _), (fun _ z => z)⟩
  have L81_12 : pq_fl s m args 81 12 0 := ⟨_, "WaterWorksModel", "WaterWorksModel", rfl, by decide, hown, Or.inl (hT _ k_1104 _), (fun _ z => z)⟩
  have hP : Pi D P s.heap := hP0
  have hS : Sg (cq_A P s) s.heap s.heap P [] := Sg.start hP0
  unfold wp_Mo_fed at h
  refine lv_aload_n (pc := 0) hx hb d_Mo_fed_0 rfl (lv_at hl 0 rfl) ?_
  refine lv_aload_n (pc := 1) hx hb d_Mo_fed_1 rfl (lv_at hl 0 rfl) ?_
  refine lv_iload_n (pc := 2) hx hb d_Mo_fed_2 rfl (lv_at hl 1 rfl) ?_
  obtain ⟨hk101, h⟩ := h
  refine cr_i (pc := 3) C (rest := [.ref a0]) (mt_invV (As := [.int x1]) hx hb hown (hT _ k_1239 _) (hT _ k_1241 _) (hT _ ks_20 _) (mt_Cd.code (hT _ k_1242 #[])) h_Mo_noCustomer (pq_recv hK hP hk101 rfl) n_Mo_noCustomer rfl d_Mo_fed_3) (ct_Mo_noCustomer hfl D h) k_1242 k_24 ⟨Nat.le_of_ble_eq_true rfl, Nat.le_of_ble_eq_true rfl⟩ ⟨(show 0 + 0 ≤ 0 by omega), (show 0 + 0 ≤ 0 by omega)⟩ hl.1 d_Mo_fed_3 (Nat.le_of_ble_eq_true rfl) hP hS (fun x102 H locs h hP hS => ?_) (fun xx X H locs h hX hex hP hS => ?_)
  · refine lv_if_eq (pc := 6) (tgt := 13) hx hb d_Mo_fed_6 (by decide) (fun c103 => ?_) (fun c103 => ?_)
    · replace h := h.1 c103
      refine lv_iconst (pc := 13) (v := 0) hx hb d_Mo_fed_13 (by decide) ?_
      exact wk_Mo_fed_14 hfl C hmg hr hin htab _ a0 x1 (0 : Int32) a0 _ _ _ _ _ h hP hS (lv_sub hl [0, 1] rfl) (show 0 + 0 + 0 ≤ 0 by omega) (show 0 + 0 + 0 ≤ 0 by omega)
    · replace h := h.2 c103
      refine lv_iconst (pc := 9) (v := 1) hx hb d_Mo_fed_9 (by decide) ?_
      refine lv_goto (pc := 10) (tgt := 14) hx hb d_Mo_fed_10 (by decide) ?_
      exact wk_Mo_fed_14 hfl C hmg hr hin htab _ a0 x1 (1 : Int32) a0 _ _ _ _ _ h hP hS (lv_sub hl [0, 1] rfl) (show 0 + 0 + 0 ≤ 0 by omega) (show 0 + 0 + 0 ≤ 0 by omega)
  · exact cq_out hlocks (pq_nil htab rfl) (show 0 + 0 + 0 ≤ 0 by omega) (show 0 + 0 + 0 ≤ 0 by omega) hX hex hP hS h
/-! WaterWorksModel.canTurn(I)Z -/
abbrev y_Mo_canTurn : MethodName := ⟨"WaterWorksModel", "canTurn", "(I)Z"⟩
abbrev rm_Mo_canTurn : Room := { frames := 1, cells := 0, slots := 0, locals := 40 }
theorem h_Mo_canTurn : y_Mo_canTurn.cls ≠ "java/lang/invoke/MethodHandle" ∧ y_Mo_canTurn.cls ≠ "java/lang/invoke/VarHandle" := by decide +kernel
theorem n_Mo_canTurn : (parseMethodDescriptor y_Mo_canTurn.desc).map (fun d => d.parameters.length) = some 1 := by decide +kernel
theorem d_Mo_canTurn_0 : decode prog_15_method_16_code 0 = .ok (.aload_n 0, 1) := by decide +kernel
theorem d_Mo_canTurn_1 : decode prog_15_method_16_code 1 = .ok (.getfield 17, 3) := by decide +kernel
theorem d_Mo_canTurn_4 : decode prog_15_method_16_code 4 = .ok (.iload_n 1, 1) := by decide +kernel
theorem d_Mo_canTurn_5 : decode prog_15_method_16_code 5 = .ok (.baload, 1) := by decide +kernel
theorem d_Mo_canTurn_6 : decode prog_15_method_16_code 6 = .ok (.ifCond .eq 25, 3) := by decide +kernel
theorem d_Mo_canTurn_9 : decode prog_15_method_16_code 9 = .ok (.aload_n 0, 1) := by decide +kernel
theorem d_Mo_canTurn_10 : decode prog_15_method_16_code 10 = .ok (.getfield 20, 3) := by decide +kernel
theorem d_Mo_canTurn_13 : decode prog_15_method_16_code 13 = .ok (.iload_n 1, 1) := by decide +kernel
theorem d_Mo_canTurn_14 : decode prog_15_method_16_code 14 = .ok (.baload, 1) := by decide +kernel
theorem d_Mo_canTurn_15 : decode prog_15_method_16_code 15 = .ok (.ifCond .eq 16, 3) := by decide +kernel
theorem d_Mo_canTurn_18 : decode prog_15_method_16_code 18 = .ok (.aload_n 0, 1) := by decide +kernel
theorem d_Mo_canTurn_19 : decode prog_15_method_16_code 19 = .ok (.getfield 23, 3) := by decide +kernel
theorem d_Mo_canTurn_22 : decode prog_15_method_16_code 22 = .ok (.iload_n 1, 1) := by decide +kernel
theorem d_Mo_canTurn_23 : decode prog_15_method_16_code 23 = .ok (.baload, 1) := by decide +kernel
theorem d_Mo_canTurn_24 : decode prog_15_method_16_code 24 = .ok (.ifCond .ne 7, 3) := by decide +kernel
theorem d_Mo_canTurn_27 : decode prog_15_method_16_code 27 = .ok (.iconst 1, 1) := by decide +kernel
theorem d_Mo_canTurn_28 : decode prog_15_method_16_code 28 = .ok (.goto 4, 3) := by decide +kernel
theorem d_Mo_canTurn_31 : decode prog_15_method_16_code 31 = .ok (.iconst 0, 1) := by decide +kernel
theorem d_Mo_canTurn_32 : decode prog_15_method_16_code 32 = .ok (.ireturn, 1) := by decide +kernel
def wp_Mo_canTurn (po : Option Value → Pic → Prop) (th : String → Pic → Prop) (P : Pic) (a0 : Nat) (x1 : Int32) : Prop := p_k P a0 = 13 ∧ ∃ a102, p_r P 486 a0 = some a102 ∧ p_k P a102 = 103 ∧ vp_in x1 (p_n P a102) ∧ (((p_ai P a102 (Int32.toNatClampNeg x1)) = 0 → (po (some (.int (0 : Int32))) P)) ∧ (¬ (p_ai P a102 (Int32.toNatClampNeg x1)) = 0 → (∃ a105, p_r P 487 a0 = some a105 ∧ p_k P a105 = 103 ∧ vp_in x1 (p_n P a105) ∧ (((p_ai P a105 (Int32.toNatClampNeg x1)) = 0 → (po (some (.int (0 : Int32))) P)) ∧ (¬ (p_ai P a105 (Int32.toNatClampNeg x1)) = 0 → (∃ a108, p_r P 488 a0 = some a108 ∧ p_k P a108 = 103 ∧ vp_in x1 (p_n P a108) ∧ ((¬ (p_ai P a108 (Int32.toNatClampNeg x1)) = 0 → (po (some (.int (0 : Int32))) P)) ∧ ((p_ai P a108 (Int32.toNatClampNeg x1)) = 0 → (po (some (.int (1 : Int32))) P)))))))))
set_option maxHeartbeats 4000000 in
set_option maxRecDepth 100000 in
theorem ct_Mo_canTurn {l : Launch} (hfl : l.flags = flags0) (D : pq_D) {po : Option Value → Pic → Prop} {th : String → Pic → Prop} {P : Pic} {a0 : Nat} {x1 : Int32} (h : wp_Mo_canTurn po th P a0 x1) : CT l D y_Mo_canTurn (.code y_Mo_canTurn prog_15_method_16_code 2 (some .boolean)) rm_Mo_canTurn true [.ref a0, .int x1] P po th := by
  refine ct_of (hs := []) hfl (by decide +kernel) (Or.inl ⟨rfl, rfl⟩) (Nat.le_of_ble_eq_true rfl) ?_
  intro p e s m below meth c C hmg hr hin htab ls hl
  have hl : lv_has ls 2 [(0, .ref a0), (1, .int x1)] := hl
  generalize hargs : ([.ref a0, .int x1] : List Value).toArray = args at C ⊢
  obtain ⟨hx, hb, hml, hown, hlocks, htr, hT, hK, hSt, hN, hP0⟩ := id C
  have L17_12 : pq_fl s m args 17 12 6 := ⟨_, "WaterWorksModel", "WaterWorksModel", rfl, by decide, hown, Or.inl (hT _ k_1110 _), (fun _ z => z)⟩
  have L20_12 : pq_fl s m args 20 12 7 := ⟨_, "WaterWorksModel", "WaterWorksModel", rfl, by decide, hown, Or.inl (hT _ k_1111 _), (fun _ z => z)⟩
  have L23_12 : pq_fl s m args 23 12 8 := ⟨_, "WaterWorksModel", "WaterWorksModel", rfl, by decide, hown, Or.inl (hT _ k_1112 _), (fun _ z => z)⟩
  have hO : So s.heap s.heap := So.rf
  have hP : Pi D P s.heap := hP0
  unfold wp_Mo_canTurn at h
  refine lv_aload_n (pc := 0) hx hb d_Mo_canTurn_0 rfl (lv_at hl 0 rfl) ?_
  obtain ⟨hk101, h⟩ := h
  obtain ⟨a102, ea102, h⟩ := h
  refine pq_geta (pc := 1) (f := 486) hx hb hT hK hP L17_12 hk101 rfl ea102 d_Mo_canTurn_1 ?_
  refine lv_iload_n (pc := 4) hx hb d_Mo_canTurn_4 rfl (lv_at hl 1 rfl) ?_
  obtain ⟨hk103, h⟩ := h
  obtain ⟨hi104, h⟩ := h
  refine pq_zald (pc := 5) hx hb hK hP hk103 hi104 d_Mo_canTurn_5 ?_
  refine lv_if_eq (pc := 6) (tgt := 31) hx hb d_Mo_canTurn_6 (by decide) (fun c113 => ?_) (fun c113 => ?_)
  · replace h := h.1 c113
    refine lv_iconst (pc := 31) (v := 0) hx hb d_Mo_canTurn_31 (by decide) ?_
    exact wo_z (pc := 32) hx hb hlocks hr hP0 hO (show 0 + 0 ≤ 0 by omega) (show 0 + 0 ≤ 0 by omega) (by decide) h d_Mo_canTurn_32
  · replace h := h.2 c113
    refine lv_aload_n (pc := 9) hx hb d_Mo_canTurn_9 rfl (lv_at hl 0 rfl) ?_
    obtain ⟨a105, ea105, h⟩ := h
    refine pq_geta (pc := 10) (f := 487) hx hb hT hK hP L20_12 hk101 rfl ea105 d_Mo_canTurn_10 ?_
    refine lv_iload_n (pc := 13) hx hb d_Mo_canTurn_13 rfl (lv_at hl 1 rfl) ?_
    obtain ⟨hk106, h⟩ := h
    obtain ⟨hi107, h⟩ := h
    refine pq_zald (pc := 14) hx hb hK hP hk106 hi107 d_Mo_canTurn_14 ?_
    refine lv_if_eq (pc := 15) (tgt := 31) hx hb d_Mo_canTurn_15 (by decide) (fun c112 => ?_) (fun c112 => ?_)
    · replace h := h.1 c112
      refine lv_iconst (pc := 31) (v := 0) hx hb d_Mo_canTurn_31 (by decide) ?_
      exact wo_z (pc := 32) hx hb hlocks hr hP0 hO (show 0 + 0 ≤ 0 by omega) (show 0 + 0 ≤ 0 by omega) (by decide) h d_Mo_canTurn_32
    · replace h := h.2 c112
      refine lv_aload_n (pc := 18) hx hb d_Mo_canTurn_18 rfl (lv_at hl 0 rfl) ?_
      obtain ⟨a108, ea108, h⟩ := h
      refine pq_geta (pc := 19) (f := 488) hx hb hT hK hP L23_12 hk101 rfl ea108 d_Mo_canTurn_19 ?_
      refine lv_iload_n (pc := 22) hx hb d_Mo_canTurn_22 rfl (lv_at hl 1 rfl) ?_
      obtain ⟨hk109, h⟩ := h
      obtain ⟨hi110, h⟩ := h
      refine pq_zald (pc := 23) hx hb hK hP hk109 hi110 d_Mo_canTurn_23 ?_
      refine lv_if_ne (pc := 24) (tgt := 31) hx hb d_Mo_canTurn_24 (by decide) (fun c111 => ?_) (fun c111 => ?_)
      · replace h := h.1 c111
        refine lv_iconst (pc := 31) (v := 0) hx hb d_Mo_canTurn_31 (by decide) ?_
        exact wo_z (pc := 32) hx hb hlocks hr hP0 hO (show 0 + 0 ≤ 0 by omega) (show 0 + 0 ≤ 0 by omega) (by decide) h d_Mo_canTurn_32
      · replace h := h.2 c111
        refine lv_iconst (pc := 27) (v := 1) hx hb d_Mo_canTurn_27 (by decide) ?_
        refine lv_goto (pc := 28) (tgt := 32) hx hb d_Mo_canTurn_28 (by decide) ?_
        exact wo_z (pc := 32) hx hb hlocks hr hP0 hO (show 0 + 0 ≤ 0 by omega) (show 0 + 0 ≤ 0 by omega) (by decide) h d_Mo_canTurn_32
/-! WaterWorksModel.planFor(I)Z -/
abbrev y_Mo_planFor : MethodName := ⟨"WaterWorksModel", "planFor", "(I)Z"⟩
abbrev rm_Mo_planFor : Room := { frames := 3, cells := 0, slots := 0, locals := 85 }
theorem h_Mo_planFor : y_Mo_planFor.cls ≠ "java/lang/invoke/MethodHandle" ∧ y_Mo_planFor.cls ≠ "java/lang/invoke/VarHandle" := by decide +kernel
theorem n_Mo_planFor : (parseMethodDescriptor y_Mo_planFor.desc).map (fun d => d.parameters.length) = some 1 := by decide +kernel
theorem d_Mo_planFor_0 : decode prog_15_method_17_code 0 = .ok (.iconst 0, 1) := by decide +kernel
theorem d_Mo_planFor_1 : decode prog_15_method_17_code 1 = .ok (.istore_n 2, 1) := by decide +kernel
theorem d_Mo_planFor_2 : decode prog_15_method_17_code 2 = .ok (.iload_n 2, 1) := by decide +kernel
theorem d_Mo_planFor_3 : decode prog_15_method_17_code 3 = .ok (.bipush 28, 2) := by decide +kernel
theorem d_Mo_planFor_5 : decode prog_15_method_17_code 5 = .ok (.if_icmp .ge 28, 3) := by decide +kernel
theorem d_Mo_planFor_8 : decode prog_15_method_17_code 8 = .ok (.aload_n 0, 1) := by decide +kernel
theorem d_Mo_planFor_9 : decode prog_15_method_17_code 9 = .ok (.getfield 29, 3) := by decide +kernel
theorem d_Mo_planFor_12 : decode prog_15_method_17_code 12 = .ok (.iload_n 2, 1) := by decide +kernel
theorem d_Mo_planFor_13 : decode prog_15_method_17_code 13 = .ok (.iload_n 2, 1) := by decide +kernel
theorem d_Mo_planFor_14 : decode prog_15_method_17_code 14 = .ok (.bipush 12, 2) := by decide +kernel
theorem d_Mo_planFor_16 : decode prog_15_method_17_code 16 = .ok (.iload_n 1, 1) := by decide +kernel
theorem d_Mo_planFor_17 : decode prog_15_method_17_code 17 = .ok (.iadd, 1) := by decide +kernel
theorem d_Mo_planFor_18 : decode prog_15_method_17_code 18 = .ok (.if_icmp .ne 7, 3) := by decide +kernel
theorem d_Mo_planFor_21 : decode prog_15_method_17_code 21 = .ok (.iconst 1, 1) := by decide +kernel
theorem d_Mo_planFor_22 : decode prog_15_method_17_code 22 = .ok (.goto 4, 3) := by decide +kernel
theorem d_Mo_planFor_25 : decode prog_15_method_17_code 25 = .ok (.iconst 0, 1) := by decide +kernel
theorem d_Mo_planFor_26 : decode prog_15_method_17_code 26 = .ok (.bastore, 1) := by decide +kernel
theorem d_Mo_planFor_27 : decode prog_15_method_17_code 27 = .ok (.iinc 2 1, 3) := by decide +kernel
theorem d_Mo_planFor_30 : decode prog_15_method_17_code 30 = .ok (.goto (-28), 3) := by decide +kernel
theorem d_Mo_planFor_33 : decode prog_15_method_17_code 33 = .ok (.iconst 0, 1) := by decide +kernel
theorem d_Mo_planFor_34 : decode prog_15_method_17_code 34 = .ok (.istore_n 2, 1) := by decide +kernel
theorem d_Mo_planFor_35 : decode prog_15_method_17_code 35 = .ok (.iload_n 2, 1) := by decide +kernel
theorem d_Mo_planFor_36 : decode prog_15_method_17_code 36 = .ok (.iconst 2, 1) := by decide +kernel
theorem d_Mo_planFor_37 : decode prog_15_method_17_code 37 = .ok (.aload_n 0, 1) := by decide +kernel
theorem d_Mo_planFor_38 : decode prog_15_method_17_code 38 = .ok (.getfield 88, 3) := by decide +kernel
theorem d_Mo_planFor_41 : decode prog_15_method_17_code 41 = .ok (.imul, 1) := by decide +kernel
theorem d_Mo_planFor_42 : decode prog_15_method_17_code 42 = .ok (.if_icmp .ge 47, 3) := by decide +kernel
theorem d_Mo_planFor_45 : decode prog_15_method_17_code 45 = .ok (.aload_n 0, 1) := by decide +kernel
theorem d_Mo_planFor_46 : decode prog_15_method_17_code 46 = .ok (.getfield 32, 3) := by decide +kernel
theorem d_Mo_planFor_49 : decode prog_15_method_17_code 49 = .ok (.iload_n 2, 1) := by decide +kernel
theorem d_Mo_planFor_50 : decode prog_15_method_17_code 50 = .ok (.aload_n 0, 1) := by decide +kernel
theorem d_Mo_planFor_51 : decode prog_15_method_17_code 51 = .ok (.getfield 17, 3) := by decide +kernel
theorem d_Mo_planFor_54 : decode prog_15_method_17_code 54 = .ok (.iload_n 2, 1) := by decide +kernel
theorem d_Mo_planFor_55 : decode prog_15_method_17_code 55 = .ok (.baload, 1) := by decide +kernel
theorem d_Mo_planFor_56 : decode prog_15_method_17_code 56 = .ok (.ifCond .eq 21, 3) := by decide +kernel
theorem d_Mo_planFor_59 : decode prog_15_method_17_code 59 = .ok (.aload_n 0, 1) := by decide +kernel
theorem d_Mo_planFor_60 : decode prog_15_method_17_code 60 = .ok (.getfield 20, 3) := by decide +kernel
theorem d_Mo_planFor_63 : decode prog_15_method_17_code 63 = .ok (.iload_n 2, 1) := by decide +kernel
theorem d_Mo_planFor_64 : decode prog_15_method_17_code 64 = .ok (.baload, 1) := by decide +kernel
theorem d_Mo_planFor_65 : decode prog_15_method_17_code 65 = .ok (.ifCond .eq 16, 3) := by decide +kernel
theorem d_Mo_planFor_68 : decode prog_15_method_17_code 68 = .ok (.aload_n 0, 1) := by decide +kernel
theorem d_Mo_planFor_69 : decode prog_15_method_17_code 69 = .ok (.getfield 23, 3) := by decide +kernel
theorem d_Mo_planFor_72 : decode prog_15_method_17_code 72 = .ok (.iload_n 2, 1) := by decide +kernel
theorem d_Mo_planFor_73 : decode prog_15_method_17_code 73 = .ok (.baload, 1) := by decide +kernel
theorem d_Mo_planFor_74 : decode prog_15_method_17_code 74 = .ok (.ifCond .eq 7, 3) := by decide +kernel
theorem d_Mo_planFor_77 : decode prog_15_method_17_code 77 = .ok (.iconst 1, 1) := by decide +kernel
theorem d_Mo_planFor_78 : decode prog_15_method_17_code 78 = .ok (.goto 4, 3) := by decide +kernel
theorem d_Mo_planFor_81 : decode prog_15_method_17_code 81 = .ok (.iconst 0, 1) := by decide +kernel
theorem d_Mo_planFor_82 : decode prog_15_method_17_code 82 = .ok (.bastore, 1) := by decide +kernel
theorem d_Mo_planFor_83 : decode prog_15_method_17_code 83 = .ok (.iinc 2 1, 3) := by decide +kernel
theorem d_Mo_planFor_86 : decode prog_15_method_17_code 86 = .ok (.goto (-51), 3) := by decide +kernel
theorem d_Mo_planFor_89 : decode prog_15_method_17_code 89 = .ok (.aload_n 0, 1) := by decide +kernel
theorem d_Mo_planFor_90 : decode prog_15_method_17_code 90 = .ok (.invokevirtual 105, 3) := by decide +kernel
theorem d_Mo_planFor_93 : decode prog_15_method_17_code 93 = .ok (.iconst 0, 1) := by decide +kernel
theorem d_Mo_planFor_94 : decode prog_15_method_17_code 94 = .ok (.istore_n 2, 1) := by decide +kernel
theorem d_Mo_planFor_95 : decode prog_15_method_17_code 95 = .ok (.iconst 0, 1) := by decide +kernel
theorem d_Mo_planFor_96 : decode prog_15_method_17_code 96 = .ok (.istore_n 3, 1) := by decide +kernel
theorem d_Mo_planFor_97 : decode prog_15_method_17_code 97 = .ok (.iload_n 3, 1) := by decide +kernel
theorem d_Mo_planFor_98 : decode prog_15_method_17_code 98 = .ok (.bipush 28, 2) := by decide +kernel
theorem d_Mo_planFor_100 : decode prog_15_method_17_code 100 = .ok (.if_icmp .ge 57, 3) := by decide +kernel
theorem d_Mo_planFor_103 : decode prog_15_method_17_code 103 = .ok (.aload_n 0, 1) := by decide +kernel
theorem d_Mo_planFor_104 : decode prog_15_method_17_code 104 = .ok (.getfield 35, 3) := by decide +kernel
theorem d_Mo_planFor_107 : decode prog_15_method_17_code 107 = .ok (.iload_n 3, 1) := by decide +kernel
theorem d_Mo_planFor_108 : decode prog_15_method_17_code 108 = .ok (.aload_n 0, 1) := by decide +kernel
theorem d_Mo_planFor_109 : decode prog_15_method_17_code 109 = .ok (.getfield 29, 3) := by decide +kernel
theorem d_Mo_planFor_112 : decode prog_15_method_17_code 112 = .ok (.iload_n 3, 1) := by decide +kernel
theorem d_Mo_planFor_113 : decode prog_15_method_17_code 113 = .ok (.baload, 1) := by decide +kernel
theorem d_Mo_planFor_114 : decode prog_15_method_17_code 114 = .ok (.bastore, 1) := by decide +kernel
theorem d_Mo_planFor_115 : decode prog_15_method_17_code 115 = .ok (.iload_n 2, 1) := by decide +kernel
theorem d_Mo_planFor_116 : decode prog_15_method_17_code 116 = .ok (.ifCond .ne 29, 3) := by decide +kernel
theorem d_Mo_planFor_119 : decode prog_15_method_17_code 119 = .ok (.iload_n 3, 1) := by decide +kernel
theorem d_Mo_planFor_120 : decode prog_15_method_17_code 120 = .ok (.aload_n 0, 1) := by decide +kernel
theorem d_Mo_planFor_121 : decode prog_15_method_17_code 121 = .ok (.getfield 85, 3) := by decide +kernel
theorem d_Mo_planFor_124 : decode prog_15_method_17_code 124 = .ok (.if_icmp .ge 25, 3) := by decide +kernel
theorem d_Mo_planFor_127 : decode prog_15_method_17_code 127 = .ok (.aload_n 0, 1) := by decide +kernel
theorem d_Mo_planFor_128 : decode prog_15_method_17_code 128 = .ok (.getfield 29, 3) := by decide +kernel
theorem d_Mo_planFor_131 : decode prog_15_method_17_code 131 = .ok (.iload_n 3, 1) := by decide +kernel
theorem d_Mo_planFor_132 : decode prog_15_method_17_code 132 = .ok (.baload, 1) := by decide +kernel
theorem d_Mo_planFor_133 : decode prog_15_method_17_code 133 = .ok (.ifCond .eq 16, 3) := by decide +kernel
theorem d_Mo_planFor_136 : decode prog_15_method_17_code 136 = .ok (.aload_n 0, 1) := by decide +kernel
theorem d_Mo_planFor_137 : decode prog_15_method_17_code 137 = .ok (.getfield 7, 3) := by decide +kernel
theorem d_Mo_planFor_140 : decode prog_15_method_17_code 140 = .ok (.iload_n 3, 1) := by decide +kernel
theorem d_Mo_planFor_141 : decode prog_15_method_17_code 141 = .ok (.baload, 1) := by decide +kernel
theorem d_Mo_planFor_142 : decode prog_15_method_17_code 142 = .ok (.ifCond .eq 7, 3) := by decide +kernel
theorem d_Mo_planFor_145 : decode prog_15_method_17_code 145 = .ok (.iconst 1, 1) := by decide +kernel
theorem d_Mo_planFor_146 : decode prog_15_method_17_code 146 = .ok (.goto 4, 3) := by decide +kernel
theorem d_Mo_planFor_149 : decode prog_15_method_17_code 149 = .ok (.iconst 0, 1) := by decide +kernel
theorem d_Mo_planFor_150 : decode prog_15_method_17_code 150 = .ok (.istore_n 2, 1) := by decide +kernel
theorem d_Mo_planFor_151 : decode prog_15_method_17_code 151 = .ok (.iinc 3 1, 3) := by decide +kernel
theorem d_Mo_planFor_154 : decode prog_15_method_17_code 154 = .ok (.goto (-57), 3) := by decide +kernel
theorem d_Mo_planFor_157 : decode prog_15_method_17_code 157 = .ok (.iconst 0, 1) := by decide +kernel
theorem d_Mo_planFor_158 : decode prog_15_method_17_code 158 = .ok (.istore_n 3, 1) := by decide +kernel
theorem d_Mo_planFor_159 : decode prog_15_method_17_code 159 = .ok (.iload_n 3, 1) := by decide +kernel
theorem d_Mo_planFor_160 : decode prog_15_method_17_code 160 = .ok (.bipush 32, 2) := by decide +kernel
theorem d_Mo_planFor_162 : decode prog_15_method_17_code 162 = .ok (.if_icmp .ge 67, 3) := by decide +kernel
theorem d_Mo_planFor_165 : decode prog_15_method_17_code 165 = .ok (.aload_n 0, 1) := by decide +kernel
theorem d_Mo_planFor_166 : decode prog_15_method_17_code 166 = .ok (.getfield 38, 3) := by decide +kernel
theorem d_Mo_planFor_169 : decode prog_15_method_17_code 169 = .ok (.iload_n 3, 1) := by decide +kernel
theorem d_Mo_planFor_170 : decode prog_15_method_17_code 170 = .ok (.iload_n 2, 1) := by decide +kernel
theorem d_Mo_planFor_171 : decode prog_15_method_17_code 171 = .ok (.ifCond .ne 50, 3) := by decide +kernel
theorem d_Mo_planFor_174 : decode prog_15_method_17_code 174 = .ok (.iload_n 3, 1) := by decide +kernel
theorem d_Mo_planFor_175 : decode prog_15_method_17_code 175 = .ok (.iconst 2, 1) := by decide +kernel
theorem d_Mo_planFor_176 : decode prog_15_method_17_code 176 = .ok (.aload_n 0, 1) := by decide +kernel
theorem d_Mo_planFor_177 : decode prog_15_method_17_code 177 = .ok (.getfield 88, 3) := by decide +kernel
theorem d_Mo_planFor_180 : decode prog_15_method_17_code 180 = .ok (.imul, 1) := by decide +kernel
theorem d_Mo_planFor_181 : decode prog_15_method_17_code 181 = .ok (.if_icmp .ge 40, 3) := by decide +kernel
theorem d_Mo_planFor_184 : decode prog_15_method_17_code 184 = .ok (.aload_n 0, 1) := by decide +kernel
theorem d_Mo_planFor_185 : decode prog_15_method_17_code 185 = .ok (.iload_n 3, 1) := by decide +kernel
theorem d_Mo_planFor_186 : decode prog_15_method_17_code 186 = .ok (.invokevirtual 115, 3) := by decide +kernel
theorem d_Mo_planFor_189 : decode prog_15_method_17_code 189 = .ok (.ifCond .eq 32, 3) := by decide +kernel
theorem d_Mo_planFor_192 : decode prog_15_method_17_code 192 = .ok (.aload_n 0, 1) := by decide +kernel
theorem d_Mo_planFor_193 : decode prog_15_method_17_code 193 = .ok (.getfield 35, 3) := by decide +kernel
theorem d_Mo_planFor_196 : decode prog_15_method_17_code 196 = .ok (.bipush 12, 2) := by decide +kernel
theorem d_Mo_planFor_198 : decode prog_15_method_17_code 198 = .ok (.iload_n 3, 1) := by decide +kernel
theorem d_Mo_planFor_199 : decode prog_15_method_17_code 199 = .ok (.iconst 2, 1) := by decide +kernel
theorem d_Mo_planFor_200 : decode prog_15_method_17_code 200 = .ok (.idiv, 1) := by decide +kernel
theorem d_Mo_planFor_201 : decode prog_15_method_17_code 201 = .ok (.iadd, 1) := by decide +kernel
theorem d_Mo_planFor_202 : decode prog_15_method_17_code 202 = .ok (.baload, 1) := by decide +kernel
theorem d_Mo_planFor_203 : decode prog_15_method_17_code 203 = .ok (.aload_n 0, 1) := by decide +kernel
theorem d_Mo_planFor_204 : decode prog_15_method_17_code 204 = .ok (.getfield 35, 3) := by decide +kernel
theorem d_Mo_planFor_207 : decode prog_15_method_17_code 207 = .ok (.aload_n 0, 1) := by decide +kernel
theorem d_Mo_planFor_208 : decode prog_15_method_17_code 208 = .ok (.getfield 13, 3) := by decide +kernel
theorem d_Mo_planFor_211 : decode prog_15_method_17_code 211 = .ok (.iload_n 3, 1) := by decide +kernel
theorem d_Mo_planFor_212 : decode prog_15_method_17_code 212 = .ok (.iaload, 1) := by decide +kernel
theorem d_Mo_planFor_213 : decode prog_15_method_17_code 213 = .ok (.baload, 1) := by decide +kernel
theorem d_Mo_planFor_214 : decode prog_15_method_17_code 214 = .ok (.if_icmp .eq 7, 3) := by decide +kernel
theorem d_Mo_planFor_217 : decode prog_15_method_17_code 217 = .ok (.iconst 1, 1) := by decide +kernel
theorem d_Mo_planFor_218 : decode prog_15_method_17_code 218 = .ok (.goto 4, 3) := by decide +kernel
theorem d_Mo_planFor_221 : decode prog_15_method_17_code 221 = .ok (.iconst 0, 1) := by decide +kernel
theorem d_Mo_planFor_222 : decode prog_15_method_17_code 222 = .ok (.bastore, 1) := by decide +kernel
theorem d_Mo_planFor_223 : decode prog_15_method_17_code 223 = .ok (.iinc 3 1, 3) := by decide +kernel
theorem d_Mo_planFor_226 : decode prog_15_method_17_code 226 = .ok (.goto (-67), 3) := by decide +kernel
theorem d_Mo_planFor_229 : decode prog_15_method_17_code 229 = .ok (.iconst 0, 1) := by decide +kernel
theorem d_Mo_planFor_230 : decode prog_15_method_17_code 230 = .ok (.istore_n 3, 1) := by decide +kernel
theorem d_Mo_planFor_231 : decode prog_15_method_17_code 231 = .ok (.iload_n 3, 1) := by decide +kernel
theorem d_Mo_planFor_232 : decode prog_15_method_17_code 232 = .ok (.bipush 32, 2) := by decide +kernel
theorem d_Mo_planFor_234 : decode prog_15_method_17_code 234 = .ok (.if_icmp .ge 49, 3) := by decide +kernel
theorem d_Mo_planFor_237 : decode prog_15_method_17_code 237 = .ok (.iload_n 2, 1) := by decide +kernel
theorem d_Mo_planFor_238 : decode prog_15_method_17_code 238 = .ok (.ifCond .ne 45, 3) := by decide +kernel
theorem d_Mo_planFor_241 : decode prog_15_method_17_code 241 = .ok (.aload_n 0, 1) := by decide +kernel
theorem d_Mo_planFor_242 : decode prog_15_method_17_code 242 = .ok (.getfield 38, 3) := by decide +kernel
theorem d_Mo_planFor_245 : decode prog_15_method_17_code 245 = .ok (.iload_n 3, 1) := by decide +kernel
theorem d_Mo_planFor_246 : decode prog_15_method_17_code 246 = .ok (.baload, 1) := by decide +kernel
theorem d_Mo_planFor_247 : decode prog_15_method_17_code 247 = .ok (.ifCond .eq 30, 3) := by decide +kernel
theorem d_Mo_planFor_250 : decode prog_15_method_17_code 250 = .ok (.aload_n 0, 1) := by decide +kernel
theorem d_Mo_planFor_251 : decode prog_15_method_17_code 251 = .ok (.getfield 38, 3) := by decide +kernel
theorem d_Mo_planFor_254 : decode prog_15_method_17_code 254 = .ok (.iload_n 3, 1) := by decide +kernel
theorem d_Mo_planFor_255 : decode prog_15_method_17_code 255 = .ok (.iconst 0, 1) := by decide +kernel
theorem d_Mo_planFor_256 : decode prog_15_method_17_code 256 = .ok (.bastore, 1) := by decide +kernel
theorem d_Mo_planFor_257 : decode prog_15_method_17_code 257 = .ok (.aload_n 0, 1) := by decide +kernel
theorem d_Mo_planFor_258 : decode prog_15_method_17_code 258 = .ok (.iconst 1, 1) := by decide +kernel
theorem d_Mo_planFor_259 : decode prog_15_method_17_code 259 = .ok (.invokevirtual 111, 3) := by decide +kernel
theorem d_Mo_planFor_262 : decode prog_15_method_17_code 262 = .ok (.aload_n 0, 1) := by decide +kernel
theorem d_Mo_planFor_263 : decode prog_15_method_17_code 263 = .ok (.getfield 38, 3) := by decide +kernel
theorem d_Mo_planFor_266 : decode prog_15_method_17_code 266 = .ok (.iload_n 3, 1) := by decide +kernel
theorem d_Mo_planFor_267 : decode prog_15_method_17_code 267 = .ok (.aload_n 0, 1) := by decide +kernel
theorem d_Mo_planFor_268 : decode prog_15_method_17_code 268 = .ok (.getfield 29, 3) := by decide +kernel
theorem d_Mo_planFor_271 : decode prog_15_method_17_code 271 = .ok (.bipush 12, 2) := by decide +kernel
theorem d_Mo_planFor_273 : decode prog_15_method_17_code 273 = .ok (.iload_n 1, 1) := by decide +kernel
theorem d_Mo_planFor_274 : decode prog_15_method_17_code 274 = .ok (.iadd, 1) := by decide +kernel
theorem d_Mo_planFor_275 : decode prog_15_method_17_code 275 = .ok (.baload, 1) := by decide +kernel
theorem d_Mo_planFor_276 : decode prog_15_method_17_code 276 = .ok (.bastore, 1) := by decide +kernel
theorem d_Mo_planFor_277 : decode prog_15_method_17_code 277 = .ok (.iinc 3 1, 3) := by decide +kernel
theorem d_Mo_planFor_280 : decode prog_15_method_17_code 280 = .ok (.goto (-49), 3) := by decide +kernel
theorem d_Mo_planFor_283 : decode prog_15_method_17_code 283 = .ok (.iload_n 2, 1) := by decide +kernel
theorem d_Mo_planFor_284 : decode prog_15_method_17_code 284 = .ok (.ifCond .ne 7, 3) := by decide +kernel
theorem d_Mo_planFor_287 : decode prog_15_method_17_code 287 = .ok (.iconst 1, 1) := by decide +kernel
theorem d_Mo_planFor_288 : decode prog_15_method_17_code 288 = .ok (.goto 4, 3) := by decide +kernel
theorem d_Mo_planFor_291 : decode prog_15_method_17_code 291 = .ok (.iconst 0, 1) := by decide +kernel
theorem d_Mo_planFor_292 : decode prog_15_method_17_code 292 = .ok (.ireturn, 1) := by decide +kernel
def wb_Mo_planFor_26 (po : Option Value → Pic → Prop) (th : String → Pic → Prop) (K2 : Pic → Nat → Int32 → Int32 → Prop) (P : Pic) (a0 : Nat) (x1 : Int32) (x2 : Int32) (t0 : Int32) (t1 : Int32) (t2 : Nat) : Prop := p_k P t2 = 103 ∧ vp_in t1 (p_n P t2) ∧ (t0 = 0 ∨ t0 = 1) ∧ ∀ (x108 : Int32), x108 = x2 + 1 → K2 (s_ai P t2 (Int32.toNatClampNeg t1) t0) a0 x1 x108
def wb_Mo_planFor_82 (po : Option Value → Pic → Prop) (th : String → Pic → Prop) (K35 : Pic → Nat → Int32 → Int32 → Prop) (P : Pic) (a0 : Nat) (x1 : Int32) (x2 : Int32) (t0 : Int32) (t1 : Int32) (t2 : Nat) : Prop := p_k P t2 = 103 ∧ vp_in t1 (p_n P t2) ∧ (t0 = 0 ∨ t0 = 1) ∧ ∀ (x128 : Int32), x128 = x2 + 1 → K35 (s_ai P t2 (Int32.toNatClampNeg t1) t0) a0 x1 x128
def wb_Mo_planFor_77 (po : Option Value → Pic → Prop) (th : String → Pic → Prop) (K35 : Pic → Nat → Int32 → Int32 → Prop) (P : Pic) (a0 : Nat) (x1 : Int32) (x2 : Int32) (t0 : Int32) (t1 : Nat) : Prop := wb_Mo_planFor_82 po th K35 P a0 x1 x2 (1 : Int32) t0 t1
def wb_Mo_planFor_81 (po : Option Value → Pic → Prop) (th : String → Pic → Prop) (K35 : Pic → Nat → Int32 → Int32 → Prop) (P : Pic) (a0 : Nat) (x1 : Int32) (x2 : Int32) (t0 : Int32) (t1 : Nat) : Prop := wb_Mo_planFor_82 po th K35 P a0 x1 x2 (0 : Int32) t0 t1
def wb_Mo_planFor_150 (po : Option Value → Pic → Prop) (th : String → Pic → Prop) (K97 : Pic → Nat → Int32 → Int32 → Int32 → Prop) (P : Pic) (a0 : Nat) (x1 : Int32) (x3 : Int32) (t0 : Int32) : Prop := ∀ (x149 : Int32), x149 = x3 + 1 → K97 P a0 x1 t0 x149
def wb_Mo_planFor_145 (po : Option Value → Pic → Prop) (th : String → Pic → Prop) (K97 : Pic → Nat → Int32 → Int32 → Int32 → Prop) (P : Pic) (a0 : Nat) (x1 : Int32) (x3 : Int32) : Prop := wb_Mo_planFor_150 po th K97 P a0 x1 x3 (1 : Int32)
def wb_Mo_planFor_149 (po : Option Value → Pic → Prop) (th : String → Pic → Prop) (K97 : Pic → Nat → Int32 → Int32 → Int32 → Prop) (P : Pic) (a0 : Nat) (x1 : Int32) (x3 : Int32) : Prop := wb_Mo_planFor_150 po th K97 P a0 x1 x3 (0 : Int32)
def wb_Mo_planFor_222 (po : Option Value → Pic → Prop) (th : String → Pic → Prop) (K159 : Pic → Nat → Int32 → Int32 → Int32 → Prop) (P : Pic) (a0 : Nat) (x1 : Int32) (x2 : Int32) (x3 : Int32) (t0 : Int32) (t1 : Int32) (t2 : Nat) : Prop := p_k P t2 = 103 ∧ vp_in t1 (p_n P t2) ∧ (t0 = 0 ∨ t0 = 1) ∧ ∀ (x170 : Int32), x170 = x3 + 1 → K159 (s_ai P t2 (Int32.toNatClampNeg t1) t0) a0 x1 x2 x170
def wb_Mo_planFor_221 (po : Option Value → Pic → Prop) (th : String → Pic → Prop) (K159 : Pic → Nat → Int32 → Int32 → Int32 → Prop) (P : Pic) (a0 : Nat) (x1 : Int32) (x2 : Int32) (x3 : Int32) (t0 : Int32) (t1 : Nat) : Prop := wb_Mo_planFor_222 po th K159 P a0 x1 x2 x3 (0 : Int32) t0 t1
def wb_Mo_planFor_277 (po : Option Value → Pic → Prop) (th : String → Pic → Prop) (K231 : Pic → Nat → Int32 → Int32 → Int32 → Prop) (P : Pic) (a0 : Nat) (x1 : Int32) (x2 : Int32) (x3 : Int32) : Prop := ∀ (x191 : Int32), x191 = x3 + 1 → K231 P a0 x1 x2 x191
def wb_Mo_planFor_283 (po : Option Value → Pic → Prop) (th : String → Pic → Prop) (P : Pic) (x2 : Int32) : Prop := ((¬ x2 = 0 → (po (some (.int (0 : Int32))) P)) ∧ (x2 = 0 → (po (some (.int (1 : Int32))) P)))
def wb_Mo_planFor_231 (po : Option Value → Pic → Prop) (th : String → Pic → Prop) (K231 : Pic → Nat → Int32 → Int32 → Int32 → Prop) (P : Pic) (a0 : Nat) (x1 : Int32) (x2 : Int32) (x3 : Int32) : Prop := (((32 : Int32) ≤ x3 → (wb_Mo_planFor_283 po th P x2)) ∧ (¬ (32 : Int32) ≤ x3 → (((¬ x2 = 0 → (wb_Mo_planFor_283 po th P x2)) ∧ (x2 = 0 → (p_k P a0 = 13 ∧ ∃ a172, p_r P 493 a0 = some a172 ∧ p_k P a172 = 103 ∧ vp_in x3 (p_n P a172) ∧ (((p_ai P a172 (Int32.toNatClampNeg x3)) = 0 → (wb_Mo_planFor_277 po th K231 P a0 x1 x2 x3)) ∧ (¬ (p_ai P a172 (Int32.toNatClampNeg x3)) = 0 → (∃ a175, p_r P 493 a0 = some a175 ∧ p_k P a175 = 103 ∧ vp_in x3 (p_n P a175) ∧ wp_Mo_feed (cp_v fun P178 => p_k P178 a0 = 13 ∧ ∃ a180, p_r P178 493 a0 = some a180 ∧ ∃ a181, p_r P178 490 a0 = some a181 ∧ p_k P178 a181 = 103 ∧ vp_in ((12 : Int32) + x1) (p_n P178 a181) ∧ p_k P178 a180 = 103 ∧ vp_in x3 (p_n P178 a180) ∧ ((p_ai P178 a181 (Int32.toNatClampNeg ((12 : Int32) + x1))) = 0 ∨ (p_ai P178 a181 (Int32.toNatClampNeg ((12 : Int32) + x1))) = 1) ∧ ∀ (P187 : Pic), P187 = s_ai P178 a180 (Int32.toNatClampNeg x3) (p_ai P178 a181 (Int32.toNatClampNeg ((12 : Int32) + x1))) → wb_Mo_planFor_277 po th K231 P187 a0 x1 x2 x3) th (s_ai P a175 (Int32.toNatClampNeg x3) (0 : Int32)) a0 (1 : Int32))))))))))
def wl_Mo_planFor_231 (po : Option Value → Pic → Prop) (th : String → Pic → Prop) : Nat → Pic → Nat → Int32 → Int32 → Int32 → Prop
  | 0 => fun _ _ _ _ _ => False
  | n + 1 => wb_Mo_planFor_231 po th (wl_Mo_planFor_231 po th n)
def wb_Mo_planFor_159 (po : Option Value → Pic → Prop) (th : String → Pic → Prop) (K159 : Pic → Nat → Int32 → Int32 → Int32 → Prop) (P : Pic) (a0 : Nat) (x1 : Int32) (x2 : Int32) (x3 : Int32) : Prop := (((32 : Int32) ≤ x3 → (∃ n, wl_Mo_planFor_231 po th n P a0 x1 x2 (0 : Int32))) ∧ (¬ (32 : Int32) ≤ x3 → (p_k P a0 = 13 ∧ ∃ a151, p_r P 493 a0 = some a151 ∧ ((¬ x2 = 0 → (wb_Mo_planFor_221 po th K159 P a0 x1 x2 x3 x3 a151)) ∧ (x2 = 0 → (((((2 : Int32) * (p_i P 482 a0)) ≤ x3 → (wb_Mo_planFor_221 po th K159 P a0 x1 x2 x3 x3 a151)) ∧ (¬ ((2 : Int32) * (p_i P 482 a0)) ≤ x3 → (wp_Mo_canTurn (cp_i fun x152 _ => ((x152 = 0 → (wb_Mo_planFor_221 po th K159 P a0 x1 x2 x3 x3 a151)) ∧ (¬ x152 = 0 → (∃ a153, p_r P 492 a0 = some a153 ∧ p_k P a153 = 103 ∧ vp_in ((12 : Int32) + (x3 / (2 : Int32))) (p_n P a153) ∧ ∃ a156, p_r P 492 a0 = some a156 ∧ ∃ a157, p_r P 485 a0 = some a157 ∧ p_k P a157 = 101 ∧ vp_in x3 (p_n P a157) ∧ p_k P a156 = 103 ∧ vp_in (p_ai P a157 (Int32.toNatClampNeg x3)) (p_n P a156) ∧ (((p_ai P a153 (Int32.toNatClampNeg ((12 : Int32) + (x3 / (2 : Int32))))) = (p_ai P a156 (Int32.toNatClampNeg (p_ai P a157 (Int32.toNatClampNeg x3)))) → (wb_Mo_planFor_221 po th K159 P a0 x1 x2 x3 x3 a151)) ∧ (¬ (p_ai P a153 (Int32.toNatClampNeg ((12 : Int32) + (x3 / (2 : Int32))))) = (p_ai P a156 (Int32.toNatClampNeg (p_ai P a157 (Int32.toNatClampNeg x3)))) → (wb_Mo_planFor_222 po th K159 P a0 x1 x2 x3 (1 : Int32) x3 a151))))))) th P a0 x3)))))))))
def wl_Mo_planFor_159 (po : Option Value → Pic → Prop) (th : String → Pic → Prop) : Nat → Pic → Nat → Int32 → Int32 → Int32 → Prop
  | 0 => fun _ _ _ _ _ => False
  | n + 1 => wb_Mo_planFor_159 po th (wl_Mo_planFor_159 po th n)
def wb_Mo_planFor_97 (po : Option Value → Pic → Prop) (th : String → Pic → Prop) (K97 : Pic → Nat → Int32 → Int32 → Int32 → Prop) (P : Pic) (a0 : Nat) (x1 : Int32) (x2 : Int32) (x3 : Int32) : Prop := (((28 : Int32) ≤ x3 → (∃ n, wl_Mo_planFor_159 po th n P a0 x1 x2 (0 : Int32))) ∧ (¬ (28 : Int32) ≤ x3 → (p_k P a0 = 13 ∧ ∃ a130, p_r P 492 a0 = some a130 ∧ ∃ a131, p_r P 490 a0 = some a131 ∧ p_k P a131 = 103 ∧ vp_in x3 (p_n P a131) ∧ p_k P a130 = 103 ∧ vp_in x3 (p_n P a130) ∧ ((p_ai P a131 (Int32.toNatClampNeg x3)) = 0 ∨ (p_ai P a131 (Int32.toNatClampNeg x3)) = 1) ∧ ∀ (P137 : Pic), P137 = s_ai P a130 (Int32.toNatClampNeg x3) (p_ai P a131 (Int32.toNatClampNeg x3)) → ((¬ x2 = 0 → (wb_Mo_planFor_145 po th K97 P137 a0 x1 x3)) ∧ (x2 = 0 → ((((p_i P137 481 a0) ≤ x3 → (wb_Mo_planFor_149 po th K97 P137 a0 x1 x3)) ∧ (¬ (p_i P137 481 a0) ≤ x3 → (∃ a138, p_r P137 490 a0 = some a138 ∧ p_k P137 a138 = 103 ∧ vp_in x3 (p_n P137 a138) ∧ (((p_ai P137 a138 (Int32.toNatClampNeg x3)) = 0 → (wb_Mo_planFor_149 po th K97 P137 a0 x1 x3)) ∧ (¬ (p_ai P137 a138 (Int32.toNatClampNeg x3)) = 0 → (∃ a141, p_r P137 484 a0 = some a141 ∧ p_k P137 a141 = 103 ∧ vp_in x3 (p_n P137 a141) ∧ (((p_ai P137 a141 (Int32.toNatClampNeg x3)) = 0 → (wb_Mo_planFor_149 po th K97 P137 a0 x1 x3)) ∧ (¬ (p_ai P137 a141 (Int32.toNatClampNeg x3)) = 0 → (wb_Mo_planFor_145 po th K97 P137 a0 x1 x3)))))))))))))))
def wl_Mo_planFor_97 (po : Option Value → Pic → Prop) (th : String → Pic → Prop) : Nat → Pic → Nat → Int32 → Int32 → Int32 → Prop
  | 0 => fun _ _ _ _ _ => False
  | n + 1 => wb_Mo_planFor_97 po th (wl_Mo_planFor_97 po th n)
def wb_Mo_planFor_35 (po : Option Value → Pic → Prop) (th : String → Pic → Prop) (K35 : Pic → Nat → Int32 → Int32 → Prop) (P : Pic) (a0 : Nat) (x1 : Int32) (x2 : Int32) : Prop := p_k P a0 = 13 ∧ ((((2 : Int32) * (p_i P 482 a0)) ≤ x2 → (wp_Mo_spread (cp_v fun P110 => ∃ n, wl_Mo_planFor_97 po th n P110 a0 x1 (0 : Int32) (0 : Int32)) th P a0)) ∧ (¬ ((2 : Int32) * (p_i P 482 a0)) ≤ x2 → (∃ a111, p_r P 491 a0 = some a111 ∧ ∃ a112, p_r P 486 a0 = some a112 ∧ p_k P a112 = 103 ∧ vp_in x2 (p_n P a112) ∧ (((p_ai P a112 (Int32.toNatClampNeg x2)) = 0 → (wb_Mo_planFor_77 po th K35 P a0 x1 x2 x2 a111)) ∧ (¬ (p_ai P a112 (Int32.toNatClampNeg x2)) = 0 → (∃ a115, p_r P 487 a0 = some a115 ∧ p_k P a115 = 103 ∧ vp_in x2 (p_n P a115) ∧ (((p_ai P a115 (Int32.toNatClampNeg x2)) = 0 → (wb_Mo_planFor_81 po th K35 P a0 x1 x2 x2 a111)) ∧ (¬ (p_ai P a115 (Int32.toNatClampNeg x2)) = 0 → (∃ a118, p_r P 488 a0 = some a118 ∧ p_k P a118 = 103 ∧ vp_in x2 (p_n P a118) ∧ (((p_ai P a118 (Int32.toNatClampNeg x2)) = 0 → (wb_Mo_planFor_81 po th K35 P a0 x1 x2 x2 a111)) ∧ (¬ (p_ai P a118 (Int32.toNatClampNeg x2)) = 0 → (wb_Mo_planFor_77 po th K35 P a0 x1 x2 x2 a111))))))))))))
def wl_Mo_planFor_35 (po : Option Value → Pic → Prop) (th : String → Pic → Prop) : Nat → Pic → Nat → Int32 → Int32 → Prop
  | 0 => fun _ _ _ _ => False
  | n + 1 => wb_Mo_planFor_35 po th (wl_Mo_planFor_35 po th n)
def wb_Mo_planFor_2 (po : Option Value → Pic → Prop) (th : String → Pic → Prop) (K2 : Pic → Nat → Int32 → Int32 → Prop) (P : Pic) (a0 : Nat) (x1 : Int32) (x2 : Int32) : Prop := (((28 : Int32) ≤ x2 → (∃ n, wl_Mo_planFor_35 po th n P a0 x1 (0 : Int32))) ∧ (¬ (28 : Int32) ≤ x2 → (p_k P a0 = 13 ∧ ∃ a102, p_r P 490 a0 = some a102 ∧ ((¬ x2 = ((12 : Int32) + x1) → (wb_Mo_planFor_26 po th K2 P a0 x1 x2 (0 : Int32) x2 a102)) ∧ (x2 = ((12 : Int32) + x1) → (wb_Mo_planFor_26 po th K2 P a0 x1 x2 (1 : Int32) x2 a102))))))
def wl_Mo_planFor_2 (po : Option Value → Pic → Prop) (th : String → Pic → Prop) : Nat → Pic → Nat → Int32 → Int32 → Prop
  | 0 => fun _ _ _ _ => False
  | n + 1 => wb_Mo_planFor_2 po th (wl_Mo_planFor_2 po th n)
def wp_Mo_planFor (po : Option Value → Pic → Prop) (th : String → Pic → Prop) (P : Pic) (a0 : Nat) (x1 : Int32) : Prop := ∃ n, wl_Mo_planFor_2 po th n P a0 x1 (0 : Int32)
set_option maxHeartbeats 4000000 in
set_option maxRecDepth 100000 in
theorem wk_Mo_planFor_26 {p : Program} {l : Launch} {e : Env} {s : State} {m : MethodId} {args : Array Value} {below : List Frame} {meth : Method} {c : Code} {D : pq_D} {P0 : Pic} {po : Option Value → Pic → Prop} {th : String → Pic → Prop} {K2 : Pic → Nat → Int32 → Int32 → Prop} (hfl : l.flags = flags0) (C : Cx p e s m args meth c prog_15_method_17_code 4 "WaterWorksModel" D P0) (hmg : e.platform.magicAccessors = ({} : Platform).magicAccessors) (hr : meth.sig.returnType = (some .boolean)) (hin : meth.name = "planFor") (htab : c.exceptionTable.toList = tableOf []) (HK2 : ∀ (P : Pic) (a0 : Nat) (x1 : Int32) (x2 : Int32) (H : Heap) (locs : List Loc) (cells slots : Nat) (ls : Array Slot), K2 P a0 x1 x2 → Pi D P H → Sg (cq_A P0 s) s.heap H P locs → lv_has ls 4 [(0, .ref a0), (1, .int x1), (2, .int x2)] → cells + 0 ≤ 0 → slots + 0 ≤ 0 → W p l e rm_Mo_planFor s m args below meth c H locs cells slots (mt_MQ below (cq_Q D P0 false po th) args s 0 0 (cq_free P0 false)) (F0 m 2 ls [])) : ∀ (P : Pic) (a0 : Nat) (x1 : Int32) (x2 : Int32) (t0 : Int32) (t1 : Int32) (t2 : Nat) (H : Heap) (locs : List Loc) (cells slots : Nat) (ls : Array Slot), wb_Mo_planFor_26 po th K2 P a0 x1 x2 t0 t1 t2 → Pi D P H → Sg (cq_A P0 s) s.heap H P locs → lv_has ls 4 [(0, .ref a0), (1, .int x1), (2, .int x2)] → cells + 0 ≤ 0 → slots + 0 ≤ 0 → W p l e rm_Mo_planFor s m args below meth c H locs cells slots (mt_MQ below (cq_Q D P0 false po th) args s 0 0 (cq_free P0 false)) (F0 m 26 ls [.int t0, .int t1, .ref t2]) := by
  intro P a0 x1 x2 t0 t1 t2 H locs cells slots ls h hP hS hl hcc hss
  obtain ⟨hx, hb, hml, hown, hlocks, htr, hT, hK, hSt, hN, hP0⟩ := id C
  have L13_12 : pq_fl s m args 13 12 5 := ⟨_, "WaterWorksModel", "WaterWorksModel", rfl, by decide, hown, Or.inl (hT _ k_1109 _), (fun _ z => z)⟩
  have L17_12 : pq_fl s m args 17 12 6 := ⟨_, "WaterWorksModel", "WaterWorksModel", rfl, by decide, hown, Or.inl (hT _ k_1110 _), (fun _ z => z)⟩
  have L20_12 : pq_fl s m args 20 12 7 := ⟨_, "WaterWorksModel", "WaterWorksModel", rfl, by decide, hown, Or.inl (hT _ k_1111 _), (fun _ z => z)⟩
  have L23_12 : pq_fl s m args 23 12 8 := ⟨_, "WaterWorksModel", "WaterWorksModel", rfl, by decide, hown, Or.inl (hT _ k_1112 _), (fun _ z => z)⟩
  have L29_12 : pq_fl s m args 29 12 10 := ⟨_, "WaterWorksModel", "WaterWorksModel", rfl, by decide, hown, Or.inl (hT _ k_1114 _), (fun _ z => z)⟩
  have L32_12 : pq_fl s m args 32 12 11 := ⟨_, "WaterWorksModel", "WaterWorksModel", rfl, by decide, hown, Or.inl (hT _ k_1115 _), (fun _ z => z)⟩
  have L35_12 : pq_fl s m args 35 12 12 := ⟨_, "WaterWorksModel", "WaterWorksModel", rfl, by decide, hown, Or.inl (hT _ k_1116 _), (fun _ z => z)⟩
  have L38_12 : pq_fl s m args 38 12 13 := ⟨_, "WaterWorksModel", "WaterWorksModel", rfl, by decide, hown, Or.inl (hT _ k_1117 _), (fun _ z => z)⟩
  have L7_12 : pq_fl s m args 7 12 4 := ⟨_, "WaterWorksModel", "WaterWorksModel", rfl, by decide, hown, Or.inl (hT _ k_1108 _), (fun _ z => z)⟩
  have L85_12 : pq_fl s m args 85 12 1 := ⟨_, "WaterWorksModel", "WaterWorksModel", rfl, by decide, hown, Or.inl (hT _ k_1105 _), (fun _ z => z)⟩
  have L88_12 : pq_fl s m args 88 12 2 := ⟨_, "WaterWorksModel", "WaterWorksModel", rfl, by decide, hown, Or.inl (hT _ k_1106 _), (fun _ z => z)⟩
  unfold wb_Mo_planFor_26 at h
  obtain ⟨hk105, h⟩ := h
  obtain ⟨hi106, h⟩ := h
  obtain ⟨hz107, h⟩ := h
  refine pq_zast (pc := 26) hx hb hK hP hS hk105 hi106 hz107 d_Mo_planFor_26 (fun H locs hP hS => ?_)
  have hk105 : p_k (s_ai P t2 (Int32.toNatClampNeg t1) t0) t2 = 103 := by rw [pk_ai]; exact hk105
  obtain ⟨x108, ex108⟩ : ∃ z : Int32, z = x2 + 1 := ⟨_, rfl⟩
  replace h := h x108 ex108
  refine lv_iinc (pc := 27) (v := x108) (lv' := [(2, .int x108), (0, .ref a0), (1, .int x1)]) hx hb d_Mo_planFor_27 hl (k := 2) rfl (by rw [ex108]; rfl) (by decide) rfl (fun ls hl => ?_)
  refine lv_goto (pc := 30) (tgt := 2) hx hb d_Mo_planFor_30 (by decide) ?_
  exact HK2 _ a0 x1 x108 _ _ _ _ _ h hP hS (lv_sub hl [1, 2, 0] rfl) (show cells + 0 ≤ 0 by omega) (show slots + 0 ≤ 0 by omega)
set_option maxHeartbeats 4000000 in
set_option maxRecDepth 100000 in
theorem wk_Mo_planFor_82 {p : Program} {l : Launch} {e : Env} {s : State} {m : MethodId} {args : Array Value} {below : List Frame} {meth : Method} {c : Code} {D : pq_D} {P0 : Pic} {po : Option Value → Pic → Prop} {th : String → Pic → Prop} {K35 : Pic → Nat → Int32 → Int32 → Prop} (hfl : l.flags = flags0) (C : Cx p e s m args meth c prog_15_method_17_code 4 "WaterWorksModel" D P0) (hmg : e.platform.magicAccessors = ({} : Platform).magicAccessors) (hr : meth.sig.returnType = (some .boolean)) (hin : meth.name = "planFor") (htab : c.exceptionTable.toList = tableOf []) (HK35 : ∀ (P : Pic) (a0 : Nat) (x1 : Int32) (x2 : Int32) (H : Heap) (locs : List Loc) (cells slots : Nat) (ls : Array Slot), K35 P a0 x1 x2 → Pi D P H → Sg (cq_A P0 s) s.heap H P locs → lv_has ls 4 [(0, .ref a0), (1, .int x1), (2, .int x2)] → cells + 0 ≤ 0 → slots + 0 ≤ 0 → W p l e rm_Mo_planFor s m args below meth c H locs cells slots (mt_MQ below (cq_Q D P0 false po th) args s 0 0 (cq_free P0 false)) (F0 m 35 ls [])) : ∀ (P : Pic) (a0 : Nat) (x1 : Int32) (x2 : Int32) (t0 : Int32) (t1 : Int32) (t2 : Nat) (H : Heap) (locs : List Loc) (cells slots : Nat) (ls : Array Slot), wb_Mo_planFor_82 po th K35 P a0 x1 x2 t0 t1 t2 → Pi D P H → Sg (cq_A P0 s) s.heap H P locs → lv_has ls 4 [(0, .ref a0), (1, .int x1), (2, .int x2)] → cells + 0 ≤ 0 → slots + 0 ≤ 0 → W p l e rm_Mo_planFor s m args below meth c H locs cells slots (mt_MQ below (cq_Q D P0 false po th) args s 0 0 (cq_free P0 false)) (F0 m 82 ls [.int t0, .int t1, .ref t2]) := by
  intro P a0 x1 x2 t0 t1 t2 H locs cells slots ls h hP hS hl hcc hss
  obtain ⟨hx, hb, hml, hown, hlocks, htr, hT, hK, hSt, hN, hP0⟩ := id C
  have L13_12 : pq_fl s m args 13 12 5 := ⟨_, "WaterWorksModel", "WaterWorksModel", rfl, by decide, hown, Or.inl (hT _ k_1109 _), (fun _ z => z)⟩
  have L17_12 : pq_fl s m args 17 12 6 := ⟨_, "WaterWorksModel", "WaterWorksModel", rfl, by decide, hown, Or.inl (hT _ k_1110 _), (fun _ z => z)⟩
  have L20_12 : pq_fl s m args 20 12 7 := ⟨_, "WaterWorksModel", "WaterWorksModel", rfl, by decide, hown, Or.inl (hT _ k_1111 _), (fun _ z => z)⟩
  have L23_12 : pq_fl s m args 23 12 8 := ⟨_, "WaterWorksModel", "WaterWorksModel", rfl, by decide, hown, Or.inl (hT _ k_1112 _), (fun _ z => z)⟩
  have L29_12 : pq_fl s m args 29 12 10 := ⟨_, "WaterWorksModel", "WaterWorksModel", rfl, by decide, hown, Or.inl (hT _ k_1114 _), (fun _ z => z)⟩
  have L32_12 : pq_fl s m args 32 12 11 := ⟨_, "WaterWorksModel", "WaterWorksModel", rfl, by decide, hown, Or.inl (hT _ k_1115 _), (fun _ z => z)⟩
  have L35_12 : pq_fl s m args 35 12 12 := ⟨_, "WaterWorksModel", "WaterWorksModel", rfl, by decide, hown, Or.inl (hT _ k_1116 _), (fun _ z => z)⟩
  have L38_12 : pq_fl s m args 38 12 13 := ⟨_, "WaterWorksModel", "WaterWorksModel", rfl, by decide, hown, Or.inl (hT _ k_1117 _), (fun _ z => z)⟩
  have L7_12 : pq_fl s m args 7 12 4 := ⟨_, "WaterWorksModel", "WaterWorksModel", rfl, by decide, hown, Or.inl (hT _ k_1108 _), (fun _ z => z)⟩
  have L85_12 : pq_fl s m args 85 12 1 := ⟨_, "WaterWorksModel", "WaterWorksModel", rfl, by decide, hown, Or.inl (hT _ k_1105 _), (fun _ z => z)⟩
  have L88_12 : pq_fl s m args 88 12 2 := ⟨_, "WaterWorksModel", "WaterWorksModel", rfl, by decide, hown, Or.inl (hT _ k_1106 _), (fun _ z => z)⟩
  unfold wb_Mo_planFor_82 at h
  obtain ⟨hk125, h⟩ := h
  obtain ⟨hi126, h⟩ := h
  obtain ⟨hz127, h⟩ := h
  refine pq_zast (pc := 82) hx hb hK hP hS hk125 hi126 hz127 d_Mo_planFor_82 (fun H locs hP hS => ?_)
  have hk125 : p_k (s_ai P t2 (Int32.toNatClampNeg t1) t0) t2 = 103 := by rw [pk_ai]; exact hk125
  obtain ⟨x128, ex128⟩ : ∃ z : Int32, z = x2 + 1 := ⟨_, rfl⟩
  replace h := h x128 ex128
  refine lv_iinc (pc := 83) (v := x128) (lv' := [(2, .int x128), (0, .ref a0), (1, .int x1)]) hx hb d_Mo_planFor_83 hl (k := 2) rfl (by rw [ex128]; rfl) (by decide) rfl (fun ls hl => ?_)
  refine lv_goto (pc := 86) (tgt := 35) hx hb d_Mo_planFor_86 (by decide) ?_
  exact HK35 _ a0 x1 x128 _ _ _ _ _ h hP hS (lv_sub hl [1, 2, 0] rfl) (show cells + 0 ≤ 0 by omega) (show slots + 0 ≤ 0 by omega)
set_option maxHeartbeats 4000000 in
set_option maxRecDepth 100000 in
theorem wk_Mo_planFor_77 {p : Program} {l : Launch} {e : Env} {s : State} {m : MethodId} {args : Array Value} {below : List Frame} {meth : Method} {c : Code} {D : pq_D} {P0 : Pic} {po : Option Value → Pic → Prop} {th : String → Pic → Prop} {K35 : Pic → Nat → Int32 → Int32 → Prop} (hfl : l.flags = flags0) (C : Cx p e s m args meth c prog_15_method_17_code 4 "WaterWorksModel" D P0) (hmg : e.platform.magicAccessors = ({} : Platform).magicAccessors) (hr : meth.sig.returnType = (some .boolean)) (hin : meth.name = "planFor") (htab : c.exceptionTable.toList = tableOf []) (HK35 : ∀ (P : Pic) (a0 : Nat) (x1 : Int32) (x2 : Int32) (H : Heap) (locs : List Loc) (cells slots : Nat) (ls : Array Slot), K35 P a0 x1 x2 → Pi D P H → Sg (cq_A P0 s) s.heap H P locs → lv_has ls 4 [(0, .ref a0), (1, .int x1), (2, .int x2)] → cells + 0 ≤ 0 → slots + 0 ≤ 0 → W p l e rm_Mo_planFor s m args below meth c H locs cells slots (mt_MQ below (cq_Q D P0 false po th) args s 0 0 (cq_free P0 false)) (F0 m 35 ls [])) : ∀ (P : Pic) (a0 : Nat) (x1 : Int32) (x2 : Int32) (t0 : Int32) (t1 : Nat) (H : Heap) (locs : List Loc) (cells slots : Nat) (ls : Array Slot), wb_Mo_planFor_77 po th K35 P a0 x1 x2 t0 t1 → Pi D P H → Sg (cq_A P0 s) s.heap H P locs → lv_has ls 4 [(0, .ref a0), (1, .int x1), (2, .int x2)] → cells + 0 ≤ 0 → slots + 0 ≤ 0 → W p l e rm_Mo_planFor s m args below meth c H locs cells slots (mt_MQ below (cq_Q D P0 false po th) args s 0 0 (cq_free P0 false)) (F0 m 77 ls [.int t0, .ref t1]) := by
  intro P a0 x1 x2 t0 t1 H locs cells slots ls h hP hS hl hcc hss
  obtain ⟨hx, hb, hml, hown, hlocks, htr, hT, hK, hSt, hN, hP0⟩ := id C
  have L13_12 : pq_fl s m args 13 12 5 := ⟨_, "WaterWorksModel", "WaterWorksModel", rfl, by decide, hown, Or.inl (hT _ k_1109 _), (fun _ z => z)⟩
  have L17_12 : pq_fl s m args 17 12 6 := ⟨_, "WaterWorksModel", "WaterWorksModel", rfl, by decide, hown, Or.inl (hT _ k_1110 _), (fun _ z => z)⟩
  have L20_12 : pq_fl s m args 20 12 7 := ⟨_, "WaterWorksModel", "WaterWorksModel", rfl, by decide, hown, Or.inl (hT _ k_1111 _), (fun _ z => z)⟩
  have L23_12 : pq_fl s m args 23 12 8 := ⟨_, "WaterWorksModel", "WaterWorksModel", rfl, by decide, hown, Or.inl (hT _ k_1112 _), (fun _ z => z)⟩
  have L29_12 : pq_fl s m args 29 12 10 := ⟨_, "WaterWorksModel", "WaterWorksModel", rfl, by decide, hown, Or.inl (hT _ k_1114 _), (fun _ z => z)⟩
  have L32_12 : pq_fl s m args 32 12 11 := ⟨_, "WaterWorksModel", "WaterWorksModel", rfl, by decide, hown, Or.inl (hT _ k_1115 _), (fun _ z => z)⟩
  have L35_12 : pq_fl s m args 35 12 12 := ⟨_, "WaterWorksModel", "WaterWorksModel", rfl, by decide, hown, Or.inl (hT _ k_1116 _), (fun _ z => z)⟩
  have L38_12 : pq_fl s m args 38 12 13 := ⟨_, "WaterWorksModel", "WaterWorksModel", rfl, by decide, hown, Or.inl (hT _ k_1117 _), (fun _ z => z)⟩
  have L7_12 : pq_fl s m args 7 12 4 := ⟨_, "WaterWorksModel", "WaterWorksModel", rfl, by decide, hown, Or.inl (hT _ k_1108 _), (fun _ z => z)⟩
  have L85_12 : pq_fl s m args 85 12 1 := ⟨_, "WaterWorksModel", "WaterWorksModel", rfl, by decide, hown, Or.inl (hT _ k_1105 _), (fun _ z => z)⟩
  have L88_12 : pq_fl s m args 88 12 2 := ⟨_, "WaterWorksModel", "WaterWorksModel", rfl, by decide, hown, Or.inl (hT _ k_1106 _), (fun _ z => z)⟩
  unfold wb_Mo_planFor_77 at h
  refine lv_iconst (pc := 77) (v := 1) hx hb d_Mo_planFor_77 (by decide) ?_
  refine lv_goto (pc := 78) (tgt := 82) hx hb d_Mo_planFor_78 (by decide) ?_
  exact wk_Mo_planFor_82 hfl C hmg hr hin htab HK35 _ a0 x1 x2 (1 : Int32) t0 t1 _ _ _ _ _ h hP hS (lv_sub hl [0, 1, 2] rfl) (show cells + 0 ≤ 0 by omega) (show slots + 0 ≤ 0 by omega)
set_option maxHeartbeats 4000000 in
set_option maxRecDepth 100000 in
theorem wk_Mo_planFor_81 {p : Program} {l : Launch} {e : Env} {s : State} {m : MethodId} {args : Array Value} {below : List Frame} {meth : Method} {c : Code} {D : pq_D} {P0 : Pic} {po : Option Value → Pic → Prop} {th : String → Pic → Prop} {K35 : Pic → Nat → Int32 → Int32 → Prop} (hfl : l.flags = flags0) (C : Cx p e s m args meth c prog_15_method_17_code 4 "WaterWorksModel" D P0) (hmg : e.platform.magicAccessors = ({} : Platform).magicAccessors) (hr : meth.sig.returnType = (some .boolean)) (hin : meth.name = "planFor") (htab : c.exceptionTable.toList = tableOf []) (HK35 : ∀ (P : Pic) (a0 : Nat) (x1 : Int32) (x2 : Int32) (H : Heap) (locs : List Loc) (cells slots : Nat) (ls : Array Slot), K35 P a0 x1 x2 → Pi D P H → Sg (cq_A P0 s) s.heap H P locs → lv_has ls 4 [(0, .ref a0), (1, .int x1), (2, .int x2)] → cells + 0 ≤ 0 → slots + 0 ≤ 0 → W p l e rm_Mo_planFor s m args below meth c H locs cells slots (mt_MQ below (cq_Q D P0 false po th) args s 0 0 (cq_free P0 false)) (F0 m 35 ls [])) : ∀ (P : Pic) (a0 : Nat) (x1 : Int32) (x2 : Int32) (t0 : Int32) (t1 : Nat) (H : Heap) (locs : List Loc) (cells slots : Nat) (ls : Array Slot), wb_Mo_planFor_81 po th K35 P a0 x1 x2 t0 t1 → Pi D P H → Sg (cq_A P0 s) s.heap H P locs → lv_has ls 4 [(0, .ref a0), (1, .int x1), (2, .int x2)] → cells + 0 ≤ 0 → slots + 0 ≤ 0 → W p l e rm_Mo_planFor s m args below meth c H locs cells slots (mt_MQ below (cq_Q D P0 false po th) args s 0 0 (cq_free P0 false)) (F0 m 81 ls [.int t0, .ref t1]) := by
  intro P a0 x1 x2 t0 t1 H locs cells slots ls h hP hS hl hcc hss
  obtain ⟨hx, hb, hml, hown, hlocks, htr, hT, hK, hSt, hN, hP0⟩ := id C
  have L13_12 : pq_fl s m args 13 12 5 := ⟨_, "WaterWorksModel", "WaterWorksModel", rfl, by decide, hown, Or.inl (hT _ k_1109 _), (fun _ z => z)⟩
  have L17_12 : pq_fl s m args 17 12 6 := ⟨_, "WaterWorksModel", "WaterWorksModel", rfl, by decide, hown, Or.inl (hT _ k_1110 _), (fun _ z => z)⟩
  have L20_12 : pq_fl s m args 20 12 7 := ⟨_, "WaterWorksModel", "WaterWorksModel", rfl, by decide, hown, Or.inl (hT _ k_1111 _), (fun _ z => z)⟩
  have L23_12 : pq_fl s m args 23 12 8 := ⟨_, "WaterWorksModel", "WaterWorksModel", rfl, by decide, hown, Or.inl (hT _ k_1112 _), (fun _ z => z)⟩
  have L29_12 : pq_fl s m args 29 12 10 := ⟨_, "WaterWorksModel", "WaterWorksModel", rfl, by decide, hown, Or.inl (hT _ k_1114 _), (fun _ z => z)⟩
  have L32_12 : pq_fl s m args 32 12 11 := ⟨_, "WaterWorksModel", "WaterWorksModel", rfl, by decide, hown, Or.inl (hT _ k_1115 _), (fun _ z => z)⟩
  have L35_12 : pq_fl s m args 35 12 12 := ⟨_, "WaterWorksModel", "WaterWorksModel", rfl, by decide, hown, Or.inl (hT _ k_1116 _), (fun _ z => z)⟩
  have L38_12 : pq_fl s m args 38 12 13 := ⟨_, "WaterWorksModel", "WaterWorksModel", rfl, by decide, hown, Or.inl (hT _ k_1117 _), (fun _ z => z)⟩
  have L7_12 : pq_fl s m args 7 12 4 := ⟨_, "WaterWorksModel", "WaterWorksModel", rfl, by decide, hown, Or.inl (hT _ k_1108 _), (fun _ z => z)⟩
  have L85_12 : pq_fl s m args 85 12 1 := ⟨_, "WaterWorksModel", "WaterWorksModel", rfl, by decide, hown, Or.inl (hT _ k_1105 _), (fun _ z => z)⟩
  have L88_12 : pq_fl s m args 88 12 2 := ⟨_, "WaterWorksModel", "WaterWorksModel", rfl, by decide, hown, Or.inl (hT _ k_1106 _), (fun _ z => z)⟩
  unfold wb_Mo_planFor_81 at h
  refine lv_iconst (pc := 81) (v := 0) hx hb d_Mo_planFor_81 (by decide) ?_
  exact wk_Mo_planFor_82 hfl C hmg hr hin htab HK35 _ a0 x1 x2 (0 : Int32) t0 t1 _ _ _ _ _ h hP hS (lv_sub hl [0, 1, 2] rfl) (show cells + 0 ≤ 0 by omega) (show slots + 0 ≤ 0 by omega)
set_option maxHeartbeats 4000000 in
set_option maxRecDepth 100000 in
theorem wk_Mo_planFor_150 {p : Program} {l : Launch} {e : Env} {s : State} {m : MethodId} {args : Array Value} {below : List Frame} {meth : Method} {c : Code} {D : pq_D} {P0 : Pic} {po : Option Value → Pic → Prop} {th : String → Pic → Prop} {K97 : Pic → Nat → Int32 → Int32 → Int32 → Prop} (hfl : l.flags = flags0) (C : Cx p e s m args meth c prog_15_method_17_code 4 "WaterWorksModel" D P0) (hmg : e.platform.magicAccessors = ({} : Platform).magicAccessors) (hr : meth.sig.returnType = (some .boolean)) (hin : meth.name = "planFor") (htab : c.exceptionTable.toList = tableOf []) (HK97 : ∀ (P : Pic) (a0 : Nat) (x1 : Int32) (x2 : Int32) (x3 : Int32) (H : Heap) (locs : List Loc) (cells slots : Nat) (ls : Array Slot), K97 P a0 x1 x2 x3 → Pi D P H → Sg (cq_A P0 s) s.heap H P locs → lv_has ls 4 [(0, .ref a0), (1, .int x1), (2, .int x2), (3, .int x3)] → cells + 0 ≤ 0 → slots + 0 ≤ 0 → W p l e rm_Mo_planFor s m args below meth c H locs cells slots (mt_MQ below (cq_Q D P0 false po th) args s 0 0 (cq_free P0 false)) (F0 m 97 ls [])) : ∀ (P : Pic) (a0 : Nat) (x1 : Int32) (x3 : Int32) (t0 : Int32) (H : Heap) (locs : List Loc) (cells slots : Nat) (ls : Array Slot), wb_Mo_planFor_150 po th K97 P a0 x1 x3 t0 → Pi D P H → Sg (cq_A P0 s) s.heap H P locs → lv_has ls 4 [(0, .ref a0), (1, .int x1), (3, .int x3)] → cells + 0 ≤ 0 → slots + 0 ≤ 0 → W p l e rm_Mo_planFor s m args below meth c H locs cells slots (mt_MQ below (cq_Q D P0 false po th) args s 0 0 (cq_free P0 false)) (F0 m 150 ls [.int t0]) := by
  intro P a0 x1 x3 t0 H locs cells slots ls h hP hS hl hcc hss
  obtain ⟨hx, hb, hml, hown, hlocks, htr, hT, hK, hSt, hN, hP0⟩ := id C
  have L13_12 : pq_fl s m args 13 12 5 := ⟨_, "WaterWorksModel", "WaterWorksModel", rfl, by decide, hown, Or.inl (hT _ k_1109 _), (fun _ z => z)⟩
  have L17_12 : pq_fl s m args 17 12 6 := ⟨_, "WaterWorksModel", "WaterWorksModel", rfl, by decide, hown, Or.inl (hT _ k_1110 _), (fun _ z => z)⟩
  have L20_12 : pq_fl s m args 20 12 7 := ⟨_, "WaterWorksModel", "WaterWorksModel", rfl, by decide, hown, Or.inl (hT _ k_1111 _), (fun _ z => z)⟩
  have L23_12 : pq_fl s m args 23 12 8 := ⟨_, "WaterWorksModel", "WaterWorksModel", rfl, by decide, hown, Or.inl (hT _ k_1112 _), (fun _ z => z)⟩
  have L29_12 : pq_fl s m args 29 12 10 := ⟨_, "WaterWorksModel", "WaterWorksModel", rfl, by decide, hown, Or.inl (hT _ k_1114 _), (fun _ z => z)⟩
  have L32_12 : pq_fl s m args 32 12 11 := ⟨_, "WaterWorksModel", "WaterWorksModel", rfl, by decide, hown, Or.inl (hT _ k_1115 _), (fun _ z => z)⟩
  have L35_12 : pq_fl s m args 35 12 12 := ⟨_, "WaterWorksModel", "WaterWorksModel", rfl, by decide, hown, Or.inl (hT _ k_1116 _), (fun _ z => z)⟩
  have L38_12 : pq_fl s m args 38 12 13 := ⟨_, "WaterWorksModel", "WaterWorksModel", rfl, by decide, hown, Or.inl (hT _ k_1117 _), (fun _ z => z)⟩
  have L7_12 : pq_fl s m args 7 12 4 := ⟨_, "WaterWorksModel", "WaterWorksModel", rfl, by decide, hown, Or.inl (hT _ k_1108 _), (fun _ z => z)⟩
  have L85_12 : pq_fl s m args 85 12 1 := ⟨_, "WaterWorksModel", "WaterWorksModel", rfl, by decide, hown, Or.inl (hT _ k_1105 _), (fun _ z => z)⟩
  have L88_12 : pq_fl s m args 88 12 2 := ⟨_, "WaterWorksModel", "WaterWorksModel", rfl, by decide, hown, Or.inl (hT _ k_1106 _), (fun _ z => z)⟩
  unfold wb_Mo_planFor_150 at h
  refine lv_istore_n (pc := 150) (lv' := [(2, .int t0), (0, .ref a0), (1, .int x1), (3, .int x3)]) hx hb d_Mo_planFor_150 rfl hl (by decide) rfl (fun ls hl => ?_)
  obtain ⟨x149, ex149⟩ : ∃ z : Int32, z = x3 + 1 := ⟨_, rfl⟩
  replace h := h x149 ex149
  refine lv_iinc (pc := 151) (v := x149) (lv' := [(3, .int x149), (2, .int t0), (0, .ref a0), (1, .int x1)]) hx hb d_Mo_planFor_151 hl (k := 3) rfl (by rw [ex149]; rfl) (by decide) rfl (fun ls hl => ?_)
  refine lv_goto (pc := 154) (tgt := 97) hx hb d_Mo_planFor_154 (by decide) ?_
  exact HK97 _ a0 x1 t0 x149 _ _ _ _ _ h hP hS (lv_sub hl [2, 3, 1, 0] rfl) (show cells + 0 ≤ 0 by omega) (show slots + 0 ≤ 0 by omega)
set_option maxHeartbeats 4000000 in
set_option maxRecDepth 100000 in
theorem wk_Mo_planFor_145 {p : Program} {l : Launch} {e : Env} {s : State} {m : MethodId} {args : Array Value} {below : List Frame} {meth : Method} {c : Code} {D : pq_D} {P0 : Pic} {po : Option Value → Pic → Prop} {th : String → Pic → Prop} {K97 : Pic → Nat → Int32 → Int32 → Int32 → Prop} (hfl : l.flags = flags0) (C : Cx p e s m args meth c prog_15_method_17_code 4 "WaterWorksModel" D P0) (hmg : e.platform.magicAccessors = ({} : Platform).magicAccessors) (hr : meth.sig.returnType = (some .boolean)) (hin : meth.name = "planFor") (htab : c.exceptionTable.toList = tableOf []) (HK97 : ∀ (P : Pic) (a0 : Nat) (x1 : Int32) (x2 : Int32) (x3 : Int32) (H : Heap) (locs : List Loc) (cells slots : Nat) (ls : Array Slot), K97 P a0 x1 x2 x3 → Pi D P H → Sg (cq_A P0 s) s.heap H P locs → lv_has ls 4 [(0, .ref a0), (1, .int x1), (2, .int x2), (3, .int x3)] → cells + 0 ≤ 0 → slots + 0 ≤ 0 → W p l e rm_Mo_planFor s m args below meth c H locs cells slots (mt_MQ below (cq_Q D P0 false po th) args s 0 0 (cq_free P0 false)) (F0 m 97 ls [])) : ∀ (P : Pic) (a0 : Nat) (x1 : Int32) (x3 : Int32) (H : Heap) (locs : List Loc) (cells slots : Nat) (ls : Array Slot), wb_Mo_planFor_145 po th K97 P a0 x1 x3 → Pi D P H → Sg (cq_A P0 s) s.heap H P locs → lv_has ls 4 [(0, .ref a0), (1, .int x1), (3, .int x3)] → cells + 0 ≤ 0 → slots + 0 ≤ 0 → W p l e rm_Mo_planFor s m args below meth c H locs cells slots (mt_MQ below (cq_Q D P0 false po th) args s 0 0 (cq_free P0 false)) (F0 m 145 ls []) := by
  intro P a0 x1 x3 H locs cells slots ls h hP hS hl hcc hss
  obtain ⟨hx, hb, hml, hown, hlocks, htr, hT, hK, hSt, hN, hP0⟩ := id C
  have L13_12 : pq_fl s m args 13 12 5 := ⟨_, "WaterWorksModel", "WaterWorksModel", rfl, by decide, hown, Or.inl (hT _ k_1109 _), (fun _ z => z)⟩
  have L17_12 : pq_fl s m args 17 12 6 := ⟨_, "WaterWorksModel", "WaterWorksModel", rfl, by decide, hown, Or.inl (hT _ k_1110 _), (fun _ z => z)⟩
  have L20_12 : pq_fl s m args 20 12 7 := ⟨_, "WaterWorksModel", "WaterWorksModel", rfl, by decide, hown, Or.inl (hT _ k_1111 _), (fun _ z => z)⟩
  have L23_12 : pq_fl s m args 23 12 8 := ⟨_, "WaterWorksModel", "WaterWorksModel", rfl, by decide, hown, Or.inl (hT _ k_1112 _), (fun _ z => z)⟩
  have L29_12 : pq_fl s m args 29 12 10 := ⟨_, "WaterWorksModel", "WaterWorksModel", rfl, by decide, hown, Or.inl (hT _ k_1114 _), (fun _ z => z)⟩
  have L32_12 : pq_fl s m args 32 12 11 := ⟨_, "WaterWorksModel", "WaterWorksModel", rfl, by decide, hown, Or.inl (hT _ k_1115 _), (fun _ z => z)⟩
  have L35_12 : pq_fl s m args 35 12 12 := ⟨_, "WaterWorksModel", "WaterWorksModel", rfl, by decide, hown, Or.inl (hT _ k_1116 _), (fun _ z => z)⟩
  have L38_12 : pq_fl s m args 38 12 13 := ⟨_, "WaterWorksModel", "WaterWorksModel", rfl, by decide, hown, Or.inl (hT _ k_1117 _), (fun _ z => z)⟩
  have L7_12 : pq_fl s m args 7 12 4 := ⟨_, "WaterWorksModel", "WaterWorksModel", rfl, by decide, hown, Or.inl (hT _ k_1108 _), (fun _ z => z)⟩
  have L85_12 : pq_fl s m args 85 12 1 := ⟨_, "WaterWorksModel", "WaterWorksModel", rfl, by decide, hown, Or.inl (hT _ k_1105 _), (fun _ z => z)⟩
  have L88_12 : pq_fl s m args 88 12 2 := ⟨_, "WaterWorksModel", "WaterWorksModel", rfl, by decide, hown, Or.inl (hT _ k_1106 _), (fun _ z => z)⟩
  unfold wb_Mo_planFor_145 at h
  refine lv_iconst (pc := 145) (v := 1) hx hb d_Mo_planFor_145 (by decide) ?_
  refine lv_goto (pc := 146) (tgt := 150) hx hb d_Mo_planFor_146 (by decide) ?_
  exact wk_Mo_planFor_150 hfl C hmg hr hin htab HK97 _ a0 x1 x3 (1 : Int32) _ _ _ _ _ h hP hS (lv_sub hl [0, 1, 2] rfl) (show cells + 0 ≤ 0 by omega) (show slots + 0 ≤ 0 by omega)
set_option maxHeartbeats 4000000 in
set_option maxRecDepth 100000 in
theorem wk_Mo_planFor_149 {p : Program} {l : Launch} {e : Env} {s : State} {m : MethodId} {args : Array Value} {below : List Frame} {meth : Method} {c : Code} {D : pq_D} {P0 : Pic} {po : Option Value → Pic → Prop} {th : String → Pic → Prop} {K97 : Pic → Nat → Int32 → Int32 → Int32 → Prop} (hfl : l.flags = flags0) (C : Cx p e s m args meth c prog_15_method_17_code 4 "WaterWorksModel" D P0) (hmg : e.platform.magicAccessors = ({} : Platform).magicAccessors) (hr : meth.sig.returnType = (some .boolean)) (hin : meth.name = "planFor") (htab : c.exceptionTable.toList = tableOf []) (HK97 : ∀ (P : Pic) (a0 : Nat) (x1 : Int32) (x2 : Int32) (x3 : Int32) (H : Heap) (locs : List Loc) (cells slots : Nat) (ls : Array Slot), K97 P a0 x1 x2 x3 → Pi D P H → Sg (cq_A P0 s) s.heap H P locs → lv_has ls 4 [(0, .ref a0), (1, .int x1), (2, .int x2), (3, .int x3)] → cells + 0 ≤ 0 → slots + 0 ≤ 0 → W p l e rm_Mo_planFor s m args below meth c H locs cells slots (mt_MQ below (cq_Q D P0 false po th) args s 0 0 (cq_free P0 false)) (F0 m 97 ls [])) : ∀ (P : Pic) (a0 : Nat) (x1 : Int32) (x3 : Int32) (H : Heap) (locs : List Loc) (cells slots : Nat) (ls : Array Slot), wb_Mo_planFor_149 po th K97 P a0 x1 x3 → Pi D P H → Sg (cq_A P0 s) s.heap H P locs → lv_has ls 4 [(0, .ref a0), (1, .int x1), (3, .int x3)] → cells + 0 ≤ 0 → slots + 0 ≤ 0 → W p l e rm_Mo_planFor s m args below meth c H locs cells slots (mt_MQ below (cq_Q D P0 false po th) args s 0 0 (cq_free P0 false)) (F0 m 149 ls []) := by
  intro P a0 x1 x3 H locs cells slots ls h hP hS hl hcc hss
  obtain ⟨hx, hb, hml, hown, hlocks, htr, hT, hK, hSt, hN, hP0⟩ := id C
  have L13_12 : pq_fl s m args 13 12 5 := ⟨_, "WaterWorksModel", "WaterWorksModel", rfl, by decide, hown, Or.inl (hT _ k_1109 _), (fun _ z => z)⟩
  have L17_12 : pq_fl s m args 17 12 6 := ⟨_, "WaterWorksModel", "WaterWorksModel", rfl, by decide, hown, Or.inl (hT _ k_1110 _), (fun _ z => z)⟩
  have L20_12 : pq_fl s m args 20 12 7 := ⟨_, "WaterWorksModel", "WaterWorksModel", rfl, by decide, hown, Or.inl (hT _ k_1111 _), (fun _ z => z)⟩
  have L23_12 : pq_fl s m args 23 12 8 := ⟨_, "WaterWorksModel", "WaterWorksModel", rfl, by decide, hown, Or.inl (hT _ k_1112 _), (fun _ z => z)⟩
  have L29_12 : pq_fl s m args 29 12 10 := ⟨_, "WaterWorksModel", "WaterWorksModel", rfl, by decide, hown, Or.inl (hT _ k_1114 _), (fun _ z => z)⟩
  have L32_12 : pq_fl s m args 32 12 11 := ⟨_, "WaterWorksModel", "WaterWorksModel", rfl, by decide, hown, Or.inl (hT _ k_1115 _), (fun _ z => z)⟩
  have L35_12 : pq_fl s m args 35 12 12 := ⟨_, "WaterWorksModel", "WaterWorksModel", rfl, by decide, hown, Or.inl (hT _ k_1116 _), (fun _ z => z)⟩
  have L38_12 : pq_fl s m args 38 12 13 := ⟨_, "WaterWorksModel", "WaterWorksModel", rfl, by decide, hown, Or.inl (hT _ k_1117 _), (fun _ z => z)⟩
  have L7_12 : pq_fl s m args 7 12 4 := ⟨_, "WaterWorksModel", "WaterWorksModel", rfl, by decide, hown, Or.inl (hT _ k_1108 _), (fun _ z => z)⟩
  have L85_12 : pq_fl s m args 85 12 1 := ⟨_, "WaterWorksModel", "WaterWorksModel", rfl, by decide, hown, Or.inl (hT _ k_1105 _), (fun _ z => z)⟩
  have L88_12 : pq_fl s m args 88 12 2 := ⟨_, "WaterWorksModel", "WaterWorksModel", rfl, by decide, hown, Or.inl (hT _ k_1106 _), (fun _ z => z)⟩
  unfold wb_Mo_planFor_149 at h
  refine lv_iconst (pc := 149) (v := 0) hx hb d_Mo_planFor_149 (by decide) ?_
  exact wk_Mo_planFor_150 hfl C hmg hr hin htab HK97 _ a0 x1 x3 (0 : Int32) _ _ _ _ _ h hP hS (lv_sub hl [0, 1, 2] rfl) (show cells + 0 ≤ 0 by omega) (show slots + 0 ≤ 0 by omega)
set_option maxHeartbeats 4000000 in
set_option maxRecDepth 100000 in
theorem wk_Mo_planFor_222 {p : Program} {l : Launch} {e : Env} {s : State} {m : MethodId} {args : Array Value} {below : List Frame} {meth : Method} {c : Code} {D : pq_D} {P0 : Pic} {po : Option Value → Pic → Prop} {th : String → Pic → Prop} {K159 : Pic → Nat → Int32 → Int32 → Int32 → Prop} (hfl : l.flags = flags0) (C : Cx p e s m args meth c prog_15_method_17_code 4 "WaterWorksModel" D P0) (hmg : e.platform.magicAccessors = ({} : Platform).magicAccessors) (hr : meth.sig.returnType = (some .boolean)) (hin : meth.name = "planFor") (htab : c.exceptionTable.toList = tableOf []) (HK159 : ∀ (P : Pic) (a0 : Nat) (x1 : Int32) (x2 : Int32) (x3 : Int32) (H : Heap) (locs : List Loc) (cells slots : Nat) (ls : Array Slot), K159 P a0 x1 x2 x3 → Pi D P H → Sg (cq_A P0 s) s.heap H P locs → lv_has ls 4 [(0, .ref a0), (1, .int x1), (2, .int x2), (3, .int x3)] → cells + 0 ≤ 0 → slots + 0 ≤ 0 → W p l e rm_Mo_planFor s m args below meth c H locs cells slots (mt_MQ below (cq_Q D P0 false po th) args s 0 0 (cq_free P0 false)) (F0 m 159 ls [])) : ∀ (P : Pic) (a0 : Nat) (x1 : Int32) (x2 : Int32) (x3 : Int32) (t0 : Int32) (t1 : Int32) (t2 : Nat) (H : Heap) (locs : List Loc) (cells slots : Nat) (ls : Array Slot), wb_Mo_planFor_222 po th K159 P a0 x1 x2 x3 t0 t1 t2 → Pi D P H → Sg (cq_A P0 s) s.heap H P locs → lv_has ls 4 [(0, .ref a0), (1, .int x1), (2, .int x2), (3, .int x3)] → cells + 0 ≤ 0 → slots + 0 ≤ 0 → W p l e rm_Mo_planFor s m args below meth c H locs cells slots (mt_MQ below (cq_Q D P0 false po th) args s 0 0 (cq_free P0 false)) (F0 m 222 ls [.int t0, .int t1, .ref t2]) := by
  intro P a0 x1 x2 x3 t0 t1 t2 H locs cells slots ls h hP hS hl hcc hss
  obtain ⟨hx, hb, hml, hown, hlocks, htr, hT, hK, hSt, hN, hP0⟩ := id C
  have L13_12 : pq_fl s m args 13 12 5 := ⟨_, "WaterWorksModel", "WaterWorksModel", rfl, by decide, hown, Or.inl (hT _ k_1109 _), (fun _ z => z)⟩
  have L17_12 : pq_fl s m args 17 12 6 := ⟨_, "WaterWorksModel", "WaterWorksModel", rfl, by decide, hown, Or.inl (hT _ k_1110 _), (fun _ z => z)⟩
  have L20_12 : pq_fl s m args 20 12 7 := ⟨_, "WaterWorksModel", "WaterWorksModel", rfl, by decide, hown, Or.inl (hT _ k_1111 _), (fun _ z => z)⟩
  have L23_12 : pq_fl s m args 23 12 8 := ⟨_, "WaterWorksModel", "WaterWorksModel", rfl, by decide, hown, Or.inl (hT _ k_1112 _), (fun _ z => z)⟩
  have L29_12 : pq_fl s m args 29 12 10 := ⟨_, "WaterWorksModel", "WaterWorksModel", rfl, by decide, hown, Or.inl (hT _ k_1114 _), (fun _ z => z)⟩
  have L32_12 : pq_fl s m args 32 12 11 := ⟨_, "WaterWorksModel", "WaterWorksModel", rfl, by decide, hown, Or.inl (hT _ k_1115 _), (fun _ z => z)⟩
  have L35_12 : pq_fl s m args 35 12 12 := ⟨_, "WaterWorksModel", "WaterWorksModel", rfl, by decide, hown, Or.inl (hT _ k_1116 _), (fun _ z => z)⟩
  have L38_12 : pq_fl s m args 38 12 13 := ⟨_, "WaterWorksModel", "WaterWorksModel", rfl, by decide, hown, Or.inl (hT _ k_1117 _), (fun _ z => z)⟩
  have L7_12 : pq_fl s m args 7 12 4 := ⟨_, "WaterWorksModel", "WaterWorksModel", rfl, by decide, hown, Or.inl (hT _ k_1108 _), (fun _ z => z)⟩
  have L85_12 : pq_fl s m args 85 12 1 := ⟨_, "WaterWorksModel", "WaterWorksModel", rfl, by decide, hown, Or.inl (hT _ k_1105 _), (fun _ z => z)⟩
  have L88_12 : pq_fl s m args 88 12 2 := ⟨_, "WaterWorksModel", "WaterWorksModel", rfl, by decide, hown, Or.inl (hT _ k_1106 _), (fun _ z => z)⟩
  unfold wb_Mo_planFor_222 at h
  obtain ⟨hk167, h⟩ := h
  obtain ⟨hi168, h⟩ := h
  obtain ⟨hz169, h⟩ := h
  refine pq_zast (pc := 222) hx hb hK hP hS hk167 hi168 hz169 d_Mo_planFor_222 (fun H locs hP hS => ?_)
  have hk167 : p_k (s_ai P t2 (Int32.toNatClampNeg t1) t0) t2 = 103 := by rw [pk_ai]; exact hk167
  obtain ⟨x170, ex170⟩ : ∃ z : Int32, z = x3 + 1 := ⟨_, rfl⟩
  replace h := h x170 ex170
  refine lv_iinc (pc := 223) (v := x170) (lv' := [(3, .int x170), (0, .ref a0), (1, .int x1), (2, .int x2)]) hx hb d_Mo_planFor_223 hl (k := 3) rfl (by rw [ex170]; rfl) (by decide) rfl (fun ls hl => ?_)
  refine lv_goto (pc := 226) (tgt := 159) hx hb d_Mo_planFor_226 (by decide) ?_
  exact HK159 _ a0 x1 x2 x170 _ _ _ _ _ h hP hS (lv_sub hl [1, 2, 3, 0] rfl) (show cells + 0 ≤ 0 by omega) (show slots + 0 ≤ 0 by omega)
set_option maxHeartbeats 4000000 in
set_option maxRecDepth 100000 in
theorem wk_Mo_planFor_221 {p : Program} {l : Launch} {e : Env} {s : State} {m : MethodId} {args : Array Value} {below : List Frame} {meth : Method} {c : Code} {D : pq_D} {P0 : Pic} {po : Option Value → Pic → Prop} {th : String → Pic → Prop} {K159 : Pic → Nat → Int32 → Int32 → Int32 → Prop} (hfl : l.flags = flags0) (C : Cx p e s m args meth c prog_15_method_17_code 4 "WaterWorksModel" D P0) (hmg : e.platform.magicAccessors = ({} : Platform).magicAccessors) (hr : meth.sig.returnType = (some .boolean)) (hin : meth.name = "planFor") (htab : c.exceptionTable.toList = tableOf []) (HK159 : ∀ (P : Pic) (a0 : Nat) (x1 : Int32) (x2 : Int32) (x3 : Int32) (H : Heap) (locs : List Loc) (cells slots : Nat) (ls : Array Slot), K159 P a0 x1 x2 x3 → Pi D P H → Sg (cq_A P0 s) s.heap H P locs → lv_has ls 4 [(0, .ref a0), (1, .int x1), (2, .int x2), (3, .int x3)] → cells + 0 ≤ 0 → slots + 0 ≤ 0 → W p l e rm_Mo_planFor s m args below meth c H locs cells slots (mt_MQ below (cq_Q D P0 false po th) args s 0 0 (cq_free P0 false)) (F0 m 159 ls [])) : ∀ (P : Pic) (a0 : Nat) (x1 : Int32) (x2 : Int32) (x3 : Int32) (t0 : Int32) (t1 : Nat) (H : Heap) (locs : List Loc) (cells slots : Nat) (ls : Array Slot), wb_Mo_planFor_221 po th K159 P a0 x1 x2 x3 t0 t1 → Pi D P H → Sg (cq_A P0 s) s.heap H P locs → lv_has ls 4 [(0, .ref a0), (1, .int x1), (2, .int x2), (3, .int x3)] → cells + 0 ≤ 0 → slots + 0 ≤ 0 → W p l e rm_Mo_planFor s m args below meth c H locs cells slots (mt_MQ below (cq_Q D P0 false po th) args s 0 0 (cq_free P0 false)) (F0 m 221 ls [.int t0, .ref t1]) := by
  intro P a0 x1 x2 x3 t0 t1 H locs cells slots ls h hP hS hl hcc hss
  obtain ⟨hx, hb, hml, hown, hlocks, htr, hT, hK, hSt, hN, hP0⟩ := id C
  have L13_12 : pq_fl s m args 13 12 5 := ⟨_, "WaterWorksModel", "WaterWorksModel", rfl, by decide, hown, Or.inl (hT _ k_1109 _), (fun _ z => z)⟩
  have L17_12 : pq_fl s m args 17 12 6 := ⟨_, "WaterWorksModel", "WaterWorksModel", rfl, by decide, hown, Or.inl (hT _ k_1110 _), (fun _ z => z)⟩
  have L20_12 : pq_fl s m args 20 12 7 := ⟨_, "WaterWorksModel", "WaterWorksModel", rfl, by decide, hown, Or.inl (hT _ k_1111 _), (fun _ z => z)⟩
  have L23_12 : pq_fl s m args 23 12 8 := ⟨_, "WaterWorksModel", "WaterWorksModel", rfl, by decide, hown, Or.inl (hT _ k_1112 _), (fun _ z => z)⟩
  have L29_12 : pq_fl s m args 29 12 10 := ⟨_, "WaterWorksModel", "WaterWorksModel", rfl, by decide, hown, Or.inl (hT _ k_1114 _), (fun _ z => z)⟩
  have L32_12 : pq_fl s m args 32 12 11 := ⟨_, "WaterWorksModel", "WaterWorksModel", rfl, by decide, hown, Or.inl (hT _ k_1115 _), (fun _ z => z)⟩
  have L35_12 : pq_fl s m args 35 12 12 := ⟨_, "WaterWorksModel", "WaterWorksModel", rfl, by decide, hown, Or.inl (hT _ k_1116 _), (fun _ z => z)⟩
  have L38_12 : pq_fl s m args 38 12 13 := ⟨_, "WaterWorksModel", "WaterWorksModel", rfl, by decide, hown, Or.inl (hT _ k_1117 _), (fun _ z => z)⟩
  have L7_12 : pq_fl s m args 7 12 4 := ⟨_, "WaterWorksModel", "WaterWorksModel", rfl, by decide, hown, Or.inl (hT _ k_1108 _), (fun _ z => z)⟩
  have L85_12 : pq_fl s m args 85 12 1 := ⟨_, "WaterWorksModel", "WaterWorksModel", rfl, by decide, hown, Or.inl (hT _ k_1105 _), (fun _ z => z)⟩
  have L88_12 : pq_fl s m args 88 12 2 := ⟨_, "WaterWorksModel", "WaterWorksModel", rfl, by decide, hown, Or.inl (hT _ k_1106 _), (fun _ z => z)⟩
  unfold wb_Mo_planFor_221 at h
  refine lv_iconst (pc := 221) (v := 0) hx hb d_Mo_planFor_221 (by decide) ?_
  exact wk_Mo_planFor_222 hfl C hmg hr hin htab HK159 _ a0 x1 x2 x3 (0 : Int32) t0 t1 _ _ _ _ _ h hP hS (lv_sub hl [0, 1, 2, 3] rfl) (show cells + 0 ≤ 0 by omega) (show slots + 0 ≤ 0 by omega)
set_option maxHeartbeats 4000000 in
set_option maxRecDepth 100000 in
theorem wk_Mo_planFor_277 {p : Program} {l : Launch} {e : Env} {s : State} {m : MethodId} {args : Array Value} {below : List Frame} {meth : Method} {c : Code} {D : pq_D} {P0 : Pic} {po : Option Value → Pic → Prop} {th : String → Pic → Prop} {K231 : Pic → Nat → Int32 → Int32 → Int32 → Prop} (hfl : l.flags = flags0) (C : Cx p e s m args meth c prog_15_method_17_code 4 "WaterWorksModel" D P0) (hmg : e.platform.magicAccessors = ({} : Platform).magicAccessors) (hr : meth.sig.returnType = (some .boolean)) (hin : meth.name = "planFor") (htab : c.exceptionTable.toList = tableOf []) (HK231 : ∀ (P : Pic) (a0 : Nat) (x1 : Int32) (x2 : Int32) (x3 : Int32) (H : Heap) (locs : List Loc) (cells slots : Nat) (ls : Array Slot), K231 P a0 x1 x2 x3 → Pi D P H → Sg (cq_A P0 s) s.heap H P locs → lv_has ls 4 [(0, .ref a0), (1, .int x1), (2, .int x2), (3, .int x3)] → cells + 0 ≤ 0 → slots + 0 ≤ 0 → W p l e rm_Mo_planFor s m args below meth c H locs cells slots (mt_MQ below (cq_Q D P0 false po th) args s 0 0 (cq_free P0 false)) (F0 m 231 ls [])) : ∀ (P : Pic) (a0 : Nat) (x1 : Int32) (x2 : Int32) (x3 : Int32) (H : Heap) (locs : List Loc) (cells slots : Nat) (ls : Array Slot), wb_Mo_planFor_277 po th K231 P a0 x1 x2 x3 → Pi D P H → Sg (cq_A P0 s) s.heap H P locs → lv_has ls 4 [(0, .ref a0), (1, .int x1), (2, .int x2), (3, .int x3)] → cells + 0 ≤ 0 → slots + 0 ≤ 0 → W p l e rm_Mo_planFor s m args below meth c H locs cells slots (mt_MQ below (cq_Q D P0 false po th) args s 0 0 (cq_free P0 false)) (F0 m 277 ls []) := by
  intro P a0 x1 x2 x3 H locs cells slots ls h hP hS hl hcc hss
  obtain ⟨hx, hb, hml, hown, hlocks, htr, hT, hK, hSt, hN, hP0⟩ := id C
  have L13_12 : pq_fl s m args 13 12 5 := ⟨_, "WaterWorksModel", "WaterWorksModel", rfl, by decide, hown, Or.inl (hT _ k_1109 _), (fun _ z => z)⟩
  have L17_12 : pq_fl s m args 17 12 6 := ⟨_, "WaterWorksModel", "WaterWorksModel", rfl, by decide, hown, Or.inl (hT _ k_1110 _), (fun _ z => z)⟩
  have L20_12 : pq_fl s m args 20 12 7 := ⟨_, "WaterWorksModel", "WaterWorksModel", rfl, by decide, hown, Or.inl (hT _ k_1111 _), (fun _ z => z)⟩
  have L23_12 : pq_fl s m args 23 12 8 := ⟨_, "WaterWorksModel", "WaterWorksModel", rfl, by decide, hown, Or.inl (hT _ k_1112 _), (fun _ z => z)⟩
  have L29_12 : pq_fl s m args 29 12 10 := ⟨_, "WaterWorksModel", "WaterWorksModel", rfl, by decide, hown, Or.inl (hT _ k_1114 _), (fun _ z => z)⟩
  have L32_12 : pq_fl s m args 32 12 11 := ⟨_, "WaterWorksModel", "WaterWorksModel", rfl, by decide, hown, Or.inl (hT _ k_1115 _), (fun _ z => z)⟩
  have L35_12 : pq_fl s m args 35 12 12 := ⟨_, "WaterWorksModel", "WaterWorksModel", rfl, by decide, hown, Or.inl (hT _ k_1116 _), (fun _ z => z)⟩
  have L38_12 : pq_fl s m args 38 12 13 := ⟨_, "WaterWorksModel", "WaterWorksModel", rfl, by decide, hown, Or.inl (hT _ k_1117 _), (fun _ z => z)⟩
  have L7_12 : pq_fl s m args 7 12 4 := ⟨_, "WaterWorksModel", "WaterWorksModel", rfl, by decide, hown, Or.inl (hT _ k_1108 _), (fun _ z => z)⟩
  have L85_12 : pq_fl s m args 85 12 1 := ⟨_, "WaterWorksModel", "WaterWorksModel", rfl, by decide, hown, Or.inl (hT _ k_1105 _), (fun _ z => z)⟩
  have L88_12 : pq_fl s m args 88 12 2 := ⟨_, "WaterWorksModel", "WaterWorksModel", rfl, by decide, hown, Or.inl (hT _ k_1106 _), (fun _ z => z)⟩
  unfold wb_Mo_planFor_277 at h
  obtain ⟨x191, ex191⟩ : ∃ z : Int32, z = x3 + 1 := ⟨_, rfl⟩
  replace h := h x191 ex191
  refine lv_iinc (pc := 277) (v := x191) (lv' := [(3, .int x191), (0, .ref a0), (1, .int x1), (2, .int x2)]) hx hb d_Mo_planFor_277 hl (k := 3) rfl (by rw [ex191]; rfl) (by decide) rfl (fun ls hl => ?_)
  refine lv_goto (pc := 280) (tgt := 231) hx hb d_Mo_planFor_280 (by decide) ?_
  exact HK231 _ a0 x1 x2 x191 _ _ _ _ _ h hP hS (lv_sub hl [1, 2, 3, 0] rfl) (show cells + 0 ≤ 0 by omega) (show slots + 0 ≤ 0 by omega)
set_option maxHeartbeats 4000000 in
set_option maxRecDepth 100000 in
theorem wk_Mo_planFor_283 {p : Program} {l : Launch} {e : Env} {s : State} {m : MethodId} {args : Array Value} {below : List Frame} {meth : Method} {c : Code} {D : pq_D} {P0 : Pic} {po : Option Value → Pic → Prop} {th : String → Pic → Prop} (hfl : l.flags = flags0) (C : Cx p e s m args meth c prog_15_method_17_code 4 "WaterWorksModel" D P0) (hmg : e.platform.magicAccessors = ({} : Platform).magicAccessors) (hr : meth.sig.returnType = (some .boolean)) (hin : meth.name = "planFor") (htab : c.exceptionTable.toList = tableOf []) : ∀ (P : Pic) (x2 : Int32) (H : Heap) (locs : List Loc) (cells slots : Nat) (ls : Array Slot), wb_Mo_planFor_283 po th P x2 → Pi D P H → Sg (cq_A P0 s) s.heap H P locs → lv_has ls 4 [(2, .int x2)] → cells + 0 ≤ 0 → slots + 0 ≤ 0 → W p l e rm_Mo_planFor s m args below meth c H locs cells slots (mt_MQ below (cq_Q D P0 false po th) args s 0 0 (cq_free P0 false)) (F0 m 283 ls []) := by
  intro P x2 H locs cells slots ls h hP hS hl hcc hss
  obtain ⟨hx, hb, hml, hown, hlocks, htr, hT, hK, hSt, hN, hP0⟩ := id C
  have L13_12 : pq_fl s m args 13 12 5 := ⟨_, "WaterWorksModel", "WaterWorksModel", rfl, by decide, hown, Or.inl (hT _ k_1109 _), (fun _ z => z)⟩
  have L17_12 : pq_fl s m args 17 12 6 := ⟨_, "WaterWorksModel", "WaterWorksModel", rfl, by decide, hown, Or.inl (hT _ k_1110 _), (fun _ z => z)⟩
  have L20_12 : pq_fl s m args 20 12 7 := ⟨_, "WaterWorksModel", "WaterWorksModel", rfl, by decide, hown, Or.inl (hT _ k_1111 _), (fun _ z => z)⟩
  have L23_12 : pq_fl s m args 23 12 8 := ⟨_, "WaterWorksModel", "WaterWorksModel", rfl, by decide, hown, Or.inl (hT _ k_1112 _), (fun _ z => z)⟩
  have L29_12 : pq_fl s m args 29 12 10 := ⟨_, "WaterWorksModel", "WaterWorksModel", rfl, by decide, hown, Or.inl (hT _ k_1114 _), (fun _ z => z)⟩
  have L32_12 : pq_fl s m args 32 12 11 := ⟨_, "WaterWorksModel", "WaterWorksModel", rfl, by decide, hown, Or.inl (hT _ k_1115 _), (fun _ z => z)⟩
  have L35_12 : pq_fl s m args 35 12 12 := ⟨_, "WaterWorksModel", "WaterWorksModel", rfl, by decide, hown, Or.inl (hT _ k_1116 _), (fun _ z => z)⟩
  have L38_12 : pq_fl s m args 38 12 13 := ⟨_, "WaterWorksModel", "WaterWorksModel", rfl, by decide, hown, Or.inl (hT _ k_1117 _), (fun _ z => z)⟩
  have L7_12 : pq_fl s m args 7 12 4 := ⟨_, "WaterWorksModel", "WaterWorksModel", rfl, by decide, hown, Or.inl (hT _ k_1108 _), (fun _ z => z)⟩
  have L85_12 : pq_fl s m args 85 12 1 := ⟨_, "WaterWorksModel", "WaterWorksModel", rfl, by decide, hown, Or.inl (hT _ k_1105 _), (fun _ z => z)⟩
  have L88_12 : pq_fl s m args 88 12 2 := ⟨_, "WaterWorksModel", "WaterWorksModel", rfl, by decide, hown, Or.inl (hT _ k_1106 _), (fun _ z => z)⟩
  unfold wb_Mo_planFor_283 at h
  refine lv_iload_n (pc := 283) hx hb d_Mo_planFor_283 rfl (lv_at hl 0 rfl) ?_
  refine lv_if_ne (pc := 284) (tgt := 291) hx hb d_Mo_planFor_284 (by decide) (fun c192 => ?_) (fun c192 => ?_)
  · replace h := h.1 c192
    refine lv_iconst (pc := 291) (v := 0) hx hb d_Mo_planFor_291 (by decide) ?_
    exact we_z (pc := 292) hx hb hlocks hr hP hS (show cells + 0 ≤ 0 by omega) (show slots + 0 ≤ 0 by omega) (by decide) h d_Mo_planFor_292
  · replace h := h.2 c192
    refine lv_iconst (pc := 287) (v := 1) hx hb d_Mo_planFor_287 (by decide) ?_
    refine lv_goto (pc := 288) (tgt := 292) hx hb d_Mo_planFor_288 (by decide) ?_
    exact we_z (pc := 292) hx hb hlocks hr hP hS (show cells + 0 ≤ 0 by omega) (show slots + 0 ≤ 0 by omega) (by decide) h d_Mo_planFor_292
set_option maxHeartbeats 4000000 in
set_option maxRecDepth 100000 in
theorem wk_Mo_planFor_231 {p : Program} {l : Launch} {e : Env} {s : State} {m : MethodId} {args : Array Value} {below : List Frame} {meth : Method} {c : Code} {D : pq_D} {P0 : Pic} {po : Option Value → Pic → Prop} {th : String → Pic → Prop} {K231 : Pic → Nat → Int32 → Int32 → Int32 → Prop} (hfl : l.flags = flags0) (C : Cx p e s m args meth c prog_15_method_17_code 4 "WaterWorksModel" D P0) (hmg : e.platform.magicAccessors = ({} : Platform).magicAccessors) (hr : meth.sig.returnType = (some .boolean)) (hin : meth.name = "planFor") (htab : c.exceptionTable.toList = tableOf []) (HK231 : ∀ (P : Pic) (a0 : Nat) (x1 : Int32) (x2 : Int32) (x3 : Int32) (H : Heap) (locs : List Loc) (cells slots : Nat) (ls : Array Slot), K231 P a0 x1 x2 x3 → Pi D P H → Sg (cq_A P0 s) s.heap H P locs → lv_has ls 4 [(0, .ref a0), (1, .int x1), (2, .int x2), (3, .int x3)] → cells + 0 ≤ 0 → slots + 0 ≤ 0 → W p l e rm_Mo_planFor s m args below meth c H locs cells slots (mt_MQ below (cq_Q D P0 false po th) args s 0 0 (cq_free P0 false)) (F0 m 231 ls [])) : ∀ (P : Pic) (a0 : Nat) (x1 : Int32) (x2 : Int32) (x3 : Int32) (H : Heap) (locs : List Loc) (cells slots : Nat) (ls : Array Slot), wb_Mo_planFor_231 po th K231 P a0 x1 x2 x3 → Pi D P H → Sg (cq_A P0 s) s.heap H P locs → lv_has ls 4 [(0, .ref a0), (1, .int x1), (2, .int x2), (3, .int x3)] → cells + 0 ≤ 0 → slots + 0 ≤ 0 → W p l e rm_Mo_planFor s m args below meth c H locs cells slots (mt_MQ below (cq_Q D P0 false po th) args s 0 0 (cq_free P0 false)) (F0 m 231 ls []) := by
  intro P a0 x1 x2 x3 H locs cells slots ls h hP hS hl hcc hss
  obtain ⟨hx, hb, hml, hown, hlocks, htr, hT, hK, hSt, hN, hP0⟩ := id C
  have L13_12 : pq_fl s m args 13 12 5 := ⟨_, "WaterWorksModel", "WaterWorksModel", rfl, by decide, hown, Or.inl (hT _ k_1109 _), (fun _ z => z)⟩
  have L17_12 : pq_fl s m args 17 12 6 := ⟨_, "WaterWorksModel", "WaterWorksModel", rfl, by decide, hown, Or.inl (hT _ k_1110 _), (fun _ z => z)⟩
  have L20_12 : pq_fl s m args 20 12 7 := ⟨_, "WaterWorksModel", "WaterWorksModel", rfl, by decide, hown, Or.inl (hT _ k_1111 _), (fun _ z => z)⟩
  have L23_12 : pq_fl s m args 23 12 8 := ⟨_, "WaterWorksModel", "WaterWorksModel", rfl, by decide, hown, Or.inl (hT _ k_1112 _), (fun _ z => z)⟩
  have L29_12 : pq_fl s m args 29 12 10 := ⟨_, "WaterWorksModel", "WaterWorksModel", rfl, by decide, hown, Or.inl (hT _ k_1114 _), (fun _ z => z)⟩
  have L32_12 : pq_fl s m args 32 12 11 := ⟨_, "WaterWorksModel", "WaterWorksModel", rfl, by decide, hown, Or.inl (hT _ k_1115 _), (fun _ z => z)⟩
  have L35_12 : pq_fl s m args 35 12 12 := ⟨_, "WaterWorksModel", "WaterWorksModel", rfl, by decide, hown, Or.inl (hT _ k_1116 _), (fun _ z => z)⟩
  have L38_12 : pq_fl s m args 38 12 13 := ⟨_, "WaterWorksModel", "WaterWorksModel", rfl, by decide, hown, Or.inl (hT _ k_1117 _), (fun _ z => z)⟩
  have L7_12 : pq_fl s m args 7 12 4 := ⟨_, "WaterWorksModel", "WaterWorksModel", rfl, by decide, hown, Or.inl (hT _ k_1108 _), (fun _ z => z)⟩
  have L85_12 : pq_fl s m args 85 12 1 := ⟨_, "WaterWorksModel", "WaterWorksModel", rfl, by decide, hown, Or.inl (hT _ k_1105 _), (fun _ z => z)⟩
  have L88_12 : pq_fl s m args 88 12 2 := ⟨_, "WaterWorksModel", "WaterWorksModel", rfl, by decide, hown, Or.inl (hT _ k_1106 _), (fun _ z => z)⟩
  unfold wb_Mo_planFor_231 at h
  refine lv_iload_n (pc := 231) hx hb d_Mo_planFor_231 rfl (lv_at hl 3 rfl) ?_
  refine lv_bipush (pc := 232) (v := 32) hx hb d_Mo_planFor_232 (by decide) ?_
  refine lv_icmp_ge (pc := 234) (tgt := 283) hx hb d_Mo_planFor_234 (by decide) (fun c190 => ?_) (fun c190 => ?_)
  · replace h := h.1 c190
    exact wk_Mo_planFor_283 hfl C hmg hr hin htab _ x2 _ _ _ _ _ h hP hS (lv_sub hl [2] rfl) (show cells + 0 ≤ 0 by omega) (show slots + 0 ≤ 0 by omega)
  · replace h := h.2 c190
    refine lv_iload_n (pc := 237) hx hb d_Mo_planFor_237 rfl (lv_at hl 2 rfl) ?_
    refine lv_if_ne (pc := 238) (tgt := 283) hx hb d_Mo_planFor_238 (by decide) (fun c189 => ?_) (fun c189 => ?_)
    · replace h := h.1 c189
      exact wk_Mo_planFor_283 hfl C hmg hr hin htab _ x2 _ _ _ _ _ h hP hS (lv_sub hl [2] rfl) (show cells + 0 ≤ 0 by omega) (show slots + 0 ≤ 0 by omega)
    · replace h := h.2 c189
      refine lv_aload_n (pc := 241) hx hb d_Mo_planFor_241 rfl (lv_at hl 0 rfl) ?_
      obtain ⟨hk171, h⟩ := h
      obtain ⟨a172, ea172, h⟩ := h
      refine pq_geta (pc := 242) (f := 493) hx hb hT hK hP L38_12 hk171 rfl ea172 d_Mo_planFor_242 ?_
      refine lv_iload_n (pc := 245) hx hb d_Mo_planFor_245 rfl (lv_at hl 3 rfl) ?_
      obtain ⟨hk173, h⟩ := h
      obtain ⟨hi174, h⟩ := h
      refine pq_zald (pc := 246) hx hb hK hP hk173 hi174 d_Mo_planFor_246 ?_
      refine lv_if_eq (pc := 247) (tgt := 277) hx hb d_Mo_planFor_247 (by decide) (fun c188 => ?_) (fun c188 => ?_)
      · replace h := h.1 c188
        exact wk_Mo_planFor_277 hfl C hmg hr hin htab HK231 _ a0 x1 x2 x3 _ _ _ _ _ h hP hS (lv_sub hl [0, 1, 2, 3] rfl) (show cells + 0 ≤ 0 by omega) (show slots + 0 ≤ 0 by omega)
      · replace h := h.2 c188
        refine lv_aload_n (pc := 250) hx hb d_Mo_planFor_250 rfl (lv_at hl 0 rfl) ?_
        obtain ⟨a175, ea175, h⟩ := h
        refine pq_geta (pc := 251) (f := 493) hx hb hT hK hP L38_12 hk171 rfl ea175 d_Mo_planFor_251 ?_
        refine lv_iload_n (pc := 254) hx hb d_Mo_planFor_254 rfl (lv_at hl 3 rfl) ?_
        refine lv_iconst (pc := 255) (v := 0) hx hb d_Mo_planFor_255 (by decide) ?_
        obtain ⟨hk176, h⟩ := h
        obtain ⟨hi177, h⟩ := h
        refine pq_zast (pc := 256) hx hb hK hP hS hk176 hi177 (by decide) d_Mo_planFor_256 (fun H locs hP hS => ?_)
        have hk171 : p_k (s_ai P a175 (Int32.toNatClampNeg x3) (0 : Int32)) a0 = 13 := by rw [pk_ai]; exact hk171
        have hk173 : p_k (s_ai P a175 (Int32.toNatClampNeg x3) (0 : Int32)) a172 = 103 := by rw [pk_ai]; exact hk173
        have hk176 : p_k (s_ai P a175 (Int32.toNatClampNeg x3) (0 : Int32)) a175 = 103 := by rw [pk_ai]; exact hk176
        refine lv_aload_n (pc := 257) hx hb d_Mo_planFor_257 rfl (lv_at hl 0 rfl) ?_
        refine lv_iconst (pc := 258) (v := 1) hx hb d_Mo_planFor_258 (by decide) ?_
        refine cc_v (pc := 259) C (rest := []) (mt_invV (As := [.int (1 : Int32)]) hx hb hown (hT _ k_1243 _) (hT _ k_1245 _) (hT _ ks_21 _) (mt_Cd.code (hT _ k_1246 #[])) h_Mo_feed (pq_recv hK hP hk171 rfl) n_Mo_feed rfl d_Mo_planFor_259) (ct_Mo_feed hfl D h) k_1246 k_24 ⟨Nat.le_of_ble_eq_true rfl, Nat.le_of_ble_eq_true rfl⟩ ⟨(show cells + 0 ≤ 0 by omega), (show slots + 0 ≤ 0 by omega)⟩ hl.1 d_Mo_planFor_259 (Nat.le_of_ble_eq_true rfl) hP hS (fun P178 H locs h hP hS => ?_) (fun xx X P178 H locs h hX hex hP hS => ?_)
        · refine lv_aload_n (pc := 262) hx hb d_Mo_planFor_262 rfl (lv_at hl 0 rfl) ?_
          obtain ⟨hk179, h⟩ := h
          obtain ⟨a180, ea180, h⟩ := h
          refine pq_geta (pc := 263) (f := 493) hx hb hT hK hP L38_12 hk179 rfl ea180 d_Mo_planFor_263 ?_
          refine lv_iload_n (pc := 266) hx hb d_Mo_planFor_266 rfl (lv_at hl 3 rfl) ?_
          refine lv_aload_n (pc := 267) hx hb d_Mo_planFor_267 rfl (lv_at hl 0 rfl) ?_
          obtain ⟨a181, ea181, h⟩ := h
          refine pq_geta (pc := 268) (f := 490) hx hb hT hK hP L29_12 hk179 rfl ea181 d_Mo_planFor_268 ?_
          refine lv_bipush (pc := 271) (v := 12) hx hb d_Mo_planFor_271 (by decide) ?_
          refine lv_iload_n (pc := 273) hx hb d_Mo_planFor_273 rfl (lv_at hl 1 rfl) ?_
          refine lv_iadd (pc := 274) hx hb d_Mo_planFor_274 ?_
          obtain ⟨hk182, h⟩ := h
          obtain ⟨hi183, h⟩ := h
          refine pq_zald (pc := 275) hx hb hK hP hk182 hi183 d_Mo_planFor_275 ?_
          obtain ⟨hk184, h⟩ := h
          obtain ⟨hi185, h⟩ := h
          obtain ⟨hz186, h⟩ := h
          refine pq_zast (pc := 276) hx hb hK hP hS hk184 hi185 hz186 d_Mo_planFor_276 (fun H locs hP hS => ?_)
          have hk179 : p_k (s_ai P178 a180 (Int32.toNatClampNeg x3) (p_ai P178 a181 (Int32.toNatClampNeg ((12 : Int32) + x1)))) a0 = 13 := by rw [pk_ai]; exact hk179
          have hk182 : p_k (s_ai P178 a180 (Int32.toNatClampNeg x3) (p_ai P178 a181 (Int32.toNatClampNeg ((12 : Int32) + x1)))) a181 = 103 := by rw [pk_ai]; exact hk182
          have hk184 : p_k (s_ai P178 a180 (Int32.toNatClampNeg x3) (p_ai P178 a181 (Int32.toNatClampNeg ((12 : Int32) + x1)))) a180 = 103 := by rw [pk_ai]; exact hk184
          obtain ⟨P187, eP187⟩ : ∃ z : Pic, z = s_ai P178 a180 (Int32.toNatClampNeg x3) (p_ai P178 a181 (Int32.toNatClampNeg ((12 : Int32) + x1))) := ⟨_, rfl⟩
          replace h := h P187 eP187
          rw [← eP187] at hP hS
          have hk179 : p_k P187 a0 = 13 := by rw [eP187]; exact hk179
          have hk182 : p_k P187 a181 = 103 := by rw [eP187]; exact hk182
          have hk184 : p_k P187 a180 = 103 := by rw [eP187]; exact hk184
          exact wk_Mo_planFor_277 hfl C hmg hr hin htab HK231 _ a0 x1 x2 x3 _ _ _ _ _ h hP hS (lv_sub hl [0, 1, 2, 3] rfl) (show cells + 0 + 0 ≤ 0 by omega) (show slots + 0 + 0 ≤ 0 by omega)
        · exact cq_out hlocks (pq_nil htab rfl) (show cells + 0 + 0 ≤ 0 by omega) (show slots + 0 + 0 ≤ 0 by omega) hX hex hP hS h
theorem wm_Mo_planFor_231 {p : Program} {l : Launch} {e : Env} {s : State} {m : MethodId} {args : Array Value} {below : List Frame} {meth : Method} {c : Code} {D : pq_D} {P0 : Pic} {po : Option Value → Pic → Prop} {th : String → Pic → Prop} (hfl : l.flags = flags0) (C : Cx p e s m args meth c prog_15_method_17_code 4 "WaterWorksModel" D P0) (hmg : e.platform.magicAccessors = ({} : Platform).magicAccessors) (hr : meth.sig.returnType = (some .boolean)) (hin : meth.name = "planFor") (htab : c.exceptionTable.toList = tableOf []) : ∀ n : Nat, ∀ (P : Pic) (a0 : Nat) (x1 : Int32) (x2 : Int32) (x3 : Int32) (H : Heap) (locs : List Loc) (cells slots : Nat) (ls : Array Slot), wl_Mo_planFor_231 po th n P a0 x1 x2 x3 → Pi D P H → Sg (cq_A P0 s) s.heap H P locs → lv_has ls 4 [(0, .ref a0), (1, .int x1), (2, .int x2), (3, .int x3)] → cells + 0 ≤ 0 → slots + 0 ≤ 0 → W p l e rm_Mo_planFor s m args below meth c H locs cells slots (mt_MQ below (cq_Q D P0 false po th) args s 0 0 (cq_free P0 false)) (F0 m 231 ls []) := by
  intro n
  induction n with
  | zero => intro P a0 x1 x2 x3 H locs cells slots ls h; exact h.elim
  | succ n ih => exact wk_Mo_planFor_231 hfl C hmg hr hin htab ih
set_option maxHeartbeats 4000000 in
set_option maxRecDepth 100000 in
theorem wk_Mo_planFor_159 {p : Program} {l : Launch} {e : Env} {s : State} {m : MethodId} {args : Array Value} {below : List Frame} {meth : Method} {c : Code} {D : pq_D} {P0 : Pic} {po : Option Value → Pic → Prop} {th : String → Pic → Prop} {K159 : Pic → Nat → Int32 → Int32 → Int32 → Prop} (hfl : l.flags = flags0) (C : Cx p e s m args meth c prog_15_method_17_code 4 "WaterWorksModel" D P0) (hmg : e.platform.magicAccessors = ({} : Platform).magicAccessors) (hr : meth.sig.returnType = (some .boolean)) (hin : meth.name = "planFor") (htab : c.exceptionTable.toList = tableOf []) (HK159 : ∀ (P : Pic) (a0 : Nat) (x1 : Int32) (x2 : Int32) (x3 : Int32) (H : Heap) (locs : List Loc) (cells slots : Nat) (ls : Array Slot), K159 P a0 x1 x2 x3 → Pi D P H → Sg (cq_A P0 s) s.heap H P locs → lv_has ls 4 [(0, .ref a0), (1, .int x1), (2, .int x2), (3, .int x3)] → cells + 0 ≤ 0 → slots + 0 ≤ 0 → W p l e rm_Mo_planFor s m args below meth c H locs cells slots (mt_MQ below (cq_Q D P0 false po th) args s 0 0 (cq_free P0 false)) (F0 m 159 ls [])) : ∀ (P : Pic) (a0 : Nat) (x1 : Int32) (x2 : Int32) (x3 : Int32) (H : Heap) (locs : List Loc) (cells slots : Nat) (ls : Array Slot), wb_Mo_planFor_159 po th K159 P a0 x1 x2 x3 → Pi D P H → Sg (cq_A P0 s) s.heap H P locs → lv_has ls 4 [(0, .ref a0), (1, .int x1), (2, .int x2), (3, .int x3)] → cells + 0 ≤ 0 → slots + 0 ≤ 0 → W p l e rm_Mo_planFor s m args below meth c H locs cells slots (mt_MQ below (cq_Q D P0 false po th) args s 0 0 (cq_free P0 false)) (F0 m 159 ls []) := by
  intro P a0 x1 x2 x3 H locs cells slots ls h hP hS hl hcc hss
  obtain ⟨hx, hb, hml, hown, hlocks, htr, hT, hK, hSt, hN, hP0⟩ := id C
  have L13_12 : pq_fl s m args 13 12 5 := ⟨_, "WaterWorksModel", "WaterWorksModel", rfl, by decide, hown, Or.inl (hT _ k_1109 _), (fun _ z => z)⟩
  have L17_12 : pq_fl s m args 17 12 6 := ⟨_, "WaterWorksModel", "WaterWorksModel", rfl, by decide, hown, Or.inl (hT _ k_1110 _), (fun _ z => z)⟩
  have L20_12 : pq_fl s m args 20 12 7 := ⟨_, "WaterWorksModel", "WaterWorksModel", rfl, by decide, hown, Or.inl (hT _ k_1111 _), (fun _ z => z)⟩
  have L23_12 : pq_fl s m args 23 12 8 := ⟨_, "WaterWorksModel", "WaterWorksModel", rfl, by decide, hown, Or.inl (hT _ k_1112 _), (fun _ z => z)⟩
  have L29_12 : pq_fl s m args 29 12 10 := ⟨_, "WaterWorksModel", "WaterWorksModel", rfl, by decide, hown, Or.inl (hT _ k_1114 _), (fun _ z => z)⟩
  have L32_12 : pq_fl s m args 32 12 11 := ⟨_, "WaterWorksModel", "WaterWorksModel", rfl, by decide, hown, Or.inl (hT _ k_1115 _), (fun _ z => z)⟩
  have L35_12 : pq_fl s m args 35 12 12 := ⟨_, "WaterWorksModel", "WaterWorksModel", rfl, by decide, hown, Or.inl (hT _ k_1116 _), (fun _ z => z)⟩
  have L38_12 : pq_fl s m args 38 12 13 := ⟨_, "WaterWorksModel", "WaterWorksModel", rfl, by decide, hown, Or.inl (hT _ k_1117 _), (fun _ z => z)⟩
  have L7_12 : pq_fl s m args 7 12 4 := ⟨_, "WaterWorksModel", "WaterWorksModel", rfl, by decide, hown, Or.inl (hT _ k_1108 _), (fun _ z => z)⟩
  have L85_12 : pq_fl s m args 85 12 1 := ⟨_, "WaterWorksModel", "WaterWorksModel", rfl, by decide, hown, Or.inl (hT _ k_1105 _), (fun _ z => z)⟩
  have L88_12 : pq_fl s m args 88 12 2 := ⟨_, "WaterWorksModel", "WaterWorksModel", rfl, by decide, hown, Or.inl (hT _ k_1106 _), (fun _ z => z)⟩
  unfold wb_Mo_planFor_159 at h
  refine lv_iload_n (pc := 159) hx hb d_Mo_planFor_159 rfl (lv_at hl 3 rfl) ?_
  refine lv_bipush (pc := 160) (v := 32) hx hb d_Mo_planFor_160 (by decide) ?_
  refine lv_icmp_ge (pc := 162) (tgt := 229) hx hb d_Mo_planFor_162 (by decide) (fun c166 => ?_) (fun c166 => ?_)
  · replace h := h.1 c166
    refine lv_iconst (pc := 229) (v := 0) hx hb d_Mo_planFor_229 (by decide) ?_
    refine lv_istore_n (pc := 230) (lv' := [(3, .int (0 : Int32)), (0, .ref a0), (1, .int x1), (2, .int x2)]) hx hb d_Mo_planFor_230 rfl hl (by decide) rfl (fun ls hl => ?_)
    obtain ⟨n, h⟩ := h
    exact wm_Mo_planFor_231 hfl C hmg hr hin htab n _ a0 x1 x2 (0 : Int32) _ _ _ _ _ h hP hS (lv_sub hl [1, 2, 3, 0] rfl) (show cells + 0 ≤ 0 by omega) (show slots + 0 ≤ 0 by omega)
  · replace h := h.2 c166
    refine lv_aload_n (pc := 165) hx hb d_Mo_planFor_165 rfl (lv_at hl 0 rfl) ?_
    obtain ⟨hk150, h⟩ := h
    obtain ⟨a151, ea151, h⟩ := h
    refine pq_geta (pc := 166) (f := 493) hx hb hT hK hP L38_12 hk150 rfl ea151 d_Mo_planFor_166 ?_
    refine lv_iload_n (pc := 169) hx hb d_Mo_planFor_169 rfl (lv_at hl 3 rfl) ?_
    refine lv_iload_n (pc := 170) hx hb d_Mo_planFor_170 rfl (lv_at hl 2 rfl) ?_
    refine lv_if_ne (pc := 171) (tgt := 221) hx hb d_Mo_planFor_171 (by decide) (fun c165 => ?_) (fun c165 => ?_)
    · replace h := h.1 c165
      exact wk_Mo_planFor_221 hfl C hmg hr hin htab HK159 _ a0 x1 x2 x3 x3 a151 _ _ _ _ _ h hP hS (lv_sub hl [0, 1, 2, 3] rfl) (show cells + 0 ≤ 0 by omega) (show slots + 0 ≤ 0 by omega)
    · replace h := h.2 c165
      refine lv_iload_n (pc := 174) hx hb d_Mo_planFor_174 rfl (lv_at hl 3 rfl) ?_
      refine lv_iconst (pc := 175) (v := 2) hx hb d_Mo_planFor_175 (by decide) ?_
      refine lv_aload_n (pc := 176) hx hb d_Mo_planFor_176 rfl (lv_at hl 0 rfl) ?_
      refine pq_geti (pc := 177) (f := 482) hx hb hT hK hP L88_12 hk150 rfl d_Mo_planFor_177 ?_
      refine lv_imul (pc := 180) hx hb d_Mo_planFor_180 ?_
      refine lv_icmp_ge (pc := 181) (tgt := 221) hx hb d_Mo_planFor_181 (by decide) (fun c164 => ?_) (fun c164 => ?_)
      · replace h := h.1 c164
        exact wk_Mo_planFor_221 hfl C hmg hr hin htab HK159 _ a0 x1 x2 x3 x3 a151 _ _ _ _ _ h hP hS (lv_sub hl [0, 1, 2, 3] rfl) (show cells + 0 ≤ 0 by omega) (show slots + 0 ≤ 0 by omega)
      · replace h := h.2 c164
        refine lv_aload_n (pc := 184) hx hb d_Mo_planFor_184 rfl (lv_at hl 0 rfl) ?_
        refine lv_iload_n (pc := 185) hx hb d_Mo_planFor_185 rfl (lv_at hl 3 rfl) ?_
        refine cr_i (pc := 186) C (rest := [.int x3, .ref a151]) (mt_invV (As := [.int x3]) hx hb hown (hT _ k_1259 _) (hT _ k_1261 _) (hT _ ks_24 _) (mt_Cd.code (hT _ k_1262 #[])) h_Mo_canTurn (pq_recv hK hP hk150 rfl) n_Mo_canTurn rfl d_Mo_planFor_186) (ct_Mo_canTurn hfl D h) k_1262 k_24 ⟨Nat.le_of_ble_eq_true rfl, Nat.le_of_ble_eq_true rfl⟩ ⟨(show cells + 0 ≤ 0 by omega), (show slots + 0 ≤ 0 by omega)⟩ hl.1 d_Mo_planFor_186 (Nat.le_of_ble_eq_true rfl) hP hS (fun x152 H locs h hP hS => ?_) (fun xx X H locs h hX hex hP hS => ?_)
        · refine lv_if_eq (pc := 189) (tgt := 221) hx hb d_Mo_planFor_189 (by decide) (fun c163 => ?_) (fun c163 => ?_)
          · replace h := h.1 c163
            exact wk_Mo_planFor_221 hfl C hmg hr hin htab HK159 _ a0 x1 x2 x3 x3 a151 _ _ _ _ _ h hP hS (lv_sub hl [0, 1, 2, 3] rfl) (show cells + 0 + 0 ≤ 0 by omega) (show slots + 0 + 0 ≤ 0 by omega)
          · replace h := h.2 c163
            refine lv_aload_n (pc := 192) hx hb d_Mo_planFor_192 rfl (lv_at hl 0 rfl) ?_
            obtain ⟨a153, ea153, h⟩ := h
            refine pq_geta (pc := 193) (f := 492) hx hb hT hK hP L35_12 hk150 rfl ea153 d_Mo_planFor_193 ?_
            refine lv_bipush (pc := 196) (v := 12) hx hb d_Mo_planFor_196 (by decide) ?_
            refine lv_iload_n (pc := 198) hx hb d_Mo_planFor_198 rfl (lv_at hl 3 rfl) ?_
            refine lv_iconst (pc := 199) (v := 2) hx hb d_Mo_planFor_199 (by decide) ?_
            refine lv_idiv (pc := 200) hx hb d_Mo_planFor_200 (by decide) ?_
            refine lv_iadd (pc := 201) hx hb d_Mo_planFor_201 ?_
            obtain ⟨hk154, h⟩ := h
            obtain ⟨hi155, h⟩ := h
            refine pq_zald (pc := 202) hx hb hK hP hk154 hi155 d_Mo_planFor_202 ?_
            refine lv_aload_n (pc := 203) hx hb d_Mo_planFor_203 rfl (lv_at hl 0 rfl) ?_
            obtain ⟨a156, ea156, h⟩ := h
            refine pq_geta (pc := 204) (f := 492) hx hb hT hK hP L35_12 hk150 rfl ea156 d_Mo_planFor_204 ?_
            refine lv_aload_n (pc := 207) hx hb d_Mo_planFor_207 rfl (lv_at hl 0 rfl) ?_
            obtain ⟨a157, ea157, h⟩ := h
            refine pq_geta (pc := 208) (f := 485) hx hb hT hK hP L13_12 hk150 rfl ea157 d_Mo_planFor_208 ?_
            refine lv_iload_n (pc := 211) hx hb d_Mo_planFor_211 rfl (lv_at hl 3 rfl) ?_
            obtain ⟨hk158, h⟩ := h
            obtain ⟨hi159, h⟩ := h
            refine pq_iald (pc := 212) hx hb hK hP hk158 hi159 d_Mo_planFor_212 ?_
            obtain ⟨hk160, h⟩ := h
            obtain ⟨hi161, h⟩ := h
            refine pq_zald (pc := 213) hx hb hK hP hk160 hi161 d_Mo_planFor_213 ?_
            refine lv_icmp_eq (pc := 214) (tgt := 221) hx hb d_Mo_planFor_214 (by decide) (fun c162 => ?_) (fun c162 => ?_)
            · replace h := h.1 c162
              exact wk_Mo_planFor_221 hfl C hmg hr hin htab HK159 _ a0 x1 x2 x3 x3 a151 _ _ _ _ _ h hP hS (lv_sub hl [0, 1, 2, 3] rfl) (show cells + 0 + 0 ≤ 0 by omega) (show slots + 0 + 0 ≤ 0 by omega)
            · replace h := h.2 c162
              refine lv_iconst (pc := 217) (v := 1) hx hb d_Mo_planFor_217 (by decide) ?_
              refine lv_goto (pc := 218) (tgt := 222) hx hb d_Mo_planFor_218 (by decide) ?_
              exact wk_Mo_planFor_222 hfl C hmg hr hin htab HK159 _ a0 x1 x2 x3 (1 : Int32) x3 a151 _ _ _ _ _ h hP hS (lv_sub hl [0, 1, 2, 3] rfl) (show cells + 0 + 0 ≤ 0 by omega) (show slots + 0 + 0 ≤ 0 by omega)
        · exact cq_out hlocks (pq_nil htab rfl) (show cells + 0 + 0 ≤ 0 by omega) (show slots + 0 + 0 ≤ 0 by omega) hX hex hP hS h
theorem wm_Mo_planFor_159 {p : Program} {l : Launch} {e : Env} {s : State} {m : MethodId} {args : Array Value} {below : List Frame} {meth : Method} {c : Code} {D : pq_D} {P0 : Pic} {po : Option Value → Pic → Prop} {th : String → Pic → Prop} (hfl : l.flags = flags0) (C : Cx p e s m args meth c prog_15_method_17_code 4 "WaterWorksModel" D P0) (hmg : e.platform.magicAccessors = ({} : Platform).magicAccessors) (hr : meth.sig.returnType = (some .boolean)) (hin : meth.name = "planFor") (htab : c.exceptionTable.toList = tableOf []) : ∀ n : Nat, ∀ (P : Pic) (a0 : Nat) (x1 : Int32) (x2 : Int32) (x3 : Int32) (H : Heap) (locs : List Loc) (cells slots : Nat) (ls : Array Slot), wl_Mo_planFor_159 po th n P a0 x1 x2 x3 → Pi D P H → Sg (cq_A P0 s) s.heap H P locs → lv_has ls 4 [(0, .ref a0), (1, .int x1), (2, .int x2), (3, .int x3)] → cells + 0 ≤ 0 → slots + 0 ≤ 0 → W p l e rm_Mo_planFor s m args below meth c H locs cells slots (mt_MQ below (cq_Q D P0 false po th) args s 0 0 (cq_free P0 false)) (F0 m 159 ls []) := by
  intro n
  induction n with
  | zero => intro P a0 x1 x2 x3 H locs cells slots ls h; exact h.elim
  | succ n ih => exact wk_Mo_planFor_159 hfl C hmg hr hin htab ih
set_option maxHeartbeats 4000000 in
set_option maxRecDepth 100000 in
theorem wk_Mo_planFor_97 {p : Program} {l : Launch} {e : Env} {s : State} {m : MethodId} {args : Array Value} {below : List Frame} {meth : Method} {c : Code} {D : pq_D} {P0 : Pic} {po : Option Value → Pic → Prop} {th : String → Pic → Prop} {K97 : Pic → Nat → Int32 → Int32 → Int32 → Prop} (hfl : l.flags = flags0) (C : Cx p e s m args meth c prog_15_method_17_code 4 "WaterWorksModel" D P0) (hmg : e.platform.magicAccessors = ({} : Platform).magicAccessors) (hr : meth.sig.returnType = (some .boolean)) (hin : meth.name = "planFor") (htab : c.exceptionTable.toList = tableOf []) (HK97 : ∀ (P : Pic) (a0 : Nat) (x1 : Int32) (x2 : Int32) (x3 : Int32) (H : Heap) (locs : List Loc) (cells slots : Nat) (ls : Array Slot), K97 P a0 x1 x2 x3 → Pi D P H → Sg (cq_A P0 s) s.heap H P locs → lv_has ls 4 [(0, .ref a0), (1, .int x1), (2, .int x2), (3, .int x3)] → cells + 0 ≤ 0 → slots + 0 ≤ 0 → W p l e rm_Mo_planFor s m args below meth c H locs cells slots (mt_MQ below (cq_Q D P0 false po th) args s 0 0 (cq_free P0 false)) (F0 m 97 ls [])) : ∀ (P : Pic) (a0 : Nat) (x1 : Int32) (x2 : Int32) (x3 : Int32) (H : Heap) (locs : List Loc) (cells slots : Nat) (ls : Array Slot), wb_Mo_planFor_97 po th K97 P a0 x1 x2 x3 → Pi D P H → Sg (cq_A P0 s) s.heap H P locs → lv_has ls 4 [(0, .ref a0), (1, .int x1), (2, .int x2), (3, .int x3)] → cells + 0 ≤ 0 → slots + 0 ≤ 0 → W p l e rm_Mo_planFor s m args below meth c H locs cells slots (mt_MQ below (cq_Q D P0 false po th) args s 0 0 (cq_free P0 false)) (F0 m 97 ls []) := by
  intro P a0 x1 x2 x3 H locs cells slots ls h hP hS hl hcc hss
  obtain ⟨hx, hb, hml, hown, hlocks, htr, hT, hK, hSt, hN, hP0⟩ := id C
  have L13_12 : pq_fl s m args 13 12 5 := ⟨_, "WaterWorksModel", "WaterWorksModel", rfl, by decide, hown, Or.inl (hT _ k_1109 _), (fun _ z => z)⟩
  have L17_12 : pq_fl s m args 17 12 6 := ⟨_, "WaterWorksModel", "WaterWorksModel", rfl, by decide, hown, Or.inl (hT _ k_1110 _), (fun _ z => z)⟩
  have L20_12 : pq_fl s m args 20 12 7 := ⟨_, "WaterWorksModel", "WaterWorksModel", rfl, by decide, hown, Or.inl (hT _ k_1111 _), (fun _ z => z)⟩
  have L23_12 : pq_fl s m args 23 12 8 := ⟨_, "WaterWorksModel", "WaterWorksModel", rfl, by decide, hown, Or.inl (hT _ k_1112 _), (fun _ z => z)⟩
  have L29_12 : pq_fl s m args 29 12 10 := ⟨_, "WaterWorksModel", "WaterWorksModel", rfl, by decide, hown, Or.inl (hT _ k_1114 _), (fun _ z => z)⟩
  have L32_12 : pq_fl s m args 32 12 11 := ⟨_, "WaterWorksModel", "WaterWorksModel", rfl, by decide, hown, Or.inl (hT _ k_1115 _), (fun _ z => z)⟩
  have L35_12 : pq_fl s m args 35 12 12 := ⟨_, "WaterWorksModel", "WaterWorksModel", rfl, by decide, hown, Or.inl (hT _ k_1116 _), (fun _ z => z)⟩
  have L38_12 : pq_fl s m args 38 12 13 := ⟨_, "WaterWorksModel", "WaterWorksModel", rfl, by decide, hown, Or.inl (hT _ k_1117 _), (fun _ z => z)⟩
  have L7_12 : pq_fl s m args 7 12 4 := ⟨_, "WaterWorksModel", "WaterWorksModel", rfl, by decide, hown, Or.inl (hT _ k_1108 _), (fun _ z => z)⟩
  have L85_12 : pq_fl s m args 85 12 1 := ⟨_, "WaterWorksModel", "WaterWorksModel", rfl, by decide, hown, Or.inl (hT _ k_1105 _), (fun _ z => z)⟩
  have L88_12 : pq_fl s m args 88 12 2 := ⟨_, "WaterWorksModel", "WaterWorksModel", rfl, by decide, hown, Or.inl (hT _ k_1106 _), (fun _ z => z)⟩
  unfold wb_Mo_planFor_97 at h
  refine lv_iload_n (pc := 97) hx hb d_Mo_planFor_97 rfl (lv_at hl 3 rfl) ?_
  refine lv_bipush (pc := 98) (v := 28) hx hb d_Mo_planFor_98 (by decide) ?_
  refine lv_icmp_ge (pc := 100) (tgt := 157) hx hb d_Mo_planFor_100 (by decide) (fun c148 => ?_) (fun c148 => ?_)
  · replace h := h.1 c148
    refine lv_iconst (pc := 157) (v := 0) hx hb d_Mo_planFor_157 (by decide) ?_
    refine lv_istore_n (pc := 158) (lv' := [(3, .int (0 : Int32)), (0, .ref a0), (1, .int x1), (2, .int x2)]) hx hb d_Mo_planFor_158 rfl hl (by decide) rfl (fun ls hl => ?_)
    obtain ⟨n, h⟩ := h
    exact wm_Mo_planFor_159 hfl C hmg hr hin htab n _ a0 x1 x2 (0 : Int32) _ _ _ _ _ h hP hS (lv_sub hl [1, 2, 3, 0] rfl) (show cells + 0 ≤ 0 by omega) (show slots + 0 ≤ 0 by omega)
  · replace h := h.2 c148
    refine lv_aload_n (pc := 103) hx hb d_Mo_planFor_103 rfl (lv_at hl 0 rfl) ?_
    obtain ⟨hk129, h⟩ := h
    obtain ⟨a130, ea130, h⟩ := h
    refine pq_geta (pc := 104) (f := 492) hx hb hT hK hP L35_12 hk129 rfl ea130 d_Mo_planFor_104 ?_
    refine lv_iload_n (pc := 107) hx hb d_Mo_planFor_107 rfl (lv_at hl 3 rfl) ?_
    refine lv_aload_n (pc := 108) hx hb d_Mo_planFor_108 rfl (lv_at hl 0 rfl) ?_
    obtain ⟨a131, ea131, h⟩ := h
    refine pq_geta (pc := 109) (f := 490) hx hb hT hK hP L29_12 hk129 rfl ea131 d_Mo_planFor_109 ?_
    refine lv_iload_n (pc := 112) hx hb d_Mo_planFor_112 rfl (lv_at hl 3 rfl) ?_
    obtain ⟨hk132, h⟩ := h
    obtain ⟨hi133, h⟩ := h
    refine pq_zald (pc := 113) hx hb hK hP hk132 hi133 d_Mo_planFor_113 ?_
    obtain ⟨hk134, h⟩ := h
    obtain ⟨hi135, h⟩ := h
    obtain ⟨hz136, h⟩ := h
    refine pq_zast (pc := 114) hx hb hK hP hS hk134 hi135 hz136 d_Mo_planFor_114 (fun H locs hP hS => ?_)
    have hk129 : p_k (s_ai P a130 (Int32.toNatClampNeg x3) (p_ai P a131 (Int32.toNatClampNeg x3))) a0 = 13 := by rw [pk_ai]; exact hk129
    have hk132 : p_k (s_ai P a130 (Int32.toNatClampNeg x3) (p_ai P a131 (Int32.toNatClampNeg x3))) a131 = 103 := by rw [pk_ai]; exact hk132
    have hk134 : p_k (s_ai P a130 (Int32.toNatClampNeg x3) (p_ai P a131 (Int32.toNatClampNeg x3))) a130 = 103 := by rw [pk_ai]; exact hk134
    obtain ⟨P137, eP137⟩ : ∃ z : Pic, z = s_ai P a130 (Int32.toNatClampNeg x3) (p_ai P a131 (Int32.toNatClampNeg x3)) := ⟨_, rfl⟩
    replace h := h P137 eP137
    rw [← eP137] at hP hS
    have hk129 : p_k P137 a0 = 13 := by rw [eP137]; exact hk129
    have hk132 : p_k P137 a131 = 103 := by rw [eP137]; exact hk132
    have hk134 : p_k P137 a130 = 103 := by rw [eP137]; exact hk134
    refine lv_iload_n (pc := 115) hx hb d_Mo_planFor_115 rfl (lv_at hl 2 rfl) ?_
    refine lv_if_ne (pc := 116) (tgt := 145) hx hb d_Mo_planFor_116 (by decide) (fun c147 => ?_) (fun c147 => ?_)
    · replace h := h.1 c147
      exact wk_Mo_planFor_145 hfl C hmg hr hin htab HK97 _ a0 x1 x3 _ _ _ _ _ h hP hS (lv_sub hl [0, 1, 3] rfl) (show cells + 0 ≤ 0 by omega) (show slots + 0 ≤ 0 by omega)
    · replace h := h.2 c147
      refine lv_iload_n (pc := 119) hx hb d_Mo_planFor_119 rfl (lv_at hl 3 rfl) ?_
      refine lv_aload_n (pc := 120) hx hb d_Mo_planFor_120 rfl (lv_at hl 0 rfl) ?_
      refine pq_geti (pc := 121) (f := 481) hx hb hT hK hP L85_12 hk129 rfl d_Mo_planFor_121 ?_
      refine lv_icmp_ge (pc := 124) (tgt := 149) hx hb d_Mo_planFor_124 (by decide) (fun c146 => ?_) (fun c146 => ?_)
      · replace h := h.1 c146
        exact wk_Mo_planFor_149 hfl C hmg hr hin htab HK97 _ a0 x1 x3 _ _ _ _ _ h hP hS (lv_sub hl [0, 1, 3] rfl) (show cells + 0 ≤ 0 by omega) (show slots + 0 ≤ 0 by omega)
      · replace h := h.2 c146
        refine lv_aload_n (pc := 127) hx hb d_Mo_planFor_127 rfl (lv_at hl 0 rfl) ?_
        obtain ⟨a138, ea138, h⟩ := h
        refine pq_geta (pc := 128) (f := 490) hx hb hT hK hP L29_12 hk129 rfl ea138 d_Mo_planFor_128 ?_
        refine lv_iload_n (pc := 131) hx hb d_Mo_planFor_131 rfl (lv_at hl 3 rfl) ?_
        obtain ⟨hk139, h⟩ := h
        obtain ⟨hi140, h⟩ := h
        refine pq_zald (pc := 132) hx hb hK hP hk139 hi140 d_Mo_planFor_132 ?_
        refine lv_if_eq (pc := 133) (tgt := 149) hx hb d_Mo_planFor_133 (by decide) (fun c145 => ?_) (fun c145 => ?_)
        · replace h := h.1 c145
          exact wk_Mo_planFor_149 hfl C hmg hr hin htab HK97 _ a0 x1 x3 _ _ _ _ _ h hP hS (lv_sub hl [0, 1, 3] rfl) (show cells + 0 ≤ 0 by omega) (show slots + 0 ≤ 0 by omega)
        · replace h := h.2 c145
          refine lv_aload_n (pc := 136) hx hb d_Mo_planFor_136 rfl (lv_at hl 0 rfl) ?_
          obtain ⟨a141, ea141, h⟩ := h
          refine pq_geta (pc := 137) (f := 484) hx hb hT hK hP L7_12 hk129 rfl ea141 d_Mo_planFor_137 ?_
          refine lv_iload_n (pc := 140) hx hb d_Mo_planFor_140 rfl (lv_at hl 3 rfl) ?_
          obtain ⟨hk142, h⟩ := h
          obtain ⟨hi143, h⟩ := h
          refine pq_zald (pc := 141) hx hb hK hP hk142 hi143 d_Mo_planFor_141 ?_
          refine lv_if_eq (pc := 142) (tgt := 149) hx hb d_Mo_planFor_142 (by decide) (fun c144 => ?_) (fun c144 => ?_)
          · replace h := h.1 c144
            exact wk_Mo_planFor_149 hfl C hmg hr hin htab HK97 _ a0 x1 x3 _ _ _ _ _ h hP hS (lv_sub hl [0, 1, 3] rfl) (show cells + 0 ≤ 0 by omega) (show slots + 0 ≤ 0 by omega)
          · replace h := h.2 c144
            exact wk_Mo_planFor_145 hfl C hmg hr hin htab HK97 _ a0 x1 x3 _ _ _ _ _ h hP hS (lv_sub hl [0, 1, 3] rfl) (show cells + 0 ≤ 0 by omega) (show slots + 0 ≤ 0 by omega)
theorem wm_Mo_planFor_97 {p : Program} {l : Launch} {e : Env} {s : State} {m : MethodId} {args : Array Value} {below : List Frame} {meth : Method} {c : Code} {D : pq_D} {P0 : Pic} {po : Option Value → Pic → Prop} {th : String → Pic → Prop} (hfl : l.flags = flags0) (C : Cx p e s m args meth c prog_15_method_17_code 4 "WaterWorksModel" D P0) (hmg : e.platform.magicAccessors = ({} : Platform).magicAccessors) (hr : meth.sig.returnType = (some .boolean)) (hin : meth.name = "planFor") (htab : c.exceptionTable.toList = tableOf []) : ∀ n : Nat, ∀ (P : Pic) (a0 : Nat) (x1 : Int32) (x2 : Int32) (x3 : Int32) (H : Heap) (locs : List Loc) (cells slots : Nat) (ls : Array Slot), wl_Mo_planFor_97 po th n P a0 x1 x2 x3 → Pi D P H → Sg (cq_A P0 s) s.heap H P locs → lv_has ls 4 [(0, .ref a0), (1, .int x1), (2, .int x2), (3, .int x3)] → cells + 0 ≤ 0 → slots + 0 ≤ 0 → W p l e rm_Mo_planFor s m args below meth c H locs cells slots (mt_MQ below (cq_Q D P0 false po th) args s 0 0 (cq_free P0 false)) (F0 m 97 ls []) := by
  intro n
  induction n with
  | zero => intro P a0 x1 x2 x3 H locs cells slots ls h; exact h.elim
  | succ n ih => exact wk_Mo_planFor_97 hfl C hmg hr hin htab ih
set_option maxHeartbeats 4000000 in
set_option maxRecDepth 100000 in
theorem wk_Mo_planFor_35 {p : Program} {l : Launch} {e : Env} {s : State} {m : MethodId} {args : Array Value} {below : List Frame} {meth : Method} {c : Code} {D : pq_D} {P0 : Pic} {po : Option Value → Pic → Prop} {th : String → Pic → Prop} {K35 : Pic → Nat → Int32 → Int32 → Prop} (hfl : l.flags = flags0) (C : Cx p e s m args meth c prog_15_method_17_code 4 "WaterWorksModel" D P0) (hmg : e.platform.magicAccessors = ({} : Platform).magicAccessors) (hr : meth.sig.returnType = (some .boolean)) (hin : meth.name = "planFor") (htab : c.exceptionTable.toList = tableOf []) (HK35 : ∀ (P : Pic) (a0 : Nat) (x1 : Int32) (x2 : Int32) (H : Heap) (locs : List Loc) (cells slots : Nat) (ls : Array Slot), K35 P a0 x1 x2 → Pi D P H → Sg (cq_A P0 s) s.heap H P locs → lv_has ls 4 [(0, .ref a0), (1, .int x1), (2, .int x2)] → cells + 0 ≤ 0 → slots + 0 ≤ 0 → W p l e rm_Mo_planFor s m args below meth c H locs cells slots (mt_MQ below (cq_Q D P0 false po th) args s 0 0 (cq_free P0 false)) (F0 m 35 ls [])) : ∀ (P : Pic) (a0 : Nat) (x1 : Int32) (x2 : Int32) (H : Heap) (locs : List Loc) (cells slots : Nat) (ls : Array Slot), wb_Mo_planFor_35 po th K35 P a0 x1 x2 → Pi D P H → Sg (cq_A P0 s) s.heap H P locs → lv_has ls 4 [(0, .ref a0), (1, .int x1), (2, .int x2)] → cells + 0 ≤ 0 → slots + 0 ≤ 0 → W p l e rm_Mo_planFor s m args below meth c H locs cells slots (mt_MQ below (cq_Q D P0 false po th) args s 0 0 (cq_free P0 false)) (F0 m 35 ls []) := by
  intro P a0 x1 x2 H locs cells slots ls h hP hS hl hcc hss
  obtain ⟨hx, hb, hml, hown, hlocks, htr, hT, hK, hSt, hN, hP0⟩ := id C
  have L13_12 : pq_fl s m args 13 12 5 := ⟨_, "WaterWorksModel", "WaterWorksModel", rfl, by decide, hown, Or.inl (hT _ k_1109 _), (fun _ z => z)⟩
  have L17_12 : pq_fl s m args 17 12 6 := ⟨_, "WaterWorksModel", "WaterWorksModel", rfl, by decide, hown, Or.inl (hT _ k_1110 _), (fun _ z => z)⟩
  have L20_12 : pq_fl s m args 20 12 7 := ⟨_, "WaterWorksModel", "WaterWorksModel", rfl, by decide, hown, Or.inl (hT _ k_1111 _), (fun _ z => z)⟩
  have L23_12 : pq_fl s m args 23 12 8 := ⟨_, "WaterWorksModel", "WaterWorksModel", rfl, by decide, hown, Or.inl (hT _ k_1112 _), (fun _ z => z)⟩
  have L29_12 : pq_fl s m args 29 12 10 := ⟨_, "WaterWorksModel", "WaterWorksModel", rfl, by decide, hown, Or.inl (hT _ k_1114 _), (fun _ z => z)⟩
  have L32_12 : pq_fl s m args 32 12 11 := ⟨_, "WaterWorksModel", "WaterWorksModel", rfl, by decide, hown, Or.inl (hT _ k_1115 _), (fun _ z => z)⟩
  have L35_12 : pq_fl s m args 35 12 12 := ⟨_, "WaterWorksModel", "WaterWorksModel", rfl, by decide, hown, Or.inl (hT _ k_1116 _), (fun _ z => z)⟩
  have L38_12 : pq_fl s m args 38 12 13 := ⟨_, "WaterWorksModel", "WaterWorksModel", rfl, by decide, hown, Or.inl (hT _ k_1117 _), (fun _ z => z)⟩
  have L7_12 : pq_fl s m args 7 12 4 := ⟨_, "WaterWorksModel", "WaterWorksModel", rfl, by decide, hown, Or.inl (hT _ k_1108 _), (fun _ z => z)⟩
  have L85_12 : pq_fl s m args 85 12 1 := ⟨_, "WaterWorksModel", "WaterWorksModel", rfl, by decide, hown, Or.inl (hT _ k_1105 _), (fun _ z => z)⟩
  have L88_12 : pq_fl s m args 88 12 2 := ⟨_, "WaterWorksModel", "WaterWorksModel", rfl, by decide, hown, Or.inl (hT _ k_1106 _), (fun _ z => z)⟩
  unfold wb_Mo_planFor_35 at h
  refine lv_iload_n (pc := 35) hx hb d_Mo_planFor_35 rfl (lv_at hl 2 rfl) ?_
  refine lv_iconst (pc := 36) (v := 2) hx hb d_Mo_planFor_36 (by decide) ?_
  refine lv_aload_n (pc := 37) hx hb d_Mo_planFor_37 rfl (lv_at hl 0 rfl) ?_
  obtain ⟨hk109, h⟩ := h
  refine pq_geti (pc := 38) (f := 482) hx hb hT hK hP L88_12 hk109 rfl d_Mo_planFor_38 ?_
  refine lv_imul (pc := 41) hx hb d_Mo_planFor_41 ?_
  refine lv_icmp_ge (pc := 42) (tgt := 89) hx hb d_Mo_planFor_42 (by decide) (fun c124 => ?_) (fun c124 => ?_)
  · replace h := h.1 c124
    refine lv_aload_n (pc := 89) hx hb d_Mo_planFor_89 rfl (lv_at hl 0 rfl) ?_
    refine cc_v (pc := 90) C (rest := []) (mt_invV (As := []) hx hb hown (hT _ k_1247 _) (hT _ k_1249 _) (hT _ ks_22 _) (mt_Cd.code (hT _ k_1250 #[])) h_Mo_spread (pq_recv hK hP hk109 rfl) n_Mo_spread rfl d_Mo_planFor_90) (ct_Mo_spread hfl D h) k_1250 k_24 ⟨Nat.le_of_ble_eq_true rfl, Nat.le_of_ble_eq_true rfl⟩ ⟨(show cells + 0 ≤ 0 by omega), (show slots + 0 ≤ 0 by omega)⟩ hl.1 d_Mo_planFor_90 (Nat.le_of_ble_eq_true rfl) hP hS (fun P110 H locs h hP hS => ?_) (fun xx X P110 H locs h hX hex hP hS => ?_)
    · refine lv_iconst (pc := 93) (v := 0) hx hb d_Mo_planFor_93 (by decide) ?_
      refine lv_istore_n (pc := 94) (lv' := [(2, .int (0 : Int32)), (0, .ref a0), (1, .int x1)]) hx hb d_Mo_planFor_94 rfl hl (by decide) rfl (fun ls hl => ?_)
      refine lv_iconst (pc := 95) (v := 0) hx hb d_Mo_planFor_95 (by decide) ?_
      refine lv_istore_n (pc := 96) (lv' := [(3, .int (0 : Int32)), (2, .int (0 : Int32)), (0, .ref a0), (1, .int x1)]) hx hb d_Mo_planFor_96 rfl hl (by decide) rfl (fun ls hl => ?_)
      obtain ⟨n, h⟩ := h
      exact wm_Mo_planFor_97 hfl C hmg hr hin htab n _ a0 x1 (0 : Int32) (0 : Int32) _ _ _ _ _ h hP hS (lv_sub hl [2, 3, 1, 0] rfl) (show cells + 0 + 0 ≤ 0 by omega) (show slots + 0 + 0 ≤ 0 by omega)
    · exact cq_out hlocks (pq_nil htab rfl) (show cells + 0 + 0 ≤ 0 by omega) (show slots + 0 + 0 ≤ 0 by omega) hX hex hP hS h
  · replace h := h.2 c124
    refine lv_aload_n (pc := 45) hx hb d_Mo_planFor_45 rfl (lv_at hl 0 rfl) ?_
    obtain ⟨a111, ea111, h⟩ := h
    refine pq_geta (pc := 46) (f := 491) hx hb hT hK hP L32_12 hk109 rfl ea111 d_Mo_planFor_46 ?_
    refine lv_iload_n (pc := 49) hx hb d_Mo_planFor_49 rfl (lv_at hl 2 rfl) ?_
    refine lv_aload_n (pc := 50) hx hb d_Mo_planFor_50 rfl (lv_at hl 0 rfl) ?_
    obtain ⟨a112, ea112, h⟩ := h
    refine pq_geta (pc := 51) (f := 486) hx hb hT hK hP L17_12 hk109 rfl ea112 d_Mo_planFor_51 ?_
    refine lv_iload_n (pc := 54) hx hb d_Mo_planFor_54 rfl (lv_at hl 2 rfl) ?_
    obtain ⟨hk113, h⟩ := h
    obtain ⟨hi114, h⟩ := h
    refine pq_zald (pc := 55) hx hb hK hP hk113 hi114 d_Mo_planFor_55 ?_
    refine lv_if_eq (pc := 56) (tgt := 77) hx hb d_Mo_planFor_56 (by decide) (fun c123 => ?_) (fun c123 => ?_)
    · replace h := h.1 c123
      exact wk_Mo_planFor_77 hfl C hmg hr hin htab HK35 _ a0 x1 x2 x2 a111 _ _ _ _ _ h hP hS (lv_sub hl [0, 1, 2] rfl) (show cells + 0 ≤ 0 by omega) (show slots + 0 ≤ 0 by omega)
    · replace h := h.2 c123
      refine lv_aload_n (pc := 59) hx hb d_Mo_planFor_59 rfl (lv_at hl 0 rfl) ?_
      obtain ⟨a115, ea115, h⟩ := h
      refine pq_geta (pc := 60) (f := 487) hx hb hT hK hP L20_12 hk109 rfl ea115 d_Mo_planFor_60 ?_
      refine lv_iload_n (pc := 63) hx hb d_Mo_planFor_63 rfl (lv_at hl 2 rfl) ?_
      obtain ⟨hk116, h⟩ := h
      obtain ⟨hi117, h⟩ := h
      refine pq_zald (pc := 64) hx hb hK hP hk116 hi117 d_Mo_planFor_64 ?_
      refine lv_if_eq (pc := 65) (tgt := 81) hx hb d_Mo_planFor_65 (by decide) (fun c122 => ?_) (fun c122 => ?_)
      · replace h := h.1 c122
        exact wk_Mo_planFor_81 hfl C hmg hr hin htab HK35 _ a0 x1 x2 x2 a111 _ _ _ _ _ h hP hS (lv_sub hl [0, 1, 2] rfl) (show cells + 0 ≤ 0 by omega) (show slots + 0 ≤ 0 by omega)
      · replace h := h.2 c122
        refine lv_aload_n (pc := 68) hx hb d_Mo_planFor_68 rfl (lv_at hl 0 rfl) ?_
        obtain ⟨a118, ea118, h⟩ := h
        refine pq_geta (pc := 69) (f := 488) hx hb hT hK hP L23_12 hk109 rfl ea118 d_Mo_planFor_69 ?_
        refine lv_iload_n (pc := 72) hx hb d_Mo_planFor_72 rfl (lv_at hl 2 rfl) ?_
        obtain ⟨hk119, h⟩ := h
        obtain ⟨hi120, h⟩ := h
        refine pq_zald (pc := 73) hx hb hK hP hk119 hi120 d_Mo_planFor_73 ?_
        refine lv_if_eq (pc := 74) (tgt := 81) hx hb d_Mo_planFor_74 (by decide) (fun c121 => ?_) (fun c121 => ?_)
        · replace h := h.1 c121
          exact wk_Mo_planFor_81 hfl C hmg hr hin htab HK35 _ a0 x1 x2 x2 a111 _ _ _ _ _ h hP hS (lv_sub hl [0, 1, 2] rfl) (show cells + 0 ≤ 0 by omega) (show slots + 0 ≤ 0 by omega)
        · replace h := h.2 c121
          exact wk_Mo_planFor_77 hfl C hmg hr hin htab HK35 _ a0 x1 x2 x2 a111 _ _ _ _ _ h hP hS (lv_sub hl [0, 1, 2] rfl) (show cells + 0 ≤ 0 by omega) (show slots + 0 ≤ 0 by omega)
theorem wm_Mo_planFor_35 {p : Program} {l : Launch} {e : Env} {s : State} {m : MethodId} {args : Array Value} {below : List Frame} {meth : Method} {c : Code} {D : pq_D} {P0 : Pic} {po : Option Value → Pic → Prop} {th : String → Pic → Prop} (hfl : l.flags = flags0) (C : Cx p e s m args meth c prog_15_method_17_code 4 "WaterWorksModel" D P0) (hmg : e.platform.magicAccessors = ({} : Platform).magicAccessors) (hr : meth.sig.returnType = (some .boolean)) (hin : meth.name = "planFor") (htab : c.exceptionTable.toList = tableOf []) : ∀ n : Nat, ∀ (P : Pic) (a0 : Nat) (x1 : Int32) (x2 : Int32) (H : Heap) (locs : List Loc) (cells slots : Nat) (ls : Array Slot), wl_Mo_planFor_35 po th n P a0 x1 x2 → Pi D P H → Sg (cq_A P0 s) s.heap H P locs → lv_has ls 4 [(0, .ref a0), (1, .int x1), (2, .int x2)] → cells + 0 ≤ 0 → slots + 0 ≤ 0 → W p l e rm_Mo_planFor s m args below meth c H locs cells slots (mt_MQ below (cq_Q D P0 false po th) args s 0 0 (cq_free P0 false)) (F0 m 35 ls []) := by
  intro n
  induction n with
  | zero => intro P a0 x1 x2 H locs cells slots ls h; exact h.elim
  | succ n ih => exact wk_Mo_planFor_35 hfl C hmg hr hin htab ih
set_option maxHeartbeats 4000000 in
set_option maxRecDepth 100000 in
theorem wk_Mo_planFor_2 {p : Program} {l : Launch} {e : Env} {s : State} {m : MethodId} {args : Array Value} {below : List Frame} {meth : Method} {c : Code} {D : pq_D} {P0 : Pic} {po : Option Value → Pic → Prop} {th : String → Pic → Prop} {K2 : Pic → Nat → Int32 → Int32 → Prop} (hfl : l.flags = flags0) (C : Cx p e s m args meth c prog_15_method_17_code 4 "WaterWorksModel" D P0) (hmg : e.platform.magicAccessors = ({} : Platform).magicAccessors) (hr : meth.sig.returnType = (some .boolean)) (hin : meth.name = "planFor") (htab : c.exceptionTable.toList = tableOf []) (HK2 : ∀ (P : Pic) (a0 : Nat) (x1 : Int32) (x2 : Int32) (H : Heap) (locs : List Loc) (cells slots : Nat) (ls : Array Slot), K2 P a0 x1 x2 → Pi D P H → Sg (cq_A P0 s) s.heap H P locs → lv_has ls 4 [(0, .ref a0), (1, .int x1), (2, .int x2)] → cells + 0 ≤ 0 → slots + 0 ≤ 0 → W p l e rm_Mo_planFor s m args below meth c H locs cells slots (mt_MQ below (cq_Q D P0 false po th) args s 0 0 (cq_free P0 false)) (F0 m 2 ls [])) : ∀ (P : Pic) (a0 : Nat) (x1 : Int32) (x2 : Int32) (H : Heap) (locs : List Loc) (cells slots : Nat) (ls : Array Slot), wb_Mo_planFor_2 po th K2 P a0 x1 x2 → Pi D P H → Sg (cq_A P0 s) s.heap H P locs → lv_has ls 4 [(0, .ref a0), (1, .int x1), (2, .int x2)] → cells + 0 ≤ 0 → slots + 0 ≤ 0 → W p l e rm_Mo_planFor s m args below meth c H locs cells slots (mt_MQ below (cq_Q D P0 false po th) args s 0 0 (cq_free P0 false)) (F0 m 2 ls []) := by
  intro P a0 x1 x2 H locs cells slots ls h hP hS hl hcc hss
  obtain ⟨hx, hb, hml, hown, hlocks, htr, hT, hK, hSt, hN, hP0⟩ := id C
  have L13_12 : pq_fl s m args 13 12 5 := ⟨_, "WaterWorksModel", "WaterWorksModel", rfl, by decide, hown, Or.inl (hT _ k_1109 _), (fun _ z => z)⟩
  have L17_12 : pq_fl s m args 17 12 6 := ⟨_, "WaterWorksModel", "WaterWorksModel", rfl, by decide, hown, Or.inl (hT _ k_1110 _), (fun _ z => z)⟩
  have L20_12 : pq_fl s m args 20 12 7 := ⟨_, "WaterWorksModel", "WaterWorksModel", rfl, by decide, hown, Or.inl (hT _ k_1111 _), (fun _ z => z)⟩
  have L23_12 : pq_fl s m args 23 12 8 := ⟨_, "WaterWorksModel", "WaterWorksModel", rfl, by decide, hown, Or.inl (hT _ k_1112 _), (fun _ z => z)⟩
  have L29_12 : pq_fl s m args 29 12 10 := ⟨_, "WaterWorksModel", "WaterWorksModel", rfl, by decide, hown, Or.inl (hT _ k_1114 _), (fun _ z => z)⟩
  have L32_12 : pq_fl s m args 32 12 11 := ⟨_, "WaterWorksModel", "WaterWorksModel", rfl, by decide, hown, Or.inl (hT _ k_1115 _), (fun _ z => z)⟩
  have L35_12 : pq_fl s m args 35 12 12 := ⟨_, "WaterWorksModel", "WaterWorksModel", rfl, by decide, hown, Or.inl (hT _ k_1116 _), (fun _ z => z)⟩
  have L38_12 : pq_fl s m args 38 12 13 := ⟨_, "WaterWorksModel", "WaterWorksModel", rfl, by decide, hown, Or.inl (hT _ k_1117 _), (fun _ z => z)⟩
  have L7_12 : pq_fl s m args 7 12 4 := ⟨_, "WaterWorksModel", "WaterWorksModel", rfl, by decide, hown, Or.inl (hT _ k_1108 _), (fun _ z => z)⟩
  have L85_12 : pq_fl s m args 85 12 1 := ⟨_, "WaterWorksModel", "WaterWorksModel", rfl, by decide, hown, Or.inl (hT _ k_1105 _), (fun _ z => z)⟩
  have L88_12 : pq_fl s m args 88 12 2 := ⟨_, "WaterWorksModel", "WaterWorksModel", rfl, by decide, hown, Or.inl (hT _ k_1106 _), (fun _ z => z)⟩
  unfold wb_Mo_planFor_2 at h
  refine lv_iload_n (pc := 2) hx hb d_Mo_planFor_2 rfl (lv_at hl 2 rfl) ?_
  refine lv_bipush (pc := 3) (v := 28) hx hb d_Mo_planFor_3 (by decide) ?_
  refine lv_icmp_ge (pc := 5) (tgt := 33) hx hb d_Mo_planFor_5 (by decide) (fun c104 => ?_) (fun c104 => ?_)
  · replace h := h.1 c104
    refine lv_iconst (pc := 33) (v := 0) hx hb d_Mo_planFor_33 (by decide) ?_
    refine lv_istore_n (pc := 34) (lv' := [(2, .int (0 : Int32)), (0, .ref a0), (1, .int x1)]) hx hb d_Mo_planFor_34 rfl hl (by decide) rfl (fun ls hl => ?_)
    obtain ⟨n, h⟩ := h
    exact wm_Mo_planFor_35 hfl C hmg hr hin htab n _ a0 x1 (0 : Int32) _ _ _ _ _ h hP hS (lv_sub hl [1, 2, 0] rfl) (show cells + 0 ≤ 0 by omega) (show slots + 0 ≤ 0 by omega)
  · replace h := h.2 c104
    refine lv_aload_n (pc := 8) hx hb d_Mo_planFor_8 rfl (lv_at hl 0 rfl) ?_
    obtain ⟨hk101, h⟩ := h
    obtain ⟨a102, ea102, h⟩ := h
    refine pq_geta (pc := 9) (f := 490) hx hb hT hK hP L29_12 hk101 rfl ea102 d_Mo_planFor_9 ?_
    refine lv_iload_n (pc := 12) hx hb d_Mo_planFor_12 rfl (lv_at hl 2 rfl) ?_
    refine lv_iload_n (pc := 13) hx hb d_Mo_planFor_13 rfl (lv_at hl 2 rfl) ?_
    refine lv_bipush (pc := 14) (v := 12) hx hb d_Mo_planFor_14 (by decide) ?_
    refine lv_iload_n (pc := 16) hx hb d_Mo_planFor_16 rfl (lv_at hl 1 rfl) ?_
    refine lv_iadd (pc := 17) hx hb d_Mo_planFor_17 ?_
    refine lv_icmp_ne (pc := 18) (tgt := 25) hx hb d_Mo_planFor_18 (by decide) (fun c103 => ?_) (fun c103 => ?_)
    · replace h := h.1 c103
      refine lv_iconst (pc := 25) (v := 0) hx hb d_Mo_planFor_25 (by decide) ?_
      exact wk_Mo_planFor_26 hfl C hmg hr hin htab HK2 _ a0 x1 x2 (0 : Int32) x2 a102 _ _ _ _ _ h hP hS (lv_sub hl [0, 1, 2] rfl) (show cells + 0 ≤ 0 by omega) (show slots + 0 ≤ 0 by omega)
    · replace h := h.2 c103
      refine lv_iconst (pc := 21) (v := 1) hx hb d_Mo_planFor_21 (by decide) ?_
      refine lv_goto (pc := 22) (tgt := 26) hx hb d_Mo_planFor_22 (by decide) ?_
      exact wk_Mo_planFor_26 hfl C hmg hr hin htab HK2 _ a0 x1 x2 (1 : Int32) x2 a102 _ _ _ _ _ h hP hS (lv_sub hl [0, 1, 2] rfl) (show cells + 0 ≤ 0 by omega) (show slots + 0 ≤ 0 by omega)
theorem wm_Mo_planFor_2 {p : Program} {l : Launch} {e : Env} {s : State} {m : MethodId} {args : Array Value} {below : List Frame} {meth : Method} {c : Code} {D : pq_D} {P0 : Pic} {po : Option Value → Pic → Prop} {th : String → Pic → Prop} (hfl : l.flags = flags0) (C : Cx p e s m args meth c prog_15_method_17_code 4 "WaterWorksModel" D P0) (hmg : e.platform.magicAccessors = ({} : Platform).magicAccessors) (hr : meth.sig.returnType = (some .boolean)) (hin : meth.name = "planFor") (htab : c.exceptionTable.toList = tableOf []) : ∀ n : Nat, ∀ (P : Pic) (a0 : Nat) (x1 : Int32) (x2 : Int32) (H : Heap) (locs : List Loc) (cells slots : Nat) (ls : Array Slot), wl_Mo_planFor_2 po th n P a0 x1 x2 → Pi D P H → Sg (cq_A P0 s) s.heap H P locs → lv_has ls 4 [(0, .ref a0), (1, .int x1), (2, .int x2)] → cells + 0 ≤ 0 → slots + 0 ≤ 0 → W p l e rm_Mo_planFor s m args below meth c H locs cells slots (mt_MQ below (cq_Q D P0 false po th) args s 0 0 (cq_free P0 false)) (F0 m 2 ls []) := by
  intro n
  induction n with
  | zero => intro P a0 x1 x2 H locs cells slots ls h; exact h.elim
  | succ n ih => exact wk_Mo_planFor_2 hfl C hmg hr hin htab ih
set_option maxHeartbeats 4000000 in
set_option maxRecDepth 100000 in
theorem ct_Mo_planFor {l : Launch} (hfl : l.flags = flags0) (D : pq_D) {po : Option Value → Pic → Prop} {th : String → Pic → Prop} {P : Pic} {a0 : Nat} {x1 : Int32} (h : wp_Mo_planFor po th P a0 x1) : CT l D y_Mo_planFor (.code y_Mo_planFor prog_15_method_17_code 4 (some .boolean)) rm_Mo_planFor false [.ref a0, .int x1] P po th := by
  refine ct_of (hs := []) hfl (by decide +kernel) (Or.inl ⟨rfl, rfl⟩) (Nat.le_of_ble_eq_true rfl) ?_
  intro p e s m below meth c C hmg hr hin htab ls hl
  have hl : lv_has ls 4 [(0, .ref a0), (1, .int x1)] := hl
  generalize hargs : ([.ref a0, .int x1] : List Value).toArray = args at C ⊢
  obtain ⟨hx, hb, hml, hown, hlocks, htr, hT, hK, hSt, hN, hP0⟩ := id C
  have L13_12 : pq_fl s m args 13 12 5 := ⟨_, "WaterWorksModel", "WaterWorksModel", rfl, by decide, hown, Or.inl (hT _ k_1109 _), (fun _ z => z)⟩
  have L17_12 : pq_fl s m args 17 12 6 := ⟨_, "WaterWorksModel", "WaterWorksModel", rfl, by decide, hown, Or.inl (hT _ k_1110 _), (fun _ z => z)⟩
  have L20_12 : pq_fl s m args 20 12 7 := ⟨_, "WaterWorksModel", "WaterWorksModel", rfl, by decide, hown, Or.inl (hT _ k_1111 _), (fun _ z => z)⟩
  have L23_12 : pq_fl s m args 23 12 8 := ⟨_, "WaterWorksModel", "WaterWorksModel", rfl, by decide, hown, Or.inl (hT _ k_1112 _), (fun _ z => z)⟩
  have L29_12 : pq_fl s m args 29 12 10 := ⟨_, "WaterWorksModel", "WaterWorksModel", rfl, by decide, hown, Or.inl (hT _ k_1114 _), (fun _ z => z)⟩
  have L32_12 : pq_fl s m args 32 12 11 := ⟨_, "WaterWorksModel", "WaterWorksModel", rfl, by decide, hown, Or.inl (hT _ k_1115 _), (fun _ z => z)⟩
  have L35_12 : pq_fl s m args 35 12 12 := ⟨_, "WaterWorksModel", "WaterWorksModel", rfl, by decide, hown, Or.inl (hT _ k_1116 _), (fun _ z => z)⟩
  have L38_12 : pq_fl s m args 38 12 13 := ⟨_, "WaterWorksModel", "WaterWorksModel", rfl, by decide, hown, Or.inl (hT _ k_1117 _), (fun _ z => z)⟩
  have L7_12 : pq_fl s m args 7 12 4 := ⟨_, "WaterWorksModel", "WaterWorksModel", rfl, by decide, hown, Or.inl (hT _ k_1108 _), (fun _ z => z)⟩
  have L85_12 : pq_fl s m args 85 12 1 := ⟨_, "WaterWorksModel", "WaterWorksModel", rfl, by decide, hown, Or.inl (hT _ k_1105 _), (fun _ z => z)⟩
  have L88_12 : pq_fl s m args 88 12 2 := ⟨_, "WaterWorksModel", "WaterWorksModel", rfl, by decide, hown, Or.inl (hT _ k_1106 _), (fun _ z => z)⟩
  have hP : Pi D P s.heap := hP0
  have hS : Sg (cq_A P s) s.heap s.heap P [] := Sg.start hP0
  unfold wp_Mo_planFor at h
  refine lv_iconst (pc := 0) (v := 0) hx hb d_Mo_planFor_0 (by decide) ?_
  refine lv_istore_n (pc := 1) (lv' := [(2, .int (0 : Int32)), (0, .ref a0), (1, .int x1)]) hx hb d_Mo_planFor_1 rfl hl (by decide) rfl (fun ls hl => ?_)
  obtain ⟨n, h⟩ := h
  exact wm_Mo_planFor_2 hfl C hmg hr hin htab n _ a0 x1 (0 : Int32) _ _ _ _ _ h hP hS (lv_sub hl [1, 2, 0] rfl) (show 0 + 0 ≤ 0 by omega) (show 0 + 0 ≤ 0 by omega)
/-! WaterWorksModel.shutCount()I -/
abbrev y_Mo_shutCount : MethodName := ⟨"WaterWorksModel", "shutCount", "()I"⟩
abbrev rm_Mo_shutCount : Room := { frames := 1, cells := 0, slots := 0, locals := 40 }
theorem h_Mo_shutCount : y_Mo_shutCount.cls ≠ "java/lang/invoke/MethodHandle" ∧ y_Mo_shutCount.cls ≠ "java/lang/invoke/VarHandle" := by decide +kernel
theorem n_Mo_shutCount : (parseMethodDescriptor y_Mo_shutCount.desc).map (fun d => d.parameters.length) = some 0 := by decide +kernel
theorem d_Mo_shutCount_0 : decode prog_15_method_18_code 0 = .ok (.iconst 0, 1) := by decide +kernel
theorem d_Mo_shutCount_1 : decode prog_15_method_18_code 1 = .ok (.istore_n 1, 1) := by decide +kernel
theorem d_Mo_shutCount_2 : decode prog_15_method_18_code 2 = .ok (.iconst 0, 1) := by decide +kernel
theorem d_Mo_shutCount_3 : decode prog_15_method_18_code 3 = .ok (.istore_n 2, 1) := by decide +kernel
theorem d_Mo_shutCount_4 : decode prog_15_method_18_code 4 = .ok (.iload_n 2, 1) := by decide +kernel
theorem d_Mo_shutCount_5 : decode prog_15_method_18_code 5 = .ok (.bipush 32, 2) := by decide +kernel
theorem d_Mo_shutCount_7 : decode prog_15_method_18_code 7 = .ok (.if_icmp .ge 26, 3) := by decide +kernel
theorem d_Mo_shutCount_10 : decode prog_15_method_18_code 10 = .ok (.aload_n 0, 1) := by decide +kernel
theorem d_Mo_shutCount_11 : decode prog_15_method_18_code 11 = .ok (.getfield 38, 3) := by decide +kernel
theorem d_Mo_shutCount_14 : decode prog_15_method_18_code 14 = .ok (.iload_n 2, 1) := by decide +kernel
theorem d_Mo_shutCount_15 : decode prog_15_method_18_code 15 = .ok (.baload, 1) := by decide +kernel
theorem d_Mo_shutCount_16 : decode prog_15_method_18_code 16 = .ok (.ifCond .eq 9, 3) := by decide +kernel
theorem d_Mo_shutCount_19 : decode prog_15_method_18_code 19 = .ok (.iload_n 1, 1) := by decide +kernel
theorem d_Mo_shutCount_20 : decode prog_15_method_18_code 20 = .ok (.iconst 1, 1) := by decide +kernel
theorem d_Mo_shutCount_21 : decode prog_15_method_18_code 21 = .ok (.iadd, 1) := by decide +kernel
theorem d_Mo_shutCount_22 : decode prog_15_method_18_code 22 = .ok (.goto 4, 3) := by decide +kernel
theorem d_Mo_shutCount_25 : decode prog_15_method_18_code 25 = .ok (.iload_n 1, 1) := by decide +kernel
theorem d_Mo_shutCount_26 : decode prog_15_method_18_code 26 = .ok (.istore_n 1, 1) := by decide +kernel
theorem d_Mo_shutCount_27 : decode prog_15_method_18_code 27 = .ok (.iinc 2 1, 3) := by decide +kernel
theorem d_Mo_shutCount_30 : decode prog_15_method_18_code 30 = .ok (.goto (-26), 3) := by decide +kernel
theorem d_Mo_shutCount_33 : decode prog_15_method_18_code 33 = .ok (.iload_n 1, 1) := by decide +kernel
theorem d_Mo_shutCount_34 : decode prog_15_method_18_code 34 = .ok (.ireturn, 1) := by decide +kernel
def wb_Mo_shutCount_26 (po : Option Value → Pic → Prop) (th : String → Pic → Prop) (K4 : Pic → Nat → Int32 → Int32 → Prop) (P : Pic) (a0 : Nat) (x2 : Int32) (t0 : Int32) : Prop := ∀ (x107 : Int32), x107 = x2 + 1 → K4 P a0 t0 x107
def wb_Mo_shutCount_4 (po : Option Value → Pic → Prop) (th : String → Pic → Prop) (K4 : Pic → Nat → Int32 → Int32 → Prop) (P : Pic) (a0 : Nat) (x1 : Int32) (x2 : Int32) : Prop := (((32 : Int32) ≤ x2 → (po (some (.int x1)) P)) ∧ (¬ (32 : Int32) ≤ x2 → (p_k P a0 = 13 ∧ ∃ a102, p_r P 493 a0 = some a102 ∧ p_k P a102 = 103 ∧ vp_in x2 (p_n P a102) ∧ (((p_ai P a102 (Int32.toNatClampNeg x2)) = 0 → (wb_Mo_shutCount_26 po th K4 P a0 x2 x1)) ∧ (¬ (p_ai P a102 (Int32.toNatClampNeg x2)) = 0 → (wb_Mo_shutCount_26 po th K4 P a0 x2 (x1 + (1 : Int32))))))))
def wl_Mo_shutCount_4 (po : Option Value → Pic → Prop) (th : String → Pic → Prop) : Nat → Pic → Nat → Int32 → Int32 → Prop
  | 0 => fun _ _ _ _ => False
  | n + 1 => wb_Mo_shutCount_4 po th (wl_Mo_shutCount_4 po th n)
def wp_Mo_shutCount (po : Option Value → Pic → Prop) (th : String → Pic → Prop) (P : Pic) (a0 : Nat) : Prop := ∃ n, wl_Mo_shutCount_4 po th n P a0 (0 : Int32) (0 : Int32)
set_option maxHeartbeats 4000000 in
set_option maxRecDepth 100000 in
theorem wk_Mo_shutCount_26 {p : Program} {l : Launch} {e : Env} {s : State} {m : MethodId} {args : Array Value} {below : List Frame} {meth : Method} {c : Code} {D : pq_D} {P : Pic} {po : Option Value → Pic → Prop} {th : String → Pic → Prop} {K4 : Pic → Nat → Int32 → Int32 → Prop} (hfl : l.flags = flags0) (C : Cx p e s m args meth c prog_15_method_18_code 3 "WaterWorksModel" D P) (hmg : e.platform.magicAccessors = ({} : Platform).magicAccessors) (hr : meth.sig.returnType = (some .int)) (hin : meth.name = "shutCount") (htab : c.exceptionTable.toList = tableOf []) (HK4 : ∀ (a0 : Nat) (x1 : Int32) (x2 : Int32) (H : Heap) (cells slots : Nat) (ls : Array Slot), K4 P a0 x1 x2 → So s.heap H → lv_has ls 3 [(0, .ref a0), (1, .int x1), (2, .int x2)] → cells + 0 ≤ 0 → slots + 0 ≤ 0 → W p l e rm_Mo_shutCount s m args below meth c H [] cells slots (mt_MQ below (cq_Q D P true po th) args s 0 0 (cq_free P true)) (F0 m 4 ls [])) : ∀ (a0 : Nat) (x2 : Int32) (t0 : Int32) (H : Heap) (cells slots : Nat) (ls : Array Slot), wb_Mo_shutCount_26 po th K4 P a0 x2 t0 → So s.heap H → lv_has ls 3 [(0, .ref a0), (2, .int x2)] → cells + 0 ≤ 0 → slots + 0 ≤ 0 → W p l e rm_Mo_shutCount s m args below meth c H [] cells slots (mt_MQ below (cq_Q D P true po th) args s 0 0 (cq_free P true)) (F0 m 26 ls [.int t0]) := by
  intro a0 x2 t0 H cells slots ls h hO hl hcc hss
  obtain ⟨hx, hb, hml, hown, hlocks, htr, hT, hK, hSt, hN, hP0⟩ := id C
  have L38_12 : pq_fl s m args 38 12 13 := ⟨_, "WaterWorksModel", "WaterWorksModel", rfl, by decide, hown, Or.inl (hT _ k_1117 _), (fun _ z => z)⟩
  have hP : Pi D P H := So.pi hP0 hO
  unfold wb_Mo_shutCount_26 at h
  refine lv_istore_n (pc := 26) (lv' := [(1, .int t0), (0, .ref a0), (2, .int x2)]) hx hb d_Mo_shutCount_26 rfl hl (by decide) rfl (fun ls hl => ?_)
  obtain ⟨x107, ex107⟩ : ∃ z : Int32, z = x2 + 1 := ⟨_, rfl⟩
  replace h := h x107 ex107
  refine lv_iinc (pc := 27) (v := x107) (lv' := [(2, .int x107), (1, .int t0), (0, .ref a0)]) hx hb d_Mo_shutCount_27 hl (k := 2) rfl (by rw [ex107]; rfl) (by decide) rfl (fun ls hl => ?_)
  refine lv_goto (pc := 30) (tgt := 4) hx hb d_Mo_shutCount_30 (by decide) ?_
  exact HK4 a0 t0 x107 _ _ _ _ h hO (lv_sub hl [2, 1, 0] rfl) (show cells + 0 ≤ 0 by omega) (show slots + 0 ≤ 0 by omega)
set_option maxHeartbeats 4000000 in
set_option maxRecDepth 100000 in
theorem wk_Mo_shutCount_4 {p : Program} {l : Launch} {e : Env} {s : State} {m : MethodId} {args : Array Value} {below : List Frame} {meth : Method} {c : Code} {D : pq_D} {P : Pic} {po : Option Value → Pic → Prop} {th : String → Pic → Prop} {K4 : Pic → Nat → Int32 → Int32 → Prop} (hfl : l.flags = flags0) (C : Cx p e s m args meth c prog_15_method_18_code 3 "WaterWorksModel" D P) (hmg : e.platform.magicAccessors = ({} : Platform).magicAccessors) (hr : meth.sig.returnType = (some .int)) (hin : meth.name = "shutCount") (htab : c.exceptionTable.toList = tableOf []) (HK4 : ∀ (a0 : Nat) (x1 : Int32) (x2 : Int32) (H : Heap) (cells slots : Nat) (ls : Array Slot), K4 P a0 x1 x2 → So s.heap H → lv_has ls 3 [(0, .ref a0), (1, .int x1), (2, .int x2)] → cells + 0 ≤ 0 → slots + 0 ≤ 0 → W p l e rm_Mo_shutCount s m args below meth c H [] cells slots (mt_MQ below (cq_Q D P true po th) args s 0 0 (cq_free P true)) (F0 m 4 ls [])) : ∀ (a0 : Nat) (x1 : Int32) (x2 : Int32) (H : Heap) (cells slots : Nat) (ls : Array Slot), wb_Mo_shutCount_4 po th K4 P a0 x1 x2 → So s.heap H → lv_has ls 3 [(0, .ref a0), (1, .int x1), (2, .int x2)] → cells + 0 ≤ 0 → slots + 0 ≤ 0 → W p l e rm_Mo_shutCount s m args below meth c H [] cells slots (mt_MQ below (cq_Q D P true po th) args s 0 0 (cq_free P true)) (F0 m 4 ls []) := by
  intro a0 x1 x2 H cells slots ls h hO hl hcc hss
  obtain ⟨hx, hb, hml, hown, hlocks, htr, hT, hK, hSt, hN, hP0⟩ := id C
  have L38_12 : pq_fl s m args 38 12 13 := ⟨_, "WaterWorksModel", "WaterWorksModel", rfl, by decide, hown, Or.inl (hT _ k_1117 _), (fun _ z => z)⟩
  have hP : Pi D P H := So.pi hP0 hO
  unfold wb_Mo_shutCount_4 at h
  refine lv_iload_n (pc := 4) hx hb d_Mo_shutCount_4 rfl (lv_at hl 2 rfl) ?_
  refine lv_bipush (pc := 5) (v := 32) hx hb d_Mo_shutCount_5 (by decide) ?_
  refine lv_icmp_ge (pc := 7) (tgt := 33) hx hb d_Mo_shutCount_7 (by decide) (fun c106 => ?_) (fun c106 => ?_)
  · replace h := h.1 c106
    refine lv_iload_n (pc := 33) hx hb d_Mo_shutCount_33 rfl (lv_at hl 1 rfl) ?_
    exact wo_i (pc := 34) hx hb hlocks hr hP0 hO (show cells + 0 ≤ 0 by omega) (show slots + 0 ≤ 0 by omega) h d_Mo_shutCount_34
  · replace h := h.2 c106
    refine lv_aload_n (pc := 10) hx hb d_Mo_shutCount_10 rfl (lv_at hl 0 rfl) ?_
    obtain ⟨hk101, h⟩ := h
    obtain ⟨a102, ea102, h⟩ := h
    refine pq_geta (pc := 11) (f := 493) hx hb hT hK hP L38_12 hk101 rfl ea102 d_Mo_shutCount_11 ?_
    refine lv_iload_n (pc := 14) hx hb d_Mo_shutCount_14 rfl (lv_at hl 2 rfl) ?_
    obtain ⟨hk103, h⟩ := h
    obtain ⟨hi104, h⟩ := h
    refine pq_zald (pc := 15) hx hb hK hP hk103 hi104 d_Mo_shutCount_15 ?_
    refine lv_if_eq (pc := 16) (tgt := 25) hx hb d_Mo_shutCount_16 (by decide) (fun c105 => ?_) (fun c105 => ?_)
    · replace h := h.1 c105
      refine lv_iload_n (pc := 25) hx hb d_Mo_shutCount_25 rfl (lv_at hl 1 rfl) ?_
      exact wk_Mo_shutCount_26 hfl C hmg hr hin htab HK4 a0 x2 x1 _ _ _ _ h hO (lv_sub hl [0, 2] rfl) (show cells + 0 ≤ 0 by omega) (show slots + 0 ≤ 0 by omega)
    · replace h := h.2 c105
      refine lv_iload_n (pc := 19) hx hb d_Mo_shutCount_19 rfl (lv_at hl 1 rfl) ?_
      refine lv_iconst (pc := 20) (v := 1) hx hb d_Mo_shutCount_20 (by decide) ?_
      refine lv_iadd (pc := 21) hx hb d_Mo_shutCount_21 ?_
      refine lv_goto (pc := 22) (tgt := 26) hx hb d_Mo_shutCount_22 (by decide) ?_
      exact wk_Mo_shutCount_26 hfl C hmg hr hin htab HK4 a0 x2 (x1 + (1 : Int32)) _ _ _ _ h hO (lv_sub hl [0, 2] rfl) (show cells + 0 ≤ 0 by omega) (show slots + 0 ≤ 0 by omega)
theorem wm_Mo_shutCount_4 {p : Program} {l : Launch} {e : Env} {s : State} {m : MethodId} {args : Array Value} {below : List Frame} {meth : Method} {c : Code} {D : pq_D} {P : Pic} {po : Option Value → Pic → Prop} {th : String → Pic → Prop} (hfl : l.flags = flags0) (C : Cx p e s m args meth c prog_15_method_18_code 3 "WaterWorksModel" D P) (hmg : e.platform.magicAccessors = ({} : Platform).magicAccessors) (hr : meth.sig.returnType = (some .int)) (hin : meth.name = "shutCount") (htab : c.exceptionTable.toList = tableOf []) : ∀ n : Nat, ∀ (a0 : Nat) (x1 : Int32) (x2 : Int32) (H : Heap) (cells slots : Nat) (ls : Array Slot), wl_Mo_shutCount_4 po th n P a0 x1 x2 → So s.heap H → lv_has ls 3 [(0, .ref a0), (1, .int x1), (2, .int x2)] → cells + 0 ≤ 0 → slots + 0 ≤ 0 → W p l e rm_Mo_shutCount s m args below meth c H [] cells slots (mt_MQ below (cq_Q D P true po th) args s 0 0 (cq_free P true)) (F0 m 4 ls []) := by
  intro n
  induction n with
  | zero => intro a0 x1 x2 H cells slots ls h; exact h.elim
  | succ n ih => exact wk_Mo_shutCount_4 hfl C hmg hr hin htab ih
set_option maxHeartbeats 4000000 in
set_option maxRecDepth 100000 in
theorem ct_Mo_shutCount {l : Launch} (hfl : l.flags = flags0) (D : pq_D) {po : Option Value → Pic → Prop} {th : String → Pic → Prop} {P : Pic} {a0 : Nat} (h : wp_Mo_shutCount po th P a0) : CT l D y_Mo_shutCount (.code y_Mo_shutCount prog_15_method_18_code 3 (some .int)) rm_Mo_shutCount true [.ref a0] P po th := by
  refine ct_of (hs := []) hfl (by decide +kernel) (Or.inl ⟨rfl, rfl⟩) (Nat.le_of_ble_eq_true rfl) ?_
  intro p e s m below meth c C hmg hr hin htab ls hl
  have hl : lv_has ls 3 [(0, .ref a0)] := hl
  generalize hargs : ([.ref a0] : List Value).toArray = args at C ⊢
  obtain ⟨hx, hb, hml, hown, hlocks, htr, hT, hK, hSt, hN, hP0⟩ := id C
  have L38_12 : pq_fl s m args 38 12 13 := ⟨_, "WaterWorksModel", "WaterWorksModel", rfl, by decide, hown, Or.inl (hT _ k_1117 _), (fun _ z => z)⟩
  have hO : So s.heap s.heap := So.rf
  have hP : Pi D P s.heap := hP0
  unfold wp_Mo_shutCount at h
  refine lv_iconst (pc := 0) (v := 0) hx hb d_Mo_shutCount_0 (by decide) ?_
  refine lv_istore_n (pc := 1) (lv' := [(1, .int (0 : Int32)), (0, .ref a0)]) hx hb d_Mo_shutCount_1 rfl hl (by decide) rfl (fun ls hl => ?_)
  refine lv_iconst (pc := 2) (v := 0) hx hb d_Mo_shutCount_2 (by decide) ?_
  refine lv_istore_n (pc := 3) (lv' := [(2, .int (0 : Int32)), (1, .int (0 : Int32)), (0, .ref a0)]) hx hb d_Mo_shutCount_3 rfl hl (by decide) rfl (fun ls hl => ?_)
  obtain ⟨n, h⟩ := h
  exact wm_Mo_shutCount_4 hfl C hmg hr hin htab n a0 (0 : Int32) (0 : Int32) _ _ _ _ h hO (lv_sub hl [2, 1, 0] rfl) (show 0 + 0 ≤ 0 by omega) (show 0 + 0 ≤ 0 by omega)
/-! WaterWorksModel.shutOff(I)I -/
abbrev y_Mo_shutOff : MethodName := ⟨"WaterWorksModel", "shutOff", "(I)I"⟩
abbrev rm_Mo_shutOff : Room := { frames := 4, cells := 0, slots := 0, locals := 108 }
theorem h_Mo_shutOff : y_Mo_shutOff.cls ≠ "java/lang/invoke/MethodHandle" ∧ y_Mo_shutOff.cls ≠ "java/lang/invoke/VarHandle" := by decide +kernel
theorem n_Mo_shutOff : (parseMethodDescriptor y_Mo_shutOff.desc).map (fun d => d.parameters.length) = some 1 := by decide +kernel
theorem d_Mo_shutOff_0 : decode prog_15_method_19_code 0 = .ok (.aload_n 0, 1) := by decide +kernel
theorem d_Mo_shutOff_1 : decode prog_15_method_19_code 1 = .ok (.aload_n 0, 1) := by decide +kernel
theorem d_Mo_shutOff_2 : decode prog_15_method_19_code 2 = .ok (.iload_n 1, 1) := by decide +kernel
theorem d_Mo_shutOff_3 : decode prog_15_method_19_code 3 = .ok (.invokevirtual 91, 3) := by decide +kernel
theorem d_Mo_shutOff_6 : decode prog_15_method_19_code 6 = .ok (.ifCond .eq 7, 3) := by decide +kernel
theorem d_Mo_shutOff_9 : decode prog_15_method_19_code 9 = .ok (.iconst 1, 1) := by decide +kernel
theorem d_Mo_shutOff_10 : decode prog_15_method_19_code 10 = .ok (.goto 4, 3) := by decide +kernel
theorem d_Mo_shutOff_13 : decode prog_15_method_19_code 13 = .ok (.iconst 0, 1) := by decide +kernel
theorem d_Mo_shutOff_14 : decode prog_15_method_19_code 14 = .ok (.putfield 81, 3) := by decide +kernel
theorem d_Mo_shutOff_17 : decode prog_15_method_19_code 17 = .ok (.aload_n 0, 1) := by decide +kernel
theorem d_Mo_shutOff_18 : decode prog_15_method_19_code 18 = .ok (.getfield 81, 3) := by decide +kernel
theorem d_Mo_shutOff_21 : decode prog_15_method_19_code 21 = .ok (.ifCond .le 7, 3) := by decide +kernel
theorem d_Mo_shutOff_24 : decode prog_15_method_19_code 24 = .ok (.iconst 0, 1) := by decide +kernel
theorem d_Mo_shutOff_25 : decode prog_15_method_19_code 25 = .ok (.goto 19, 3) := by decide +kernel
theorem d_Mo_shutOff_28 : decode prog_15_method_19_code 28 = .ok (.aload_n 0, 1) := by decide +kernel
theorem d_Mo_shutOff_29 : decode prog_15_method_19_code 29 = .ok (.iload_n 1, 1) := by decide +kernel
theorem d_Mo_shutOff_30 : decode prog_15_method_19_code 30 = .ok (.invokevirtual 118, 3) := by decide +kernel
theorem d_Mo_shutOff_33 : decode prog_15_method_19_code 33 = .ok (.ifCond .eq 10, 3) := by decide +kernel
theorem d_Mo_shutOff_36 : decode prog_15_method_19_code 36 = .ok (.aload_n 0, 1) := by decide +kernel
theorem d_Mo_shutOff_37 : decode prog_15_method_19_code 37 = .ok (.invokevirtual 121, 3) := by decide +kernel
theorem d_Mo_shutOff_40 : decode prog_15_method_19_code 40 = .ok (.goto 4, 3) := by decide +kernel
theorem d_Mo_shutOff_43 : decode prog_15_method_19_code 43 = .ok (.iconst (-1), 1) := by decide +kernel
theorem d_Mo_shutOff_44 : decode prog_15_method_19_code 44 = .ok (.ireturn, 1) := by decide +kernel
def wb_Mo_shutOff_14 (po : Option Value → Pic → Prop) (th : String → Pic → Prop) (P : Pic) (a0 : Nat) (x1 : Int32) (t0 : Int32) (t1 : Nat) : Prop := p_k P t1 = 13 ∧ p_k (s_i P 480 t1 t0) a0 = 13 ∧ (((p_i (s_i P 480 t1 t0) 480 a0) ≤ 0 → (wp_Mo_planFor (cp_i fun x106 P107 => ((x106 = 0 → (po (some (.int (-1 : Int32))) P107)) ∧ (¬ x106 = 0 → (p_k P107 a0 = 13 ∧ wp_Mo_shutCount (cp_i fun x109 _ => po (some (.int x109)) P107) th P107 a0)))) th (s_i P 480 t1 t0) a0 x1)) ∧ (¬ (p_i (s_i P 480 t1 t0) 480 a0) ≤ 0 → (po (some (.int (0 : Int32))) (s_i P 480 t1 t0))))
def wp_Mo_shutOff (po : Option Value → Pic → Prop) (th : String → Pic → Prop) (P : Pic) (a0 : Nat) (x1 : Int32) : Prop := p_k P a0 = 13 ∧ wp_Mo_noPipe (cp_i fun x102 _ => ((x102 = 0 → (wb_Mo_shutOff_14 po th P a0 x1 (0 : Int32) a0)) ∧ (¬ x102 = 0 → (wb_Mo_shutOff_14 po th P a0 x1 (1 : Int32) a0)))) th P a0 x1
set_option maxHeartbeats 4000000 in
set_option maxRecDepth 100000 in
theorem wk_Mo_shutOff_14 {p : Program} {l : Launch} {e : Env} {s : State} {m : MethodId} {args : Array Value} {below : List Frame} {meth : Method} {c : Code} {D : pq_D} {P0 : Pic} {po : Option Value → Pic → Prop} {th : String → Pic → Prop} (hfl : l.flags = flags0) (C : Cx p e s m args meth c prog_15_method_19_code 2 "WaterWorksModel" D P0) (hmg : e.platform.magicAccessors = ({} : Platform).magicAccessors) (hr : meth.sig.returnType = (some .int)) (hin : meth.name = "shutOff") (htab : c.exceptionTable.toList = tableOf []) : ∀ (P : Pic) (a0 : Nat) (x1 : Int32) (t0 : Int32) (t1 : Nat) (H : Heap) (locs : List Loc) (cells slots : Nat) (ls : Array Slot), wb_Mo_shutOff_14 po th P a0 x1 t0 t1 → Pi D P H → Sg (cq_A P0 s) s.heap H P locs → lv_has ls 2 [(0, .ref a0), (1, .int x1)] → cells + 0 ≤ 0 → slots + 0 ≤ 0 → W p l e rm_Mo_shutOff s m args below meth c H locs cells slots (mt_MQ below (cq_Q D P0 false po th) args s 0 0 (cq_free P0 false)) (F0 m 14 ls [.int t0, .ref t1]) := by
  intro P a0 x1 t0 t1 H locs cells slots ls h hP hS hl hcc hss
  obtain ⟨hx, hb, hml, hown, hlocks, htr, hT, hK, hSt, hN, hP0⟩ := id C
  have L81_12 : pq_fl s m args 81 12 0 := ⟨_, "WaterWorksModel", "WaterWorksModel", rfl, by decide, hown, Or.inl (hT _ k_1104 _), (fun _ z => z)⟩
  unfold wb_Mo_shutOff_14 at h
  obtain ⟨hk104, h⟩ := h
  refine pq_puti (pc := 14) (f := 480) hx hb hT hK hP hS L81_12 hk104 rfl rfl rfl rfl d_Mo_shutOff_14 (fun H locs hP hS => ?_)
  have hk104 : p_k (s_i P 480 t1 t0) t1 = 13 := by rw [pk_i]; exact hk104
  refine lv_aload_n (pc := 17) hx hb d_Mo_shutOff_17 rfl (lv_at hl 0 rfl) ?_
  obtain ⟨hk105, h⟩ := h
  refine pq_geti (pc := 18) (f := 480) hx hb hT hK hP L81_12 hk105 rfl d_Mo_shutOff_18 ?_
  refine lv_if_le (pc := 21) (tgt := 28) hx hb d_Mo_shutOff_21 (by decide) (fun c111 => ?_) (fun c111 => ?_)
  · replace h := h.1 c111
    refine lv_aload_n (pc := 28) hx hb d_Mo_shutOff_28 rfl (lv_at hl 0 rfl) ?_
    refine lv_iload_n (pc := 29) hx hb d_Mo_shutOff_29 rfl (lv_at hl 1 rfl) ?_
    refine cc_i (pc := 30) C (rest := []) (mt_invV (As := [.int x1]) hx hb hown (hT _ k_1255 _) (hT _ k_1257 _) (hT _ ks_23 _) (mt_Cd.code (hT _ k_1258 #[])) h_Mo_planFor (pq_recv hK hP hk105 rfl) n_Mo_planFor rfl d_Mo_shutOff_30) (ct_Mo_planFor hfl D h) k_1258 k_24 ⟨Nat.le_of_ble_eq_true rfl, Nat.le_of_ble_eq_true rfl⟩ ⟨(show cells + 0 ≤ 0 by omega), (show slots + 0 ≤ 0 by omega)⟩ hl.1 d_Mo_shutOff_30 (Nat.le_of_ble_eq_true rfl) hP hS (fun x106 P107 H locs h hP hS => ?_) (fun xx X P107 H locs h hX hex hP hS => ?_)
    · refine lv_if_eq (pc := 33) (tgt := 43) hx hb d_Mo_shutOff_33 (by decide) (fun c110 => ?_) (fun c110 => ?_)
      · replace h := h.1 c110
        refine lv_iconst (pc := 43) (v := (-1)) hx hb d_Mo_shutOff_43 (by decide) ?_
        exact we_i (pc := 44) hx hb hlocks hr hP hS (show cells + 0 + 0 ≤ 0 by omega) (show slots + 0 + 0 ≤ 0 by omega) h d_Mo_shutOff_44
      · replace h := h.2 c110
        refine lv_aload_n (pc := 36) hx hb d_Mo_shutOff_36 rfl (lv_at hl 0 rfl) ?_
        obtain ⟨hk108, h⟩ := h
        refine cr_i (pc := 37) C (rest := []) (mt_invV (As := []) hx hb hown (hT _ k_1263 _) (hT _ k_1265 _) (hT _ ks_25 _) (mt_Cd.code (hT _ k_1266 #[])) h_Mo_shutCount (pq_recv hK hP hk108 rfl) n_Mo_shutCount rfl d_Mo_shutOff_37) (ct_Mo_shutCount hfl D h) k_1266 k_24 ⟨Nat.le_of_ble_eq_true rfl, Nat.le_of_ble_eq_true rfl⟩ ⟨(show cells + 0 + 0 ≤ 0 by omega), (show slots + 0 + 0 ≤ 0 by omega)⟩ hl.1 d_Mo_shutOff_37 (Nat.le_of_ble_eq_true rfl) hP hS (fun x109 H locs h hP hS => ?_) (fun xx X H locs h hX hex hP hS => ?_)
        · refine lv_goto (pc := 40) (tgt := 44) hx hb d_Mo_shutOff_40 (by decide) ?_
          exact we_i (pc := 44) hx hb hlocks hr hP hS (show cells + 0 + 0 + 0 ≤ 0 by omega) (show slots + 0 + 0 + 0 ≤ 0 by omega) h d_Mo_shutOff_44
        · exact cq_out hlocks (pq_nil htab rfl) (show cells + 0 + 0 + 0 ≤ 0 by omega) (show slots + 0 + 0 + 0 ≤ 0 by omega) hX hex hP hS h
    · exact cq_out hlocks (pq_nil htab rfl) (show cells + 0 + 0 ≤ 0 by omega) (show slots + 0 + 0 ≤ 0 by omega) hX hex hP hS h
  · replace h := h.2 c111
    refine lv_iconst (pc := 24) (v := 0) hx hb d_Mo_shutOff_24 (by decide) ?_
    refine lv_goto (pc := 25) (tgt := 44) hx hb d_Mo_shutOff_25 (by decide) ?_
    exact we_i (pc := 44) hx hb hlocks hr hP hS (show cells + 0 ≤ 0 by omega) (show slots + 0 ≤ 0 by omega) h d_Mo_shutOff_44
set_option maxHeartbeats 4000000 in
set_option maxRecDepth 100000 in
theorem ct_Mo_shutOff {l : Launch} (hfl : l.flags = flags0) (D : pq_D) {po : Option Value → Pic → Prop} {th : String → Pic → Prop} {P : Pic} {a0 : Nat} {x1 : Int32} (h : wp_Mo_shutOff po th P a0 x1) : CT l D y_Mo_shutOff (.code y_Mo_shutOff prog_15_method_19_code 2 (some .int)) rm_Mo_shutOff false [.ref a0, .int x1] P po th := by
  refine ct_of (hs := []) hfl (by decide +kernel) (Or.inl ⟨rfl, rfl⟩) (Nat.le_of_ble_eq_true rfl) ?_
  intro p e s m below meth c C hmg hr hin htab ls hl
  have hl : lv_has ls 2 [(0, .ref a0), (1, .int x1)] := hl
  generalize hargs : ([.ref a0, .int x1] : List Value).toArray = args at C ⊢
  obtain ⟨hx, hb, hml, hown, hlocks, htr, hT, hK, hSt, hN, hP0⟩ := id C
  have L81_12 : pq_fl s m args 81 12 0 := ⟨_, "WaterWorksModel", "WaterWorksModel", rfl, by decide, hown, Or.inl (hT _ k_1104 _), (fun _ z => z)⟩
  have hP : Pi D P s.heap := hP0
  have hS : Sg (cq_A P s) s.heap s.heap P [] := Sg.start hP0
  unfold wp_Mo_shutOff at h
  refine lv_aload_n (pc := 0) hx hb d_Mo_shutOff_0 rfl (lv_at hl 0 rfl) ?_
  refine lv_aload_n (pc := 1) hx hb d_Mo_shutOff_1 rfl (lv_at hl 0 rfl) ?_
  refine lv_iload_n (pc := 2) hx hb d_Mo_shutOff_2 rfl (lv_at hl 1 rfl) ?_
  obtain ⟨hk101, h⟩ := h
  refine cr_i (pc := 3) C (rest := [.ref a0]) (mt_invV (As := [.int x1]) hx hb hown (hT _ k_1227 _) (hT _ k_1229 _) (hT _ ks_19 _) (mt_Cd.code (hT _ k_1230 #[])) h_Mo_noPipe (pq_recv hK hP hk101 rfl) n_Mo_noPipe rfl d_Mo_shutOff_3) (ct_Mo_noPipe hfl D h) k_1230 k_24 ⟨Nat.le_of_ble_eq_true rfl, Nat.le_of_ble_eq_true rfl⟩ ⟨(show 0 + 0 ≤ 0 by omega), (show 0 + 0 ≤ 0 by omega)⟩ hl.1 d_Mo_shutOff_3 (Nat.le_of_ble_eq_true rfl) hP hS (fun x102 H locs h hP hS => ?_) (fun xx X H locs h hX hex hP hS => ?_)
  · refine lv_if_eq (pc := 6) (tgt := 13) hx hb d_Mo_shutOff_6 (by decide) (fun c103 => ?_) (fun c103 => ?_)
    · replace h := h.1 c103
      refine lv_iconst (pc := 13) (v := 0) hx hb d_Mo_shutOff_13 (by decide) ?_
      exact wk_Mo_shutOff_14 hfl C hmg hr hin htab _ a0 x1 (0 : Int32) a0 _ _ _ _ _ h hP hS (lv_sub hl [0, 1] rfl) (show 0 + 0 + 0 ≤ 0 by omega) (show 0 + 0 + 0 ≤ 0 by omega)
    · replace h := h.2 c103
      refine lv_iconst (pc := 9) (v := 1) hx hb d_Mo_shutOff_9 (by decide) ?_
      refine lv_goto (pc := 10) (tgt := 14) hx hb d_Mo_shutOff_10 (by decide) ?_
      exact wk_Mo_shutOff_14 hfl C hmg hr hin htab _ a0 x1 (1 : Int32) a0 _ _ _ _ _ h hP hS (lv_sub hl [0, 1] rfl) (show 0 + 0 + 0 ≤ 0 by omega) (show 0 + 0 + 0 ≤ 0 by omega)
  · exact cq_out hlocks (pq_nil htab rfl) (show 0 + 0 + 0 ≤ 0 by omega) (show 0 + 0 + 0 ≤ 0 by omega) hX hex hP hS h
/-! WaterWorksModel.plan(II)I -/
abbrev y_Mo_plan : MethodName := ⟨"WaterWorksModel", "plan", "(II)I"⟩
abbrev rm_Mo_plan : Room := { frames := 4, cells := 0, slots := 0, locals := 108 }
theorem h_Mo_plan : y_Mo_plan.cls ≠ "java/lang/invoke/MethodHandle" ∧ y_Mo_plan.cls ≠ "java/lang/invoke/VarHandle" := by decide +kernel
theorem n_Mo_plan : (parseMethodDescriptor y_Mo_plan.desc).map (fun d => d.parameters.length) = some 2 := by decide +kernel
theorem d_Mo_plan_0 : decode prog_15_method_20_code 0 = .ok (.aload_n 0, 1) := by decide +kernel
theorem d_Mo_plan_1 : decode prog_15_method_20_code 1 = .ok (.aload_n 0, 1) := by decide +kernel
theorem d_Mo_plan_2 : decode prog_15_method_20_code 2 = .ok (.iload_n 1, 1) := by decide +kernel
theorem d_Mo_plan_3 : decode prog_15_method_20_code 3 = .ok (.invokevirtual 91, 3) := by decide +kernel
theorem d_Mo_plan_6 : decode prog_15_method_20_code 6 = .ok (.ifCond .eq 7, 3) := by decide +kernel
theorem d_Mo_plan_9 : decode prog_15_method_20_code 9 = .ok (.iconst 1, 1) := by decide +kernel
theorem d_Mo_plan_10 : decode prog_15_method_20_code 10 = .ok (.goto 4, 3) := by decide +kernel
theorem d_Mo_plan_13 : decode prog_15_method_20_code 13 = .ok (.iconst 0, 1) := by decide +kernel
theorem d_Mo_plan_14 : decode prog_15_method_20_code 14 = .ok (.putfield 81, 3) := by decide +kernel
theorem d_Mo_plan_17 : decode prog_15_method_20_code 17 = .ok (.aload_n 0, 1) := by decide +kernel
theorem d_Mo_plan_18 : decode prog_15_method_20_code 18 = .ok (.getfield 81, 3) := by decide +kernel
theorem d_Mo_plan_21 : decode prog_15_method_20_code 21 = .ok (.ifCond .le 5, 3) := by decide +kernel
theorem d_Mo_plan_24 : decode prog_15_method_20_code 24 = .ok (.iconst 0, 1) := by decide +kernel
theorem d_Mo_plan_25 : decode prog_15_method_20_code 25 = .ok (.ireturn, 1) := by decide +kernel
theorem d_Mo_plan_26 : decode prog_15_method_20_code 26 = .ok (.aload_n 0, 1) := by decide +kernel
theorem d_Mo_plan_27 : decode prog_15_method_20_code 27 = .ok (.iload_n 1, 1) := by decide +kernel
theorem d_Mo_plan_28 : decode prog_15_method_20_code 28 = .ok (.invokevirtual 118, 3) := by decide +kernel
theorem d_Mo_plan_31 : decode prog_15_method_20_code 31 = .ok (.ifCond .eq 7, 3) := by decide +kernel
theorem d_Mo_plan_34 : decode prog_15_method_20_code 34 = .ok (.iload_n 2, 1) := by decide +kernel
theorem d_Mo_plan_35 : decode prog_15_method_20_code 35 = .ok (.goto 4, 3) := by decide +kernel
theorem d_Mo_plan_38 : decode prog_15_method_20_code 38 = .ok (.iconst (-1), 1) := by decide +kernel
theorem d_Mo_plan_39 : decode prog_15_method_20_code 39 = .ok (.istore_n 3, 1) := by decide +kernel
theorem d_Mo_plan_40 : decode prog_15_method_20_code 40 = .ok (.iconst 0, 1) := by decide +kernel
theorem d_Mo_plan_41 : decode prog_15_method_20_code 41 = .ok (.istore 4, 2) := by decide +kernel
theorem d_Mo_plan_43 : decode prog_15_method_20_code 43 = .ok (.iload 4, 2) := by decide +kernel
theorem d_Mo_plan_45 : decode prog_15_method_20_code 45 = .ok (.bipush 32, 2) := by decide +kernel
theorem d_Mo_plan_47 : decode prog_15_method_20_code 47 = .ok (.if_icmp .ge 29, 3) := by decide +kernel
theorem d_Mo_plan_50 : decode prog_15_method_20_code 50 = .ok (.aload_n 0, 1) := by decide +kernel
theorem d_Mo_plan_51 : decode prog_15_method_20_code 51 = .ok (.getfield 38, 3) := by decide +kernel
theorem d_Mo_plan_54 : decode prog_15_method_20_code 54 = .ok (.iload 4, 2) := by decide +kernel
theorem d_Mo_plan_56 : decode prog_15_method_20_code 56 = .ok (.baload, 1) := by decide +kernel
theorem d_Mo_plan_57 : decode prog_15_method_20_code 57 = .ok (.ifCond .eq 13, 3) := by decide +kernel
theorem d_Mo_plan_60 : decode prog_15_method_20_code 60 = .ok (.iload_n 3, 1) := by decide +kernel
theorem d_Mo_plan_61 : decode prog_15_method_20_code 61 = .ok (.ifCond .ne 6, 3) := by decide +kernel
theorem d_Mo_plan_64 : decode prog_15_method_20_code 64 = .ok (.iload 4, 2) := by decide +kernel
theorem d_Mo_plan_66 : decode prog_15_method_20_code 66 = .ok (.ireturn, 1) := by decide +kernel
theorem d_Mo_plan_67 : decode prog_15_method_20_code 67 = .ok (.iinc 3 (-1), 3) := by decide +kernel
theorem d_Mo_plan_70 : decode prog_15_method_20_code 70 = .ok (.iinc 4 1, 3) := by decide +kernel
theorem d_Mo_plan_73 : decode prog_15_method_20_code 73 = .ok (.goto (-30), 3) := by decide +kernel
theorem d_Mo_plan_76 : decode prog_15_method_20_code 76 = .ok (.iconst (-1), 1) := by decide +kernel
theorem d_Mo_plan_77 : decode prog_15_method_20_code 77 = .ok (.ireturn, 1) := by decide +kernel
def wb_Mo_plan_70 (po : Option Value → Pic → Prop) (th : String → Pic → Prop) (K43 : Pic → Nat → Int32 → Int32 → Prop) (P : Pic) (a0 : Nat) (x3 : Int32) (x4 : Int32) : Prop := ∀ (x118 : Int32), x118 = x4 + 1 → K43 P a0 x3 x118
def wb_Mo_plan_43 (po : Option Value → Pic → Prop) (th : String → Pic → Prop) (K43 : Pic → Nat → Int32 → Int32 → Prop) (P : Pic) (a0 : Nat) (x3 : Int32) (x4 : Int32) : Prop := (((32 : Int32) ≤ x4 → (po (some (.int (-1 : Int32))) P)) ∧ (¬ (32 : Int32) ≤ x4 → (p_k P a0 = 13 ∧ ∃ a111, p_r P 493 a0 = some a111 ∧ p_k P a111 = 103 ∧ vp_in x4 (p_n P a111) ∧ (((p_ai P a111 (Int32.toNatClampNeg x4)) = 0 → (wb_Mo_plan_70 po th K43 P a0 x3 x4)) ∧ (¬ (p_ai P a111 (Int32.toNatClampNeg x4)) = 0 → (((¬ x3 = 0 → (∀ (x114 : Int32), x114 = x3 + (-1) → wb_Mo_plan_70 po th K43 P a0 x114 x4)) ∧ (x3 = 0 → (po (some (.int x4)) P)))))))))
def wl_Mo_plan_43 (po : Option Value → Pic → Prop) (th : String → Pic → Prop) : Nat → Pic → Nat → Int32 → Int32 → Prop
  | 0 => fun _ _ _ _ => False
  | n + 1 => wb_Mo_plan_43 po th (wl_Mo_plan_43 po th n)
def wb_Mo_plan_39 (po : Option Value → Pic → Prop) (th : String → Pic → Prop) (P : Pic) (a0 : Nat) (t0 : Int32) : Prop := ∃ n, wl_Mo_plan_43 po th n P a0 t0 (0 : Int32)
def wb_Mo_plan_14 (po : Option Value → Pic → Prop) (th : String → Pic → Prop) (P : Pic) (a0 : Nat) (x1 : Int32) (x2 : Int32) (t0 : Int32) (t1 : Nat) : Prop := p_k P t1 = 13 ∧ p_k (s_i P 480 t1 t0) a0 = 13 ∧ (((p_i (s_i P 480 t1 t0) 480 a0) ≤ 0 → (wp_Mo_planFor (cp_i fun x106 P107 => ((x106 = 0 → (wb_Mo_plan_39 po th P107 a0 (-1 : Int32))) ∧ (¬ x106 = 0 → (wb_Mo_plan_39 po th P107 a0 x2)))) th (s_i P 480 t1 t0) a0 x1)) ∧ (¬ (p_i (s_i P 480 t1 t0) 480 a0) ≤ 0 → (po (some (.int (0 : Int32))) (s_i P 480 t1 t0))))
def wp_Mo_plan (po : Option Value → Pic → Prop) (th : String → Pic → Prop) (P : Pic) (a0 : Nat) (x1 : Int32) (x2 : Int32) : Prop := p_k P a0 = 13 ∧ wp_Mo_noPipe (cp_i fun x102 _ => ((x102 = 0 → (wb_Mo_plan_14 po th P a0 x1 x2 (0 : Int32) a0)) ∧ (¬ x102 = 0 → (wb_Mo_plan_14 po th P a0 x1 x2 (1 : Int32) a0)))) th P a0 x1
set_option maxHeartbeats 4000000 in
set_option maxRecDepth 100000 in
theorem wk_Mo_plan_70 {p : Program} {l : Launch} {e : Env} {s : State} {m : MethodId} {args : Array Value} {below : List Frame} {meth : Method} {c : Code} {D : pq_D} {P0 : Pic} {po : Option Value → Pic → Prop} {th : String → Pic → Prop} {K43 : Pic → Nat → Int32 → Int32 → Prop} (hfl : l.flags = flags0) (C : Cx p e s m args meth c prog_15_method_20_code 5 "WaterWorksModel" D P0) (hmg : e.platform.magicAccessors = ({} : Platform).magicAccessors) (hr : meth.sig.returnType = (some .int)) (hin : meth.name = "plan") (htab : c.exceptionTable.toList = tableOf []) (HK43 : ∀ (P : Pic) (a0 : Nat) (x3 : Int32) (x4 : Int32) (H : Heap) (locs : List Loc) (cells slots : Nat) (ls : Array Slot), K43 P a0 x3 x4 → Pi D P H → Sg (cq_A P0 s) s.heap H P locs → lv_has ls 5 [(0, .ref a0), (3, .int x3), (4, .int x4)] → cells + 0 ≤ 0 → slots + 0 ≤ 0 → W p l e rm_Mo_plan s m args below meth c H locs cells slots (mt_MQ below (cq_Q D P0 false po th) args s 0 0 (cq_free P0 false)) (F0 m 43 ls [])) : ∀ (P : Pic) (a0 : Nat) (x3 : Int32) (x4 : Int32) (H : Heap) (locs : List Loc) (cells slots : Nat) (ls : Array Slot), wb_Mo_plan_70 po th K43 P a0 x3 x4 → Pi D P H → Sg (cq_A P0 s) s.heap H P locs → lv_has ls 5 [(0, .ref a0), (3, .int x3), (4, .int x4)] → cells + 0 ≤ 0 → slots + 0 ≤ 0 → W p l e rm_Mo_plan s m args below meth c H locs cells slots (mt_MQ below (cq_Q D P0 false po th) args s 0 0 (cq_free P0 false)) (F0 m 70 ls []) := by
  intro P a0 x3 x4 H locs cells slots ls h hP hS hl hcc hss
  obtain ⟨hx, hb, hml, hown, hlocks, htr, hT, hK, hSt, hN, hP0⟩ := id C
  have L38_12 : pq_fl s m args 38 12 13 := ⟨_, "WaterWorksModel", "WaterWorksModel", rfl, by decide, hown, Or.inl (hT _ k_1117 _), (fun _ z => z)⟩
  have L81_12 : pq_fl s m args 81 12 0 := ⟨_, "WaterWorksModel", "WaterWorksModel", rfl, by decide, hown, Or.inl (hT _ k_1104 _), (fun _ z => z)⟩
  unfold wb_Mo_plan_70 at h
  obtain ⟨x118, ex118⟩ : ∃ z : Int32, z = x4 + 1 := ⟨_, rfl⟩
  replace h := h x118 ex118
  refine lv_iinc (pc := 70) (v := x118) (lv' := [(4, .int x118), (0, .ref a0), (3, .int x3)]) hx hb d_Mo_plan_70 hl (k := 2) rfl (by rw [ex118]; rfl) (by decide) rfl (fun ls hl => ?_)
  refine lv_goto (pc := 73) (tgt := 43) hx hb d_Mo_plan_73 (by decide) ?_
  exact HK43 _ a0 x3 x118 _ _ _ _ _ h hP hS (lv_sub hl [1, 2, 0] rfl) (show cells + 0 ≤ 0 by omega) (show slots + 0 ≤ 0 by omega)
set_option maxHeartbeats 4000000 in
set_option maxRecDepth 100000 in
theorem wk_Mo_plan_43 {p : Program} {l : Launch} {e : Env} {s : State} {m : MethodId} {args : Array Value} {below : List Frame} {meth : Method} {c : Code} {D : pq_D} {P0 : Pic} {po : Option Value → Pic → Prop} {th : String → Pic → Prop} {K43 : Pic → Nat → Int32 → Int32 → Prop} (hfl : l.flags = flags0) (C : Cx p e s m args meth c prog_15_method_20_code 5 "WaterWorksModel" D P0) (hmg : e.platform.magicAccessors = ({} : Platform).magicAccessors) (hr : meth.sig.returnType = (some .int)) (hin : meth.name = "plan") (htab : c.exceptionTable.toList = tableOf []) (HK43 : ∀ (P : Pic) (a0 : Nat) (x3 : Int32) (x4 : Int32) (H : Heap) (locs : List Loc) (cells slots : Nat) (ls : Array Slot), K43 P a0 x3 x4 → Pi D P H → Sg (cq_A P0 s) s.heap H P locs → lv_has ls 5 [(0, .ref a0), (3, .int x3), (4, .int x4)] → cells + 0 ≤ 0 → slots + 0 ≤ 0 → W p l e rm_Mo_plan s m args below meth c H locs cells slots (mt_MQ below (cq_Q D P0 false po th) args s 0 0 (cq_free P0 false)) (F0 m 43 ls [])) : ∀ (P : Pic) (a0 : Nat) (x3 : Int32) (x4 : Int32) (H : Heap) (locs : List Loc) (cells slots : Nat) (ls : Array Slot), wb_Mo_plan_43 po th K43 P a0 x3 x4 → Pi D P H → Sg (cq_A P0 s) s.heap H P locs → lv_has ls 5 [(0, .ref a0), (3, .int x3), (4, .int x4)] → cells + 0 ≤ 0 → slots + 0 ≤ 0 → W p l e rm_Mo_plan s m args below meth c H locs cells slots (mt_MQ below (cq_Q D P0 false po th) args s 0 0 (cq_free P0 false)) (F0 m 43 ls []) := by
  intro P a0 x3 x4 H locs cells slots ls h hP hS hl hcc hss
  obtain ⟨hx, hb, hml, hown, hlocks, htr, hT, hK, hSt, hN, hP0⟩ := id C
  have L38_12 : pq_fl s m args 38 12 13 := ⟨_, "WaterWorksModel", "WaterWorksModel", rfl, by decide, hown, Or.inl (hT _ k_1117 _), (fun _ z => z)⟩
  have L81_12 : pq_fl s m args 81 12 0 := ⟨_, "WaterWorksModel", "WaterWorksModel", rfl, by decide, hown, Or.inl (hT _ k_1104 _), (fun _ z => z)⟩
  unfold wb_Mo_plan_43 at h
  refine lv_iload (pc := 43) hx hb d_Mo_plan_43 (lv_at hl 2 rfl) ?_
  refine lv_bipush (pc := 45) (v := 32) hx hb d_Mo_plan_45 (by decide) ?_
  refine lv_icmp_ge (pc := 47) (tgt := 76) hx hb d_Mo_plan_47 (by decide) (fun c117 => ?_) (fun c117 => ?_)
  · replace h := h.1 c117
    refine lv_iconst (pc := 76) (v := (-1)) hx hb d_Mo_plan_76 (by decide) ?_
    exact we_i (pc := 77) hx hb hlocks hr hP hS (show cells + 0 ≤ 0 by omega) (show slots + 0 ≤ 0 by omega) h d_Mo_plan_77
  · replace h := h.2 c117
    refine lv_aload_n (pc := 50) hx hb d_Mo_plan_50 rfl (lv_at hl 0 rfl) ?_
    obtain ⟨hk110, h⟩ := h
    obtain ⟨a111, ea111, h⟩ := h
    refine pq_geta (pc := 51) (f := 493) hx hb hT hK hP L38_12 hk110 rfl ea111 d_Mo_plan_51 ?_
    refine lv_iload (pc := 54) hx hb d_Mo_plan_54 (lv_at hl 2 rfl) ?_
    obtain ⟨hk112, h⟩ := h
    obtain ⟨hi113, h⟩ := h
    refine pq_zald (pc := 56) hx hb hK hP hk112 hi113 d_Mo_plan_56 ?_
    refine lv_if_eq (pc := 57) (tgt := 70) hx hb d_Mo_plan_57 (by decide) (fun c116 => ?_) (fun c116 => ?_)
    · replace h := h.1 c116
      exact wk_Mo_plan_70 hfl C hmg hr hin htab HK43 _ a0 x3 x4 _ _ _ _ _ h hP hS (lv_sub hl [0, 1, 2] rfl) (show cells + 0 ≤ 0 by omega) (show slots + 0 ≤ 0 by omega)
    · replace h := h.2 c116
      refine lv_iload_n (pc := 60) hx hb d_Mo_plan_60 rfl (lv_at hl 1 rfl) ?_
      refine lv_if_ne (pc := 61) (tgt := 67) hx hb d_Mo_plan_61 (by decide) (fun c115 => ?_) (fun c115 => ?_)
      · replace h := h.1 c115
        obtain ⟨x114, ex114⟩ : ∃ z : Int32, z = x3 + (-1) := ⟨_, rfl⟩
        replace h := h x114 ex114
        refine lv_iinc (pc := 67) (v := x114) (lv' := [(3, .int x114), (0, .ref a0), (4, .int x4)]) hx hb d_Mo_plan_67 hl (k := 1) rfl (by rw [ex114]; rfl) (by decide) rfl (fun ls hl => ?_)
        exact wk_Mo_plan_70 hfl C hmg hr hin htab HK43 _ a0 x114 x4 _ _ _ _ _ h hP hS (lv_sub hl [1, 0, 2] rfl) (show cells + 0 ≤ 0 by omega) (show slots + 0 ≤ 0 by omega)
      · replace h := h.2 c115
        refine lv_iload (pc := 64) hx hb d_Mo_plan_64 (lv_at hl 2 rfl) ?_
        exact we_i (pc := 66) hx hb hlocks hr hP hS (show cells + 0 ≤ 0 by omega) (show slots + 0 ≤ 0 by omega) h d_Mo_plan_66
theorem wm_Mo_plan_43 {p : Program} {l : Launch} {e : Env} {s : State} {m : MethodId} {args : Array Value} {below : List Frame} {meth : Method} {c : Code} {D : pq_D} {P0 : Pic} {po : Option Value → Pic → Prop} {th : String → Pic → Prop} (hfl : l.flags = flags0) (C : Cx p e s m args meth c prog_15_method_20_code 5 "WaterWorksModel" D P0) (hmg : e.platform.magicAccessors = ({} : Platform).magicAccessors) (hr : meth.sig.returnType = (some .int)) (hin : meth.name = "plan") (htab : c.exceptionTable.toList = tableOf []) : ∀ n : Nat, ∀ (P : Pic) (a0 : Nat) (x3 : Int32) (x4 : Int32) (H : Heap) (locs : List Loc) (cells slots : Nat) (ls : Array Slot), wl_Mo_plan_43 po th n P a0 x3 x4 → Pi D P H → Sg (cq_A P0 s) s.heap H P locs → lv_has ls 5 [(0, .ref a0), (3, .int x3), (4, .int x4)] → cells + 0 ≤ 0 → slots + 0 ≤ 0 → W p l e rm_Mo_plan s m args below meth c H locs cells slots (mt_MQ below (cq_Q D P0 false po th) args s 0 0 (cq_free P0 false)) (F0 m 43 ls []) := by
  intro n
  induction n with
  | zero => intro P a0 x3 x4 H locs cells slots ls h; exact h.elim
  | succ n ih => exact wk_Mo_plan_43 hfl C hmg hr hin htab ih
set_option maxHeartbeats 4000000 in
set_option maxRecDepth 100000 in
theorem wk_Mo_plan_39 {p : Program} {l : Launch} {e : Env} {s : State} {m : MethodId} {args : Array Value} {below : List Frame} {meth : Method} {c : Code} {D : pq_D} {P0 : Pic} {po : Option Value → Pic → Prop} {th : String → Pic → Prop} (hfl : l.flags = flags0) (C : Cx p e s m args meth c prog_15_method_20_code 5 "WaterWorksModel" D P0) (hmg : e.platform.magicAccessors = ({} : Platform).magicAccessors) (hr : meth.sig.returnType = (some .int)) (hin : meth.name = "plan") (htab : c.exceptionTable.toList = tableOf []) : ∀ (P : Pic) (a0 : Nat) (t0 : Int32) (H : Heap) (locs : List Loc) (cells slots : Nat) (ls : Array Slot), wb_Mo_plan_39 po th P a0 t0 → Pi D P H → Sg (cq_A P0 s) s.heap H P locs → lv_has ls 5 [(0, .ref a0)] → cells + 0 ≤ 0 → slots + 0 ≤ 0 → W p l e rm_Mo_plan s m args below meth c H locs cells slots (mt_MQ below (cq_Q D P0 false po th) args s 0 0 (cq_free P0 false)) (F0 m 39 ls [.int t0]) := by
  intro P a0 t0 H locs cells slots ls h hP hS hl hcc hss
  obtain ⟨hx, hb, hml, hown, hlocks, htr, hT, hK, hSt, hN, hP0⟩ := id C
  have L38_12 : pq_fl s m args 38 12 13 := ⟨_, "WaterWorksModel", "WaterWorksModel", rfl, by decide, hown, Or.inl (hT _ k_1117 _), (fun _ z => z)⟩
  have L81_12 : pq_fl s m args 81 12 0 := ⟨_, "WaterWorksModel", "WaterWorksModel", rfl, by decide, hown, Or.inl (hT _ k_1104 _), (fun _ z => z)⟩
  unfold wb_Mo_plan_39 at h
  refine lv_istore_n (pc := 39) (lv' := [(3, .int t0), (0, .ref a0)]) hx hb d_Mo_plan_39 rfl hl (by decide) rfl (fun ls hl => ?_)
  refine lv_iconst (pc := 40) (v := 0) hx hb d_Mo_plan_40 (by decide) ?_
  refine lv_istore (pc := 41) (lv' := [(4, .int (0 : Int32)), (3, .int t0), (0, .ref a0)]) hx hb d_Mo_plan_41 hl (by decide) rfl (fun ls hl => ?_)
  obtain ⟨n, h⟩ := h
  exact wm_Mo_plan_43 hfl C hmg hr hin htab n _ a0 t0 (0 : Int32) _ _ _ _ _ h hP hS (lv_sub hl [2, 1, 0] rfl) (show cells + 0 ≤ 0 by omega) (show slots + 0 ≤ 0 by omega)
set_option maxHeartbeats 4000000 in
set_option maxRecDepth 100000 in
theorem wk_Mo_plan_14 {p : Program} {l : Launch} {e : Env} {s : State} {m : MethodId} {args : Array Value} {below : List Frame} {meth : Method} {c : Code} {D : pq_D} {P0 : Pic} {po : Option Value → Pic → Prop} {th : String → Pic → Prop} (hfl : l.flags = flags0) (C : Cx p e s m args meth c prog_15_method_20_code 5 "WaterWorksModel" D P0) (hmg : e.platform.magicAccessors = ({} : Platform).magicAccessors) (hr : meth.sig.returnType = (some .int)) (hin : meth.name = "plan") (htab : c.exceptionTable.toList = tableOf []) : ∀ (P : Pic) (a0 : Nat) (x1 : Int32) (x2 : Int32) (t0 : Int32) (t1 : Nat) (H : Heap) (locs : List Loc) (cells slots : Nat) (ls : Array Slot), wb_Mo_plan_14 po th P a0 x1 x2 t0 t1 → Pi D P H → Sg (cq_A P0 s) s.heap H P locs → lv_has ls 5 [(0, .ref a0), (1, .int x1), (2, .int x2)] → cells + 0 ≤ 0 → slots + 0 ≤ 0 → W p l e rm_Mo_plan s m args below meth c H locs cells slots (mt_MQ below (cq_Q D P0 false po th) args s 0 0 (cq_free P0 false)) (F0 m 14 ls [.int t0, .ref t1]) := by
  intro P a0 x1 x2 t0 t1 H locs cells slots ls h hP hS hl hcc hss
  obtain ⟨hx, hb, hml, hown, hlocks, htr, hT, hK, hSt, hN, hP0⟩ := id C
  have L38_12 : pq_fl s m args 38 12 13 := ⟨_, "WaterWorksModel", "WaterWorksModel", rfl, by decide, hown, Or.inl (hT _ k_1117 _), (fun _ z => z)⟩
  have L81_12 : pq_fl s m args 81 12 0 := ⟨_, "WaterWorksModel", "WaterWorksModel", rfl, by decide, hown, Or.inl (hT _ k_1104 _), (fun _ z => z)⟩
  unfold wb_Mo_plan_14 at h
  obtain ⟨hk104, h⟩ := h
  refine pq_puti (pc := 14) (f := 480) hx hb hT hK hP hS L81_12 hk104 rfl rfl rfl rfl d_Mo_plan_14 (fun H locs hP hS => ?_)
  have hk104 : p_k (s_i P 480 t1 t0) t1 = 13 := by rw [pk_i]; exact hk104
  refine lv_aload_n (pc := 17) hx hb d_Mo_plan_17 rfl (lv_at hl 0 rfl) ?_
  obtain ⟨hk105, h⟩ := h
  refine pq_geti (pc := 18) (f := 480) hx hb hT hK hP L81_12 hk105 rfl d_Mo_plan_18 ?_
  refine lv_if_le (pc := 21) (tgt := 26) hx hb d_Mo_plan_21 (by decide) (fun c109 => ?_) (fun c109 => ?_)
  · replace h := h.1 c109
    refine lv_aload_n (pc := 26) hx hb d_Mo_plan_26 rfl (lv_at hl 0 rfl) ?_
    refine lv_iload_n (pc := 27) hx hb d_Mo_plan_27 rfl (lv_at hl 1 rfl) ?_
    refine cc_i (pc := 28) C (rest := []) (mt_invV (As := [.int x1]) hx hb hown (hT _ k_1255 _) (hT _ k_1257 _) (hT _ ks_23 _) (mt_Cd.code (hT _ k_1258 #[])) h_Mo_planFor (pq_recv hK hP hk105 rfl) n_Mo_planFor rfl d_Mo_plan_28) (ct_Mo_planFor hfl D h) k_1258 k_24 ⟨Nat.le_of_ble_eq_true rfl, Nat.le_of_ble_eq_true rfl⟩ ⟨(show cells + 0 ≤ 0 by omega), (show slots + 0 ≤ 0 by omega)⟩ hl.1 d_Mo_plan_28 (Nat.le_of_ble_eq_true rfl) hP hS (fun x106 P107 H locs h hP hS => ?_) (fun xx X P107 H locs h hX hex hP hS => ?_)
    · refine lv_if_eq (pc := 31) (tgt := 38) hx hb d_Mo_plan_31 (by decide) (fun c108 => ?_) (fun c108 => ?_)
      · replace h := h.1 c108
        refine lv_iconst (pc := 38) (v := (-1)) hx hb d_Mo_plan_38 (by decide) ?_
        exact wk_Mo_plan_39 hfl C hmg hr hin htab _ a0 (-1 : Int32) _ _ _ _ _ h hP hS (lv_sub hl [0] rfl) (show cells + 0 + 0 ≤ 0 by omega) (show slots + 0 + 0 ≤ 0 by omega)
      · replace h := h.2 c108
        refine lv_iload_n (pc := 34) hx hb d_Mo_plan_34 rfl (lv_at hl 2 rfl) ?_
        refine lv_goto (pc := 35) (tgt := 39) hx hb d_Mo_plan_35 (by decide) ?_
        exact wk_Mo_plan_39 hfl C hmg hr hin htab _ a0 x2 _ _ _ _ _ h hP hS (lv_sub hl [0] rfl) (show cells + 0 + 0 ≤ 0 by omega) (show slots + 0 + 0 ≤ 0 by omega)
    · exact cq_out hlocks (pq_nil htab rfl) (show cells + 0 + 0 ≤ 0 by omega) (show slots + 0 + 0 ≤ 0 by omega) hX hex hP hS h
  · replace h := h.2 c109
    refine lv_iconst (pc := 24) (v := 0) hx hb d_Mo_plan_24 (by decide) ?_
    exact we_i (pc := 25) hx hb hlocks hr hP hS (show cells + 0 ≤ 0 by omega) (show slots + 0 ≤ 0 by omega) h d_Mo_plan_25
set_option maxHeartbeats 4000000 in
set_option maxRecDepth 100000 in
theorem ct_Mo_plan {l : Launch} (hfl : l.flags = flags0) (D : pq_D) {po : Option Value → Pic → Prop} {th : String → Pic → Prop} {P : Pic} {a0 : Nat} {x1 : Int32} {x2 : Int32} (h : wp_Mo_plan po th P a0 x1 x2) : CT l D y_Mo_plan (.code y_Mo_plan prog_15_method_20_code 5 (some .int)) rm_Mo_plan false [.ref a0, .int x1, .int x2] P po th := by
  refine ct_of (hs := []) hfl (by decide +kernel) (Or.inl ⟨rfl, rfl⟩) (Nat.le_of_ble_eq_true rfl) ?_
  intro p e s m below meth c C hmg hr hin htab ls hl
  have hl : lv_has ls 5 [(0, .ref a0), (1, .int x1), (2, .int x2)] := hl
  generalize hargs : ([.ref a0, .int x1, .int x2] : List Value).toArray = args at C ⊢
  obtain ⟨hx, hb, hml, hown, hlocks, htr, hT, hK, hSt, hN, hP0⟩ := id C
  have L38_12 : pq_fl s m args 38 12 13 := ⟨_, "WaterWorksModel", "WaterWorksModel", rfl, by decide, hown, Or.inl (hT _ k_1117 _), (fun _ z => z)⟩
  have L81_12 : pq_fl s m args 81 12 0 := ⟨_, "WaterWorksModel", "WaterWorksModel", rfl, by decide, hown, Or.inl (hT _ k_1104 _), (fun _ z => z)⟩
  have hP : Pi D P s.heap := hP0
  have hS : Sg (cq_A P s) s.heap s.heap P [] := Sg.start hP0
  unfold wp_Mo_plan at h
  refine lv_aload_n (pc := 0) hx hb d_Mo_plan_0 rfl (lv_at hl 0 rfl) ?_
  refine lv_aload_n (pc := 1) hx hb d_Mo_plan_1 rfl (lv_at hl 0 rfl) ?_
  refine lv_iload_n (pc := 2) hx hb d_Mo_plan_2 rfl (lv_at hl 1 rfl) ?_
  obtain ⟨hk101, h⟩ := h
  refine cr_i (pc := 3) C (rest := [.ref a0]) (mt_invV (As := [.int x1]) hx hb hown (hT _ k_1227 _) (hT _ k_1229 _) (hT _ ks_19 _) (mt_Cd.code (hT _ k_1230 #[])) h_Mo_noPipe (pq_recv hK hP hk101 rfl) n_Mo_noPipe rfl d_Mo_plan_3) (ct_Mo_noPipe hfl D h) k_1230 k_24 ⟨Nat.le_of_ble_eq_true rfl, Nat.le_of_ble_eq_true rfl⟩ ⟨(show 0 + 0 ≤ 0 by omega), (show 0 + 0 ≤ 0 by omega)⟩ hl.1 d_Mo_plan_3 (Nat.le_of_ble_eq_true rfl) hP hS (fun x102 H locs h hP hS => ?_) (fun xx X H locs h hX hex hP hS => ?_)
  · refine lv_if_eq (pc := 6) (tgt := 13) hx hb d_Mo_plan_6 (by decide) (fun c103 => ?_) (fun c103 => ?_)
    · replace h := h.1 c103
      refine lv_iconst (pc := 13) (v := 0) hx hb d_Mo_plan_13 (by decide) ?_
      exact wk_Mo_plan_14 hfl C hmg hr hin htab _ a0 x1 x2 (0 : Int32) a0 _ _ _ _ _ h hP hS (lv_sub hl [0, 1, 2] rfl) (show 0 + 0 + 0 ≤ 0 by omega) (show 0 + 0 + 0 ≤ 0 by omega)
    · replace h := h.2 c103
      refine lv_iconst (pc := 9) (v := 1) hx hb d_Mo_plan_9 (by decide) ?_
      refine lv_goto (pc := 10) (tgt := 14) hx hb d_Mo_plan_10 (by decide) ?_
      exact wk_Mo_plan_14 hfl C hmg hr hin htab _ a0 x1 x2 (1 : Int32) a0 _ _ _ _ _ h hP hS (lv_sub hl [0, 1, 2] rfl) (show 0 + 0 + 0 ≤ 0 by omega) (show 0 + 0 + 0 ≤ 0 by omega)
  · exact cq_out hlocks (pq_nil htab rfl) (show 0 + 0 + 0 ≤ 0 by omega) (show 0 + 0 + 0 ≤ 0 by omega) hX hex hP hS h
/-! WaterWorksModel.dry(I)I -/
abbrev y_Mo_dry : MethodName := ⟨"WaterWorksModel", "dry", "(I)I"⟩
abbrev rm_Mo_dry : Room := { frames := 4, cells := 0, slots := 0, locals := 108 }
theorem h_Mo_dry : y_Mo_dry.cls ≠ "java/lang/invoke/MethodHandle" ∧ y_Mo_dry.cls ≠ "java/lang/invoke/VarHandle" := by decide +kernel
theorem n_Mo_dry : (parseMethodDescriptor y_Mo_dry.desc).map (fun d => d.parameters.length) = some 1 := by decide +kernel
theorem d_Mo_dry_0 : decode prog_15_method_21_code 0 = .ok (.aload_n 0, 1) := by decide +kernel
theorem d_Mo_dry_1 : decode prog_15_method_21_code 1 = .ok (.aload_n 0, 1) := by decide +kernel
theorem d_Mo_dry_2 : decode prog_15_method_21_code 2 = .ok (.iload_n 1, 1) := by decide +kernel
theorem d_Mo_dry_3 : decode prog_15_method_21_code 3 = .ok (.invokevirtual 91, 3) := by decide +kernel
theorem d_Mo_dry_6 : decode prog_15_method_21_code 6 = .ok (.ifCond .eq 7, 3) := by decide +kernel
theorem d_Mo_dry_9 : decode prog_15_method_21_code 9 = .ok (.iconst 1, 1) := by decide +kernel
theorem d_Mo_dry_10 : decode prog_15_method_21_code 10 = .ok (.goto 4, 3) := by decide +kernel
theorem d_Mo_dry_13 : decode prog_15_method_21_code 13 = .ok (.iconst 0, 1) := by decide +kernel
theorem d_Mo_dry_14 : decode prog_15_method_21_code 14 = .ok (.putfield 81, 3) := by decide +kernel
theorem d_Mo_dry_17 : decode prog_15_method_21_code 17 = .ok (.aload_n 0, 1) := by decide +kernel
theorem d_Mo_dry_18 : decode prog_15_method_21_code 18 = .ok (.getfield 81, 3) := by decide +kernel
theorem d_Mo_dry_21 : decode prog_15_method_21_code 21 = .ok (.ifCond .gt 11, 3) := by decide +kernel
theorem d_Mo_dry_24 : decode prog_15_method_21_code 24 = .ok (.aload_n 0, 1) := by decide +kernel
theorem d_Mo_dry_25 : decode prog_15_method_21_code 25 = .ok (.iload_n 1, 1) := by decide +kernel
theorem d_Mo_dry_26 : decode prog_15_method_21_code 26 = .ok (.invokevirtual 118, 3) := by decide +kernel
theorem d_Mo_dry_29 : decode prog_15_method_21_code 29 = .ok (.ifCond .ne 5, 3) := by decide +kernel
theorem d_Mo_dry_32 : decode prog_15_method_21_code 32 = .ok (.iconst 0, 1) := by decide +kernel
theorem d_Mo_dry_33 : decode prog_15_method_21_code 33 = .ok (.ireturn, 1) := by decide +kernel
theorem d_Mo_dry_34 : decode prog_15_method_21_code 34 = .ok (.aload_n 0, 1) := by decide +kernel
theorem d_Mo_dry_35 : decode prog_15_method_21_code 35 = .ok (.iconst 0, 1) := by decide +kernel
theorem d_Mo_dry_36 : decode prog_15_method_21_code 36 = .ok (.invokevirtual 111, 3) := by decide +kernel
theorem d_Mo_dry_39 : decode prog_15_method_21_code 39 = .ok (.iconst 0, 1) := by decide +kernel
theorem d_Mo_dry_40 : decode prog_15_method_21_code 40 = .ok (.istore_n 2, 1) := by decide +kernel
theorem d_Mo_dry_41 : decode prog_15_method_21_code 41 = .ok (.iload_n 2, 1) := by decide +kernel
theorem d_Mo_dry_42 : decode prog_15_method_21_code 42 = .ok (.aload_n 0, 1) := by decide +kernel
theorem d_Mo_dry_43 : decode prog_15_method_21_code 43 = .ok (.getfield 95, 3) := by decide +kernel
theorem d_Mo_dry_46 : decode prog_15_method_21_code 46 = .ok (.if_icmp .ge 26, 3) := by decide +kernel
theorem d_Mo_dry_49 : decode prog_15_method_21_code 49 = .ok (.aload_n 0, 1) := by decide +kernel
theorem d_Mo_dry_50 : decode prog_15_method_21_code 50 = .ok (.getfield 41, 3) := by decide +kernel
theorem d_Mo_dry_53 : decode prog_15_method_21_code 53 = .ok (.iload_n 2, 1) := by decide +kernel
theorem d_Mo_dry_54 : decode prog_15_method_21_code 54 = .ok (.aload_n 0, 1) := by decide +kernel
theorem d_Mo_dry_55 : decode prog_15_method_21_code 55 = .ok (.getfield 29, 3) := by decide +kernel
theorem d_Mo_dry_58 : decode prog_15_method_21_code 58 = .ok (.aload_n 0, 1) := by decide +kernel
theorem d_Mo_dry_59 : decode prog_15_method_21_code 59 = .ok (.getfield 26, 3) := by decide +kernel
theorem d_Mo_dry_62 : decode prog_15_method_21_code 62 = .ok (.iload_n 2, 1) := by decide +kernel
theorem d_Mo_dry_63 : decode prog_15_method_21_code 63 = .ok (.iaload, 1) := by decide +kernel
theorem d_Mo_dry_64 : decode prog_15_method_21_code 64 = .ok (.baload, 1) := by decide +kernel
theorem d_Mo_dry_65 : decode prog_15_method_21_code 65 = .ok (.bastore, 1) := by decide +kernel
theorem d_Mo_dry_66 : decode prog_15_method_21_code 66 = .ok (.iinc 2 1, 3) := by decide +kernel
theorem d_Mo_dry_69 : decode prog_15_method_21_code 69 = .ok (.goto (-28), 3) := by decide +kernel
theorem d_Mo_dry_72 : decode prog_15_method_21_code 72 = .ok (.aload_n 0, 1) := by decide +kernel
theorem d_Mo_dry_73 : decode prog_15_method_21_code 73 = .ok (.iconst 1, 1) := by decide +kernel
theorem d_Mo_dry_74 : decode prog_15_method_21_code 74 = .ok (.invokevirtual 111, 3) := by decide +kernel
theorem d_Mo_dry_77 : decode prog_15_method_21_code 77 = .ok (.iconst 0, 1) := by decide +kernel
theorem d_Mo_dry_78 : decode prog_15_method_21_code 78 = .ok (.istore_n 2, 1) := by decide +kernel
theorem d_Mo_dry_79 : decode prog_15_method_21_code 79 = .ok (.iconst 0, 1) := by decide +kernel
theorem d_Mo_dry_80 : decode prog_15_method_21_code 80 = .ok (.istore_n 3, 1) := by decide +kernel
theorem d_Mo_dry_81 : decode prog_15_method_21_code 81 = .ok (.iload_n 3, 1) := by decide +kernel
theorem d_Mo_dry_82 : decode prog_15_method_21_code 82 = .ok (.aload_n 0, 1) := by decide +kernel
theorem d_Mo_dry_83 : decode prog_15_method_21_code 83 = .ok (.getfield 95, 3) := by decide +kernel
theorem d_Mo_dry_86 : decode prog_15_method_21_code 86 = .ok (.if_icmp .ge 42, 3) := by decide +kernel
theorem d_Mo_dry_89 : decode prog_15_method_21_code 89 = .ok (.aload_n 0, 1) := by decide +kernel
theorem d_Mo_dry_90 : decode prog_15_method_21_code 90 = .ok (.getfield 41, 3) := by decide +kernel
theorem d_Mo_dry_93 : decode prog_15_method_21_code 93 = .ok (.iload_n 3, 1) := by decide +kernel
theorem d_Mo_dry_94 : decode prog_15_method_21_code 94 = .ok (.baload, 1) := by decide +kernel
theorem d_Mo_dry_95 : decode prog_15_method_21_code 95 = .ok (.ifCond .eq 25, 3) := by decide +kernel
theorem d_Mo_dry_98 : decode prog_15_method_21_code 98 = .ok (.aload_n 0, 1) := by decide +kernel
theorem d_Mo_dry_99 : decode prog_15_method_21_code 99 = .ok (.getfield 29, 3) := by decide +kernel
theorem d_Mo_dry_102 : decode prog_15_method_21_code 102 = .ok (.aload_n 0, 1) := by decide +kernel
theorem d_Mo_dry_103 : decode prog_15_method_21_code 103 = .ok (.getfield 26, 3) := by decide +kernel
theorem d_Mo_dry_106 : decode prog_15_method_21_code 106 = .ok (.iload_n 3, 1) := by decide +kernel
theorem d_Mo_dry_107 : decode prog_15_method_21_code 107 = .ok (.iaload, 1) := by decide +kernel
theorem d_Mo_dry_108 : decode prog_15_method_21_code 108 = .ok (.baload, 1) := by decide +kernel
theorem d_Mo_dry_109 : decode prog_15_method_21_code 109 = .ok (.ifCond .ne 11, 3) := by decide +kernel
theorem d_Mo_dry_112 : decode prog_15_method_21_code 112 = .ok (.iload_n 2, 1) := by decide +kernel
theorem d_Mo_dry_113 : decode prog_15_method_21_code 113 = .ok (.iconst 1, 1) := by decide +kernel
theorem d_Mo_dry_114 : decode prog_15_method_21_code 114 = .ok (.iload_n 3, 1) := by decide +kernel
theorem d_Mo_dry_115 : decode prog_15_method_21_code 115 = .ok (.ishl, 1) := by decide +kernel
theorem d_Mo_dry_116 : decode prog_15_method_21_code 116 = .ok (.ior, 1) := by decide +kernel
theorem d_Mo_dry_117 : decode prog_15_method_21_code 117 = .ok (.goto 4, 3) := by decide +kernel
theorem d_Mo_dry_120 : decode prog_15_method_21_code 120 = .ok (.iload_n 2, 1) := by decide +kernel
theorem d_Mo_dry_121 : decode prog_15_method_21_code 121 = .ok (.istore_n 2, 1) := by decide +kernel
theorem d_Mo_dry_122 : decode prog_15_method_21_code 122 = .ok (.iinc 3 1, 3) := by decide +kernel
theorem d_Mo_dry_125 : decode prog_15_method_21_code 125 = .ok (.goto (-44), 3) := by decide +kernel
theorem d_Mo_dry_128 : decode prog_15_method_21_code 128 = .ok (.iload_n 2, 1) := by decide +kernel
theorem d_Mo_dry_129 : decode prog_15_method_21_code 129 = .ok (.ireturn, 1) := by decide +kernel
def wb_Mo_dry_121 (po : Option Value → Pic → Prop) (th : String → Pic → Prop) (K81 : Pic → Nat → Int32 → Int32 → Prop) (P : Pic) (a0 : Nat) (x3 : Int32) (t0 : Int32) : Prop := ∀ (x140 : Int32), x140 = x3 + 1 → K81 P a0 t0 x140
def wb_Mo_dry_120 (po : Option Value → Pic → Prop) (th : String → Pic → Prop) (K81 : Pic → Nat → Int32 → Int32 → Prop) (P : Pic) (a0 : Nat) (x2 : Int32) (x3 : Int32) : Prop := wb_Mo_dry_121 po th K81 P a0 x3 x2
def wb_Mo_dry_81 (po : Option Value → Pic → Prop) (th : String → Pic → Prop) (K81 : Pic → Nat → Int32 → Int32 → Prop) (P : Pic) (a0 : Nat) (x2 : Int32) (x3 : Int32) : Prop := p_k P a0 = 13 ∧ (((p_i P 483 a0) ≤ x3 → (po (some (.int x2)) P)) ∧ (¬ (p_i P 483 a0) ≤ x3 → (∃ a128, p_r P 494 a0 = some a128 ∧ p_k P a128 = 103 ∧ vp_in x3 (p_n P a128) ∧ (((p_ai P a128 (Int32.toNatClampNeg x3)) = 0 → (wb_Mo_dry_120 po th K81 P a0 x2 x3)) ∧ (¬ (p_ai P a128 (Int32.toNatClampNeg x3)) = 0 → (∃ a131, p_r P 490 a0 = some a131 ∧ ∃ a132, p_r P 489 a0 = some a132 ∧ p_k P a132 = 101 ∧ vp_in x3 (p_n P a132) ∧ p_k P a131 = 103 ∧ vp_in (p_ai P a132 (Int32.toNatClampNeg x3)) (p_n P a131) ∧ ((¬ (p_ai P a131 (Int32.toNatClampNeg (p_ai P a132 (Int32.toNatClampNeg x3)))) = 0 → (wb_Mo_dry_120 po th K81 P a0 x2 x3)) ∧ ((p_ai P a131 (Int32.toNatClampNeg (p_ai P a132 (Int32.toNatClampNeg x3)))) = 0 → (wb_Mo_dry_121 po th K81 P a0 x3 (x2 ||| ((1 : Int32) <<< (x3 &&& 31))))))))))))
def wl_Mo_dry_81 (po : Option Value → Pic → Prop) (th : String → Pic → Prop) : Nat → Pic → Nat → Int32 → Int32 → Prop
  | 0 => fun _ _ _ _ => False
  | n + 1 => wb_Mo_dry_81 po th (wl_Mo_dry_81 po th n)
def wb_Mo_dry_41 (po : Option Value → Pic → Prop) (th : String → Pic → Prop) (K41 : Pic → Nat → Int32 → Prop) (P : Pic) (a0 : Nat) (x2 : Int32) : Prop := p_k P a0 = 13 ∧ (((p_i P 483 a0) ≤ x2 → (wp_Mo_feed (cp_v fun P113 => ∃ n, wl_Mo_dry_81 po th n P113 a0 (0 : Int32) (0 : Int32)) th P a0 (1 : Int32))) ∧ (¬ (p_i P 483 a0) ≤ x2 → (∃ a114, p_r P 494 a0 = some a114 ∧ ∃ a115, p_r P 490 a0 = some a115 ∧ ∃ a116, p_r P 489 a0 = some a116 ∧ p_k P a116 = 101 ∧ vp_in x2 (p_n P a116) ∧ p_k P a115 = 103 ∧ vp_in (p_ai P a116 (Int32.toNatClampNeg x2)) (p_n P a115) ∧ p_k P a114 = 103 ∧ vp_in x2 (p_n P a114) ∧ ((p_ai P a115 (Int32.toNatClampNeg (p_ai P a116 (Int32.toNatClampNeg x2)))) = 0 ∨ (p_ai P a115 (Int32.toNatClampNeg (p_ai P a116 (Int32.toNatClampNeg x2)))) = 1) ∧ ∀ (P124 : Pic), P124 = s_ai P a114 (Int32.toNatClampNeg x2) (p_ai P a115 (Int32.toNatClampNeg (p_ai P a116 (Int32.toNatClampNeg x2)))) → ∀ (x125 : Int32), x125 = x2 + 1 → K41 P124 a0 x125)))
def wl_Mo_dry_41 (po : Option Value → Pic → Prop) (th : String → Pic → Prop) : Nat → Pic → Nat → Int32 → Prop
  | 0 => fun _ _ _ => False
  | n + 1 => wb_Mo_dry_41 po th (wl_Mo_dry_41 po th n)
def wb_Mo_dry_14 (po : Option Value → Pic → Prop) (th : String → Pic → Prop) (P : Pic) (a0 : Nat) (x1 : Int32) (t0 : Int32) (t1 : Nat) : Prop := p_k P t1 = 13 ∧ p_k (s_i P 480 t1 t0) a0 = 13 ∧ ((0 < (p_i (s_i P 480 t1 t0) 480 a0) → (po (some (.int (0 : Int32))) (s_i P 480 t1 t0))) ∧ (¬ 0 < (p_i (s_i P 480 t1 t0) 480 a0) → (wp_Mo_planFor (cp_i fun x106 P107 => ((¬ x106 = 0 → (p_k P107 a0 = 13 ∧ wp_Mo_feed (cp_v fun P109 => ∃ n, wl_Mo_dry_41 po th n P109 a0 (0 : Int32)) th P107 a0 (0 : Int32))) ∧ (x106 = 0 → (po (some (.int (0 : Int32))) P107)))) th (s_i P 480 t1 t0) a0 x1)))
def wp_Mo_dry (po : Option Value → Pic → Prop) (th : String → Pic → Prop) (P : Pic) (a0 : Nat) (x1 : Int32) : Prop := p_k P a0 = 13 ∧ wp_Mo_noPipe (cp_i fun x102 _ => ((x102 = 0 → (wb_Mo_dry_14 po th P a0 x1 (0 : Int32) a0)) ∧ (¬ x102 = 0 → (wb_Mo_dry_14 po th P a0 x1 (1 : Int32) a0)))) th P a0 x1
set_option maxHeartbeats 4000000 in
set_option maxRecDepth 100000 in
theorem wk_Mo_dry_121 {p : Program} {l : Launch} {e : Env} {s : State} {m : MethodId} {args : Array Value} {below : List Frame} {meth : Method} {c : Code} {D : pq_D} {P0 : Pic} {po : Option Value → Pic → Prop} {th : String → Pic → Prop} {K81 : Pic → Nat → Int32 → Int32 → Prop} (hfl : l.flags = flags0) (C : Cx p e s m args meth c prog_15_method_21_code 4 "WaterWorksModel" D P0) (hmg : e.platform.magicAccessors = ({} : Platform).magicAccessors) (hr : meth.sig.returnType = (some .int)) (hin : meth.name = "dry") (htab : c.exceptionTable.toList = tableOf []) (HK81 : ∀ (P : Pic) (a0 : Nat) (x2 : Int32) (x3 : Int32) (H : Heap) (locs : List Loc) (cells slots : Nat) (ls : Array Slot), K81 P a0 x2 x3 → Pi D P H → Sg (cq_A P0 s) s.heap H P locs → lv_has ls 4 [(0, .ref a0), (2, .int x2), (3, .int x3)] → cells + 0 ≤ 0 → slots + 0 ≤ 0 → W p l e rm_Mo_dry s m args below meth c H locs cells slots (mt_MQ below (cq_Q D P0 false po th) args s 0 0 (cq_free P0 false)) (F0 m 81 ls [])) : ∀ (P : Pic) (a0 : Nat) (x3 : Int32) (t0 : Int32) (H : Heap) (locs : List Loc) (cells slots : Nat) (ls : Array Slot), wb_Mo_dry_121 po th K81 P a0 x3 t0 → Pi D P H → Sg (cq_A P0 s) s.heap H P locs → lv_has ls 4 [(0, .ref a0), (3, .int x3)] → cells + 0 ≤ 0 → slots + 0 ≤ 0 → W p l e rm_Mo_dry s m args below meth c H locs cells slots (mt_MQ below (cq_Q D P0 false po th) args s 0 0 (cq_free P0 false)) (F0 m 121 ls [.int t0]) := by
  intro P a0 x3 t0 H locs cells slots ls h hP hS hl hcc hss
  obtain ⟨hx, hb, hml, hown, hlocks, htr, hT, hK, hSt, hN, hP0⟩ := id C
  have L26_12 : pq_fl s m args 26 12 9 := ⟨_, "WaterWorksModel", "WaterWorksModel", rfl, by decide, hown, Or.inl (hT _ k_1113 _), (fun _ z => z)⟩
  have L29_12 : pq_fl s m args 29 12 10 := ⟨_, "WaterWorksModel", "WaterWorksModel", rfl, by decide, hown, Or.inl (hT _ k_1114 _), (fun _ z => z)⟩
  have L41_12 : pq_fl s m args 41 12 14 := ⟨_, "WaterWorksModel", "WaterWorksModel", rfl, by decide, hown, Or.inl (hT _ k_1118 _), (fun _ z => z)⟩
  have L81_12 : pq_fl s m args 81 12 0 := ⟨_, "WaterWorksModel", "WaterWorksModel", rfl, by decide, hown, Or.inl (hT _ k_1104 _), (fun _ z => z)⟩
  have L95_12 : pq_fl s m args 95 12 3 := ⟨_, "WaterWorksModel", "WaterWorksModel", rfl, by decide, hown, Or.inl (hT _ k_1107 _), (fun _ z => z)⟩
  unfold wb_Mo_dry_121 at h
  refine lv_istore_n (pc := 121) (lv' := [(2, .int t0), (0, .ref a0), (3, .int x3)]) hx hb d_Mo_dry_121 rfl hl (by decide) rfl (fun ls hl => ?_)
  obtain ⟨x140, ex140⟩ : ∃ z : Int32, z = x3 + 1 := ⟨_, rfl⟩
  replace h := h x140 ex140
  refine lv_iinc (pc := 122) (v := x140) (lv' := [(3, .int x140), (2, .int t0), (0, .ref a0)]) hx hb d_Mo_dry_122 hl (k := 2) rfl (by rw [ex140]; rfl) (by decide) rfl (fun ls hl => ?_)
  refine lv_goto (pc := 125) (tgt := 81) hx hb d_Mo_dry_125 (by decide) ?_
  exact HK81 _ a0 t0 x140 _ _ _ _ _ h hP hS (lv_sub hl [2, 1, 0] rfl) (show cells + 0 ≤ 0 by omega) (show slots + 0 ≤ 0 by omega)
set_option maxHeartbeats 4000000 in
set_option maxRecDepth 100000 in
theorem wk_Mo_dry_120 {p : Program} {l : Launch} {e : Env} {s : State} {m : MethodId} {args : Array Value} {below : List Frame} {meth : Method} {c : Code} {D : pq_D} {P0 : Pic} {po : Option Value → Pic → Prop} {th : String → Pic → Prop} {K81 : Pic → Nat → Int32 → Int32 → Prop} (hfl : l.flags = flags0) (C : Cx p e s m args meth c prog_15_method_21_code 4 "WaterWorksModel" D P0) (hmg : e.platform.magicAccessors = ({} : Platform).magicAccessors) (hr : meth.sig.returnType = (some .int)) (hin : meth.name = "dry") (htab : c.exceptionTable.toList = tableOf []) (HK81 : ∀ (P : Pic) (a0 : Nat) (x2 : Int32) (x3 : Int32) (H : Heap) (locs : List Loc) (cells slots : Nat) (ls : Array Slot), K81 P a0 x2 x3 → Pi D P H → Sg (cq_A P0 s) s.heap H P locs → lv_has ls 4 [(0, .ref a0), (2, .int x2), (3, .int x3)] → cells + 0 ≤ 0 → slots + 0 ≤ 0 → W p l e rm_Mo_dry s m args below meth c H locs cells slots (mt_MQ below (cq_Q D P0 false po th) args s 0 0 (cq_free P0 false)) (F0 m 81 ls [])) : ∀ (P : Pic) (a0 : Nat) (x2 : Int32) (x3 : Int32) (H : Heap) (locs : List Loc) (cells slots : Nat) (ls : Array Slot), wb_Mo_dry_120 po th K81 P a0 x2 x3 → Pi D P H → Sg (cq_A P0 s) s.heap H P locs → lv_has ls 4 [(0, .ref a0), (2, .int x2), (3, .int x3)] → cells + 0 ≤ 0 → slots + 0 ≤ 0 → W p l e rm_Mo_dry s m args below meth c H locs cells slots (mt_MQ below (cq_Q D P0 false po th) args s 0 0 (cq_free P0 false)) (F0 m 120 ls []) := by
  intro P a0 x2 x3 H locs cells slots ls h hP hS hl hcc hss
  obtain ⟨hx, hb, hml, hown, hlocks, htr, hT, hK, hSt, hN, hP0⟩ := id C
  have L26_12 : pq_fl s m args 26 12 9 := ⟨_, "WaterWorksModel", "WaterWorksModel", rfl, by decide, hown, Or.inl (hT _ k_1113 _), (fun _ z => z)⟩
  have L29_12 : pq_fl s m args 29 12 10 := ⟨_, "WaterWorksModel", "WaterWorksModel", rfl, by decide, hown, Or.inl (hT _ k_1114 _), (fun _ z => z)⟩
  have L41_12 : pq_fl s m args 41 12 14 := ⟨_, "WaterWorksModel", "WaterWorksModel", rfl, by decide, hown, Or.inl (hT _ k_1118 _), (fun _ z => z)⟩
  have L81_12 : pq_fl s m args 81 12 0 := ⟨_, "WaterWorksModel", "WaterWorksModel", rfl, by decide, hown, Or.inl (hT _ k_1104 _), (fun _ z => z)⟩
  have L95_12 : pq_fl s m args 95 12 3 := ⟨_, "WaterWorksModel", "WaterWorksModel", rfl, by decide, hown, Or.inl (hT _ k_1107 _), (fun _ z => z)⟩
  unfold wb_Mo_dry_120 at h
  refine lv_iload_n (pc := 120) hx hb d_Mo_dry_120 rfl (lv_at hl 1 rfl) ?_
  exact wk_Mo_dry_121 hfl C hmg hr hin htab HK81 _ a0 x3 x2 _ _ _ _ _ h hP hS (lv_sub hl [0, 2] rfl) (show cells + 0 ≤ 0 by omega) (show slots + 0 ≤ 0 by omega)
set_option maxHeartbeats 4000000 in
set_option maxRecDepth 100000 in
theorem wk_Mo_dry_81 {p : Program} {l : Launch} {e : Env} {s : State} {m : MethodId} {args : Array Value} {below : List Frame} {meth : Method} {c : Code} {D : pq_D} {P0 : Pic} {po : Option Value → Pic → Prop} {th : String → Pic → Prop} {K81 : Pic → Nat → Int32 → Int32 → Prop} (hfl : l.flags = flags0) (C : Cx p e s m args meth c prog_15_method_21_code 4 "WaterWorksModel" D P0) (hmg : e.platform.magicAccessors = ({} : Platform).magicAccessors) (hr : meth.sig.returnType = (some .int)) (hin : meth.name = "dry") (htab : c.exceptionTable.toList = tableOf []) (HK81 : ∀ (P : Pic) (a0 : Nat) (x2 : Int32) (x3 : Int32) (H : Heap) (locs : List Loc) (cells slots : Nat) (ls : Array Slot), K81 P a0 x2 x3 → Pi D P H → Sg (cq_A P0 s) s.heap H P locs → lv_has ls 4 [(0, .ref a0), (2, .int x2), (3, .int x3)] → cells + 0 ≤ 0 → slots + 0 ≤ 0 → W p l e rm_Mo_dry s m args below meth c H locs cells slots (mt_MQ below (cq_Q D P0 false po th) args s 0 0 (cq_free P0 false)) (F0 m 81 ls [])) : ∀ (P : Pic) (a0 : Nat) (x2 : Int32) (x3 : Int32) (H : Heap) (locs : List Loc) (cells slots : Nat) (ls : Array Slot), wb_Mo_dry_81 po th K81 P a0 x2 x3 → Pi D P H → Sg (cq_A P0 s) s.heap H P locs → lv_has ls 4 [(0, .ref a0), (2, .int x2), (3, .int x3)] → cells + 0 ≤ 0 → slots + 0 ≤ 0 → W p l e rm_Mo_dry s m args below meth c H locs cells slots (mt_MQ below (cq_Q D P0 false po th) args s 0 0 (cq_free P0 false)) (F0 m 81 ls []) := by
  intro P a0 x2 x3 H locs cells slots ls h hP hS hl hcc hss
  obtain ⟨hx, hb, hml, hown, hlocks, htr, hT, hK, hSt, hN, hP0⟩ := id C
  have L26_12 : pq_fl s m args 26 12 9 := ⟨_, "WaterWorksModel", "WaterWorksModel", rfl, by decide, hown, Or.inl (hT _ k_1113 _), (fun _ z => z)⟩
  have L29_12 : pq_fl s m args 29 12 10 := ⟨_, "WaterWorksModel", "WaterWorksModel", rfl, by decide, hown, Or.inl (hT _ k_1114 _), (fun _ z => z)⟩
  have L41_12 : pq_fl s m args 41 12 14 := ⟨_, "WaterWorksModel", "WaterWorksModel", rfl, by decide, hown, Or.inl (hT _ k_1118 _), (fun _ z => z)⟩
  have L81_12 : pq_fl s m args 81 12 0 := ⟨_, "WaterWorksModel", "WaterWorksModel", rfl, by decide, hown, Or.inl (hT _ k_1104 _), (fun _ z => z)⟩
  have L95_12 : pq_fl s m args 95 12 3 := ⟨_, "WaterWorksModel", "WaterWorksModel", rfl, by decide, hown, Or.inl (hT _ k_1107 _), (fun _ z => z)⟩
  unfold wb_Mo_dry_81 at h
  refine lv_iload_n (pc := 81) hx hb d_Mo_dry_81 rfl (lv_at hl 2 rfl) ?_
  refine lv_aload_n (pc := 82) hx hb d_Mo_dry_82 rfl (lv_at hl 0 rfl) ?_
  obtain ⟨hk127, h⟩ := h
  refine pq_geti (pc := 83) (f := 483) hx hb hT hK hP L95_12 hk127 rfl d_Mo_dry_83 ?_
  refine lv_icmp_ge (pc := 86) (tgt := 128) hx hb d_Mo_dry_86 (by decide) (fun c139 => ?_) (fun c139 => ?_)
  · replace h := h.1 c139
    refine lv_iload_n (pc := 128) hx hb d_Mo_dry_128 rfl (lv_at hl 1 rfl) ?_
    exact we_i (pc := 129) hx hb hlocks hr hP hS (show cells + 0 ≤ 0 by omega) (show slots + 0 ≤ 0 by omega) h d_Mo_dry_129
  · replace h := h.2 c139
    refine lv_aload_n (pc := 89) hx hb d_Mo_dry_89 rfl (lv_at hl 0 rfl) ?_
    obtain ⟨a128, ea128, h⟩ := h
    refine pq_geta (pc := 90) (f := 494) hx hb hT hK hP L41_12 hk127 rfl ea128 d_Mo_dry_90 ?_
    refine lv_iload_n (pc := 93) hx hb d_Mo_dry_93 rfl (lv_at hl 2 rfl) ?_
    obtain ⟨hk129, h⟩ := h
    obtain ⟨hi130, h⟩ := h
    refine pq_zald (pc := 94) hx hb hK hP hk129 hi130 d_Mo_dry_94 ?_
    refine lv_if_eq (pc := 95) (tgt := 120) hx hb d_Mo_dry_95 (by decide) (fun c138 => ?_) (fun c138 => ?_)
    · replace h := h.1 c138
      exact wk_Mo_dry_120 hfl C hmg hr hin htab HK81 _ a0 x2 x3 _ _ _ _ _ h hP hS (lv_sub hl [0, 1, 2] rfl) (show cells + 0 ≤ 0 by omega) (show slots + 0 ≤ 0 by omega)
    · replace h := h.2 c138
      refine lv_aload_n (pc := 98) hx hb d_Mo_dry_98 rfl (lv_at hl 0 rfl) ?_
      obtain ⟨a131, ea131, h⟩ := h
      refine pq_geta (pc := 99) (f := 490) hx hb hT hK hP L29_12 hk127 rfl ea131 d_Mo_dry_99 ?_
      refine lv_aload_n (pc := 102) hx hb d_Mo_dry_102 rfl (lv_at hl 0 rfl) ?_
      obtain ⟨a132, ea132, h⟩ := h
      refine pq_geta (pc := 103) (f := 489) hx hb hT hK hP L26_12 hk127 rfl ea132 d_Mo_dry_103 ?_
      refine lv_iload_n (pc := 106) hx hb d_Mo_dry_106 rfl (lv_at hl 2 rfl) ?_
      obtain ⟨hk133, h⟩ := h
      obtain ⟨hi134, h⟩ := h
      refine pq_iald (pc := 107) hx hb hK hP hk133 hi134 d_Mo_dry_107 ?_
      obtain ⟨hk135, h⟩ := h
      obtain ⟨hi136, h⟩ := h
      refine pq_zald (pc := 108) hx hb hK hP hk135 hi136 d_Mo_dry_108 ?_
      refine lv_if_ne (pc := 109) (tgt := 120) hx hb d_Mo_dry_109 (by decide) (fun c137 => ?_) (fun c137 => ?_)
      · replace h := h.1 c137
        exact wk_Mo_dry_120 hfl C hmg hr hin htab HK81 _ a0 x2 x3 _ _ _ _ _ h hP hS (lv_sub hl [0, 1, 2] rfl) (show cells + 0 ≤ 0 by omega) (show slots + 0 ≤ 0 by omega)
      · replace h := h.2 c137
        refine lv_iload_n (pc := 112) hx hb d_Mo_dry_112 rfl (lv_at hl 1 rfl) ?_
        refine lv_iconst (pc := 113) (v := 1) hx hb d_Mo_dry_113 (by decide) ?_
        refine lv_iload_n (pc := 114) hx hb d_Mo_dry_114 rfl (lv_at hl 2 rfl) ?_
        refine lv_ishl (pc := 115) hx hb d_Mo_dry_115 ?_
        refine lv_ior (pc := 116) hx hb d_Mo_dry_116 ?_
        refine lv_goto (pc := 117) (tgt := 121) hx hb d_Mo_dry_117 (by decide) ?_
        exact wk_Mo_dry_121 hfl C hmg hr hin htab HK81 _ a0 x3 (x2 ||| ((1 : Int32) <<< (x3 &&& 31))) _ _ _ _ _ h hP hS (lv_sub hl [0, 2] rfl) (show cells + 0 ≤ 0 by omega) (show slots + 0 ≤ 0 by omega)
theorem wm_Mo_dry_81 {p : Program} {l : Launch} {e : Env} {s : State} {m : MethodId} {args : Array Value} {below : List Frame} {meth : Method} {c : Code} {D : pq_D} {P0 : Pic} {po : Option Value → Pic → Prop} {th : String → Pic → Prop} (hfl : l.flags = flags0) (C : Cx p e s m args meth c prog_15_method_21_code 4 "WaterWorksModel" D P0) (hmg : e.platform.magicAccessors = ({} : Platform).magicAccessors) (hr : meth.sig.returnType = (some .int)) (hin : meth.name = "dry") (htab : c.exceptionTable.toList = tableOf []) : ∀ n : Nat, ∀ (P : Pic) (a0 : Nat) (x2 : Int32) (x3 : Int32) (H : Heap) (locs : List Loc) (cells slots : Nat) (ls : Array Slot), wl_Mo_dry_81 po th n P a0 x2 x3 → Pi D P H → Sg (cq_A P0 s) s.heap H P locs → lv_has ls 4 [(0, .ref a0), (2, .int x2), (3, .int x3)] → cells + 0 ≤ 0 → slots + 0 ≤ 0 → W p l e rm_Mo_dry s m args below meth c H locs cells slots (mt_MQ below (cq_Q D P0 false po th) args s 0 0 (cq_free P0 false)) (F0 m 81 ls []) := by
  intro n
  induction n with
  | zero => intro P a0 x2 x3 H locs cells slots ls h; exact h.elim
  | succ n ih => exact wk_Mo_dry_81 hfl C hmg hr hin htab ih
set_option maxHeartbeats 4000000 in
set_option maxRecDepth 100000 in
theorem wk_Mo_dry_41 {p : Program} {l : Launch} {e : Env} {s : State} {m : MethodId} {args : Array Value} {below : List Frame} {meth : Method} {c : Code} {D : pq_D} {P0 : Pic} {po : Option Value → Pic → Prop} {th : String → Pic → Prop} {K41 : Pic → Nat → Int32 → Prop} (hfl : l.flags = flags0) (C : Cx p e s m args meth c prog_15_method_21_code 4 "WaterWorksModel" D P0) (hmg : e.platform.magicAccessors = ({} : Platform).magicAccessors) (hr : meth.sig.returnType = (some .int)) (hin : meth.name = "dry") (htab : c.exceptionTable.toList = tableOf []) (HK41 : ∀ (P : Pic) (a0 : Nat) (x2 : Int32) (H : Heap) (locs : List Loc) (cells slots : Nat) (ls : Array Slot), K41 P a0 x2 → Pi D P H → Sg (cq_A P0 s) s.heap H P locs → lv_has ls 4 [(0, .ref a0), (2, .int x2)] → cells + 0 ≤ 0 → slots + 0 ≤ 0 → W p l e rm_Mo_dry s m args below meth c H locs cells slots (mt_MQ below (cq_Q D P0 false po th) args s 0 0 (cq_free P0 false)) (F0 m 41 ls [])) : ∀ (P : Pic) (a0 : Nat) (x2 : Int32) (H : Heap) (locs : List Loc) (cells slots : Nat) (ls : Array Slot), wb_Mo_dry_41 po th K41 P a0 x2 → Pi D P H → Sg (cq_A P0 s) s.heap H P locs → lv_has ls 4 [(0, .ref a0), (2, .int x2)] → cells + 0 ≤ 0 → slots + 0 ≤ 0 → W p l e rm_Mo_dry s m args below meth c H locs cells slots (mt_MQ below (cq_Q D P0 false po th) args s 0 0 (cq_free P0 false)) (F0 m 41 ls []) := by
  intro P a0 x2 H locs cells slots ls h hP hS hl hcc hss
  obtain ⟨hx, hb, hml, hown, hlocks, htr, hT, hK, hSt, hN, hP0⟩ := id C
  have L26_12 : pq_fl s m args 26 12 9 := ⟨_, "WaterWorksModel", "WaterWorksModel", rfl, by decide, hown, Or.inl (hT _ k_1113 _), (fun _ z => z)⟩
  have L29_12 : pq_fl s m args 29 12 10 := ⟨_, "WaterWorksModel", "WaterWorksModel", rfl, by decide, hown, Or.inl (hT _ k_1114 _), (fun _ z => z)⟩
  have L41_12 : pq_fl s m args 41 12 14 := ⟨_, "WaterWorksModel", "WaterWorksModel", rfl, by decide, hown, Or.inl (hT _ k_1118 _), (fun _ z => z)⟩
  have L81_12 : pq_fl s m args 81 12 0 := ⟨_, "WaterWorksModel", "WaterWorksModel", rfl, by decide, hown, Or.inl (hT _ k_1104 _), (fun _ z => z)⟩
  have L95_12 : pq_fl s m args 95 12 3 := ⟨_, "WaterWorksModel", "WaterWorksModel", rfl, by decide, hown, Or.inl (hT _ k_1107 _), (fun _ z => z)⟩
  unfold wb_Mo_dry_41 at h
  refine lv_iload_n (pc := 41) hx hb d_Mo_dry_41 rfl (lv_at hl 1 rfl) ?_
  refine lv_aload_n (pc := 42) hx hb d_Mo_dry_42 rfl (lv_at hl 0 rfl) ?_
  obtain ⟨hk112, h⟩ := h
  refine pq_geti (pc := 43) (f := 483) hx hb hT hK hP L95_12 hk112 rfl d_Mo_dry_43 ?_
  refine lv_icmp_ge (pc := 46) (tgt := 72) hx hb d_Mo_dry_46 (by decide) (fun c126 => ?_) (fun c126 => ?_)
  · replace h := h.1 c126
    refine lv_aload_n (pc := 72) hx hb d_Mo_dry_72 rfl (lv_at hl 0 rfl) ?_
    refine lv_iconst (pc := 73) (v := 1) hx hb d_Mo_dry_73 (by decide) ?_
    refine cc_v (pc := 74) C (rest := []) (mt_invV (As := [.int (1 : Int32)]) hx hb hown (hT _ k_1243 _) (hT _ k_1245 _) (hT _ ks_21 _) (mt_Cd.code (hT _ k_1246 #[])) h_Mo_feed (pq_recv hK hP hk112 rfl) n_Mo_feed rfl d_Mo_dry_74) (ct_Mo_feed hfl D h) k_1246 k_24 ⟨Nat.le_of_ble_eq_true rfl, Nat.le_of_ble_eq_true rfl⟩ ⟨(show cells + 0 ≤ 0 by omega), (show slots + 0 ≤ 0 by omega)⟩ hl.1 d_Mo_dry_74 (Nat.le_of_ble_eq_true rfl) hP hS (fun P113 H locs h hP hS => ?_) (fun xx X P113 H locs h hX hex hP hS => ?_)
    · refine lv_iconst (pc := 77) (v := 0) hx hb d_Mo_dry_77 (by decide) ?_
      refine lv_istore_n (pc := 78) (lv' := [(2, .int (0 : Int32)), (0, .ref a0)]) hx hb d_Mo_dry_78 rfl hl (by decide) rfl (fun ls hl => ?_)
      refine lv_iconst (pc := 79) (v := 0) hx hb d_Mo_dry_79 (by decide) ?_
      refine lv_istore_n (pc := 80) (lv' := [(3, .int (0 : Int32)), (2, .int (0 : Int32)), (0, .ref a0)]) hx hb d_Mo_dry_80 rfl hl (by decide) rfl (fun ls hl => ?_)
      obtain ⟨n, h⟩ := h
      exact wm_Mo_dry_81 hfl C hmg hr hin htab n _ a0 (0 : Int32) (0 : Int32) _ _ _ _ _ h hP hS (lv_sub hl [2, 1, 0] rfl) (show cells + 0 + 0 ≤ 0 by omega) (show slots + 0 + 0 ≤ 0 by omega)
    · exact cq_out hlocks (pq_nil htab rfl) (show cells + 0 + 0 ≤ 0 by omega) (show slots + 0 + 0 ≤ 0 by omega) hX hex hP hS h
  · replace h := h.2 c126
    refine lv_aload_n (pc := 49) hx hb d_Mo_dry_49 rfl (lv_at hl 0 rfl) ?_
    obtain ⟨a114, ea114, h⟩ := h
    refine pq_geta (pc := 50) (f := 494) hx hb hT hK hP L41_12 hk112 rfl ea114 d_Mo_dry_50 ?_
    refine lv_iload_n (pc := 53) hx hb d_Mo_dry_53 rfl (lv_at hl 1 rfl) ?_
    refine lv_aload_n (pc := 54) hx hb d_Mo_dry_54 rfl (lv_at hl 0 rfl) ?_
    obtain ⟨a115, ea115, h⟩ := h
    refine pq_geta (pc := 55) (f := 490) hx hb hT hK hP L29_12 hk112 rfl ea115 d_Mo_dry_55 ?_
    refine lv_aload_n (pc := 58) hx hb d_Mo_dry_58 rfl (lv_at hl 0 rfl) ?_
    obtain ⟨a116, ea116, h⟩ := h
    refine pq_geta (pc := 59) (f := 489) hx hb hT hK hP L26_12 hk112 rfl ea116 d_Mo_dry_59 ?_
    refine lv_iload_n (pc := 62) hx hb d_Mo_dry_62 rfl (lv_at hl 1 rfl) ?_
    obtain ⟨hk117, h⟩ := h
    obtain ⟨hi118, h⟩ := h
    refine pq_iald (pc := 63) hx hb hK hP hk117 hi118 d_Mo_dry_63 ?_
    obtain ⟨hk119, h⟩ := h
    obtain ⟨hi120, h⟩ := h
    refine pq_zald (pc := 64) hx hb hK hP hk119 hi120 d_Mo_dry_64 ?_
    obtain ⟨hk121, h⟩ := h
    obtain ⟨hi122, h⟩ := h
    obtain ⟨hz123, h⟩ := h
    refine pq_zast (pc := 65) hx hb hK hP hS hk121 hi122 hz123 d_Mo_dry_65 (fun H locs hP hS => ?_)
    have hk112 : p_k (s_ai P a114 (Int32.toNatClampNeg x2) (p_ai P a115 (Int32.toNatClampNeg (p_ai P a116 (Int32.toNatClampNeg x2))))) a0 = 13 := by rw [pk_ai]; exact hk112
    have hk117 : p_k (s_ai P a114 (Int32.toNatClampNeg x2) (p_ai P a115 (Int32.toNatClampNeg (p_ai P a116 (Int32.toNatClampNeg x2))))) a116 = 101 := by rw [pk_ai]; exact hk117
    have hk119 : p_k (s_ai P a114 (Int32.toNatClampNeg x2) (p_ai P a115 (Int32.toNatClampNeg (p_ai P a116 (Int32.toNatClampNeg x2))))) a115 = 103 := by rw [pk_ai]; exact hk119
    have hk121 : p_k (s_ai P a114 (Int32.toNatClampNeg x2) (p_ai P a115 (Int32.toNatClampNeg (p_ai P a116 (Int32.toNatClampNeg x2))))) a114 = 103 := by rw [pk_ai]; exact hk121
    obtain ⟨P124, eP124⟩ : ∃ z : Pic, z = s_ai P a114 (Int32.toNatClampNeg x2) (p_ai P a115 (Int32.toNatClampNeg (p_ai P a116 (Int32.toNatClampNeg x2)))) := ⟨_, rfl⟩
    replace h := h P124 eP124
    rw [← eP124] at hP hS
    have hk112 : p_k P124 a0 = 13 := by rw [eP124]; exact hk112
    have hk117 : p_k P124 a116 = 101 := by rw [eP124]; exact hk117
    have hk119 : p_k P124 a115 = 103 := by rw [eP124]; exact hk119
    have hk121 : p_k P124 a114 = 103 := by rw [eP124]; exact hk121
    obtain ⟨x125, ex125⟩ : ∃ z : Int32, z = x2 + 1 := ⟨_, rfl⟩
    replace h := h x125 ex125
    refine lv_iinc (pc := 66) (v := x125) (lv' := [(2, .int x125), (0, .ref a0)]) hx hb d_Mo_dry_66 hl (k := 1) rfl (by rw [ex125]; rfl) (by decide) rfl (fun ls hl => ?_)
    refine lv_goto (pc := 69) (tgt := 41) hx hb d_Mo_dry_69 (by decide) ?_
    exact HK41 _ a0 x125 _ _ _ _ _ h hP hS (lv_sub hl [1, 0] rfl) (show cells + 0 ≤ 0 by omega) (show slots + 0 ≤ 0 by omega)
theorem wm_Mo_dry_41 {p : Program} {l : Launch} {e : Env} {s : State} {m : MethodId} {args : Array Value} {below : List Frame} {meth : Method} {c : Code} {D : pq_D} {P0 : Pic} {po : Option Value → Pic → Prop} {th : String → Pic → Prop} (hfl : l.flags = flags0) (C : Cx p e s m args meth c prog_15_method_21_code 4 "WaterWorksModel" D P0) (hmg : e.platform.magicAccessors = ({} : Platform).magicAccessors) (hr : meth.sig.returnType = (some .int)) (hin : meth.name = "dry") (htab : c.exceptionTable.toList = tableOf []) : ∀ n : Nat, ∀ (P : Pic) (a0 : Nat) (x2 : Int32) (H : Heap) (locs : List Loc) (cells slots : Nat) (ls : Array Slot), wl_Mo_dry_41 po th n P a0 x2 → Pi D P H → Sg (cq_A P0 s) s.heap H P locs → lv_has ls 4 [(0, .ref a0), (2, .int x2)] → cells + 0 ≤ 0 → slots + 0 ≤ 0 → W p l e rm_Mo_dry s m args below meth c H locs cells slots (mt_MQ below (cq_Q D P0 false po th) args s 0 0 (cq_free P0 false)) (F0 m 41 ls []) := by
  intro n
  induction n with
  | zero => intro P a0 x2 H locs cells slots ls h; exact h.elim
  | succ n ih => exact wk_Mo_dry_41 hfl C hmg hr hin htab ih
set_option maxHeartbeats 4000000 in
set_option maxRecDepth 100000 in
theorem wk_Mo_dry_14 {p : Program} {l : Launch} {e : Env} {s : State} {m : MethodId} {args : Array Value} {below : List Frame} {meth : Method} {c : Code} {D : pq_D} {P0 : Pic} {po : Option Value → Pic → Prop} {th : String → Pic → Prop} (hfl : l.flags = flags0) (C : Cx p e s m args meth c prog_15_method_21_code 4 "WaterWorksModel" D P0) (hmg : e.platform.magicAccessors = ({} : Platform).magicAccessors) (hr : meth.sig.returnType = (some .int)) (hin : meth.name = "dry") (htab : c.exceptionTable.toList = tableOf []) : ∀ (P : Pic) (a0 : Nat) (x1 : Int32) (t0 : Int32) (t1 : Nat) (H : Heap) (locs : List Loc) (cells slots : Nat) (ls : Array Slot), wb_Mo_dry_14 po th P a0 x1 t0 t1 → Pi D P H → Sg (cq_A P0 s) s.heap H P locs → lv_has ls 4 [(0, .ref a0), (1, .int x1)] → cells + 0 ≤ 0 → slots + 0 ≤ 0 → W p l e rm_Mo_dry s m args below meth c H locs cells slots (mt_MQ below (cq_Q D P0 false po th) args s 0 0 (cq_free P0 false)) (F0 m 14 ls [.int t0, .ref t1]) := by
  intro P a0 x1 t0 t1 H locs cells slots ls h hP hS hl hcc hss
  obtain ⟨hx, hb, hml, hown, hlocks, htr, hT, hK, hSt, hN, hP0⟩ := id C
  have L26_12 : pq_fl s m args 26 12 9 := ⟨_, "WaterWorksModel", "WaterWorksModel", rfl, by decide, hown, Or.inl (hT _ k_1113 _), (fun _ z => z)⟩
  have L29_12 : pq_fl s m args 29 12 10 := ⟨_, "WaterWorksModel", "WaterWorksModel", rfl, by decide, hown, Or.inl (hT _ k_1114 _), (fun _ z => z)⟩
  have L41_12 : pq_fl s m args 41 12 14 := ⟨_, "WaterWorksModel", "WaterWorksModel", rfl, by decide, hown, Or.inl (hT _ k_1118 _), (fun _ z => z)⟩
  have L81_12 : pq_fl s m args 81 12 0 := ⟨_, "WaterWorksModel", "WaterWorksModel", rfl, by decide, hown, Or.inl (hT _ k_1104 _), (fun _ z => z)⟩
  have L95_12 : pq_fl s m args 95 12 3 := ⟨_, "WaterWorksModel", "WaterWorksModel", rfl, by decide, hown, Or.inl (hT _ k_1107 _), (fun _ z => z)⟩
  unfold wb_Mo_dry_14 at h
  obtain ⟨hk104, h⟩ := h
  refine pq_puti (pc := 14) (f := 480) hx hb hT hK hP hS L81_12 hk104 rfl rfl rfl rfl d_Mo_dry_14 (fun H locs hP hS => ?_)
  have hk104 : p_k (s_i P 480 t1 t0) t1 = 13 := by rw [pk_i]; exact hk104
  refine lv_aload_n (pc := 17) hx hb d_Mo_dry_17 rfl (lv_at hl 0 rfl) ?_
  obtain ⟨hk105, h⟩ := h
  refine pq_geti (pc := 18) (f := 480) hx hb hT hK hP L81_12 hk105 rfl d_Mo_dry_18 ?_
  refine lv_if_gt (pc := 21) (tgt := 32) hx hb d_Mo_dry_21 (by decide) (fun c111 => ?_) (fun c111 => ?_)
  · replace h := h.1 c111
    refine lv_iconst (pc := 32) (v := 0) hx hb d_Mo_dry_32 (by decide) ?_
    exact we_i (pc := 33) hx hb hlocks hr hP hS (show cells + 0 ≤ 0 by omega) (show slots + 0 ≤ 0 by omega) h d_Mo_dry_33
  · replace h := h.2 c111
    refine lv_aload_n (pc := 24) hx hb d_Mo_dry_24 rfl (lv_at hl 0 rfl) ?_
    refine lv_iload_n (pc := 25) hx hb d_Mo_dry_25 rfl (lv_at hl 1 rfl) ?_
    refine cc_i (pc := 26) C (rest := []) (mt_invV (As := [.int x1]) hx hb hown (hT _ k_1255 _) (hT _ k_1257 _) (hT _ ks_23 _) (mt_Cd.code (hT _ k_1258 #[])) h_Mo_planFor (pq_recv hK hP hk105 rfl) n_Mo_planFor rfl d_Mo_dry_26) (ct_Mo_planFor hfl D h) k_1258 k_24 ⟨Nat.le_of_ble_eq_true rfl, Nat.le_of_ble_eq_true rfl⟩ ⟨(show cells + 0 ≤ 0 by omega), (show slots + 0 ≤ 0 by omega)⟩ hl.1 d_Mo_dry_26 (Nat.le_of_ble_eq_true rfl) hP hS (fun x106 P107 H locs h hP hS => ?_) (fun xx X P107 H locs h hX hex hP hS => ?_)
    · refine lv_if_ne (pc := 29) (tgt := 34) hx hb d_Mo_dry_29 (by decide) (fun c110 => ?_) (fun c110 => ?_)
      · replace h := h.1 c110
        refine lv_aload_n (pc := 34) hx hb d_Mo_dry_34 rfl (lv_at hl 0 rfl) ?_
        refine lv_iconst (pc := 35) (v := 0) hx hb d_Mo_dry_35 (by decide) ?_
        obtain ⟨hk108, h⟩ := h
        refine cc_v (pc := 36) C (rest := []) (mt_invV (As := [.int (0 : Int32)]) hx hb hown (hT _ k_1243 _) (hT _ k_1245 _) (hT _ ks_21 _) (mt_Cd.code (hT _ k_1246 #[])) h_Mo_feed (pq_recv hK hP hk108 rfl) n_Mo_feed rfl d_Mo_dry_36) (ct_Mo_feed hfl D h) k_1246 k_24 ⟨Nat.le_of_ble_eq_true rfl, Nat.le_of_ble_eq_true rfl⟩ ⟨(show cells + 0 + 0 ≤ 0 by omega), (show slots + 0 + 0 ≤ 0 by omega)⟩ hl.1 d_Mo_dry_36 (Nat.le_of_ble_eq_true rfl) hP hS (fun P109 H locs h hP hS => ?_) (fun xx X P109 H locs h hX hex hP hS => ?_)
        · refine lv_iconst (pc := 39) (v := 0) hx hb d_Mo_dry_39 (by decide) ?_
          refine lv_istore_n (pc := 40) (lv' := [(2, .int (0 : Int32)), (0, .ref a0), (1, .int x1)]) hx hb d_Mo_dry_40 rfl hl (by decide) rfl (fun ls hl => ?_)
          obtain ⟨n, h⟩ := h
          exact wm_Mo_dry_41 hfl C hmg hr hin htab n _ a0 (0 : Int32) _ _ _ _ _ h hP hS (lv_sub hl [1, 0] rfl) (show cells + 0 + 0 + 0 ≤ 0 by omega) (show slots + 0 + 0 + 0 ≤ 0 by omega)
        · exact cq_out hlocks (pq_nil htab rfl) (show cells + 0 + 0 + 0 ≤ 0 by omega) (show slots + 0 + 0 + 0 ≤ 0 by omega) hX hex hP hS h
      · replace h := h.2 c110
        refine lv_iconst (pc := 32) (v := 0) hx hb d_Mo_dry_32 (by decide) ?_
        exact we_i (pc := 33) hx hb hlocks hr hP hS (show cells + 0 + 0 ≤ 0 by omega) (show slots + 0 + 0 ≤ 0 by omega) h d_Mo_dry_33
    · exact cq_out hlocks (pq_nil htab rfl) (show cells + 0 + 0 ≤ 0 by omega) (show slots + 0 + 0 ≤ 0 by omega) hX hex hP hS h
set_option maxHeartbeats 4000000 in
set_option maxRecDepth 100000 in
theorem ct_Mo_dry {l : Launch} (hfl : l.flags = flags0) (D : pq_D) {po : Option Value → Pic → Prop} {th : String → Pic → Prop} {P : Pic} {a0 : Nat} {x1 : Int32} (h : wp_Mo_dry po th P a0 x1) : CT l D y_Mo_dry (.code y_Mo_dry prog_15_method_21_code 4 (some .int)) rm_Mo_dry false [.ref a0, .int x1] P po th := by
  refine ct_of (hs := []) hfl (by decide +kernel) (Or.inl ⟨rfl, rfl⟩) (Nat.le_of_ble_eq_true rfl) ?_
  intro p e s m below meth c C hmg hr hin htab ls hl
  have hl : lv_has ls 4 [(0, .ref a0), (1, .int x1)] := hl
  generalize hargs : ([.ref a0, .int x1] : List Value).toArray = args at C ⊢
  obtain ⟨hx, hb, hml, hown, hlocks, htr, hT, hK, hSt, hN, hP0⟩ := id C
  have L26_12 : pq_fl s m args 26 12 9 := ⟨_, "WaterWorksModel", "WaterWorksModel", rfl, by decide, hown, Or.inl (hT _ k_1113 _), (fun _ z => z)⟩
  have L29_12 : pq_fl s m args 29 12 10 := ⟨_, "WaterWorksModel", "WaterWorksModel", rfl, by decide, hown, Or.inl (hT _ k_1114 _), (fun _ z => z)⟩
  have L41_12 : pq_fl s m args 41 12 14 := ⟨_, "WaterWorksModel", "WaterWorksModel", rfl, by decide, hown, Or.inl (hT _ k_1118 _), (fun _ z => z)⟩
  have L81_12 : pq_fl s m args 81 12 0 := ⟨_, "WaterWorksModel", "WaterWorksModel", rfl, by decide, hown, Or.inl (hT _ k_1104 _), (fun _ z => z)⟩
  have L95_12 : pq_fl s m args 95 12 3 := ⟨_, "WaterWorksModel", "WaterWorksModel", rfl, by decide, hown, Or.inl (hT _ k_1107 _), (fun _ z => z)⟩
  have hP : Pi D P s.heap := hP0
  have hS : Sg (cq_A P s) s.heap s.heap P [] := Sg.start hP0
  unfold wp_Mo_dry at h
  refine lv_aload_n (pc := 0) hx hb d_Mo_dry_0 rfl (lv_at hl 0 rfl) ?_
  refine lv_aload_n (pc := 1) hx hb d_Mo_dry_1 rfl (lv_at hl 0 rfl) ?_
  refine lv_iload_n (pc := 2) hx hb d_Mo_dry_2 rfl (lv_at hl 1 rfl) ?_
  obtain ⟨hk101, h⟩ := h
  refine cr_i (pc := 3) C (rest := [.ref a0]) (mt_invV (As := [.int x1]) hx hb hown (hT _ k_1227 _) (hT _ k_1229 _) (hT _ ks_19 _) (mt_Cd.code (hT _ k_1230 #[])) h_Mo_noPipe (pq_recv hK hP hk101 rfl) n_Mo_noPipe rfl d_Mo_dry_3) (ct_Mo_noPipe hfl D h) k_1230 k_24 ⟨Nat.le_of_ble_eq_true rfl, Nat.le_of_ble_eq_true rfl⟩ ⟨(show 0 + 0 ≤ 0 by omega), (show 0 + 0 ≤ 0 by omega)⟩ hl.1 d_Mo_dry_3 (Nat.le_of_ble_eq_true rfl) hP hS (fun x102 H locs h hP hS => ?_) (fun xx X H locs h hX hex hP hS => ?_)
  · refine lv_if_eq (pc := 6) (tgt := 13) hx hb d_Mo_dry_6 (by decide) (fun c103 => ?_) (fun c103 => ?_)
    · replace h := h.1 c103
      refine lv_iconst (pc := 13) (v := 0) hx hb d_Mo_dry_13 (by decide) ?_
      exact wk_Mo_dry_14 hfl C hmg hr hin htab _ a0 x1 (0 : Int32) a0 _ _ _ _ _ h hP hS (lv_sub hl [0, 1] rfl) (show 0 + 0 + 0 ≤ 0 by omega) (show 0 + 0 + 0 ≤ 0 by omega)
    · replace h := h.2 c103
      refine lv_iconst (pc := 9) (v := 1) hx hb d_Mo_dry_9 (by decide) ?_
      refine lv_goto (pc := 10) (tgt := 14) hx hb d_Mo_dry_10 (by decide) ?_
      exact wk_Mo_dry_14 hfl C hmg hr hin htab _ a0 x1 (1 : Int32) a0 _ _ _ _ _ h hP hS (lv_sub hl [0, 1] rfl) (show 0 + 0 + 0 ≤ 0 by omega) (show 0 + 0 + 0 ≤ 0 by omega)
  · exact cq_out hlocks (pq_nil htab rfl) (show 0 + 0 + 0 ≤ 0 by omega) (show 0 + 0 + 0 ≤ 0 by omega) hX hex hP hS h
/-! WaterWorksModel.carryOut(I)I -/
abbrev y_Mo_carryOut : MethodName := ⟨"WaterWorksModel", "carryOut", "(I)I"⟩
abbrev rm_Mo_carryOut : Room := { frames := 4, cells := 0, slots := 0, locals := 108 }
theorem h_Mo_carryOut : y_Mo_carryOut.cls ≠ "java/lang/invoke/MethodHandle" ∧ y_Mo_carryOut.cls ≠ "java/lang/invoke/VarHandle" := by decide +kernel
theorem n_Mo_carryOut : (parseMethodDescriptor y_Mo_carryOut.desc).map (fun d => d.parameters.length) = some 1 := by decide +kernel
theorem d_Mo_carryOut_0 : decode prog_15_method_22_code 0 = .ok (.aload_n 0, 1) := by decide +kernel
theorem d_Mo_carryOut_1 : decode prog_15_method_22_code 1 = .ok (.aload_n 0, 1) := by decide +kernel
theorem d_Mo_carryOut_2 : decode prog_15_method_22_code 2 = .ok (.iload_n 1, 1) := by decide +kernel
theorem d_Mo_carryOut_3 : decode prog_15_method_22_code 3 = .ok (.invokevirtual 91, 3) := by decide +kernel
theorem d_Mo_carryOut_6 : decode prog_15_method_22_code 6 = .ok (.ifCond .eq 7, 3) := by decide +kernel
theorem d_Mo_carryOut_9 : decode prog_15_method_22_code 9 = .ok (.iconst 1, 1) := by decide +kernel
theorem d_Mo_carryOut_10 : decode prog_15_method_22_code 10 = .ok (.goto 4, 3) := by decide +kernel
theorem d_Mo_carryOut_13 : decode prog_15_method_22_code 13 = .ok (.iconst 0, 1) := by decide +kernel
theorem d_Mo_carryOut_14 : decode prog_15_method_22_code 14 = .ok (.putfield 81, 3) := by decide +kernel
theorem d_Mo_carryOut_17 : decode prog_15_method_22_code 17 = .ok (.aload_n 0, 1) := by decide +kernel
theorem d_Mo_carryOut_18 : decode prog_15_method_22_code 18 = .ok (.getfield 81, 3) := by decide +kernel
theorem d_Mo_carryOut_21 : decode prog_15_method_22_code 21 = .ok (.ifCond .le 5, 3) := by decide +kernel
theorem d_Mo_carryOut_24 : decode prog_15_method_22_code 24 = .ok (.iconst 0, 1) := by decide +kernel
theorem d_Mo_carryOut_25 : decode prog_15_method_22_code 25 = .ok (.ireturn, 1) := by decide +kernel
theorem d_Mo_carryOut_26 : decode prog_15_method_22_code 26 = .ok (.aload_n 0, 1) := by decide +kernel
theorem d_Mo_carryOut_27 : decode prog_15_method_22_code 27 = .ok (.iload_n 1, 1) := by decide +kernel
theorem d_Mo_carryOut_28 : decode prog_15_method_22_code 28 = .ok (.invokevirtual 118, 3) := by decide +kernel
theorem d_Mo_carryOut_31 : decode prog_15_method_22_code 31 = .ok (.ifCond .ne 5, 3) := by decide +kernel
theorem d_Mo_carryOut_34 : decode prog_15_method_22_code 34 = .ok (.iconst (-1), 1) := by decide +kernel
theorem d_Mo_carryOut_35 : decode prog_15_method_22_code 35 = .ok (.ireturn, 1) := by decide +kernel
theorem d_Mo_carryOut_36 : decode prog_15_method_22_code 36 = .ok (.iconst 0, 1) := by decide +kernel
theorem d_Mo_carryOut_37 : decode prog_15_method_22_code 37 = .ok (.istore_n 2, 1) := by decide +kernel
theorem d_Mo_carryOut_38 : decode prog_15_method_22_code 38 = .ok (.iload_n 2, 1) := by decide +kernel
theorem d_Mo_carryOut_39 : decode prog_15_method_22_code 39 = .ok (.bipush 32, 2) := by decide +kernel
theorem d_Mo_carryOut_41 : decode prog_15_method_22_code 41 = .ok (.if_icmp .ge 38, 3) := by decide +kernel
theorem d_Mo_carryOut_44 : decode prog_15_method_22_code 44 = .ok (.aload_n 0, 1) := by decide +kernel
theorem d_Mo_carryOut_45 : decode prog_15_method_22_code 45 = .ok (.getfield 20, 3) := by decide +kernel
theorem d_Mo_carryOut_48 : decode prog_15_method_22_code 48 = .ok (.iload_n 2, 1) := by decide +kernel
theorem d_Mo_carryOut_49 : decode prog_15_method_22_code 49 = .ok (.aload_n 0, 1) := by decide +kernel
theorem d_Mo_carryOut_50 : decode prog_15_method_22_code 50 = .ok (.getfield 20, 3) := by decide +kernel
theorem d_Mo_carryOut_53 : decode prog_15_method_22_code 53 = .ok (.iload_n 2, 1) := by decide +kernel
theorem d_Mo_carryOut_54 : decode prog_15_method_22_code 54 = .ok (.baload, 1) := by decide +kernel
theorem d_Mo_carryOut_55 : decode prog_15_method_22_code 55 = .ok (.ifCond .eq 16, 3) := by decide +kernel
theorem d_Mo_carryOut_58 : decode prog_15_method_22_code 58 = .ok (.aload_n 0, 1) := by decide +kernel
theorem d_Mo_carryOut_59 : decode prog_15_method_22_code 59 = .ok (.getfield 38, 3) := by decide +kernel
theorem d_Mo_carryOut_62 : decode prog_15_method_22_code 62 = .ok (.iload_n 2, 1) := by decide +kernel
theorem d_Mo_carryOut_63 : decode prog_15_method_22_code 63 = .ok (.baload, 1) := by decide +kernel
theorem d_Mo_carryOut_64 : decode prog_15_method_22_code 64 = .ok (.ifCond .ne 7, 3) := by decide +kernel
theorem d_Mo_carryOut_67 : decode prog_15_method_22_code 67 = .ok (.iconst 1, 1) := by decide +kernel
theorem d_Mo_carryOut_68 : decode prog_15_method_22_code 68 = .ok (.goto 4, 3) := by decide +kernel
theorem d_Mo_carryOut_71 : decode prog_15_method_22_code 71 = .ok (.iconst 0, 1) := by decide +kernel
theorem d_Mo_carryOut_72 : decode prog_15_method_22_code 72 = .ok (.bastore, 1) := by decide +kernel
theorem d_Mo_carryOut_73 : decode prog_15_method_22_code 73 = .ok (.iinc 2 1, 3) := by decide +kernel
theorem d_Mo_carryOut_76 : decode prog_15_method_22_code 76 = .ok (.goto (-38), 3) := by decide +kernel
theorem d_Mo_carryOut_79 : decode prog_15_method_22_code 79 = .ok (.aload_n 0, 1) := by decide +kernel
theorem d_Mo_carryOut_80 : decode prog_15_method_22_code 80 = .ok (.invokevirtual 121, 3) := by decide +kernel
theorem d_Mo_carryOut_83 : decode prog_15_method_22_code 83 = .ok (.ireturn, 1) := by decide +kernel
def wb_Mo_carryOut_72 (po : Option Value → Pic → Prop) (th : String → Pic → Prop) (K38 : Pic → Nat → Int32 → Prop) (P : Pic) (a0 : Nat) (x2 : Int32) (t0 : Int32) (t1 : Int32) (t2 : Nat) : Prop := p_k P t2 = 103 ∧ vp_in t1 (p_n P t2) ∧ (t0 = 0 ∨ t0 = 1) ∧ ∀ (x126 : Int32), x126 = x2 + 1 → K38 (s_ai P t2 (Int32.toNatClampNeg t1) t0) a0 x126
def wb_Mo_carryOut_71 (po : Option Value → Pic → Prop) (th : String → Pic → Prop) (K38 : Pic → Nat → Int32 → Prop) (P : Pic) (a0 : Nat) (x2 : Int32) (t0 : Int32) (t1 : Nat) : Prop := wb_Mo_carryOut_72 po th K38 P a0 x2 (0 : Int32) t0 t1
def wb_Mo_carryOut_38 (po : Option Value → Pic → Prop) (th : String → Pic → Prop) (K38 : Pic → Nat → Int32 → Prop) (P : Pic) (a0 : Nat) (x2 : Int32) : Prop := (((32 : Int32) ≤ x2 → (p_k P a0 = 13 ∧ wp_Mo_shutCount (cp_i fun x111 _ => po (some (.int x111)) P) th P a0)) ∧ (¬ (32 : Int32) ≤ x2 → (p_k P a0 = 13 ∧ ∃ a113, p_r P 487 a0 = some a113 ∧ ∃ a114, p_r P 487 a0 = some a114 ∧ p_k P a114 = 103 ∧ vp_in x2 (p_n P a114) ∧ (((p_ai P a114 (Int32.toNatClampNeg x2)) = 0 → (wb_Mo_carryOut_71 po th K38 P a0 x2 x2 a113)) ∧ (¬ (p_ai P a114 (Int32.toNatClampNeg x2)) = 0 → (∃ a117, p_r P 493 a0 = some a117 ∧ p_k P a117 = 103 ∧ vp_in x2 (p_n P a117) ∧ ((¬ (p_ai P a117 (Int32.toNatClampNeg x2)) = 0 → (wb_Mo_carryOut_71 po th K38 P a0 x2 x2 a113)) ∧ ((p_ai P a117 (Int32.toNatClampNeg x2)) = 0 → (wb_Mo_carryOut_72 po th K38 P a0 x2 (1 : Int32) x2 a113)))))))))
def wl_Mo_carryOut_38 (po : Option Value → Pic → Prop) (th : String → Pic → Prop) : Nat → Pic → Nat → Int32 → Prop
  | 0 => fun _ _ _ => False
  | n + 1 => wb_Mo_carryOut_38 po th (wl_Mo_carryOut_38 po th n)
def wb_Mo_carryOut_14 (po : Option Value → Pic → Prop) (th : String → Pic → Prop) (P : Pic) (a0 : Nat) (x1 : Int32) (t0 : Int32) (t1 : Nat) : Prop := p_k P t1 = 13 ∧ p_k (s_i P 480 t1 t0) a0 = 13 ∧ (((p_i (s_i P 480 t1 t0) 480 a0) ≤ 0 → (wp_Mo_planFor (cp_i fun x106 P107 => ((¬ x106 = 0 → (∃ n, wl_Mo_carryOut_38 po th n P107 a0 (0 : Int32))) ∧ (x106 = 0 → (po (some (.int (-1 : Int32))) P107)))) th (s_i P 480 t1 t0) a0 x1)) ∧ (¬ (p_i (s_i P 480 t1 t0) 480 a0) ≤ 0 → (po (some (.int (0 : Int32))) (s_i P 480 t1 t0))))
def wp_Mo_carryOut (po : Option Value → Pic → Prop) (th : String → Pic → Prop) (P : Pic) (a0 : Nat) (x1 : Int32) : Prop := p_k P a0 = 13 ∧ wp_Mo_noPipe (cp_i fun x102 _ => ((x102 = 0 → (wb_Mo_carryOut_14 po th P a0 x1 (0 : Int32) a0)) ∧ (¬ x102 = 0 → (wb_Mo_carryOut_14 po th P a0 x1 (1 : Int32) a0)))) th P a0 x1
set_option maxHeartbeats 4000000 in
set_option maxRecDepth 100000 in
theorem wk_Mo_carryOut_72 {p : Program} {l : Launch} {e : Env} {s : State} {m : MethodId} {args : Array Value} {below : List Frame} {meth : Method} {c : Code} {D : pq_D} {P0 : Pic} {po : Option Value → Pic → Prop} {th : String → Pic → Prop} {K38 : Pic → Nat → Int32 → Prop} (hfl : l.flags = flags0) (C : Cx p e s m args meth c prog_15_method_22_code 3 "WaterWorksModel" D P0) (hmg : e.platform.magicAccessors = ({} : Platform).magicAccessors) (hr : meth.sig.returnType = (some .int)) (hin : meth.name = "carryOut") (htab : c.exceptionTable.toList = tableOf []) (HK38 : ∀ (P : Pic) (a0 : Nat) (x2 : Int32) (H : Heap) (locs : List Loc) (cells slots : Nat) (ls : Array Slot), K38 P a0 x2 → Pi D P H → Sg (cq_A P0 s) s.heap H P locs → lv_has ls 3 [(0, .ref a0), (2, .int x2)] → cells + 0 ≤ 0 → slots + 0 ≤ 0 → W p l e rm_Mo_carryOut s m args below meth c H locs cells slots (mt_MQ below (cq_Q D P0 false po th) args s 0 0 (cq_free P0 false)) (F0 m 38 ls [])) : ∀ (P : Pic) (a0 : Nat) (x2 : Int32) (t0 : Int32) (t1 : Int32) (t2 : Nat) (H : Heap) (locs : List Loc) (cells slots : Nat) (ls : Array Slot), wb_Mo_carryOut_72 po th K38 P a0 x2 t0 t1 t2 → Pi D P H → Sg (cq_A P0 s) s.heap H P locs → lv_has ls 3 [(0, .ref a0), (2, .int x2)] → cells + 0 ≤ 0 → slots + 0 ≤ 0 → W p l e rm_Mo_carryOut s m args below meth c H locs cells slots (mt_MQ below (cq_Q D P0 false po th) args s 0 0 (cq_free P0 false)) (F0 m 72 ls [.int t0, .int t1, .ref t2]) := by
  intro P a0 x2 t0 t1 t2 H locs cells slots ls h hP hS hl hcc hss
  obtain ⟨hx, hb, hml, hown, hlocks, htr, hT, hK, hSt, hN, hP0⟩ := id C
  have L20_12 : pq_fl s m args 20 12 7 := ⟨_, "WaterWorksModel", "WaterWorksModel", rfl, by decide, hown, Or.inl (hT _ k_1111 _), (fun _ z => z)⟩
  have L38_12 : pq_fl s m args 38 12 13 := ⟨_, "WaterWorksModel", "WaterWorksModel", rfl, by decide, hown, Or.inl (hT _ k_1117 _), (fun _ z => z)⟩
  have L81_12 : pq_fl s m args 81 12 0 := ⟨_, "WaterWorksModel", "WaterWorksModel", rfl, by decide, hown, Or.inl (hT _ k_1104 _), (fun _ z => z)⟩
  unfold wb_Mo_carryOut_72 at h
  obtain ⟨hk123, h⟩ := h
  obtain ⟨hi124, h⟩ := h
  obtain ⟨hz125, h⟩ := h
  refine pq_zast (pc := 72) hx hb hK hP hS hk123 hi124 hz125 d_Mo_carryOut_72 (fun H locs hP hS => ?_)
  have hk123 : p_k (s_ai P t2 (Int32.toNatClampNeg t1) t0) t2 = 103 := by rw [pk_ai]; exact hk123
  obtain ⟨x126, ex126⟩ : ∃ z : Int32, z = x2 + 1 := ⟨_, rfl⟩
  replace h := h x126 ex126
  refine lv_iinc (pc := 73) (v := x126) (lv' := [(2, .int x126), (0, .ref a0)]) hx hb d_Mo_carryOut_73 hl (k := 1) rfl (by rw [ex126]; rfl) (by decide) rfl (fun ls hl => ?_)
  refine lv_goto (pc := 76) (tgt := 38) hx hb d_Mo_carryOut_76 (by decide) ?_
  exact HK38 _ a0 x126 _ _ _ _ _ h hP hS (lv_sub hl [1, 0] rfl) (show cells + 0 ≤ 0 by omega) (show slots + 0 ≤ 0 by omega)
set_option maxHeartbeats 4000000 in
set_option maxRecDepth 100000 in
theorem wk_Mo_carryOut_71 {p : Program} {l : Launch} {e : Env} {s : State} {m : MethodId} {args : Array Value} {below : List Frame} {meth : Method} {c : Code} {D : pq_D} {P0 : Pic} {po : Option Value → Pic → Prop} {th : String → Pic → Prop} {K38 : Pic → Nat → Int32 → Prop} (hfl : l.flags = flags0) (C : Cx p e s m args meth c prog_15_method_22_code 3 "WaterWorksModel" D P0) (hmg : e.platform.magicAccessors = ({} : Platform).magicAccessors) (hr : meth.sig.returnType = (some .int)) (hin : meth.name = "carryOut") (htab : c.exceptionTable.toList = tableOf []) (HK38 : ∀ (P : Pic) (a0 : Nat) (x2 : Int32) (H : Heap) (locs : List Loc) (cells slots : Nat) (ls : Array Slot), K38 P a0 x2 → Pi D P H → Sg (cq_A P0 s) s.heap H P locs → lv_has ls 3 [(0, .ref a0), (2, .int x2)] → cells + 0 ≤ 0 → slots + 0 ≤ 0 → W p l e rm_Mo_carryOut s m args below meth c H locs cells slots (mt_MQ below (cq_Q D P0 false po th) args s 0 0 (cq_free P0 false)) (F0 m 38 ls [])) : ∀ (P : Pic) (a0 : Nat) (x2 : Int32) (t0 : Int32) (t1 : Nat) (H : Heap) (locs : List Loc) (cells slots : Nat) (ls : Array Slot), wb_Mo_carryOut_71 po th K38 P a0 x2 t0 t1 → Pi D P H → Sg (cq_A P0 s) s.heap H P locs → lv_has ls 3 [(0, .ref a0), (2, .int x2)] → cells + 0 ≤ 0 → slots + 0 ≤ 0 → W p l e rm_Mo_carryOut s m args below meth c H locs cells slots (mt_MQ below (cq_Q D P0 false po th) args s 0 0 (cq_free P0 false)) (F0 m 71 ls [.int t0, .ref t1]) := by
  intro P a0 x2 t0 t1 H locs cells slots ls h hP hS hl hcc hss
  obtain ⟨hx, hb, hml, hown, hlocks, htr, hT, hK, hSt, hN, hP0⟩ := id C
  have L20_12 : pq_fl s m args 20 12 7 := ⟨_, "WaterWorksModel", "WaterWorksModel", rfl, by decide, hown, Or.inl (hT _ k_1111 _), (fun _ z => z)⟩
  have L38_12 : pq_fl s m args 38 12 13 := ⟨_, "WaterWorksModel", "WaterWorksModel", rfl, by decide, hown, Or.inl (hT _ k_1117 _), (fun _ z => z)⟩
  have L81_12 : pq_fl s m args 81 12 0 := ⟨_, "WaterWorksModel", "WaterWorksModel", rfl, by decide, hown, Or.inl (hT _ k_1104 _), (fun _ z => z)⟩
  unfold wb_Mo_carryOut_71 at h
  refine lv_iconst (pc := 71) (v := 0) hx hb d_Mo_carryOut_71 (by decide) ?_
  exact wk_Mo_carryOut_72 hfl C hmg hr hin htab HK38 _ a0 x2 (0 : Int32) t0 t1 _ _ _ _ _ h hP hS (lv_sub hl [0, 1] rfl) (show cells + 0 ≤ 0 by omega) (show slots + 0 ≤ 0 by omega)
set_option maxHeartbeats 4000000 in
set_option maxRecDepth 100000 in
theorem wk_Mo_carryOut_38 {p : Program} {l : Launch} {e : Env} {s : State} {m : MethodId} {args : Array Value} {below : List Frame} {meth : Method} {c : Code} {D : pq_D} {P0 : Pic} {po : Option Value → Pic → Prop} {th : String → Pic → Prop} {K38 : Pic → Nat → Int32 → Prop} (hfl : l.flags = flags0) (C : Cx p e s m args meth c prog_15_method_22_code 3 "WaterWorksModel" D P0) (hmg : e.platform.magicAccessors = ({} : Platform).magicAccessors) (hr : meth.sig.returnType = (some .int)) (hin : meth.name = "carryOut") (htab : c.exceptionTable.toList = tableOf []) (HK38 : ∀ (P : Pic) (a0 : Nat) (x2 : Int32) (H : Heap) (locs : List Loc) (cells slots : Nat) (ls : Array Slot), K38 P a0 x2 → Pi D P H → Sg (cq_A P0 s) s.heap H P locs → lv_has ls 3 [(0, .ref a0), (2, .int x2)] → cells + 0 ≤ 0 → slots + 0 ≤ 0 → W p l e rm_Mo_carryOut s m args below meth c H locs cells slots (mt_MQ below (cq_Q D P0 false po th) args s 0 0 (cq_free P0 false)) (F0 m 38 ls [])) : ∀ (P : Pic) (a0 : Nat) (x2 : Int32) (H : Heap) (locs : List Loc) (cells slots : Nat) (ls : Array Slot), wb_Mo_carryOut_38 po th K38 P a0 x2 → Pi D P H → Sg (cq_A P0 s) s.heap H P locs → lv_has ls 3 [(0, .ref a0), (2, .int x2)] → cells + 0 ≤ 0 → slots + 0 ≤ 0 → W p l e rm_Mo_carryOut s m args below meth c H locs cells slots (mt_MQ below (cq_Q D P0 false po th) args s 0 0 (cq_free P0 false)) (F0 m 38 ls []) := by
  intro P a0 x2 H locs cells slots ls h hP hS hl hcc hss
  obtain ⟨hx, hb, hml, hown, hlocks, htr, hT, hK, hSt, hN, hP0⟩ := id C
  have L20_12 : pq_fl s m args 20 12 7 := ⟨_, "WaterWorksModel", "WaterWorksModel", rfl, by decide, hown, Or.inl (hT _ k_1111 _), (fun _ z => z)⟩
  have L38_12 : pq_fl s m args 38 12 13 := ⟨_, "WaterWorksModel", "WaterWorksModel", rfl, by decide, hown, Or.inl (hT _ k_1117 _), (fun _ z => z)⟩
  have L81_12 : pq_fl s m args 81 12 0 := ⟨_, "WaterWorksModel", "WaterWorksModel", rfl, by decide, hown, Or.inl (hT _ k_1104 _), (fun _ z => z)⟩
  unfold wb_Mo_carryOut_38 at h
  refine lv_iload_n (pc := 38) hx hb d_Mo_carryOut_38 rfl (lv_at hl 1 rfl) ?_
  refine lv_bipush (pc := 39) (v := 32) hx hb d_Mo_carryOut_39 (by decide) ?_
  refine lv_icmp_ge (pc := 41) (tgt := 79) hx hb d_Mo_carryOut_41 (by decide) (fun c122 => ?_) (fun c122 => ?_)
  · replace h := h.1 c122
    refine lv_aload_n (pc := 79) hx hb d_Mo_carryOut_79 rfl (lv_at hl 0 rfl) ?_
    obtain ⟨hk110, h⟩ := h
    refine cr_i (pc := 80) C (rest := []) (mt_invV (As := []) hx hb hown (hT _ k_1263 _) (hT _ k_1265 _) (hT _ ks_25 _) (mt_Cd.code (hT _ k_1266 #[])) h_Mo_shutCount (pq_recv hK hP hk110 rfl) n_Mo_shutCount rfl d_Mo_carryOut_80) (ct_Mo_shutCount hfl D h) k_1266 k_24 ⟨Nat.le_of_ble_eq_true rfl, Nat.le_of_ble_eq_true rfl⟩ ⟨(show cells + 0 ≤ 0 by omega), (show slots + 0 ≤ 0 by omega)⟩ hl.1 d_Mo_carryOut_80 (Nat.le_of_ble_eq_true rfl) hP hS (fun x111 H locs h hP hS => ?_) (fun xx X H locs h hX hex hP hS => ?_)
    · exact we_i (pc := 83) hx hb hlocks hr hP hS (show cells + 0 + 0 ≤ 0 by omega) (show slots + 0 + 0 ≤ 0 by omega) h d_Mo_carryOut_83
    · exact cq_out hlocks (pq_nil htab rfl) (show cells + 0 + 0 ≤ 0 by omega) (show slots + 0 + 0 ≤ 0 by omega) hX hex hP hS h
  · replace h := h.2 c122
    refine lv_aload_n (pc := 44) hx hb d_Mo_carryOut_44 rfl (lv_at hl 0 rfl) ?_
    obtain ⟨hk112, h⟩ := h
    obtain ⟨a113, ea113, h⟩ := h
    refine pq_geta (pc := 45) (f := 487) hx hb hT hK hP L20_12 hk112 rfl ea113 d_Mo_carryOut_45 ?_
    refine lv_iload_n (pc := 48) hx hb d_Mo_carryOut_48 rfl (lv_at hl 1 rfl) ?_
    refine lv_aload_n (pc := 49) hx hb d_Mo_carryOut_49 rfl (lv_at hl 0 rfl) ?_
    obtain ⟨a114, ea114, h⟩ := h
    refine pq_geta (pc := 50) (f := 487) hx hb hT hK hP L20_12 hk112 rfl ea114 d_Mo_carryOut_50 ?_
    refine lv_iload_n (pc := 53) hx hb d_Mo_carryOut_53 rfl (lv_at hl 1 rfl) ?_
    obtain ⟨hk115, h⟩ := h
    obtain ⟨hi116, h⟩ := h
    refine pq_zald (pc := 54) hx hb hK hP hk115 hi116 d_Mo_carryOut_54 ?_
    refine lv_if_eq (pc := 55) (tgt := 71) hx hb d_Mo_carryOut_55 (by decide) (fun c121 => ?_) (fun c121 => ?_)
    · replace h := h.1 c121
      exact wk_Mo_carryOut_71 hfl C hmg hr hin htab HK38 _ a0 x2 x2 a113 _ _ _ _ _ h hP hS (lv_sub hl [0, 1] rfl) (show cells + 0 ≤ 0 by omega) (show slots + 0 ≤ 0 by omega)
    · replace h := h.2 c121
      refine lv_aload_n (pc := 58) hx hb d_Mo_carryOut_58 rfl (lv_at hl 0 rfl) ?_
      obtain ⟨a117, ea117, h⟩ := h
      refine pq_geta (pc := 59) (f := 493) hx hb hT hK hP L38_12 hk112 rfl ea117 d_Mo_carryOut_59 ?_
      refine lv_iload_n (pc := 62) hx hb d_Mo_carryOut_62 rfl (lv_at hl 1 rfl) ?_
      obtain ⟨hk118, h⟩ := h
      obtain ⟨hi119, h⟩ := h
      refine pq_zald (pc := 63) hx hb hK hP hk118 hi119 d_Mo_carryOut_63 ?_
      refine lv_if_ne (pc := 64) (tgt := 71) hx hb d_Mo_carryOut_64 (by decide) (fun c120 => ?_) (fun c120 => ?_)
      · replace h := h.1 c120
        exact wk_Mo_carryOut_71 hfl C hmg hr hin htab HK38 _ a0 x2 x2 a113 _ _ _ _ _ h hP hS (lv_sub hl [0, 1] rfl) (show cells + 0 ≤ 0 by omega) (show slots + 0 ≤ 0 by omega)
      · replace h := h.2 c120
        refine lv_iconst (pc := 67) (v := 1) hx hb d_Mo_carryOut_67 (by decide) ?_
        refine lv_goto (pc := 68) (tgt := 72) hx hb d_Mo_carryOut_68 (by decide) ?_
        exact wk_Mo_carryOut_72 hfl C hmg hr hin htab HK38 _ a0 x2 (1 : Int32) x2 a113 _ _ _ _ _ h hP hS (lv_sub hl [0, 1] rfl) (show cells + 0 ≤ 0 by omega) (show slots + 0 ≤ 0 by omega)
theorem wm_Mo_carryOut_38 {p : Program} {l : Launch} {e : Env} {s : State} {m : MethodId} {args : Array Value} {below : List Frame} {meth : Method} {c : Code} {D : pq_D} {P0 : Pic} {po : Option Value → Pic → Prop} {th : String → Pic → Prop} (hfl : l.flags = flags0) (C : Cx p e s m args meth c prog_15_method_22_code 3 "WaterWorksModel" D P0) (hmg : e.platform.magicAccessors = ({} : Platform).magicAccessors) (hr : meth.sig.returnType = (some .int)) (hin : meth.name = "carryOut") (htab : c.exceptionTable.toList = tableOf []) : ∀ n : Nat, ∀ (P : Pic) (a0 : Nat) (x2 : Int32) (H : Heap) (locs : List Loc) (cells slots : Nat) (ls : Array Slot), wl_Mo_carryOut_38 po th n P a0 x2 → Pi D P H → Sg (cq_A P0 s) s.heap H P locs → lv_has ls 3 [(0, .ref a0), (2, .int x2)] → cells + 0 ≤ 0 → slots + 0 ≤ 0 → W p l e rm_Mo_carryOut s m args below meth c H locs cells slots (mt_MQ below (cq_Q D P0 false po th) args s 0 0 (cq_free P0 false)) (F0 m 38 ls []) := by
  intro n
  induction n with
  | zero => intro P a0 x2 H locs cells slots ls h; exact h.elim
  | succ n ih => exact wk_Mo_carryOut_38 hfl C hmg hr hin htab ih
set_option maxHeartbeats 4000000 in
set_option maxRecDepth 100000 in
theorem wk_Mo_carryOut_14 {p : Program} {l : Launch} {e : Env} {s : State} {m : MethodId} {args : Array Value} {below : List Frame} {meth : Method} {c : Code} {D : pq_D} {P0 : Pic} {po : Option Value → Pic → Prop} {th : String → Pic → Prop} (hfl : l.flags = flags0) (C : Cx p e s m args meth c prog_15_method_22_code 3 "WaterWorksModel" D P0) (hmg : e.platform.magicAccessors = ({} : Platform).magicAccessors) (hr : meth.sig.returnType = (some .int)) (hin : meth.name = "carryOut") (htab : c.exceptionTable.toList = tableOf []) : ∀ (P : Pic) (a0 : Nat) (x1 : Int32) (t0 : Int32) (t1 : Nat) (H : Heap) (locs : List Loc) (cells slots : Nat) (ls : Array Slot), wb_Mo_carryOut_14 po th P a0 x1 t0 t1 → Pi D P H → Sg (cq_A P0 s) s.heap H P locs → lv_has ls 3 [(0, .ref a0), (1, .int x1)] → cells + 0 ≤ 0 → slots + 0 ≤ 0 → W p l e rm_Mo_carryOut s m args below meth c H locs cells slots (mt_MQ below (cq_Q D P0 false po th) args s 0 0 (cq_free P0 false)) (F0 m 14 ls [.int t0, .ref t1]) := by
  intro P a0 x1 t0 t1 H locs cells slots ls h hP hS hl hcc hss
  obtain ⟨hx, hb, hml, hown, hlocks, htr, hT, hK, hSt, hN, hP0⟩ := id C
  have L20_12 : pq_fl s m args 20 12 7 := ⟨_, "WaterWorksModel", "WaterWorksModel", rfl, by decide, hown, Or.inl (hT _ k_1111 _), (fun _ z => z)⟩
  have L38_12 : pq_fl s m args 38 12 13 := ⟨_, "WaterWorksModel", "WaterWorksModel", rfl, by decide, hown, Or.inl (hT _ k_1117 _), (fun _ z => z)⟩
  have L81_12 : pq_fl s m args 81 12 0 := ⟨_, "WaterWorksModel", "WaterWorksModel", rfl, by decide, hown, Or.inl (hT _ k_1104 _), (fun _ z => z)⟩
  unfold wb_Mo_carryOut_14 at h
  obtain ⟨hk104, h⟩ := h
  refine pq_puti (pc := 14) (f := 480) hx hb hT hK hP hS L81_12 hk104 rfl rfl rfl rfl d_Mo_carryOut_14 (fun H locs hP hS => ?_)
  have hk104 : p_k (s_i P 480 t1 t0) t1 = 13 := by rw [pk_i]; exact hk104
  refine lv_aload_n (pc := 17) hx hb d_Mo_carryOut_17 rfl (lv_at hl 0 rfl) ?_
  obtain ⟨hk105, h⟩ := h
  refine pq_geti (pc := 18) (f := 480) hx hb hT hK hP L81_12 hk105 rfl d_Mo_carryOut_18 ?_
  refine lv_if_le (pc := 21) (tgt := 26) hx hb d_Mo_carryOut_21 (by decide) (fun c109 => ?_) (fun c109 => ?_)
  · replace h := h.1 c109
    refine lv_aload_n (pc := 26) hx hb d_Mo_carryOut_26 rfl (lv_at hl 0 rfl) ?_
    refine lv_iload_n (pc := 27) hx hb d_Mo_carryOut_27 rfl (lv_at hl 1 rfl) ?_
    refine cc_i (pc := 28) C (rest := []) (mt_invV (As := [.int x1]) hx hb hown (hT _ k_1255 _) (hT _ k_1257 _) (hT _ ks_23 _) (mt_Cd.code (hT _ k_1258 #[])) h_Mo_planFor (pq_recv hK hP hk105 rfl) n_Mo_planFor rfl d_Mo_carryOut_28) (ct_Mo_planFor hfl D h) k_1258 k_24 ⟨Nat.le_of_ble_eq_true rfl, Nat.le_of_ble_eq_true rfl⟩ ⟨(show cells + 0 ≤ 0 by omega), (show slots + 0 ≤ 0 by omega)⟩ hl.1 d_Mo_carryOut_28 (Nat.le_of_ble_eq_true rfl) hP hS (fun x106 P107 H locs h hP hS => ?_) (fun xx X P107 H locs h hX hex hP hS => ?_)
    · refine lv_if_ne (pc := 31) (tgt := 36) hx hb d_Mo_carryOut_31 (by decide) (fun c108 => ?_) (fun c108 => ?_)
      · replace h := h.1 c108
        refine lv_iconst (pc := 36) (v := 0) hx hb d_Mo_carryOut_36 (by decide) ?_
        refine lv_istore_n (pc := 37) (lv' := [(2, .int (0 : Int32)), (0, .ref a0), (1, .int x1)]) hx hb d_Mo_carryOut_37 rfl hl (by decide) rfl (fun ls hl => ?_)
        obtain ⟨n, h⟩ := h
        exact wm_Mo_carryOut_38 hfl C hmg hr hin htab n _ a0 (0 : Int32) _ _ _ _ _ h hP hS (lv_sub hl [1, 0] rfl) (show cells + 0 + 0 ≤ 0 by omega) (show slots + 0 + 0 ≤ 0 by omega)
      · replace h := h.2 c108
        refine lv_iconst (pc := 34) (v := (-1)) hx hb d_Mo_carryOut_34 (by decide) ?_
        exact we_i (pc := 35) hx hb hlocks hr hP hS (show cells + 0 + 0 ≤ 0 by omega) (show slots + 0 + 0 ≤ 0 by omega) h d_Mo_carryOut_35
    · exact cq_out hlocks (pq_nil htab rfl) (show cells + 0 + 0 ≤ 0 by omega) (show slots + 0 + 0 ≤ 0 by omega) hX hex hP hS h
  · replace h := h.2 c109
    refine lv_iconst (pc := 24) (v := 0) hx hb d_Mo_carryOut_24 (by decide) ?_
    exact we_i (pc := 25) hx hb hlocks hr hP hS (show cells + 0 ≤ 0 by omega) (show slots + 0 ≤ 0 by omega) h d_Mo_carryOut_25
set_option maxHeartbeats 4000000 in
set_option maxRecDepth 100000 in
theorem ct_Mo_carryOut {l : Launch} (hfl : l.flags = flags0) (D : pq_D) {po : Option Value → Pic → Prop} {th : String → Pic → Prop} {P : Pic} {a0 : Nat} {x1 : Int32} (h : wp_Mo_carryOut po th P a0 x1) : CT l D y_Mo_carryOut (.code y_Mo_carryOut prog_15_method_22_code 3 (some .int)) rm_Mo_carryOut false [.ref a0, .int x1] P po th := by
  refine ct_of (hs := []) hfl (by decide +kernel) (Or.inl ⟨rfl, rfl⟩) (Nat.le_of_ble_eq_true rfl) ?_
  intro p e s m below meth c C hmg hr hin htab ls hl
  have hl : lv_has ls 3 [(0, .ref a0), (1, .int x1)] := hl
  generalize hargs : ([.ref a0, .int x1] : List Value).toArray = args at C ⊢
  obtain ⟨hx, hb, hml, hown, hlocks, htr, hT, hK, hSt, hN, hP0⟩ := id C
  have L20_12 : pq_fl s m args 20 12 7 := ⟨_, "WaterWorksModel", "WaterWorksModel", rfl, by decide, hown, Or.inl (hT _ k_1111 _), (fun _ z => z)⟩
  have L38_12 : pq_fl s m args 38 12 13 := ⟨_, "WaterWorksModel", "WaterWorksModel", rfl, by decide, hown, Or.inl (hT _ k_1117 _), (fun _ z => z)⟩
  have L81_12 : pq_fl s m args 81 12 0 := ⟨_, "WaterWorksModel", "WaterWorksModel", rfl, by decide, hown, Or.inl (hT _ k_1104 _), (fun _ z => z)⟩
  have hP : Pi D P s.heap := hP0
  have hS : Sg (cq_A P s) s.heap s.heap P [] := Sg.start hP0
  unfold wp_Mo_carryOut at h
  refine lv_aload_n (pc := 0) hx hb d_Mo_carryOut_0 rfl (lv_at hl 0 rfl) ?_
  refine lv_aload_n (pc := 1) hx hb d_Mo_carryOut_1 rfl (lv_at hl 0 rfl) ?_
  refine lv_iload_n (pc := 2) hx hb d_Mo_carryOut_2 rfl (lv_at hl 1 rfl) ?_
  obtain ⟨hk101, h⟩ := h
  refine cr_i (pc := 3) C (rest := [.ref a0]) (mt_invV (As := [.int x1]) hx hb hown (hT _ k_1227 _) (hT _ k_1229 _) (hT _ ks_19 _) (mt_Cd.code (hT _ k_1230 #[])) h_Mo_noPipe (pq_recv hK hP hk101 rfl) n_Mo_noPipe rfl d_Mo_carryOut_3) (ct_Mo_noPipe hfl D h) k_1230 k_24 ⟨Nat.le_of_ble_eq_true rfl, Nat.le_of_ble_eq_true rfl⟩ ⟨(show 0 + 0 ≤ 0 by omega), (show 0 + 0 ≤ 0 by omega)⟩ hl.1 d_Mo_carryOut_3 (Nat.le_of_ble_eq_true rfl) hP hS (fun x102 H locs h hP hS => ?_) (fun xx X H locs h hX hex hP hS => ?_)
  · refine lv_if_eq (pc := 6) (tgt := 13) hx hb d_Mo_carryOut_6 (by decide) (fun c103 => ?_) (fun c103 => ?_)
    · replace h := h.1 c103
      refine lv_iconst (pc := 13) (v := 0) hx hb d_Mo_carryOut_13 (by decide) ?_
      exact wk_Mo_carryOut_14 hfl C hmg hr hin htab _ a0 x1 (0 : Int32) a0 _ _ _ _ _ h hP hS (lv_sub hl [0, 1] rfl) (show 0 + 0 + 0 ≤ 0 by omega) (show 0 + 0 + 0 ≤ 0 by omega)
    · replace h := h.2 c103
      refine lv_iconst (pc := 9) (v := 1) hx hb d_Mo_carryOut_9 (by decide) ?_
      refine lv_goto (pc := 10) (tgt := 14) hx hb d_Mo_carryOut_10 (by decide) ?_
      exact wk_Mo_carryOut_14 hfl C hmg hr hin htab _ a0 x1 (1 : Int32) a0 _ _ _ _ _ h hP hS (lv_sub hl [0, 1] rfl) (show 0 + 0 + 0 ≤ 0 by omega) (show 0 + 0 + 0 ≤ 0 by omega)
  · exact cq_out hlocks (pq_nil htab rfl) (show 0 + 0 + 0 ≤ 0 by omega) (show 0 + 0 + 0 ≤ 0 by omega) hX hex hP hS h
