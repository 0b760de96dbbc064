/-! WaterWorks.pass(I)I -/
abbrev y_Wa_pass : MethodName := ⟨"WaterWorks", "pass", "(I)I"⟩
abbrev rm_Wa_pass : Room := { frames := 7, cells := 1, slots := 6, locals := 140 }
theorem h_Wa_pass : y_Wa_pass.cls ≠ "java/lang/invoke/MethodHandle" ∧ y_Wa_pass.cls ≠ "java/lang/invoke/VarHandle" := by decide +kernel
theorem n_Wa_pass : (parseMethodDescriptor y_Wa_pass.desc).map (fun d => d.parameters.length) = some 1 := by decide +kernel
theorem d_Wa_pass_0 : decode prog_1_method_23_code 0 = .ok (.iload_n 1, 1) := by decide +kernel
theorem d_Wa_pass_1 : decode prog_1_method_23_code 1 = .ok (.iconst 1, 1) := by decide +kernel
theorem d_Wa_pass_2 : decode prog_1_method_23_code 2 = .ok (.if_icmp .lt 19, 3) := by decide +kernel
theorem d_Wa_pass_5 : decode prog_1_method_23_code 5 = .ok (.iload_n 1, 1) := by decide +kernel
theorem d_Wa_pass_6 : decode prog_1_method_23_code 6 = .ok (.sipush 400, 3) := by decide +kernel
theorem d_Wa_pass_9 : decode prog_1_method_23_code 9 = .ok (.aload_n 0, 1) := by decide +kernel
theorem d_Wa_pass_10 : decode prog_1_method_23_code 10 = .ok (.getfield 155, 3) := by decide +kernel
theorem d_Wa_pass_13 : decode prog_1_method_23_code 13 = .ok (.isub, 1) := by decide +kernel
theorem d_Wa_pass_14 : decode prog_1_method_23_code 14 = .ok (.if_icmp .gt 7, 3) := by decide +kernel
theorem d_Wa_pass_17 : decode prog_1_method_23_code 17 = .ok (.iconst 1, 1) := by decide +kernel
theorem d_Wa_pass_18 : decode prog_1_method_23_code 18 = .ok (.goto 4, 3) := by decide +kernel
theorem d_Wa_pass_21 : decode prog_1_method_23_code 21 = .ok (.iconst 0, 1) := by decide +kernel
theorem d_Wa_pass_22 : decode prog_1_method_23_code 22 = .ok (.invokestatic 77, 3) := by decide +kernel
theorem d_Wa_pass_25 : decode prog_1_method_23_code 25 = .ok (.aload_n 0, 1) := by decide +kernel
theorem d_Wa_pass_26 : decode prog_1_method_23_code 26 = .ok (.dup, 1) := by decide +kernel
theorem d_Wa_pass_27 : decode prog_1_method_23_code 27 = .ok (.getfield 155, 3) := by decide +kernel
theorem d_Wa_pass_30 : decode prog_1_method_23_code 30 = .ok (.iload_n 1, 1) := by decide +kernel
theorem d_Wa_pass_31 : decode prog_1_method_23_code 31 = .ok (.iadd, 1) := by decide +kernel
theorem d_Wa_pass_32 : decode prog_1_method_23_code 32 = .ok (.putfield 155, 3) := by decide +kernel
theorem d_Wa_pass_35 : decode prog_1_method_23_code 35 = .ok (.aload_n 0, 1) := by decide +kernel
theorem d_Wa_pass_36 : decode prog_1_method_23_code 36 = .ok (.getfield 155, 3) := by decide +kernel
theorem d_Wa_pass_39 : decode prog_1_method_23_code 39 = .ok (.ireturn, 1) := by decide +kernel
def wb_Wa_pass_22 (po : Option Value → Pic → Prop) (th : String → Pic → Prop) (P : Pic) (a0 : Nat) (x1 : Int32) (t0 : Int32) : Prop := wp_Wa_fits (cp_v fun _ => p_k P a0 = 1 ∧ po (some (.int (p_i (s_i P 3 a0 ((p_i P 3 a0) + x1)) 3 a0))) (s_i P 3 a0 ((p_i P 3 a0) + x1))) th P t0
def wb_Wa_pass_21 (po : Option Value → Pic → Prop) (th : String → Pic → Prop) (P : Pic) (a0 : Nat) (x1 : Int32) : Prop := wb_Wa_pass_22 po th P a0 x1 (0 : Int32)
def wp_Wa_pass (po : Option Value → Pic → Prop) (th : String → Pic → Prop) (P : Pic) (a0 : Nat) (x1 : Int32) : Prop := ((x1 < (1 : Int32) → (wb_Wa_pass_21 po th P a0 x1)) ∧ (¬ x1 < (1 : Int32) → (p_k P a0 = 1 ∧ ((((400 : Int32) - (p_i P 3 a0)) < x1 → (wb_Wa_pass_21 po th P a0 x1)) ∧ (¬ ((400 : Int32) - (p_i P 3 a0)) < x1 → (wb_Wa_pass_22 po th P a0 x1 (1 : Int32)))))))
set_option maxHeartbeats 4000000 in
set_option maxRecDepth 100000 in
theorem wk_Wa_pass_22 {p : Program} {l : Launch} {e : Env} {s : State} {m : MethodId} {args : Array Value} {below : List Frame} {meth : Method} {c : Code} {D : pq_D} {P0 : Pic} {po : Option Value → Pic → Prop} {th : String → Pic → Prop} (hfl : l.flags = flags0) (C : Cx p e s m args meth c prog_1_method_23_code 2 "WaterWorks" D P0) (hmg : e.platform.magicAccessors = ({} : Platform).magicAccessors) (hr : meth.sig.returnType = (some .int)) (hin : meth.name = "pass") (htab : c.exceptionTable.toList = tableOf []) : ∀ (P : Pic) (a0 : Nat) (x1 : Int32) (t0 : Int32) (H : Heap) (locs : List Loc) (cells slots : Nat) (ls : Array Slot), wb_Wa_pass_22 po th P a0 x1 t0 → Pi D P H → Sg (cq_A P0 s) s.heap H P locs → lv_has ls 2 [(0, .ref a0), (1, .int x1)] → cells + 1 ≤ 1 → slots + 6 ≤ 6 → W p l e rm_Wa_pass s m args below meth c H locs cells slots (mt_MQ below (cq_Q D P0 false po th) args s 1 6 (cq_free P0 false)) (F0 m 22 ls [.int t0]) := by
  intro P a0 x1 t0 H locs cells slots ls h hP hS hl hcc hss
  obtain ⟨hx, hb, hml, hown, hlocks, htr, hT, hK, hSt, hN, hP0⟩ := id C
  have L155_0 : pq_fl s m args 155 0 3 := ⟨_, "WaterWorks", "WaterWorks", rfl, by decide, hown, Or.inl (hT _ k_453 _), (fun _ z => z)⟩
  unfold wb_Wa_pass_22 at h
  refine cr_v (pc := 22) C (rest := []) (mt_invS (As := [.int t0]) hx hb hown (hT _ k_620 _) (hT _ k_621 _) (hT _ k_1 _) (mt_Cd.code (hT _ k_622 #[])) h_Wa_fits n_Wa_fits rfl d_Wa_pass_22) (ct_Wa_fits hfl D h) k_622 k_1 ⟨Nat.le_of_ble_eq_true rfl, Nat.le_of_ble_eq_true rfl⟩ ⟨(show cells + 1 ≤ 1 by omega), (show slots + 6 ≤ 6 by omega)⟩ hl.1 d_Wa_pass_22 (Nat.le_of_ble_eq_true rfl) hP hS (fun H locs h hP hS => ?_) (fun xx X H locs h hX hex hP hS => ?_)
  · refine lv_aload_n (pc := 25) hx hb d_Wa_pass_25 rfl (lv_at hl 0 rfl) ?_
    refine lv_dup (pc := 26) hx hb d_Wa_pass_26 rfl ?_
    obtain ⟨hk104, h⟩ := h
    refine pq_geti (pc := 27) (f := 3) hx hb hT hK hP L155_0 hk104 rfl d_Wa_pass_27 ?_
    refine lv_iload_n (pc := 30) hx hb d_Wa_pass_30 rfl (lv_at hl 1 rfl) ?_
    refine lv_iadd (pc := 31) hx hb d_Wa_pass_31 ?_
    refine pq_puti (pc := 32) (f := 3) hx hb hT hK hP hS L155_0 hk104 rfl rfl rfl rfl d_Wa_pass_32 (fun H locs hP hS => ?_)
    have hk104 : p_k (s_i P 3 a0 ((p_i P 3 a0) + x1)) a0 = 1 := by rw [pk_i]; exact hk104
    refine lv_aload_n (pc := 35) hx hb d_Wa_pass_35 rfl (lv_at hl 0 rfl) ?_
    refine pq_geti (pc := 36) (f := 3) hx hb hT hK hP L155_0 hk104 rfl d_Wa_pass_36 ?_
    exact we_i (pc := 39) hx hb hlocks hr hP hS (show cells + 1 + 0 ≤ 1 by omega) (show slots + 6 + 0 ≤ 6 by omega) h d_Wa_pass_39
  · exact cq_out hlocks (pq_nil htab rfl) (show cells + 1 + 0 ≤ 1 by omega) (show slots + 6 + 0 ≤ 6 by omega) hX hex hP hS h
set_option maxHeartbeats 4000000 in
set_option maxRecDepth 100000 in
theorem wk_Wa_pass_21 {p : Program} {l : Launch} {e : Env} {s : State} {m : MethodId} {args : Array Value} {below : List Frame} {meth : Method} {c : Code} {D : pq_D} {P0 : Pic} {po : Option Value → Pic → Prop} {th : String → Pic → Prop} (hfl : l.flags = flags0) (C : Cx p e s m args meth c prog_1_method_23_code 2 "WaterWorks" D P0) (hmg : e.platform.magicAccessors = ({} : Platform).magicAccessors) (hr : meth.sig.returnType = (some .int)) (hin : meth.name = "pass") (htab : c.exceptionTable.toList = tableOf []) : ∀ (P : Pic) (a0 : Nat) (x1 : Int32) (H : Heap) (locs : List Loc) (cells slots : Nat) (ls : Array Slot), wb_Wa_pass_21 po th P a0 x1 → Pi D P H → Sg (cq_A P0 s) s.heap H P locs → lv_has ls 2 [(0, .ref a0), (1, .int x1)] → cells + 1 ≤ 1 → slots + 6 ≤ 6 → W p l e rm_Wa_pass s m args below meth c H locs cells slots (mt_MQ below (cq_Q D P0 false po th) args s 1 6 (cq_free P0 false)) (F0 m 21 ls []) := by
  intro P a0 x1 H locs cells slots ls h hP hS hl hcc hss
  obtain ⟨hx, hb, hml, hown, hlocks, htr, hT, hK, hSt, hN, hP0⟩ := id C
  have L155_0 : pq_fl s m args 155 0 3 := ⟨_, "WaterWorks", "WaterWorks", rfl, by decide, hown, Or.inl (hT _ k_453 _), (fun _ z => z)⟩
  unfold wb_Wa_pass_21 at h
  refine lv_iconst (pc := 21) (v := 0) hx hb d_Wa_pass_21 (by decide) ?_
  exact wk_Wa_pass_22 hfl C hmg hr hin htab _ a0 x1 (0 : Int32) _ _ _ _ _ h hP hS (lv_sub hl [0, 1] rfl) (show cells + 1 ≤ 1 by omega) (show slots + 6 ≤ 6 by omega)
set_option maxHeartbeats 4000000 in
set_option maxRecDepth 100000 in
theorem ct_Wa_pass {l : Launch} (hfl : l.flags = flags0) (D : pq_D) {po : Option Value → Pic → Prop} {th : String → Pic → Prop} {P : Pic} {a0 : Nat} {x1 : Int32} (h : wp_Wa_pass po th P a0 x1) : CT l D y_Wa_pass (.code y_Wa_pass prog_1_method_23_code 2 (some .int)) rm_Wa_pass false [.ref a0, .int x1] P po th := by
  refine ct_of (hs := []) hfl (by decide +kernel) (Or.inl ⟨rfl, rfl⟩) (Nat.le_of_ble_eq_true rfl) ?_
  intro p e s m below meth c C hmg hr hin htab ls hl
  have hl : lv_has ls 2 [(0, .ref a0), (1, .int x1)] := hl
  generalize hargs : ([.ref a0, .int x1] : List Value).toArray = args at C ⊢
  obtain ⟨hx, hb, hml, hown, hlocks, htr, hT, hK, hSt, hN, hP0⟩ := id C
  have L155_0 : pq_fl s m args 155 0 3 := ⟨_, "WaterWorks", "WaterWorks", rfl, by decide, hown, Or.inl (hT _ k_453 _), (fun _ z => z)⟩
  have hP : Pi D P s.heap := hP0
  have hS : Sg (cq_A P s) s.heap s.heap P [] := Sg.start hP0
  unfold wp_Wa_pass at h
  refine lv_iload_n (pc := 0) hx hb d_Wa_pass_0 rfl (lv_at hl 1 rfl) ?_
  refine lv_iconst (pc := 1) (v := 1) hx hb d_Wa_pass_1 (by decide) ?_
  refine lv_icmp_lt (pc := 2) (tgt := 21) hx hb d_Wa_pass_2 (by decide) (fun c103 => ?_) (fun c103 => ?_)
  · replace h := h.1 c103
    exact wk_Wa_pass_21 hfl C hmg hr hin htab _ a0 x1 _ _ _ _ _ h hP hS (lv_sub hl [0, 1] rfl) (show 0 + 1 ≤ 1 by omega) (show 0 + 6 ≤ 6 by omega)
  · replace h := h.2 c103
    refine lv_iload_n (pc := 5) hx hb d_Wa_pass_5 rfl (lv_at hl 1 rfl) ?_
    refine lv_sipush (pc := 6) (v := 400) hx hb d_Wa_pass_6 (by decide) ?_
    refine lv_aload_n (pc := 9) hx hb d_Wa_pass_9 rfl (lv_at hl 0 rfl) ?_
    obtain ⟨hk101, h⟩ := h
    refine pq_geti (pc := 10) (f := 3) hx hb hT hK hP L155_0 hk101 rfl d_Wa_pass_10 ?_
    refine lv_isub (pc := 13) hx hb d_Wa_pass_13 ?_
    refine lv_icmp_gt (pc := 14) (tgt := 21) hx hb d_Wa_pass_14 (by decide) (fun c102 => ?_) (fun c102 => ?_)
    · replace h := h.1 c102
      exact wk_Wa_pass_21 hfl C hmg hr hin htab _ a0 x1 _ _ _ _ _ h hP hS (lv_sub hl [0, 1] rfl) (show 0 + 1 ≤ 1 by omega) (show 0 + 6 ≤ 6 by omega)
    · replace h := h.2 c102
      refine lv_iconst (pc := 17) (v := 1) hx hb d_Wa_pass_17 (by decide) ?_
      refine lv_goto (pc := 18) (tgt := 22) hx hb d_Wa_pass_18 (by decide) ?_
      exact wk_Wa_pass_22 hfl C hmg hr hin htab _ a0 x1 (1 : Int32) _ _ _ _ _ h hP hS (lv_sub hl [0, 1] rfl) (show 0 + 1 ≤ 1 by omega) (show 0 + 6 ≤ 6 by omega)
/-! WaterWorks.needShown(II)V -/
abbrev y_Wa_needShown : MethodName := ⟨"WaterWorks", "needShown", "(II)V"⟩
abbrev rm_Wa_needShown : Room := { frames := 7, cells := 1, slots := 6, locals := 140 }
theorem h_Wa_needShown : y_Wa_needShown.cls ≠ "java/lang/invoke/MethodHandle" ∧ y_Wa_needShown.cls ≠ "java/lang/invoke/VarHandle" := by decide +kernel
theorem n_Wa_needShown : (parseMethodDescriptor y_Wa_needShown.desc).map (fun d => d.parameters.length) = some 2 := by decide +kernel
theorem d_Wa_needShown_0 : decode prog_1_method_24_code 0 = .ok (.iload_n 0, 1) := by decide +kernel
theorem d_Wa_needShown_1 : decode prog_1_method_24_code 1 = .ok (.iconst 1, 1) := by decide +kernel
theorem d_Wa_needShown_2 : decode prog_1_method_24_code 2 = .ok (.if_icmp .lt 24, 3) := by decide +kernel
theorem d_Wa_needShown_5 : decode prog_1_method_24_code 5 = .ok (.iload_n 0, 1) := by decide +kernel
theorem d_Wa_needShown_6 : decode prog_1_method_24_code 6 = .ok (.iconst 4, 1) := by decide +kernel
theorem d_Wa_needShown_7 : decode prog_1_method_24_code 7 = .ok (.if_icmp .gt 19, 3) := by decide +kernel
theorem d_Wa_needShown_10 : decode prog_1_method_24_code 10 = .ok (.iload_n 1, 1) := by decide +kernel
theorem d_Wa_needShown_11 : decode prog_1_method_24_code 11 = .ok (.ifCond .lt 15, 3) := by decide +kernel
theorem d_Wa_needShown_14 : decode prog_1_method_24_code 14 = .ok (.iload_n 1, 1) := by decide +kernel
theorem d_Wa_needShown_15 : decode prog_1_method_24_code 15 = .ok (.iload_n 0, 1) := by decide +kernel
theorem d_Wa_needShown_16 : decode prog_1_method_24_code 16 = .ok (.invokestatic 158, 3) := by decide +kernel
theorem d_Wa_needShown_19 : decode prog_1_method_24_code 19 = .ok (.if_icmp .ge 7, 3) := by decide +kernel
theorem d_Wa_needShown_22 : decode prog_1_method_24_code 22 = .ok (.iconst 1, 1) := by decide +kernel
theorem d_Wa_needShown_23 : decode prog_1_method_24_code 23 = .ok (.goto 4, 3) := by decide +kernel
theorem d_Wa_needShown_26 : decode prog_1_method_24_code 26 = .ok (.iconst 0, 1) := by decide +kernel
theorem d_Wa_needShown_27 : decode prog_1_method_24_code 27 = .ok (.invokestatic 77, 3) := by decide +kernel
theorem d_Wa_needShown_30 : decode prog_1_method_24_code 30 = .ok (.return_, 1) := by decide +kernel
def wb_Wa_needShown_27 (po : Option Value → Pic → Prop) (th : String → Pic → Prop) (P : Pic) (t0 : Int32) : Prop := wp_Wa_fits (cp_v fun _ => po none P) th P t0
def wb_Wa_needShown_26 (po : Option Value → Pic → Prop) (th : String → Pic → Prop) (P : Pic) : Prop := wb_Wa_needShown_27 po th P (0 : Int32)
def wp_Wa_needShown (po : Option Value → Pic → Prop) (th : String → Pic → Prop) (P : Pic) (x0 : Int32) (x1 : Int32) : Prop := ((x0 < (1 : Int32) → (wb_Wa_needShown_26 po th P )) ∧ (¬ x0 < (1 : Int32) → ((((4 : Int32) < x0 → (wb_Wa_needShown_26 po th P )) ∧ (¬ (4 : Int32) < x0 → (((x1 < 0 → (wb_Wa_needShown_26 po th P )) ∧ (¬ x1 < 0 → (wp_Wa_size (cp_i fun x101 _ => ((x101 ≤ x1 → (wb_Wa_needShown_26 po th P )) ∧ (¬ x101 ≤ x1 → (wb_Wa_needShown_27 po th P (1 : Int32))))) th P x0)))))))))
set_option maxHeartbeats 4000000 in
set_option maxRecDepth 100000 in
theorem wk_Wa_needShown_27 {p : Program} {l : Launch} {e : Env} {s : State} {m : MethodId} {args : Array Value} {below : List Frame} {meth : Method} {c : Code} {D : pq_D} {P : Pic} {po : Option Value → Pic → Prop} {th : String → Pic → Prop} (hfl : l.flags = flags0) (C : Cx p e s m args meth c prog_1_method_24_code 2 "WaterWorks" D P) (hmg : e.platform.magicAccessors = ({} : Platform).magicAccessors) (hr : meth.sig.returnType = none) (hin : meth.name = "needShown") (htab : c.exceptionTable.toList = tableOf []) : ∀ (t0 : Int32) (H : Heap) (cells slots : Nat) (ls : Array Slot), wb_Wa_needShown_27 po th P t0 → So s.heap H → lv_has ls 2 [] → cells + 1 ≤ 1 → slots + 6 ≤ 6 → W p l e rm_Wa_needShown s m args below meth c H [] cells slots (mt_MQ below (cq_Q D P true po th) args s 1 6 (cq_free P true)) (F0 m 27 ls [.int t0]) := by
  intro t0 H cells slots ls h hO hl hcc hss
  obtain ⟨hx, hb, hml, hown, hlocks, htr, hT, hK, hSt, hN, hP0⟩ := id C
  have hP : Pi D P H := So.pi hP0 hO
  unfold wb_Wa_needShown_27 at h
  refine co_v (pc := 27) C (rest := []) (mt_invS (As := [.int t0]) hx hb hown (hT _ k_620 _) (hT _ k_621 _) (hT _ k_1 _) (mt_Cd.code (hT _ k_622 #[])) h_Wa_fits n_Wa_fits rfl d_Wa_needShown_27) (ct_Wa_fits hfl D h) k_622 k_1 ⟨Nat.le_of_ble_eq_true rfl, Nat.le_of_ble_eq_true rfl⟩ ⟨(show cells + 1 ≤ 1 by omega), (show slots + 6 ≤ 6 by omega)⟩ hl.1 d_Wa_needShown_27 (Nat.le_of_ble_eq_true rfl) hO (fun H h hO => ?_) (fun xx X H h hX hex hO => ?_)
  · have hP : Pi D P H := So.pi hP0 hO
    exact wo_v (pc := 30) hx hb hlocks hr hP0 hO (show cells + 1 + 0 ≤ 1 by omega) (show slots + 6 + 0 ≤ 6 by omega) h d_Wa_needShown_30
  · exact cq_outo hlocks (pq_nil htab rfl) (show cells + 1 + 0 ≤ 1 by omega) (show slots + 6 + 0 ≤ 6 by omega) hX hex hP0 hO h
set_option maxHeartbeats 4000000 in
set_option maxRecDepth 100000 in
theorem wk_Wa_needShown_26 {p : Program} {l : Launch} {e : Env} {s : State} {m : MethodId} {args : Array Value} {below : List Frame} {meth : Method} {c : Code} {D : pq_D} {P : Pic} {po : Option Value → Pic → Prop} {th : String → Pic → Prop} (hfl : l.flags = flags0) (C : Cx p e s m args meth c prog_1_method_24_code 2 "WaterWorks" D P) (hmg : e.platform.magicAccessors = ({} : Platform).magicAccessors) (hr : meth.sig.returnType = none) (hin : meth.name = "needShown") (htab : c.exceptionTable.toList = tableOf []) : ∀ (H : Heap) (cells slots : Nat) (ls : Array Slot), wb_Wa_needShown_26 po th P  → So s.heap H → lv_has ls 2 [] → cells + 1 ≤ 1 → slots + 6 ≤ 6 → W p l e rm_Wa_needShown s m args below meth c H [] cells slots (mt_MQ below (cq_Q D P true po th) args s 1 6 (cq_free P true)) (F0 m 26 ls []) := by
  intro  H cells slots ls h hO hl hcc hss
  obtain ⟨hx, hb, hml, hown, hlocks, htr, hT, hK, hSt, hN, hP0⟩ := id C
  have hP : Pi D P H := So.pi hP0 hO
  unfold wb_Wa_needShown_26 at h
  refine lv_iconst (pc := 26) (v := 0) hx hb d_Wa_needShown_26 (by decide) ?_
  exact wk_Wa_needShown_27 hfl C hmg hr hin htab (0 : Int32) _ _ _ _ h hO (lv_sub hl [] rfl) (show cells + 1 ≤ 1 by omega) (show slots + 6 ≤ 6 by omega)
set_option maxHeartbeats 4000000 in
set_option maxRecDepth 100000 in
theorem ct_Wa_needShown {l : Launch} (hfl : l.flags = flags0) (D : pq_D) {po : Option Value → Pic → Prop} {th : String → Pic → Prop} {P : Pic} {x0 : Int32} {x1 : Int32} (h : wp_Wa_needShown po th P x0 x1) : CT l D y_Wa_needShown (.code y_Wa_needShown prog_1_method_24_code 2 none) rm_Wa_needShown true [.int x0, .int x1] P po th := by
  refine ct_of (hs := []) hfl (by decide +kernel) (Or.inl ⟨rfl, rfl⟩) (Nat.le_of_ble_eq_true rfl) ?_
  intro p e s m below meth c C hmg hr hin htab ls hl
  have hl : lv_has ls 2 [(0, .int x0), (1, .int x1)] := hl
  generalize hargs : ([.int x0, .int x1] : List Value).toArray = args at C ⊢
  obtain ⟨hx, hb, hml, hown, hlocks, htr, hT, hK, hSt, hN, hP0⟩ := id C
  have hO : So s.heap s.heap := So.rf
  have hP : Pi D P s.heap := hP0
  unfold wp_Wa_needShown at h
  refine lv_iload_n (pc := 0) hx hb d_Wa_needShown_0 rfl (lv_at hl 0 rfl) ?_
  refine lv_iconst (pc := 1) (v := 1) hx hb d_Wa_needShown_1 (by decide) ?_
  refine lv_icmp_lt (pc := 2) (tgt := 26) hx hb d_Wa_needShown_2 (by decide) (fun c105 => ?_) (fun c105 => ?_)
  · replace h := h.1 c105
    exact wk_Wa_needShown_26 hfl C hmg hr hin htab  _ _ _ _ h hO (lv_sub hl [] rfl) (show 0 + 1 ≤ 1 by omega) (show 0 + 6 ≤ 6 by omega)
  · replace h := h.2 c105
    refine lv_iload_n (pc := 5) hx hb d_Wa_needShown_5 rfl (lv_at hl 0 rfl) ?_
    refine lv_iconst (pc := 6) (v := 4) hx hb d_Wa_needShown_6 (by decide) ?_
    refine lv_icmp_gt (pc := 7) (tgt := 26) hx hb d_Wa_needShown_7 (by decide) (fun c104 => ?_) (fun c104 => ?_)
    · replace h := h.1 c104
      exact wk_Wa_needShown_26 hfl C hmg hr hin htab  _ _ _ _ h hO (lv_sub hl [] rfl) (show 0 + 1 ≤ 1 by omega) (show 0 + 6 ≤ 6 by omega)
    · replace h := h.2 c104
      refine lv_iload_n (pc := 10) hx hb d_Wa_needShown_10 rfl (lv_at hl 1 rfl) ?_
      refine lv_if_lt (pc := 11) (tgt := 26) hx hb d_Wa_needShown_11 (by decide) (fun c103 => ?_) (fun c103 => ?_)
      · replace h := h.1 c103
        exact wk_Wa_needShown_26 hfl C hmg hr hin htab  _ _ _ _ h hO (lv_sub hl [] rfl) (show 0 + 1 ≤ 1 by omega) (show 0 + 6 ≤ 6 by omega)
      · replace h := h.2 c103
        refine lv_iload_n (pc := 14) hx hb d_Wa_needShown_14 rfl (lv_at hl 1 rfl) ?_
        refine lv_iload_n (pc := 15) hx hb d_Wa_needShown_15 rfl (lv_at hl 0 rfl) ?_
        refine co_i (pc := 16) C (rest := [.int x1]) (mt_invS (As := [.int x0]) hx hb hown (hT _ k_883 _) (hT _ k_884 _) (hT _ k_1 _) (mt_Cd.code (hT _ k_885 #[])) h_Wa_size n_Wa_size rfl d_Wa_needShown_16) (ct_Wa_size hfl D h) k_885 k_1 ⟨Nat.le_of_ble_eq_true rfl, Nat.le_of_ble_eq_true rfl⟩ ⟨(show 0 + 0 ≤ 1 by omega), (show 0 + 0 ≤ 6 by omega)⟩ hl.1 d_Wa_needShown_16 (Nat.le_of_ble_eq_true rfl) hO (fun x101 H h hO => ?_) (fun xx X H h hX hex hO => ?_)
        · have hP : Pi D P H := So.pi hP0 hO
          refine lv_icmp_ge (pc := 19) (tgt := 26) hx hb d_Wa_needShown_19 (by decide) (fun c102 => ?_) (fun c102 => ?_)
          · replace h := h.1 c102
            exact wk_Wa_needShown_26 hfl C hmg hr hin htab  _ _ _ _ h hO (lv_sub hl [] rfl) (show 0 + 0 + 1 ≤ 1 by omega) (show 0 + 0 + 6 ≤ 6 by omega)
          · replace h := h.2 c102
            refine lv_iconst (pc := 22) (v := 1) hx hb d_Wa_needShown_22 (by decide) ?_
            refine lv_goto (pc := 23) (tgt := 27) hx hb d_Wa_needShown_23 (by decide) ?_
            exact wk_Wa_needShown_27 hfl C hmg hr hin htab (1 : Int32) _ _ _ _ h hO (lv_sub hl [] rfl) (show 0 + 0 + 1 ≤ 1 by omega) (show 0 + 0 + 6 ≤ 6 by omega)
        · exact cq_outo hlocks (pq_nil htab rfl) (show 0 + 0 + 0 ≤ 1 by omega) (show 0 + 0 + 0 ≤ 6 by omega) hX hex hP0 hO h
/-! WaterWorks.install(III)I -/
abbrev y_Wa_install : MethodName := ⟨"WaterWorks", "install", "(III)I"⟩
abbrev rm_Wa_install : Room := { frames := 8, cells := 5, slots := 86, locals := 192 }
theorem h_Wa_install : y_Wa_install.cls ≠ "java/lang/invoke/MethodHandle" ∧ y_Wa_install.cls ≠ "java/lang/invoke/VarHandle" := by decide +kernel
theorem n_Wa_install : (parseMethodDescriptor y_Wa_install.desc).map (fun d => d.parameters.length) = some 3 := by decide +kernel
theorem d_Wa_install_0 : decode prog_1_method_25_code 0 = .ok (.aload_n 0, 1) := by decide +kernel
theorem d_Wa_install_1 : decode prog_1_method_25_code 1 = .ok (.iload_n 1, 1) := by decide +kernel
theorem d_Wa_install_2 : decode prog_1_method_25_code 2 = .ok (.invokevirtual 112, 3) := by decide +kernel
theorem d_Wa_install_5 : decode prog_1_method_25_code 5 = .ok (.astore 4, 2) := by decide +kernel
theorem d_Wa_install_7 : decode prog_1_method_25_code 7 = .ok (.iload_n 2, 1) := by decide +kernel
theorem d_Wa_install_8 : decode prog_1_method_25_code 8 = .ok (.iload_n 3, 1) := by decide +kernel
theorem d_Wa_install_9 : decode prog_1_method_25_code 9 = .ok (.invokestatic 161, 3) := by decide +kernel
theorem d_Wa_install_12 : decode prog_1_method_25_code 12 = .ok (.aload 4, 2) := by decide +kernel
theorem d_Wa_install_14 : decode prog_1_method_25_code 14 = .ok (.invokevirtual 164, 3) := by decide +kernel
theorem d_Wa_install_17 : decode prog_1_method_25_code 17 = .ok (.astore 5, 2) := by decide +kernel
theorem d_Wa_install_19 : decode prog_1_method_25_code 19 = .ok (.aload 4, 2) := by decide +kernel
theorem d_Wa_install_21 : decode prog_1_method_25_code 21 = .ok (.getfield 168, 3) := by decide +kernel
theorem d_Wa_install_24 : decode prog_1_method_25_code 24 = .ok (.invokevirtual 43, 3) := by decide +kernel
theorem d_Wa_install_27 : decode prog_1_method_25_code 27 = .ok (.bipush 24, 2) := by decide +kernel
theorem d_Wa_install_29 : decode prog_1_method_25_code 29 = .ok (.if_icmp .ge 32, 3) := by decide +kernel
theorem d_Wa_install_32 : decode prog_1_method_25_code 32 = .ok (.aload 5, 2) := by decide +kernel
theorem d_Wa_install_34 : decode prog_1_method_25_code 34 = .ok (.ifnull 23, 3) := by decide +kernel
theorem d_Wa_install_37 : decode prog_1_method_25_code 37 = .ok (.aload 5, 2) := by decide +kernel
theorem d_Wa_install_39 : decode prog_1_method_25_code 39 = .ok (.invokevirtual 171, 3) := by decide +kernel
theorem d_Wa_install_42 : decode prog_1_method_25_code 42 = .ok (.aload_n 0, 1) := by decide +kernel
theorem d_Wa_install_43 : decode prog_1_method_25_code 43 = .ok (.getfield 155, 3) := by decide +kernel
theorem d_Wa_install_46 : decode prog_1_method_25_code 46 = .ok (.if_icmp .lt 11, 3) := by decide +kernel
theorem d_Wa_install_49 : decode prog_1_method_25_code 49 = .ok (.aload 5, 2) := by decide +kernel
theorem d_Wa_install_51 : decode prog_1_method_25_code 51 = .ok (.invokevirtual 176, 3) := by decide +kernel
theorem d_Wa_install_54 : decode prog_1_method_25_code 54 = .ok (.ifCond .ne 7, 3) := by decide +kernel
theorem d_Wa_install_57 : decode prog_1_method_25_code 57 = .ok (.iconst 1, 1) := by decide +kernel
theorem d_Wa_install_58 : decode prog_1_method_25_code 58 = .ok (.goto 4, 3) := by decide +kernel
theorem d_Wa_install_61 : decode prog_1_method_25_code 61 = .ok (.iconst 0, 1) := by decide +kernel
theorem d_Wa_install_62 : decode prog_1_method_25_code 62 = .ok (.invokestatic 64, 3) := by decide +kernel
theorem d_Wa_install_65 : decode prog_1_method_25_code 65 = .ok (.aload 4, 2) := by decide +kernel
theorem d_Wa_install_67 : decode prog_1_method_25_code 67 = .ok (.getfield 168, 3) := by decide +kernel
theorem d_Wa_install_70 : decode prog_1_method_25_code 70 = .ok (.new 172, 3) := by decide +kernel
theorem d_Wa_install_73 : decode prog_1_method_25_code 73 = .ok (.dup, 1) := by decide +kernel
theorem d_Wa_install_74 : decode prog_1_method_25_code 74 = .ok (.aload_n 0, 1) := by decide +kernel
theorem d_Wa_install_75 : decode prog_1_method_25_code 75 = .ok (.getfield 155, 3) := by decide +kernel
theorem d_Wa_install_78 : decode prog_1_method_25_code 78 = .ok (.iload_n 3, 1) := by decide +kernel
theorem d_Wa_install_79 : decode prog_1_method_25_code 79 = .ok (.iload_n 2, 1) := by decide +kernel
theorem d_Wa_install_80 : decode prog_1_method_25_code 80 = .ok (.iconst 1, 1) := by decide +kernel
theorem d_Wa_install_81 : decode prog_1_method_25_code 81 = .ok (.invokespecial 180, 3) := by decide +kernel
theorem d_Wa_install_84 : decode prog_1_method_25_code 84 = .ok (.invokevirtual 69, 3) := by decide +kernel
theorem d_Wa_install_87 : decode prog_1_method_25_code 87 = .ok (.pop, 1) := by decide +kernel
theorem d_Wa_install_88 : decode prog_1_method_25_code 88 = .ok (.aload 4, 2) := by decide +kernel
theorem d_Wa_install_90 : decode prog_1_method_25_code 90 = .ok (.getfield 168, 3) := by decide +kernel
theorem d_Wa_install_93 : decode prog_1_method_25_code 93 = .ok (.invokevirtual 43, 3) := by decide +kernel
theorem d_Wa_install_96 : decode prog_1_method_25_code 96 = .ok (.ireturn, 1) := by decide +kernel
def wb_Wa_install_62 (po : Option Value → Pic → Prop) (th : String → Pic → Prop) (P : Pic) (a0 : Nat) (x2 : Int32) (x3 : Int32) (a4 : Nat) (t0 : Int32) : Prop := wp_Wa_may (cp_v fun _ => p_k P a4 = 4 ∧ ∃ a117, p_r P 121 a4 = some a117 ∧ ∀ (q118 : Nat), p_z P ≤ q118 → p_k (s_new P q118 9) a0 = 1 ∧ wp_Re_init (cp_v fun P120 => p_k P120 a117 = 14 ∧ wp_Ar_add (cp_i fun x122 P123 => p_k P123 a4 = 4 ∧ ∃ a125, p_r P123 121 a4 = some a125 ∧ p_k P123 a125 = 14 ∧ wp_Ar_size (cp_i fun x127 _ => po (some (.int x127)) P123) th P123 a125) th P120 a117 q118) th (s_new P q118 9) q118 (p_i (s_new P q118 9) 3 a0) x3 x2 (1 : Int32)) th P t0
def wb_Wa_install_57 (po : Option Value → Pic → Prop) (th : String → Pic → Prop) (P : Pic) (a0 : Nat) (x2 : Int32) (x3 : Int32) (a4 : Nat) : Prop := wb_Wa_install_62 po th P a0 x2 x3 a4 (1 : Int32)
def wb_Wa_install_61 (po : Option Value → Pic → Prop) (th : String → Pic → Prop) (P : Pic) (a0 : Nat) (x2 : Int32) (x3 : Int32) (a4 : Nat) : Prop := wb_Wa_install_62 po th P a0 x2 x3 a4 (0 : Int32)
def wp_Wa_install (po : Option Value → Pic → Prop) (th : String → Pic → Prop) (P : Pic) (a0 : Nat) (x1 : Int32) (x2 : Int32) (x3 : Int32) : Prop := p_k P a0 = 1 ∧ wp_Wa_customerAt (cp_a fun a102 _ => wp_Wa_needShown (cp_v fun _ => p_k P a102 = 4 ∧ wp_Cu_last (cp_o fun o104 _ => ∃ a105, p_r P 121 a102 = some a105 ∧ p_k P a105 = 14 ∧ wp_Ar_size (cp_i fun x107 _ => (((24 : Int32) ≤ x107 → (wb_Wa_install_61 po th P a0 x2 x3 a102)) ∧ (¬ (24 : Int32) ≤ x107 → (((o104 = none → (wb_Wa_install_57 po th P a0 x2 x3 a102)) ∧ (¬ o104 = none → (∃ a108, o104 = some a108 ∧ p_k P a108 = 10 ∧ wp_Re_day (cp_i fun x110 _ => ((x110 < (p_i P 3 a0) → (wb_Wa_install_57 po th P a0 x2 x3 a102)) ∧ (¬ x110 < (p_i P 3 a0) → (wp_Re_first (cp_i fun x111 _ => ((¬ x111 = 0 → (wb_Wa_install_61 po th P a0 x2 x3 a102)) ∧ (x111 = 0 → (wb_Wa_install_57 po th P a0 x2 x3 a102)))) th P a108)))) th P a108))))))) th P a105) th P a102) th P x2 x3) th P a0 x1
set_option maxHeartbeats 4000000 in
set_option maxRecDepth 100000 in
theorem wk_Wa_install_62 {p : Program} {l : Launch} {e : Env} {s : State} {m : MethodId} {args : Array Value} {below : List Frame} {meth : Method} {c : Code} {D : pq_D} {P0 : Pic} {po : Option Value → Pic → Prop} {th : String → Pic → Prop} (hfl : l.flags = flags0) (C : Cx p e s m args meth c prog_1_method_25_code 6 "WaterWorks" D P0) (hmg : e.platform.magicAccessors = ({} : Platform).magicAccessors) (hr : meth.sig.returnType = (some .int)) (hin : meth.name = "install") (htab : c.exceptionTable.toList = tableOf []) : ∀ (P : Pic) (a0 : Nat) (x2 : Int32) (x3 : Int32) (a4 : Nat) (t0 : Int32) (H : Heap) (locs : List Loc) (cells slots : Nat) (ls : Array Slot), wb_Wa_install_62 po th P a0 x2 x3 a4 t0 → Pi D P H → Sg (cq_A P0 s) s.heap H P locs → lv_has ls 6 [(0, .ref a0), (2, .int x2), (3, .int x3), (4, .ref a4)] → cells + 3 ≤ 5 → slots + 74 ≤ 86 → W p l e rm_Wa_install s m args below meth c H locs cells slots (mt_MQ below (cq_Q D P0 false po th) args s 5 86 (cq_free P0 false)) (F0 m 62 ls [.int t0]) := by
  intro P a0 x2 x3 a4 t0 H locs cells slots ls h hP hS hl hcc hss
  obtain ⟨hx, hb, hml, hown, hlocks, htr, hT, hK, hSt, hN, hP0⟩ := id C
  have L155_0 : pq_fl s m args 155 0 3 := ⟨_, "WaterWorks", "WaterWorks", rfl, by decide, hown, Or.inl (hT _ k_453 _), (fun _ z => z)⟩
  have L168_3 : pq_fl s m args 168 3 1 := ⟨_, "WaterWorks", "WaterWorks$Customer", rfl, by decide, hown, Or.inr ⟨_, hT _ k_699 _⟩, (fun _ z => z)⟩
  unfold wb_Wa_install_62 at h
  refine cr_v (pc := 62) C (rest := []) (mt_invS (As := [.int t0]) hx hb hown (hT _ k_475 _) (hT _ k_476 _) (hT _ k_1 _) (mt_Cd.code (hT _ k_477 #[])) h_Wa_may n_Wa_may rfl d_Wa_install_62) (ct_Wa_may hfl D h) k_477 k_1 ⟨Nat.le_of_ble_eq_true rfl, Nat.le_of_ble_eq_true rfl⟩ ⟨(show cells + 1 ≤ 5 by omega), (show slots + 6 ≤ 86 by omega)⟩ hl.1 d_Wa_install_62 (Nat.le_of_ble_eq_true rfl) hP hS (fun H locs h hP hS => ?_) (fun xx X H locs h hX hex hP hS => ?_)
  · refine lv_aload (pc := 65) hx hb d_Wa_install_65 (lv_at hl 3 rfl) ?_
    obtain ⟨hk116, h⟩ := h
    obtain ⟨a117, ea117, h⟩ := h
    refine pq_geta (pc := 67) (f := 121) hx hb hT hK hP L168_3 hk116 rfl ea117 d_Wa_install_67 ?_
    refine pq_new (pc := 70) hx hb hT hK hP hS (k := 9) rfl hown (hT _ k_905 _) (hT _ k_906 _) (hT _ k_34 _) (show cells + 1 + 1 ≤ 5 by omega) (show slots + 6 + 4 ≤ 86 by omega) d_Wa_install_70 (fun q118 H hq118 hP1 hS => ?_)
    replace h := h q118 hq118
    have hk116 : p_k (s_new P q118 9) a4 = 4 := pq_oldn (k := 3) hP hk116 hq118
    have hkq118 : p_k (s_new P q118 9) q118 = 10 := pk_newq _ _ _
    replace hP := hP1
    clear hP1
    refine lv_dup (pc := 73) hx hb d_Wa_install_73 rfl ?_
    refine lv_aload_n (pc := 74) hx hb d_Wa_install_74 rfl (lv_at hl 0 rfl) ?_
    obtain ⟨hk119, h⟩ := h
    refine pq_geti (pc := 75) (f := 3) hx hb hT hK hP L155_0 hk119 rfl d_Wa_install_75 ?_
    refine lv_iload_n (pc := 78) hx hb d_Wa_install_78 rfl (lv_at hl 2 rfl) ?_
    refine lv_iload_n (pc := 79) hx hb d_Wa_install_79 rfl (lv_at hl 1 rfl) ?_
    refine lv_iconst (pc := 80) (v := 1) hx hb d_Wa_install_80 (by decide) ?_
    refine cc_v (pc := 81) C (rest := [.ref q118, .ref a117]) (mt_invIN (As := [.int (p_i (s_new P q118 9) 3 a0), .int x3, .int x2, .int (1 : Int32)]) hx hb hown rfl (hT _ k_907 _) (hT _ k_908 _) (hT _ k_909 _) h_Re_init n_Re_init rfl d_Wa_install_81) (ct_Re_init hfl D h) k_909 k_34 ⟨Nat.le_of_ble_eq_true rfl, Nat.le_of_ble_eq_true rfl⟩ ⟨(show cells + 1 + 1 + 0 ≤ 5 by omega), (show slots + 6 + 4 + 0 ≤ 86 by omega)⟩ hl.1 d_Wa_install_81 (Nat.le_of_ble_eq_true rfl) hP hS (fun P120 H locs h hP hS => ?_) (fun xx X P120 H locs h hX hex hP hS => ?_)
    · obtain ⟨hk121, h⟩ := h
      refine cc_i (pc := 84) C (rest := []) (mt_invV (As := [.ref q118]) hx hb hown (hT _ k_523 _) (hT _ k_524 _) (hT _ k_525 _) (mt_Cd.code (hT _ k_526 #[])) h_Ar_add (pq_recv hK hP hk121 rfl) n_Ar_add rfl d_Wa_install_84) (ct_Ar_add hfl D h) k_526 k_5 ⟨Nat.le_of_ble_eq_true rfl, Nat.le_of_ble_eq_true rfl⟩ ⟨(show cells + 1 + 1 + 0 + 1 ≤ 5 by omega), (show slots + 6 + 4 + 0 + 64 ≤ 86 by omega)⟩ hl.1 d_Wa_install_84 (Nat.le_of_ble_eq_true rfl) hP hS (fun x122 P123 H locs h hP hS => ?_) (fun xx X P123 H locs h hX hex hP hS => ?_)
      · refine lv_pop (pc := 87) hx hb d_Wa_install_87 rfl ?_
        refine lv_aload (pc := 88) hx hb d_Wa_install_88 (lv_at hl 3 rfl) ?_
        obtain ⟨hk124, h⟩ := h
        obtain ⟨a125, ea125, h⟩ := h
        refine pq_geta (pc := 90) (f := 121) hx hb hT hK hP L168_3 hk124 rfl ea125 d_Wa_install_90 ?_
        obtain ⟨hk126, h⟩ := h
        refine cr_i (pc := 93) C (rest := []) (mt_invV (As := []) hx hb hown (hT _ k_471 _) (hT _ k_472 _) (hT _ k_473 _) (mt_Cd.code (hT _ k_474 #[])) h_Ar_size (pq_recv hK hP hk126 rfl) n_Ar_size rfl d_Wa_install_93) (ct_Ar_size hfl D h) k_474 k_5 ⟨Nat.le_of_ble_eq_true rfl, Nat.le_of_ble_eq_true rfl⟩ ⟨(show cells + 1 + 1 + 0 + 1 + 0 ≤ 5 by omega), (show slots + 6 + 4 + 0 + 64 + 0 ≤ 86 by omega)⟩ hl.1 d_Wa_install_93 (Nat.le_of_ble_eq_true rfl) hP hS (fun x127 H locs h hP hS => ?_) (fun xx X H locs h hX hex hP hS => ?_)
        · exact we_i (pc := 96) hx hb hlocks hr hP hS (show cells + 1 + 1 + 0 + 1 + 0 + 0 ≤ 5 by omega) (show slots + 6 + 4 + 0 + 64 + 0 + 0 ≤ 86 by omega) h d_Wa_install_96
        · exact cq_out hlocks (pq_nil htab rfl) (show cells + 1 + 1 + 0 + 1 + 0 + 0 ≤ 5 by omega) (show slots + 6 + 4 + 0 + 64 + 0 + 0 ≤ 86 by omega) hX hex hP hS h
      · exact cq_out hlocks (pq_nil htab rfl) (show cells + 1 + 1 + 0 + 1 + 0 ≤ 5 by omega) (show slots + 6 + 4 + 0 + 64 + 0 ≤ 86 by omega) hX hex hP hS h
    · exact cq_out hlocks (pq_nil htab rfl) (show cells + 1 + 1 + 0 + 0 ≤ 5 by omega) (show slots + 6 + 4 + 0 + 0 ≤ 86 by omega) hX hex hP hS h
  · exact cq_out hlocks (pq_nil htab rfl) (show cells + 1 + 0 ≤ 5 by omega) (show slots + 6 + 0 ≤ 86 by omega) hX hex hP hS h
set_option maxHeartbeats 4000000 in
set_option maxRecDepth 100000 in
theorem wk_Wa_install_57 {p : Program} {l : Launch} {e : Env} {s : State} {m : MethodId} {args : Array Value} {below : List Frame} {meth : Method} {c : Code} {D : pq_D} {P0 : Pic} {po : Option Value → Pic → Prop} {th : String → Pic → Prop} (hfl : l.flags = flags0) (C : Cx p e s m args meth c prog_1_method_25_code 6 "WaterWorks" D P0) (hmg : e.platform.magicAccessors = ({} : Platform).magicAccessors) (hr : meth.sig.returnType = (some .int)) (hin : meth.name = "install") (htab : c.exceptionTable.toList = tableOf []) : ∀ (P : Pic) (a0 : Nat) (x2 : Int32) (x3 : Int32) (a4 : Nat) (H : Heap) (locs : List Loc) (cells slots : Nat) (ls : Array Slot), wb_Wa_install_57 po th P a0 x2 x3 a4 → Pi D P H → Sg (cq_A P0 s) s.heap H P locs → lv_has ls 6 [(0, .ref a0), (2, .int x2), (3, .int x3), (4, .ref a4)] → cells + 3 ≤ 5 → slots + 74 ≤ 86 → W p l e rm_Wa_install s m args below meth c H locs cells slots (mt_MQ below (cq_Q D P0 false po th) args s 5 86 (cq_free P0 false)) (F0 m 57 ls []) := by
  intro P a0 x2 x3 a4 H locs cells slots ls h hP hS hl hcc hss
  obtain ⟨hx, hb, hml, hown, hlocks, htr, hT, hK, hSt, hN, hP0⟩ := id C
  have L155_0 : pq_fl s m args 155 0 3 := ⟨_, "WaterWorks", "WaterWorks", rfl, by decide, hown, Or.inl (hT _ k_453 _), (fun _ z => z)⟩
  have L168_3 : pq_fl s m args 168 3 1 := ⟨_, "WaterWorks", "WaterWorks$Customer", rfl, by decide, hown, Or.inr ⟨_, hT _ k_699 _⟩, (fun _ z => z)⟩
  unfold wb_Wa_install_57 at h
  refine lv_iconst (pc := 57) (v := 1) hx hb d_Wa_install_57 (by decide) ?_
  refine lv_goto (pc := 58) (tgt := 62) hx hb d_Wa_install_58 (by decide) ?_
  exact wk_Wa_install_62 hfl C hmg hr hin htab _ a0 x2 x3 a4 (1 : Int32) _ _ _ _ _ h hP hS (lv_sub hl [0, 1, 2, 3] rfl) (show cells + 3 ≤ 5 by omega) (show slots + 74 ≤ 86 by omega)
set_option maxHeartbeats 4000000 in
set_option maxRecDepth 100000 in
theorem wk_Wa_install_61 {p : Program} {l : Launch} {e : Env} {s : State} {m : MethodId} {args : Array Value} {below : List Frame} {meth : Method} {c : Code} {D : pq_D} {P0 : Pic} {po : Option Value → Pic → Prop} {th : String → Pic → Prop} (hfl : l.flags = flags0) (C : Cx p e s m args meth c prog_1_method_25_code 6 "WaterWorks" D P0) (hmg : e.platform.magicAccessors = ({} : Platform).magicAccessors) (hr : meth.sig.returnType = (some .int)) (hin : meth.name = "install") (htab : c.exceptionTable.toList = tableOf []) : ∀ (P : Pic) (a0 : Nat) (x2 : Int32) (x3 : Int32) (a4 : Nat) (H : Heap) (locs : List Loc) (cells slots : Nat) (ls : Array Slot), wb_Wa_install_61 po th P a0 x2 x3 a4 → Pi D P H → Sg (cq_A P0 s) s.heap H P locs → lv_has ls 6 [(0, .ref a0), (2, .int x2), (3, .int x3), (4, .ref a4)] → cells + 3 ≤ 5 → slots + 74 ≤ 86 → W p l e rm_Wa_install s m args below meth c H locs cells slots (mt_MQ below (cq_Q D P0 false po th) args s 5 86 (cq_free P0 false)) (F0 m 61 ls []) := by
  intro P a0 x2 x3 a4 H locs cells slots ls h hP hS hl hcc hss
  obtain ⟨hx, hb, hml, hown, hlocks, htr, hT, hK, hSt, hN, hP0⟩ := id C
  have L155_0 : pq_fl s m args 155 0 3 := ⟨_, "WaterWorks", "WaterWorks", rfl, by decide, hown, Or.inl (hT _ k_453 _), (fun _ z => z)⟩
  have L168_3 : pq_fl s m args 168 3 1 := ⟨_, "WaterWorks", "WaterWorks$Customer", rfl, by decide, hown, Or.inr ⟨_, hT _ k_699 _⟩, (fun _ z => z)⟩
  unfold wb_Wa_install_61 at h
  refine lv_iconst (pc := 61) (v := 0) hx hb d_Wa_install_61 (by decide) ?_
  exact wk_Wa_install_62 hfl C hmg hr hin htab _ a0 x2 x3 a4 (0 : Int32) _ _ _ _ _ h hP hS (lv_sub hl [0, 1, 2, 3] rfl) (show cells + 3 ≤ 5 by omega) (show slots + 74 ≤ 86 by omega)
set_option maxHeartbeats 4000000 in
set_option maxRecDepth 100000 in
theorem ct_Wa_install {l : Launch} (hfl : l.flags = flags0) (D : pq_D) {po : Option Value → Pic → Prop} {th : String → Pic → Prop} {P : Pic} {a0 : Nat} {x1 : Int32} {x2 : Int32} {x3 : Int32} (h : wp_Wa_install po th P a0 x1 x2 x3) : CT l D y_Wa_install (.code y_Wa_install prog_1_method_25_code 6 (some .int)) rm_Wa_install false [.ref a0, .int x1, .int x2, .int x3] P po th := by
  refine ct_of (hs := []) hfl (by decide +kernel) (Or.inl ⟨rfl, rfl⟩) (Nat.le_of_ble_eq_true rfl) ?_
  intro p e s m below meth c C hmg hr hin htab ls hl
  have hl : lv_has ls 6 [(0, .ref a0), (1, .int x1), (2, .int x2), (3, .int x3)] := hl
  generalize hargs : ([.ref a0, .int x1, .int x2, .int x3] : List Value).toArray = args at C ⊢
  obtain ⟨hx, hb, hml, hown, hlocks, htr, hT, hK, hSt, hN, hP0⟩ := id C
  have L155_0 : pq_fl s m args 155 0 3 := ⟨_, "WaterWorks", "WaterWorks", rfl, by decide, hown, Or.inl (hT _ k_453 _), (fun _ z => z)⟩
  have L168_3 : pq_fl s m args 168 3 1 := ⟨_, "WaterWorks", "WaterWorks$Customer", rfl, by decide, hown, Or.inr ⟨_, hT _ k_699 _⟩, (fun _ z => z)⟩
  have hP : Pi D P s.heap := hP0
  have hS : Sg (cq_A P s) s.heap s.heap P [] := Sg.start hP0
  unfold wp_Wa_install at h
  refine lv_aload_n (pc := 0) hx hb d_Wa_install_0 rfl (lv_at hl 0 rfl) ?_
  refine lv_iload_n (pc := 1) hx hb d_Wa_install_1 rfl (lv_at hl 1 rfl) ?_
  obtain ⟨hk101, h⟩ := h
  refine cr_a (pc := 2) C (rest := []) (mt_invV (As := [.int x1]) hx hb hown (hT _ k_757 _) (hT _ k_759 _) (hT _ ks_6 _) (mt_Cd.code (hT _ k_760 #[])) h_Wa_customerAt (pq_recv hK hP hk101 rfl) n_Wa_customerAt rfl d_Wa_install_2) (ct_Wa_customerAt hfl D h) k_760 k_1 ⟨Nat.le_of_ble_eq_true rfl, Nat.le_of_ble_eq_true rfl⟩ ⟨(show 0 + 1 ≤ 5 by omega), (show 0 + 6 ≤ 86 by omega)⟩ hl.1 d_Wa_install_2 (Nat.le_of_ble_eq_true rfl) hP hS (fun a102 H locs h hP hS => ?_) (fun xx X H locs h hX hex hP hS => ?_)
  · refine lv_astore (pc := 5) (lv' := [(4, .ref a102), (0, .ref a0), (1, .int x1), (2, .int x2), (3, .int x3)]) hx hb d_Wa_install_5 hl (by decide) rfl (fun ls hl => ?_)
    refine lv_iload_n (pc := 7) hx hb d_Wa_install_7 rfl (lv_at hl 3 rfl) ?_
    refine lv_iload_n (pc := 8) hx hb d_Wa_install_8 rfl (lv_at hl 4 rfl) ?_
    refine cr_v (pc := 9) C (rest := []) (mt_invS (As := [.int x2, .int x3]) hx hb hown (hT _ k_880 _) (hT _ k_881 _) (hT _ k_1 _) (mt_Cd.code (hT _ k_882 #[])) h_Wa_needShown n_Wa_needShown rfl d_Wa_install_9) (ct_Wa_needShown hfl D h) k_882 k_1 ⟨Nat.le_of_ble_eq_true rfl, Nat.le_of_ble_eq_true rfl⟩ ⟨(show 0 + 1 + 1 ≤ 5 by omega), (show 0 + 6 + 6 ≤ 86 by omega)⟩ hl.1 d_Wa_install_9 (Nat.le_of_ble_eq_true rfl) hP hS (fun H locs h hP hS => ?_) (fun xx X H locs h hX hex hP hS => ?_)
    · refine lv_aload (pc := 12) hx hb d_Wa_install_12 (lv_at hl 0 rfl) ?_
      obtain ⟨hk103, h⟩ := h
      refine cr_o (pc := 14) C (rest := []) (mt_invV (As := []) hx hb hown (hT _ k_886 _) (hT _ k_887 _) (hT _ k_888 _) (mt_Cd.code (hT _ k_889 #[])) h_Cu_last (pq_recv hK hP hk103 rfl) n_Cu_last rfl d_Wa_install_14) (ct_Cu_last hfl D h) k_889 k_31 ⟨Nat.le_of_ble_eq_true rfl, Nat.le_of_ble_eq_true rfl⟩ ⟨(show 0 + 1 + 1 + 0 ≤ 5 by omega), (show 0 + 6 + 6 + 0 ≤ 86 by omega)⟩ hl.1 d_Wa_install_14 (Nat.le_of_ble_eq_true rfl) hP hS (fun o104 H locs h hP hS => ?_) (fun xx X H locs h hX hex hP hS => ?_)
      · refine lv_astoreO (pc := 17) (lv' := [(5, va_rf o104), (4, .ref a102), (0, .ref a0), (1, .int x1), (2, .int x2), (3, .int x3)]) hx hb d_Wa_install_17 hl (by decide) rfl (fun ls hl => ?_)
        refine lv_aload (pc := 19) hx hb d_Wa_install_19 (lv_at hl 1 rfl) ?_
        obtain ⟨a105, ea105, h⟩ := h
        refine pq_geta (pc := 21) (f := 121) hx hb hT hK hP L168_3 hk103 rfl ea105 d_Wa_install_21 ?_
        obtain ⟨hk106, h⟩ := h
        refine cr_i (pc := 24) C (rest := []) (mt_invV (As := []) hx hb hown (hT _ k_471 _) (hT _ k_472 _) (hT _ k_473 _) (mt_Cd.code (hT _ k_474 #[])) h_Ar_size (pq_recv hK hP hk106 rfl) n_Ar_size rfl d_Wa_install_24) (ct_Ar_size hfl D h) k_474 k_5 ⟨Nat.le_of_ble_eq_true rfl, Nat.le_of_ble_eq_true rfl⟩ ⟨(show 0 + 1 + 1 + 0 + 0 ≤ 5 by omega), (show 0 + 6 + 6 + 0 + 0 ≤ 86 by omega)⟩ hl.1 d_Wa_install_24 (Nat.le_of_ble_eq_true rfl) hP hS (fun x107 H locs h hP hS => ?_) (fun xx X H locs h hX hex hP hS => ?_)
        · refine lv_bipush (pc := 27) (v := 24) hx hb d_Wa_install_27 (by decide) ?_
          refine lv_icmp_ge (pc := 29) (tgt := 61) hx hb d_Wa_install_29 (by decide) (fun c115 => ?_) (fun c115 => ?_)
          · replace h := h.1 c115
            exact wk_Wa_install_61 hfl C hmg hr hin htab _ a0 x2 x3 a102 _ _ _ _ _ h hP hS (lv_sub hl [2, 4, 5, 1] rfl) (show 0 + 1 + 1 + 0 + 0 + 3 ≤ 5 by omega) (show 0 + 6 + 6 + 0 + 0 + 74 ≤ 86 by omega)
          · replace h := h.2 c115
            refine lv_aloadO (pc := 32) hx hb d_Wa_install_32 (lv_at hl 0 rfl) ?_
            refine lv_ifnullO (pc := 34) (tgt := 57) hx hb d_Wa_install_34 (by decide) (fun c114 => ?_) (fun c114 => ?_)
            · replace h := h.1 c114
              exact wk_Wa_install_57 hfl C hmg hr hin htab _ a0 x2 x3 a102 _ _ _ _ _ h hP hS (lv_sub hl [2, 4, 5, 1] rfl) (show 0 + 1 + 1 + 0 + 0 + 3 ≤ 5 by omega) (show 0 + 6 + 6 + 0 + 0 + 74 ≤ 86 by omega)
            · replace h := h.2 c114
              refine lv_aloadO (pc := 37) hx hb d_Wa_install_37 (lv_at hl 0 rfl) ?_
              obtain ⟨a108, ea108, h⟩ := h
              try rw [ea108] at hl
              rw [ea108]
              have hl : lv_has ls 6 [(5, .ref a108), (4, .ref a102), (0, .ref a0), (1, .int x1), (2, .int x2), (3, .int x3)] := hl
              refine W.eq (g2 := F0 m _ ls [.ref a108]) rfl ?_
              obtain ⟨hk109, h⟩ := h
              refine cr_i (pc := 39) C (rest := []) (mt_invV (As := []) hx hb hown (hT _ k_897 _) (hT _ k_898 _) (hT _ k_899 _) (mt_Cd.code (hT _ k_900 #[])) h_Re_day (pq_recv hK hP hk109 rfl) n_Re_day rfl d_Wa_install_39) (ct_Re_day hfl D h) k_900 k_34 ⟨Nat.le_of_ble_eq_true rfl, Nat.le_of_ble_eq_true rfl⟩ ⟨(show 0 + 1 + 1 + 0 + 0 + 0 ≤ 5 by omega), (show 0 + 6 + 6 + 0 + 0 + 0 ≤ 86 by omega)⟩ hl.1 d_Wa_install_39 (Nat.le_of_ble_eq_true rfl) hP hS (fun x110 H locs h hP hS => ?_) (fun xx X H locs h hX hex hP hS => ?_)
              · refine lv_aload_n (pc := 42) hx hb d_Wa_install_42 rfl (lv_at hl 2 rfl) ?_
                refine pq_geti (pc := 43) (f := 3) hx hb hT hK hP L155_0 hk101 rfl d_Wa_install_43 ?_
                refine lv_icmp_lt (pc := 46) (tgt := 57) hx hb d_Wa_install_46 (by decide) (fun c113 => ?_) (fun c113 => ?_)
                · replace h := h.1 c113
                  exact wk_Wa_install_57 hfl C hmg hr hin htab _ a0 x2 x3 a102 _ _ _ _ _ h hP hS (lv_sub hl [2, 4, 5, 1] rfl) (show 0 + 1 + 1 + 0 + 0 + 0 + 3 ≤ 5 by omega) (show 0 + 6 + 6 + 0 + 0 + 0 + 74 ≤ 86 by omega)
                · replace h := h.2 c113
                  refine lv_aload (pc := 49) hx hb d_Wa_install_49 (lv_at hl 0 rfl) ?_
                  refine cr_i (pc := 51) C (rest := []) (mt_invV (As := []) hx hb hown (hT _ k_901 _) (hT _ k_902 _) (hT _ k_903 _) (mt_Cd.code (hT _ k_904 #[])) h_Re_first (pq_recv hK hP hk109 rfl) n_Re_first rfl d_Wa_install_51) (ct_Re_first hfl D h) k_904 k_34 ⟨Nat.le_of_ble_eq_true rfl, Nat.le_of_ble_eq_true rfl⟩ ⟨(show 0 + 1 + 1 + 0 + 0 + 0 + 0 ≤ 5 by omega), (show 0 + 6 + 6 + 0 + 0 + 0 + 0 ≤ 86 by omega)⟩ hl.1 d_Wa_install_51 (Nat.le_of_ble_eq_true rfl) hP hS (fun x111 H locs h hP hS => ?_) (fun xx X H locs h hX hex hP hS => ?_)
                  · refine lv_if_ne (pc := 54) (tgt := 61) hx hb d_Wa_install_54 (by decide) (fun c112 => ?_) (fun c112 => ?_)
                    · replace h := h.1 c112
                      exact wk_Wa_install_61 hfl C hmg hr hin htab _ a0 x2 x3 a102 _ _ _ _ _ h hP hS (lv_sub hl [2, 4, 5, 1] rfl) (show 0 + 1 + 1 + 0 + 0 + 0 + 0 + 3 ≤ 5 by omega) (show 0 + 6 + 6 + 0 + 0 + 0 + 0 + 74 ≤ 86 by omega)
                    · replace h := h.2 c112
                      exact wk_Wa_install_57 hfl C hmg hr hin htab _ a0 x2 x3 a102 _ _ _ _ _ h hP hS (lv_sub hl [2, 4, 5, 1] rfl) (show 0 + 1 + 1 + 0 + 0 + 0 + 0 + 3 ≤ 5 by omega) (show 0 + 6 + 6 + 0 + 0 + 0 + 0 + 74 ≤ 86 by omega)
                  · exact cq_out hlocks (pq_nil htab rfl) (show 0 + 1 + 1 + 0 + 0 + 0 + 0 + 0 ≤ 5 by omega) (show 0 + 6 + 6 + 0 + 0 + 0 + 0 + 0 ≤ 86 by omega) hX hex hP hS h
              · exact cq_out hlocks (pq_nil htab rfl) (show 0 + 1 + 1 + 0 + 0 + 0 + 0 ≤ 5 by omega) (show 0 + 6 + 6 + 0 + 0 + 0 + 0 ≤ 86 by omega) hX hex hP hS h
        · exact cq_out hlocks (pq_nil htab rfl) (show 0 + 1 + 1 + 0 + 0 + 0 ≤ 5 by omega) (show 0 + 6 + 6 + 0 + 0 + 0 ≤ 86 by omega) hX hex hP hS h
      · exact cq_out hlocks (pq_nil htab rfl) (show 0 + 1 + 1 + 0 + 0 ≤ 5 by omega) (show 0 + 6 + 6 + 0 + 0 ≤ 86 by omega) hX hex hP hS h
    · exact cq_out hlocks (pq_nil htab rfl) (show 0 + 1 + 1 + 0 ≤ 5 by omega) (show 0 + 6 + 6 + 0 ≤ 86 by omega) hX hex hP hS h
  · exact cq_out hlocks (pq_nil htab rfl) (show 0 + 1 + 0 ≤ 5 by omega) (show 0 + 6 + 0 ≤ 86 by omega) hX hex hP hS h
/-! WaterWorks.read(II)I -/
abbrev y_Wa_read : MethodName := ⟨"WaterWorks", "read", "(II)I"⟩
abbrev rm_Wa_read : Room := { frames := 8, cells := 5, slots := 86, locals := 192 }
theorem h_Wa_read : y_Wa_read.cls ≠ "java/lang/invoke/MethodHandle" ∧ y_Wa_read.cls ≠ "java/lang/invoke/VarHandle" := by decide +kernel
theorem n_Wa_read : (parseMethodDescriptor y_Wa_read.desc).map (fun d => d.parameters.length) = some 2 := by decide +kernel
theorem d_Wa_read_0 : decode prog_1_method_26_code 0 = .ok (.aload_n 0, 1) := by decide +kernel
theorem d_Wa_read_1 : decode prog_1_method_26_code 1 = .ok (.iload_n 1, 1) := by decide +kernel
theorem d_Wa_read_2 : decode prog_1_method_26_code 2 = .ok (.invokevirtual 112, 3) := by decide +kernel
theorem d_Wa_read_5 : decode prog_1_method_26_code 5 = .ok (.astore_n 3, 1) := by decide +kernel
theorem d_Wa_read_6 : decode prog_1_method_26_code 6 = .ok (.aload_n 3, 1) := by decide +kernel
theorem d_Wa_read_7 : decode prog_1_method_26_code 7 = .ok (.invokevirtual 164, 3) := by decide +kernel
theorem d_Wa_read_10 : decode prog_1_method_26_code 10 = .ok (.astore 4, 2) := by decide +kernel
theorem d_Wa_read_12 : decode prog_1_method_26_code 12 = .ok (.aload 4, 2) := by decide +kernel
theorem d_Wa_read_14 : decode prog_1_method_26_code 14 = .ok (.ifnull 31, 3) := by decide +kernel
theorem d_Wa_read_17 : decode prog_1_method_26_code 17 = .ok (.aload_n 3, 1) := by decide +kernel
theorem d_Wa_read_18 : decode prog_1_method_26_code 18 = .ok (.getfield 168, 3) := by decide +kernel
theorem d_Wa_read_21 : decode prog_1_method_26_code 21 = .ok (.invokevirtual 43, 3) := by decide +kernel
theorem d_Wa_read_24 : decode prog_1_method_26_code 24 = .ok (.bipush 24, 2) := by decide +kernel
theorem d_Wa_read_26 : decode prog_1_method_26_code 26 = .ok (.if_icmp .ge 19, 3) := by decide +kernel
theorem d_Wa_read_29 : decode prog_1_method_26_code 29 = .ok (.aload 4, 2) := by decide +kernel
theorem d_Wa_read_31 : decode prog_1_method_26_code 31 = .ok (.invokevirtual 171, 3) := by decide +kernel
theorem d_Wa_read_34 : decode prog_1_method_26_code 34 = .ok (.aload_n 0, 1) := by decide +kernel
theorem d_Wa_read_35 : decode prog_1_method_26_code 35 = .ok (.getfield 155, 3) := by decide +kernel
theorem d_Wa_read_38 : decode prog_1_method_26_code 38 = .ok (.if_icmp .ge 7, 3) := by decide +kernel
theorem d_Wa_read_41 : decode prog_1_method_26_code 41 = .ok (.iconst 1, 1) := by decide +kernel
theorem d_Wa_read_42 : decode prog_1_method_26_code 42 = .ok (.goto 4, 3) := by decide +kernel
theorem d_Wa_read_45 : decode prog_1_method_26_code 45 = .ok (.iconst 0, 1) := by decide +kernel
theorem d_Wa_read_46 : decode prog_1_method_26_code 46 = .ok (.invokestatic 64, 3) := by decide +kernel
theorem d_Wa_read_49 : decode prog_1_method_26_code 49 = .ok (.aload 4, 2) := by decide +kernel
theorem d_Wa_read_51 : decode prog_1_method_26_code 51 = .ok (.invokevirtual 183, 3) := by decide +kernel
theorem d_Wa_read_54 : decode prog_1_method_26_code 54 = .ok (.iload_n 2, 1) := by decide +kernel
theorem d_Wa_read_55 : decode prog_1_method_26_code 55 = .ok (.invokestatic 161, 3) := by decide +kernel
theorem d_Wa_read_58 : decode prog_1_method_26_code 58 = .ok (.aload_n 3, 1) := by decide +kernel
theorem d_Wa_read_59 : decode prog_1_method_26_code 59 = .ok (.getfield 168, 3) := by decide +kernel
theorem d_Wa_read_62 : decode prog_1_method_26_code 62 = .ok (.new 172, 3) := by decide +kernel
theorem d_Wa_read_65 : decode prog_1_method_26_code 65 = .ok (.dup, 1) := by decide +kernel
theorem d_Wa_read_66 : decode prog_1_method_26_code 66 = .ok (.aload_n 0, 1) := by decide +kernel
theorem d_Wa_read_67 : decode prog_1_method_26_code 67 = .ok (.getfield 155, 3) := by decide +kernel
theorem d_Wa_read_70 : decode prog_1_method_26_code 70 = .ok (.iload_n 2, 1) := by decide +kernel
theorem d_Wa_read_71 : decode prog_1_method_26_code 71 = .ok (.aload 4, 2) := by decide +kernel
theorem d_Wa_read_73 : decode prog_1_method_26_code 73 = .ok (.invokevirtual 183, 3) := by decide +kernel
theorem d_Wa_read_76 : decode prog_1_method_26_code 76 = .ok (.iconst 0, 1) := by decide +kernel
theorem d_Wa_read_77 : decode prog_1_method_26_code 77 = .ok (.invokespecial 180, 3) := by decide +kernel
theorem d_Wa_read_80 : decode prog_1_method_26_code 80 = .ok (.invokevirtual 69, 3) := by decide +kernel
theorem d_Wa_read_83 : decode prog_1_method_26_code 83 = .ok (.pop, 1) := by decide +kernel
theorem d_Wa_read_84 : decode prog_1_method_26_code 84 = .ok (.aload_n 3, 1) := by decide +kernel
theorem d_Wa_read_85 : decode prog_1_method_26_code 85 = .ok (.getfield 168, 3) := by decide +kernel
theorem d_Wa_read_88 : decode prog_1_method_26_code 88 = .ok (.invokevirtual 43, 3) := by decide +kernel
theorem d_Wa_read_91 : decode prog_1_method_26_code 91 = .ok (.ireturn, 1) := by decide +kernel
def wb_Wa_read_46 (po : Option Value → Pic → Prop) (th : String → Pic → Prop) (P : Pic) (a0 : Nat) (x2 : Int32) (a3 : Nat) (o4 : Option Nat) (t0 : Int32) : Prop := wp_Wa_may (cp_v fun _ => ∃ a114, o4 = some a114 ∧ p_k P a114 = 10 ∧ wp_Re_digits (cp_i fun x116 _ => wp_Wa_needShown (cp_v fun _ => p_k P a3 = 4 ∧ ∃ a118, p_r P 121 a3 = some a118 ∧ ∀ (q119 : Nat), p_z P ≤ q119 → p_k (s_new P q119 9) a0 = 1 ∧ wp_Re_digits (cp_i fun x121 _ => wp_Re_init (cp_v fun P122 => p_k P122 a118 = 14 ∧ wp_Ar_add (cp_i fun x124 P125 => p_k P125 a3 = 4 ∧ ∃ a127, p_r P125 121 a3 = some a127 ∧ p_k P125 a127 = 14 ∧ wp_Ar_size (cp_i fun x129 _ => po (some (.int x129)) P125) th P125 a127) th P122 a118 q119) th (s_new P q119 9) q119 (p_i (s_new P q119 9) 3 a0) x2 x121 (0 : Int32)) th (s_new P q119 9) a114) th P x116 x2) th P a114) th P t0
def wb_Wa_read_45 (po : Option Value → Pic → Prop) (th : String → Pic → Prop) (P : Pic) (a0 : Nat) (x2 : Int32) (a3 : Nat) (o4 : Option Nat) : Prop := wb_Wa_read_46 po th P a0 x2 a3 o4 (0 : Int32)
def wp_Wa_read (po : Option Value → Pic → Prop) (th : String → Pic → Prop) (P : Pic) (a0 : Nat) (x1 : Int32) (x2 : Int32) : Prop := p_k P a0 = 1 ∧ wp_Wa_customerAt (cp_a fun a102 _ => p_k P a102 = 4 ∧ wp_Cu_last (cp_o fun o104 _ => ((o104 = none → (wb_Wa_read_45 po th P a0 x2 a102 o104)) ∧ (¬ o104 = none → (∃ a105, p_r P 121 a102 = some a105 ∧ p_k P a105 = 14 ∧ wp_Ar_size (cp_i fun x107 _ => (((24 : Int32) ≤ x107 → (wb_Wa_read_45 po th P a0 x2 a102 o104)) ∧ (¬ (24 : Int32) ≤ x107 → (∃ a108, o104 = some a108 ∧ p_k P a108 = 10 ∧ wp_Re_day (cp_i fun x110 _ => (((p_i P 3 a0) ≤ x110 → (wb_Wa_read_45 po th P a0 x2 a102 (some a108))) ∧ (¬ (p_i P 3 a0) ≤ x110 → (wb_Wa_read_46 po th P a0 x2 a102 (some a108) (1 : Int32))))) th P a108)))) th P a105)))) th P a102) th P a0 x1
set_option maxHeartbeats 4000000 in
set_option maxRecDepth 100000 in
theorem wk_Wa_read_46 {p : Program} {l : Launch} {e : Env} {s : State} {m : MethodId} {args : Array Value} {below : List Frame} {meth : Method} {c : Code} {D : pq_D} {P0 : Pic} {po : Option Value → Pic → Prop} {th : String → Pic → Prop} (hfl : l.flags = flags0) (C : Cx p e s m args meth c prog_1_method_26_code 5 "WaterWorks" D P0) (hmg : e.platform.magicAccessors = ({} : Platform).magicAccessors) (hr : meth.sig.returnType = (some .int)) (hin : meth.name = "read") (htab : c.exceptionTable.toList = tableOf []) : ∀ (P : Pic) (a0 : Nat) (x2 : Int32) (a3 : Nat) (o4 : Option Nat) (t0 : Int32) (H : Heap) (locs : List Loc) (cells slots : Nat) (ls : Array Slot), wb_Wa_read_46 po th P a0 x2 a3 o4 t0 → Pi D P H → Sg (cq_A P0 s) s.heap H P locs → lv_has ls 5 [(0, .ref a0), (2, .int x2), (3, .ref a3), (4, va_rf o4)] → cells + 4 ≤ 5 → slots + 80 ≤ 86 → W p l e rm_Wa_read s m args below meth c H locs cells slots (mt_MQ below (cq_Q D P0 false po th) args s 5 86 (cq_free P0 false)) (F0 m 46 ls [.int t0]) := by
  intro P a0 x2 a3 o4 t0 H locs cells slots ls h hP hS hl hcc hss
  obtain ⟨hx, hb, hml, hown, hlocks, htr, hT, hK, hSt, hN, hP0⟩ := id C
  have L155_0 : pq_fl s m args 155 0 3 := ⟨_, "WaterWorks", "WaterWorks", rfl, by decide, hown, Or.inl (hT _ k_453 _), (fun _ z => z)⟩
  have L168_3 : pq_fl s m args 168 3 1 := ⟨_, "WaterWorks", "WaterWorks$Customer", rfl, by decide, hown, Or.inr ⟨_, hT _ k_699 _⟩, (fun _ z => z)⟩
  unfold wb_Wa_read_46 at h
  refine cr_v (pc := 46) C (rest := []) (mt_invS (As := [.int t0]) hx hb hown (hT _ k_475 _) (hT _ k_476 _) (hT _ k_1 _) (mt_Cd.code (hT _ k_477 #[])) h_Wa_may n_Wa_may rfl d_Wa_read_46) (ct_Wa_may hfl D h) k_477 k_1 ⟨Nat.le_of_ble_eq_true rfl, Nat.le_of_ble_eq_true rfl⟩ ⟨(show cells + 1 ≤ 5 by omega), (show slots + 6 ≤ 86 by omega)⟩ hl.1 d_Wa_read_46 (Nat.le_of_ble_eq_true rfl) hP hS (fun H locs h hP hS => ?_) (fun xx X H locs h hX hex hP hS => ?_)
  · refine lv_aloadO (pc := 49) hx hb d_Wa_read_49 (lv_at hl 3 rfl) ?_
    obtain ⟨a114, ea114, h⟩ := h
    try rw [ea114] at hl
    rw [ea114]
    have hl : lv_has ls 5 [(0, .ref a0), (2, .int x2), (3, .ref a3), (4, .ref a114)] := hl
    refine W.eq (g2 := F0 m _ ls [.ref a114]) rfl ?_
    obtain ⟨hk115, h⟩ := h
    refine cr_i (pc := 51) C (rest := []) (mt_invV (As := []) hx hb hown (hT _ k_934 _) (hT _ k_935 _) (hT _ k_936 _) (mt_Cd.code (hT _ k_937 #[])) h_Re_digits (pq_recv hK hP hk115 rfl) n_Re_digits rfl d_Wa_read_51) (ct_Re_digits hfl D h) k_937 k_34 ⟨Nat.le_of_ble_eq_true rfl, Nat.le_of_ble_eq_true rfl⟩ ⟨(show cells + 1 + 0 ≤ 5 by omega), (show slots + 6 + 0 ≤ 86 by omega)⟩ hl.1 d_Wa_read_51 (Nat.le_of_ble_eq_true rfl) hP hS (fun x116 H locs h hP hS => ?_) (fun xx X H locs h hX hex hP hS => ?_)
    · refine lv_iload_n (pc := 54) hx hb d_Wa_read_54 rfl (lv_at hl 1 rfl) ?_
      refine cr_v (pc := 55) C (rest := []) (mt_invS (As := [.int x116, .int x2]) hx hb hown (hT _ k_880 _) (hT _ k_881 _) (hT _ k_1 _) (mt_Cd.code (hT _ k_882 #[])) h_Wa_needShown n_Wa_needShown rfl d_Wa_read_55) (ct_Wa_needShown hfl D h) k_882 k_1 ⟨Nat.le_of_ble_eq_true rfl, Nat.le_of_ble_eq_true rfl⟩ ⟨(show cells + 1 + 0 + 1 ≤ 5 by omega), (show slots + 6 + 0 + 6 ≤ 86 by omega)⟩ hl.1 d_Wa_read_55 (Nat.le_of_ble_eq_true rfl) hP hS (fun H locs h hP hS => ?_) (fun xx X H locs h hX hex hP hS => ?_)
      · refine lv_aload_n (pc := 58) hx hb d_Wa_read_58 rfl (lv_at hl 2 rfl) ?_
        obtain ⟨hk117, h⟩ := h
        obtain ⟨a118, ea118, h⟩ := h
        refine pq_geta (pc := 59) (f := 121) hx hb hT hK hP L168_3 hk117 rfl ea118 d_Wa_read_59 ?_
        refine pq_new (pc := 62) hx hb hT hK hP hS (k := 9) rfl hown (hT _ k_905 _) (hT _ k_906 _) (hT _ k_34 _) (show cells + 1 + 0 + 1 + 1 ≤ 5 by omega) (show slots + 6 + 0 + 6 + 4 ≤ 86 by omega) d_Wa_read_62 (fun q119 H hq119 hP1 hS => ?_)
        replace h := h q119 hq119
        have hk115 : p_k (s_new P q119 9) a114 = 10 := pq_oldn (k := 9) hP hk115 hq119
        have hk117 : p_k (s_new P q119 9) a3 = 4 := pq_oldn (k := 3) hP hk117 hq119
        have hkq119 : p_k (s_new P q119 9) q119 = 10 := pk_newq _ _ _
        replace hP := hP1
        clear hP1
        refine lv_dup (pc := 65) hx hb d_Wa_read_65 rfl ?_
        refine lv_aload_n (pc := 66) hx hb d_Wa_read_66 rfl (lv_at hl 0 rfl) ?_
        obtain ⟨hk120, h⟩ := h
        refine pq_geti (pc := 67) (f := 3) hx hb hT hK hP L155_0 hk120 rfl d_Wa_read_67 ?_
        refine lv_iload_n (pc := 70) hx hb d_Wa_read_70 rfl (lv_at hl 1 rfl) ?_
        refine lv_aload (pc := 71) hx hb d_Wa_read_71 (lv_at hl 3 rfl) ?_
        refine cr_i (pc := 73) C (rest := [.int x2, .int (p_i (s_new P q119 9) 3 a0), .ref q119, .ref q119, .ref a118]) (mt_invV (As := []) hx hb hown (hT _ k_934 _) (hT _ k_935 _) (hT _ k_936 _) (mt_Cd.code (hT _ k_937 #[])) h_Re_digits (pq_recv hK hP hk115 rfl) n_Re_digits rfl d_Wa_read_73) (ct_Re_digits hfl D h) k_937 k_34 ⟨Nat.le_of_ble_eq_true rfl, Nat.le_of_ble_eq_true rfl⟩ ⟨(show cells + 1 + 0 + 1 + 1 + 0 ≤ 5 by omega), (show slots + 6 + 0 + 6 + 4 + 0 ≤ 86 by omega)⟩ hl.1 d_Wa_read_73 (Nat.le_of_ble_eq_true rfl) hP hS (fun x121 H locs h hP hS => ?_) (fun xx X H locs h hX hex hP hS => ?_)
        · refine lv_iconst (pc := 76) (v := 0) hx hb d_Wa_read_76 (by decide) ?_
          refine cc_v (pc := 77) C (rest := [.ref q119, .ref a118]) (mt_invIN (As := [.int (p_i (s_new P q119 9) 3 a0), .int x2, .int x121, .int (0 : Int32)]) hx hb hown rfl (hT _ k_907 _) (hT _ k_908 _) (hT _ k_909 _) h_Re_init n_Re_init rfl d_Wa_read_77) (ct_Re_init hfl D h) k_909 k_34 ⟨Nat.le_of_ble_eq_true rfl, Nat.le_of_ble_eq_true rfl⟩ ⟨(show cells + 1 + 0 + 1 + 1 + 0 + 0 ≤ 5 by omega), (show slots + 6 + 0 + 6 + 4 + 0 + 0 ≤ 86 by omega)⟩ hl.1 d_Wa_read_77 (Nat.le_of_ble_eq_true rfl) hP hS (fun P122 H locs h hP hS => ?_) (fun xx X P122 H locs h hX hex hP hS => ?_)
          · obtain ⟨hk123, h⟩ := h
            refine cc_i (pc := 80) C (rest := []) (mt_invV (As := [.ref q119]) hx hb hown (hT _ k_523 _) (hT _ k_524 _) (hT _ k_525 _) (mt_Cd.code (hT _ k_526 #[])) h_Ar_add (pq_recv hK hP hk123 rfl) n_Ar_add rfl d_Wa_read_80) (ct_Ar_add hfl D h) k_526 k_5 ⟨Nat.le_of_ble_eq_true rfl, Nat.le_of_ble_eq_true rfl⟩ ⟨(show cells + 1 + 0 + 1 + 1 + 0 + 0 + 1 ≤ 5 by omega), (show slots + 6 + 0 + 6 + 4 + 0 + 0 + 64 ≤ 86 by omega)⟩ hl.1 d_Wa_read_80 (Nat.le_of_ble_eq_true rfl) hP hS (fun x124 P125 H locs h hP hS => ?_) (fun xx X P125 H locs h hX hex hP hS => ?_)
            · refine lv_pop (pc := 83) hx hb d_Wa_read_83 rfl ?_
              refine lv_aload_n (pc := 84) hx hb d_Wa_read_84 rfl (lv_at hl 2 rfl) ?_
              obtain ⟨hk126, h⟩ := h
              obtain ⟨a127, ea127, h⟩ := h
              refine pq_geta (pc := 85) (f := 121) hx hb hT hK hP L168_3 hk126 rfl ea127 d_Wa_read_85 ?_
              obtain ⟨hk128, h⟩ := h
              refine cr_i (pc := 88) C (rest := []) (mt_invV (As := []) hx hb hown (hT _ k_471 _) (hT _ k_472 _) (hT _ k_473 _) (mt_Cd.code (hT _ k_474 #[])) h_Ar_size (pq_recv hK hP hk128 rfl) n_Ar_size rfl d_Wa_read_88) (ct_Ar_size hfl D h) k_474 k_5 ⟨Nat.le_of_ble_eq_true rfl, Nat.le_of_ble_eq_true rfl⟩ ⟨(show cells + 1 + 0 + 1 + 1 + 0 + 0 + 1 + 0 ≤ 5 by omega), (show slots + 6 + 0 + 6 + 4 + 0 + 0 + 64 + 0 ≤ 86 by omega)⟩ hl.1 d_Wa_read_88 (Nat.le_of_ble_eq_true rfl) hP hS (fun x129 H locs h hP hS => ?_) (fun xx X H locs h hX hex hP hS => ?_)
              · exact we_i (pc := 91) hx hb hlocks hr hP hS (show cells + 1 + 0 + 1 + 1 + 0 + 0 + 1 + 0 + 0 ≤ 5 by omega) (show slots + 6 + 0 + 6 + 4 + 0 + 0 + 64 + 0 + 0 ≤ 86 by omega) h d_Wa_read_91
              · exact cq_out hlocks (pq_nil htab rfl) (show cells + 1 + 0 + 1 + 1 + 0 + 0 + 1 + 0 + 0 ≤ 5 by omega) (show slots + 6 + 0 + 6 + 4 + 0 + 0 + 64 + 0 + 0 ≤ 86 by omega) hX hex hP hS h
            · exact cq_out hlocks (pq_nil htab rfl) (show cells + 1 + 0 + 1 + 1 + 0 + 0 + 1 + 0 ≤ 5 by omega) (show slots + 6 + 0 + 6 + 4 + 0 + 0 + 64 + 0 ≤ 86 by omega) hX hex hP hS h
          · exact cq_out hlocks (pq_nil htab rfl) (show cells + 1 + 0 + 1 + 1 + 0 + 0 + 0 ≤ 5 by omega) (show slots + 6 + 0 + 6 + 4 + 0 + 0 + 0 ≤ 86 by omega) hX hex hP hS h
        · exact cq_out hlocks (pq_nil htab rfl) (show cells + 1 + 0 + 1 + 1 + 0 + 0 ≤ 5 by omega) (show slots + 6 + 0 + 6 + 4 + 0 + 0 ≤ 86 by omega) hX hex hP hS h
      · exact cq_out hlocks (pq_nil htab rfl) (show cells + 1 + 0 + 1 + 0 ≤ 5 by omega) (show slots + 6 + 0 + 6 + 0 ≤ 86 by omega) hX hex hP hS h
    · exact cq_out hlocks (pq_nil htab rfl) (show cells + 1 + 0 + 0 ≤ 5 by omega) (show slots + 6 + 0 + 0 ≤ 86 by omega) hX hex hP hS h
  · exact cq_out hlocks (pq_nil htab rfl) (show cells + 1 + 0 ≤ 5 by omega) (show slots + 6 + 0 ≤ 86 by omega) hX hex hP hS h
set_option maxHeartbeats 4000000 in
set_option maxRecDepth 100000 in
theorem wk_Wa_read_45 {p : Program} {l : Launch} {e : Env} {s : State} {m : MethodId} {args : Array Value} {below : List Frame} {meth : Method} {c : Code} {D : pq_D} {P0 : Pic} {po : Option Value → Pic → Prop} {th : String → Pic → Prop} (hfl : l.flags = flags0) (C : Cx p e s m args meth c prog_1_method_26_code 5 "WaterWorks" D P0) (hmg : e.platform.magicAccessors = ({} : Platform).magicAccessors) (hr : meth.sig.returnType = (some .int)) (hin : meth.name = "read") (htab : c.exceptionTable.toList = tableOf []) : ∀ (P : Pic) (a0 : Nat) (x2 : Int32) (a3 : Nat) (o4 : Option Nat) (H : Heap) (locs : List Loc) (cells slots : Nat) (ls : Array Slot), wb_Wa_read_45 po th P a0 x2 a3 o4 → Pi D P H → Sg (cq_A P0 s) s.heap H P locs → lv_has ls 5 [(0, .ref a0), (2, .int x2), (3, .ref a3), (4, va_rf o4)] → cells + 4 ≤ 5 → slots + 80 ≤ 86 → W p l e rm_Wa_read s m args below meth c H locs cells slots (mt_MQ below (cq_Q D P0 false po th) args s 5 86 (cq_free P0 false)) (F0 m 45 ls []) := by
  intro P a0 x2 a3 o4 H locs cells slots ls h hP hS hl hcc hss
  obtain ⟨hx, hb, hml, hown, hlocks, htr, hT, hK, hSt, hN, hP0⟩ := id C
  have L155_0 : pq_fl s m args 155 0 3 := ⟨_, "WaterWorks", "WaterWorks", rfl, by decide, hown, Or.inl (hT _ k_453 _), (fun _ z => z)⟩
  have L168_3 : pq_fl s m args 168 3 1 := ⟨_, "WaterWorks", "WaterWorks$Customer", rfl, by decide, hown, Or.inr ⟨_, hT _ k_699 _⟩, (fun _ z => z)⟩
  unfold wb_Wa_read_45 at h
  refine lv_iconst (pc := 45) (v := 0) hx hb d_Wa_read_45 (by decide) ?_
  exact wk_Wa_read_46 hfl C hmg hr hin htab _ a0 x2 a3 o4 (0 : Int32) _ _ _ _ _ h hP hS (lv_sub hl [0, 1, 2, 3] rfl) (show cells + 4 ≤ 5 by omega) (show slots + 80 ≤ 86 by omega)
set_option maxHeartbeats 4000000 in
set_option maxRecDepth 100000 in
theorem ct_Wa_read {l : Launch} (hfl : l.flags = flags0) (D : pq_D) {po : Option Value → Pic → Prop} {th : String → Pic → Prop} {P : Pic} {a0 : Nat} {x1 : Int32} {x2 : Int32} (h : wp_Wa_read po th P a0 x1 x2) : CT l D y_Wa_read (.code y_Wa_read prog_1_method_26_code 5 (some .int)) rm_Wa_read false [.ref a0, .int x1, .int x2] P po th := by
  refine ct_of (hs := []) hfl (by decide +kernel) (Or.inl ⟨rfl, rfl⟩) (Nat.le_of_ble_eq_true rfl) ?_
  intro p e s m below meth c C hmg hr hin htab ls hl
  have hl : lv_has ls 5 [(0, .ref a0), (1, .int x1), (2, .int x2)] := hl
  generalize hargs : ([.ref a0, .int x1, .int x2] : List Value).toArray = args at C ⊢
  obtain ⟨hx, hb, hml, hown, hlocks, htr, hT, hK, hSt, hN, hP0⟩ := id C
  have L155_0 : pq_fl s m args 155 0 3 := ⟨_, "WaterWorks", "WaterWorks", rfl, by decide, hown, Or.inl (hT _ k_453 _), (fun _ z => z)⟩
  have L168_3 : pq_fl s m args 168 3 1 := ⟨_, "WaterWorks", "WaterWorks$Customer", rfl, by decide, hown, Or.inr ⟨_, hT _ k_699 _⟩, (fun _ z => z)⟩
  have hP : Pi D P s.heap := hP0
  have hS : Sg (cq_A P s) s.heap s.heap P [] := Sg.start hP0
  unfold wp_Wa_read at h
  refine lv_aload_n (pc := 0) hx hb d_Wa_read_0 rfl (lv_at hl 0 rfl) ?_
  refine lv_iload_n (pc := 1) hx hb d_Wa_read_1 rfl (lv_at hl 1 rfl) ?_
  obtain ⟨hk101, h⟩ := h
  refine cr_a (pc := 2) C (rest := []) (mt_invV (As := [.int x1]) hx hb hown (hT _ k_757 _) (hT _ k_759 _) (hT _ ks_6 _) (mt_Cd.code (hT _ k_760 #[])) h_Wa_customerAt (pq_recv hK hP hk101 rfl) n_Wa_customerAt rfl d_Wa_read_2) (ct_Wa_customerAt hfl D h) k_760 k_1 ⟨Nat.le_of_ble_eq_true rfl, Nat.le_of_ble_eq_true rfl⟩ ⟨(show 0 + 1 ≤ 5 by omega), (show 0 + 6 ≤ 86 by omega)⟩ hl.1 d_Wa_read_2 (Nat.le_of_ble_eq_true rfl) hP hS (fun a102 H locs h hP hS => ?_) (fun xx X H locs h hX hex hP hS => ?_)
  · refine lv_astore_n (pc := 5) (lv' := [(3, .ref a102), (0, .ref a0), (1, .int x1), (2, .int x2)]) hx hb d_Wa_read_5 rfl hl (by decide) rfl (fun ls hl => ?_)
    refine lv_aload_n (pc := 6) hx hb d_Wa_read_6 rfl (lv_at hl 0 rfl) ?_
    obtain ⟨hk103, h⟩ := h
    refine cr_o (pc := 7) C (rest := []) (mt_invV (As := []) hx hb hown (hT _ k_886 _) (hT _ k_887 _) (hT _ k_888 _) (mt_Cd.code (hT _ k_889 #[])) h_Cu_last (pq_recv hK hP hk103 rfl) n_Cu_last rfl d_Wa_read_7) (ct_Cu_last hfl D h) k_889 k_31 ⟨Nat.le_of_ble_eq_true rfl, Nat.le_of_ble_eq_true rfl⟩ ⟨(show 0 + 1 + 0 ≤ 5 by omega), (show 0 + 6 + 0 ≤ 86 by omega)⟩ hl.1 d_Wa_read_7 (Nat.le_of_ble_eq_true rfl) hP hS (fun o104 H locs h hP hS => ?_) (fun xx X H locs h hX hex hP hS => ?_)
    · refine lv_astoreO (pc := 10) (lv' := [(4, va_rf o104), (3, .ref a102), (0, .ref a0), (1, .int x1), (2, .int x2)]) hx hb d_Wa_read_10 hl (by decide) rfl (fun ls hl => ?_)
      refine lv_aloadO (pc := 12) hx hb d_Wa_read_12 (lv_at hl 0 rfl) ?_
      refine lv_ifnullO (pc := 14) (tgt := 45) hx hb d_Wa_read_14 (by decide) (fun c113 => ?_) (fun c113 => ?_)
      · replace h := h.1 c113
        exact wk_Wa_read_45 hfl C hmg hr hin htab _ a0 x2 a102 o104 _ _ _ _ _ h hP hS (lv_sub hl [2, 4, 1, 0] rfl) (show 0 + 1 + 0 + 4 ≤ 5 by omega) (show 0 + 6 + 0 + 80 ≤ 86 by omega)
      · replace h := h.2 c113
        refine lv_aload_n (pc := 17) hx hb d_Wa_read_17 rfl (lv_at hl 1 rfl) ?_
        obtain ⟨a105, ea105, h⟩ := h
        refine pq_geta (pc := 18) (f := 121) hx hb hT hK hP L168_3 hk103 rfl ea105 d_Wa_read_18 ?_
        obtain ⟨hk106, h⟩ := h
        refine cr_i (pc := 21) C (rest := []) (mt_invV (As := []) hx hb hown (hT _ k_471 _) (hT _ k_472 _) (hT _ k_473 _) (mt_Cd.code (hT _ k_474 #[])) h_Ar_size (pq_recv hK hP hk106 rfl) n_Ar_size rfl d_Wa_read_21) (ct_Ar_size hfl D h) k_474 k_5 ⟨Nat.le_of_ble_eq_true rfl, Nat.le_of_ble_eq_true rfl⟩ ⟨(show 0 + 1 + 0 + 0 ≤ 5 by omega), (show 0 + 6 + 0 + 0 ≤ 86 by omega)⟩ hl.1 d_Wa_read_21 (Nat.le_of_ble_eq_true rfl) hP hS (fun x107 H locs h hP hS => ?_) (fun xx X H locs h hX hex hP hS => ?_)
        · refine lv_bipush (pc := 24) (v := 24) hx hb d_Wa_read_24 (by decide) ?_
          refine lv_icmp_ge (pc := 26) (tgt := 45) hx hb d_Wa_read_26 (by decide) (fun c112 => ?_) (fun c112 => ?_)
          · replace h := h.1 c112
            exact wk_Wa_read_45 hfl C hmg hr hin htab _ a0 x2 a102 o104 _ _ _ _ _ h hP hS (lv_sub hl [2, 4, 1, 0] rfl) (show 0 + 1 + 0 + 0 + 4 ≤ 5 by omega) (show 0 + 6 + 0 + 0 + 80 ≤ 86 by omega)
          · replace h := h.2 c112
            refine lv_aloadO (pc := 29) hx hb d_Wa_read_29 (lv_at hl 0 rfl) ?_
            obtain ⟨a108, ea108, h⟩ := h
            try rw [ea108] at hl
            rw [ea108]
            have hl : lv_has ls 5 [(4, .ref a108), (3, .ref a102), (0, .ref a0), (1, .int x1), (2, .int x2)] := hl
            refine W.eq (g2 := F0 m _ ls [.ref a108]) rfl ?_
            obtain ⟨hk109, h⟩ := h
            refine cr_i (pc := 31) C (rest := []) (mt_invV (As := []) hx hb hown (hT _ k_897 _) (hT _ k_898 _) (hT _ k_899 _) (mt_Cd.code (hT _ k_900 #[])) h_Re_day (pq_recv hK hP hk109 rfl) n_Re_day rfl d_Wa_read_31) (ct_Re_day hfl D h) k_900 k_34 ⟨Nat.le_of_ble_eq_true rfl, Nat.le_of_ble_eq_true rfl⟩ ⟨(show 0 + 1 + 0 + 0 + 0 ≤ 5 by omega), (show 0 + 6 + 0 + 0 + 0 ≤ 86 by omega)⟩ hl.1 d_Wa_read_31 (Nat.le_of_ble_eq_true rfl) hP hS (fun x110 H locs h hP hS => ?_) (fun xx X H locs h hX hex hP hS => ?_)
            · refine lv_aload_n (pc := 34) hx hb d_Wa_read_34 rfl (lv_at hl 2 rfl) ?_
              refine pq_geti (pc := 35) (f := 3) hx hb hT hK hP L155_0 hk101 rfl d_Wa_read_35 ?_
              refine lv_icmp_ge (pc := 38) (tgt := 45) hx hb d_Wa_read_38 (by decide) (fun c111 => ?_) (fun c111 => ?_)
              · replace h := h.1 c111
                exact wk_Wa_read_45 hfl C hmg hr hin htab _ a0 x2 a102 (some a108) _ _ _ _ _ h hP hS (lv_sub hl [2, 4, 1, 0] rfl) (show 0 + 1 + 0 + 0 + 0 + 4 ≤ 5 by omega) (show 0 + 6 + 0 + 0 + 0 + 80 ≤ 86 by omega)
              · replace h := h.2 c111
                refine lv_iconst (pc := 41) (v := 1) hx hb d_Wa_read_41 (by decide) ?_
                refine lv_goto (pc := 42) (tgt := 46) hx hb d_Wa_read_42 (by decide) ?_
                exact wk_Wa_read_46 hfl C hmg hr hin htab _ a0 x2 a102 (some a108) (1 : Int32) _ _ _ _ _ h hP hS (lv_sub hl [2, 4, 1, 0] rfl) (show 0 + 1 + 0 + 0 + 0 + 4 ≤ 5 by omega) (show 0 + 6 + 0 + 0 + 0 + 80 ≤ 86 by omega)
            · exact cq_out hlocks (pq_nil htab rfl) (show 0 + 1 + 0 + 0 + 0 + 0 ≤ 5 by omega) (show 0 + 6 + 0 + 0 + 0 + 0 ≤ 86 by omega) hX hex hP hS h
        · exact cq_out hlocks (pq_nil htab rfl) (show 0 + 1 + 0 + 0 + 0 ≤ 5 by omega) (show 0 + 6 + 0 + 0 + 0 ≤ 86 by omega) hX hex hP hS h
    · exact cq_out hlocks (pq_nil htab rfl) (show 0 + 1 + 0 + 0 ≤ 5 by omega) (show 0 + 6 + 0 + 0 ≤ 86 by omega) hX hex hP hS h
  · exact cq_out hlocks (pq_nil htab rfl) (show 0 + 1 + 0 ≤ 5 by omega) (show 0 + 6 + 0 ≤ 86 by omega) hX hex hP hS h
/-! WaterWorks.amend(III)I -/
abbrev y_Wa_amend : MethodName := ⟨"WaterWorks", "amend", "(III)I"⟩
abbrev rm_Wa_amend : Room := { frames := 8, cells := 4, slots := 22, locals := 162 }
theorem h_Wa_amend : y_Wa_amend.cls ≠ "java/lang/invoke/MethodHandle" ∧ y_Wa_amend.cls ≠ "java/lang/invoke/VarHandle" := by decide +kernel
theorem n_Wa_amend : (parseMethodDescriptor y_Wa_amend.desc).map (fun d => d.parameters.length) = some 3 := by decide +kernel
theorem d_Wa_amend_0 : decode prog_1_method_27_code 0 = .ok (.aload_n 0, 1) := by decide +kernel
theorem d_Wa_amend_1 : decode prog_1_method_27_code 1 = .ok (.iload_n 1, 1) := by decide +kernel
theorem d_Wa_amend_2 : decode prog_1_method_27_code 2 = .ok (.invokevirtual 112, 3) := by decide +kernel
theorem d_Wa_amend_5 : decode prog_1_method_27_code 5 = .ok (.astore 4, 2) := by decide +kernel
theorem d_Wa_amend_7 : decode prog_1_method_27_code 7 = .ok (.iload_n 2, 1) := by decide +kernel
theorem d_Wa_amend_8 : decode prog_1_method_27_code 8 = .ok (.ifCond .lt 19, 3) := by decide +kernel
theorem d_Wa_amend_11 : decode prog_1_method_27_code 11 = .ok (.iload_n 2, 1) := by decide +kernel
theorem d_Wa_amend_12 : decode prog_1_method_27_code 12 = .ok (.aload 4, 2) := by decide +kernel
theorem d_Wa_amend_14 : decode prog_1_method_27_code 14 = .ok (.getfield 168, 3) := by decide +kernel
theorem d_Wa_amend_17 : decode prog_1_method_27_code 17 = .ok (.invokevirtual 43, 3) := by decide +kernel
theorem d_Wa_amend_20 : decode prog_1_method_27_code 20 = .ok (.if_icmp .ge 7, 3) := by decide +kernel
theorem d_Wa_amend_23 : decode prog_1_method_27_code 23 = .ok (.iconst 1, 1) := by decide +kernel
theorem d_Wa_amend_24 : decode prog_1_method_27_code 24 = .ok (.goto 4, 3) := by decide +kernel
theorem d_Wa_amend_27 : decode prog_1_method_27_code 27 = .ok (.iconst 0, 1) := by decide +kernel
theorem d_Wa_amend_28 : decode prog_1_method_27_code 28 = .ok (.invokestatic 99, 3) := by decide +kernel
theorem d_Wa_amend_31 : decode prog_1_method_27_code 31 = .ok (.aload 4, 2) := by decide +kernel
theorem d_Wa_amend_33 : decode prog_1_method_27_code 33 = .ok (.getfield 168, 3) := by decide +kernel
theorem d_Wa_amend_36 : decode prog_1_method_27_code 36 = .ok (.iload_n 2, 1) := by decide +kernel
theorem d_Wa_amend_37 : decode prog_1_method_27_code 37 = .ok (.invokevirtual 51, 3) := by decide +kernel
theorem d_Wa_amend_40 : decode prog_1_method_27_code 40 = .ok (.checkcast 172, 3) := by decide +kernel
theorem d_Wa_amend_43 : decode prog_1_method_27_code 43 = .ok (.astore 5, 2) := by decide +kernel
theorem d_Wa_amend_45 : decode prog_1_method_27_code 45 = .ok (.aload 5, 2) := by decide +kernel
theorem d_Wa_amend_47 : decode prog_1_method_27_code 47 = .ok (.invokevirtual 183, 3) := by decide +kernel
theorem d_Wa_amend_50 : decode prog_1_method_27_code 50 = .ok (.iload_n 3, 1) := by decide +kernel
theorem d_Wa_amend_51 : decode prog_1_method_27_code 51 = .ok (.invokestatic 161, 3) := by decide +kernel
theorem d_Wa_amend_54 : decode prog_1_method_27_code 54 = .ok (.aload 4, 2) := by decide +kernel
theorem d_Wa_amend_56 : decode prog_1_method_27_code 56 = .ok (.getfield 168, 3) := by decide +kernel
theorem d_Wa_amend_59 : decode prog_1_method_27_code 59 = .ok (.iload_n 2, 1) := by decide +kernel
theorem d_Wa_amend_60 : decode prog_1_method_27_code 60 = .ok (.new 172, 3) := by decide +kernel
theorem d_Wa_amend_63 : decode prog_1_method_27_code 63 = .ok (.dup, 1) := by decide +kernel
theorem d_Wa_amend_64 : decode prog_1_method_27_code 64 = .ok (.aload 5, 2) := by decide +kernel
theorem d_Wa_amend_66 : decode prog_1_method_27_code 66 = .ok (.invokevirtual 171, 3) := by decide +kernel
theorem d_Wa_amend_69 : decode prog_1_method_27_code 69 = .ok (.iload_n 3, 1) := by decide +kernel
theorem d_Wa_amend_70 : decode prog_1_method_27_code 70 = .ok (.aload 5, 2) := by decide +kernel
theorem d_Wa_amend_72 : decode prog_1_method_27_code 72 = .ok (.invokevirtual 183, 3) := by decide +kernel
theorem d_Wa_amend_75 : decode prog_1_method_27_code 75 = .ok (.aload 5, 2) := by decide +kernel
theorem d_Wa_amend_77 : decode prog_1_method_27_code 77 = .ok (.invokevirtual 176, 3) := by decide +kernel
theorem d_Wa_amend_80 : decode prog_1_method_27_code 80 = .ok (.invokespecial 180, 3) := by decide +kernel
theorem d_Wa_amend_83 : decode prog_1_method_27_code 83 = .ok (.invokevirtual 186, 3) := by decide +kernel
theorem d_Wa_amend_86 : decode prog_1_method_27_code 86 = .ok (.pop, 1) := by decide +kernel
theorem d_Wa_amend_87 : decode prog_1_method_27_code 87 = .ok (.aload 5, 2) := by decide +kernel
theorem d_Wa_amend_89 : decode prog_1_method_27_code 89 = .ok (.invokevirtual 190, 3) := by decide +kernel
theorem d_Wa_amend_92 : decode prog_1_method_27_code 92 = .ok (.ireturn, 1) := by decide +kernel
def wb_Wa_amend_28 (po : Option Value → Pic → Prop) (th : String → Pic → Prop) (P : Pic) (x2 : Int32) (x3 : Int32) (a4 : Nat) (t0 : Int32) : Prop := wp_Wa_is (cp_v fun _ => p_k P a4 = 4 ∧ ∃ a110, p_r P 121 a4 = some a110 ∧ p_k P a110 = 14 ∧ wp_Ar_get (cp_a fun a112 _ => p_k P a112 = 10 ∧ wp_Re_digits (cp_i fun x114 _ => wp_Wa_needShown (cp_v fun _ => ∃ a115, p_r P 121 a4 = some a115 ∧ ∀ (q116 : Nat), p_z P ≤ q116 → wp_Re_day (cp_i fun x117 _ => wp_Re_digits (cp_i fun x118 _ => wp_Re_first (cp_i fun x119 _ => wp_Re_init (cp_v fun P120 => p_k P120 a115 = 14 ∧ wp_Ar_set (cp_a fun a122 P123 => p_k P123 a112 = 10 ∧ wp_Re_shows (cp_i fun x125 _ => po (some (.int x125)) P123) th P123 a112) th P120 a115 x2 q116) th (s_new P q116 9) q116 x117 x3 x118 x119) th (s_new P q116 9) a112) th (s_new P q116 9) a112) th (s_new P q116 9) a112) th P x114 x3) th P a112) th P a110 x2) th P t0
def wb_Wa_amend_27 (po : Option Value → Pic → Prop) (th : String → Pic → Prop) (P : Pic) (x2 : Int32) (x3 : Int32) (a4 : Nat) : Prop := wb_Wa_amend_28 po th P x2 x3 a4 (0 : Int32)
def wp_Wa_amend (po : Option Value → Pic → Prop) (th : String → Pic → Prop) (P : Pic) (a0 : Nat) (x1 : Int32) (x2 : Int32) (x3 : Int32) : Prop := p_k P a0 = 1 ∧ wp_Wa_customerAt (cp_a fun a102 _ => ((x2 < 0 → (wb_Wa_amend_27 po th P x2 x3 a102)) ∧ (¬ x2 < 0 → (p_k P a102 = 4 ∧ ∃ a104, p_r P 121 a102 = some a104 ∧ p_k P a104 = 14 ∧ wp_Ar_size (cp_i fun x106 _ => ((x106 ≤ x2 → (wb_Wa_amend_27 po th P x2 x3 a102)) ∧ (¬ x106 ≤ x2 → (wb_Wa_amend_28 po th P x2 x3 a102 (1 : Int32))))) th P a104)))) th P a0 x1
set_option maxHeartbeats 4000000 in
set_option maxRecDepth 100000 in
theorem wk_Wa_amend_28 {p : Program} {l : Launch} {e : Env} {s : State} {m : MethodId} {args : Array Value} {below : List Frame} {meth : Method} {c : Code} {D : pq_D} {P0 : Pic} {po : Option Value → Pic → Prop} {th : String → Pic → Prop} (hfl : l.flags = flags0) (C : Cx p e s m args meth c prog_1_method_27_code 6 "WaterWorks" D P0) (hmg : e.platform.magicAccessors = ({} : Platform).magicAccessors) (hr : meth.sig.returnType = (some .int)) (hin : meth.name = "amend") (htab : c.exceptionTable.toList = tableOf []) : ∀ (P : Pic) (x2 : Int32) (x3 : Int32) (a4 : Nat) (t0 : Int32) (H : Heap) (locs : List Loc) (cells slots : Nat) (ls : Array Slot), wb_Wa_amend_28 po th P x2 x3 a4 t0 → Pi D P H → Sg (cq_A P0 s) s.heap H P locs → lv_has ls 6 [(2, .int x2), (3, .int x3), (4, .ref a4)] → cells + 3 ≤ 4 → slots + 16 ≤ 22 → W p l e rm_Wa_amend s m args below meth c H locs cells slots (mt_MQ below (cq_Q D P0 false po th) args s 4 22 (cq_free P0 false)) (F0 m 28 ls [.int t0]) := by
  intro P x2 x3 a4 t0 H locs cells slots ls h hP hS hl hcc hss
  obtain ⟨hx, hb, hml, hown, hlocks, htr, hT, hK, hSt, hN, hP0⟩ := id C
  have L168_3 : pq_fl s m args 168 3 1 := ⟨_, "WaterWorks", "WaterWorks$Customer", rfl, by decide, hown, Or.inr ⟨_, hT _ k_699 _⟩, (fun _ z => z)⟩
  unfold wb_Wa_amend_28 at h
  refine cr_v (pc := 28) C (rest := []) (mt_invS (As := [.int t0]) hx hb hown (hT _ k_725 _) (hT _ k_726 _) (hT _ k_1 _) (mt_Cd.code (hT _ k_727 #[])) h_Wa_is n_Wa_is rfl d_Wa_amend_28) (ct_Wa_is hfl D h) k_727 k_1 ⟨Nat.le_of_ble_eq_true rfl, Nat.le_of_ble_eq_true rfl⟩ ⟨(show cells + 1 ≤ 4 by omega), (show slots + 6 ≤ 22 by omega)⟩ hl.1 d_Wa_amend_28 (Nat.le_of_ble_eq_true rfl) hP hS (fun H locs h hP hS => ?_) (fun xx X H locs h hX hex hP hS => ?_)
  · refine lv_aload (pc := 31) hx hb d_Wa_amend_31 (lv_at hl 2 rfl) ?_
    obtain ⟨hk109, h⟩ := h
    obtain ⟨a110, ea110, h⟩ := h
    refine pq_geta (pc := 33) (f := 121) hx hb hT hK hP L168_3 hk109 rfl ea110 d_Wa_amend_33 ?_
    refine lv_iload_n (pc := 36) hx hb d_Wa_amend_36 rfl (lv_at hl 0 rfl) ?_
    obtain ⟨hk111, h⟩ := h
    refine cr_a (pc := 37) C (rest := []) (mt_invV (As := [.int x2]) hx hb hown (hT _ k_606 _) (hT _ k_607 _) (hT _ k_608 _) (mt_Cd.code (hT _ k_609 #[])) h_Ar_get (pq_recv hK hP hk111 rfl) n_Ar_get rfl d_Wa_amend_37) (ct_Ar_get hfl D h) k_609 k_5 ⟨Nat.le_of_ble_eq_true rfl, Nat.le_of_ble_eq_true rfl⟩ ⟨(show cells + 1 + 0 ≤ 4 by omega), (show slots + 6 + 0 ≤ 22 by omega)⟩ hl.1 d_Wa_amend_37 (Nat.le_of_ble_eq_true rfl) hP hS (fun a112 H locs h hP hS => ?_) (fun xx X H locs h hX hex hP hS => ?_)
    · obtain ⟨hk113, h⟩ := h
      refine pq_cast (pc := 40) hx hb hT hK hP hown k_905 hk113 rfl k_1354 d_Wa_amend_40 ?_
      refine lv_astore (pc := 43) (lv' := [(5, .ref a112), (2, .int x2), (3, .int x3), (4, .ref a4)]) hx hb d_Wa_amend_43 hl (by decide) rfl (fun ls hl => ?_)
      refine lv_aload (pc := 45) hx hb d_Wa_amend_45 (lv_at hl 0 rfl) ?_
      refine cr_i (pc := 47) C (rest := []) (mt_invV (As := []) hx hb hown (hT _ k_934 _) (hT _ k_935 _) (hT _ k_936 _) (mt_Cd.code (hT _ k_937 #[])) h_Re_digits (pq_recv hK hP hk113 rfl) n_Re_digits rfl d_Wa_amend_47) (ct_Re_digits hfl D h) k_937 k_34 ⟨Nat.le_of_ble_eq_true rfl, Nat.le_of_ble_eq_true rfl⟩ ⟨(show cells + 1 + 0 + 0 ≤ 4 by omega), (show slots + 6 + 0 + 0 ≤ 22 by omega)⟩ hl.1 d_Wa_amend_47 (Nat.le_of_ble_eq_true rfl) hP hS (fun x114 H locs h hP hS => ?_) (fun xx X H locs h hX hex hP hS => ?_)
      · refine lv_iload_n (pc := 50) hx hb d_Wa_amend_50 rfl (lv_at hl 2 rfl) ?_
        refine cr_v (pc := 51) C (rest := []) (mt_invS (As := [.int x114, .int x3]) hx hb hown (hT _ k_880 _) (hT _ k_881 _) (hT _ k_1 _) (mt_Cd.code (hT _ k_882 #[])) h_Wa_needShown n_Wa_needShown rfl d_Wa_amend_51) (ct_Wa_needShown hfl D h) k_882 k_1 ⟨Nat.le_of_ble_eq_true rfl, Nat.le_of_ble_eq_true rfl⟩ ⟨(show cells + 1 + 0 + 0 + 1 ≤ 4 by omega), (show slots + 6 + 0 + 0 + 6 ≤ 22 by omega)⟩ hl.1 d_Wa_amend_51 (Nat.le_of_ble_eq_true rfl) hP hS (fun H locs h hP hS => ?_) (fun xx X H locs h hX hex hP hS => ?_)
        · refine lv_aload (pc := 54) hx hb d_Wa_amend_54 (lv_at hl 3 rfl) ?_
          obtain ⟨a115, ea115, h⟩ := h
          refine pq_geta (pc := 56) (f := 121) hx hb hT hK hP L168_3 hk109 rfl ea115 d_Wa_amend_56 ?_
          refine lv_iload_n (pc := 59) hx hb d_Wa_amend_59 rfl (lv_at hl 1 rfl) ?_
          refine pq_new (pc := 60) hx hb hT hK hP hS (k := 9) rfl hown (hT _ k_905 _) (hT _ k_906 _) (hT _ k_34 _) (show cells + 1 + 0 + 0 + 1 + 1 ≤ 4 by omega) (show slots + 6 + 0 + 0 + 6 + 4 ≤ 22 by omega) d_Wa_amend_60 (fun q116 H hq116 hP1 hS => ?_)
          replace h := h q116 hq116
          have hk109 : p_k (s_new P q116 9) a4 = 4 := pq_oldn (k := 3) hP hk109 hq116
          have hk111 : p_k (s_new P q116 9) a110 = 14 := pq_oldn (k := 13) hP hk111 hq116
          have hk113 : p_k (s_new P q116 9) a112 = 10 := pq_oldn (k := 9) hP hk113 hq116
          have hkq116 : p_k (s_new P q116 9) q116 = 10 := pk_newq _ _ _
          replace hP := hP1
          clear hP1
          refine lv_dup (pc := 63) hx hb d_Wa_amend_63 rfl ?_
          refine lv_aload (pc := 64) hx hb d_Wa_amend_64 (lv_at hl 0 rfl) ?_
          refine cr_i (pc := 66) C (rest := [.ref q116, .ref q116, .int x2, .ref a115]) (mt_invV (As := []) hx hb hown (hT _ k_897 _) (hT _ k_898 _) (hT _ k_899 _) (mt_Cd.code (hT _ k_900 #[])) h_Re_day (pq_recv hK hP hk113 rfl) n_Re_day rfl d_Wa_amend_66) (ct_Re_day hfl D h) k_900 k_34 ⟨Nat.le_of_ble_eq_true rfl, Nat.le_of_ble_eq_true rfl⟩ ⟨(show cells + 1 + 0 + 0 + 1 + 1 + 0 ≤ 4 by omega), (show slots + 6 + 0 + 0 + 6 + 4 + 0 ≤ 22 by omega)⟩ hl.1 d_Wa_amend_66 (Nat.le_of_ble_eq_true rfl) hP hS (fun x117 H locs h hP hS => ?_) (fun xx X H locs h hX hex hP hS => ?_)
          · refine lv_iload_n (pc := 69) hx hb d_Wa_amend_69 rfl (lv_at hl 2 rfl) ?_
            refine lv_aload (pc := 70) hx hb d_Wa_amend_70 (lv_at hl 0 rfl) ?_
            refine cr_i (pc := 72) C (rest := [.int x3, .int x117, .ref q116, .ref q116, .int x2, .ref a115]) (mt_invV (As := []) hx hb hown (hT _ k_934 _) (hT _ k_935 _) (hT _ k_936 _) (mt_Cd.code (hT _ k_937 #[])) h_Re_digits (pq_recv hK hP hk113 rfl) n_Re_digits rfl d_Wa_amend_72) (ct_Re_digits hfl D h) k_937 k_34 ⟨Nat.le_of_ble_eq_true rfl, Nat.le_of_ble_eq_true rfl⟩ ⟨(show cells + 1 + 0 + 0 + 1 + 1 + 0 + 0 ≤ 4 by omega), (show slots + 6 + 0 + 0 + 6 + 4 + 0 + 0 ≤ 22 by omega)⟩ hl.1 d_Wa_amend_72 (Nat.le_of_ble_eq_true rfl) hP hS (fun x118 H locs h hP hS => ?_) (fun xx X H locs h hX hex hP hS => ?_)
            · refine lv_aload (pc := 75) hx hb d_Wa_amend_75 (lv_at hl 0 rfl) ?_
              refine cr_i (pc := 77) C (rest := [.int x118, .int x3, .int x117, .ref q116, .ref q116, .int x2, .ref a115]) (mt_invV (As := []) hx hb hown (hT _ k_901 _) (hT _ k_902 _) (hT _ k_903 _) (mt_Cd.code (hT _ k_904 #[])) h_Re_first (pq_recv hK hP hk113 rfl) n_Re_first rfl d_Wa_amend_77) (ct_Re_first hfl D h) k_904 k_34 ⟨Nat.le_of_ble_eq_true rfl, Nat.le_of_ble_eq_true rfl⟩ ⟨(show cells + 1 + 0 + 0 + 1 + 1 + 0 + 0 + 0 ≤ 4 by omega), (show slots + 6 + 0 + 0 + 6 + 4 + 0 + 0 + 0 ≤ 22 by omega)⟩ hl.1 d_Wa_amend_77 (Nat.le_of_ble_eq_true rfl) hP hS (fun x119 H locs h hP hS => ?_) (fun xx X H locs h hX hex hP hS => ?_)
              · refine cc_v (pc := 80) C (rest := [.ref q116, .int x2, .ref a115]) (mt_invIN (As := [.int x117, .int x3, .int x118, .int x119]) hx hb hown rfl (hT _ k_907 _) (hT _ k_908 _) (hT _ k_909 _) h_Re_init n_Re_init rfl d_Wa_amend_80) (ct_Re_init hfl D h) k_909 k_34 ⟨Nat.le_of_ble_eq_true rfl, Nat.le_of_ble_eq_true rfl⟩ ⟨(show cells + 1 + 0 + 0 + 1 + 1 + 0 + 0 + 0 + 0 ≤ 4 by omega), (show slots + 6 + 0 + 0 + 6 + 4 + 0 + 0 + 0 + 0 ≤ 22 by omega)⟩ hl.1 d_Wa_amend_80 (Nat.le_of_ble_eq_true rfl) hP hS (fun P120 H locs h hP hS => ?_) (fun xx X P120 H locs h hX hex hP hS => ?_)
                · obtain ⟨hk121, h⟩ := h
                  refine cc_a (pc := 83) C (rest := []) (mt_invV (As := [.int x2, .ref q116]) hx hb hown (hT _ k_945 _) (hT _ k_946 _) (hT _ k_947 _) (mt_Cd.code (hT _ k_948 #[])) h_Ar_set (pq_recv hK hP hk121 rfl) n_Ar_set rfl d_Wa_amend_83) (ct_Ar_set hfl D h) k_948 k_5 ⟨Nat.le_of_ble_eq_true rfl, Nat.le_of_ble_eq_true rfl⟩ ⟨(show cells + 1 + 0 + 0 + 1 + 1 + 0 + 0 + 0 + 0 + 0 ≤ 4 by omega), (show slots + 6 + 0 + 0 + 6 + 4 + 0 + 0 + 0 + 0 + 0 ≤ 22 by omega)⟩ hl.1 d_Wa_amend_83 (Nat.le_of_ble_eq_true rfl) hP hS (fun a122 P123 H locs h hP hS => ?_) (fun xx X P123 H locs h hX hex hP hS => ?_)
                  · refine lv_pop (pc := 86) hx hb d_Wa_amend_86 rfl ?_
                    refine lv_aload (pc := 87) hx hb d_Wa_amend_87 (lv_at hl 0 rfl) ?_
                    obtain ⟨hk124, h⟩ := h
                    refine cr_i (pc := 89) C (rest := []) (mt_invV (As := []) hx hb hown (hT _ k_949 _) (hT _ k_950 _) (hT _ k_951 _) (mt_Cd.code (hT _ k_952 #[])) h_Re_shows (pq_recv hK hP hk124 rfl) n_Re_shows rfl d_Wa_amend_89) (ct_Re_shows hfl D h) k_952 k_34 ⟨Nat.le_of_ble_eq_true rfl, Nat.le_of_ble_eq_true rfl⟩ ⟨(show cells + 1 + 0 + 0 + 1 + 1 + 0 + 0 + 0 + 0 + 0 + 0 ≤ 4 by omega), (show slots + 6 + 0 + 0 + 6 + 4 + 0 + 0 + 0 + 0 + 0 + 0 ≤ 22 by omega)⟩ hl.1 d_Wa_amend_89 (Nat.le_of_ble_eq_true rfl) hP hS (fun x125 H locs h hP hS => ?_) (fun xx X H locs h hX hex hP hS => ?_)
                    · exact we_i (pc := 92) hx hb hlocks hr hP hS (show cells + 1 + 0 + 0 + 1 + 1 + 0 + 0 + 0 + 0 + 0 + 0 + 0 ≤ 4 by omega) (show slots + 6 + 0 + 0 + 6 + 4 + 0 + 0 + 0 + 0 + 0 + 0 + 0 ≤ 22 by omega) h d_Wa_amend_92
                    · exact cq_out hlocks (pq_nil htab rfl) (show cells + 1 + 0 + 0 + 1 + 1 + 0 + 0 + 0 + 0 + 0 + 0 + 0 ≤ 4 by omega) (show slots + 6 + 0 + 0 + 6 + 4 + 0 + 0 + 0 + 0 + 0 + 0 + 0 ≤ 22 by omega) hX hex hP hS h
                  · exact cq_out hlocks (pq_nil htab rfl) (show cells + 1 + 0 + 0 + 1 + 1 + 0 + 0 + 0 + 0 + 0 + 0 ≤ 4 by omega) (show slots + 6 + 0 + 0 + 6 + 4 + 0 + 0 + 0 + 0 + 0 + 0 ≤ 22 by omega) hX hex hP hS h
                · exact cq_out hlocks (pq_nil htab rfl) (show cells + 1 + 0 + 0 + 1 + 1 + 0 + 0 + 0 + 0 + 0 ≤ 4 by omega) (show slots + 6 + 0 + 0 + 6 + 4 + 0 + 0 + 0 + 0 + 0 ≤ 22 by omega) hX hex hP hS h
              · exact cq_out hlocks (pq_nil htab rfl) (show cells + 1 + 0 + 0 + 1 + 1 + 0 + 0 + 0 + 0 ≤ 4 by omega) (show slots + 6 + 0 + 0 + 6 + 4 + 0 + 0 + 0 + 0 ≤ 22 by omega) hX hex hP hS h
            · exact cq_out hlocks (pq_nil htab rfl) (show cells + 1 + 0 + 0 + 1 + 1 + 0 + 0 + 0 ≤ 4 by omega) (show slots + 6 + 0 + 0 + 6 + 4 + 0 + 0 + 0 ≤ 22 by omega) hX hex hP hS h
          · exact cq_out hlocks (pq_nil htab rfl) (show cells + 1 + 0 + 0 + 1 + 1 + 0 + 0 ≤ 4 by omega) (show slots + 6 + 0 + 0 + 6 + 4 + 0 + 0 ≤ 22 by omega) hX hex hP hS h
        · exact cq_out hlocks (pq_nil htab rfl) (show cells + 1 + 0 + 0 + 1 + 0 ≤ 4 by omega) (show slots + 6 + 0 + 0 + 6 + 0 ≤ 22 by omega) hX hex hP hS h
      · exact cq_out hlocks (pq_nil htab rfl) (show cells + 1 + 0 + 0 + 0 ≤ 4 by omega) (show slots + 6 + 0 + 0 + 0 ≤ 22 by omega) hX hex hP hS h
    · exact cq_out hlocks (pq_nil htab rfl) (show cells + 1 + 0 + 0 ≤ 4 by omega) (show slots + 6 + 0 + 0 ≤ 22 by omega) hX hex hP hS h
  · exact cq_out hlocks (pq_nil htab rfl) (show cells + 1 + 0 ≤ 4 by omega) (show slots + 6 + 0 ≤ 22 by omega) hX hex hP hS h
set_option maxHeartbeats 4000000 in
set_option maxRecDepth 100000 in
theorem wk_Wa_amend_27 {p : Program} {l : Launch} {e : Env} {s : State} {m : MethodId} {args : Array Value} {below : List Frame} {meth : Method} {c : Code} {D : pq_D} {P0 : Pic} {po : Option Value → Pic → Prop} {th : String → Pic → Prop} (hfl : l.flags = flags0) (C : Cx p e s m args meth c prog_1_method_27_code 6 "WaterWorks" D P0) (hmg : e.platform.magicAccessors = ({} : Platform).magicAccessors) (hr : meth.sig.returnType = (some .int)) (hin : meth.name = "amend") (htab : c.exceptionTable.toList = tableOf []) : ∀ (P : Pic) (x2 : Int32) (x3 : Int32) (a4 : Nat) (H : Heap) (locs : List Loc) (cells slots : Nat) (ls : Array Slot), wb_Wa_amend_27 po th P x2 x3 a4 → Pi D P H → Sg (cq_A P0 s) s.heap H P locs → lv_has ls 6 [(2, .int x2), (3, .int x3), (4, .ref a4)] → cells + 3 ≤ 4 → slots + 16 ≤ 22 → W p l e rm_Wa_amend s m args below meth c H locs cells slots (mt_MQ below (cq_Q D P0 false po th) args s 4 22 (cq_free P0 false)) (F0 m 27 ls []) := by
  intro P x2 x3 a4 H locs cells slots ls h hP hS hl hcc hss
  obtain ⟨hx, hb, hml, hown, hlocks, htr, hT, hK, hSt, hN, hP0⟩ := id C
  have L168_3 : pq_fl s m args 168 3 1 := ⟨_, "WaterWorks", "WaterWorks$Customer", rfl, by decide, hown, Or.inr ⟨_, hT _ k_699 _⟩, (fun _ z => z)⟩
  unfold wb_Wa_amend_27 at h
  refine lv_iconst (pc := 27) (v := 0) hx hb d_Wa_amend_27 (by decide) ?_
  exact wk_Wa_amend_28 hfl C hmg hr hin htab _ x2 x3 a4 (0 : Int32) _ _ _ _ _ h hP hS (lv_sub hl [0, 1, 2] rfl) (show cells + 3 ≤ 4 by omega) (show slots + 16 ≤ 22 by omega)
set_option maxHeartbeats 4000000 in
set_option maxRecDepth 100000 in
theorem ct_Wa_amend {l : Launch} (hfl : l.flags = flags0) (D : pq_D) {po : Option Value → Pic → Prop} {th : String → Pic → Prop} {P : Pic} {a0 : Nat} {x1 : Int32} {x2 : Int32} {x3 : Int32} (h : wp_Wa_amend po th P a0 x1 x2 x3) : CT l D y_Wa_amend (.code y_Wa_amend prog_1_method_27_code 6 (some .int)) rm_Wa_amend false [.ref a0, .int x1, .int x2, .int x3] P po th := by
  refine ct_of (hs := []) hfl (by decide +kernel) (Or.inl ⟨rfl, rfl⟩) (Nat.le_of_ble_eq_true rfl) ?_
  intro p e s m below meth c C hmg hr hin htab ls hl
  have hl : lv_has ls 6 [(0, .ref a0), (1, .int x1), (2, .int x2), (3, .int x3)] := hl
  generalize hargs : ([.ref a0, .int x1, .int x2, .int x3] : List Value).toArray = args at C ⊢
  obtain ⟨hx, hb, hml, hown, hlocks, htr, hT, hK, hSt, hN, hP0⟩ := id C
  have L168_3 : pq_fl s m args 168 3 1 := ⟨_, "WaterWorks", "WaterWorks$Customer", rfl, by decide, hown, Or.inr ⟨_, hT _ k_699 _⟩, (fun _ z => z)⟩
  have hP : Pi D P s.heap := hP0
  have hS : Sg (cq_A P s) s.heap s.heap P [] := Sg.start hP0
  unfold wp_Wa_amend at h
  refine lv_aload_n (pc := 0) hx hb d_Wa_amend_0 rfl (lv_at hl 0 rfl) ?_
  refine lv_iload_n (pc := 1) hx hb d_Wa_amend_1 rfl (lv_at hl 1 rfl) ?_
  obtain ⟨hk101, h⟩ := h
  refine cr_a (pc := 2) C (rest := []) (mt_invV (As := [.int x1]) hx hb hown (hT _ k_757 _) (hT _ k_759 _) (hT _ ks_6 _) (mt_Cd.code (hT _ k_760 #[])) h_Wa_customerAt (pq_recv hK hP hk101 rfl) n_Wa_customerAt rfl d_Wa_amend_2) (ct_Wa_customerAt hfl D h) k_760 k_1 ⟨Nat.le_of_ble_eq_true rfl, Nat.le_of_ble_eq_true rfl⟩ ⟨(show 0 + 1 ≤ 4 by omega), (show 0 + 6 ≤ 22 by omega)⟩ hl.1 d_Wa_amend_2 (Nat.le_of_ble_eq_true rfl) hP hS (fun a102 H locs h hP hS => ?_) (fun xx X H locs h hX hex hP hS => ?_)
  · refine lv_astore (pc := 5) (lv' := [(4, .ref a102), (0, .ref a0), (1, .int x1), (2, .int x2), (3, .int x3)]) hx hb d_Wa_amend_5 hl (by decide) rfl (fun ls hl => ?_)
    refine lv_iload_n (pc := 7) hx hb d_Wa_amend_7 rfl (lv_at hl 3 rfl) ?_
    refine lv_if_lt (pc := 8) (tgt := 27) hx hb d_Wa_amend_8 (by decide) (fun c108 => ?_) (fun c108 => ?_)
    · replace h := h.1 c108
      exact wk_Wa_amend_27 hfl C hmg hr hin htab _ x2 x3 a102 _ _ _ _ _ h hP hS (lv_sub hl [3, 4, 0] rfl) (show 0 + 1 + 3 ≤ 4 by omega) (show 0 + 6 + 16 ≤ 22 by omega)
    · replace h := h.2 c108
      refine lv_iload_n (pc := 11) hx hb d_Wa_amend_11 rfl (lv_at hl 3 rfl) ?_
      refine lv_aload (pc := 12) hx hb d_Wa_amend_12 (lv_at hl 0 rfl) ?_
      obtain ⟨hk103, h⟩ := h
      obtain ⟨a104, ea104, h⟩ := h
      refine pq_geta (pc := 14) (f := 121) hx hb hT hK hP L168_3 hk103 rfl ea104 d_Wa_amend_14 ?_
      obtain ⟨hk105, h⟩ := h
      refine cr_i (pc := 17) C (rest := [.int x2]) (mt_invV (As := []) hx hb hown (hT _ k_471 _) (hT _ k_472 _) (hT _ k_473 _) (mt_Cd.code (hT _ k_474 #[])) h_Ar_size (pq_recv hK hP hk105 rfl) n_Ar_size rfl d_Wa_amend_17) (ct_Ar_size hfl D h) k_474 k_5 ⟨Nat.le_of_ble_eq_true rfl, Nat.le_of_ble_eq_true rfl⟩ ⟨(show 0 + 1 + 0 ≤ 4 by omega), (show 0 + 6 + 0 ≤ 22 by omega)⟩ hl.1 d_Wa_amend_17 (Nat.le_of_ble_eq_true rfl) hP hS (fun x106 H locs h hP hS => ?_) (fun xx X H locs h hX hex hP hS => ?_)
      · refine lv_icmp_ge (pc := 20) (tgt := 27) hx hb d_Wa_amend_20 (by decide) (fun c107 => ?_) (fun c107 => ?_)
        · replace h := h.1 c107
          exact wk_Wa_amend_27 hfl C hmg hr hin htab _ x2 x3 a102 _ _ _ _ _ h hP hS (lv_sub hl [3, 4, 0] rfl) (show 0 + 1 + 0 + 3 ≤ 4 by omega) (show 0 + 6 + 0 + 16 ≤ 22 by omega)
        · replace h := h.2 c107
          refine lv_iconst (pc := 23) (v := 1) hx hb d_Wa_amend_23 (by decide) ?_
          refine lv_goto (pc := 24) (tgt := 28) hx hb d_Wa_amend_24 (by decide) ?_
          exact wk_Wa_amend_28 hfl C hmg hr hin htab _ x2 x3 a102 (1 : Int32) _ _ _ _ _ h hP hS (lv_sub hl [3, 4, 0] rfl) (show 0 + 1 + 0 + 3 ≤ 4 by omega) (show 0 + 6 + 0 + 16 ≤ 22 by omega)
      · exact cq_out hlocks (pq_nil htab rfl) (show 0 + 1 + 0 + 0 ≤ 4 by omega) (show 0 + 6 + 0 + 0 ≤ 22 by omega) hX hex hP hS h
  · exact cq_out hlocks (pq_nil htab rfl) (show 0 + 1 + 0 ≤ 4 by omega) (show 0 + 6 + 0 ≤ 22 by omega) hX hex hP hS h
/-! WaterWorks.used(III)I -/
abbrev y_Wa_used : MethodName := ⟨"WaterWorks", "used", "(III)I"⟩
abbrev rm_Wa_used : Room := { frames := 8, cells := 4, slots := 24, locals := 162 }
theorem h_Wa_used : y_Wa_used.cls ≠ "java/lang/invoke/MethodHandle" ∧ y_Wa_used.cls ≠ "java/lang/invoke/VarHandle" := by decide +kernel
theorem n_Wa_used : (parseMethodDescriptor y_Wa_used.desc).map (fun d => d.parameters.length) = some 3 := by decide +kernel
theorem d_Wa_used_0 : decode prog_1_method_28_code 0 = .ok (.aload_n 0, 1) := by decide +kernel
theorem d_Wa_used_1 : decode prog_1_method_28_code 1 = .ok (.iload_n 1, 1) := by decide +kernel
theorem d_Wa_used_2 : decode prog_1_method_28_code 2 = .ok (.invokevirtual 112, 3) := by decide +kernel
theorem d_Wa_used_5 : decode prog_1_method_28_code 5 = .ok (.astore 4, 2) := by decide +kernel
theorem d_Wa_used_7 : decode prog_1_method_28_code 7 = .ok (.iload_n 2, 1) := by decide +kernel
theorem d_Wa_used_8 : decode prog_1_method_28_code 8 = .ok (.iload_n 3, 1) := by decide +kernel
theorem d_Wa_used_9 : decode prog_1_method_28_code 9 = .ok (.if_icmp .gt 7, 3) := by decide +kernel
theorem d_Wa_used_12 : decode prog_1_method_28_code 12 = .ok (.iconst 1, 1) := by decide +kernel
theorem d_Wa_used_13 : decode prog_1_method_28_code 13 = .ok (.goto 4, 3) := by decide +kernel
theorem d_Wa_used_16 : decode prog_1_method_28_code 16 = .ok (.iconst 0, 1) := by decide +kernel
theorem d_Wa_used_17 : decode prog_1_method_28_code 17 = .ok (.invokestatic 77, 3) := by decide +kernel
theorem d_Wa_used_20 : decode prog_1_method_28_code 20 = .ok (.aload 4, 2) := by decide +kernel
theorem d_Wa_used_22 : decode prog_1_method_28_code 22 = .ok (.iload_n 3, 1) := by decide +kernel
theorem d_Wa_used_23 : decode prog_1_method_28_code 23 = .ok (.invokevirtual 193, 3) := by decide +kernel
theorem d_Wa_used_26 : decode prog_1_method_28_code 26 = .ok (.aload 4, 2) := by decide +kernel
theorem d_Wa_used_28 : decode prog_1_method_28_code 28 = .ok (.iload_n 2, 1) := by decide +kernel
theorem d_Wa_used_29 : decode prog_1_method_28_code 29 = .ok (.invokevirtual 193, 3) := by decide +kernel
theorem d_Wa_used_32 : decode prog_1_method_28_code 32 = .ok (.isub, 1) := by decide +kernel
theorem d_Wa_used_33 : decode prog_1_method_28_code 33 = .ok (.ireturn, 1) := by decide +kernel
def wb_Wa_used_17 (po : Option Value → Pic → Prop) (th : String → Pic → Prop) (P : Pic) (x2 : Int32) (x3 : Int32) (a4 : Nat) (t0 : Int32) : Prop := wp_Wa_fits (cp_v fun _ => p_k P a4 = 4 ∧ wp_Cu_count (cp_i fun x105 _ => wp_Cu_count (cp_i fun x106 _ => po (some (.int (x105 - x106))) P) th P a4 x2) th P a4 x3) th P t0
def wp_Wa_used (po : Option Value → Pic → Prop) (th : String → Pic → Prop) (P : Pic) (a0 : Nat) (x1 : Int32) (x2 : Int32) (x3 : Int32) : Prop := p_k P a0 = 1 ∧ wp_Wa_customerAt (cp_a fun a102 _ => ((x3 < x2 → (wb_Wa_used_17 po th P x2 x3 a102 (0 : Int32))) ∧ (¬ x3 < x2 → (wb_Wa_used_17 po th P x2 x3 a102 (1 : Int32))))) th P a0 x1
set_option maxHeartbeats 4000000 in
set_option maxRecDepth 100000 in
theorem wk_Wa_used_17 {p : Program} {l : Launch} {e : Env} {s : State} {m : MethodId} {args : Array Value} {below : List Frame} {meth : Method} {c : Code} {D : pq_D} {P : Pic} {po : Option Value → Pic → Prop} {th : String → Pic → Prop} (hfl : l.flags = flags0) (C : Cx p e s m args meth c prog_1_method_28_code 5 "WaterWorks" D P) (hmg : e.platform.magicAccessors = ({} : Platform).magicAccessors) (hr : meth.sig.returnType = (some .int)) (hin : meth.name = "used") (htab : c.exceptionTable.toList = tableOf []) : ∀ (x2 : Int32) (x3 : Int32) (a4 : Nat) (t0 : Int32) (H : Heap) (cells slots : Nat) (ls : Array Slot), wb_Wa_used_17 po th P x2 x3 a4 t0 → So s.heap H → lv_has ls 5 [(2, .int x2), (3, .int x3), (4, .ref a4)] → cells + 3 ≤ 4 → slots + 18 ≤ 24 → W p l e rm_Wa_used s m args below meth c H [] cells slots (mt_MQ below (cq_Q D P true po th) args s 4 24 (cq_free P true)) (F0 m 17 ls [.int t0]) := by
  intro x2 x3 a4 t0 H cells slots ls h hO hl hcc hss
  obtain ⟨hx, hb, hml, hown, hlocks, htr, hT, hK, hSt, hN, hP0⟩ := id C
  have hP : Pi D P H := So.pi hP0 hO
  unfold wb_Wa_used_17 at h
  refine co_v (pc := 17) C (rest := []) (mt_invS (As := [.int t0]) hx hb hown (hT _ k_620 _) (hT _ k_621 _) (hT _ k_1 _) (mt_Cd.code (hT _ k_622 #[])) h_Wa_fits n_Wa_fits rfl d_Wa_used_17) (ct_Wa_fits hfl D h) k_622 k_1 ⟨Nat.le_of_ble_eq_true rfl, Nat.le_of_ble_eq_true rfl⟩ ⟨(show cells + 1 ≤ 4 by omega), (show slots + 6 ≤ 24 by omega)⟩ hl.1 d_Wa_used_17 (Nat.le_of_ble_eq_true rfl) hO (fun H h hO => ?_) (fun xx X H h hX hex hO => ?_)
  · have hP : Pi D P H := So.pi hP0 hO
    refine lv_aload (pc := 20) hx hb d_Wa_used_20 (lv_at hl 2 rfl) ?_
    refine lv_iload_n (pc := 22) hx hb d_Wa_used_22 rfl (lv_at hl 1 rfl) ?_
    obtain ⟨hk104, h⟩ := h
    refine co_i (pc := 23) C (rest := []) (mt_invV (As := [.int x3]) hx hb hown (hT _ k_960 _) (hT _ k_961 _) (hT _ k_962 _) (mt_Cd.code (hT _ k_963 #[])) h_Cu_count (pq_recv hK hP hk104 rfl) n_Cu_count rfl d_Wa_used_23) (ct_Cu_count hfl D h) k_963 k_31 ⟨Nat.le_of_ble_eq_true rfl, Nat.le_of_ble_eq_true rfl⟩ ⟨(show cells + 1 + 1 ≤ 4 by omega), (show slots + 6 + 6 ≤ 24 by omega)⟩ hl.1 d_Wa_used_23 (Nat.le_of_ble_eq_true rfl) hO (fun x105 H h hO => ?_) (fun xx X H h hX hex hO => ?_)
    · have hP : Pi D P H := So.pi hP0 hO
      refine lv_aload (pc := 26) hx hb d_Wa_used_26 (lv_at hl 2 rfl) ?_
      refine lv_iload_n (pc := 28) hx hb d_Wa_used_28 rfl (lv_at hl 0 rfl) ?_
      refine co_i (pc := 29) C (rest := [.int x105]) (mt_invV (As := [.int x2]) hx hb hown (hT _ k_960 _) (hT _ k_961 _) (hT _ k_962 _) (mt_Cd.code (hT _ k_963 #[])) h_Cu_count (pq_recv hK hP hk104 rfl) n_Cu_count rfl d_Wa_used_29) (ct_Cu_count hfl D h) k_963 k_31 ⟨Nat.le_of_ble_eq_true rfl, Nat.le_of_ble_eq_true rfl⟩ ⟨(show cells + 1 + 1 + 1 ≤ 4 by omega), (show slots + 6 + 6 + 6 ≤ 24 by omega)⟩ hl.1 d_Wa_used_29 (Nat.le_of_ble_eq_true rfl) hO (fun x106 H h hO => ?_) (fun xx X H h hX hex hO => ?_)
      · have hP : Pi D P H := So.pi hP0 hO
        refine lv_isub (pc := 32) hx hb d_Wa_used_32 ?_
        exact wo_i (pc := 33) hx hb hlocks hr hP0 hO (show cells + 1 + 1 + 1 + 0 ≤ 4 by omega) (show slots + 6 + 6 + 6 + 0 ≤ 24 by omega) h d_Wa_used_33
      · exact cq_outo hlocks (pq_nil htab rfl) (show cells + 1 + 1 + 1 + 0 ≤ 4 by omega) (show slots + 6 + 6 + 6 + 0 ≤ 24 by omega) hX hex hP0 hO h
    · exact cq_outo hlocks (pq_nil htab rfl) (show cells + 1 + 1 + 0 ≤ 4 by omega) (show slots + 6 + 6 + 0 ≤ 24 by omega) hX hex hP0 hO h
  · exact cq_outo hlocks (pq_nil htab rfl) (show cells + 1 + 0 ≤ 4 by omega) (show slots + 6 + 0 ≤ 24 by omega) hX hex hP0 hO h
set_option maxHeartbeats 4000000 in
set_option maxRecDepth 100000 in
theorem ct_Wa_used {l : Launch} (hfl : l.flags = flags0) (D : pq_D) {po : Option Value → Pic → Prop} {th : String → Pic → Prop} {P : Pic} {a0 : Nat} {x1 : Int32} {x2 : Int32} {x3 : Int32} (h : wp_Wa_used po th P a0 x1 x2 x3) : CT l D y_Wa_used (.code y_Wa_used prog_1_method_28_code 5 (some .int)) rm_Wa_used true [.ref a0, .int x1, .int x2, .int x3] P po th := by
  refine ct_of (hs := []) hfl (by decide +kernel) (Or.inl ⟨rfl, rfl⟩) (Nat.le_of_ble_eq_true rfl) ?_
  intro p e s m below meth c C hmg hr hin htab ls hl
  have hl : lv_has ls 5 [(0, .ref a0), (1, .int x1), (2, .int x2), (3, .int x3)] := hl
  generalize hargs : ([.ref a0, .int x1, .int x2, .int x3] : List Value).toArray = args at C ⊢
  obtain ⟨hx, hb, hml, hown, hlocks, htr, hT, hK, hSt, hN, hP0⟩ := id C
  have hO : So s.heap s.heap := So.rf
  have hP : Pi D P s.heap := hP0
  unfold wp_Wa_used at h
  refine lv_aload_n (pc := 0) hx hb d_Wa_used_0 rfl (lv_at hl 0 rfl) ?_
  refine lv_iload_n (pc := 1) hx hb d_Wa_used_1 rfl (lv_at hl 1 rfl) ?_
  obtain ⟨hk101, h⟩ := h
  refine co_a (pc := 2) C (rest := []) (mt_invV (As := [.int x1]) hx hb hown (hT _ k_757 _) (hT _ k_759 _) (hT _ ks_6 _) (mt_Cd.code (hT _ k_760 #[])) h_Wa_customerAt (pq_recv hK hP hk101 rfl) n_Wa_customerAt rfl d_Wa_used_2) (ct_Wa_customerAt hfl D h) k_760 k_1 ⟨Nat.le_of_ble_eq_true rfl, Nat.le_of_ble_eq_true rfl⟩ ⟨(show 0 + 1 ≤ 4 by omega), (show 0 + 6 ≤ 24 by omega)⟩ hl.1 d_Wa_used_2 (Nat.le_of_ble_eq_true rfl) hO (fun a102 H h hO => ?_) (fun xx X H h hX hex hO => ?_)
  · have hP : Pi D P H := So.pi hP0 hO
    refine lv_astore (pc := 5) (lv' := [(4, .ref a102), (0, .ref a0), (1, .int x1), (2, .int x2), (3, .int x3)]) hx hb d_Wa_used_5 hl (by decide) rfl (fun ls hl => ?_)
    refine lv_iload_n (pc := 7) hx hb d_Wa_used_7 rfl (lv_at hl 3 rfl) ?_
    refine lv_iload_n (pc := 8) hx hb d_Wa_used_8 rfl (lv_at hl 4 rfl) ?_
    refine lv_icmp_gt (pc := 9) (tgt := 16) hx hb d_Wa_used_9 (by decide) (fun c103 => ?_) (fun c103 => ?_)
    · replace h := h.1 c103
      refine lv_iconst (pc := 16) (v := 0) hx hb d_Wa_used_16 (by decide) ?_
      exact wk_Wa_used_17 hfl C hmg hr hin htab x2 x3 a102 (0 : Int32) _ _ _ _ h hO (lv_sub hl [3, 4, 0] rfl) (show 0 + 1 + 3 ≤ 4 by omega) (show 0 + 6 + 18 ≤ 24 by omega)
    · replace h := h.2 c103
      refine lv_iconst (pc := 12) (v := 1) hx hb d_Wa_used_12 (by decide) ?_
      refine lv_goto (pc := 13) (tgt := 17) hx hb d_Wa_used_13 (by decide) ?_
      exact wk_Wa_used_17 hfl C hmg hr hin htab x2 x3 a102 (1 : Int32) _ _ _ _ h hO (lv_sub hl [3, 4, 0] rfl) (show 0 + 1 + 3 ≤ 4 by omega) (show 0 + 6 + 18 ≤ 24 by omega)
  · exact cq_outo hlocks (pq_nil htab rfl) (show 0 + 1 + 0 ≤ 4 by omega) (show 0 + 6 + 0 ≤ 24 by omega) hX hex hP0 hO h
/-! WaterWorks.tariff(IJ)I -/
abbrev y_Wa_tariff : MethodName := ⟨"WaterWorks", "tariff", "(IJ)I"⟩
abbrev rm_Wa_tariff : Room := { frames := 7, cells := 4, slots := 78, locals := 172 }
theorem h_Wa_tariff : y_Wa_tariff.cls ≠ "java/lang/invoke/MethodHandle" ∧ y_Wa_tariff.cls ≠ "java/lang/invoke/VarHandle" := by decide +kernel
theorem n_Wa_tariff : (parseMethodDescriptor y_Wa_tariff.desc).map (fun d => d.parameters.length) = some 2 := by decide +kernel
theorem d_Wa_tariff_0 : decode prog_1_method_29_code 0 = .ok (.new 196, 3) := by decide +kernel
theorem d_Wa_tariff_3 : decode prog_1_method_29_code 3 = .ok (.dup, 1) := by decide +kernel
theorem d_Wa_tariff_4 : decode prog_1_method_29_code 4 = .ok (.iload_n 1, 1) := by decide +kernel
theorem d_Wa_tariff_5 : decode prog_1_method_29_code 5 = .ok (.lload_n 2, 1) := by decide +kernel
theorem d_Wa_tariff_6 : decode prog_1_method_29_code 6 = .ok (.invokespecial 198, 3) := by decide +kernel
theorem d_Wa_tariff_9 : decode prog_1_method_29_code 9 = .ok (.astore 4, 2) := by decide +kernel
theorem d_Wa_tariff_11 : decode prog_1_method_29_code 11 = .ok (.iload_n 1, 1) := by decide +kernel
theorem d_Wa_tariff_12 : decode prog_1_method_29_code 12 = .ok (.ifCond .lt 42, 3) := by decide +kernel
theorem d_Wa_tariff_15 : decode prog_1_method_29_code 15 = .ok (.iload_n 1, 1) := by decide +kernel
theorem d_Wa_tariff_16 : decode prog_1_method_29_code 16 = .ok (.sipush 400, 3) := by decide +kernel
theorem d_Wa_tariff_19 : decode prog_1_method_29_code 19 = .ok (.if_icmp .gt 35, 3) := by decide +kernel
theorem d_Wa_tariff_22 : decode prog_1_method_29_code 22 = .ok (.lload_n 2, 1) := by decide +kernel
theorem d_Wa_tariff_23 : decode prog_1_method_29_code 23 = .ok (.lconst 0, 1) := by decide +kernel
theorem d_Wa_tariff_24 : decode prog_1_method_29_code 24 = .ok (.lcmp, 1) := by decide +kernel
theorem d_Wa_tariff_25 : decode prog_1_method_29_code 25 = .ok (.ifCond .lt 29, 3) := by decide +kernel
theorem d_Wa_tariff_28 : decode prog_1_method_29_code 28 = .ok (.lload_n 2, 1) := by decide +kernel
theorem d_Wa_tariff_29 : decode prog_1_method_29_code 29 = .ok (.bipush 50, 2) := by decide +kernel
theorem d_Wa_tariff_31 : decode prog_1_method_29_code 31 = .ok (.lshr, 1) := by decide +kernel
theorem d_Wa_tariff_32 : decode prog_1_method_29_code 32 = .ok (.lconst 0, 1) := by decide +kernel
theorem d_Wa_tariff_33 : decode prog_1_method_29_code 33 = .ok (.lcmp, 1) := by decide +kernel
theorem d_Wa_tariff_34 : decode prog_1_method_29_code 34 = .ok (.ifCond .ne 20, 3) := by decide +kernel
theorem d_Wa_tariff_37 : decode prog_1_method_29_code 37 = .ok (.aload 4, 2) := by decide +kernel
theorem d_Wa_tariff_39 : decode prog_1_method_29_code 39 = .ok (.iconst 4, 1) := by decide +kernel
theorem d_Wa_tariff_40 : decode prog_1_method_29_code 40 = .ok (.invokevirtual 201, 3) := by decide +kernel
theorem d_Wa_tariff_43 : decode prog_1_method_29_code 43 = .ok (.ldc2_w 205, 3) := by decide +kernel
theorem d_Wa_tariff_46 : decode prog_1_method_29_code 46 = .ok (.lcmp, 1) := by decide +kernel
theorem d_Wa_tariff_47 : decode prog_1_method_29_code 47 = .ok (.ifCond .gt 7, 3) := by decide +kernel
theorem d_Wa_tariff_50 : decode prog_1_method_29_code 50 = .ok (.iconst 1, 1) := by decide +kernel
theorem d_Wa_tariff_51 : decode prog_1_method_29_code 51 = .ok (.goto 4, 3) := by decide +kernel
theorem d_Wa_tariff_54 : decode prog_1_method_29_code 54 = .ok (.iconst 0, 1) := by decide +kernel
theorem d_Wa_tariff_55 : decode prog_1_method_29_code 55 = .ok (.invokestatic 77, 3) := by decide +kernel
theorem d_Wa_tariff_58 : decode prog_1_method_29_code 58 = .ok (.iconst 0, 1) := by decide +kernel
theorem d_Wa_tariff_59 : decode prog_1_method_29_code 59 = .ok (.istore 5, 2) := by decide +kernel
theorem d_Wa_tariff_61 : decode prog_1_method_29_code 61 = .ok (.iload 5, 2) := by decide +kernel
theorem d_Wa_tariff_63 : decode prog_1_method_29_code 63 = .ok (.aload_n 0, 1) := by decide +kernel
theorem d_Wa_tariff_64 : decode prog_1_method_29_code 64 = .ok (.getfield 25, 3) := by decide +kernel
theorem d_Wa_tariff_67 : decode prog_1_method_29_code 67 = .ok (.invokevirtual 43, 3) := by decide +kernel
theorem d_Wa_tariff_70 : decode prog_1_method_29_code 70 = .ok (.if_icmp .ge 28, 3) := by decide +kernel
theorem d_Wa_tariff_73 : decode prog_1_method_29_code 73 = .ok (.aload_n 0, 1) := by decide +kernel
theorem d_Wa_tariff_74 : decode prog_1_method_29_code 74 = .ok (.getfield 25, 3) := by decide +kernel
theorem d_Wa_tariff_77 : decode prog_1_method_29_code 77 = .ok (.iload 5, 2) := by decide +kernel
theorem d_Wa_tariff_79 : decode prog_1_method_29_code 79 = .ok (.invokevirtual 51, 3) := by decide +kernel
theorem d_Wa_tariff_82 : decode prog_1_method_29_code 82 = .ok (.checkcast 196, 3) := by decide +kernel
theorem d_Wa_tariff_85 : decode prog_1_method_29_code 85 = .ok (.invokevirtual 207, 3) := by decide +kernel
theorem d_Wa_tariff_88 : decode prog_1_method_29_code 88 = .ok (.iload_n 1, 1) := by decide +kernel
theorem d_Wa_tariff_89 : decode prog_1_method_29_code 89 = .ok (.if_icmp .ge 9, 3) := by decide +kernel
theorem d_Wa_tariff_92 : decode prog_1_method_29_code 92 = .ok (.iinc 5 1, 3) := by decide +kernel
theorem d_Wa_tariff_95 : decode prog_1_method_29_code 95 = .ok (.goto (-34), 3) := by decide +kernel
theorem d_Wa_tariff_98 : decode prog_1_method_29_code 98 = .ok (.iload 5, 2) := by decide +kernel
theorem d_Wa_tariff_100 : decode prog_1_method_29_code 100 = .ok (.aload_n 0, 1) := by decide +kernel
theorem d_Wa_tariff_101 : decode prog_1_method_29_code 101 = .ok (.getfield 25, 3) := by decide +kernel
theorem d_Wa_tariff_104 : decode prog_1_method_29_code 104 = .ok (.invokevirtual 43, 3) := by decide +kernel
theorem d_Wa_tariff_107 : decode prog_1_method_29_code 107 = .ok (.if_icmp .ge 37, 3) := by decide +kernel
theorem d_Wa_tariff_110 : decode prog_1_method_29_code 110 = .ok (.aload_n 0, 1) := by decide +kernel
theorem d_Wa_tariff_111 : decode prog_1_method_29_code 111 = .ok (.getfield 25, 3) := by decide +kernel
theorem d_Wa_tariff_114 : decode prog_1_method_29_code 114 = .ok (.iload 5, 2) := by decide +kernel
theorem d_Wa_tariff_116 : decode prog_1_method_29_code 116 = .ok (.invokevirtual 51, 3) := by decide +kernel
theorem d_Wa_tariff_119 : decode prog_1_method_29_code 119 = .ok (.checkcast 196, 3) := by decide +kernel
theorem d_Wa_tariff_122 : decode prog_1_method_29_code 122 = .ok (.invokevirtual 207, 3) := by decide +kernel
theorem d_Wa_tariff_125 : decode prog_1_method_29_code 125 = .ok (.iload_n 1, 1) := by decide +kernel
theorem d_Wa_tariff_126 : decode prog_1_method_29_code 126 = .ok (.if_icmp .ne 18, 3) := by decide +kernel
theorem d_Wa_tariff_129 : decode prog_1_method_29_code 129 = .ok (.aload_n 0, 1) := by decide +kernel
theorem d_Wa_tariff_130 : decode prog_1_method_29_code 130 = .ok (.getfield 25, 3) := by decide +kernel
theorem d_Wa_tariff_133 : decode prog_1_method_29_code 133 = .ok (.iload 5, 2) := by decide +kernel
theorem d_Wa_tariff_135 : decode prog_1_method_29_code 135 = .ok (.aload 4, 2) := by decide +kernel
theorem d_Wa_tariff_137 : decode prog_1_method_29_code 137 = .ok (.invokevirtual 186, 3) := by decide +kernel
theorem d_Wa_tariff_140 : decode prog_1_method_29_code 140 = .ok (.pop, 1) := by decide +kernel
theorem d_Wa_tariff_141 : decode prog_1_method_29_code 141 = .ok (.goto 34, 3) := by decide +kernel
theorem d_Wa_tariff_144 : decode prog_1_method_29_code 144 = .ok (.aload_n 0, 1) := by decide +kernel
theorem d_Wa_tariff_145 : decode prog_1_method_29_code 145 = .ok (.getfield 25, 3) := by decide +kernel
theorem d_Wa_tariff_148 : decode prog_1_method_29_code 148 = .ok (.invokevirtual 43, 3) := by decide +kernel
theorem d_Wa_tariff_151 : decode prog_1_method_29_code 151 = .ok (.bipush 8, 2) := by decide +kernel
theorem d_Wa_tariff_153 : decode prog_1_method_29_code 153 = .ok (.if_icmp .ge 7, 3) := by decide +kernel
theorem d_Wa_tariff_156 : decode prog_1_method_29_code 156 = .ok (.iconst 1, 1) := by decide +kernel
theorem d_Wa_tariff_157 : decode prog_1_method_29_code 157 = .ok (.goto 4, 3) := by decide +kernel
theorem d_Wa_tariff_160 : decode prog_1_method_29_code 160 = .ok (.iconst 0, 1) := by decide +kernel
theorem d_Wa_tariff_161 : decode prog_1_method_29_code 161 = .ok (.invokestatic 64, 3) := by decide +kernel
theorem d_Wa_tariff_164 : decode prog_1_method_29_code 164 = .ok (.aload_n 0, 1) := by decide +kernel
theorem d_Wa_tariff_165 : decode prog_1_method_29_code 165 = .ok (.getfield 25, 3) := by decide +kernel
theorem d_Wa_tariff_168 : decode prog_1_method_29_code 168 = .ok (.iload 5, 2) := by decide +kernel
theorem d_Wa_tariff_170 : decode prog_1_method_29_code 170 = .ok (.aload 4, 2) := by decide +kernel
theorem d_Wa_tariff_172 : decode prog_1_method_29_code 172 = .ok (.invokevirtual 208, 3) := by decide +kernel
theorem d_Wa_tariff_175 : decode prog_1_method_29_code 175 = .ok (.aload_n 0, 1) := by decide +kernel
theorem d_Wa_tariff_176 : decode prog_1_method_29_code 176 = .ok (.getfield 25, 3) := by decide +kernel
theorem d_Wa_tariff_179 : decode prog_1_method_29_code 179 = .ok (.invokevirtual 43, 3) := by decide +kernel
theorem d_Wa_tariff_182 : decode prog_1_method_29_code 182 = .ok (.ireturn, 1) := by decide +kernel
def wb_Wa_tariff_175 (po : Option Value → Pic → Prop) (th : String → Pic → Prop) (P : Pic) (a0 : Nat) : Prop := p_k P a0 = 1 ∧ ∃ a147, p_r P 2 a0 = some a147 ∧ p_k P a147 = 14 ∧ wp_Ar_size (cp_i fun x149 _ => po (some (.int x149)) P) th P a147
def wb_Wa_tariff_161 (po : Option Value → Pic → Prop) (th : String → Pic → Prop) (P : Pic) (a0 : Nat) (a4 : Nat) (x5 : Int32) (t0 : Int32) : Prop := wp_Wa_may (cp_v fun _ => p_k P a0 = 1 ∧ ∃ a143, p_r P 2 a0 = some a143 ∧ p_k P a143 = 14 ∧ wp_Ar_addAt (cp_v fun P145 => wb_Wa_tariff_175 po th P145 a0) th P a143 x5 a4) th P t0
def wb_Wa_tariff_144 (po : Option Value → Pic → Prop) (th : String → Pic → Prop) (P : Pic) (a0 : Nat) (a4 : Nat) (x5 : Int32) : Prop := p_k P a0 = 1 ∧ ∃ a138, p_r P 2 a0 = some a138 ∧ p_k P a138 = 14 ∧ wp_Ar_size (cp_i fun x140 _ => (((8 : Int32) ≤ x140 → (wb_Wa_tariff_161 po th P a0 a4 x5 (0 : Int32))) ∧ (¬ (8 : Int32) ≤ x140 → (wb_Wa_tariff_161 po th P a0 a4 x5 (1 : Int32))))) th P a138
def wb_Wa_tariff_98 (po : Option Value → Pic → Prop) (th : String → Pic → Prop) (P : Pic) (a0 : Nat) (x1 : Int32) (a4 : Nat) (x5 : Int32) : Prop := p_k P a0 = 1 ∧ ∃ a123, p_r P 2 a0 = some a123 ∧ p_k P a123 = 14 ∧ wp_Ar_size (cp_i fun x125 _ => ((x125 ≤ x5 → (wb_Wa_tariff_144 po th P a0 a4 x5)) ∧ (¬ x125 ≤ x5 → (∃ a126, p_r P 2 a0 = some a126 ∧ p_k P a126 = 14 ∧ wp_Ar_get (cp_a fun a128 _ => p_k P a128 = 11 ∧ wp_Ta_day (cp_i fun x130 _ => ((¬ x130 = x1 → (wb_Wa_tariff_144 po th P a0 a4 x5)) ∧ (x130 = x1 → (∃ a131, p_r P 2 a0 = some a131 ∧ p_k P a131 = 14 ∧ wp_Ar_set (cp_a fun a133 P134 => wb_Wa_tariff_175 po th P134 a0) th P a131 x5 a4)))) th P a128) th P a126 x5)))) th P a123
def wb_Wa_tariff_61 (po : Option Value → Pic → Prop) (th : String → Pic → Prop) (K61 : Pic → Nat → Int32 → Nat → Int32 → Prop) (P : Pic) (a0 : Nat) (x1 : Int32) (a4 : Nat) (x5 : Int32) : Prop := p_k P a0 = 1 ∧ ∃ a111, p_r P 2 a0 = some a111 ∧ p_k P a111 = 14 ∧ wp_Ar_size (cp_i fun x113 _ => ((x113 ≤ x5 → (wb_Wa_tariff_98 po th P a0 x1 a4 x5)) ∧ (¬ x113 ≤ x5 → (∃ a114, p_r P 2 a0 = some a114 ∧ p_k P a114 = 14 ∧ wp_Ar_get (cp_a fun a116 _ => p_k P a116 = 11 ∧ wp_Ta_day (cp_i fun x118 _ => ((x1 ≤ x118 → (wb_Wa_tariff_98 po th P a0 x1 a4 x5)) ∧ (¬ x1 ≤ x118 → (∀ (x119 : Int32), x119 = x5 + 1 → K61 P a0 x1 a4 x119)))) th P a116) th P a114 x5)))) th P a111
def wl_Wa_tariff_61 (po : Option Value → Pic → Prop) (th : String → Pic → Prop) : Nat → Pic → Nat → Int32 → Nat → Int32 → Prop
  | 0 => fun _ _ _ _ _ => False
  | n + 1 => wb_Wa_tariff_61 po th (wl_Wa_tariff_61 po th n)
def wb_Wa_tariff_55 (po : Option Value → Pic → Prop) (th : String → Pic → Prop) (P : Pic) (a0 : Nat) (x1 : Int32) (a4 : Nat) (t0 : Int32) : Prop := wp_Wa_fits (cp_v fun _ => ∃ n, wl_Wa_tariff_61 po th n P a0 x1 a4 (0 : Int32)) th P t0
def wb_Wa_tariff_54 (po : Option Value → Pic → Prop) (th : String → Pic → Prop) (P : Pic) (a0 : Nat) (x1 : Int32) (a4 : Nat) : Prop := wb_Wa_tariff_55 po th P a0 x1 a4 (0 : Int32)
def wp_Wa_tariff (po : Option Value → Pic → Prop) (th : String → Pic → Prop) (P : Pic) (a0 : Nat) (x1 : Int32) (w2 : Int64) : Prop := ∀ (q101 : Nat), p_z P ≤ q101 → wp_Ta_init (cp_v fun P102 => ((x1 < 0 → (wb_Wa_tariff_54 po th P102 a0 x1 q101)) ∧ (¬ x1 < 0 → ((((400 : Int32) < x1 → (wb_Wa_tariff_54 po th P102 a0 x1 q101)) ∧ (¬ (400 : Int32) < x1 → ((((lg_cmp w2 (0 : Int64)) < 0 → (wb_Wa_tariff_54 po th P102 a0 x1 q101)) ∧ (¬ (lg_cmp w2 (0 : Int64)) < 0 → (((¬ (lg_cmp (w2 >>> (Int32.toInt64 (50 : Int32) &&& 63)) (0 : Int64)) = 0 → (wb_Wa_tariff_54 po th P102 a0 x1 q101)) ∧ ((lg_cmp (w2 >>> (Int32.toInt64 (50 : Int32) &&& 63)) (0 : Int64)) = 0 → (p_k P102 q101 = 11 ∧ wp_Ta_field (cp_l fun w104 _ => ((0 < (lg_cmp w104 (1000 : Int64)) → (wb_Wa_tariff_54 po th P102 a0 x1 q101)) ∧ (¬ 0 < (lg_cmp w104 (1000 : Int64)) → (wb_Wa_tariff_55 po th P102 a0 x1 q101 (1 : Int32))))) th P102 q101 (4 : Int32)))))))))))))) th (s_new P q101 10) q101 x1 w2
set_option maxHeartbeats 4000000 in
set_option maxRecDepth 100000 in
theorem wk_Wa_tariff_175 {p : Program} {l : Launch} {e : Env} {s : State} {m : MethodId} {args : Array Value} {below : List Frame} {meth : Method} {c : Code} {D : pq_D} {P0 : Pic} {po : Option Value → Pic → Prop} {th : String → Pic → Prop} (hfl : l.flags = flags0) (C : Cx p e s m args meth c prog_1_method_29_code 6 "WaterWorks" D P0) (hmg : e.platform.magicAccessors = ({} : Platform).magicAccessors) (hr : meth.sig.returnType = (some .int)) (hin : meth.name = "tariff") (htab : c.exceptionTable.toList = tableOf []) : ∀ (P : Pic) (a0 : Nat) (H : Heap) (locs : List Loc) (cells slots : Nat) (ls : Array Slot), wb_Wa_tariff_175 po th P a0 → Pi D P H → Sg (cq_A P0 s) s.heap H P locs → lv_has ls 6 [(0, .ref a0)] → cells + 0 ≤ 4 → slots + 0 ≤ 78 → W p l e rm_Wa_tariff s m args below meth c H locs cells slots (mt_MQ below (cq_Q D P0 false po th) args s 4 78 (cq_free P0 false)) (F0 m 175 ls []) := by
  intro P a0 H locs cells slots ls h hP hS hl hcc hss
  obtain ⟨hx, hb, hml, hown, hlocks, htr, hT, hK, hSt, hN, hP0⟩ := id C
  have L25_0 : pq_fl s m args 25 0 2 := ⟨_, "WaterWorks", "WaterWorks", rfl, by decide, hown, Or.inl (hT _ k_452 _), (fun _ z => z)⟩
  unfold wb_Wa_tariff_175 at h
  refine lv_aload_n (pc := 175) hx hb d_Wa_tariff_175 rfl (lv_at hl 0 rfl) ?_
  obtain ⟨hk146, h⟩ := h
  obtain ⟨a147, ea147, h⟩ := h
  refine pq_geta (pc := 176) (f := 2) hx hb hT hK hP L25_0 hk146 rfl ea147 d_Wa_tariff_176 ?_
  obtain ⟨hk148, h⟩ := h
  refine cr_i (pc := 179) C (rest := []) (mt_invV (As := []) hx hb hown (hT _ k_471 _) (hT _ k_472 _) (hT _ k_473 _) (mt_Cd.code (hT _ k_474 #[])) h_Ar_size (pq_recv hK hP hk148 rfl) n_Ar_size rfl d_Wa_tariff_179) (ct_Ar_size hfl D h) k_474 k_5 ⟨Nat.le_of_ble_eq_true rfl, Nat.le_of_ble_eq_true rfl⟩ ⟨(show cells + 0 ≤ 4 by omega), (show slots + 0 ≤ 78 by omega)⟩ hl.1 d_Wa_tariff_179 (Nat.le_of_ble_eq_true rfl) hP hS (fun x149 H locs h hP hS => ?_) (fun xx X H locs h hX hex hP hS => ?_)
  · exact we_i (pc := 182) hx hb hlocks hr hP hS (show cells + 0 + 0 ≤ 4 by omega) (show slots + 0 + 0 ≤ 78 by omega) h d_Wa_tariff_182
  · exact cq_out hlocks (pq_nil htab rfl) (show cells + 0 + 0 ≤ 4 by omega) (show slots + 0 + 0 ≤ 78 by omega) hX hex hP hS h
set_option maxHeartbeats 4000000 in
set_option maxRecDepth 100000 in
theorem wk_Wa_tariff_161 {p : Program} {l : Launch} {e : Env} {s : State} {m : MethodId} {args : Array Value} {below : List Frame} {meth : Method} {c : Code} {D : pq_D} {P0 : Pic} {po : Option Value → Pic → Prop} {th : String → Pic → Prop} (hfl : l.flags = flags0) (C : Cx p e s m args meth c prog_1_method_29_code 6 "WaterWorks" D P0) (hmg : e.platform.magicAccessors = ({} : Platform).magicAccessors) (hr : meth.sig.returnType = (some .int)) (hin : meth.name = "tariff") (htab : c.exceptionTable.toList = tableOf []) : ∀ (P : Pic) (a0 : Nat) (a4 : Nat) (x5 : Int32) (t0 : Int32) (H : Heap) (locs : List Loc) (cells slots : Nat) (ls : Array Slot), wb_Wa_tariff_161 po th P a0 a4 x5 t0 → Pi D P H → Sg (cq_A P0 s) s.heap H P locs → lv_has ls 6 [(0, .ref a0), (4, .ref a4), (5, .int x5)] → cells + 2 ≤ 4 → slots + 70 ≤ 78 → W p l e rm_Wa_tariff s m args below meth c H locs cells slots (mt_MQ below (cq_Q D P0 false po th) args s 4 78 (cq_free P0 false)) (F0 m 161 ls [.int t0]) := by
  intro P a0 a4 x5 t0 H locs cells slots ls h hP hS hl hcc hss
  obtain ⟨hx, hb, hml, hown, hlocks, htr, hT, hK, hSt, hN, hP0⟩ := id C
  have L25_0 : pq_fl s m args 25 0 2 := ⟨_, "WaterWorks", "WaterWorks", rfl, by decide, hown, Or.inl (hT _ k_452 _), (fun _ z => z)⟩
  unfold wb_Wa_tariff_161 at h
  refine cr_v (pc := 161) C (rest := []) (mt_invS (As := [.int t0]) hx hb hown (hT _ k_475 _) (hT _ k_476 _) (hT _ k_1 _) (mt_Cd.code (hT _ k_477 #[])) h_Wa_may n_Wa_may rfl d_Wa_tariff_161) (ct_Wa_may hfl D h) k_477 k_1 ⟨Nat.le_of_ble_eq_true rfl, Nat.le_of_ble_eq_true rfl⟩ ⟨(show cells + 1 ≤ 4 by omega), (show slots + 6 ≤ 78 by omega)⟩ hl.1 d_Wa_tariff_161 (Nat.le_of_ble_eq_true rfl) hP hS (fun H locs h hP hS => ?_) (fun xx X H locs h hX hex hP hS => ?_)
  · refine lv_aload_n (pc := 164) hx hb d_Wa_tariff_164 rfl (lv_at hl 0 rfl) ?_
    obtain ⟨hk142, h⟩ := h
    obtain ⟨a143, ea143, h⟩ := h
    refine pq_geta (pc := 165) (f := 2) hx hb hT hK hP L25_0 hk142 rfl ea143 d_Wa_tariff_165 ?_
    refine lv_iload (pc := 168) hx hb d_Wa_tariff_168 (lv_at hl 2 rfl) ?_
    refine lv_aload (pc := 170) hx hb d_Wa_tariff_170 (lv_at hl 1 rfl) ?_
    obtain ⟨hk144, h⟩ := h
    refine cc_v (pc := 172) C (rest := []) (mt_invV (As := [.int x5, .ref a4]) hx hb hown (hT _ k_1005 _) (hT _ k_1006 _) (hT _ k_1007 _) (mt_Cd.code (hT _ k_1008 #[])) h_Ar_addAt (pq_recv hK hP hk144 rfl) n_Ar_addAt rfl d_Wa_tariff_172) (ct_Ar_addAt hfl D h) k_1008 k_5 ⟨Nat.le_of_ble_eq_true rfl, Nat.le_of_ble_eq_true rfl⟩ ⟨(show cells + 1 + 1 ≤ 4 by omega), (show slots + 6 + 64 ≤ 78 by omega)⟩ hl.1 d_Wa_tariff_172 (Nat.le_of_ble_eq_true rfl) hP hS (fun P145 H locs h hP hS => ?_) (fun xx X P145 H locs h hX hex hP hS => ?_)
    · exact wk_Wa_tariff_175 hfl C hmg hr hin htab _ a0 _ _ _ _ _ h hP hS (lv_sub hl [0] rfl) (show cells + 1 + 1 + 0 ≤ 4 by omega) (show slots + 6 + 64 + 0 ≤ 78 by omega)
    · exact cq_out hlocks (pq_nil htab rfl) (show cells + 1 + 1 + 0 ≤ 4 by omega) (show slots + 6 + 64 + 0 ≤ 78 by omega) hX hex hP hS h
  · exact cq_out hlocks (pq_nil htab rfl) (show cells + 1 + 0 ≤ 4 by omega) (show slots + 6 + 0 ≤ 78 by omega) hX hex hP hS h
set_option maxHeartbeats 4000000 in
set_option maxRecDepth 100000 in
theorem wk_Wa_tariff_144 {p : Program} {l : Launch} {e : Env} {s : State} {m : MethodId} {args : Array Value} {below : List Frame} {meth : Method} {c : Code} {D : pq_D} {P0 : Pic} {po : Option Value → Pic → Prop} {th : String → Pic → Prop} (hfl : l.flags = flags0) (C : Cx p e s m args meth c prog_1_method_29_code 6 "WaterWorks" D P0) (hmg : e.platform.magicAccessors = ({} : Platform).magicAccessors) (hr : meth.sig.returnType = (some .int)) (hin : meth.name = "tariff") (htab : c.exceptionTable.toList = tableOf []) : ∀ (P : Pic) (a0 : Nat) (a4 : Nat) (x5 : Int32) (H : Heap) (locs : List Loc) (cells slots : Nat) (ls : Array Slot), wb_Wa_tariff_144 po th P a0 a4 x5 → Pi D P H → Sg (cq_A P0 s) s.heap H P locs → lv_has ls 6 [(0, .ref a0), (4, .ref a4), (5, .int x5)] → cells + 2 ≤ 4 → slots + 70 ≤ 78 → W p l e rm_Wa_tariff s m args below meth c H locs cells slots (mt_MQ below (cq_Q D P0 false po th) args s 4 78 (cq_free P0 false)) (F0 m 144 ls []) := by
  intro P a0 a4 x5 H locs cells slots ls h hP hS hl hcc hss
  obtain ⟨hx, hb, hml, hown, hlocks, htr, hT, hK, hSt, hN, hP0⟩ := id C
  have L25_0 : pq_fl s m args 25 0 2 := ⟨_, "WaterWorks", "WaterWorks", rfl, by decide, hown, Or.inl (hT _ k_452 _), (fun _ z => z)⟩
  unfold wb_Wa_tariff_144 at h
  refine lv_aload_n (pc := 144) hx hb d_Wa_tariff_144 rfl (lv_at hl 0 rfl) ?_
  obtain ⟨hk137, h⟩ := h
  obtain ⟨a138, ea138, h⟩ := h
  refine pq_geta (pc := 145) (f := 2) hx hb hT hK hP L25_0 hk137 rfl ea138 d_Wa_tariff_145 ?_
  obtain ⟨hk139, h⟩ := h
  refine cr_i (pc := 148) C (rest := []) (mt_invV (As := []) hx hb hown (hT _ k_471 _) (hT _ k_472 _) (hT _ k_473 _) (mt_Cd.code (hT _ k_474 #[])) h_Ar_size (pq_recv hK hP hk139 rfl) n_Ar_size rfl d_Wa_tariff_148) (ct_Ar_size hfl D h) k_474 k_5 ⟨Nat.le_of_ble_eq_true rfl, Nat.le_of_ble_eq_true rfl⟩ ⟨(show cells + 0 ≤ 4 by omega), (show slots + 0 ≤ 78 by omega)⟩ hl.1 d_Wa_tariff_148 (Nat.le_of_ble_eq_true rfl) hP hS (fun x140 H locs h hP hS => ?_) (fun xx X H locs h hX hex hP hS => ?_)
  · refine lv_bipush (pc := 151) (v := 8) hx hb d_Wa_tariff_151 (by decide) ?_
    refine lv_icmp_ge (pc := 153) (tgt := 160) hx hb d_Wa_tariff_153 (by decide) (fun c141 => ?_) (fun c141 => ?_)
    · replace h := h.1 c141
      refine lv_iconst (pc := 160) (v := 0) hx hb d_Wa_tariff_160 (by decide) ?_
      exact wk_Wa_tariff_161 hfl C hmg hr hin htab _ a0 a4 x5 (0 : Int32) _ _ _ _ _ h hP hS (lv_sub hl [0, 1, 2] rfl) (show cells + 0 + 2 ≤ 4 by omega) (show slots + 0 + 70 ≤ 78 by omega)
    · replace h := h.2 c141
      refine lv_iconst (pc := 156) (v := 1) hx hb d_Wa_tariff_156 (by decide) ?_
      refine lv_goto (pc := 157) (tgt := 161) hx hb d_Wa_tariff_157 (by decide) ?_
      exact wk_Wa_tariff_161 hfl C hmg hr hin htab _ a0 a4 x5 (1 : Int32) _ _ _ _ _ h hP hS (lv_sub hl [0, 1, 2] rfl) (show cells + 0 + 2 ≤ 4 by omega) (show slots + 0 + 70 ≤ 78 by omega)
  · exact cq_out hlocks (pq_nil htab rfl) (show cells + 0 + 0 ≤ 4 by omega) (show slots + 0 + 0 ≤ 78 by omega) hX hex hP hS h
set_option maxHeartbeats 4000000 in
set_option maxRecDepth 100000 in
theorem wk_Wa_tariff_98 {p : Program} {l : Launch} {e : Env} {s : State} {m : MethodId} {args : Array Value} {below : List Frame} {meth : Method} {c : Code} {D : pq_D} {P0 : Pic} {po : Option Value → Pic → Prop} {th : String → Pic → Prop} (hfl : l.flags = flags0) (C : Cx p e s m args meth c prog_1_method_29_code 6 "WaterWorks" D P0) (hmg : e.platform.magicAccessors = ({} : Platform).magicAccessors) (hr : meth.sig.returnType = (some .int)) (hin : meth.name = "tariff") (htab : c.exceptionTable.toList = tableOf []) : ∀ (P : Pic) (a0 : Nat) (x1 : Int32) (a4 : Nat) (x5 : Int32) (H : Heap) (locs : List Loc) (cells slots : Nat) (ls : Array Slot), wb_Wa_tariff_98 po th P a0 x1 a4 x5 → Pi D P H → Sg (cq_A P0 s) s.heap H P locs → lv_has ls 6 [(0, .ref a0), (1, .int x1), (4, .ref a4), (5, .int x5)] → cells + 2 ≤ 4 → slots + 70 ≤ 78 → W p l e rm_Wa_tariff s m args below meth c H locs cells slots (mt_MQ below (cq_Q D P0 false po th) args s 4 78 (cq_free P0 false)) (F0 m 98 ls []) := by
  intro P a0 x1 a4 x5 H locs cells slots ls h hP hS hl hcc hss
  obtain ⟨hx, hb, hml, hown, hlocks, htr, hT, hK, hSt, hN, hP0⟩ := id C
  have L25_0 : pq_fl s m args 25 0 2 := ⟨_, "WaterWorks", "WaterWorks", rfl, by decide, hown, Or.inl (hT _ k_452 _), (fun _ z => z)⟩
  unfold wb_Wa_tariff_98 at h
  refine lv_iload (pc := 98) hx hb d_Wa_tariff_98 (lv_at hl 3 rfl) ?_
  refine lv_aload_n (pc := 100) hx hb d_Wa_tariff_100 rfl (lv_at hl 0 rfl) ?_
  obtain ⟨hk122, h⟩ := h
  obtain ⟨a123, ea123, h⟩ := h
  refine pq_geta (pc := 101) (f := 2) hx hb hT hK hP L25_0 hk122 rfl ea123 d_Wa_tariff_101 ?_
  obtain ⟨hk124, h⟩ := h
  refine cr_i (pc := 104) C (rest := [.int x5]) (mt_invV (As := []) hx hb hown (hT _ k_471 _) (hT _ k_472 _) (hT _ k_473 _) (mt_Cd.code (hT _ k_474 #[])) h_Ar_size (pq_recv hK hP hk124 rfl) n_Ar_size rfl d_Wa_tariff_104) (ct_Ar_size hfl D h) k_474 k_5 ⟨Nat.le_of_ble_eq_true rfl, Nat.le_of_ble_eq_true rfl⟩ ⟨(show cells + 0 ≤ 4 by omega), (show slots + 0 ≤ 78 by omega)⟩ hl.1 d_Wa_tariff_104 (Nat.le_of_ble_eq_true rfl) hP hS (fun x125 H locs h hP hS => ?_) (fun xx X H locs h hX hex hP hS => ?_)
  · refine lv_icmp_ge (pc := 107) (tgt := 144) hx hb d_Wa_tariff_107 (by decide) (fun c136 => ?_) (fun c136 => ?_)
    · replace h := h.1 c136
      exact wk_Wa_tariff_144 hfl C hmg hr hin htab _ a0 a4 x5 _ _ _ _ _ h hP hS (lv_sub hl [0, 2, 3] rfl) (show cells + 0 + 2 ≤ 4 by omega) (show slots + 0 + 70 ≤ 78 by omega)
    · replace h := h.2 c136
      refine lv_aload_n (pc := 110) hx hb d_Wa_tariff_110 rfl (lv_at hl 0 rfl) ?_
      obtain ⟨a126, ea126, h⟩ := h
      refine pq_geta (pc := 111) (f := 2) hx hb hT hK hP L25_0 hk122 rfl ea126 d_Wa_tariff_111 ?_
      refine lv_iload (pc := 114) hx hb d_Wa_tariff_114 (lv_at hl 3 rfl) ?_
      obtain ⟨hk127, h⟩ := h
      refine cr_a (pc := 116) C (rest := []) (mt_invV (As := [.int x5]) hx hb hown (hT _ k_606 _) (hT _ k_607 _) (hT _ k_608 _) (mt_Cd.code (hT _ k_609 #[])) h_Ar_get (pq_recv hK hP hk127 rfl) n_Ar_get rfl d_Wa_tariff_116) (ct_Ar_get hfl D h) k_609 k_5 ⟨Nat.le_of_ble_eq_true rfl, Nat.le_of_ble_eq_true rfl⟩ ⟨(show cells + 0 + 0 ≤ 4 by omega), (show slots + 0 + 0 ≤ 78 by omega)⟩ hl.1 d_Wa_tariff_116 (Nat.le_of_ble_eq_true rfl) hP hS (fun a128 H locs h hP hS => ?_) (fun xx X H locs h hX hex hP hS => ?_)
      · obtain ⟨hk129, h⟩ := h
        refine pq_cast (pc := 119) hx hb hT hK hP hown k_982 hk129 rfl k_1355 d_Wa_tariff_119 ?_
        refine cr_i (pc := 122) C (rest := []) (mt_invV (As := []) hx hb hown (hT _ k_1001 _) (hT _ k_1002 _) (hT _ k_1003 _) (mt_Cd.code (hT _ k_1004 #[])) h_Ta_day (pq_recv hK hP hk129 rfl) n_Ta_day rfl d_Wa_tariff_122) (ct_Ta_day hfl D h) k_1004 k_35 ⟨Nat.le_of_ble_eq_true rfl, Nat.le_of_ble_eq_true rfl⟩ ⟨(show cells + 0 + 0 + 0 ≤ 4 by omega), (show slots + 0 + 0 + 0 ≤ 78 by omega)⟩ hl.1 d_Wa_tariff_122 (Nat.le_of_ble_eq_true rfl) hP hS (fun x130 H locs h hP hS => ?_) (fun xx X H locs h hX hex hP hS => ?_)
        · refine lv_iload_n (pc := 125) hx hb d_Wa_tariff_125 rfl (lv_at hl 1 rfl) ?_
          refine lv_icmp_ne (pc := 126) (tgt := 144) hx hb d_Wa_tariff_126 (by decide) (fun c135 => ?_) (fun c135 => ?_)
          · replace h := h.1 c135
            exact wk_Wa_tariff_144 hfl C hmg hr hin htab _ a0 a4 x5 _ _ _ _ _ h hP hS (lv_sub hl [0, 2, 3] rfl) (show cells + 0 + 0 + 0 + 2 ≤ 4 by omega) (show slots + 0 + 0 + 0 + 70 ≤ 78 by omega)
          · replace h := h.2 c135
            refine lv_aload_n (pc := 129) hx hb d_Wa_tariff_129 rfl (lv_at hl 0 rfl) ?_
            obtain ⟨a131, ea131, h⟩ := h
            refine pq_geta (pc := 130) (f := 2) hx hb hT hK hP L25_0 hk122 rfl ea131 d_Wa_tariff_130 ?_
            refine lv_iload (pc := 133) hx hb d_Wa_tariff_133 (lv_at hl 3 rfl) ?_
            refine lv_aload (pc := 135) hx hb d_Wa_tariff_135 (lv_at hl 2 rfl) ?_
            obtain ⟨hk132, h⟩ := h
            refine cc_a (pc := 137) C (rest := []) (mt_invV (As := [.int x5, .ref a4]) hx hb hown (hT _ k_945 _) (hT _ k_946 _) (hT _ k_947 _) (mt_Cd.code (hT _ k_948 #[])) h_Ar_set (pq_recv hK hP hk132 rfl) n_Ar_set rfl d_Wa_tariff_137) (ct_Ar_set hfl D h) k_948 k_5 ⟨Nat.le_of_ble_eq_true rfl, Nat.le_of_ble_eq_true rfl⟩ ⟨(show cells + 0 + 0 + 0 + 0 ≤ 4 by omega), (show slots + 0 + 0 + 0 + 0 ≤ 78 by omega)⟩ hl.1 d_Wa_tariff_137 (Nat.le_of_ble_eq_true rfl) hP hS (fun a133 P134 H locs h hP hS => ?_) (fun xx X P134 H locs h hX hex hP hS => ?_)
            · refine lv_pop (pc := 140) hx hb d_Wa_tariff_140 rfl ?_
              refine lv_goto (pc := 141) (tgt := 175) hx hb d_Wa_tariff_141 (by decide) ?_
              exact wk_Wa_tariff_175 hfl C hmg hr hin htab _ a0 _ _ _ _ _ h hP hS (lv_sub hl [0] rfl) (show cells + 0 + 0 + 0 + 0 + 0 ≤ 4 by omega) (show slots + 0 + 0 + 0 + 0 + 0 ≤ 78 by omega)
            · exact cq_out hlocks (pq_nil htab rfl) (show cells + 0 + 0 + 0 + 0 + 0 ≤ 4 by omega) (show slots + 0 + 0 + 0 + 0 + 0 ≤ 78 by omega) hX hex hP hS h
        · exact cq_out hlocks (pq_nil htab rfl) (show cells + 0 + 0 + 0 + 0 ≤ 4 by omega) (show slots + 0 + 0 + 0 + 0 ≤ 78 by omega) hX hex hP hS h
      · exact cq_out hlocks (pq_nil htab rfl) (show cells + 0 + 0 + 0 ≤ 4 by omega) (show slots + 0 + 0 + 0 ≤ 78 by omega) hX hex hP hS h
  · exact cq_out hlocks (pq_nil htab rfl) (show cells + 0 + 0 ≤ 4 by omega) (show slots + 0 + 0 ≤ 78 by omega) hX hex hP hS h
set_option maxHeartbeats 4000000 in
set_option maxRecDepth 100000 in
theorem wk_Wa_tariff_61 {p : Program} {l : Launch} {e : Env} {s : State} {m : MethodId} {args : Array Value} {below : List Frame} {meth : Method} {c : Code} {D : pq_D} {P0 : Pic} {po : Option Value → Pic → Prop} {th : String → Pic → Prop} {K61 : Pic → Nat → Int32 → Nat → Int32 → Prop} (hfl : l.flags = flags0) (C : Cx p e s m args meth c prog_1_method_29_code 6 "WaterWorks" D P0) (hmg : e.platform.magicAccessors = ({} : Platform).magicAccessors) (hr : meth.sig.returnType = (some .int)) (hin : meth.name = "tariff") (htab : c.exceptionTable.toList = tableOf []) (HK61 : ∀ (P : Pic) (a0 : Nat) (x1 : Int32) (a4 : Nat) (x5 : Int32) (H : Heap) (locs : List Loc) (cells slots : Nat) (ls : Array Slot), K61 P a0 x1 a4 x5 → Pi D P H → Sg (cq_A P0 s) s.heap H P locs → lv_has ls 6 [(0, .ref a0), (1, .int x1), (4, .ref a4), (5, .int x5)] → cells + 2 ≤ 4 → slots + 70 ≤ 78 → W p l e rm_Wa_tariff s m args below meth c H locs cells slots (mt_MQ below (cq_Q D P0 false po th) args s 4 78 (cq_free P0 false)) (F0 m 61 ls [])) : ∀ (P : Pic) (a0 : Nat) (x1 : Int32) (a4 : Nat) (x5 : Int32) (H : Heap) (locs : List Loc) (cells slots : Nat) (ls : Array Slot), wb_Wa_tariff_61 po th K61 P a0 x1 a4 x5 → Pi D P H → Sg (cq_A P0 s) s.heap H P locs → lv_has ls 6 [(0, .ref a0), (1, .int x1), (4, .ref a4), (5, .int x5)] → cells + 2 ≤ 4 → slots + 70 ≤ 78 → W p l e rm_Wa_tariff s m args below meth c H locs cells slots (mt_MQ below (cq_Q D P0 false po th) args s 4 78 (cq_free P0 false)) (F0 m 61 ls []) := by
  intro P a0 x1 a4 x5 H locs cells slots ls h hP hS hl hcc hss
  obtain ⟨hx, hb, hml, hown, hlocks, htr, hT, hK, hSt, hN, hP0⟩ := id C
  have L25_0 : pq_fl s m args 25 0 2 := ⟨_, "WaterWorks", "WaterWorks", rfl, by decide, hown, Or.inl (hT _ k_452 _), (fun _ z => z)⟩
  unfold wb_Wa_tariff_61 at h
  refine lv_iload (pc := 61) hx hb d_Wa_tariff_61 (lv_at hl 3 rfl) ?_
  refine lv_aload_n (pc := 63) hx hb d_Wa_tariff_63 rfl (lv_at hl 0 rfl) ?_
  obtain ⟨hk110, h⟩ := h
  obtain ⟨a111, ea111, h⟩ := h
  refine pq_geta (pc := 64) (f := 2) hx hb hT hK hP L25_0 hk110 rfl ea111 d_Wa_tariff_64 ?_
  obtain ⟨hk112, h⟩ := h
  refine cr_i (pc := 67) C (rest := [.int x5]) (mt_invV (As := []) hx hb hown (hT _ k_471 _) (hT _ k_472 _) (hT _ k_473 _) (mt_Cd.code (hT _ k_474 #[])) h_Ar_size (pq_recv hK hP hk112 rfl) n_Ar_size rfl d_Wa_tariff_67) (ct_Ar_size hfl D h) k_474 k_5 ⟨Nat.le_of_ble_eq_true rfl, Nat.le_of_ble_eq_true rfl⟩ ⟨(show cells + 0 ≤ 4 by omega), (show slots + 0 ≤ 78 by omega)⟩ hl.1 d_Wa_tariff_67 (Nat.le_of_ble_eq_true rfl) hP hS (fun x113 H locs h hP hS => ?_) (fun xx X H locs h hX hex hP hS => ?_)
  · refine lv_icmp_ge (pc := 70) (tgt := 98) hx hb d_Wa_tariff_70 (by decide) (fun c121 => ?_) (fun c121 => ?_)
    · replace h := h.1 c121
      exact wk_Wa_tariff_98 hfl C hmg hr hin htab _ a0 x1 a4 x5 _ _ _ _ _ h hP hS (lv_sub hl [0, 1, 2, 3] rfl) (show cells + 0 + 2 ≤ 4 by omega) (show slots + 0 + 70 ≤ 78 by omega)
    · replace h := h.2 c121
      refine lv_aload_n (pc := 73) hx hb d_Wa_tariff_73 rfl (lv_at hl 0 rfl) ?_
      obtain ⟨a114, ea114, h⟩ := h
      refine pq_geta (pc := 74) (f := 2) hx hb hT hK hP L25_0 hk110 rfl ea114 d_Wa_tariff_74 ?_
      refine lv_iload (pc := 77) hx hb d_Wa_tariff_77 (lv_at hl 3 rfl) ?_
      obtain ⟨hk115, h⟩ := h
      refine cr_a (pc := 79) C (rest := []) (mt_invV (As := [.int x5]) hx hb hown (hT _ k_606 _) (hT _ k_607 _) (hT _ k_608 _) (mt_Cd.code (hT _ k_609 #[])) h_Ar_get (pq_recv hK hP hk115 rfl) n_Ar_get rfl d_Wa_tariff_79) (ct_Ar_get hfl D h) k_609 k_5 ⟨Nat.le_of_ble_eq_true rfl, Nat.le_of_ble_eq_true rfl⟩ ⟨(show cells + 0 + 0 ≤ 4 by omega), (show slots + 0 + 0 ≤ 78 by omega)⟩ hl.1 d_Wa_tariff_79 (Nat.le_of_ble_eq_true rfl) hP hS (fun a116 H locs h hP hS => ?_) (fun xx X H locs h hX hex hP hS => ?_)
      · obtain ⟨hk117, h⟩ := h
        refine pq_cast (pc := 82) hx hb hT hK hP hown k_982 hk117 rfl k_1355 d_Wa_tariff_82 ?_
        refine cr_i (pc := 85) C (rest := []) (mt_invV (As := []) hx hb hown (hT _ k_1001 _) (hT _ k_1002 _) (hT _ k_1003 _) (mt_Cd.code (hT _ k_1004 #[])) h_Ta_day (pq_recv hK hP hk117 rfl) n_Ta_day rfl d_Wa_tariff_85) (ct_Ta_day hfl D h) k_1004 k_35 ⟨Nat.le_of_ble_eq_true rfl, Nat.le_of_ble_eq_true rfl⟩ ⟨(show cells + 0 + 0 + 0 ≤ 4 by omega), (show slots + 0 + 0 + 0 ≤ 78 by omega)⟩ hl.1 d_Wa_tariff_85 (Nat.le_of_ble_eq_true rfl) hP hS (fun x118 H locs h hP hS => ?_) (fun xx X H locs h hX hex hP hS => ?_)
        · refine lv_iload_n (pc := 88) hx hb d_Wa_tariff_88 rfl (lv_at hl 1 rfl) ?_
          refine lv_icmp_ge (pc := 89) (tgt := 98) hx hb d_Wa_tariff_89 (by decide) (fun c120 => ?_) (fun c120 => ?_)
          · replace h := h.1 c120
            exact wk_Wa_tariff_98 hfl C hmg hr hin htab _ a0 x1 a4 x5 _ _ _ _ _ h hP hS (lv_sub hl [0, 1, 2, 3] rfl) (show cells + 0 + 0 + 0 + 2 ≤ 4 by omega) (show slots + 0 + 0 + 0 + 70 ≤ 78 by omega)
          · replace h := h.2 c120
            obtain ⟨x119, ex119⟩ : ∃ z : Int32, z = x5 + 1 := ⟨_, rfl⟩
            replace h := h x119 ex119
            refine lv_iinc (pc := 92) (v := x119) (lv' := [(5, .int x119), (0, .ref a0), (1, .int x1), (4, .ref a4)]) hx hb d_Wa_tariff_92 hl (k := 3) rfl (by rw [ex119]; rfl) (by decide) rfl (fun ls hl => ?_)
            refine lv_goto (pc := 95) (tgt := 61) hx hb d_Wa_tariff_95 (by decide) ?_
            exact HK61 _ a0 x1 a4 x119 _ _ _ _ _ h hP hS (lv_sub hl [1, 2, 3, 0] rfl) (show cells + 0 + 0 + 0 + 2 ≤ 4 by omega) (show slots + 0 + 0 + 0 + 70 ≤ 78 by omega)
        · exact cq_out hlocks (pq_nil htab rfl) (show cells + 0 + 0 + 0 + 0 ≤ 4 by omega) (show slots + 0 + 0 + 0 + 0 ≤ 78 by omega) hX hex hP hS h
      · exact cq_out hlocks (pq_nil htab rfl) (show cells + 0 + 0 + 0 ≤ 4 by omega) (show slots + 0 + 0 + 0 ≤ 78 by omega) hX hex hP hS h
  · exact cq_out hlocks (pq_nil htab rfl) (show cells + 0 + 0 ≤ 4 by omega) (show slots + 0 + 0 ≤ 78 by omega) hX hex hP hS h
theorem wm_Wa_tariff_61 {p : Program} {l : Launch} {e : Env} {s : State} {m : MethodId} {args : Array Value} {below : List Frame} {meth : Method} {c : Code} {D : pq_D} {P0 : Pic} {po : Option Value → Pic → Prop} {th : String → Pic → Prop} (hfl : l.flags = flags0) (C : Cx p e s m args meth c prog_1_method_29_code 6 "WaterWorks" D P0) (hmg : e.platform.magicAccessors = ({} : Platform).magicAccessors) (hr : meth.sig.returnType = (some .int)) (hin : meth.name = "tariff") (htab : c.exceptionTable.toList = tableOf []) : ∀ n : Nat, ∀ (P : Pic) (a0 : Nat) (x1 : Int32) (a4 : Nat) (x5 : Int32) (H : Heap) (locs : List Loc) (cells slots : Nat) (ls : Array Slot), wl_Wa_tariff_61 po th n P a0 x1 a4 x5 → Pi D P H → Sg (cq_A P0 s) s.heap H P locs → lv_has ls 6 [(0, .ref a0), (1, .int x1), (4, .ref a4), (5, .int x5)] → cells + 2 ≤ 4 → slots + 70 ≤ 78 → W p l e rm_Wa_tariff s m args below meth c H locs cells slots (mt_MQ below (cq_Q D P0 false po th) args s 4 78 (cq_free P0 false)) (F0 m 61 ls []) := by
  intro n
  induction n with
  | zero => intro P a0 x1 a4 x5 H locs cells slots ls h; exact h.elim
  | succ n ih => exact wk_Wa_tariff_61 hfl C hmg hr hin htab ih
set_option maxHeartbeats 4000000 in
set_option maxRecDepth 100000 in
theorem wk_Wa_tariff_55 {p : Program} {l : Launch} {e : Env} {s : State} {m : MethodId} {args : Array Value} {below : List Frame} {meth : Method} {c : Code} {D : pq_D} {P0 : Pic} {po : Option Value → Pic → Prop} {th : String → Pic → Prop} (hfl : l.flags = flags0) (C : Cx p e s m args meth c prog_1_method_29_code 6 "WaterWorks" D P0) (hmg : e.platform.magicAccessors = ({} : Platform).magicAccessors) (hr : meth.sig.returnType = (some .int)) (hin : meth.name = "tariff") (htab : c.exceptionTable.toList = tableOf []) : ∀ (P : Pic) (a0 : Nat) (x1 : Int32) (a4 : Nat) (t0 : Int32) (H : Heap) (locs : List Loc) (cells slots : Nat) (ls : Array Slot), wb_Wa_tariff_55 po th P a0 x1 a4 t0 → Pi D P H → Sg (cq_A P0 s) s.heap H P locs → lv_has ls 6 [(0, .ref a0), (1, .int x1), (4, .ref a4)] → cells + 3 ≤ 4 → slots + 76 ≤ 78 → W p l e rm_Wa_tariff s m args below meth c H locs cells slots (mt_MQ below (cq_Q D P0 false po th) args s 4 78 (cq_free P0 false)) (F0 m 55 ls [.int t0]) := by
  intro P a0 x1 a4 t0 H locs cells slots ls h hP hS hl hcc hss
  obtain ⟨hx, hb, hml, hown, hlocks, htr, hT, hK, hSt, hN, hP0⟩ := id C
  have L25_0 : pq_fl s m args 25 0 2 := ⟨_, "WaterWorks", "WaterWorks", rfl, by decide, hown, Or.inl (hT _ k_452 _), (fun _ z => z)⟩
  unfold wb_Wa_tariff_55 at h
  refine cr_v (pc := 55) C (rest := []) (mt_invS (As := [.int t0]) hx hb hown (hT _ k_620 _) (hT _ k_621 _) (hT _ k_1 _) (mt_Cd.code (hT _ k_622 #[])) h_Wa_fits n_Wa_fits rfl d_Wa_tariff_55) (ct_Wa_fits hfl D h) k_622 k_1 ⟨Nat.le_of_ble_eq_true rfl, Nat.le_of_ble_eq_true rfl⟩ ⟨(show cells + 1 ≤ 4 by omega), (show slots + 6 ≤ 78 by omega)⟩ hl.1 d_Wa_tariff_55 (Nat.le_of_ble_eq_true rfl) hP hS (fun H locs h hP hS => ?_) (fun xx X H locs h hX hex hP hS => ?_)
  · refine lv_iconst (pc := 58) (v := 0) hx hb d_Wa_tariff_58 (by decide) ?_
    refine lv_istore (pc := 59) (lv' := [(5, .int (0 : Int32)), (0, .ref a0), (1, .int x1), (4, .ref a4)]) hx hb d_Wa_tariff_59 hl (by decide) rfl (fun ls hl => ?_)
    obtain ⟨n, h⟩ := h
    exact wm_Wa_tariff_61 hfl C hmg hr hin htab n _ a0 x1 a4 (0 : Int32) _ _ _ _ _ h hP hS (lv_sub hl [1, 2, 3, 0] rfl) (show cells + 1 + 2 ≤ 4 by omega) (show slots + 6 + 70 ≤ 78 by omega)
  · exact cq_out hlocks (pq_nil htab rfl) (show cells + 1 + 0 ≤ 4 by omega) (show slots + 6 + 0 ≤ 78 by omega) hX hex hP hS h
set_option maxHeartbeats 4000000 in
set_option maxRecDepth 100000 in
theorem wk_Wa_tariff_54 {p : Program} {l : Launch} {e : Env} {s : State} {m : MethodId} {args : Array Value} {below : List Frame} {meth : Method} {c : Code} {D : pq_D} {P0 : Pic} {po : Option Value → Pic → Prop} {th : String → Pic → Prop} (hfl : l.flags = flags0) (C : Cx p e s m args meth c prog_1_method_29_code 6 "WaterWorks" D P0) (hmg : e.platform.magicAccessors = ({} : Platform).magicAccessors) (hr : meth.sig.returnType = (some .int)) (hin : meth.name = "tariff") (htab : c.exceptionTable.toList = tableOf []) : ∀ (P : Pic) (a0 : Nat) (x1 : Int32) (a4 : Nat) (H : Heap) (locs : List Loc) (cells slots : Nat) (ls : Array Slot), wb_Wa_tariff_54 po th P a0 x1 a4 → Pi D P H → Sg (cq_A P0 s) s.heap H P locs → lv_has ls 6 [(0, .ref a0), (1, .int x1), (4, .ref a4)] → cells + 3 ≤ 4 → slots + 76 ≤ 78 → W p l e rm_Wa_tariff s m args below meth c H locs cells slots (mt_MQ below (cq_Q D P0 false po th) args s 4 78 (cq_free P0 false)) (F0 m 54 ls []) := by
  intro P a0 x1 a4 H locs cells slots ls h hP hS hl hcc hss
  obtain ⟨hx, hb, hml, hown, hlocks, htr, hT, hK, hSt, hN, hP0⟩ := id C
  have L25_0 : pq_fl s m args 25 0 2 := ⟨_, "WaterWorks", "WaterWorks", rfl, by decide, hown, Or.inl (hT _ k_452 _), (fun _ z => z)⟩
  unfold wb_Wa_tariff_54 at h
  refine lv_iconst (pc := 54) (v := 0) hx hb d_Wa_tariff_54 (by decide) ?_
  exact wk_Wa_tariff_55 hfl C hmg hr hin htab _ a0 x1 a4 (0 : Int32) _ _ _ _ _ h hP hS (lv_sub hl [0, 1, 2] rfl) (show cells + 3 ≤ 4 by omega) (show slots + 76 ≤ 78 by omega)
set_option maxHeartbeats 4000000 in
set_option maxRecDepth 100000 in
theorem ct_Wa_tariff {l : Launch} (hfl : l.flags = flags0) (D : pq_D) {po : Option Value → Pic → Prop} {th : String → Pic → Prop} {P : Pic} {a0 : Nat} {x1 : Int32} {w2 : Int64} (h : wp_Wa_tariff po th P a0 x1 w2) : CT l D y_Wa_tariff (.code y_Wa_tariff prog_1_method_29_code 6 (some .int)) rm_Wa_tariff false [.ref a0, .int x1, .long w2] P po th := by
  refine ct_of (hs := []) hfl (by decide +kernel) (Or.inl ⟨rfl, rfl⟩) (Nat.le_of_ble_eq_true rfl) ?_
  intro p e s m below meth c C hmg hr hin htab ls hl
  have hl : lv_has ls 6 [(0, .ref a0), (1, .int x1), (2, .long w2)] := hl
  generalize hargs : ([.ref a0, .int x1, .long w2] : List Value).toArray = args at C ⊢
  obtain ⟨hx, hb, hml, hown, hlocks, htr, hT, hK, hSt, hN, hP0⟩ := id C
  have L25_0 : pq_fl s m args 25 0 2 := ⟨_, "WaterWorks", "WaterWorks", rfl, by decide, hown, Or.inl (hT _ k_452 _), (fun _ z => z)⟩
  have hP : Pi D P s.heap := hP0
  have hS : Sg (cq_A P s) s.heap s.heap P [] := Sg.start hP0
  unfold wp_Wa_tariff at h
  refine pq_new (pc := 0) hx hb hT hK hP hS (k := 10) rfl hown (hT _ k_982 _) (hT _ k_983 _) (hT _ k_35 _) (show 0 + 1 ≤ 4 by omega) (show 0 + 2 ≤ 78 by omega) d_Wa_tariff_0 (fun q101 H hq101 hP1 hS => ?_)
  replace h := h q101 hq101
  have hkq101 : p_k (s_new P q101 10) q101 = 11 := pk_newq _ _ _
  replace hP := hP1
  clear hP1
  refine lv_dup (pc := 3) hx hb d_Wa_tariff_3 rfl ?_
  refine lv_iload_n (pc := 4) hx hb d_Wa_tariff_4 rfl (lv_at hl 1 rfl) ?_
  refine lv_lload_n (pc := 5) hx hb d_Wa_tariff_5 rfl (lv_at hl 2 rfl) ?_
  refine cc_v (pc := 6) C (rest := [.ref q101]) (mt_invIN (As := [.int x1, .long w2]) hx hb hown rfl (hT _ k_984 _) (hT _ k_985 _) (hT _ k_986 _) h_Ta_init n_Ta_init rfl d_Wa_tariff_6) (ct_Ta_init hfl D h) k_986 k_35 ⟨Nat.le_of_ble_eq_true rfl, Nat.le_of_ble_eq_true rfl⟩ ⟨(show 0 + 1 + 0 ≤ 4 by omega), (show 0 + 2 + 0 ≤ 78 by omega)⟩ hl.1 d_Wa_tariff_6 (Nat.le_of_ble_eq_true rfl) hP hS (fun P102 H locs h hP hS => ?_) (fun xx X P102 H locs h hX hex hP hS => ?_)
  · refine lv_astore (pc := 9) (lv' := [(4, .ref q101), (0, .ref a0), (1, .int x1), (2, .long w2)]) hx hb d_Wa_tariff_9 hl (by decide) rfl (fun ls hl => ?_)
    refine lv_iload_n (pc := 11) hx hb d_Wa_tariff_11 rfl (lv_at hl 2 rfl) ?_
    refine lv_if_lt (pc := 12) (tgt := 54) hx hb d_Wa_tariff_12 (by decide) (fun c109 => ?_) (fun c109 => ?_)
    · replace h := h.1 c109
      exact wk_Wa_tariff_54 hfl C hmg hr hin htab _ a0 x1 q101 _ _ _ _ _ h hP hS (lv_sub hl [1, 2, 0] rfl) (show 0 + 1 + 0 + 3 ≤ 4 by omega) (show 0 + 2 + 0 + 76 ≤ 78 by omega)
    · replace h := h.2 c109
      refine lv_iload_n (pc := 15) hx hb d_Wa_tariff_15 rfl (lv_at hl 2 rfl) ?_
      refine lv_sipush (pc := 16) (v := 400) hx hb d_Wa_tariff_16 (by decide) ?_
      refine lv_icmp_gt (pc := 19) (tgt := 54) hx hb d_Wa_tariff_19 (by decide) (fun c108 => ?_) (fun c108 => ?_)
      · replace h := h.1 c108
        exact wk_Wa_tariff_54 hfl C hmg hr hin htab _ a0 x1 q101 _ _ _ _ _ h hP hS (lv_sub hl [1, 2, 0] rfl) (show 0 + 1 + 0 + 3 ≤ 4 by omega) (show 0 + 2 + 0 + 76 ≤ 78 by omega)
      · replace h := h.2 c108
        refine lv_lload_n (pc := 22) hx hb d_Wa_tariff_22 rfl (lv_at hl 3 rfl) ?_
        refine lv_lconst (pc := 23) (v := 0) hx hb d_Wa_tariff_23 (by decide) ?_
        refine W.lcmp hx hb d_Wa_tariff_24 ?_
        refine lv_if_lt (pc := 25) (tgt := 54) hx hb d_Wa_tariff_25 (by decide) (fun c107 => ?_) (fun c107 => ?_)
        · replace h := h.1 c107
          exact wk_Wa_tariff_54 hfl C hmg hr hin htab _ a0 x1 q101 _ _ _ _ _ h hP hS (lv_sub hl [1, 2, 0] rfl) (show 0 + 1 + 0 + 3 ≤ 4 by omega) (show 0 + 2 + 0 + 76 ≤ 78 by omega)
        · replace h := h.2 c107
          refine lv_lload_n (pc := 28) hx hb d_Wa_tariff_28 rfl (lv_at hl 3 rfl) ?_
          refine lv_bipush (pc := 29) (v := 50) hx hb d_Wa_tariff_29 (by decide) ?_
          refine lv_lshr (pc := 31) hx hb d_Wa_tariff_31 rfl ?_
          refine lv_lconst (pc := 32) (v := 0) hx hb d_Wa_tariff_32 (by decide) ?_
          refine W.lcmp hx hb d_Wa_tariff_33 ?_
          refine lv_if_ne (pc := 34) (tgt := 54) hx hb d_Wa_tariff_34 (by decide) (fun c106 => ?_) (fun c106 => ?_)
          · replace h := h.1 c106
            exact wk_Wa_tariff_54 hfl C hmg hr hin htab _ a0 x1 q101 _ _ _ _ _ h hP hS (lv_sub hl [1, 2, 0] rfl) (show 0 + 1 + 0 + 3 ≤ 4 by omega) (show 0 + 2 + 0 + 76 ≤ 78 by omega)
          · replace h := h.2 c106
            refine lv_aload (pc := 37) hx hb d_Wa_tariff_37 (lv_at hl 0 rfl) ?_
            refine lv_iconst (pc := 39) (v := 4) hx hb d_Wa_tariff_39 (by decide) ?_
            obtain ⟨hk103, h⟩ := h
            refine cr_l (pc := 40) C (rest := []) (mt_invV (As := [.int (4 : Int32)]) hx hb hown (hT _ k_995 _) (hT _ k_996 _) (hT _ k_997 _) (mt_Cd.code (hT _ k_998 #[])) h_Ta_field (pq_recv hK hP hk103 rfl) n_Ta_field rfl d_Wa_tariff_40) (ct_Ta_field hfl D h) k_998 k_35 ⟨Nat.le_of_ble_eq_true rfl, Nat.le_of_ble_eq_true rfl⟩ ⟨(show 0 + 1 + 0 + 0 ≤ 4 by omega), (show 0 + 2 + 0 + 0 ≤ 78 by omega)⟩ hl.1 d_Wa_tariff_40 (Nat.le_of_ble_eq_true rfl) hP hS (fun w104 H locs h hP hS => ?_) (fun xx X H locs h hX hex hP hS => ?_)
            · refine lv_ldc2 (pc := 43) hx hb hown (hT _ k_1000 _) d_Wa_tariff_43 ?_
              refine W.lcmp hx hb d_Wa_tariff_46 ?_
              refine lv_if_gt (pc := 47) (tgt := 54) hx hb d_Wa_tariff_47 (by decide) (fun c105 => ?_) (fun c105 => ?_)
              · replace h := h.1 c105
                exact wk_Wa_tariff_54 hfl C hmg hr hin htab _ a0 x1 q101 _ _ _ _ _ h hP hS (lv_sub hl [1, 2, 0] rfl) (show 0 + 1 + 0 + 0 + 3 ≤ 4 by omega) (show 0 + 2 + 0 + 0 + 76 ≤ 78 by omega)
              · replace h := h.2 c105
                refine lv_iconst (pc := 50) (v := 1) hx hb d_Wa_tariff_50 (by decide) ?_
                refine lv_goto (pc := 51) (tgt := 55) hx hb d_Wa_tariff_51 (by decide) ?_
                exact wk_Wa_tariff_55 hfl C hmg hr hin htab _ a0 x1 q101 (1 : Int32) _ _ _ _ _ h hP hS (lv_sub hl [1, 2, 0] rfl) (show 0 + 1 + 0 + 0 + 3 ≤ 4 by omega) (show 0 + 2 + 0 + 0 + 76 ≤ 78 by omega)
            · exact cq_out hlocks (pq_nil htab rfl) (show 0 + 1 + 0 + 0 + 0 ≤ 4 by omega) (show 0 + 2 + 0 + 0 + 0 ≤ 78 by omega) hX hex hP hS h
  · exact cq_out hlocks (pq_nil htab rfl) (show 0 + 1 + 0 + 0 ≤ 4 by omega) (show 0 + 2 + 0 + 0 ≤ 78 by omega) hX hex hP hS h
/-! WaterWorks.price(LWaterWorks$Customer;II)J -/
abbrev y_Wa_price : MethodName := ⟨"WaterWorks", "price", "(LWaterWorks$Customer;II)J"⟩
abbrev rm_Wa_price : Room := { frames := 7, cells := 13, slots := 78, locals := 153 }
theorem h_Wa_price : y_Wa_price.cls ≠ "java/lang/invoke/MethodHandle" ∧ y_Wa_price.cls ≠ "java/lang/invoke/VarHandle" := by decide +kernel
theorem n_Wa_price : (parseMethodDescriptor y_Wa_price.desc).map (fun d => d.parameters.length) = some 3 := by decide +kernel
theorem d_Wa_price_0 : decode prog_1_method_30_code 0 = .ok (.lconst 0, 1) := by decide +kernel
theorem d_Wa_price_1 : decode prog_1_method_30_code 1 = .ok (.lstore 4, 2) := by decide +kernel
theorem d_Wa_price_3 : decode prog_1_method_30_code 3 = .ok (.iload_n 2, 1) := by decide +kernel
theorem d_Wa_price_4 : decode prog_1_method_30_code 4 = .ok (.istore 6, 2) := by decide +kernel
theorem d_Wa_price_6 : decode prog_1_method_30_code 6 = .ok (.aload_n 1, 1) := by decide +kernel
theorem d_Wa_price_7 : decode prog_1_method_30_code 7 = .ok (.iload_n 2, 1) := by decide +kernel
theorem d_Wa_price_8 : decode prog_1_method_30_code 8 = .ok (.invokevirtual 193, 3) := by decide +kernel
theorem d_Wa_price_11 : decode prog_1_method_30_code 11 = .ok (.istore 7, 2) := by decide +kernel
theorem d_Wa_price_13 : decode prog_1_method_30_code 13 = .ok (.iconst 0, 1) := by decide +kernel
theorem d_Wa_price_14 : decode prog_1_method_30_code 14 = .ok (.istore 8, 2) := by decide +kernel
theorem d_Wa_price_16 : decode prog_1_method_30_code 16 = .ok (.iload 8, 2) := by decide +kernel
theorem d_Wa_price_18 : decode prog_1_method_30_code 18 = .ok (.aload_n 0, 1) := by decide +kernel
theorem d_Wa_price_19 : decode prog_1_method_30_code 19 = .ok (.getfield 25, 3) := by decide +kernel
theorem d_Wa_price_22 : decode prog_1_method_30_code 22 = .ok (.invokevirtual 43, 3) := by decide +kernel
theorem d_Wa_price_25 : decode prog_1_method_30_code 25 = .ok (.if_icmp .ge 28, 3) := by decide +kernel
theorem d_Wa_price_28 : decode prog_1_method_30_code 28 = .ok (.aload_n 0, 1) := by decide +kernel
theorem d_Wa_price_29 : decode prog_1_method_30_code 29 = .ok (.getfield 25, 3) := by decide +kernel
theorem d_Wa_price_32 : decode prog_1_method_30_code 32 = .ok (.iload 8, 2) := by decide +kernel
theorem d_Wa_price_34 : decode prog_1_method_30_code 34 = .ok (.invokevirtual 51, 3) := by decide +kernel
theorem d_Wa_price_37 : decode prog_1_method_30_code 37 = .ok (.checkcast 196, 3) := by decide +kernel
theorem d_Wa_price_40 : decode prog_1_method_30_code 40 = .ok (.invokevirtual 207, 3) := by decide +kernel
theorem d_Wa_price_43 : decode prog_1_method_30_code 43 = .ok (.iload_n 2, 1) := by decide +kernel
theorem d_Wa_price_44 : decode prog_1_method_30_code 44 = .ok (.if_icmp .gt 9, 3) := by decide +kernel
theorem d_Wa_price_47 : decode prog_1_method_30_code 47 = .ok (.iinc 8 1, 3) := by decide +kernel
theorem d_Wa_price_50 : decode prog_1_method_30_code 50 = .ok (.goto (-34), 3) := by decide +kernel
theorem d_Wa_price_53 : decode prog_1_method_30_code 53 = .ok (.iload 8, 2) := by decide +kernel
theorem d_Wa_price_55 : decode prog_1_method_30_code 55 = .ok (.ifCond .le 7, 3) := by decide +kernel
theorem d_Wa_price_58 : decode prog_1_method_30_code 58 = .ok (.iconst 1, 1) := by decide +kernel
theorem d_Wa_price_59 : decode prog_1_method_30_code 59 = .ok (.goto 4, 3) := by decide +kernel
theorem d_Wa_price_62 : decode prog_1_method_30_code 62 = .ok (.iconst 0, 1) := by decide +kernel
theorem d_Wa_price_63 : decode prog_1_method_30_code 63 = .ok (.invokestatic 99, 3) := by decide +kernel
theorem d_Wa_price_66 : decode prog_1_method_30_code 66 = .ok (.iload 6, 2) := by decide +kernel
theorem d_Wa_price_68 : decode prog_1_method_30_code 68 = .ok (.iload_n 3, 1) := by decide +kernel
theorem d_Wa_price_69 : decode prog_1_method_30_code 69 = .ok (.if_icmp .ge 96, 3) := by decide +kernel
theorem d_Wa_price_72 : decode prog_1_method_30_code 72 = .ok (.iload 8, 2) := by decide +kernel
theorem d_Wa_price_74 : decode prog_1_method_30_code 74 = .ok (.aload_n 0, 1) := by decide +kernel
theorem d_Wa_price_75 : decode prog_1_method_30_code 75 = .ok (.getfield 25, 3) := by decide +kernel
theorem d_Wa_price_78 : decode prog_1_method_30_code 78 = .ok (.invokevirtual 43, 3) := by decide +kernel
theorem d_Wa_price_81 : decode prog_1_method_30_code 81 = .ok (.if_icmp .ge 25, 3) := by decide +kernel
theorem d_Wa_price_84 : decode prog_1_method_30_code 84 = .ok (.iload_n 3, 1) := by decide +kernel
theorem d_Wa_price_85 : decode prog_1_method_30_code 85 = .ok (.aload_n 0, 1) := by decide +kernel
theorem d_Wa_price_86 : decode prog_1_method_30_code 86 = .ok (.getfield 25, 3) := by decide +kernel
theorem d_Wa_price_89 : decode prog_1_method_30_code 89 = .ok (.iload 8, 2) := by decide +kernel
theorem d_Wa_price_91 : decode prog_1_method_30_code 91 = .ok (.invokevirtual 51, 3) := by decide +kernel
theorem d_Wa_price_94 : decode prog_1_method_30_code 94 = .ok (.checkcast 196, 3) := by decide +kernel
theorem d_Wa_price_97 : decode prog_1_method_30_code 97 = .ok (.invokevirtual 207, 3) := by decide +kernel
theorem d_Wa_price_100 : decode prog_1_method_30_code 100 = .ok (.invokestatic 211, 3) := by decide +kernel
theorem d_Wa_price_103 : decode prog_1_method_30_code 103 = .ok (.goto 4, 3) := by decide +kernel
theorem d_Wa_price_106 : decode prog_1_method_30_code 106 = .ok (.iload_n 3, 1) := by decide +kernel
theorem d_Wa_price_107 : decode prog_1_method_30_code 107 = .ok (.istore 9, 2) := by decide +kernel
theorem d_Wa_price_109 : decode prog_1_method_30_code 109 = .ok (.aload_n 1, 1) := by decide +kernel
theorem d_Wa_price_110 : decode prog_1_method_30_code 110 = .ok (.iload 9, 2) := by decide +kernel
theorem d_Wa_price_112 : decode prog_1_method_30_code 112 = .ok (.invokevirtual 193, 3) := by decide +kernel
theorem d_Wa_price_115 : decode prog_1_method_30_code 115 = .ok (.istore 10, 2) := by decide +kernel
theorem d_Wa_price_117 : decode prog_1_method_30_code 117 = .ok (.lload 4, 2) := by decide +kernel
theorem d_Wa_price_119 : decode prog_1_method_30_code 119 = .ok (.aload_n 0, 1) := by decide +kernel
theorem d_Wa_price_120 : decode prog_1_method_30_code 120 = .ok (.getfield 25, 3) := by decide +kernel
theorem d_Wa_price_123 : decode prog_1_method_30_code 123 = .ok (.iload 8, 2) := by decide +kernel
theorem d_Wa_price_125 : decode prog_1_method_30_code 125 = .ok (.iconst 1, 1) := by decide +kernel
theorem d_Wa_price_126 : decode prog_1_method_30_code 126 = .ok (.isub, 1) := by decide +kernel
theorem d_Wa_price_127 : decode prog_1_method_30_code 127 = .ok (.invokevirtual 51, 3) := by decide +kernel
theorem d_Wa_price_130 : decode prog_1_method_30_code 130 = .ok (.checkcast 196, 3) := by decide +kernel
theorem d_Wa_price_133 : decode prog_1_method_30_code 133 = .ok (.iload 9, 2) := by decide +kernel
theorem d_Wa_price_135 : decode prog_1_method_30_code 135 = .ok (.iload 6, 2) := by decide +kernel
theorem d_Wa_price_137 : decode prog_1_method_30_code 137 = .ok (.isub, 1) := by decide +kernel
theorem d_Wa_price_138 : decode prog_1_method_30_code 138 = .ok (.i2l, 1) := by decide +kernel
theorem d_Wa_price_139 : decode prog_1_method_30_code 139 = .ok (.iload 10, 2) := by decide +kernel
theorem d_Wa_price_141 : decode prog_1_method_30_code 141 = .ok (.iload 7, 2) := by decide +kernel
theorem d_Wa_price_143 : decode prog_1_method_30_code 143 = .ok (.isub, 1) := by decide +kernel
theorem d_Wa_price_144 : decode prog_1_method_30_code 144 = .ok (.i2l, 1) := by decide +kernel
theorem d_Wa_price_145 : decode prog_1_method_30_code 145 = .ok (.invokevirtual 217, 3) := by decide +kernel
theorem d_Wa_price_148 : decode prog_1_method_30_code 148 = .ok (.ladd, 1) := by decide +kernel
theorem d_Wa_price_149 : decode prog_1_method_30_code 149 = .ok (.lstore 4, 2) := by decide +kernel
theorem d_Wa_price_151 : decode prog_1_method_30_code 151 = .ok (.iload 9, 2) := by decide +kernel
theorem d_Wa_price_153 : decode prog_1_method_30_code 153 = .ok (.istore 6, 2) := by decide +kernel
theorem d_Wa_price_155 : decode prog_1_method_30_code 155 = .ok (.iload 10, 2) := by decide +kernel
theorem d_Wa_price_157 : decode prog_1_method_30_code 157 = .ok (.istore 7, 2) := by decide +kernel
theorem d_Wa_price_159 : decode prog_1_method_30_code 159 = .ok (.iinc 8 1, 3) := by decide +kernel
theorem d_Wa_price_162 : decode prog_1_method_30_code 162 = .ok (.goto (-96), 3) := by decide +kernel
theorem d_Wa_price_165 : decode prog_1_method_30_code 165 = .ok (.lload 4, 2) := by decide +kernel
theorem d_Wa_price_167 : decode prog_1_method_30_code 167 = .ok (.lreturn, 1) := by decide +kernel
def wb_Wa_price_107 (po : Option Value → Pic → Prop) (th : String → Pic → Prop) (K66 : Pic → Nat → Nat → Int32 → Int64 → Int32 → Int32 → Int32 → Prop) (P : Pic) (a0 : Nat) (a1 : Nat) (x3 : Int32) (w4 : Int64) (x6 : Int32) (x7 : Int32) (x8 : Int32) (t0 : Int32) : Prop := p_k P a1 = 4 ∧ wp_Cu_count (cp_i fun x129 _ => p_k P a0 = 1 ∧ ∃ a131, p_r P 2 a0 = some a131 ∧ p_k P a131 = 14 ∧ wp_Ar_get (cp_a fun a133 _ => p_k P a133 = 11 ∧ wp_Ta_cost (cp_l fun w135 _ => ∀ (w136 : Int64), w136 = (w4 + w135) → ∀ (x137 : Int32), x137 = x8 + 1 → K66 P a0 a1 x3 w136 t0 x129 x137) th P a133 (Int32.toInt64 (t0 - x6)) (Int32.toInt64 (x129 - x7))) th P a131 (x8 - (1 : Int32))) th P a1 t0
def wb_Wa_price_66 (po : Option Value → Pic → Prop) (th : String → Pic → Prop) (K66 : Pic → Nat → Nat → Int32 → Int64 → Int32 → Int32 → Int32 → Prop) (P : Pic) (a0 : Nat) (a1 : Nat) (x3 : Int32) (w4 : Int64) (x6 : Int32) (x7 : Int32) (x8 : Int32) : Prop := ((x3 ≤ x6 → (po (some (.long w4)) P)) ∧ (¬ x3 ≤ x6 → (p_k P a0 = 1 ∧ ∃ a117, p_r P 2 a0 = some a117 ∧ p_k P a117 = 14 ∧ wp_Ar_size (cp_i fun x119 _ => ((x119 ≤ x8 → (wb_Wa_price_107 po th K66 P a0 a1 x3 w4 x6 x7 x8 x3)) ∧ (¬ x119 ≤ x8 → (∃ a120, p_r P 2 a0 = some a120 ∧ p_k P a120 = 14 ∧ wp_Ar_get (cp_a fun a122 _ => p_k P a122 = 11 ∧ wp_Ta_day (cp_i fun x124 _ => wp_Ma_min (cp_i fun x125 _ => wb_Wa_price_107 po th K66 P a0 a1 x3 w4 x6 x7 x8 x125) th P x3 x124) th P a122) th P a120 x8)))) th P a117)))
def wl_Wa_price_66 (po : Option Value → Pic → Prop) (th : String → Pic → Prop) : Nat → Pic → Nat → Nat → Int32 → Int64 → Int32 → Int32 → Int32 → Prop
  | 0 => fun _ _ _ _ _ _ _ _ => False
  | n + 1 => wb_Wa_price_66 po th (wl_Wa_price_66 po th n)
def wb_Wa_price_63 (po : Option Value → Pic → Prop) (th : String → Pic → Prop) (P : Pic) (a0 : Nat) (a1 : Nat) (x3 : Int32) (w4 : Int64) (x6 : Int32) (x7 : Int32) (x8 : Int32) (t0 : Int32) : Prop := wp_Wa_is (cp_v fun _ => wl_Wa_price_66 po th 10 P a0 a1 x3 w4 x6 x7 x8) th P t0
def wb_Wa_price_53 (po : Option Value → Pic → Prop) (th : String → Pic → Prop) (P : Pic) (a0 : Nat) (a1 : Nat) (x3 : Int32) (w4 : Int64) (x6 : Int32) (x7 : Int32) (x8 : Int32) : Prop := ((x8 ≤ 0 → (wb_Wa_price_63 po th P a0 a1 x3 w4 x6 x7 x8 (0 : Int32))) ∧ (¬ x8 ≤ 0 → (wb_Wa_price_63 po th P a0 a1 x3 w4 x6 x7 x8 (1 : Int32))))
def wb_Wa_price_16 (po : Option Value → Pic → Prop) (th : String → Pic → Prop) (K16 : Pic → Nat → Nat → Int32 → Int32 → Int64 → Int32 → Int32 → Int32 → Prop) (P : Pic) (a0 : Nat) (a1 : Nat) (x2 : Int32) (x3 : Int32) (w4 : Int64) (x6 : Int32) (x7 : Int32) (x8 : Int32) : Prop := p_k P a0 = 1 ∧ ∃ a104, p_r P 2 a0 = some a104 ∧ p_k P a104 = 14 ∧ wp_Ar_size (cp_i fun x106 _ => ((x106 ≤ x8 → (wb_Wa_price_53 po th P a0 a1 x3 w4 x6 x7 x8)) ∧ (¬ x106 ≤ x8 → (∃ a107, p_r P 2 a0 = some a107 ∧ p_k P a107 = 14 ∧ wp_Ar_get (cp_a fun a109 _ => p_k P a109 = 11 ∧ wp_Ta_day (cp_i fun x111 _ => ((x2 < x111 → (wb_Wa_price_53 po th P a0 a1 x3 w4 x6 x7 x8)) ∧ (¬ x2 < x111 → (∀ (x112 : Int32), x112 = x8 + 1 → K16 P a0 a1 x2 x3 w4 x6 x7 x112)))) th P a109) th P a107 x8)))) th P a104
def wl_Wa_price_16 (po : Option Value → Pic → Prop) (th : String → Pic → Prop) : Nat → Pic → Nat → Nat → Int32 → Int32 → Int64 → Int32 → Int32 → Int32 → Prop
  | 0 => fun _ _ _ _ _ _ _ _ _ => False
  | n + 1 => wb_Wa_price_16 po th (wl_Wa_price_16 po th n)
def wp_Wa_price (po : Option Value → Pic → Prop) (th : String → Pic → Prop) (P : Pic) (a0 : Nat) (a1 : Nat) (x2 : Int32) (x3 : Int32) : Prop := p_k P a1 = 4 ∧ wp_Cu_count (cp_i fun x102 _ => ∃ n, wl_Wa_price_16 po th n P a0 a1 x2 x3 (0 : Int64) x2 x102 (0 : Int32)) th P a1 x2
set_option maxHeartbeats 4000000 in
set_option maxRecDepth 100000 in
theorem wk_Wa_price_107 {p : Program} {l : Launch} {e : Env} {s : State} {m : MethodId} {args : Array Value} {below : List Frame} {meth : Method} {c : Code} {D : pq_D} {P : Pic} {po : Option Value → Pic → Prop} {th : String → Pic → Prop} {K66 : Pic → Nat → Nat → Int32 → Int64 → Int32 → Int32 → Int32 → Prop} {zc zs : Nat} (hfl : l.flags = flags0) (C : Cx p e s m args meth c prog_1_method_30_code 11 "WaterWorks" D P) (hmg : e.platform.magicAccessors = ({} : Platform).magicAccessors) (hr : meth.sig.returnType = (some .long)) (hin : meth.name = "price") (htab : c.exceptionTable.toList = tableOf []) (HK66 : ∀ (a0 : Nat) (a1 : Nat) (x3 : Int32) (w4 : Int64) (x6 : Int32) (x7 : Int32) (x8 : Int32) (H : Heap) (cells slots : Nat) (ls : Array Slot), K66 P a0 a1 x3 w4 x6 x7 x8 → So s.heap H → lv_has ls 11 [(0, .ref a0), (1, .ref a1), (3, .int x3), (4, .long w4), (6, .int x6), (7, .int x7), (8, .int x8)] → cells + zc + 1 ≤ 13 → slots + zs + 6 ≤ 78 → W p l e rm_Wa_price s m args below meth c H [] cells slots (mt_MQ below (cq_Q D P true po th) args s 13 78 (cq_free P true)) (F0 m 66 ls [])) : ∀ (a0 : Nat) (a1 : Nat) (x3 : Int32) (w4 : Int64) (x6 : Int32) (x7 : Int32) (x8 : Int32) (t0 : Int32) (H : Heap) (cells slots : Nat) (ls : Array Slot), wb_Wa_price_107 po th K66 P a0 a1 x3 w4 x6 x7 x8 t0 → So s.heap H → lv_has ls 11 [(0, .ref a0), (1, .ref a1), (3, .int x3), (4, .long w4), (6, .int x6), (7, .int x7), (8, .int x8)] → cells + zc + 2 ≤ 13 → slots + zs + 12 ≤ 78 → W p l e rm_Wa_price s m args below meth c H [] cells slots (mt_MQ below (cq_Q D P true po th) args s 13 78 (cq_free P true)) (F0 m 107 ls [.int t0]) := by
  intro a0 a1 x3 w4 x6 x7 x8 t0 H cells slots ls h hO hl hcc hss
  obtain ⟨hx, hb, hml, hown, hlocks, htr, hT, hK, hSt, hN, hP0⟩ := id C
  have L25_0 : pq_fl s m args 25 0 2 := ⟨_, "WaterWorks", "WaterWorks", rfl, by decide, hown, Or.inl (hT _ k_452 _), (fun _ z => z)⟩
  have hP : Pi D P H := So.pi hP0 hO
  unfold wb_Wa_price_107 at h
  refine lv_istore (pc := 107) (lv' := [(9, .int t0), (0, .ref a0), (1, .ref a1), (3, .int x3), (4, .long w4), (6, .int x6), (7, .int x7), (8, .int x8)]) hx hb d_Wa_price_107 hl (by decide) rfl (fun ls hl => ?_)
  refine lv_aload_n (pc := 109) hx hb d_Wa_price_109 rfl (lv_at hl 2 rfl) ?_
  refine lv_iload (pc := 110) hx hb d_Wa_price_110 (lv_at hl 0 rfl) ?_
  obtain ⟨hk128, h⟩ := h
  refine co_i (pc := 112) C (rest := []) (mt_invV (As := [.int t0]) hx hb hown (hT _ k_960 _) (hT _ k_961 _) (hT _ k_962 _) (mt_Cd.code (hT _ k_963 #[])) h_Cu_count (pq_recv hK hP hk128 rfl) n_Cu_count rfl d_Wa_price_112) (ct_Cu_count hfl D h) k_963 k_31 ⟨Nat.le_of_ble_eq_true rfl, Nat.le_of_ble_eq_true rfl⟩ ⟨(show cells + 1 ≤ 13 by omega), (show slots + 6 ≤ 78 by omega)⟩ hl.1 d_Wa_price_112 (Nat.le_of_ble_eq_true rfl) hO (fun x129 H h hO => ?_) (fun xx X H h hX hex hO => ?_)
  · have hP : Pi D P H := So.pi hP0 hO
    refine lv_istore (pc := 115) (lv' := [(10, .int x129), (9, .int t0), (0, .ref a0), (1, .ref a1), (3, .int x3), (4, .long w4), (6, .int x6), (7, .int x7), (8, .int x8)]) hx hb d_Wa_price_115 hl (by decide) rfl (fun ls hl => ?_)
    refine lv_lload (pc := 117) hx hb d_Wa_price_117 (lv_at hl 5 rfl) ?_
    refine lv_aload_n (pc := 119) hx hb d_Wa_price_119 rfl (lv_at hl 2 rfl) ?_
    obtain ⟨hk130, h⟩ := h
    obtain ⟨a131, ea131, h⟩ := h
    refine pq_geta (pc := 120) (f := 2) hx hb hT hK hP L25_0 hk130 rfl ea131 d_Wa_price_120 ?_
    refine lv_iload (pc := 123) hx hb d_Wa_price_123 (lv_at hl 8 rfl) ?_
    refine lv_iconst (pc := 125) (v := 1) hx hb d_Wa_price_125 (by decide) ?_
    refine lv_isub (pc := 126) hx hb d_Wa_price_126 ?_
    obtain ⟨hk132, h⟩ := h
    refine co_a (pc := 127) C (rest := [.long w4]) (mt_invV (As := [.int (x8 - (1 : Int32))]) hx hb hown (hT _ k_606 _) (hT _ k_607 _) (hT _ k_608 _) (mt_Cd.code (hT _ k_609 #[])) h_Ar_get (pq_recv hK hP hk132 rfl) n_Ar_get rfl d_Wa_price_127) (ct_Ar_get hfl D h) k_609 k_5 ⟨Nat.le_of_ble_eq_true rfl, Nat.le_of_ble_eq_true rfl⟩ ⟨(show cells + 1 + 0 ≤ 13 by omega), (show slots + 6 + 0 ≤ 78 by omega)⟩ hl.1 d_Wa_price_127 (Nat.le_of_ble_eq_true rfl) hO (fun a133 H h hO => ?_) (fun xx X H h hX hex hO => ?_)
    · have hP : Pi D P H := So.pi hP0 hO
      obtain ⟨hk134, h⟩ := h
      refine pq_cast (pc := 130) hx hb hT hK hP hown k_982 hk134 rfl k_1355 d_Wa_price_130 ?_
      refine lv_iload (pc := 133) hx hb d_Wa_price_133 (lv_at hl 1 rfl) ?_
      refine lv_iload (pc := 135) hx hb d_Wa_price_135 (lv_at hl 6 rfl) ?_
      refine lv_isub (pc := 137) hx hb d_Wa_price_137 ?_
      refine lv_i2l (pc := 138) hx hb d_Wa_price_138 rfl ?_
      refine lv_iload (pc := 139) hx hb d_Wa_price_139 (lv_at hl 0 rfl) ?_
      refine lv_iload (pc := 141) hx hb d_Wa_price_141 (lv_at hl 7 rfl) ?_
      refine lv_isub (pc := 143) hx hb d_Wa_price_143 ?_
      refine lv_i2l (pc := 144) hx hb d_Wa_price_144 rfl ?_
      refine co_l (pc := 145) C (rest := [.long w4]) (mt_invV (As := [.long (Int32.toInt64 (t0 - x6)), .long (Int32.toInt64 (x129 - x7))]) hx hb hown (hT _ k_1043 _) (hT _ k_1044 _) (hT _ k_1045 _) (mt_Cd.code (hT _ k_1046 #[])) h_Ta_cost (pq_recv hK hP hk134 rfl) n_Ta_cost rfl d_Wa_price_145) (ct_Ta_cost hfl D h) k_1046 k_35 ⟨Nat.le_of_ble_eq_true rfl, Nat.le_of_ble_eq_true rfl⟩ ⟨(show cells + 1 + 0 + 0 ≤ 13 by omega), (show slots + 6 + 0 + 0 ≤ 78 by omega)⟩ hl.1 d_Wa_price_145 (Nat.le_of_ble_eq_true rfl) hO (fun w135 H h hO => ?_) (fun xx X H h hX hex hO => ?_)
      · have hP : Pi D P H := So.pi hP0 hO
        refine lv_ladd (pc := 148) hx hb d_Wa_price_148 ?_
        refine lv_topl (fun w136 ew136 => ?_)
        replace h := h w136 ew136
        refine lv_lstore (pc := 149) (lv' := [(4, .long w136), (10, .int x129), (9, .int t0), (0, .ref a0), (1, .ref a1), (3, .int x3), (6, .int x6), (7, .int x7), (8, .int x8)]) hx hb d_Wa_price_149 hl (by decide) rfl (fun ls hl => ?_)
        refine lv_iload (pc := 151) hx hb d_Wa_price_151 (lv_at hl 2 rfl) ?_
        refine lv_istore (pc := 153) (lv' := [(6, .int t0), (4, .long w136), (10, .int x129), (9, .int t0), (0, .ref a0), (1, .ref a1), (3, .int x3), (7, .int x7), (8, .int x8)]) hx hb d_Wa_price_153 hl (by decide) rfl (fun ls hl => ?_)
        refine lv_iload (pc := 155) hx hb d_Wa_price_155 (lv_at hl 2 rfl) ?_
        refine lv_istore (pc := 157) (lv' := [(7, .int x129), (6, .int t0), (4, .long w136), (10, .int x129), (9, .int t0), (0, .ref a0), (1, .ref a1), (3, .int x3), (8, .int x8)]) hx hb d_Wa_price_157 hl (by decide) rfl (fun ls hl => ?_)
        obtain ⟨x137, ex137⟩ : ∃ z : Int32, z = x8 + 1 := ⟨_, rfl⟩
        replace h := h x137 ex137
        refine lv_iinc (pc := 159) (v := x137) (lv' := [(8, .int x137), (7, .int x129), (6, .int t0), (4, .long w136), (10, .int x129), (9, .int t0), (0, .ref a0), (1, .ref a1), (3, .int x3)]) hx hb d_Wa_price_159 hl (k := 8) rfl (by rw [ex137]; rfl) (by decide) rfl (fun ls hl => ?_)
        refine lv_goto (pc := 162) (tgt := 66) hx hb d_Wa_price_162 (by decide) ?_
        exact HK66 a0 a1 x3 w136 t0 x129 x137 _ _ _ _ h hO (lv_sub hl [6, 7, 8, 3, 2, 1, 0] rfl) (show cells + 1 + 0 + 0 + zc + 1 ≤ 13 by omega) (show slots + 6 + 0 + 0 + zs + 6 ≤ 78 by omega)
      · exact cq_outo hlocks (pq_nil htab rfl) (show cells + 1 + 0 + 0 + 0 ≤ 13 by omega) (show slots + 6 + 0 + 0 + 0 ≤ 78 by omega) hX hex hP0 hO h
    · exact cq_outo hlocks (pq_nil htab rfl) (show cells + 1 + 0 + 0 ≤ 13 by omega) (show slots + 6 + 0 + 0 ≤ 78 by omega) hX hex hP0 hO h
  · exact cq_outo hlocks (pq_nil htab rfl) (show cells + 1 + 0 ≤ 13 by omega) (show slots + 6 + 0 ≤ 78 by omega) hX hex hP0 hO h
set_option maxHeartbeats 4000000 in
set_option maxRecDepth 100000 in
theorem wk_Wa_price_66 {p : Program} {l : Launch} {e : Env} {s : State} {m : MethodId} {args : Array Value} {below : List Frame} {meth : Method} {c : Code} {D : pq_D} {P : Pic} {po : Option Value → Pic → Prop} {th : String → Pic → Prop} {K66 : Pic → Nat → Nat → Int32 → Int64 → Int32 → Int32 → Int32 → Prop} {zc zs : Nat} (hfl : l.flags = flags0) (C : Cx p e s m args meth c prog_1_method_30_code 11 "WaterWorks" D P) (hmg : e.platform.magicAccessors = ({} : Platform).magicAccessors) (hr : meth.sig.returnType = (some .long)) (hin : meth.name = "price") (htab : c.exceptionTable.toList = tableOf []) (HK66 : ∀ (a0 : Nat) (a1 : Nat) (x3 : Int32) (w4 : Int64) (x6 : Int32) (x7 : Int32) (x8 : Int32) (H : Heap) (cells slots : Nat) (ls : Array Slot), K66 P a0 a1 x3 w4 x6 x7 x8 → So s.heap H → lv_has ls 11 [(0, .ref a0), (1, .ref a1), (3, .int x3), (4, .long w4), (6, .int x6), (7, .int x7), (8, .int x8)] → cells + zc + 1 ≤ 13 → slots + zs + 6 ≤ 78 → W p l e rm_Wa_price s m args below meth c H [] cells slots (mt_MQ below (cq_Q D P true po th) args s 13 78 (cq_free P true)) (F0 m 66 ls [])) : ∀ (a0 : Nat) (a1 : Nat) (x3 : Int32) (w4 : Int64) (x6 : Int32) (x7 : Int32) (x8 : Int32) (H : Heap) (cells slots : Nat) (ls : Array Slot), wb_Wa_price_66 po th K66 P a0 a1 x3 w4 x6 x7 x8 → So s.heap H → lv_has ls 11 [(0, .ref a0), (1, .ref a1), (3, .int x3), (4, .long w4), (6, .int x6), (7, .int x7), (8, .int x8)] → cells + zc + 2 ≤ 13 → slots + zs + 12 ≤ 78 → W p l e rm_Wa_price s m args below meth c H [] cells slots (mt_MQ below (cq_Q D P true po th) args s 13 78 (cq_free P true)) (F0 m 66 ls []) := by
  intro a0 a1 x3 w4 x6 x7 x8 H cells slots ls h hO hl hcc hss
  obtain ⟨hx, hb, hml, hown, hlocks, htr, hT, hK, hSt, hN, hP0⟩ := id C
  have L25_0 : pq_fl s m args 25 0 2 := ⟨_, "WaterWorks", "WaterWorks", rfl, by decide, hown, Or.inl (hT _ k_452 _), (fun _ z => z)⟩
  have hP : Pi D P H := So.pi hP0 hO
  unfold wb_Wa_price_66 at h
  refine lv_iload (pc := 66) hx hb d_Wa_price_66 (lv_at hl 4 rfl) ?_
  refine lv_iload_n (pc := 68) hx hb d_Wa_price_68 rfl (lv_at hl 2 rfl) ?_
  refine lv_icmp_ge (pc := 69) (tgt := 165) hx hb d_Wa_price_69 (by decide) (fun c127 => ?_) (fun c127 => ?_)
  · replace h := h.1 c127
    refine lv_lload (pc := 165) hx hb d_Wa_price_165 (lv_at hl 3 rfl) ?_
    exact wo_l (pc := 167) hx hb hlocks hr hP0 hO (show cells + 0 ≤ 13 by omega) (show slots + 0 ≤ 78 by omega) h d_Wa_price_167
  · replace h := h.2 c127
    refine lv_iload (pc := 72) hx hb d_Wa_price_72 (lv_at hl 6 rfl) ?_
    refine lv_aload_n (pc := 74) hx hb d_Wa_price_74 rfl (lv_at hl 0 rfl) ?_
    obtain ⟨hk116, h⟩ := h
    obtain ⟨a117, ea117, h⟩ := h
    refine pq_geta (pc := 75) (f := 2) hx hb hT hK hP L25_0 hk116 rfl ea117 d_Wa_price_75 ?_
    obtain ⟨hk118, h⟩ := h
    refine co_i (pc := 78) C (rest := [.int x8]) (mt_invV (As := []) hx hb hown (hT _ k_471 _) (hT _ k_472 _) (hT _ k_473 _) (mt_Cd.code (hT _ k_474 #[])) h_Ar_size (pq_recv hK hP hk118 rfl) n_Ar_size rfl d_Wa_price_78) (ct_Ar_size hfl D h) k_474 k_5 ⟨Nat.le_of_ble_eq_true rfl, Nat.le_of_ble_eq_true rfl⟩ ⟨(show cells + 0 ≤ 13 by omega), (show slots + 0 ≤ 78 by omega)⟩ hl.1 d_Wa_price_78 (Nat.le_of_ble_eq_true rfl) hO (fun x119 H h hO => ?_) (fun xx X H h hX hex hO => ?_)
    · have hP : Pi D P H := So.pi hP0 hO
      refine lv_icmp_ge (pc := 81) (tgt := 106) hx hb d_Wa_price_81 (by decide) (fun c126 => ?_) (fun c126 => ?_)
      · replace h := h.1 c126
        refine lv_iload_n (pc := 106) hx hb d_Wa_price_106 rfl (lv_at hl 2 rfl) ?_
        exact wk_Wa_price_107 hfl C hmg hr hin htab HK66 a0 a1 x3 w4 x6 x7 x8 x3 _ _ _ _ h hO (lv_sub hl [0, 1, 2, 3, 4, 5, 6] rfl) (show cells + 0 + zc + 2 ≤ 13 by omega) (show slots + 0 + zs + 12 ≤ 78 by omega)
      · replace h := h.2 c126
        refine lv_iload_n (pc := 84) hx hb d_Wa_price_84 rfl (lv_at hl 2 rfl) ?_
        refine lv_aload_n (pc := 85) hx hb d_Wa_price_85 rfl (lv_at hl 0 rfl) ?_
        obtain ⟨a120, ea120, h⟩ := h
        refine pq_geta (pc := 86) (f := 2) hx hb hT hK hP L25_0 hk116 rfl ea120 d_Wa_price_86 ?_
        refine lv_iload (pc := 89) hx hb d_Wa_price_89 (lv_at hl 6 rfl) ?_
        obtain ⟨hk121, h⟩ := h
        refine co_a (pc := 91) C (rest := [.int x3]) (mt_invV (As := [.int x8]) hx hb hown (hT _ k_606 _) (hT _ k_607 _) (hT _ k_608 _) (mt_Cd.code (hT _ k_609 #[])) h_Ar_get (pq_recv hK hP hk121 rfl) n_Ar_get rfl d_Wa_price_91) (ct_Ar_get hfl D h) k_609 k_5 ⟨Nat.le_of_ble_eq_true rfl, Nat.le_of_ble_eq_true rfl⟩ ⟨(show cells + 0 + 0 ≤ 13 by omega), (show slots + 0 + 0 ≤ 78 by omega)⟩ hl.1 d_Wa_price_91 (Nat.le_of_ble_eq_true rfl) hO (fun a122 H h hO => ?_) (fun xx X H h hX hex hO => ?_)
        · have hP : Pi D P H := So.pi hP0 hO
          obtain ⟨hk123, h⟩ := h
          refine pq_cast (pc := 94) hx hb hT hK hP hown k_982 hk123 rfl k_1355 d_Wa_price_94 ?_
          refine co_i (pc := 97) C (rest := [.int x3]) (mt_invV (As := []) hx hb hown (hT _ k_1001 _) (hT _ k_1002 _) (hT _ k_1003 _) (mt_Cd.code (hT _ k_1004 #[])) h_Ta_day (pq_recv hK hP hk123 rfl) n_Ta_day rfl d_Wa_price_97) (ct_Ta_day hfl D h) k_1004 k_35 ⟨Nat.le_of_ble_eq_true rfl, Nat.le_of_ble_eq_true rfl⟩ ⟨(show cells + 0 + 0 + 0 ≤ 13 by omega), (show slots + 0 + 0 + 0 ≤ 78 by omega)⟩ hl.1 d_Wa_price_97 (Nat.le_of_ble_eq_true rfl) hO (fun x124 H h hO => ?_) (fun xx X H h hX hex hO => ?_)
          · have hP : Pi D P H := So.pi hP0 hO
            refine co_i (pc := 100) C (rest := []) (mt_invS (As := [.int x3, .int x124]) hx hb hown (hT _ k_1042 _) (hT _ k_183 _) (hT _ k_15 _) (mt_Cd.code (hT _ k_184 #[])) h_Ma_min n_Ma_min rfl d_Wa_price_100) (ct_Ma_min hfl D h) k_184 k_15 ⟨Nat.le_of_ble_eq_true rfl, Nat.le_of_ble_eq_true rfl⟩ ⟨(show cells + 0 + 0 + 0 + 0 ≤ 13 by omega), (show slots + 0 + 0 + 0 + 0 ≤ 78 by omega)⟩ hl.1 d_Wa_price_100 (Nat.le_of_ble_eq_true rfl) hO (fun x125 H h hO => ?_) (fun xx X H h hX hex hO => ?_)
            · have hP : Pi D P H := So.pi hP0 hO
              refine lv_goto (pc := 103) (tgt := 107) hx hb d_Wa_price_103 (by decide) ?_
              exact wk_Wa_price_107 hfl C hmg hr hin htab HK66 a0 a1 x3 w4 x6 x7 x8 x125 _ _ _ _ h hO (lv_sub hl [0, 1, 2, 3, 4, 5, 6] rfl) (show cells + 0 + 0 + 0 + 0 + zc + 2 ≤ 13 by omega) (show slots + 0 + 0 + 0 + 0 + zs + 12 ≤ 78 by omega)
            · exact cq_outo hlocks (pq_nil htab rfl) (show cells + 0 + 0 + 0 + 0 + 0 ≤ 13 by omega) (show slots + 0 + 0 + 0 + 0 + 0 ≤ 78 by omega) hX hex hP0 hO h
          · exact cq_outo hlocks (pq_nil htab rfl) (show cells + 0 + 0 + 0 + 0 ≤ 13 by omega) (show slots + 0 + 0 + 0 + 0 ≤ 78 by omega) hX hex hP0 hO h
        · exact cq_outo hlocks (pq_nil htab rfl) (show cells + 0 + 0 + 0 ≤ 13 by omega) (show slots + 0 + 0 + 0 ≤ 78 by omega) hX hex hP0 hO h
    · exact cq_outo hlocks (pq_nil htab rfl) (show cells + 0 + 0 ≤ 13 by omega) (show slots + 0 + 0 ≤ 78 by omega) hX hex hP0 hO h
theorem wm_Wa_price_66 {p : Program} {l : Launch} {e : Env} {s : State} {m : MethodId} {args : Array Value} {below : List Frame} {meth : Method} {c : Code} {D : pq_D} {P : Pic} {po : Option Value → Pic → Prop} {th : String → Pic → Prop} (hfl : l.flags = flags0) (C : Cx p e s m args meth c prog_1_method_30_code 11 "WaterWorks" D P) (hmg : e.platform.magicAccessors = ({} : Platform).magicAccessors) (hr : meth.sig.returnType = (some .long)) (hin : meth.name = "price") (htab : c.exceptionTable.toList = tableOf []) : ∀ n : Nat, ∀ (a0 : Nat) (a1 : Nat) (x3 : Int32) (w4 : Int64) (x6 : Int32) (x7 : Int32) (x8 : Int32) (H : Heap) (cells slots : Nat) (ls : Array Slot), wl_Wa_price_66 po th n P a0 a1 x3 w4 x6 x7 x8 → So s.heap H → lv_has ls 11 [(0, .ref a0), (1, .ref a1), (3, .int x3), (4, .long w4), (6, .int x6), (7, .int x7), (8, .int x8)] → cells + n * 1 + 1 ≤ 13 → slots + n * 6 + 6 ≤ 78 → W p l e rm_Wa_price s m args below meth c H [] cells slots (mt_MQ below (cq_Q D P true po th) args s 13 78 (cq_free P true)) (F0 m 66 ls []) := by
  intro n
  induction n with
  | zero => intro a0 a1 x3 w4 x6 x7 x8 H cells slots ls h; exact h.elim
  | succ n ih => exact fun a0 a1 x3 w4 x6 x7 x8 H cells slots ls h hO hl hcc hss => wk_Wa_price_66 (zc := n * 1) (zs := n * 6) hfl C hmg hr hin htab ih a0 a1 x3 w4 x6 x7 x8 H cells slots ls h hO hl (by omega) (by omega)
set_option maxHeartbeats 4000000 in
set_option maxRecDepth 100000 in
theorem wk_Wa_price_63 {p : Program} {l : Launch} {e : Env} {s : State} {m : MethodId} {args : Array Value} {below : List Frame} {meth : Method} {c : Code} {D : pq_D} {P : Pic} {po : Option Value → Pic → Prop} {th : String → Pic → Prop} (hfl : l.flags = flags0) (C : Cx p e s m args meth c prog_1_method_30_code 11 "WaterWorks" D P) (hmg : e.platform.magicAccessors = ({} : Platform).magicAccessors) (hr : meth.sig.returnType = (some .long)) (hin : meth.name = "price") (htab : c.exceptionTable.toList = tableOf []) : ∀ (a0 : Nat) (a1 : Nat) (x3 : Int32) (w4 : Int64) (x6 : Int32) (x7 : Int32) (x8 : Int32) (t0 : Int32) (H : Heap) (cells slots : Nat) (ls : Array Slot), wb_Wa_price_63 po th P a0 a1 x3 w4 x6 x7 x8 t0 → So s.heap H → lv_has ls 11 [(0, .ref a0), (1, .ref a1), (3, .int x3), (4, .long w4), (6, .int x6), (7, .int x7), (8, .int x8)] → cells + 12 ≤ 13 → slots + 72 ≤ 78 → W p l e rm_Wa_price s m args below meth c H [] cells slots (mt_MQ below (cq_Q D P true po th) args s 13 78 (cq_free P true)) (F0 m 63 ls [.int t0]) := by
  intro a0 a1 x3 w4 x6 x7 x8 t0 H cells slots ls h hO hl hcc hss
  obtain ⟨hx, hb, hml, hown, hlocks, htr, hT, hK, hSt, hN, hP0⟩ := id C
  have L25_0 : pq_fl s m args 25 0 2 := ⟨_, "WaterWorks", "WaterWorks", rfl, by decide, hown, Or.inl (hT _ k_452 _), (fun _ z => z)⟩
  have hP : Pi D P H := So.pi hP0 hO
  unfold wb_Wa_price_63 at h
  refine co_v (pc := 63) C (rest := []) (mt_invS (As := [.int t0]) hx hb hown (hT _ k_725 _) (hT _ k_726 _) (hT _ k_1 _) (mt_Cd.code (hT _ k_727 #[])) h_Wa_is n_Wa_is rfl d_Wa_price_63) (ct_Wa_is hfl D h) k_727 k_1 ⟨Nat.le_of_ble_eq_true rfl, Nat.le_of_ble_eq_true rfl⟩ ⟨(show cells + 1 ≤ 13 by omega), (show slots + 6 ≤ 78 by omega)⟩ hl.1 d_Wa_price_63 (Nat.le_of_ble_eq_true rfl) hO (fun H h hO => ?_) (fun xx X H h hX hex hO => ?_)
  · have hP : Pi D P H := So.pi hP0 hO
    exact wm_Wa_price_66 hfl C hmg hr hin htab 10 a0 a1 x3 w4 x6 x7 x8 _ _ _ _ h hO (lv_sub hl [0, 1, 2, 3, 4, 5, 6] rfl) (show cells + 1 + 10 * 1 + 1 ≤ 13 by omega) (show slots + 6 + 10 * 6 + 6 ≤ 78 by omega)
  · exact cq_outo hlocks (pq_nil htab rfl) (show cells + 1 + 0 ≤ 13 by omega) (show slots + 6 + 0 ≤ 78 by omega) hX hex hP0 hO h
set_option maxHeartbeats 4000000 in
set_option maxRecDepth 100000 in
theorem wk_Wa_price_53 {p : Program} {l : Launch} {e : Env} {s : State} {m : MethodId} {args : Array Value} {below : List Frame} {meth : Method} {c : Code} {D : pq_D} {P : Pic} {po : Option Value → Pic → Prop} {th : String → Pic → Prop} (hfl : l.flags = flags0) (C : Cx p e s m args meth c prog_1_method_30_code 11 "WaterWorks" D P) (hmg : e.platform.magicAccessors = ({} : Platform).magicAccessors) (hr : meth.sig.returnType = (some .long)) (hin : meth.name = "price") (htab : c.exceptionTable.toList = tableOf []) : ∀ (a0 : Nat) (a1 : Nat) (x3 : Int32) (w4 : Int64) (x6 : Int32) (x7 : Int32) (x8 : Int32) (H : Heap) (cells slots : Nat) (ls : Array Slot), wb_Wa_price_53 po th P a0 a1 x3 w4 x6 x7 x8 → So s.heap H → lv_has ls 11 [(0, .ref a0), (1, .ref a1), (3, .int x3), (4, .long w4), (6, .int x6), (7, .int x7), (8, .int x8)] → cells + 12 ≤ 13 → slots + 72 ≤ 78 → W p l e rm_Wa_price s m args below meth c H [] cells slots (mt_MQ below (cq_Q D P true po th) args s 13 78 (cq_free P true)) (F0 m 53 ls []) := by
  intro a0 a1 x3 w4 x6 x7 x8 H cells slots ls h hO hl hcc hss
  obtain ⟨hx, hb, hml, hown, hlocks, htr, hT, hK, hSt, hN, hP0⟩ := id C
  have L25_0 : pq_fl s m args 25 0 2 := ⟨_, "WaterWorks", "WaterWorks", rfl, by decide, hown, Or.inl (hT _ k_452 _), (fun _ z => z)⟩
  have hP : Pi D P H := So.pi hP0 hO
  unfold wb_Wa_price_53 at h
  refine lv_iload (pc := 53) hx hb d_Wa_price_53 (lv_at hl 6 rfl) ?_
  refine lv_if_le (pc := 55) (tgt := 62) hx hb d_Wa_price_55 (by decide) (fun c115 => ?_) (fun c115 => ?_)
  · replace h := h.1 c115
    refine lv_iconst (pc := 62) (v := 0) hx hb d_Wa_price_62 (by decide) ?_
    exact wk_Wa_price_63 hfl C hmg hr hin htab a0 a1 x3 w4 x6 x7 x8 (0 : Int32) _ _ _ _ h hO (lv_sub hl [0, 1, 2, 3, 4, 5, 6] rfl) (show cells + 12 ≤ 13 by omega) (show slots + 72 ≤ 78 by omega)
  · replace h := h.2 c115
    refine lv_iconst (pc := 58) (v := 1) hx hb d_Wa_price_58 (by decide) ?_
    refine lv_goto (pc := 59) (tgt := 63) hx hb d_Wa_price_59 (by decide) ?_
    exact wk_Wa_price_63 hfl C hmg hr hin htab a0 a1 x3 w4 x6 x7 x8 (1 : Int32) _ _ _ _ h hO (lv_sub hl [0, 1, 2, 3, 4, 5, 6] rfl) (show cells + 12 ≤ 13 by omega) (show slots + 72 ≤ 78 by omega)
set_option maxHeartbeats 4000000 in
set_option maxRecDepth 100000 in
theorem wk_Wa_price_16 {p : Program} {l : Launch} {e : Env} {s : State} {m : MethodId} {args : Array Value} {below : List Frame} {meth : Method} {c : Code} {D : pq_D} {P : Pic} {po : Option Value → Pic → Prop} {th : String → Pic → Prop} {K16 : Pic → Nat → Nat → Int32 → Int32 → Int64 → Int32 → Int32 → Int32 → Prop} (hfl : l.flags = flags0) (C : Cx p e s m args meth c prog_1_method_30_code 11 "WaterWorks" D P) (hmg : e.platform.magicAccessors = ({} : Platform).magicAccessors) (hr : meth.sig.returnType = (some .long)) (hin : meth.name = "price") (htab : c.exceptionTable.toList = tableOf []) (HK16 : ∀ (a0 : Nat) (a1 : Nat) (x2 : Int32) (x3 : Int32) (w4 : Int64) (x6 : Int32) (x7 : Int32) (x8 : Int32) (H : Heap) (cells slots : Nat) (ls : Array Slot), K16 P a0 a1 x2 x3 w4 x6 x7 x8 → So s.heap H → lv_has ls 11 [(0, .ref a0), (1, .ref a1), (2, .int x2), (3, .int x3), (4, .long w4), (6, .int x6), (7, .int x7), (8, .int x8)] → cells + 12 ≤ 13 → slots + 72 ≤ 78 → W p l e rm_Wa_price s m args below meth c H [] cells slots (mt_MQ below (cq_Q D P true po th) args s 13 78 (cq_free P true)) (F0 m 16 ls [])) : ∀ (a0 : Nat) (a1 : Nat) (x2 : Int32) (x3 : Int32) (w4 : Int64) (x6 : Int32) (x7 : Int32) (x8 : Int32) (H : Heap) (cells slots : Nat) (ls : Array Slot), wb_Wa_price_16 po th K16 P a0 a1 x2 x3 w4 x6 x7 x8 → So s.heap H → lv_has ls 11 [(0, .ref a0), (1, .ref a1), (2, .int x2), (3, .int x3), (4, .long w4), (6, .int x6), (7, .int x7), (8, .int x8)] → cells + 12 ≤ 13 → slots + 72 ≤ 78 → W p l e rm_Wa_price s m args below meth c H [] cells slots (mt_MQ below (cq_Q D P true po th) args s 13 78 (cq_free P true)) (F0 m 16 ls []) := by
  intro a0 a1 x2 x3 w4 x6 x7 x8 H cells slots ls h hO hl hcc hss
  obtain ⟨hx, hb, hml, hown, hlocks, htr, hT, hK, hSt, hN, hP0⟩ := id C
  have L25_0 : pq_fl s m args 25 0 2 := ⟨_, "WaterWorks", "WaterWorks", rfl, by decide, hown, Or.inl (hT _ k_452 _), (fun _ z => z)⟩
  have hP : Pi D P H := So.pi hP0 hO
  unfold wb_Wa_price_16 at h
  refine lv_iload (pc := 16) hx hb d_Wa_price_16 (lv_at hl 7 rfl) ?_
  refine lv_aload_n (pc := 18) hx hb d_Wa_price_18 rfl (lv_at hl 0 rfl) ?_
  obtain ⟨hk103, h⟩ := h
  obtain ⟨a104, ea104, h⟩ := h
  refine pq_geta (pc := 19) (f := 2) hx hb hT hK hP L25_0 hk103 rfl ea104 d_Wa_price_19 ?_
  obtain ⟨hk105, h⟩ := h
  refine co_i (pc := 22) C (rest := [.int x8]) (mt_invV (As := []) hx hb hown (hT _ k_471 _) (hT _ k_472 _) (hT _ k_473 _) (mt_Cd.code (hT _ k_474 #[])) h_Ar_size (pq_recv hK hP hk105 rfl) n_Ar_size rfl d_Wa_price_22) (ct_Ar_size hfl D h) k_474 k_5 ⟨Nat.le_of_ble_eq_true rfl, Nat.le_of_ble_eq_true rfl⟩ ⟨(show cells + 0 ≤ 13 by omega), (show slots + 0 ≤ 78 by omega)⟩ hl.1 d_Wa_price_22 (Nat.le_of_ble_eq_true rfl) hO (fun x106 H h hO => ?_) (fun xx X H h hX hex hO => ?_)
  · have hP : Pi D P H := So.pi hP0 hO
    refine lv_icmp_ge (pc := 25) (tgt := 53) hx hb d_Wa_price_25 (by decide) (fun c114 => ?_) (fun c114 => ?_)
    · replace h := h.1 c114
      exact wk_Wa_price_53 hfl C hmg hr hin htab a0 a1 x3 w4 x6 x7 x8 _ _ _ _ h hO (lv_sub hl [0, 1, 3, 4, 5, 6, 7] rfl) (show cells + 0 + 12 ≤ 13 by omega) (show slots + 0 + 72 ≤ 78 by omega)
    · replace h := h.2 c114
      refine lv_aload_n (pc := 28) hx hb d_Wa_price_28 rfl (lv_at hl 0 rfl) ?_
      obtain ⟨a107, ea107, h⟩ := h
      refine pq_geta (pc := 29) (f := 2) hx hb hT hK hP L25_0 hk103 rfl ea107 d_Wa_price_29 ?_
      refine lv_iload (pc := 32) hx hb d_Wa_price_32 (lv_at hl 7 rfl) ?_
      obtain ⟨hk108, h⟩ := h
      refine co_a (pc := 34) C (rest := []) (mt_invV (As := [.int x8]) hx hb hown (hT _ k_606 _) (hT _ k_607 _) (hT _ k_608 _) (mt_Cd.code (hT _ k_609 #[])) h_Ar_get (pq_recv hK hP hk108 rfl) n_Ar_get rfl d_Wa_price_34) (ct_Ar_get hfl D h) k_609 k_5 ⟨Nat.le_of_ble_eq_true rfl, Nat.le_of_ble_eq_true rfl⟩ ⟨(show cells + 0 + 0 ≤ 13 by omega), (show slots + 0 + 0 ≤ 78 by omega)⟩ hl.1 d_Wa_price_34 (Nat.le_of_ble_eq_true rfl) hO (fun a109 H h hO => ?_) (fun xx X H h hX hex hO => ?_)
      · have hP : Pi D P H := So.pi hP0 hO
        obtain ⟨hk110, h⟩ := h
        refine pq_cast (pc := 37) hx hb hT hK hP hown k_982 hk110 rfl k_1355 d_Wa_price_37 ?_
        refine co_i (pc := 40) C (rest := []) (mt_invV (As := []) hx hb hown (hT _ k_1001 _) (hT _ k_1002 _) (hT _ k_1003 _) (mt_Cd.code (hT _ k_1004 #[])) h_Ta_day (pq_recv hK hP hk110 rfl) n_Ta_day rfl d_Wa_price_40) (ct_Ta_day hfl D h) k_1004 k_35 ⟨Nat.le_of_ble_eq_true rfl, Nat.le_of_ble_eq_true rfl⟩ ⟨(show cells + 0 + 0 + 0 ≤ 13 by omega), (show slots + 0 + 0 + 0 ≤ 78 by omega)⟩ hl.1 d_Wa_price_40 (Nat.le_of_ble_eq_true rfl) hO (fun x111 H h hO => ?_) (fun xx X H h hX hex hO => ?_)
        · have hP : Pi D P H := So.pi hP0 hO
          refine lv_iload_n (pc := 43) hx hb d_Wa_price_43 rfl (lv_at hl 2 rfl) ?_
          refine lv_icmp_gt (pc := 44) (tgt := 53) hx hb d_Wa_price_44 (by decide) (fun c113 => ?_) (fun c113 => ?_)
          · replace h := h.1 c113
            exact wk_Wa_price_53 hfl C hmg hr hin htab a0 a1 x3 w4 x6 x7 x8 _ _ _ _ h hO (lv_sub hl [0, 1, 3, 4, 5, 6, 7] rfl) (show cells + 0 + 0 + 0 + 12 ≤ 13 by omega) (show slots + 0 + 0 + 0 + 72 ≤ 78 by omega)
          · replace h := h.2 c113
            obtain ⟨x112, ex112⟩ : ∃ z : Int32, z = x8 + 1 := ⟨_, rfl⟩
            replace h := h x112 ex112
            refine lv_iinc (pc := 47) (v := x112) (lv' := [(8, .int x112), (0, .ref a0), (1, .ref a1), (2, .int x2), (3, .int x3), (4, .long w4), (6, .int x6), (7, .int x7)]) hx hb d_Wa_price_47 hl (k := 7) rfl (by rw [ex112]; rfl) (by decide) rfl (fun ls hl => ?_)
            refine lv_goto (pc := 50) (tgt := 16) hx hb d_Wa_price_50 (by decide) ?_
            exact HK16 a0 a1 x2 x3 w4 x6 x7 x112 _ _ _ _ h hO (lv_sub hl [1, 2, 3, 4, 5, 6, 7, 0] rfl) (show cells + 0 + 0 + 0 + 12 ≤ 13 by omega) (show slots + 0 + 0 + 0 + 72 ≤ 78 by omega)
        · exact cq_outo hlocks (pq_nil htab rfl) (show cells + 0 + 0 + 0 + 0 ≤ 13 by omega) (show slots + 0 + 0 + 0 + 0 ≤ 78 by omega) hX hex hP0 hO h
      · exact cq_outo hlocks (pq_nil htab rfl) (show cells + 0 + 0 + 0 ≤ 13 by omega) (show slots + 0 + 0 + 0 ≤ 78 by omega) hX hex hP0 hO h
  · exact cq_outo hlocks (pq_nil htab rfl) (show cells + 0 + 0 ≤ 13 by omega) (show slots + 0 + 0 ≤ 78 by omega) hX hex hP0 hO h
theorem wm_Wa_price_16 {p : Program} {l : Launch} {e : Env} {s : State} {m : MethodId} {args : Array Value} {below : List Frame} {meth : Method} {c : Code} {D : pq_D} {P : Pic} {po : Option Value → Pic → Prop} {th : String → Pic → Prop} (hfl : l.flags = flags0) (C : Cx p e s m args meth c prog_1_method_30_code 11 "WaterWorks" D P) (hmg : e.platform.magicAccessors = ({} : Platform).magicAccessors) (hr : meth.sig.returnType = (some .long)) (hin : meth.name = "price") (htab : c.exceptionTable.toList = tableOf []) : ∀ n : Nat, ∀ (a0 : Nat) (a1 : Nat) (x2 : Int32) (x3 : Int32) (w4 : Int64) (x6 : Int32) (x7 : Int32) (x8 : Int32) (H : Heap) (cells slots : Nat) (ls : Array Slot), wl_Wa_price_16 po th n P a0 a1 x2 x3 w4 x6 x7 x8 → So s.heap H → lv_has ls 11 [(0, .ref a0), (1, .ref a1), (2, .int x2), (3, .int x3), (4, .long w4), (6, .int x6), (7, .int x7), (8, .int x8)] → cells + 12 ≤ 13 → slots + 72 ≤ 78 → W p l e rm_Wa_price s m args below meth c H [] cells slots (mt_MQ below (cq_Q D P true po th) args s 13 78 (cq_free P true)) (F0 m 16 ls []) := by
  intro n
  induction n with
  | zero => intro a0 a1 x2 x3 w4 x6 x7 x8 H cells slots ls h; exact h.elim
  | succ n ih => exact wk_Wa_price_16 hfl C hmg hr hin htab ih
set_option maxHeartbeats 4000000 in
set_option maxRecDepth 100000 in
theorem ct_Wa_price {l : Launch} (hfl : l.flags = flags0) (D : pq_D) {po : Option Value → Pic → Prop} {th : String → Pic → Prop} {P : Pic} {a0 : Nat} {a1 : Nat} {x2 : Int32} {x3 : Int32} (h : wp_Wa_price po th P a0 a1 x2 x3) : CT l D y_Wa_price (.code y_Wa_price prog_1_method_30_code 11 (some .long)) rm_Wa_price true [.ref a0, .ref a1, .int x2, .int x3] P po th := by
  refine ct_of (hs := []) hfl (by decide +kernel) (Or.inl ⟨rfl, rfl⟩) (Nat.le_of_ble_eq_true rfl) ?_
  intro p e s m below meth c C hmg hr hin htab ls hl
  have hl : lv_has ls 11 [(0, .ref a0), (1, .ref a1), (2, .int x2), (3, .int x3)] := hl
  generalize hargs : ([.ref a0, .ref a1, .int x2, .int x3] : List Value).toArray = args at C ⊢
  obtain ⟨hx, hb, hml, hown, hlocks, htr, hT, hK, hSt, hN, hP0⟩ := id C
  have L25_0 : pq_fl s m args 25 0 2 := ⟨_, "WaterWorks", "WaterWorks", rfl, by decide, hown, Or.inl (hT _ k_452 _), (fun _ z => z)⟩
  have hO : So s.heap s.heap := So.rf
  have hP : Pi D P s.heap := hP0
  unfold wp_Wa_price at h
  refine lv_lconst (pc := 0) (v := 0) hx hb d_Wa_price_0 (by decide) ?_
  refine lv_lstore (pc := 1) (lv' := [(4, .long (0 : Int64)), (0, .ref a0), (1, .ref a1), (2, .int x2), (3, .int x3)]) hx hb d_Wa_price_1 hl (by decide) rfl (fun ls hl => ?_)
  refine lv_iload_n (pc := 3) hx hb d_Wa_price_3 rfl (lv_at hl 3 rfl) ?_
  refine lv_istore (pc := 4) (lv' := [(6, .int x2), (4, .long (0 : Int64)), (0, .ref a0), (1, .ref a1), (2, .int x2), (3, .int x3)]) hx hb d_Wa_price_4 hl (by decide) rfl (fun ls hl => ?_)
  refine lv_aload_n (pc := 6) hx hb d_Wa_price_6 rfl (lv_at hl 3 rfl) ?_
  refine lv_iload_n (pc := 7) hx hb d_Wa_price_7 rfl (lv_at hl 4 rfl) ?_
  obtain ⟨hk101, h⟩ := h
  refine co_i (pc := 8) C (rest := []) (mt_invV (As := [.int x2]) hx hb hown (hT _ k_960 _) (hT _ k_961 _) (hT _ k_962 _) (mt_Cd.code (hT _ k_963 #[])) h_Cu_count (pq_recv hK hP hk101 rfl) n_Cu_count rfl d_Wa_price_8) (ct_Cu_count hfl D h) k_963 k_31 ⟨Nat.le_of_ble_eq_true rfl, Nat.le_of_ble_eq_true rfl⟩ ⟨(show 0 + 1 ≤ 13 by omega), (show 0 + 6 ≤ 78 by omega)⟩ hl.1 d_Wa_price_8 (Nat.le_of_ble_eq_true rfl) hO (fun x102 H h hO => ?_) (fun xx X H h hX hex hO => ?_)
  · have hP : Pi D P H := So.pi hP0 hO
    refine lv_istore (pc := 11) (lv' := [(7, .int x102), (6, .int x2), (4, .long (0 : Int64)), (0, .ref a0), (1, .ref a1), (2, .int x2), (3, .int x3)]) hx hb d_Wa_price_11 hl (by decide) rfl (fun ls hl => ?_)
    refine lv_iconst (pc := 13) (v := 0) hx hb d_Wa_price_13 (by decide) ?_
    refine lv_istore (pc := 14) (lv' := [(8, .int (0 : Int32)), (7, .int x102), (6, .int x2), (4, .long (0 : Int64)), (0, .ref a0), (1, .ref a1), (2, .int x2), (3, .int x3)]) hx hb d_Wa_price_14 hl (by decide) rfl (fun ls hl => ?_)
    obtain ⟨n, h⟩ := h
    exact wm_Wa_price_16 hfl C hmg hr hin htab n a0 a1 x2 x3 (0 : Int64) x2 x102 (0 : Int32) _ _ _ _ h hO (lv_sub hl [4, 5, 6, 7, 3, 2, 1, 0] rfl) (show 0 + 1 + 12 ≤ 13 by omega) (show 0 + 6 + 72 ≤ 78 by omega)
  · exact cq_outo hlocks (pq_nil htab rfl) (show 0 + 1 + 0 ≤ 13 by omega) (show 0 + 6 + 0 ≤ 78 by omega) hX hex hP0 hO h
/-! WaterWorks.bill(II)J -/
abbrev y_Wa_bill : MethodName := ⟨"WaterWorks", "bill", "(II)J"⟩
abbrev rm_Wa_bill : Room := { frames := 8, cells := 19, slots := 169, locals := 192 }
theorem h_Wa_bill : y_Wa_bill.cls ≠ "java/lang/invoke/MethodHandle" ∧ y_Wa_bill.cls ≠ "java/lang/invoke/VarHandle" := by decide +kernel
theorem n_Wa_bill : (parseMethodDescriptor y_Wa_bill.desc).map (fun d => d.parameters.length) = some 2 := by decide +kernel
theorem d_Wa_bill_0 : decode prog_1_method_31_code 0 = .ok (.aload_n 0, 1) := by decide +kernel
theorem d_Wa_bill_1 : decode prog_1_method_31_code 1 = .ok (.iload_n 1, 1) := by decide +kernel
theorem d_Wa_bill_2 : decode prog_1_method_31_code 2 = .ok (.invokevirtual 112, 3) := by decide +kernel
theorem d_Wa_bill_5 : decode prog_1_method_31_code 5 = .ok (.astore_n 3, 1) := by decide +kernel
theorem d_Wa_bill_6 : decode prog_1_method_31_code 6 = .ok (.aload_n 3, 1) := by decide +kernel
theorem d_Wa_bill_7 : decode prog_1_method_31_code 7 = .ok (.getfield 168, 3) := by decide +kernel
theorem d_Wa_bill_10 : decode prog_1_method_31_code 10 = .ok (.invokevirtual 221, 3) := by decide +kernel
theorem d_Wa_bill_13 : decode prog_1_method_31_code 13 = .ok (.ifCond .ne 7, 3) := by decide +kernel
theorem d_Wa_bill_16 : decode prog_1_method_31_code 16 = .ok (.iconst 1, 1) := by decide +kernel
theorem d_Wa_bill_17 : decode prog_1_method_31_code 17 = .ok (.goto 4, 3) := by decide +kernel
theorem d_Wa_bill_20 : decode prog_1_method_31_code 20 = .ok (.iconst 0, 1) := by decide +kernel
theorem d_Wa_bill_21 : decode prog_1_method_31_code 21 = .ok (.invokestatic 99, 3) := by decide +kernel
theorem d_Wa_bill_24 : decode prog_1_method_31_code 24 = .ok (.aload_n 3, 1) := by decide +kernel
theorem d_Wa_bill_25 : decode prog_1_method_31_code 25 = .ok (.invokevirtual 224, 3) := by decide +kernel
theorem d_Wa_bill_28 : decode prog_1_method_31_code 28 = .ok (.istore 4, 2) := by decide +kernel
theorem d_Wa_bill_30 : decode prog_1_method_31_code 30 = .ok (.iload_n 2, 1) := by decide +kernel
theorem d_Wa_bill_31 : decode prog_1_method_31_code 31 = .ok (.iload 4, 2) := by decide +kernel
theorem d_Wa_bill_33 : decode prog_1_method_31_code 33 = .ok (.if_icmp .le 7, 3) := by decide +kernel
theorem d_Wa_bill_36 : decode prog_1_method_31_code 36 = .ok (.iconst 1, 1) := by decide +kernel
theorem d_Wa_bill_37 : decode prog_1_method_31_code 37 = .ok (.goto 4, 3) := by decide +kernel
theorem d_Wa_bill_40 : decode prog_1_method_31_code 40 = .ok (.iconst 0, 1) := by decide +kernel
theorem d_Wa_bill_41 : decode prog_1_method_31_code 41 = .ok (.invokestatic 77, 3) := by decide +kernel
theorem d_Wa_bill_44 : decode prog_1_method_31_code 44 = .ok (.aload_n 3, 1) := by decide +kernel
theorem d_Wa_bill_45 : decode prog_1_method_31_code 45 = .ok (.getfield 227, 3) := by decide +kernel
theorem d_Wa_bill_48 : decode prog_1_method_31_code 48 = .ok (.invokevirtual 43, 3) := by decide +kernel
theorem d_Wa_bill_51 : decode prog_1_method_31_code 51 = .ok (.bipush 6, 2) := by decide +kernel
theorem d_Wa_bill_53 : decode prog_1_method_31_code 53 = .ok (.if_icmp .ge 7, 3) := by decide +kernel
theorem d_Wa_bill_56 : decode prog_1_method_31_code 56 = .ok (.iconst 1, 1) := by decide +kernel
theorem d_Wa_bill_57 : decode prog_1_method_31_code 57 = .ok (.goto 4, 3) := by decide +kernel
theorem d_Wa_bill_60 : decode prog_1_method_31_code 60 = .ok (.iconst 0, 1) := by decide +kernel
theorem d_Wa_bill_61 : decode prog_1_method_31_code 61 = .ok (.invokestatic 64, 3) := by decide +kernel
theorem d_Wa_bill_64 : decode prog_1_method_31_code 64 = .ok (.aload_n 0, 1) := by decide +kernel
theorem d_Wa_bill_65 : decode prog_1_method_31_code 65 = .ok (.aload_n 3, 1) := by decide +kernel
theorem d_Wa_bill_66 : decode prog_1_method_31_code 66 = .ok (.iload 4, 2) := by decide +kernel
theorem d_Wa_bill_68 : decode prog_1_method_31_code 68 = .ok (.iload_n 2, 1) := by decide +kernel
theorem d_Wa_bill_69 : decode prog_1_method_31_code 69 = .ok (.invokevirtual 230, 3) := by decide +kernel
theorem d_Wa_bill_72 : decode prog_1_method_31_code 72 = .ok (.lstore 5, 2) := by decide +kernel
theorem d_Wa_bill_74 : decode prog_1_method_31_code 74 = .ok (.aload_n 3, 1) := by decide +kernel
theorem d_Wa_bill_75 : decode prog_1_method_31_code 75 = .ok (.getfield 227, 3) := by decide +kernel
theorem d_Wa_bill_78 : decode prog_1_method_31_code 78 = .ok (.new 234, 3) := by decide +kernel
theorem d_Wa_bill_81 : decode prog_1_method_31_code 81 = .ok (.dup, 1) := by decide +kernel
theorem d_Wa_bill_82 : decode prog_1_method_31_code 82 = .ok (.iload 4, 2) := by decide +kernel
theorem d_Wa_bill_84 : decode prog_1_method_31_code 84 = .ok (.iload_n 2, 1) := by decide +kernel
theorem d_Wa_bill_85 : decode prog_1_method_31_code 85 = .ok (.lload 5, 2) := by decide +kernel
theorem d_Wa_bill_87 : decode prog_1_method_31_code 87 = .ok (.invokespecial 236, 3) := by decide +kernel
theorem d_Wa_bill_90 : decode prog_1_method_31_code 90 = .ok (.invokevirtual 69, 3) := by decide +kernel
theorem d_Wa_bill_93 : decode prog_1_method_31_code 93 = .ok (.pop, 1) := by decide +kernel
theorem d_Wa_bill_94 : decode prog_1_method_31_code 94 = .ok (.lload 5, 2) := by decide +kernel
theorem d_Wa_bill_96 : decode prog_1_method_31_code 96 = .ok (.lreturn, 1) := by decide +kernel
def wb_Wa_bill_61 (po : Option Value → Pic → Prop) (th : String → Pic → Prop) (P : Pic) (a0 : Nat) (x2 : Int32) (a3 : Nat) (x4 : Int32) (t0 : Int32) : Prop := wp_Wa_may (cp_v fun _ => p_k P a0 = 1 ∧ wp_Wa_price (cp_l fun w117 _ => p_k P a3 = 4 ∧ ∃ a119, p_r P 122 a3 = some a119 ∧ ∀ (q120 : Nat), p_z P ≤ q120 → wp_Bi_init (cp_v fun P121 => p_k P121 a119 = 14 ∧ wp_Ar_add (cp_i fun x123 P124 => po (some (.long w117)) P124) th P121 a119 q120) th (s_new P q120 2) q120 x4 x2 w117) th P a0 a3 x4 x2) th P t0
def wb_Wa_bill_41 (po : Option Value → Pic → Prop) (th : String → Pic → Prop) (P : Pic) (a0 : Nat) (x2 : Int32) (a3 : Nat) (x4 : Int32) (t0 : Int32) : Prop := wp_Wa_fits (cp_v fun _ => p_k P a3 = 4 ∧ ∃ a112, p_r P 122 a3 = some a112 ∧ p_k P a112 = 14 ∧ wp_Ar_size (cp_i fun x114 _ => (((6 : Int32) ≤ x114 → (wb_Wa_bill_61 po th P a0 x2 a3 x4 (0 : Int32))) ∧ (¬ (6 : Int32) ≤ x114 → (wb_Wa_bill_61 po th P a0 x2 a3 x4 (1 : Int32))))) th P a112) th P t0
def wb_Wa_bill_21 (po : Option Value → Pic → Prop) (th : String → Pic → Prop) (P : Pic) (a0 : Nat) (x2 : Int32) (a3 : Nat) (t0 : Int32) : Prop := wp_Wa_is (cp_v fun _ => p_k P a3 = 4 ∧ wp_Cu_billedUpTo (cp_i fun x109 _ => ((x2 ≤ x109 → (wb_Wa_bill_41 po th P a0 x2 a3 x109 (0 : Int32))) ∧ (¬ x2 ≤ x109 → (wb_Wa_bill_41 po th P a0 x2 a3 x109 (1 : Int32))))) th P a3) th P t0
def wp_Wa_bill (po : Option Value → Pic → Prop) (th : String → Pic → Prop) (P : Pic) (a0 : Nat) (x1 : Int32) (x2 : Int32) : Prop := p_k P a0 = 1 ∧ wp_Wa_customerAt (cp_a fun a102 _ => p_k P a102 = 4 ∧ ∃ a104, p_r P 121 a102 = some a104 ∧ p_k P a104 = 14 ∧ wp_Ar_isEmpty (cp_i fun x106 _ => ((¬ x106 = 0 → (wb_Wa_bill_21 po th P a0 x2 a102 (0 : Int32))) ∧ (x106 = 0 → (wb_Wa_bill_21 po th P a0 x2 a102 (1 : Int32))))) th P a104) th P a0 x1
set_option maxHeartbeats 4000000 in
set_option maxRecDepth 100000 in
theorem wk_Wa_bill_61 {p : Program} {l : Launch} {e : Env} {s : State} {m : MethodId} {args : Array Value} {below : List Frame} {meth : Method} {c : Code} {D : pq_D} {P0 : Pic} {po : Option Value → Pic → Prop} {th : String → Pic → Prop} (hfl : l.flags = flags0) (C : Cx p e s m args meth c prog_1_method_31_code 7 "WaterWorks" D P0) (hmg : e.platform.magicAccessors = ({} : Platform).magicAccessors) (hr : meth.sig.returnType = (some .long)) (hin : meth.name = "bill") (htab : c.exceptionTable.toList = tableOf []) : ∀ (P : Pic) (a0 : Nat) (x2 : Int32) (a3 : Nat) (x4 : Int32) (t0 : Int32) (H : Heap) (locs : List Loc) (cells slots : Nat) (ls : Array Slot), wb_Wa_bill_61 po th P a0 x2 a3 x4 t0 → Pi D P H → Sg (cq_A P0 s) s.heap H P locs → lv_has ls 7 [(0, .ref a0), (2, .int x2), (3, .ref a3), (4, .int x4)] → cells + 16 ≤ 19 → slots + 151 ≤ 169 → W p l e rm_Wa_bill s m args below meth c H locs cells slots (mt_MQ below (cq_Q D P0 false po th) args s 19 169 (cq_free P0 false)) (F0 m 61 ls [.int t0]) := by
  intro P a0 x2 a3 x4 t0 H locs cells slots ls h hP hS hl hcc hss
  obtain ⟨hx, hb, hml, hown, hlocks, htr, hT, hK, hSt, hN, hP0⟩ := id C
  have L168_3 : pq_fl s m args 168 3 1 := ⟨_, "WaterWorks", "WaterWorks$Customer", rfl, by decide, hown, Or.inr ⟨_, hT _ k_699 _⟩, (fun _ z => z)⟩
  have L227_3 : pq_fl s m args 227 3 2 := ⟨_, "WaterWorks", "WaterWorks$Customer", rfl, by decide, hown, Or.inr ⟨_, hT _ k_701 _⟩, (fun _ z => z)⟩
  unfold wb_Wa_bill_61 at h
  refine cr_v (pc := 61) C (rest := []) (mt_invS (As := [.int t0]) hx hb hown (hT _ k_475 _) (hT _ k_476 _) (hT _ k_1 _) (mt_Cd.code (hT _ k_477 #[])) h_Wa_may n_Wa_may rfl d_Wa_bill_61) (ct_Wa_may hfl D h) k_477 k_1 ⟨Nat.le_of_ble_eq_true rfl, Nat.le_of_ble_eq_true rfl⟩ ⟨(show cells + 1 ≤ 19 by omega), (show slots + 6 ≤ 169 by omega)⟩ hl.1 d_Wa_bill_61 (Nat.le_of_ble_eq_true rfl) hP hS (fun H locs h hP hS => ?_) (fun xx X H locs h hX hex hP hS => ?_)
  · refine lv_aload_n (pc := 64) hx hb d_Wa_bill_64 rfl (lv_at hl 0 rfl) ?_
    refine lv_aload_n (pc := 65) hx hb d_Wa_bill_65 rfl (lv_at hl 2 rfl) ?_
    refine lv_iload (pc := 66) hx hb d_Wa_bill_66 (lv_at hl 3 rfl) ?_
    refine lv_iload_n (pc := 68) hx hb d_Wa_bill_68 rfl (lv_at hl 1 rfl) ?_
    obtain ⟨hk116, h⟩ := h
    refine cr_l (pc := 69) C (rest := []) (mt_invV (As := [.ref a3, .int x4, .int x2]) hx hb hown (hT _ k_1038 _) (hT _ k_1040 _) (hT _ ks_15 _) (mt_Cd.code (hT _ k_1041 #[])) h_Wa_price (pq_recv hK hP hk116 rfl) n_Wa_price rfl d_Wa_bill_69) (ct_Wa_price hfl D h) k_1041 k_1 ⟨Nat.le_of_ble_eq_true rfl, Nat.le_of_ble_eq_true rfl⟩ ⟨(show cells + 1 + 13 ≤ 19 by omega), (show slots + 6 + 78 ≤ 169 by omega)⟩ hl.1 d_Wa_bill_69 (Nat.le_of_ble_eq_true rfl) hP hS (fun w117 H locs h hP hS => ?_) (fun xx X H locs h hX hex hP hS => ?_)
    · refine lv_lstore (pc := 72) (lv' := [(5, .long w117), (0, .ref a0), (2, .int x2), (3, .ref a3), (4, .int x4)]) hx hb d_Wa_bill_72 hl (by decide) rfl (fun ls hl => ?_)
      refine lv_aload_n (pc := 74) hx hb d_Wa_bill_74 rfl (lv_at hl 3 rfl) ?_
      obtain ⟨hk118, h⟩ := h
      obtain ⟨a119, ea119, h⟩ := h
      refine pq_geta (pc := 75) (f := 122) hx hb hT hK hP L227_3 hk118 rfl ea119 d_Wa_bill_75 ?_
      refine pq_new (pc := 78) hx hb hT hK hP hS (k := 2) rfl hown (hT _ k_1054 _) (hT _ k_1055 _) (hT _ k_36 _) (show cells + 1 + 13 + 1 ≤ 19 by omega) (show slots + 6 + 78 + 3 ≤ 169 by omega) d_Wa_bill_78 (fun q120 H hq120 hP1 hS => ?_)
      replace h := h q120 hq120
      have hk116 : p_k (s_new P q120 2) a0 = 1 := pq_oldn (k := 0) hP hk116 hq120
      have hk118 : p_k (s_new P q120 2) a3 = 4 := pq_oldn (k := 3) hP hk118 hq120
      have hkq120 : p_k (s_new P q120 2) q120 = 3 := pk_newq _ _ _
      replace hP := hP1
      clear hP1
      refine lv_dup (pc := 81) hx hb d_Wa_bill_81 rfl ?_
      refine lv_iload (pc := 82) hx hb d_Wa_bill_82 (lv_at hl 4 rfl) ?_
      refine lv_iload_n (pc := 84) hx hb d_Wa_bill_84 rfl (lv_at hl 2 rfl) ?_
      refine lv_lload (pc := 85) hx hb d_Wa_bill_85 (lv_at hl 0 rfl) ?_
      refine cc_v (pc := 87) C (rest := [.ref q120, .ref a119]) (mt_invI (As := [.int x4, .int x2, .long w117]) hx hb hown rfl (hT _ k_1056 _) (hT _ k_1057 _) (hT _ k_1058 _) h_Bi_init n_Bi_init rfl d_Wa_bill_87) (ct_Bi_init hfl D h) k_1058 k_36 ⟨Nat.le_of_ble_eq_true rfl, Nat.le_of_ble_eq_true rfl⟩ ⟨(show cells + 1 + 13 + 1 + 0 ≤ 19 by omega), (show slots + 6 + 78 + 3 + 0 ≤ 169 by omega)⟩ hl.1 d_Wa_bill_87 (Nat.le_of_ble_eq_true rfl) hP hS (fun P121 H locs h hP hS => ?_) (fun xx X P121 H locs h hX hex hP hS => ?_)
      · obtain ⟨hk122, h⟩ := h
        refine cc_i (pc := 90) C (rest := []) (mt_invV (As := [.ref q120]) hx hb hown (hT _ k_523 _) (hT _ k_524 _) (hT _ k_525 _) (mt_Cd.code (hT _ k_526 #[])) h_Ar_add (pq_recv hK hP hk122 rfl) n_Ar_add rfl d_Wa_bill_90) (ct_Ar_add hfl D h) k_526 k_5 ⟨Nat.le_of_ble_eq_true rfl, Nat.le_of_ble_eq_true rfl⟩ ⟨(show cells + 1 + 13 + 1 + 0 + 1 ≤ 19 by omega), (show slots + 6 + 78 + 3 + 0 + 64 ≤ 169 by omega)⟩ hl.1 d_Wa_bill_90 (Nat.le_of_ble_eq_true rfl) hP hS (fun x123 P124 H locs h hP hS => ?_) (fun xx X P124 H locs h hX hex hP hS => ?_)
        · refine lv_pop (pc := 93) hx hb d_Wa_bill_93 rfl ?_
          refine lv_lload (pc := 94) hx hb d_Wa_bill_94 (lv_at hl 0 rfl) ?_
          exact we_l (pc := 96) hx hb hlocks hr hP hS (show cells + 1 + 13 + 1 + 0 + 1 + 0 ≤ 19 by omega) (show slots + 6 + 78 + 3 + 0 + 64 + 0 ≤ 169 by omega) h d_Wa_bill_96
        · exact cq_out hlocks (pq_nil htab rfl) (show cells + 1 + 13 + 1 + 0 + 1 + 0 ≤ 19 by omega) (show slots + 6 + 78 + 3 + 0 + 64 + 0 ≤ 169 by omega) hX hex hP hS h
      · exact cq_out hlocks (pq_nil htab rfl) (show cells + 1 + 13 + 1 + 0 + 0 ≤ 19 by omega) (show slots + 6 + 78 + 3 + 0 + 0 ≤ 169 by omega) hX hex hP hS h
    · exact cq_out hlocks (pq_nil htab rfl) (show cells + 1 + 13 + 0 ≤ 19 by omega) (show slots + 6 + 78 + 0 ≤ 169 by omega) hX hex hP hS h
  · exact cq_out hlocks (pq_nil htab rfl) (show cells + 1 + 0 ≤ 19 by omega) (show slots + 6 + 0 ≤ 169 by omega) hX hex hP hS h
set_option maxHeartbeats 4000000 in
set_option maxRecDepth 100000 in
theorem wk_Wa_bill_41 {p : Program} {l : Launch} {e : Env} {s : State} {m : MethodId} {args : Array Value} {below : List Frame} {meth : Method} {c : Code} {D : pq_D} {P0 : Pic} {po : Option Value → Pic → Prop} {th : String → Pic → Prop} (hfl : l.flags = flags0) (C : Cx p e s m args meth c prog_1_method_31_code 7 "WaterWorks" D P0) (hmg : e.platform.magicAccessors = ({} : Platform).magicAccessors) (hr : meth.sig.returnType = (some .long)) (hin : meth.name = "bill") (htab : c.exceptionTable.toList = tableOf []) : ∀ (P : Pic) (a0 : Nat) (x2 : Int32) (a3 : Nat) (x4 : Int32) (t0 : Int32) (H : Heap) (locs : List Loc) (cells slots : Nat) (ls : Array Slot), wb_Wa_bill_41 po th P a0 x2 a3 x4 t0 → Pi D P H → Sg (cq_A P0 s) s.heap H P locs → lv_has ls 7 [(0, .ref a0), (2, .int x2), (3, .ref a3), (4, .int x4)] → cells + 17 ≤ 19 → slots + 157 ≤ 169 → W p l e rm_Wa_bill s m args below meth c H locs cells slots (mt_MQ below (cq_Q D P0 false po th) args s 19 169 (cq_free P0 false)) (F0 m 41 ls [.int t0]) := by
  intro P a0 x2 a3 x4 t0 H locs cells slots ls h hP hS hl hcc hss
  obtain ⟨hx, hb, hml, hown, hlocks, htr, hT, hK, hSt, hN, hP0⟩ := id C
  have L168_3 : pq_fl s m args 168 3 1 := ⟨_, "WaterWorks", "WaterWorks$Customer", rfl, by decide, hown, Or.inr ⟨_, hT _ k_699 _⟩, (fun _ z => z)⟩
  have L227_3 : pq_fl s m args 227 3 2 := ⟨_, "WaterWorks", "WaterWorks$Customer", rfl, by decide, hown, Or.inr ⟨_, hT _ k_701 _⟩, (fun _ z => z)⟩
  unfold wb_Wa_bill_41 at h
  refine cr_v (pc := 41) C (rest := []) (mt_invS (As := [.int t0]) hx hb hown (hT _ k_620 _) (hT _ k_621 _) (hT _ k_1 _) (mt_Cd.code (hT _ k_622 #[])) h_Wa_fits n_Wa_fits rfl d_Wa_bill_41) (ct_Wa_fits hfl D h) k_622 k_1 ⟨Nat.le_of_ble_eq_true rfl, Nat.le_of_ble_eq_true rfl⟩ ⟨(show cells + 1 ≤ 19 by omega), (show slots + 6 ≤ 169 by omega)⟩ hl.1 d_Wa_bill_41 (Nat.le_of_ble_eq_true rfl) hP hS (fun H locs h hP hS => ?_) (fun xx X H locs h hX hex hP hS => ?_)
  · refine lv_aload_n (pc := 44) hx hb d_Wa_bill_44 rfl (lv_at hl 2 rfl) ?_
    obtain ⟨hk111, h⟩ := h
    obtain ⟨a112, ea112, h⟩ := h
    refine pq_geta (pc := 45) (f := 122) hx hb hT hK hP L227_3 hk111 rfl ea112 d_Wa_bill_45 ?_
    obtain ⟨hk113, h⟩ := h
    refine cr_i (pc := 48) C (rest := []) (mt_invV (As := []) hx hb hown (hT _ k_471 _) (hT _ k_472 _) (hT _ k_473 _) (mt_Cd.code (hT _ k_474 #[])) h_Ar_size (pq_recv hK hP hk113 rfl) n_Ar_size rfl d_Wa_bill_48) (ct_Ar_size hfl D h) k_474 k_5 ⟨Nat.le_of_ble_eq_true rfl, Nat.le_of_ble_eq_true rfl⟩ ⟨(show cells + 1 + 0 ≤ 19 by omega), (show slots + 6 + 0 ≤ 169 by omega)⟩ hl.1 d_Wa_bill_48 (Nat.le_of_ble_eq_true rfl) hP hS (fun x114 H locs h hP hS => ?_) (fun xx X H locs h hX hex hP hS => ?_)
    · refine lv_bipush (pc := 51) (v := 6) hx hb d_Wa_bill_51 (by decide) ?_
      refine lv_icmp_ge (pc := 53) (tgt := 60) hx hb d_Wa_bill_53 (by decide) (fun c115 => ?_) (fun c115 => ?_)
      · replace h := h.1 c115
        refine lv_iconst (pc := 60) (v := 0) hx hb d_Wa_bill_60 (by decide) ?_
        exact wk_Wa_bill_61 hfl C hmg hr hin htab _ a0 x2 a3 x4 (0 : Int32) _ _ _ _ _ h hP hS (lv_sub hl [0, 1, 2, 3] rfl) (show cells + 1 + 0 + 16 ≤ 19 by omega) (show slots + 6 + 0 + 151 ≤ 169 by omega)
      · replace h := h.2 c115
        refine lv_iconst (pc := 56) (v := 1) hx hb d_Wa_bill_56 (by decide) ?_
        refine lv_goto (pc := 57) (tgt := 61) hx hb d_Wa_bill_57 (by decide) ?_
        exact wk_Wa_bill_61 hfl C hmg hr hin htab _ a0 x2 a3 x4 (1 : Int32) _ _ _ _ _ h hP hS (lv_sub hl [0, 1, 2, 3] rfl) (show cells + 1 + 0 + 16 ≤ 19 by omega) (show slots + 6 + 0 + 151 ≤ 169 by omega)
    · exact cq_out hlocks (pq_nil htab rfl) (show cells + 1 + 0 + 0 ≤ 19 by omega) (show slots + 6 + 0 + 0 ≤ 169 by omega) hX hex hP hS h
  · exact cq_out hlocks (pq_nil htab rfl) (show cells + 1 + 0 ≤ 19 by omega) (show slots + 6 + 0 ≤ 169 by omega) hX hex hP hS h
set_option maxHeartbeats 4000000 in
set_option maxRecDepth 100000 in
theorem wk_Wa_bill_21 {p : Program} {l : Launch} {e : Env} {s : State} {m : MethodId} {args : Array Value} {below : List Frame} {meth : Method} {c : Code} {D : pq_D} {P0 : Pic} {po : Option Value → Pic → Prop} {th : String → Pic → Prop} (hfl : l.flags = flags0) (C : Cx p e s m args meth c prog_1_method_31_code 7 "WaterWorks" D P0) (hmg : e.platform.magicAccessors = ({} : Platform).magicAccessors) (hr : meth.sig.returnType = (some .long)) (hin : meth.name = "bill") (htab : c.exceptionTable.toList = tableOf []) : ∀ (P : Pic) (a0 : Nat) (x2 : Int32) (a3 : Nat) (t0 : Int32) (H : Heap) (locs : List Loc) (cells slots : Nat) (ls : Array Slot), wb_Wa_bill_21 po th P a0 x2 a3 t0 → Pi D P H → Sg (cq_A P0 s) s.heap H P locs → lv_has ls 7 [(0, .ref a0), (2, .int x2), (3, .ref a3)] → cells + 18 ≤ 19 → slots + 163 ≤ 169 → W p l e rm_Wa_bill s m args below meth c H locs cells slots (mt_MQ below (cq_Q D P0 false po th) args s 19 169 (cq_free P0 false)) (F0 m 21 ls [.int t0]) := by
  intro P a0 x2 a3 t0 H locs cells slots ls h hP hS hl hcc hss
  obtain ⟨hx, hb, hml, hown, hlocks, htr, hT, hK, hSt, hN, hP0⟩ := id C
  have L168_3 : pq_fl s m args 168 3 1 := ⟨_, "WaterWorks", "WaterWorks$Customer", rfl, by decide, hown, Or.inr ⟨_, hT _ k_699 _⟩, (fun _ z => z)⟩
  have L227_3 : pq_fl s m args 227 3 2 := ⟨_, "WaterWorks", "WaterWorks$Customer", rfl, by decide, hown, Or.inr ⟨_, hT _ k_701 _⟩, (fun _ z => z)⟩
  unfold wb_Wa_bill_21 at h
  refine cr_v (pc := 21) C (rest := []) (mt_invS (As := [.int t0]) hx hb hown (hT _ k_725 _) (hT _ k_726 _) (hT _ k_1 _) (mt_Cd.code (hT _ k_727 #[])) h_Wa_is n_Wa_is rfl d_Wa_bill_21) (ct_Wa_is hfl D h) k_727 k_1 ⟨Nat.le_of_ble_eq_true rfl, Nat.le_of_ble_eq_true rfl⟩ ⟨(show cells + 1 ≤ 19 by omega), (show slots + 6 ≤ 169 by omega)⟩ hl.1 d_Wa_bill_21 (Nat.le_of_ble_eq_true rfl) hP hS (fun H locs h hP hS => ?_) (fun xx X H locs h hX hex hP hS => ?_)
  · refine lv_aload_n (pc := 24) hx hb d_Wa_bill_24 rfl (lv_at hl 2 rfl) ?_
    obtain ⟨hk108, h⟩ := h
    refine cr_i (pc := 25) C (rest := []) (mt_invV (As := []) hx hb hown (hT _ k_1033 _) (hT _ k_1034 _) (hT _ k_1035 _) (mt_Cd.code (hT _ k_1036 #[])) h_Cu_billedUpTo (pq_recv hK hP hk108 rfl) n_Cu_billedUpTo rfl d_Wa_bill_25) (ct_Cu_billedUpTo hfl D h) k_1036 k_31 ⟨Nat.le_of_ble_eq_true rfl, Nat.le_of_ble_eq_true rfl⟩ ⟨(show cells + 1 + 0 ≤ 19 by omega), (show slots + 6 + 0 ≤ 169 by omega)⟩ hl.1 d_Wa_bill_25 (Nat.le_of_ble_eq_true rfl) hP hS (fun x109 H locs h hP hS => ?_) (fun xx X H locs h hX hex hP hS => ?_)
    · refine lv_istore (pc := 28) (lv' := [(4, .int x109), (0, .ref a0), (2, .int x2), (3, .ref a3)]) hx hb d_Wa_bill_28 hl (by decide) rfl (fun ls hl => ?_)
      refine lv_iload_n (pc := 30) hx hb d_Wa_bill_30 rfl (lv_at hl 2 rfl) ?_
      refine lv_iload (pc := 31) hx hb d_Wa_bill_31 (lv_at hl 0 rfl) ?_
      refine lv_icmp_le (pc := 33) (tgt := 40) hx hb d_Wa_bill_33 (by decide) (fun c110 => ?_) (fun c110 => ?_)
      · replace h := h.1 c110
        refine lv_iconst (pc := 40) (v := 0) hx hb d_Wa_bill_40 (by decide) ?_
        exact wk_Wa_bill_41 hfl C hmg hr hin htab _ a0 x2 a3 x109 (0 : Int32) _ _ _ _ _ h hP hS (lv_sub hl [1, 2, 3, 0] rfl) (show cells + 1 + 0 + 17 ≤ 19 by omega) (show slots + 6 + 0 + 157 ≤ 169 by omega)
      · replace h := h.2 c110
        refine lv_iconst (pc := 36) (v := 1) hx hb d_Wa_bill_36 (by decide) ?_
        refine lv_goto (pc := 37) (tgt := 41) hx hb d_Wa_bill_37 (by decide) ?_
        exact wk_Wa_bill_41 hfl C hmg hr hin htab _ a0 x2 a3 x109 (1 : Int32) _ _ _ _ _ h hP hS (lv_sub hl [1, 2, 3, 0] rfl) (show cells + 1 + 0 + 17 ≤ 19 by omega) (show slots + 6 + 0 + 157 ≤ 169 by omega)
    · exact cq_out hlocks (pq_nil htab rfl) (show cells + 1 + 0 + 0 ≤ 19 by omega) (show slots + 6 + 0 + 0 ≤ 169 by omega) hX hex hP hS h
  · exact cq_out hlocks (pq_nil htab rfl) (show cells + 1 + 0 ≤ 19 by omega) (show slots + 6 + 0 ≤ 169 by omega) hX hex hP hS h
set_option maxHeartbeats 4000000 in
set_option maxRecDepth 100000 in
theorem ct_Wa_bill {l : Launch} (hfl : l.flags = flags0) (D : pq_D) {po : Option Value → Pic → Prop} {th : String → Pic → Prop} {P : Pic} {a0 : Nat} {x1 : Int32} {x2 : Int32} (h : wp_Wa_bill po th P a0 x1 x2) : CT l D y_Wa_bill (.code y_Wa_bill prog_1_method_31_code 7 (some .long)) rm_Wa_bill false [.ref a0, .int x1, .int x2] P po th := by
  refine ct_of (hs := []) hfl (by decide +kernel) (Or.inl ⟨rfl, rfl⟩) (Nat.le_of_ble_eq_true rfl) ?_
  intro p e s m below meth c C hmg hr hin htab ls hl
  have hl : lv_has ls 7 [(0, .ref a0), (1, .int x1), (2, .int x2)] := hl
  generalize hargs : ([.ref a0, .int x1, .int x2] : List Value).toArray = args at C ⊢
  obtain ⟨hx, hb, hml, hown, hlocks, htr, hT, hK, hSt, hN, hP0⟩ := id C
  have L168_3 : pq_fl s m args 168 3 1 := ⟨_, "WaterWorks", "WaterWorks$Customer", rfl, by decide, hown, Or.inr ⟨_, hT _ k_699 _⟩, (fun _ z => z)⟩
  have L227_3 : pq_fl s m args 227 3 2 := ⟨_, "WaterWorks", "WaterWorks$Customer", rfl, by decide, hown, Or.inr ⟨_, hT _ k_701 _⟩, (fun _ z => z)⟩
  have hP : Pi D P s.heap := hP0
  have hS : Sg (cq_A P s) s.heap s.heap P [] := Sg.start hP0
  unfold wp_Wa_bill at h
  refine lv_aload_n (pc := 0) hx hb d_Wa_bill_0 rfl (lv_at hl 0 rfl) ?_
  refine lv_iload_n (pc := 1) hx hb d_Wa_bill_1 rfl (lv_at hl 1 rfl) ?_
  obtain ⟨hk101, h⟩ := h
  refine cr_a (pc := 2) C (rest := []) (mt_invV (As := [.int x1]) hx hb hown (hT _ k_757 _) (hT _ k_759 _) (hT _ ks_6 _) (mt_Cd.code (hT _ k_760 #[])) h_Wa_customerAt (pq_recv hK hP hk101 rfl) n_Wa_customerAt rfl d_Wa_bill_2) (ct_Wa_customerAt hfl D h) k_760 k_1 ⟨Nat.le_of_ble_eq_true rfl, Nat.le_of_ble_eq_true rfl⟩ ⟨(show 0 + 1 ≤ 19 by omega), (show 0 + 6 ≤ 169 by omega)⟩ hl.1 d_Wa_bill_2 (Nat.le_of_ble_eq_true rfl) hP hS (fun a102 H locs h hP hS => ?_) (fun xx X H locs h hX hex hP hS => ?_)
  · refine lv_astore_n (pc := 5) (lv' := [(3, .ref a102), (0, .ref a0), (1, .int x1), (2, .int x2)]) hx hb d_Wa_bill_5 rfl hl (by decide) rfl (fun ls hl => ?_)
    refine lv_aload_n (pc := 6) hx hb d_Wa_bill_6 rfl (lv_at hl 0 rfl) ?_
    obtain ⟨hk103, h⟩ := h
    obtain ⟨a104, ea104, h⟩ := h
    refine pq_geta (pc := 7) (f := 121) hx hb hT hK hP L168_3 hk103 rfl ea104 d_Wa_bill_7 ?_
    obtain ⟨hk105, h⟩ := h
    refine cr_i (pc := 10) C (rest := []) (mt_invV (As := []) hx hb hown (hT _ k_1032 _) (hT _ k_891 _) (hT _ k_892 _) (mt_Cd.code (hT _ k_893 #[])) h_Ar_isEmpty (pq_recv hK hP hk105 rfl) n_Ar_isEmpty rfl d_Wa_bill_10) (ct_Ar_isEmpty hfl D h) k_893 k_5 ⟨Nat.le_of_ble_eq_true rfl, Nat.le_of_ble_eq_true rfl⟩ ⟨(show 0 + 1 + 0 ≤ 19 by omega), (show 0 + 6 + 0 ≤ 169 by omega)⟩ hl.1 d_Wa_bill_10 (Nat.le_of_ble_eq_true rfl) hP hS (fun x106 H locs h hP hS => ?_) (fun xx X H locs h hX hex hP hS => ?_)
    · refine lv_if_ne (pc := 13) (tgt := 20) hx hb d_Wa_bill_13 (by decide) (fun c107 => ?_) (fun c107 => ?_)
      · replace h := h.1 c107
        refine lv_iconst (pc := 20) (v := 0) hx hb d_Wa_bill_20 (by decide) ?_
        exact wk_Wa_bill_21 hfl C hmg hr hin htab _ a0 x2 a102 (0 : Int32) _ _ _ _ _ h hP hS (lv_sub hl [1, 3, 0] rfl) (show 0 + 1 + 0 + 18 ≤ 19 by omega) (show 0 + 6 + 0 + 163 ≤ 169 by omega)
      · replace h := h.2 c107
        refine lv_iconst (pc := 16) (v := 1) hx hb d_Wa_bill_16 (by decide) ?_
        refine lv_goto (pc := 17) (tgt := 21) hx hb d_Wa_bill_17 (by decide) ?_
        exact wk_Wa_bill_21 hfl C hmg hr hin htab _ a0 x2 a102 (1 : Int32) _ _ _ _ _ h hP hS (lv_sub hl [1, 3, 0] rfl) (show 0 + 1 + 0 + 18 ≤ 19 by omega) (show 0 + 6 + 0 + 163 ≤ 169 by omega)
    · exact cq_out hlocks (pq_nil htab rfl) (show 0 + 1 + 0 + 0 ≤ 19 by omega) (show 0 + 6 + 0 + 0 ≤ 169 by omega) hX hex hP hS h
  · exact cq_out hlocks (pq_nil htab rfl) (show 0 + 1 + 0 ≤ 19 by omega) (show 0 + 6 + 0 ≤ 169 by omega) hX hex hP hS h
/-! WaterWorks.priceOf(LWaterWorks$Customer;LWaterWorks$Bill;)J -/
abbrev y_Wa_priceOf : MethodName := ⟨"WaterWorks", "priceOf", "(LWaterWorks$Customer;LWaterWorks$Bill;)J"⟩
abbrev rm_Wa_priceOf : Room := { frames := 8, cells := 13, slots := 78, locals := 183 }
theorem h_Wa_priceOf : y_Wa_priceOf.cls ≠ "java/lang/invoke/MethodHandle" ∧ y_Wa_priceOf.cls ≠ "java/lang/invoke/VarHandle" := by decide +kernel
theorem n_Wa_priceOf : (parseMethodDescriptor y_Wa_priceOf.desc).map (fun d => d.parameters.length) = some 2 := by decide +kernel
theorem d_Wa_priceOf_0 : decode prog_1_method_32_code 0 = .ok (.aload_n 0, 1) := by decide +kernel
theorem d_Wa_priceOf_1 : decode prog_1_method_32_code 1 = .ok (.aload_n 1, 1) := by decide +kernel
theorem d_Wa_priceOf_2 : decode prog_1_method_32_code 2 = .ok (.aload_n 2, 1) := by decide +kernel
theorem d_Wa_priceOf_3 : decode prog_1_method_32_code 3 = .ok (.getfield 239, 3) := by decide +kernel
theorem d_Wa_priceOf_6 : decode prog_1_method_32_code 6 = .ok (.aload_n 2, 1) := by decide +kernel
theorem d_Wa_priceOf_7 : decode prog_1_method_32_code 7 = .ok (.getfield 242, 3) := by decide +kernel
theorem d_Wa_priceOf_10 : decode prog_1_method_32_code 10 = .ok (.invokevirtual 230, 3) := by decide +kernel
theorem d_Wa_priceOf_13 : decode prog_1_method_32_code 13 = .ok (.lreturn, 1) := by decide +kernel
theorem d_Wa_priceOf_14 : decode prog_1_method_32_code 14 = .ok (.astore_n 3, 1) := by decide +kernel
theorem d_Wa_priceOf_15 : decode prog_1_method_32_code 15 = .ok (.ldc2_w 245, 3) := by decide +kernel
theorem d_Wa_priceOf_18 : decode prog_1_method_32_code 18 = .ok (.lreturn, 1) := by decide +kernel
def wb_Wa_priceOf_14 (po : Option Value → Pic → Prop) (th : String → Pic → Prop) (P : Pic) (t0 : Nat) : Prop := po (some (.long (-1 : Int64))) P
def wp_Wa_priceOf (po : Option Value → Pic → Prop) (th : String → Pic → Prop) (P : Pic) (a0 : Nat) (a1 : Nat) (a2 : Nat) : Prop := p_k P a2 = 3 ∧ p_k P a0 = 1 ∧ wp_Wa_price (cp_l fun w103 _ => po (some (.long w103)) P) (fun X _ => if X = "java/util/NoSuchElementException" then (∀ (xx : Nat), wb_Wa_priceOf_14 po th P xx) else False) P a0 a1 (p_i P 80 a2) (p_i P 81 a2)
set_option maxHeartbeats 4000000 in
set_option maxRecDepth 100000 in
theorem wk_Wa_priceOf_14 {p : Program} {l : Launch} {e : Env} {s : State} {m : MethodId} {args : Array Value} {below : List Frame} {meth : Method} {c : Code} {D : pq_D} {P : Pic} {po : Option Value → Pic → Prop} {th : String → Pic → Prop} (hfl : l.flags = flags0) (C : Cx p e s m args meth c prog_1_method_32_code 4 "WaterWorks" D P) (hmg : e.platform.magicAccessors = ({} : Platform).magicAccessors) (hr : meth.sig.returnType = (some .long)) (hin : meth.name = "priceOf") (htab : c.exceptionTable.toList = tableOf [(0, 13, 14, 34)]) : ∀ (t0 : Nat) (H : Heap) (cells slots : Nat) (ls : Array Slot), wb_Wa_priceOf_14 po th P t0 → So s.heap H → lv_has ls 4 [] → cells + 0 ≤ 13 → slots + 0 ≤ 78 → W p l e rm_Wa_priceOf s m args below meth c H [] cells slots (mt_MQ below (cq_Q D P true po th) args s 13 78 (cq_free P true)) (F0 m 14 ls [.ref t0]) := by
  intro t0 H cells slots ls h hO hl hcc hss
  obtain ⟨hx, hb, hml, hown, hlocks, htr, hT, hK, hSt, hN, hP0⟩ := id C
  have L239_2 : pq_fl s m args 239 2 0 := ⟨_, "WaterWorks", "WaterWorks$Bill", rfl, by decide, hown, Or.inr ⟨_, hT _ k_1061 _⟩, (fun _ z => z)⟩
  have L242_2 : pq_fl s m args 242 2 1 := ⟨_, "WaterWorks", "WaterWorks$Bill", rfl, by decide, hown, Or.inr ⟨_, hT _ k_1064 _⟩, (fun _ z => z)⟩
  have hP : Pi D P H := So.pi hP0 hO
  unfold wb_Wa_priceOf_14 at h
  refine lv_astore_n (pc := 14) (lv' := [(3, .ref t0)]) hx hb d_Wa_priceOf_14 rfl hl (by decide) rfl (fun ls hl => ?_)
  refine lv_ldc2 (pc := 15) hx hb hown (hT _ k_1086 _) d_Wa_priceOf_15 ?_
  exact wo_l (pc := 18) hx hb hlocks hr hP0 hO (show cells + 0 ≤ 13 by omega) (show slots + 0 ≤ 78 by omega) h d_Wa_priceOf_18
set_option maxHeartbeats 4000000 in
set_option maxRecDepth 100000 in
theorem ct_Wa_priceOf {l : Launch} (hfl : l.flags = flags0) (D : pq_D) {po : Option Value → Pic → Prop} {th : String → Pic → Prop} {P : Pic} {a0 : Nat} {a1 : Nat} {a2 : Nat} (h : wp_Wa_priceOf po th P a0 a1 a2) : CT l D y_Wa_priceOf (.codeWith y_Wa_priceOf prog_1_method_32_code 4 (some .long) [(0, 13, 14, 34)]) rm_Wa_priceOf true [.ref a0, .ref a1, .ref a2] P po th := by
  refine ct_of (hs := [(0, 13, 14, 34)]) hfl (by decide +kernel) (Or.inr rfl) (Nat.le_of_ble_eq_true rfl) ?_
  intro p e s m below meth c C hmg hr hin htab ls hl
  have hl : lv_has ls 4 [(0, .ref a0), (1, .ref a1), (2, .ref a2)] := hl
  generalize hargs : ([.ref a0, .ref a1, .ref a2] : List Value).toArray = args at C ⊢
  obtain ⟨hx, hb, hml, hown, hlocks, htr, hT, hK, hSt, hN, hP0⟩ := id C
  have L239_2 : pq_fl s m args 239 2 0 := ⟨_, "WaterWorks", "WaterWorks$Bill", rfl, by decide, hown, Or.inr ⟨_, hT _ k_1061 _⟩, (fun _ z => z)⟩
  have L242_2 : pq_fl s m args 242 2 1 := ⟨_, "WaterWorks", "WaterWorks$Bill", rfl, by decide, hown, Or.inr ⟨_, hT _ k_1064 _⟩, (fun _ z => z)⟩
  have hO : So s.heap s.heap := So.rf
  have hP : Pi D P s.heap := hP0
  unfold wp_Wa_priceOf at h
  refine lv_aload_n (pc := 0) hx hb d_Wa_priceOf_0 rfl (lv_at hl 0 rfl) ?_
  refine lv_aload_n (pc := 1) hx hb d_Wa_priceOf_1 rfl (lv_at hl 1 rfl) ?_
  refine lv_aload_n (pc := 2) hx hb d_Wa_priceOf_2 rfl (lv_at hl 2 rfl) ?_
  obtain ⟨hk101, h⟩ := h
  refine pq_geti (pc := 3) (f := 80) hx hb hT hK hP L239_2 hk101 rfl d_Wa_priceOf_3 ?_
  refine lv_aload_n (pc := 6) hx hb d_Wa_priceOf_6 rfl (lv_at hl 2 rfl) ?_
  refine pq_geti (pc := 7) (f := 81) hx hb hT hK hP L242_2 hk101 rfl d_Wa_priceOf_7 ?_
  obtain ⟨hk102, h⟩ := h
  refine co_l (pc := 10) C (rest := []) (mt_invV (As := [.ref a1, .int (p_i P 80 a2), .int (p_i P 81 a2)]) hx hb hown (hT _ k_1038 _) (hT _ k_1040 _) (hT _ ks_15 _) (mt_Cd.code (hT _ k_1041 #[])) h_Wa_price (pq_recv hK hP hk102 rfl) n_Wa_price rfl d_Wa_priceOf_10) (ct_Wa_price hfl D h) k_1041 k_1 ⟨Nat.le_of_ble_eq_true rfl, Nat.le_of_ble_eq_true rfl⟩ ⟨(show 0 + 13 ≤ 13 by omega), (show 0 + 78 ≤ 78 by omega)⟩ hl.1 d_Wa_priceOf_10 (Nat.le_of_ble_eq_true rfl) hO (fun w103 H h hO => ?_) (fun xx X H h hX hex hO => ?_)
  · have hP : Pi D P H := So.pi hP0 hO
    exact wo_l (pc := 13) hx hb hlocks hr hP0 hO (show 0 + 13 + 0 ≤ 13 by omega) (show 0 + 78 + 0 ≤ 78 by omega) h d_Wa_priceOf_13
  · have hP : Pi D P H := So.pi hP0 hO
    by_cases hX0 : X = "java/util/NoSuchElementException"
    · subst hX0
      simp only [String.reduceEq, if_true, if_false, reduceIte] at h
      refine cq_caught (hs := [(0, 13, 14, 34)]) (i := 0) (ys := ["java/util/NoSuchElementException"]) C htab hX hex k_730 hmg (by decide) rfl (fun j hj => by match j, hj with | 0, _ => exact ⟨by decide, k_728, by decide, by decide, by decide⟩ | j + 1, hj => omega) (fun j hj => by match j, hj with  | j + 0, hj => omega) rfl ?_
      replace h := h xx
      exact wk_Wa_priceOf_14 hfl C hmg hr hin htab xx _ _ _ _ h hO (lv_sub hl [] rfl) (show 0 + 13 + 0 ≤ 13 by omega) (show 0 + 78 + 0 ≤ 78 by omega)
    exact absurd h (by simp [hX0])
/-! WaterWorks.correct(I)J -/
abbrev y_Wa_correct : MethodName := ⟨"WaterWorks", "correct", "(I)J"⟩
abbrev rm_Wa_correct : Room := { frames := 9, cells := 203, slots := 1218, locals := 206 }
theorem h_Wa_correct : y_Wa_correct.cls ≠ "java/lang/invoke/MethodHandle" ∧ y_Wa_correct.cls ≠ "java/lang/invoke/VarHandle" := by decide +kernel
theorem n_Wa_correct : (parseMethodDescriptor y_Wa_correct.desc).map (fun d => d.parameters.length) = some 1 := by decide +kernel
theorem d_Wa_correct_0 : decode prog_1_method_33_code 0 = .ok (.aload_n 0, 1) := by decide +kernel
theorem d_Wa_correct_1 : decode prog_1_method_33_code 1 = .ok (.iload_n 1, 1) := by decide +kernel
theorem d_Wa_correct_2 : decode prog_1_method_33_code 2 = .ok (.invokevirtual 112, 3) := by decide +kernel
theorem d_Wa_correct_5 : decode prog_1_method_33_code 5 = .ok (.astore_n 2, 1) := by decide +kernel
theorem d_Wa_correct_6 : decode prog_1_method_33_code 6 = .ok (.iconst 0, 1) := by decide +kernel
theorem d_Wa_correct_7 : decode prog_1_method_33_code 7 = .ok (.istore_n 3, 1) := by decide +kernel
theorem d_Wa_correct_8 : decode prog_1_method_33_code 8 = .ok (.iload_n 3, 1) := by decide +kernel
theorem d_Wa_correct_9 : decode prog_1_method_33_code 9 = .ok (.aload_n 2, 1) := by decide +kernel
theorem d_Wa_correct_10 : decode prog_1_method_33_code 10 = .ok (.getfield 227, 3) := by decide +kernel
theorem d_Wa_correct_13 : decode prog_1_method_33_code 13 = .ok (.invokevirtual 43, 3) := by decide +kernel
theorem d_Wa_correct_16 : decode prog_1_method_33_code 16 = .ok (.if_icmp .ge 40, 3) := by decide +kernel
theorem d_Wa_correct_19 : decode prog_1_method_33_code 19 = .ok (.aload_n 0, 1) := by decide +kernel
theorem d_Wa_correct_20 : decode prog_1_method_33_code 20 = .ok (.aload_n 2, 1) := by decide +kernel
theorem d_Wa_correct_21 : decode prog_1_method_33_code 21 = .ok (.aload_n 2, 1) := by decide +kernel
theorem d_Wa_correct_22 : decode prog_1_method_33_code 22 = .ok (.getfield 227, 3) := by decide +kernel
theorem d_Wa_correct_25 : decode prog_1_method_33_code 25 = .ok (.iload_n 3, 1) := by decide +kernel
theorem d_Wa_correct_26 : decode prog_1_method_33_code 26 = .ok (.invokevirtual 51, 3) := by decide +kernel
theorem d_Wa_correct_29 : decode prog_1_method_33_code 29 = .ok (.checkcast 234, 3) := by decide +kernel
theorem d_Wa_correct_32 : decode prog_1_method_33_code 32 = .ok (.invokevirtual 247, 3) := by decide +kernel
theorem d_Wa_correct_35 : decode prog_1_method_33_code 35 = .ok (.ldc2_w 245, 3) := by decide +kernel
theorem d_Wa_correct_38 : decode prog_1_method_33_code 38 = .ok (.lcmp, 1) := by decide +kernel
theorem d_Wa_correct_39 : decode prog_1_method_33_code 39 = .ok (.ifCond .eq 7, 3) := by decide +kernel
theorem d_Wa_correct_42 : decode prog_1_method_33_code 42 = .ok (.iconst 1, 1) := by decide +kernel
theorem d_Wa_correct_43 : decode prog_1_method_33_code 43 = .ok (.goto 4, 3) := by decide +kernel
theorem d_Wa_correct_46 : decode prog_1_method_33_code 46 = .ok (.iconst 0, 1) := by decide +kernel
theorem d_Wa_correct_47 : decode prog_1_method_33_code 47 = .ok (.invokestatic 99, 3) := by decide +kernel
theorem d_Wa_correct_50 : decode prog_1_method_33_code 50 = .ok (.iinc 3 1, 3) := by decide +kernel
theorem d_Wa_correct_53 : decode prog_1_method_33_code 53 = .ok (.goto (-45), 3) := by decide +kernel
theorem d_Wa_correct_56 : decode prog_1_method_33_code 56 = .ok (.aload_n 2, 1) := by decide +kernel
theorem d_Wa_correct_57 : decode prog_1_method_33_code 57 = .ok (.invokevirtual 251, 3) := by decide +kernel
theorem d_Wa_correct_60 : decode prog_1_method_33_code 60 = .ok (.lstore_n 3, 1) := by decide +kernel
theorem d_Wa_correct_61 : decode prog_1_method_33_code 61 = .ok (.iconst 0, 1) := by decide +kernel
theorem d_Wa_correct_62 : decode prog_1_method_33_code 62 = .ok (.istore 5, 2) := by decide +kernel
theorem d_Wa_correct_64 : decode prog_1_method_33_code 64 = .ok (.iload 5, 2) := by decide +kernel
theorem d_Wa_correct_66 : decode prog_1_method_33_code 66 = .ok (.aload_n 2, 1) := by decide +kernel
theorem d_Wa_correct_67 : decode prog_1_method_33_code 67 = .ok (.getfield 227, 3) := by decide +kernel
theorem d_Wa_correct_70 : decode prog_1_method_33_code 70 = .ok (.invokevirtual 43, 3) := by decide +kernel
theorem d_Wa_correct_73 : decode prog_1_method_33_code 73 = .ok (.if_icmp .ge 41, 3) := by decide +kernel
theorem d_Wa_correct_76 : decode prog_1_method_33_code 76 = .ok (.aload_n 2, 1) := by decide +kernel
theorem d_Wa_correct_77 : decode prog_1_method_33_code 77 = .ok (.getfield 227, 3) := by decide +kernel
theorem d_Wa_correct_80 : decode prog_1_method_33_code 80 = .ok (.iload 5, 2) := by decide +kernel
theorem d_Wa_correct_82 : decode prog_1_method_33_code 82 = .ok (.invokevirtual 51, 3) := by decide +kernel
theorem d_Wa_correct_85 : decode prog_1_method_33_code 85 = .ok (.checkcast 234, 3) := by decide +kernel
theorem d_Wa_correct_88 : decode prog_1_method_33_code 88 = .ok (.aload_n 0, 1) := by decide +kernel
theorem d_Wa_correct_89 : decode prog_1_method_33_code 89 = .ok (.aload_n 2, 1) := by decide +kernel
theorem d_Wa_correct_90 : decode prog_1_method_33_code 90 = .ok (.aload_n 2, 1) := by decide +kernel
theorem d_Wa_correct_91 : decode prog_1_method_33_code 91 = .ok (.getfield 227, 3) := by decide +kernel
theorem d_Wa_correct_94 : decode prog_1_method_33_code 94 = .ok (.iload 5, 2) := by decide +kernel
theorem d_Wa_correct_96 : decode prog_1_method_33_code 96 = .ok (.invokevirtual 51, 3) := by decide +kernel
theorem d_Wa_correct_99 : decode prog_1_method_33_code 99 = .ok (.checkcast 234, 3) := by decide +kernel
theorem d_Wa_correct_102 : decode prog_1_method_33_code 102 = .ok (.invokevirtual 247, 3) := by decide +kernel
theorem d_Wa_correct_105 : decode prog_1_method_33_code 105 = .ok (.putfield 255, 3) := by decide +kernel
theorem d_Wa_correct_108 : decode prog_1_method_33_code 108 = .ok (.iinc 5 1, 3) := by decide +kernel
theorem d_Wa_correct_111 : decode prog_1_method_33_code 111 = .ok (.goto (-47), 3) := by decide +kernel
theorem d_Wa_correct_114 : decode prog_1_method_33_code 114 = .ok (.aload_n 2, 1) := by decide +kernel
theorem d_Wa_correct_115 : decode prog_1_method_33_code 115 = .ok (.invokevirtual 251, 3) := by decide +kernel
theorem d_Wa_correct_118 : decode prog_1_method_33_code 118 = .ok (.lload_n 3, 1) := by decide +kernel
theorem d_Wa_correct_119 : decode prog_1_method_33_code 119 = .ok (.lsub, 1) := by decide +kernel
theorem d_Wa_correct_120 : decode prog_1_method_33_code 120 = .ok (.lreturn, 1) := by decide +kernel
def wb_Wa_correct_47 (po : Option Value → Pic → Prop) (th : String → Pic → Prop) (K8 : Pic → Nat → Nat → Int32 → Prop) (P : Pic) (a0 : Nat) (a2 : Nat) (x3 : Int32) (t0 : Int32) : Prop := wp_Wa_is (cp_v fun _ => ∀ (x116 : Int32), x116 = x3 + 1 → K8 P a0 a2 x116) th P t0
def wb_Wa_correct_64 (po : Option Value → Pic → Prop) (th : String → Pic → Prop) (K64 : Pic → Nat → Nat → Int64 → Int32 → Prop) (P : Pic) (a0 : Nat) (a2 : Nat) (w3 : Int64) (x5 : Int32) : Prop := p_k P a2 = 4 ∧ ∃ a118, p_r P 122 a2 = some a118 ∧ p_k P a118 = 14 ∧ wp_Ar_size (cp_i fun x120 _ => ((x120 ≤ x5 → (wp_Cu_owes (cp_l fun w121 _ => po (some (.long (w121 - w3))) P) th P a2)) ∧ (¬ x120 ≤ x5 → (∃ a122, p_r P 122 a2 = some a122 ∧ p_k P a122 = 14 ∧ wp_Ar_get (cp_a fun a124 _ => p_k P a124 = 3 ∧ ∃ a126, p_r P 122 a2 = some a126 ∧ p_k P a126 = 14 ∧ wp_Ar_get (cp_a fun a128 _ => p_k P a128 = 3 ∧ p_k P a0 = 1 ∧ wp_Wa_priceOf (cp_l fun w131 _ => ∀ (x132 : Int32), x132 = x5 + 1 → K64 (s_l P 82 a124 w131) a0 a2 w3 x132) th P a0 a2 a128) th P a126 x5) th P a122 x5)))) th P a118
def wl_Wa_correct_64 (po : Option Value → Pic → Prop) (th : String → Pic → Prop) : Nat → Pic → Nat → Nat → Int64 → Int32 → Prop
  | 0 => fun _ _ _ _ _ => False
  | n + 1 => wb_Wa_correct_64 po th (wl_Wa_correct_64 po th n)
def wb_Wa_correct_8 (po : Option Value → Pic → Prop) (th : String → Pic → Prop) (K8 : Pic → Nat → Nat → Int32 → Prop) (P : Pic) (a0 : Nat) (a2 : Nat) (x3 : Int32) : Prop := p_k P a2 = 4 ∧ ∃ a104, p_r P 122 a2 = some a104 ∧ p_k P a104 = 14 ∧ wp_Ar_size (cp_i fun x106 _ => ((x106 ≤ x3 → (wp_Cu_owes (cp_l fun w107 _ => wl_Wa_correct_64 po th 7 P a0 a2 w107 (0 : Int32)) th P a2)) ∧ (¬ x106 ≤ x3 → (∃ a108, p_r P 122 a2 = some a108 ∧ p_k P a108 = 14 ∧ wp_Ar_get (cp_a fun a110 _ => p_k P a110 = 3 ∧ p_k P a0 = 1 ∧ wp_Wa_priceOf (cp_l fun w113 _ => (((lg_cmp w113 (-1 : Int64)) = 0 → (wb_Wa_correct_47 po th K8 P a0 a2 x3 (0 : Int32))) ∧ (¬ (lg_cmp w113 (-1 : Int64)) = 0 → (wb_Wa_correct_47 po th K8 P a0 a2 x3 (1 : Int32))))) th P a0 a2 a110) th P a108 x3)))) th P a104
def wl_Wa_correct_8 (po : Option Value → Pic → Prop) (th : String → Pic → Prop) : Nat → Pic → Nat → Nat → Int32 → Prop
  | 0 => fun _ _ _ _ => False
  | n + 1 => wb_Wa_correct_8 po th (wl_Wa_correct_8 po th n)
def wp_Wa_correct (po : Option Value → Pic → Prop) (th : String → Pic → Prop) (P : Pic) (a0 : Nat) (x1 : Int32) : Prop := p_k P a0 = 1 ∧ wp_Wa_customerAt (cp_a fun a102 _ => wl_Wa_correct_8 po th 7 P a0 a102 (0 : Int32)) th P a0 x1
set_option maxHeartbeats 4000000 in
set_option maxRecDepth 100000 in
theorem wk_Wa_correct_47 {p : Program} {l : Launch} {e : Env} {s : State} {m : MethodId} {args : Array Value} {below : List Frame} {meth : Method} {c : Code} {D : pq_D} {P0 : Pic} {po : Option Value → Pic → Prop} {th : String → Pic → Prop} {K8 : Pic → Nat → Nat → Int32 → Prop} {zc zs : Nat} (hfl : l.flags = flags0) (C : Cx p e s m args meth c prog_1_method_33_code 6 "WaterWorks" D P0) (hmg : e.platform.magicAccessors = ({} : Platform).magicAccessors) (hr : meth.sig.returnType = (some .long)) (hin : meth.name = "correct") (htab : c.exceptionTable.toList = tableOf []) (HK8 : ∀ (P : Pic) (a0 : Nat) (a2 : Nat) (x3 : Int32) (H : Heap) (locs : List Loc) (cells slots : Nat) (ls : Array Slot), K8 P a0 a2 x3 → Pi D P H → Sg (cq_A P0 s) s.heap H P locs → lv_has ls 6 [(0, .ref a0), (2, .ref a2), (3, .int x3)] → cells + zc + 104 ≤ 203 → slots + zs + 624 ≤ 1218 → W p l e rm_Wa_correct s m args below meth c H locs cells slots (mt_MQ below (cq_Q D P0 false po th) args s 203 1218 (cq_free P0 false)) (F0 m 8 ls [])) : ∀ (P : Pic) (a0 : Nat) (a2 : Nat) (x3 : Int32) (t0 : Int32) (H : Heap) (locs : List Loc) (cells slots : Nat) (ls : Array Slot), wb_Wa_correct_47 po th K8 P a0 a2 x3 t0 → Pi D P H → Sg (cq_A P0 s) s.heap H P locs → lv_has ls 6 [(0, .ref a0), (2, .ref a2), (3, .int x3)] → cells + zc + 105 ≤ 203 → slots + zs + 630 ≤ 1218 → W p l e rm_Wa_correct s m args below meth c H locs cells slots (mt_MQ below (cq_Q D P0 false po th) args s 203 1218 (cq_free P0 false)) (F0 m 47 ls [.int t0]) := by
  intro P a0 a2 x3 t0 H locs cells slots ls h hP hS hl hcc hss
  obtain ⟨hx, hb, hml, hown, hlocks, htr, hT, hK, hSt, hN, hP0⟩ := id C
  have L227_3 : pq_fl s m args 227 3 2 := ⟨_, "WaterWorks", "WaterWorks$Customer", rfl, by decide, hown, Or.inr ⟨_, hT _ k_701 _⟩, (fun _ z => z)⟩
  have L255_2 : pq_fl s m args 255 2 2 := ⟨_, "WaterWorks", "WaterWorks$Bill", rfl, by decide, hown, Or.inr ⟨_, hT _ k_1067 _⟩, (fun _ z => z)⟩
  unfold wb_Wa_correct_47 at h
  refine cr_v (pc := 47) C (rest := []) (mt_invS (As := [.int t0]) hx hb hown (hT _ k_725 _) (hT _ k_726 _) (hT _ k_1 _) (mt_Cd.code (hT _ k_727 #[])) h_Wa_is n_Wa_is rfl d_Wa_correct_47) (ct_Wa_is hfl D h) k_727 k_1 ⟨Nat.le_of_ble_eq_true rfl, Nat.le_of_ble_eq_true rfl⟩ ⟨(show cells + 1 ≤ 203 by omega), (show slots + 6 ≤ 1218 by omega)⟩ hl.1 d_Wa_correct_47 (Nat.le_of_ble_eq_true rfl) hP hS (fun H locs h hP hS => ?_) (fun xx X H locs h hX hex hP hS => ?_)
  · obtain ⟨x116, ex116⟩ : ∃ z : Int32, z = x3 + 1 := ⟨_, rfl⟩
    replace h := h x116 ex116
    refine lv_iinc (pc := 50) (v := x116) (lv' := [(3, .int x116), (0, .ref a0), (2, .ref a2)]) hx hb d_Wa_correct_50 hl (k := 2) rfl (by rw [ex116]; rfl) (by decide) rfl (fun ls hl => ?_)
    refine lv_goto (pc := 53) (tgt := 8) hx hb d_Wa_correct_53 (by decide) ?_
    exact HK8 _ a0 a2 x116 _ _ _ _ _ h hP hS (lv_sub hl [1, 2, 0] rfl) (show cells + 1 + zc + 104 ≤ 203 by omega) (show slots + 6 + zs + 624 ≤ 1218 by omega)
  · exact cq_out hlocks (pq_nil htab rfl) (show cells + 1 + 0 ≤ 203 by omega) (show slots + 6 + 0 ≤ 1218 by omega) hX hex hP hS h
set_option maxHeartbeats 4000000 in
set_option maxRecDepth 100000 in
theorem wk_Wa_correct_64 {p : Program} {l : Launch} {e : Env} {s : State} {m : MethodId} {args : Array Value} {below : List Frame} {meth : Method} {c : Code} {D : pq_D} {P0 : Pic} {po : Option Value → Pic → Prop} {th : String → Pic → Prop} {K64 : Pic → Nat → Nat → Int64 → Int32 → Prop} {zc zs : Nat} (hfl : l.flags = flags0) (C : Cx p e s m args meth c prog_1_method_33_code 6 "WaterWorks" D P0) (hmg : e.platform.magicAccessors = ({} : Platform).magicAccessors) (hr : meth.sig.returnType = (some .long)) (hin : meth.name = "correct") (htab : c.exceptionTable.toList = tableOf []) (HK64 : ∀ (P : Pic) (a0 : Nat) (a2 : Nat) (w3 : Int64) (x5 : Int32) (H : Heap) (locs : List Loc) (cells slots : Nat) (ls : Array Slot), K64 P a0 a2 w3 x5 → Pi D P H → Sg (cq_A P0 s) s.heap H P locs → lv_has ls 6 [(0, .ref a0), (2, .ref a2), (3, .long w3), (5, .int x5)] → cells + zc + 13 ≤ 203 → slots + zs + 78 ≤ 1218 → W p l e rm_Wa_correct s m args below meth c H locs cells slots (mt_MQ below (cq_Q D P0 false po th) args s 203 1218 (cq_free P0 false)) (F0 m 64 ls [])) : ∀ (P : Pic) (a0 : Nat) (a2 : Nat) (w3 : Int64) (x5 : Int32) (H : Heap) (locs : List Loc) (cells slots : Nat) (ls : Array Slot), wb_Wa_correct_64 po th K64 P a0 a2 w3 x5 → Pi D P H → Sg (cq_A P0 s) s.heap H P locs → lv_has ls 6 [(0, .ref a0), (2, .ref a2), (3, .long w3), (5, .int x5)] → cells + zc + 26 ≤ 203 → slots + zs + 156 ≤ 1218 → W p l e rm_Wa_correct s m args below meth c H locs cells slots (mt_MQ below (cq_Q D P0 false po th) args s 203 1218 (cq_free P0 false)) (F0 m 64 ls []) := by
  intro P a0 a2 w3 x5 H locs cells slots ls h hP hS hl hcc hss
  obtain ⟨hx, hb, hml, hown, hlocks, htr, hT, hK, hSt, hN, hP0⟩ := id C
  have L227_3 : pq_fl s m args 227 3 2 := ⟨_, "WaterWorks", "WaterWorks$Customer", rfl, by decide, hown, Or.inr ⟨_, hT _ k_701 _⟩, (fun _ z => z)⟩
  have L255_2 : pq_fl s m args 255 2 2 := ⟨_, "WaterWorks", "WaterWorks$Bill", rfl, by decide, hown, Or.inr ⟨_, hT _ k_1067 _⟩, (fun _ z => z)⟩
  unfold wb_Wa_correct_64 at h
  refine lv_iload (pc := 64) hx hb d_Wa_correct_64 (lv_at hl 3 rfl) ?_
  refine lv_aload_n (pc := 66) hx hb d_Wa_correct_66 rfl (lv_at hl 1 rfl) ?_
  obtain ⟨hk117, h⟩ := h
  obtain ⟨a118, ea118, h⟩ := h
  refine pq_geta (pc := 67) (f := 122) hx hb hT hK hP L227_3 hk117 rfl ea118 d_Wa_correct_67 ?_
  obtain ⟨hk119, h⟩ := h
  refine cr_i (pc := 70) C (rest := [.int x5]) (mt_invV (As := []) hx hb hown (hT _ k_471 _) (hT _ k_472 _) (hT _ k_473 _) (mt_Cd.code (hT _ k_474 #[])) h_Ar_size (pq_recv hK hP hk119 rfl) n_Ar_size rfl d_Wa_correct_70) (ct_Ar_size hfl D h) k_474 k_5 ⟨Nat.le_of_ble_eq_true rfl, Nat.le_of_ble_eq_true rfl⟩ ⟨(show cells + 0 ≤ 203 by omega), (show slots + 0 ≤ 1218 by omega)⟩ hl.1 d_Wa_correct_70 (Nat.le_of_ble_eq_true rfl) hP hS (fun x120 H locs h hP hS => ?_) (fun xx X H locs h hX hex hP hS => ?_)
  · refine lv_icmp_ge (pc := 73) (tgt := 114) hx hb d_Wa_correct_73 (by decide) (fun c133 => ?_) (fun c133 => ?_)
    · replace h := h.1 c133
      refine lv_aload_n (pc := 114) hx hb d_Wa_correct_114 rfl (lv_at hl 1 rfl) ?_
      refine cr_l (pc := 115) C (rest := []) (mt_invV (As := []) hx hb hown (hT _ k_1087 _) (hT _ k_1088 _) (hT _ k_1089 _) (mt_Cd.code (hT _ k_1090 #[])) h_Cu_owes (pq_recv hK hP hk117 rfl) n_Cu_owes rfl d_Wa_correct_115) (ct_Cu_owes hfl D h) k_1090 k_31 ⟨Nat.le_of_ble_eq_true rfl, Nat.le_of_ble_eq_true rfl⟩ ⟨(show cells + 0 + 0 ≤ 203 by omega), (show slots + 0 + 0 ≤ 1218 by omega)⟩ hl.1 d_Wa_correct_115 (Nat.le_of_ble_eq_true rfl) hP hS (fun w121 H locs h hP hS => ?_) (fun xx X H locs h hX hex hP hS => ?_)
      · refine lv_lload_n (pc := 118) hx hb d_Wa_correct_118 rfl (lv_at hl 2 rfl) ?_
        refine lv_lsub (pc := 119) hx hb d_Wa_correct_119 ?_
        exact we_l (pc := 120) hx hb hlocks hr hP hS (show cells + 0 + 0 + 0 ≤ 203 by omega) (show slots + 0 + 0 + 0 ≤ 1218 by omega) h d_Wa_correct_120
      · exact cq_out hlocks (pq_nil htab rfl) (show cells + 0 + 0 + 0 ≤ 203 by omega) (show slots + 0 + 0 + 0 ≤ 1218 by omega) hX hex hP hS h
    · replace h := h.2 c133
      refine lv_aload_n (pc := 76) hx hb d_Wa_correct_76 rfl (lv_at hl 1 rfl) ?_
      obtain ⟨a122, ea122, h⟩ := h
      refine pq_geta (pc := 77) (f := 122) hx hb hT hK hP L227_3 hk117 rfl ea122 d_Wa_correct_77 ?_
      refine lv_iload (pc := 80) hx hb d_Wa_correct_80 (lv_at hl 3 rfl) ?_
      obtain ⟨hk123, h⟩ := h
      refine cr_a (pc := 82) C (rest := []) (mt_invV (As := [.int x5]) hx hb hown (hT _ k_606 _) (hT _ k_607 _) (hT _ k_608 _) (mt_Cd.code (hT _ k_609 #[])) h_Ar_get (pq_recv hK hP hk123 rfl) n_Ar_get rfl d_Wa_correct_82) (ct_Ar_get hfl D h) k_609 k_5 ⟨Nat.le_of_ble_eq_true rfl, Nat.le_of_ble_eq_true rfl⟩ ⟨(show cells + 0 + 0 ≤ 203 by omega), (show slots + 0 + 0 ≤ 1218 by omega)⟩ hl.1 d_Wa_correct_82 (Nat.le_of_ble_eq_true rfl) hP hS (fun a124 H locs h hP hS => ?_) (fun xx X H locs h hX hex hP hS => ?_)
      · obtain ⟨hk125, h⟩ := h
        refine pq_cast (pc := 85) hx hb hT hK hP hown k_1054 hk125 rfl k_1356 d_Wa_correct_85 ?_
        refine lv_aload_n (pc := 88) hx hb d_Wa_correct_88 rfl (lv_at hl 0 rfl) ?_
        refine lv_aload_n (pc := 89) hx hb d_Wa_correct_89 rfl (lv_at hl 1 rfl) ?_
        refine lv_aload_n (pc := 90) hx hb d_Wa_correct_90 rfl (lv_at hl 1 rfl) ?_
        obtain ⟨a126, ea126, h⟩ := h
        refine pq_geta (pc := 91) (f := 122) hx hb hT hK hP L227_3 hk117 rfl ea126 d_Wa_correct_91 ?_
        refine lv_iload (pc := 94) hx hb d_Wa_correct_94 (lv_at hl 3 rfl) ?_
        obtain ⟨hk127, h⟩ := h
        refine cr_a (pc := 96) C (rest := [.ref a2, .ref a0, .ref a124]) (mt_invV (As := [.int x5]) hx hb hown (hT _ k_606 _) (hT _ k_607 _) (hT _ k_608 _) (mt_Cd.code (hT _ k_609 #[])) h_Ar_get (pq_recv hK hP hk127 rfl) n_Ar_get rfl d_Wa_correct_96) (ct_Ar_get hfl D h) k_609 k_5 ⟨Nat.le_of_ble_eq_true rfl, Nat.le_of_ble_eq_true rfl⟩ ⟨(show cells + 0 + 0 + 0 ≤ 203 by omega), (show slots + 0 + 0 + 0 ≤ 1218 by omega)⟩ hl.1 d_Wa_correct_96 (Nat.le_of_ble_eq_true rfl) hP hS (fun a128 H locs h hP hS => ?_) (fun xx X H locs h hX hex hP hS => ?_)
        · obtain ⟨hk129, h⟩ := h
          refine pq_cast (pc := 99) hx hb hT hK hP hown k_1054 hk129 rfl k_1356 d_Wa_correct_99 ?_
          obtain ⟨hk130, h⟩ := h
          refine cr_l (pc := 102) C (rest := [.ref a124]) (mt_invV (As := [.ref a2, .ref a128]) hx hb hown (hT _ k_1082 _) (hT _ k_1084 _) (hT _ ks_16 _) (mt_Cd.codeWith (hT _ k_1085 #[])) h_Wa_priceOf (pq_recv hK hP hk130 rfl) n_Wa_priceOf rfl d_Wa_correct_102) (ct_Wa_priceOf hfl D h) k_1085 k_1 ⟨Nat.le_of_ble_eq_true rfl, Nat.le_of_ble_eq_true rfl⟩ ⟨(show cells + 0 + 0 + 0 + 13 ≤ 203 by omega), (show slots + 0 + 0 + 0 + 78 ≤ 1218 by omega)⟩ hl.1 d_Wa_correct_102 (Nat.le_of_ble_eq_true rfl) hP hS (fun w131 H locs h hP hS => ?_) (fun xx X H locs h hX hex hP hS => ?_)
          · refine pq_putl (pc := 105) (f := 82) hx hb hT hK hP hS L255_2 hk125 rfl rfl rfl rfl d_Wa_correct_105 (fun H locs hP hS => ?_)
            have hk117 : p_k (s_l P 82 a124 w131) a2 = 4 := by rw [pk_l]; exact hk117
            have hk119 : p_k (s_l P 82 a124 w131) a118 = 14 := by rw [pk_l]; exact hk119
            have hk123 : p_k (s_l P 82 a124 w131) a122 = 14 := by rw [pk_l]; exact hk123
            have hk125 : p_k (s_l P 82 a124 w131) a124 = 3 := by rw [pk_l]; exact hk125
            have hk127 : p_k (s_l P 82 a124 w131) a126 = 14 := by rw [pk_l]; exact hk127
            have hk129 : p_k (s_l P 82 a124 w131) a128 = 3 := by rw [pk_l]; exact hk129
            have hk130 : p_k (s_l P 82 a124 w131) a0 = 1 := by rw [pk_l]; exact hk130
            obtain ⟨x132, ex132⟩ : ∃ z : Int32, z = x5 + 1 := ⟨_, rfl⟩
            replace h := h x132 ex132
            refine lv_iinc (pc := 108) (v := x132) (lv' := [(5, .int x132), (0, .ref a0), (2, .ref a2), (3, .long w3)]) hx hb d_Wa_correct_108 hl (k := 3) rfl (by rw [ex132]; rfl) (by decide) rfl (fun ls hl => ?_)
            refine lv_goto (pc := 111) (tgt := 64) hx hb d_Wa_correct_111 (by decide) ?_
            exact HK64 _ a0 a2 w3 x132 _ _ _ _ _ h hP hS (lv_sub hl [1, 2, 3, 0] rfl) (show cells + 0 + 0 + 0 + 13 + zc + 13 ≤ 203 by omega) (show slots + 0 + 0 + 0 + 78 + zs + 78 ≤ 1218 by omega)
          · exact cq_out hlocks (pq_nil htab rfl) (show cells + 0 + 0 + 0 + 13 + 0 ≤ 203 by omega) (show slots + 0 + 0 + 0 + 78 + 0 ≤ 1218 by omega) hX hex hP hS h
        · exact cq_out hlocks (pq_nil htab rfl) (show cells + 0 + 0 + 0 + 0 ≤ 203 by omega) (show slots + 0 + 0 + 0 + 0 ≤ 1218 by omega) hX hex hP hS h
      · exact cq_out hlocks (pq_nil htab rfl) (show cells + 0 + 0 + 0 ≤ 203 by omega) (show slots + 0 + 0 + 0 ≤ 1218 by omega) hX hex hP hS h
  · exact cq_out hlocks (pq_nil htab rfl) (show cells + 0 + 0 ≤ 203 by omega) (show slots + 0 + 0 ≤ 1218 by omega) hX hex hP hS h
theorem wm_Wa_correct_64 {p : Program} {l : Launch} {e : Env} {s : State} {m : MethodId} {args : Array Value} {below : List Frame} {meth : Method} {c : Code} {D : pq_D} {P0 : Pic} {po : Option Value → Pic → Prop} {th : String → Pic → Prop} (hfl : l.flags = flags0) (C : Cx p e s m args meth c prog_1_method_33_code 6 "WaterWorks" D P0) (hmg : e.platform.magicAccessors = ({} : Platform).magicAccessors) (hr : meth.sig.returnType = (some .long)) (hin : meth.name = "correct") (htab : c.exceptionTable.toList = tableOf []) : ∀ n : Nat, ∀ (P : Pic) (a0 : Nat) (a2 : Nat) (w3 : Int64) (x5 : Int32) (H : Heap) (locs : List Loc) (cells slots : Nat) (ls : Array Slot), wl_Wa_correct_64 po th n P a0 a2 w3 x5 → Pi D P H → Sg (cq_A P0 s) s.heap H P locs → lv_has ls 6 [(0, .ref a0), (2, .ref a2), (3, .long w3), (5, .int x5)] → cells + n * 13 + 13 ≤ 203 → slots + n * 78 + 78 ≤ 1218 → W p l e rm_Wa_correct s m args below meth c H locs cells slots (mt_MQ below (cq_Q D P0 false po th) args s 203 1218 (cq_free P0 false)) (F0 m 64 ls []) := by
  intro n
  induction n with
  | zero => intro P a0 a2 w3 x5 H locs cells slots ls h; exact h.elim
  | succ n ih => exact fun P a0 a2 w3 x5 H locs cells slots ls h hP hS hl hcc hss => wk_Wa_correct_64 (zc := n * 13) (zs := n * 78) hfl C hmg hr hin htab ih P a0 a2 w3 x5 H locs cells slots ls h hP hS hl (by omega) (by omega)
set_option maxHeartbeats 4000000 in
set_option maxRecDepth 100000 in
theorem wk_Wa_correct_8 {p : Program} {l : Launch} {e : Env} {s : State} {m : MethodId} {args : Array Value} {below : List Frame} {meth : Method} {c : Code} {D : pq_D} {P0 : Pic} {po : Option Value → Pic → Prop} {th : String → Pic → Prop} {K8 : Pic → Nat → Nat → Int32 → Prop} {zc zs : Nat} (hfl : l.flags = flags0) (C : Cx p e s m args meth c prog_1_method_33_code 6 "WaterWorks" D P0) (hmg : e.platform.magicAccessors = ({} : Platform).magicAccessors) (hr : meth.sig.returnType = (some .long)) (hin : meth.name = "correct") (htab : c.exceptionTable.toList = tableOf []) (HK8 : ∀ (P : Pic) (a0 : Nat) (a2 : Nat) (x3 : Int32) (H : Heap) (locs : List Loc) (cells slots : Nat) (ls : Array Slot), K8 P a0 a2 x3 → Pi D P H → Sg (cq_A P0 s) s.heap H P locs → lv_has ls 6 [(0, .ref a0), (2, .ref a2), (3, .int x3)] → cells + zc + 104 ≤ 203 → slots + zs + 624 ≤ 1218 → W p l e rm_Wa_correct s m args below meth c H locs cells slots (mt_MQ below (cq_Q D P0 false po th) args s 203 1218 (cq_free P0 false)) (F0 m 8 ls [])) : ∀ (P : Pic) (a0 : Nat) (a2 : Nat) (x3 : Int32) (H : Heap) (locs : List Loc) (cells slots : Nat) (ls : Array Slot), wb_Wa_correct_8 po th K8 P a0 a2 x3 → Pi D P H → Sg (cq_A P0 s) s.heap H P locs → lv_has ls 6 [(0, .ref a0), (2, .ref a2), (3, .int x3)] → cells + zc + 118 ≤ 203 → slots + zs + 708 ≤ 1218 → W p l e rm_Wa_correct s m args below meth c H locs cells slots (mt_MQ below (cq_Q D P0 false po th) args s 203 1218 (cq_free P0 false)) (F0 m 8 ls []) := by
  intro P a0 a2 x3 H locs cells slots ls h hP hS hl hcc hss
  obtain ⟨hx, hb, hml, hown, hlocks, htr, hT, hK, hSt, hN, hP0⟩ := id C
  have L227_3 : pq_fl s m args 227 3 2 := ⟨_, "WaterWorks", "WaterWorks$Customer", rfl, by decide, hown, Or.inr ⟨_, hT _ k_701 _⟩, (fun _ z => z)⟩
  have L255_2 : pq_fl s m args 255 2 2 := ⟨_, "WaterWorks", "WaterWorks$Bill", rfl, by decide, hown, Or.inr ⟨_, hT _ k_1067 _⟩, (fun _ z => z)⟩
  unfold wb_Wa_correct_8 at h
  refine lv_iload_n (pc := 8) hx hb d_Wa_correct_8 rfl (lv_at hl 2 rfl) ?_
  refine lv_aload_n (pc := 9) hx hb d_Wa_correct_9 rfl (lv_at hl 1 rfl) ?_
  obtain ⟨hk103, h⟩ := h
  obtain ⟨a104, ea104, h⟩ := h
  refine pq_geta (pc := 10) (f := 122) hx hb hT hK hP L227_3 hk103 rfl ea104 d_Wa_correct_10 ?_
  obtain ⟨hk105, h⟩ := h
  refine cr_i (pc := 13) C (rest := [.int x3]) (mt_invV (As := []) hx hb hown (hT _ k_471 _) (hT _ k_472 _) (hT _ k_473 _) (mt_Cd.code (hT _ k_474 #[])) h_Ar_size (pq_recv hK hP hk105 rfl) n_Ar_size rfl d_Wa_correct_13) (ct_Ar_size hfl D h) k_474 k_5 ⟨Nat.le_of_ble_eq_true rfl, Nat.le_of_ble_eq_true rfl⟩ ⟨(show cells + 0 ≤ 203 by omega), (show slots + 0 ≤ 1218 by omega)⟩ hl.1 d_Wa_correct_13 (Nat.le_of_ble_eq_true rfl) hP hS (fun x106 H locs h hP hS => ?_) (fun xx X H locs h hX hex hP hS => ?_)
  · refine lv_icmp_ge (pc := 16) (tgt := 56) hx hb d_Wa_correct_16 (by decide) (fun c115 => ?_) (fun c115 => ?_)
    · replace h := h.1 c115
      refine lv_aload_n (pc := 56) hx hb d_Wa_correct_56 rfl (lv_at hl 1 rfl) ?_
      refine cr_l (pc := 57) C (rest := []) (mt_invV (As := []) hx hb hown (hT _ k_1087 _) (hT _ k_1088 _) (hT _ k_1089 _) (mt_Cd.code (hT _ k_1090 #[])) h_Cu_owes (pq_recv hK hP hk103 rfl) n_Cu_owes rfl d_Wa_correct_57) (ct_Cu_owes hfl D h) k_1090 k_31 ⟨Nat.le_of_ble_eq_true rfl, Nat.le_of_ble_eq_true rfl⟩ ⟨(show cells + 0 + 0 ≤ 203 by omega), (show slots + 0 + 0 ≤ 1218 by omega)⟩ hl.1 d_Wa_correct_57 (Nat.le_of_ble_eq_true rfl) hP hS (fun w107 H locs h hP hS => ?_) (fun xx X H locs h hX hex hP hS => ?_)
      · refine lv_lstore_n (pc := 60) (lv' := [(3, .long w107), (0, .ref a0), (2, .ref a2)]) hx hb d_Wa_correct_60 rfl hl (by decide) rfl (fun ls hl => ?_)
        refine lv_iconst (pc := 61) (v := 0) hx hb d_Wa_correct_61 (by decide) ?_
        refine lv_istore (pc := 62) (lv' := [(5, .int (0 : Int32)), (3, .long w107), (0, .ref a0), (2, .ref a2)]) hx hb d_Wa_correct_62 hl (by decide) rfl (fun ls hl => ?_)
        exact wm_Wa_correct_64 hfl C hmg hr hin htab 7 _ a0 a2 w107 (0 : Int32) _ _ _ _ _ h hP hS (lv_sub hl [2, 3, 1, 0] rfl) (show cells + 0 + 0 + 7 * 13 + 13 ≤ 203 by omega) (show slots + 0 + 0 + 7 * 78 + 78 ≤ 1218 by omega)
      · exact cq_out hlocks (pq_nil htab rfl) (show cells + 0 + 0 + 0 ≤ 203 by omega) (show slots + 0 + 0 + 0 ≤ 1218 by omega) hX hex hP hS h
    · replace h := h.2 c115
      refine lv_aload_n (pc := 19) hx hb d_Wa_correct_19 rfl (lv_at hl 0 rfl) ?_
      refine lv_aload_n (pc := 20) hx hb d_Wa_correct_20 rfl (lv_at hl 1 rfl) ?_
      refine lv_aload_n (pc := 21) hx hb d_Wa_correct_21 rfl (lv_at hl 1 rfl) ?_
      obtain ⟨a108, ea108, h⟩ := h
      refine pq_geta (pc := 22) (f := 122) hx hb hT hK hP L227_3 hk103 rfl ea108 d_Wa_correct_22 ?_
      refine lv_iload_n (pc := 25) hx hb d_Wa_correct_25 rfl (lv_at hl 2 rfl) ?_
      obtain ⟨hk109, h⟩ := h
      refine cr_a (pc := 26) C (rest := [.ref a2, .ref a0]) (mt_invV (As := [.int x3]) hx hb hown (hT _ k_606 _) (hT _ k_607 _) (hT _ k_608 _) (mt_Cd.code (hT _ k_609 #[])) h_Ar_get (pq_recv hK hP hk109 rfl) n_Ar_get rfl d_Wa_correct_26) (ct_Ar_get hfl D h) k_609 k_5 ⟨Nat.le_of_ble_eq_true rfl, Nat.le_of_ble_eq_true rfl⟩ ⟨(show cells + 0 + 0 ≤ 203 by omega), (show slots + 0 + 0 ≤ 1218 by omega)⟩ hl.1 d_Wa_correct_26 (Nat.le_of_ble_eq_true rfl) hP hS (fun a110 H locs h hP hS => ?_) (fun xx X H locs h hX hex hP hS => ?_)
      · obtain ⟨hk111, h⟩ := h
        refine pq_cast (pc := 29) hx hb hT hK hP hown k_1054 hk111 rfl k_1356 d_Wa_correct_29 ?_
        obtain ⟨hk112, h⟩ := h
        refine cr_l (pc := 32) C (rest := []) (mt_invV (As := [.ref a2, .ref a110]) hx hb hown (hT _ k_1082 _) (hT _ k_1084 _) (hT _ ks_16 _) (mt_Cd.codeWith (hT _ k_1085 #[])) h_Wa_priceOf (pq_recv hK hP hk112 rfl) n_Wa_priceOf rfl d_Wa_correct_32) (ct_Wa_priceOf hfl D h) k_1085 k_1 ⟨Nat.le_of_ble_eq_true rfl, Nat.le_of_ble_eq_true rfl⟩ ⟨(show cells + 0 + 0 + 13 ≤ 203 by omega), (show slots + 0 + 0 + 78 ≤ 1218 by omega)⟩ hl.1 d_Wa_correct_32 (Nat.le_of_ble_eq_true rfl) hP hS (fun w113 H locs h hP hS => ?_) (fun xx X H locs h hX hex hP hS => ?_)
        · refine lv_ldc2 (pc := 35) hx hb hown (hT _ k_1086 _) d_Wa_correct_35 ?_
          refine W.lcmp hx hb d_Wa_correct_38 ?_
          refine lv_if_eq (pc := 39) (tgt := 46) hx hb d_Wa_correct_39 (by decide) (fun c114 => ?_) (fun c114 => ?_)
          · replace h := h.1 c114
            refine lv_iconst (pc := 46) (v := 0) hx hb d_Wa_correct_46 (by decide) ?_
            exact wk_Wa_correct_47 hfl C hmg hr hin htab HK8 _ a0 a2 x3 (0 : Int32) _ _ _ _ _ h hP hS (lv_sub hl [0, 1, 2] rfl) (show cells + 0 + 0 + 13 + zc + 105 ≤ 203 by omega) (show slots + 0 + 0 + 78 + zs + 630 ≤ 1218 by omega)
          · replace h := h.2 c114
            refine lv_iconst (pc := 42) (v := 1) hx hb d_Wa_correct_42 (by decide) ?_
            refine lv_goto (pc := 43) (tgt := 47) hx hb d_Wa_correct_43 (by decide) ?_
            exact wk_Wa_correct_47 hfl C hmg hr hin htab HK8 _ a0 a2 x3 (1 : Int32) _ _ _ _ _ h hP hS (lv_sub hl [0, 1, 2] rfl) (show cells + 0 + 0 + 13 + zc + 105 ≤ 203 by omega) (show slots + 0 + 0 + 78 + zs + 630 ≤ 1218 by omega)
        · exact cq_out hlocks (pq_nil htab rfl) (show cells + 0 + 0 + 13 + 0 ≤ 203 by omega) (show slots + 0 + 0 + 78 + 0 ≤ 1218 by omega) hX hex hP hS h
      · exact cq_out hlocks (pq_nil htab rfl) (show cells + 0 + 0 + 0 ≤ 203 by omega) (show slots + 0 + 0 + 0 ≤ 1218 by omega) hX hex hP hS h
  · exact cq_out hlocks (pq_nil htab rfl) (show cells + 0 + 0 ≤ 203 by omega) (show slots + 0 + 0 ≤ 1218 by omega) hX hex hP hS h
theorem wm_Wa_correct_8 {p : Program} {l : Launch} {e : Env} {s : State} {m : MethodId} {args : Array Value} {below : List Frame} {meth : Method} {c : Code} {D : pq_D} {P0 : Pic} {po : Option Value → Pic → Prop} {th : String → Pic → Prop} (hfl : l.flags = flags0) (C : Cx p e s m args meth c prog_1_method_33_code 6 "WaterWorks" D P0) (hmg : e.platform.magicAccessors = ({} : Platform).magicAccessors) (hr : meth.sig.returnType = (some .long)) (hin : meth.name = "correct") (htab : c.exceptionTable.toList = tableOf []) : ∀ n : Nat, ∀ (P : Pic) (a0 : Nat) (a2 : Nat) (x3 : Int32) (H : Heap) (locs : List Loc) (cells slots : Nat) (ls : Array Slot), wl_Wa_correct_8 po th n P a0 a2 x3 → Pi D P H → Sg (cq_A P0 s) s.heap H P locs → lv_has ls 6 [(0, .ref a0), (2, .ref a2), (3, .int x3)] → cells + n * 14 + 104 ≤ 203 → slots + n * 84 + 624 ≤ 1218 → W p l e rm_Wa_correct s m args below meth c H locs cells slots (mt_MQ below (cq_Q D P0 false po th) args s 203 1218 (cq_free P0 false)) (F0 m 8 ls []) := by
  intro n
  induction n with
  | zero => intro P a0 a2 x3 H locs cells slots ls h; exact h.elim
  | succ n ih => exact fun P a0 a2 x3 H locs cells slots ls h hP hS hl hcc hss => wk_Wa_correct_8 (zc := n * 14) (zs := n * 84) hfl C hmg hr hin htab ih P a0 a2 x3 H locs cells slots ls h hP hS hl (by omega) (by omega)
set_option maxHeartbeats 4000000 in
set_option maxRecDepth 100000 in
theorem ct_Wa_correct {l : Launch} (hfl : l.flags = flags0) (D : pq_D) {po : Option Value → Pic → Prop} {th : String → Pic → Prop} {P : Pic} {a0 : Nat} {x1 : Int32} (h : wp_Wa_correct po th P a0 x1) : CT l D y_Wa_correct (.code y_Wa_correct prog_1_method_33_code 6 (some .long)) rm_Wa_correct false [.ref a0, .int x1] P po th := by
  refine ct_of (hs := []) hfl (by decide +kernel) (Or.inl ⟨rfl, rfl⟩) (Nat.le_of_ble_eq_true rfl) ?_
  intro p e s m below meth c C hmg hr hin htab ls hl
  have hl : lv_has ls 6 [(0, .ref a0), (1, .int x1)] := hl
  generalize hargs : ([.ref a0, .int x1] : List Value).toArray = args at C ⊢
  obtain ⟨hx, hb, hml, hown, hlocks, htr, hT, hK, hSt, hN, hP0⟩ := id C
  have L227_3 : pq_fl s m args 227 3 2 := ⟨_, "WaterWorks", "WaterWorks$Customer", rfl, by decide, hown, Or.inr ⟨_, hT _ k_701 _⟩, (fun _ z => z)⟩
  have L255_2 : pq_fl s m args 255 2 2 := ⟨_, "WaterWorks", "WaterWorks$Bill", rfl, by decide, hown, Or.inr ⟨_, hT _ k_1067 _⟩, (fun _ z => z)⟩
  have hP : Pi D P s.heap := hP0
  have hS : Sg (cq_A P s) s.heap s.heap P [] := Sg.start hP0
  unfold wp_Wa_correct at h
  refine lv_aload_n (pc := 0) hx hb d_Wa_correct_0 rfl (lv_at hl 0 rfl) ?_
  refine lv_iload_n (pc := 1) hx hb d_Wa_correct_1 rfl (lv_at hl 1 rfl) ?_
  obtain ⟨hk101, h⟩ := h
  refine cr_a (pc := 2) C (rest := []) (mt_invV (As := [.int x1]) hx hb hown (hT _ k_757 _) (hT _ k_759 _) (hT _ ks_6 _) (mt_Cd.code (hT _ k_760 #[])) h_Wa_customerAt (pq_recv hK hP hk101 rfl) n_Wa_customerAt rfl d_Wa_correct_2) (ct_Wa_customerAt hfl D h) k_760 k_1 ⟨Nat.le_of_ble_eq_true rfl, Nat.le_of_ble_eq_true rfl⟩ ⟨(show 0 + 1 ≤ 203 by omega), (show 0 + 6 ≤ 1218 by omega)⟩ hl.1 d_Wa_correct_2 (Nat.le_of_ble_eq_true rfl) hP hS (fun a102 H locs h hP hS => ?_) (fun xx X H locs h hX hex hP hS => ?_)
  · refine lv_astore_n (pc := 5) (lv' := [(2, .ref a102), (0, .ref a0), (1, .int x1)]) hx hb d_Wa_correct_5 rfl hl (by decide) rfl (fun ls hl => ?_)
    refine lv_iconst (pc := 6) (v := 0) hx hb d_Wa_correct_6 (by decide) ?_
    refine lv_istore_n (pc := 7) (lv' := [(3, .int (0 : Int32)), (2, .ref a102), (0, .ref a0), (1, .int x1)]) hx hb d_Wa_correct_7 rfl hl (by decide) rfl (fun ls hl => ?_)
    exact wm_Wa_correct_8 hfl C hmg hr hin htab 7 _ a0 a102 (0 : Int32) _ _ _ _ _ h hP hS (lv_sub hl [2, 1, 0] rfl) (show 0 + 1 + 7 * 14 + 104 ≤ 203 by omega) (show 0 + 6 + 7 * 84 + 624 ≤ 1218 by omega)
  · exact cq_out hlocks (pq_nil htab rfl) (show 0 + 1 + 0 ≤ 203 by omega) (show 0 + 6 + 0 ≤ 1218 by omega) hX hex hP hS h
/-! WaterWorks.pay(II)J -/
abbrev y_Wa_pay : MethodName := ⟨"WaterWorks", "pay", "(II)J"⟩
abbrev rm_Wa_pay : Room := { frames := 8, cells := 2, slots := 12, locals := 162 }
theorem h_Wa_pay : y_Wa_pay.cls ≠ "java/lang/invoke/MethodHandle" ∧ y_Wa_pay.cls ≠ "java/lang/invoke/VarHandle" := by decide +kernel
theorem n_Wa_pay : (parseMethodDescriptor y_Wa_pay.desc).map (fun d => d.parameters.length) = some 2 := by decide +kernel
theorem d_Wa_pay_0 : decode prog_1_method_34_code 0 = .ok (.aload_n 0, 1) := by decide +kernel
theorem d_Wa_pay_1 : decode prog_1_method_34_code 1 = .ok (.iload_n 1, 1) := by decide +kernel
theorem d_Wa_pay_2 : decode prog_1_method_34_code 2 = .ok (.invokevirtual 112, 3) := by decide +kernel
theorem d_Wa_pay_5 : decode prog_1_method_34_code 5 = .ok (.astore_n 3, 1) := by decide +kernel
theorem d_Wa_pay_6 : decode prog_1_method_34_code 6 = .ok (.iload_n 2, 1) := by decide +kernel
theorem d_Wa_pay_7 : decode prog_1_method_34_code 7 = .ok (.ifCond .lt 7, 3) := by decide +kernel
theorem d_Wa_pay_10 : decode prog_1_method_34_code 10 = .ok (.iconst 1, 1) := by decide +kernel
theorem d_Wa_pay_11 : decode prog_1_method_34_code 11 = .ok (.goto 4, 3) := by decide +kernel
theorem d_Wa_pay_14 : decode prog_1_method_34_code 14 = .ok (.iconst 0, 1) := by decide +kernel
theorem d_Wa_pay_15 : decode prog_1_method_34_code 15 = .ok (.invokestatic 77, 3) := by decide +kernel
theorem d_Wa_pay_18 : decode prog_1_method_34_code 18 = .ok (.aload_n 3, 1) := by decide +kernel
theorem d_Wa_pay_19 : decode prog_1_method_34_code 19 = .ok (.dup, 1) := by decide +kernel
theorem d_Wa_pay_20 : decode prog_1_method_34_code 20 = .ok (.getfield 259, 3) := by decide +kernel
theorem d_Wa_pay_23 : decode prog_1_method_34_code 23 = .ok (.iload_n 2, 1) := by decide +kernel
theorem d_Wa_pay_24 : decode prog_1_method_34_code 24 = .ok (.i2l, 1) := by decide +kernel
theorem d_Wa_pay_25 : decode prog_1_method_34_code 25 = .ok (.ladd, 1) := by decide +kernel
theorem d_Wa_pay_26 : decode prog_1_method_34_code 26 = .ok (.putfield 259, 3) := by decide +kernel
theorem d_Wa_pay_29 : decode prog_1_method_34_code 29 = .ok (.aload_n 3, 1) := by decide +kernel
theorem d_Wa_pay_30 : decode prog_1_method_34_code 30 = .ok (.invokevirtual 251, 3) := by decide +kernel
theorem d_Wa_pay_33 : decode prog_1_method_34_code 33 = .ok (.lreturn, 1) := by decide +kernel
def wb_Wa_pay_15 (po : Option Value → Pic → Prop) (th : String → Pic → Prop) (P : Pic) (x2 : Int32) (a3 : Nat) (t0 : Int32) : Prop := wp_Wa_fits (cp_v fun _ => p_k P a3 = 4 ∧ wp_Cu_owes (cp_l fun w105 _ => po (some (.long w105)) (s_l P 123 a3 ((p_l P 123 a3) + (Int32.toInt64 x2)))) th (s_l P 123 a3 ((p_l P 123 a3) + (Int32.toInt64 x2))) a3) th P t0
def wp_Wa_pay (po : Option Value → Pic → Prop) (th : String → Pic → Prop) (P : Pic) (a0 : Nat) (x1 : Int32) (x2 : Int32) : Prop := p_k P a0 = 1 ∧ wp_Wa_customerAt (cp_a fun a102 _ => ((x2 < 0 → (wb_Wa_pay_15 po th P x2 a102 (0 : Int32))) ∧ (¬ x2 < 0 → (wb_Wa_pay_15 po th P x2 a102 (1 : Int32))))) th P a0 x1
set_option maxHeartbeats 4000000 in
set_option maxRecDepth 100000 in
theorem wk_Wa_pay_15 {p : Program} {l : Launch} {e : Env} {s : State} {m : MethodId} {args : Array Value} {below : List Frame} {meth : Method} {c : Code} {D : pq_D} {P0 : Pic} {po : Option Value → Pic → Prop} {th : String → Pic → Prop} (hfl : l.flags = flags0) (C : Cx p e s m args meth c prog_1_method_34_code 4 "WaterWorks" D P0) (hmg : e.platform.magicAccessors = ({} : Platform).magicAccessors) (hr : meth.sig.returnType = (some .long)) (hin : meth.name = "pay") (htab : c.exceptionTable.toList = tableOf []) : ∀ (P : Pic) (x2 : Int32) (a3 : Nat) (t0 : Int32) (H : Heap) (locs : List Loc) (cells slots : Nat) (ls : Array Slot), wb_Wa_pay_15 po th P x2 a3 t0 → Pi D P H → Sg (cq_A P0 s) s.heap H P locs → lv_has ls 4 [(2, .int x2), (3, .ref a3)] → cells + 1 ≤ 2 → slots + 6 ≤ 12 → W p l e rm_Wa_pay s m args below meth c H locs cells slots (mt_MQ below (cq_Q D P0 false po th) args s 2 12 (cq_free P0 false)) (F0 m 15 ls [.int t0]) := by
  intro P x2 a3 t0 H locs cells slots ls h hP hS hl hcc hss
  obtain ⟨hx, hb, hml, hown, hlocks, htr, hT, hK, hSt, hN, hP0⟩ := id C
  have L259_3 : pq_fl s m args 259 3 3 := ⟨_, "WaterWorks", "WaterWorks$Customer", rfl, by decide, hown, Or.inr ⟨_, hT _ k_703 _⟩, (fun _ z => z)⟩
  unfold wb_Wa_pay_15 at h
  refine cr_v (pc := 15) C (rest := []) (mt_invS (As := [.int t0]) hx hb hown (hT _ k_620 _) (hT _ k_621 _) (hT _ k_1 _) (mt_Cd.code (hT _ k_622 #[])) h_Wa_fits n_Wa_fits rfl d_Wa_pay_15) (ct_Wa_fits hfl D h) k_622 k_1 ⟨Nat.le_of_ble_eq_true rfl, Nat.le_of_ble_eq_true rfl⟩ ⟨(show cells + 1 ≤ 2 by omega), (show slots + 6 ≤ 12 by omega)⟩ hl.1 d_Wa_pay_15 (Nat.le_of_ble_eq_true rfl) hP hS (fun H locs h hP hS => ?_) (fun xx X H locs h hX hex hP hS => ?_)
  · refine lv_aload_n (pc := 18) hx hb d_Wa_pay_18 rfl (lv_at hl 1 rfl) ?_
    refine lv_dup (pc := 19) hx hb d_Wa_pay_19 rfl ?_
    obtain ⟨hk104, h⟩ := h
    refine pq_getl (pc := 20) (f := 123) hx hb hT hK hP L259_3 hk104 rfl d_Wa_pay_20 ?_
    refine lv_iload_n (pc := 23) hx hb d_Wa_pay_23 rfl (lv_at hl 0 rfl) ?_
    refine lv_i2l (pc := 24) hx hb d_Wa_pay_24 rfl ?_
    refine lv_ladd (pc := 25) hx hb d_Wa_pay_25 ?_
    refine pq_putl (pc := 26) (f := 123) hx hb hT hK hP hS L259_3 hk104 rfl rfl rfl rfl d_Wa_pay_26 (fun H locs hP hS => ?_)
    have hk104 : p_k (s_l P 123 a3 ((p_l P 123 a3) + (Int32.toInt64 x2))) a3 = 4 := by rw [pk_l]; exact hk104
    refine lv_aload_n (pc := 29) hx hb d_Wa_pay_29 rfl (lv_at hl 1 rfl) ?_
    refine cr_l (pc := 30) C (rest := []) (mt_invV (As := []) hx hb hown (hT _ k_1087 _) (hT _ k_1088 _) (hT _ k_1089 _) (mt_Cd.code (hT _ k_1090 #[])) h_Cu_owes (pq_recv hK hP hk104 rfl) n_Cu_owes rfl d_Wa_pay_30) (ct_Cu_owes hfl D h) k_1090 k_31 ⟨Nat.le_of_ble_eq_true rfl, Nat.le_of_ble_eq_true rfl⟩ ⟨(show cells + 1 + 0 ≤ 2 by omega), (show slots + 6 + 0 ≤ 12 by omega)⟩ hl.1 d_Wa_pay_30 (Nat.le_of_ble_eq_true rfl) hP hS (fun w105 H locs h hP hS => ?_) (fun xx X H locs h hX hex hP hS => ?_)
    · exact we_l (pc := 33) hx hb hlocks hr hP hS (show cells + 1 + 0 + 0 ≤ 2 by omega) (show slots + 6 + 0 + 0 ≤ 12 by omega) h d_Wa_pay_33
    · exact cq_out hlocks (pq_nil htab rfl) (show cells + 1 + 0 + 0 ≤ 2 by omega) (show slots + 6 + 0 + 0 ≤ 12 by omega) hX hex hP hS h
  · exact cq_out hlocks (pq_nil htab rfl) (show cells + 1 + 0 ≤ 2 by omega) (show slots + 6 + 0 ≤ 12 by omega) hX hex hP hS h
set_option maxHeartbeats 4000000 in
set_option maxRecDepth 100000 in
theorem ct_Wa_pay {l : Launch} (hfl : l.flags = flags0) (D : pq_D) {po : Option Value → Pic → Prop} {th : String → Pic → Prop} {P : Pic} {a0 : Nat} {x1 : Int32} {x2 : Int32} (h : wp_Wa_pay po th P a0 x1 x2) : CT l D y_Wa_pay (.code y_Wa_pay prog_1_method_34_code 4 (some .long)) rm_Wa_pay false [.ref a0, .int x1, .int x2] P po th := by
  refine ct_of (hs := []) hfl (by decide +kernel) (Or.inl ⟨rfl, rfl⟩) (Nat.le_of_ble_eq_true rfl) ?_
  intro p e s m below meth c C hmg hr hin htab ls hl
  have hl : lv_has ls 4 [(0, .ref a0), (1, .int x1), (2, .int x2)] := hl
  generalize hargs : ([.ref a0, .int x1, .int x2] : List Value).toArray = args at C ⊢
  obtain ⟨hx, hb, hml, hown, hlocks, htr, hT, hK, hSt, hN, hP0⟩ := id C
  have L259_3 : pq_fl s m args 259 3 3 := ⟨_, "WaterWorks", "WaterWorks$Customer", rfl, by decide, hown, Or.inr ⟨_, hT _ k_703 _⟩, (fun _ z => z)⟩
  have hP : Pi D P s.heap := hP0
  have hS : Sg (cq_A P s) s.heap s.heap P [] := Sg.start hP0
  unfold wp_Wa_pay at h
  refine lv_aload_n (pc := 0) hx hb d_Wa_pay_0 rfl (lv_at hl 0 rfl) ?_
  refine lv_iload_n (pc := 1) hx hb d_Wa_pay_1 rfl (lv_at hl 1 rfl) ?_
  obtain ⟨hk101, h⟩ := h
  refine cr_a (pc := 2) C (rest := []) (mt_invV (As := [.int x1]) hx hb hown (hT _ k_757 _) (hT _ k_759 _) (hT _ ks_6 _) (mt_Cd.code (hT _ k_760 #[])) h_Wa_customerAt (pq_recv hK hP hk101 rfl) n_Wa_customerAt rfl d_Wa_pay_2) (ct_Wa_customerAt hfl D h) k_760 k_1 ⟨Nat.le_of_ble_eq_true rfl, Nat.le_of_ble_eq_true rfl⟩ ⟨(show 0 + 1 ≤ 2 by omega), (show 0 + 6 ≤ 12 by omega)⟩ hl.1 d_Wa_pay_2 (Nat.le_of_ble_eq_true rfl) hP hS (fun a102 H locs h hP hS => ?_) (fun xx X H locs h hX hex hP hS => ?_)
  · refine lv_astore_n (pc := 5) (lv' := [(3, .ref a102), (0, .ref a0), (1, .int x1), (2, .int x2)]) hx hb d_Wa_pay_5 rfl hl (by decide) rfl (fun ls hl => ?_)
    refine lv_iload_n (pc := 6) hx hb d_Wa_pay_6 rfl (lv_at hl 3 rfl) ?_
    refine lv_if_lt (pc := 7) (tgt := 14) hx hb d_Wa_pay_7 (by decide) (fun c103 => ?_) (fun c103 => ?_)
    · replace h := h.1 c103
      refine lv_iconst (pc := 14) (v := 0) hx hb d_Wa_pay_14 (by decide) ?_
      exact wk_Wa_pay_15 hfl C hmg hr hin htab _ x2 a102 (0 : Int32) _ _ _ _ _ h hP hS (lv_sub hl [3, 0] rfl) (show 0 + 1 + 1 ≤ 2 by omega) (show 0 + 6 + 6 ≤ 12 by omega)
    · replace h := h.2 c103
      refine lv_iconst (pc := 10) (v := 1) hx hb d_Wa_pay_10 (by decide) ?_
      refine lv_goto (pc := 11) (tgt := 15) hx hb d_Wa_pay_11 (by decide) ?_
      exact wk_Wa_pay_15 hfl C hmg hr hin htab _ x2 a102 (1 : Int32) _ _ _ _ _ h hP hS (lv_sub hl [3, 0] rfl) (show 0 + 1 + 1 ≤ 2 by omega) (show 0 + 6 + 6 ≤ 12 by omega)
  · exact cq_out hlocks (pq_nil htab rfl) (show 0 + 1 + 0 ≤ 2 by omega) (show 0 + 6 + 0 ≤ 12 by omega) hX hex hP hS h
