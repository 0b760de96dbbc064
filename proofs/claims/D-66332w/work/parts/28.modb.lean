/-! WaterWorksModel.pass(I)I -/
abbrev y_Mo_pass : MethodName := ⟨"WaterWorksModel", "pass", "(I)I"⟩
abbrev rm_Mo_pass : Room := { frames := 1, cells := 0, slots := 0, locals := 40 }
theorem h_Mo_pass : y_Mo_pass.cls ≠ "java/lang/invoke/MethodHandle" ∧ y_Mo_pass.cls ≠ "java/lang/invoke/VarHandle" := by decide +kernel
theorem n_Mo_pass : (parseMethodDescriptor y_Mo_pass.desc).map (fun d => d.parameters.length) = some 1 := by decide +kernel
theorem d_Mo_pass_0 : decode prog_15_method_23_code 0 = .ok (.aload_n 0, 1) := by decide +kernel
theorem d_Mo_pass_1 : decode prog_15_method_23_code 1 = .ok (.iload_n 1, 1) := by decide +kernel
theorem d_Mo_pass_2 : decode prog_15_method_23_code 2 = .ok (.iconst 1, 1) := by decide +kernel
theorem d_Mo_pass_3 : decode prog_15_method_23_code 3 = .ok (.if_icmp .lt 22, 3) := by decide +kernel
theorem d_Mo_pass_6 : decode prog_15_method_23_code 6 = .ok (.iload_n 1, 1) := by decide +kernel
theorem d_Mo_pass_7 : decode prog_15_method_23_code 7 = .ok (.sipush 400, 3) := by decide +kernel
theorem d_Mo_pass_10 : decode prog_15_method_23_code 10 = .ok (.if_icmp .gt 15, 3) := by decide +kernel
theorem d_Mo_pass_13 : decode prog_15_method_23_code 13 = .ok (.aload_n 0, 1) := by decide +kernel
theorem d_Mo_pass_14 : decode prog_15_method_23_code 14 = .ok (.getfield 125, 3) := by decide +kernel
theorem d_Mo_pass_17 : decode prog_15_method_23_code 17 = .ok (.iload_n 1, 1) := by decide +kernel
theorem d_Mo_pass_18 : decode prog_15_method_23_code 18 = .ok (.iadd, 1) := by decide +kernel
theorem d_Mo_pass_19 : decode prog_15_method_23_code 19 = .ok (.sipush 400, 3) := by decide +kernel
theorem d_Mo_pass_22 : decode prog_15_method_23_code 22 = .ok (.if_icmp .le 7, 3) := by decide +kernel
theorem d_Mo_pass_25 : decode prog_15_method_23_code 25 = .ok (.iconst 1, 1) := by decide +kernel
theorem d_Mo_pass_26 : decode prog_15_method_23_code 26 = .ok (.goto 4, 3) := by decide +kernel
theorem d_Mo_pass_29 : decode prog_15_method_23_code 29 = .ok (.iconst 0, 1) := by decide +kernel
theorem d_Mo_pass_30 : decode prog_15_method_23_code 30 = .ok (.putfield 81, 3) := by decide +kernel
theorem d_Mo_pass_33 : decode prog_15_method_23_code 33 = .ok (.aload_n 0, 1) := by decide +kernel
theorem d_Mo_pass_34 : decode prog_15_method_23_code 34 = .ok (.getfield 81, 3) := by decide +kernel
theorem d_Mo_pass_37 : decode prog_15_method_23_code 37 = .ok (.ifCond .le 5, 3) := by decide +kernel
theorem d_Mo_pass_40 : decode prog_15_method_23_code 40 = .ok (.iconst 0, 1) := by decide +kernel
theorem d_Mo_pass_41 : decode prog_15_method_23_code 41 = .ok (.ireturn, 1) := by decide +kernel
theorem d_Mo_pass_42 : decode prog_15_method_23_code 42 = .ok (.aload_n 0, 1) := by decide +kernel
theorem d_Mo_pass_43 : decode prog_15_method_23_code 43 = .ok (.aload_n 0, 1) := by decide +kernel
theorem d_Mo_pass_44 : decode prog_15_method_23_code 44 = .ok (.getfield 125, 3) := by decide +kernel
theorem d_Mo_pass_47 : decode prog_15_method_23_code 47 = .ok (.iload_n 1, 1) := by decide +kernel
theorem d_Mo_pass_48 : decode prog_15_method_23_code 48 = .ok (.iadd, 1) := by decide +kernel
theorem d_Mo_pass_49 : decode prog_15_method_23_code 49 = .ok (.putfield 125, 3) := by decide +kernel
theorem d_Mo_pass_52 : decode prog_15_method_23_code 52 = .ok (.aload_n 0, 1) := by decide +kernel
theorem d_Mo_pass_53 : decode prog_15_method_23_code 53 = .ok (.getfield 125, 3) := by decide +kernel
theorem d_Mo_pass_56 : decode prog_15_method_23_code 56 = .ok (.ireturn, 1) := by decide +kernel
def wb_Mo_pass_30 (po : Option Value → Pic → Prop) (th : String → Pic → Prop) (P : Pic) (a0 : Nat) (x1 : Int32) (t0 : Int32) (t1 : Nat) : Prop := p_k P t1 = 13 ∧ p_k (s_i P 480 t1 t0) a0 = 13 ∧ (((p_i (s_i P 480 t1 t0) 480 a0) ≤ 0 → (po (some (.int (p_i (s_i (s_i P 480 t1 t0) 495 a0 ((p_i (s_i P 480 t1 t0) 495 a0) + x1)) 495 a0))) (s_i (s_i P 480 t1 t0) 495 a0 ((p_i (s_i P 480 t1 t0) 495 a0) + x1)))) ∧ (¬ (p_i (s_i P 480 t1 t0) 480 a0) ≤ 0 → (po (some (.int (0 : Int32))) (s_i P 480 t1 t0))))
def wb_Mo_pass_25 (po : Option Value → Pic → Prop) (th : String → Pic → Prop) (P : Pic) (a0 : Nat) (x1 : Int32) (t0 : Nat) : Prop := wb_Mo_pass_30 po th P a0 x1 (1 : Int32) t0
def wp_Mo_pass (po : Option Value → Pic → Prop) (th : String → Pic → Prop) (P : Pic) (a0 : Nat) (x1 : Int32) : Prop := ((x1 < (1 : Int32) → (wb_Mo_pass_25 po th P a0 x1 a0)) ∧ (¬ x1 < (1 : Int32) → ((((400 : Int32) < x1 → (wb_Mo_pass_25 po th P a0 x1 a0)) ∧ (¬ (400 : Int32) < x1 → (p_k P a0 = 13 ∧ ((((p_i P 495 a0) + x1) ≤ (400 : Int32) → (wb_Mo_pass_30 po th P a0 x1 (0 : Int32) a0)) ∧ (¬ ((p_i P 495 a0) + x1) ≤ (400 : Int32) → (wb_Mo_pass_25 po th P a0 x1 a0)))))))))
set_option maxHeartbeats 4000000 in
set_option maxRecDepth 100000 in
theorem wk_Mo_pass_30 {p : Program} {l : Launch} {e : Env} {s : State} {m : MethodId} {args : Array Value} {below : List Frame} {meth : Method} {c : Code} {D : pq_D} {P0 : Pic} {po : Option Value → Pic → Prop} {th : String → Pic → Prop} (hfl : l.flags = flags0) (C : Cx p e s m args meth c prog_15_method_23_code 2 "WaterWorksModel" D P0) (hmg : e.platform.magicAccessors = ({} : Platform).magicAccessors) (hr : meth.sig.returnType = (some .int)) (hin : meth.name = "pass") (htab : c.exceptionTable.toList = tableOf []) : ∀ (P : Pic) (a0 : Nat) (x1 : Int32) (t0 : Int32) (t1 : Nat) (H : Heap) (locs : List Loc) (cells slots : Nat) (ls : Array Slot), wb_Mo_pass_30 po th P a0 x1 t0 t1 → Pi D P H → Sg (cq_A P0 s) s.heap H P locs → lv_has ls 2 [(0, .ref a0), (1, .int x1)] → cells + 0 ≤ 0 → slots + 0 ≤ 0 → W p l e rm_Mo_pass s m args below meth c H locs cells slots (mt_MQ below (cq_Q D P0 false po th) args s 0 0 (cq_free P0 false)) (F0 m 30 ls [.int t0, .ref t1]) := by
  intro P a0 x1 t0 t1 H locs cells slots ls h hP hS hl hcc hss
  obtain ⟨hx, hb, hml, hown, hlocks, htr, hT, hK, hSt, hN, hP0⟩ := id C
  have L125_12 : pq_fl s m args 125 12 15 := ⟨_, "WaterWorksModel", "WaterWorksModel", rfl, by decide, hown, Or.inl (hT _ k_1119 _), (fun _ z => z)⟩
  have L81_12 : pq_fl s m args 81 12 0 := ⟨_, "WaterWorksModel", "WaterWorksModel", rfl, by decide, hown, Or.inl (hT _ k_1104 _), (fun _ z => z)⟩
  unfold wb_Mo_pass_30 at h
  obtain ⟨hk105, h⟩ := h
  refine pq_puti (pc := 30) (f := 480) hx hb hT hK hP hS L81_12 hk105 rfl rfl rfl rfl d_Mo_pass_30 (fun H locs hP hS => ?_)
  have hk105 : p_k (s_i P 480 t1 t0) t1 = 13 := by rw [pk_i]; exact hk105
  refine lv_aload_n (pc := 33) hx hb d_Mo_pass_33 rfl (lv_at hl 0 rfl) ?_
  obtain ⟨hk106, h⟩ := h
  refine pq_geti (pc := 34) (f := 480) hx hb hT hK hP L81_12 hk106 rfl d_Mo_pass_34 ?_
  refine lv_if_le (pc := 37) (tgt := 42) hx hb d_Mo_pass_37 (by decide) (fun c107 => ?_) (fun c107 => ?_)
  · replace h := h.1 c107
    refine lv_aload_n (pc := 42) hx hb d_Mo_pass_42 rfl (lv_at hl 0 rfl) ?_
    refine lv_aload_n (pc := 43) hx hb d_Mo_pass_43 rfl (lv_at hl 0 rfl) ?_
    refine pq_geti (pc := 44) (f := 495) hx hb hT hK hP L125_12 hk106 rfl d_Mo_pass_44 ?_
    refine lv_iload_n (pc := 47) hx hb d_Mo_pass_47 rfl (lv_at hl 1 rfl) ?_
    refine lv_iadd (pc := 48) hx hb d_Mo_pass_48 ?_
    refine pq_puti (pc := 49) (f := 495) hx hb hT hK hP hS L125_12 hk106 rfl rfl rfl rfl d_Mo_pass_49 (fun H locs hP hS => ?_)
    have hk105 : p_k (s_i (s_i P 480 t1 t0) 495 a0 ((p_i (s_i P 480 t1 t0) 495 a0) + x1)) t1 = 13 := by rw [pk_i]; exact hk105
    have hk106 : p_k (s_i (s_i P 480 t1 t0) 495 a0 ((p_i (s_i P 480 t1 t0) 495 a0) + x1)) a0 = 13 := by rw [pk_i]; exact hk106
    refine lv_aload_n (pc := 52) hx hb d_Mo_pass_52 rfl (lv_at hl 0 rfl) ?_
    refine pq_geti (pc := 53) (f := 495) hx hb hT hK hP L125_12 hk106 rfl d_Mo_pass_53 ?_
    exact we_i (pc := 56) hx hb hlocks hr hP hS (show cells + 0 ≤ 0 by omega) (show slots + 0 ≤ 0 by omega) h d_Mo_pass_56
  · replace h := h.2 c107
    refine lv_iconst (pc := 40) (v := 0) hx hb d_Mo_pass_40 (by decide) ?_
    exact we_i (pc := 41) hx hb hlocks hr hP hS (show cells + 0 ≤ 0 by omega) (show slots + 0 ≤ 0 by omega) h d_Mo_pass_41
set_option maxHeartbeats 4000000 in
set_option maxRecDepth 100000 in
theorem wk_Mo_pass_25 {p : Program} {l : Launch} {e : Env} {s : State} {m : MethodId} {args : Array Value} {below : List Frame} {meth : Method} {c : Code} {D : pq_D} {P0 : Pic} {po : Option Value → Pic → Prop} {th : String → Pic → Prop} (hfl : l.flags = flags0) (C : Cx p e s m args meth c prog_15_method_23_code 2 "WaterWorksModel" D P0) (hmg : e.platform.magicAccessors = ({} : Platform).magicAccessors) (hr : meth.sig.returnType = (some .int)) (hin : meth.name = "pass") (htab : c.exceptionTable.toList = tableOf []) : ∀ (P : Pic) (a0 : Nat) (x1 : Int32) (t0 : Nat) (H : Heap) (locs : List Loc) (cells slots : Nat) (ls : Array Slot), wb_Mo_pass_25 po th P a0 x1 t0 → Pi D P H → Sg (cq_A P0 s) s.heap H P locs → lv_has ls 2 [(0, .ref a0), (1, .int x1)] → cells + 0 ≤ 0 → slots + 0 ≤ 0 → W p l e rm_Mo_pass s m args below meth c H locs cells slots (mt_MQ below (cq_Q D P0 false po th) args s 0 0 (cq_free P0 false)) (F0 m 25 ls [.ref t0]) := by
  intro P a0 x1 t0 H locs cells slots ls h hP hS hl hcc hss
  obtain ⟨hx, hb, hml, hown, hlocks, htr, hT, hK, hSt, hN, hP0⟩ := id C
  have L125_12 : pq_fl s m args 125 12 15 := ⟨_, "WaterWorksModel", "WaterWorksModel", rfl, by decide, hown, Or.inl (hT _ k_1119 _), (fun _ z => z)⟩
  have L81_12 : pq_fl s m args 81 12 0 := ⟨_, "WaterWorksModel", "WaterWorksModel", rfl, by decide, hown, Or.inl (hT _ k_1104 _), (fun _ z => z)⟩
  unfold wb_Mo_pass_25 at h
  refine lv_iconst (pc := 25) (v := 1) hx hb d_Mo_pass_25 (by decide) ?_
  refine lv_goto (pc := 26) (tgt := 30) hx hb d_Mo_pass_26 (by decide) ?_
  exact wk_Mo_pass_30 hfl C hmg hr hin htab _ a0 x1 (1 : Int32) t0 _ _ _ _ _ h hP hS (lv_sub hl [0, 1] rfl) (show cells + 0 ≤ 0 by omega) (show slots + 0 ≤ 0 by omega)
set_option maxHeartbeats 4000000 in
set_option maxRecDepth 100000 in
theorem ct_Mo_pass {l : Launch} (hfl : l.flags = flags0) (D : pq_D) {po : Option Value → Pic → Prop} {th : String → Pic → Prop} {P : Pic} {a0 : Nat} {x1 : Int32} (h : wp_Mo_pass po th P a0 x1) : CT l D y_Mo_pass (.code y_Mo_pass prog_15_method_23_code 2 (some .int)) rm_Mo_pass false [.ref a0, .int x1] P po th := by
  refine ct_of (hs := []) hfl (by decide +kernel) (Or.inl ⟨rfl, rfl⟩) (Nat.le_of_ble_eq_true rfl) ?_
  intro p e s m below meth c C hmg hr hin htab ls hl
  have hl : lv_has ls 2 [(0, .ref a0), (1, .int x1)] := hl
  generalize hargs : ([.ref a0, .int x1] : List Value).toArray = args at C ⊢
  obtain ⟨hx, hb, hml, hown, hlocks, htr, hT, hK, hSt, hN, hP0⟩ := id C
  have L125_12 : pq_fl s m args 125 12 15 := ⟨_, "WaterWorksModel", "WaterWorksModel", rfl, by decide, hown, Or.inl (hT _ k_1119 _), (fun _ z => z)⟩
  have L81_12 : pq_fl s m args 81 12 0 := ⟨_, "WaterWorksModel", "WaterWorksModel", rfl, by decide, hown, Or.inl (hT _ k_1104 _), (fun _ z => z)⟩
  have hP : Pi D P s.heap := hP0
  have hS : Sg (cq_A P s) s.heap s.heap P [] := Sg.start hP0
  unfold wp_Mo_pass at h
  refine lv_aload_n (pc := 0) hx hb d_Mo_pass_0 rfl (lv_at hl 0 rfl) ?_
  refine lv_iload_n (pc := 1) hx hb d_Mo_pass_1 rfl (lv_at hl 1 rfl) ?_
  refine lv_iconst (pc := 2) (v := 1) hx hb d_Mo_pass_2 (by decide) ?_
  refine lv_icmp_lt (pc := 3) (tgt := 25) hx hb d_Mo_pass_3 (by decide) (fun c104 => ?_) (fun c104 => ?_)
  · replace h := h.1 c104
    exact wk_Mo_pass_25 hfl C hmg hr hin htab _ a0 x1 a0 _ _ _ _ _ h hP hS (lv_sub hl [0, 1] rfl) (show 0 + 0 ≤ 0 by omega) (show 0 + 0 ≤ 0 by omega)
  · replace h := h.2 c104
    refine lv_iload_n (pc := 6) hx hb d_Mo_pass_6 rfl (lv_at hl 1 rfl) ?_
    refine lv_sipush (pc := 7) (v := 400) hx hb d_Mo_pass_7 (by decide) ?_
    refine lv_icmp_gt (pc := 10) (tgt := 25) hx hb d_Mo_pass_10 (by decide) (fun c103 => ?_) (fun c103 => ?_)
    · replace h := h.1 c103
      exact wk_Mo_pass_25 hfl C hmg hr hin htab _ a0 x1 a0 _ _ _ _ _ h hP hS (lv_sub hl [0, 1] rfl) (show 0 + 0 ≤ 0 by omega) (show 0 + 0 ≤ 0 by omega)
    · replace h := h.2 c103
      refine lv_aload_n (pc := 13) hx hb d_Mo_pass_13 rfl (lv_at hl 0 rfl) ?_
      obtain ⟨hk101, h⟩ := h
      refine pq_geti (pc := 14) (f := 495) hx hb hT hK hP L125_12 hk101 rfl d_Mo_pass_14 ?_
      refine lv_iload_n (pc := 17) hx hb d_Mo_pass_17 rfl (lv_at hl 1 rfl) ?_
      refine lv_iadd (pc := 18) hx hb d_Mo_pass_18 ?_
      refine lv_sipush (pc := 19) (v := 400) hx hb d_Mo_pass_19 (by decide) ?_
      refine lv_icmp_le (pc := 22) (tgt := 29) hx hb d_Mo_pass_22 (by decide) (fun c102 => ?_) (fun c102 => ?_)
      · replace h := h.1 c102
        refine lv_iconst (pc := 29) (v := 0) hx hb d_Mo_pass_29 (by decide) ?_
        exact wk_Mo_pass_30 hfl C hmg hr hin htab _ a0 x1 (0 : Int32) a0 _ _ _ _ _ h hP hS (lv_sub hl [0, 1] rfl) (show 0 + 0 ≤ 0 by omega) (show 0 + 0 ≤ 0 by omega)
      · replace h := h.2 c102
        exact wk_Mo_pass_25 hfl C hmg hr hin htab _ a0 x1 a0 _ _ _ _ _ h hP hS (lv_sub hl [0, 1] rfl) (show 0 + 0 ≤ 0 by omega) (show 0 + 0 ≤ 0 by omega)
/-! WaterWorksModel.note(IIIZ)I -/
abbrev y_Mo_note : MethodName := ⟨"WaterWorksModel", "note", "(IIIZ)I"⟩
abbrev rm_Mo_note : Room := { frames := 1, cells := 0, slots := 0, locals := 40 }
theorem h_Mo_note : y_Mo_note.cls ≠ "java/lang/invoke/MethodHandle" ∧ y_Mo_note.cls ≠ "java/lang/invoke/VarHandle" := by decide +kernel
theorem n_Mo_note : (parseMethodDescriptor y_Mo_note.desc).map (fun d => d.parameters.length) = some 4 := by decide +kernel
theorem d_Mo_note_0 : decode prog_15_method_24_code 0 = .ok (.bipush 24, 2) := by decide +kernel
theorem d_Mo_note_2 : decode prog_15_method_24_code 2 = .ok (.iload_n 1, 1) := by decide +kernel
theorem d_Mo_note_3 : decode prog_15_method_24_code 3 = .ok (.imul, 1) := by decide +kernel
theorem d_Mo_note_4 : decode prog_15_method_24_code 4 = .ok (.aload_n 0, 1) := by decide +kernel
theorem d_Mo_note_5 : decode prog_15_method_24_code 5 = .ok (.getfield 44, 3) := by decide +kernel
theorem d_Mo_note_8 : decode prog_15_method_24_code 8 = .ok (.iload_n 1, 1) := by decide +kernel
theorem d_Mo_note_9 : decode prog_15_method_24_code 9 = .ok (.iaload, 1) := by decide +kernel
theorem d_Mo_note_10 : decode prog_15_method_24_code 10 = .ok (.iadd, 1) := by decide +kernel
theorem d_Mo_note_11 : decode prog_15_method_24_code 11 = .ok (.istore 5, 2) := by decide +kernel
theorem d_Mo_note_13 : decode prog_15_method_24_code 13 = .ok (.aload_n 0, 1) := by decide +kernel
theorem d_Mo_note_14 : decode prog_15_method_24_code 14 = .ok (.getfield 47, 3) := by decide +kernel
theorem d_Mo_note_17 : decode prog_15_method_24_code 17 = .ok (.iload 5, 2) := by decide +kernel
theorem d_Mo_note_19 : decode prog_15_method_24_code 19 = .ok (.aload_n 0, 1) := by decide +kernel
theorem d_Mo_note_20 : decode prog_15_method_24_code 20 = .ok (.getfield 125, 3) := by decide +kernel
theorem d_Mo_note_23 : decode prog_15_method_24_code 23 = .ok (.iastore, 1) := by decide +kernel
theorem d_Mo_note_24 : decode prog_15_method_24_code 24 = .ok (.aload_n 0, 1) := by decide +kernel
theorem d_Mo_note_25 : decode prog_15_method_24_code 25 = .ok (.getfield 50, 3) := by decide +kernel
theorem d_Mo_note_28 : decode prog_15_method_24_code 28 = .ok (.iload 5, 2) := by decide +kernel
theorem d_Mo_note_30 : decode prog_15_method_24_code 30 = .ok (.iload_n 3, 1) := by decide +kernel
theorem d_Mo_note_31 : decode prog_15_method_24_code 31 = .ok (.iastore, 1) := by decide +kernel
theorem d_Mo_note_32 : decode prog_15_method_24_code 32 = .ok (.aload_n 0, 1) := by decide +kernel
theorem d_Mo_note_33 : decode prog_15_method_24_code 33 = .ok (.getfield 53, 3) := by decide +kernel
theorem d_Mo_note_36 : decode prog_15_method_24_code 36 = .ok (.iload 5, 2) := by decide +kernel
theorem d_Mo_note_38 : decode prog_15_method_24_code 38 = .ok (.iload_n 2, 1) := by decide +kernel
theorem d_Mo_note_39 : decode prog_15_method_24_code 39 = .ok (.iastore, 1) := by decide +kernel
theorem d_Mo_note_40 : decode prog_15_method_24_code 40 = .ok (.aload_n 0, 1) := by decide +kernel
theorem d_Mo_note_41 : decode prog_15_method_24_code 41 = .ok (.getfield 56, 3) := by decide +kernel
theorem d_Mo_note_44 : decode prog_15_method_24_code 44 = .ok (.iload 5, 2) := by decide +kernel
theorem d_Mo_note_46 : decode prog_15_method_24_code 46 = .ok (.iload 4, 2) := by decide +kernel
theorem d_Mo_note_48 : decode prog_15_method_24_code 48 = .ok (.bastore, 1) := by decide +kernel
theorem d_Mo_note_49 : decode prog_15_method_24_code 49 = .ok (.aload_n 0, 1) := by decide +kernel
theorem d_Mo_note_50 : decode prog_15_method_24_code 50 = .ok (.getfield 44, 3) := by decide +kernel
theorem d_Mo_note_53 : decode prog_15_method_24_code 53 = .ok (.iload_n 1, 1) := by decide +kernel
theorem d_Mo_note_54 : decode prog_15_method_24_code 54 = .ok (.dup2, 1) := by decide +kernel
theorem d_Mo_note_55 : decode prog_15_method_24_code 55 = .ok (.iaload, 1) := by decide +kernel
theorem d_Mo_note_56 : decode prog_15_method_24_code 56 = .ok (.iconst 1, 1) := by decide +kernel
theorem d_Mo_note_57 : decode prog_15_method_24_code 57 = .ok (.iadd, 1) := by decide +kernel
theorem d_Mo_note_58 : decode prog_15_method_24_code 58 = .ok (.iastore, 1) := by decide +kernel
theorem d_Mo_note_59 : decode prog_15_method_24_code 59 = .ok (.aload_n 0, 1) := by decide +kernel
theorem d_Mo_note_60 : decode prog_15_method_24_code 60 = .ok (.getfield 44, 3) := by decide +kernel
theorem d_Mo_note_63 : decode prog_15_method_24_code 63 = .ok (.iload_n 1, 1) := by decide +kernel
theorem d_Mo_note_64 : decode prog_15_method_24_code 64 = .ok (.iaload, 1) := by decide +kernel
theorem d_Mo_note_65 : decode prog_15_method_24_code 65 = .ok (.ireturn, 1) := by decide +kernel
def wp_Mo_note (po : Option Value → Pic → Prop) (th : String → Pic → Prop) (P : Pic) (a0 : Nat) (x1 : Int32) (x2 : Int32) (x3 : Int32) (x4 : Int32) : Prop := p_k P a0 = 13 ∧ ∃ a102, p_r P 496 a0 = some a102 ∧ p_k P a102 = 101 ∧ vp_in x1 (p_n P a102) ∧ ∀ (x105 : Int32), x105 = (((24 : Int32) * x1) + (p_ai P a102 (Int32.toNatClampNeg x1))) → ∃ a106, p_r P 497 a0 = some a106 ∧ p_k P a106 = 101 ∧ vp_in x105 (p_n P a106) ∧ ∃ a109, p_r (s_ai P a106 (Int32.toNatClampNeg x105) (p_i P 495 a0)) 498 a0 = some a109 ∧ p_k (s_ai P a106 (Int32.toNatClampNeg x105) (p_i P 495 a0)) a109 = 101 ∧ vp_in x105 (p_n (s_ai P a106 (Int32.toNatClampNeg x105) (p_i P 495 a0)) a109) ∧ ∀ (P112 : Pic), P112 = s_ai (s_ai P a106 (Int32.toNatClampNeg x105) (p_i P 495 a0)) a109 (Int32.toNatClampNeg x105) x3 → ∃ a113, p_r P112 499 a0 = some a113 ∧ p_k P112 a113 = 101 ∧ vp_in x105 (p_n P112 a113) ∧ ∃ a116, p_r (s_ai P112 a113 (Int32.toNatClampNeg x105) x2) 500 a0 = some a116 ∧ p_k (s_ai P112 a113 (Int32.toNatClampNeg x105) x2) a116 = 103 ∧ vp_in x105 (p_n (s_ai P112 a113 (Int32.toNatClampNeg x105) x2) a116) ∧ (x4 = 0 ∨ x4 = 1) ∧ ∀ (P120 : Pic), P120 = s_ai (s_ai P112 a113 (Int32.toNatClampNeg x105) x2) a116 (Int32.toNatClampNeg x105) x4 → ∃ a121, p_r P120 496 a0 = some a121 ∧ p_k P120 a121 = 101 ∧ vp_in x1 (p_n P120 a121) ∧ vp_in x1 (p_n P120 a121) ∧ ∀ (P125 : Pic), P125 = s_ai P120 a121 (Int32.toNatClampNeg x1) ((p_ai P120 a121 (Int32.toNatClampNeg x1)) + (1 : Int32)) → ∃ a126, p_r P125 496 a0 = some a126 ∧ p_k P125 a126 = 101 ∧ vp_in x1 (p_n P125 a126) ∧ po (some (.int (p_ai P125 a126 (Int32.toNatClampNeg x1)))) P125
set_option maxHeartbeats 4000000 in
set_option maxRecDepth 100000 in
theorem ct_Mo_note {l : Launch} (hfl : l.flags = flags0) (D : pq_D) {po : Option Value → Pic → Prop} {th : String → Pic → Prop} {P : Pic} {a0 : Nat} {x1 : Int32} {x2 : Int32} {x3 : Int32} {x4 : Int32} (h : wp_Mo_note po th P a0 x1 x2 x3 x4) : CT l D y_Mo_note (.code y_Mo_note prog_15_method_24_code 6 (some .int)) rm_Mo_note false [.ref a0, .int x1, .int x2, .int x3, .int x4] P po th := by
  refine ct_of (hs := []) hfl (by decide +kernel) (Or.inl ⟨rfl, rfl⟩) (Nat.le_of_ble_eq_true rfl) ?_
  intro p e s m below meth c C hmg hr hin htab ls hl
  have hl : lv_has ls 6 [(0, .ref a0), (1, .int x1), (2, .int x2), (3, .int x3), (4, .int x4)] := hl
  generalize hargs : ([.ref a0, .int x1, .int x2, .int x3, .int x4] : List Value).toArray = args at C ⊢
  obtain ⟨hx, hb, hml, hown, hlocks, htr, hT, hK, hSt, hN, hP0⟩ := id C
  have L125_12 : pq_fl s m args 125 12 15 := ⟨_, "WaterWorksModel", "WaterWorksModel", rfl, by decide, hown, Or.inl (hT _ k_1119 _), (fun _ z => z)⟩
  have L44_12 : pq_fl s m args 44 12 16 := ⟨_, "WaterWorksModel", "WaterWorksModel", rfl, by decide, hown, Or.inl (hT _ k_1120 _), (fun _ z => z)⟩
  have L47_12 : pq_fl s m args 47 12 17 := ⟨_, "WaterWorksModel", "WaterWorksModel", rfl, by decide, hown, Or.inl (hT _ k_1121 _), (fun _ z => z)⟩
  have L50_12 : pq_fl s m args 50 12 18 := ⟨_, "WaterWorksModel", "WaterWorksModel", rfl, by decide, hown, Or.inl (hT _ k_1122 _), (fun _ z => z)⟩
  have L53_12 : pq_fl s m args 53 12 19 := ⟨_, "WaterWorksModel", "WaterWorksModel", rfl, by decide, hown, Or.inl (hT _ k_1123 _), (fun _ z => z)⟩
  have L56_12 : pq_fl s m args 56 12 20 := ⟨_, "WaterWorksModel", "WaterWorksModel", rfl, by decide, hown, Or.inl (hT _ k_1124 _), (fun _ z => z)⟩
  have hP : Pi D P s.heap := hP0
  have hS : Sg (cq_A P s) s.heap s.heap P [] := Sg.start hP0
  unfold wp_Mo_note at h
  refine lv_bipush (pc := 0) (v := 24) hx hb d_Mo_note_0 (by decide) ?_
  refine lv_iload_n (pc := 2) hx hb d_Mo_note_2 rfl (lv_at hl 1 rfl) ?_
  refine lv_imul (pc := 3) hx hb d_Mo_note_3 ?_
  refine lv_aload_n (pc := 4) hx hb d_Mo_note_4 rfl (lv_at hl 0 rfl) ?_
  obtain ⟨hk101, h⟩ := h
  obtain ⟨a102, ea102, h⟩ := h
  refine pq_geta (pc := 5) (f := 496) hx hb hT hK hP L44_12 hk101 rfl ea102 d_Mo_note_5 ?_
  refine lv_iload_n (pc := 8) hx hb d_Mo_note_8 rfl (lv_at hl 1 rfl) ?_
  obtain ⟨hk103, h⟩ := h
  obtain ⟨hi104, h⟩ := h
  refine pq_iald (pc := 9) hx hb hK hP hk103 hi104 d_Mo_note_9 ?_
  refine lv_iadd (pc := 10) hx hb d_Mo_note_10 ?_
  refine lv_topi (fun x105 ex105 => ?_)
  replace h := h x105 ex105
  refine lv_istore (pc := 11) (lv' := [(5, .int x105), (0, .ref a0), (1, .int x1), (2, .int x2), (3, .int x3), (4, .int x4)]) hx hb d_Mo_note_11 hl (by decide) rfl (fun ls hl => ?_)
  refine lv_aload_n (pc := 13) hx hb d_Mo_note_13 rfl (lv_at hl 1 rfl) ?_
  obtain ⟨a106, ea106, h⟩ := h
  refine pq_geta (pc := 14) (f := 497) hx hb hT hK hP L47_12 hk101 rfl ea106 d_Mo_note_14 ?_
  refine lv_iload (pc := 17) hx hb d_Mo_note_17 (lv_at hl 0 rfl) ?_
  refine lv_aload_n (pc := 19) hx hb d_Mo_note_19 rfl (lv_at hl 1 rfl) ?_
  refine pq_geti (pc := 20) (f := 495) hx hb hT hK hP L125_12 hk101 rfl d_Mo_note_20 ?_
  obtain ⟨hk107, h⟩ := h
  obtain ⟨hi108, h⟩ := h
  refine pq_iast (pc := 23) hx hb hK hP hS hk107 hi108 d_Mo_note_23 (fun H locs hP hS => ?_)
  have hk101 : p_k (s_ai P a106 (Int32.toNatClampNeg x105) (p_i P 495 a0)) a0 = 13 := by rw [pk_ai]; exact hk101
  have hk103 : p_k (s_ai P a106 (Int32.toNatClampNeg x105) (p_i P 495 a0)) a102 = 101 := by rw [pk_ai]; exact hk103
  have hk107 : p_k (s_ai P a106 (Int32.toNatClampNeg x105) (p_i P 495 a0)) a106 = 101 := by rw [pk_ai]; exact hk107
  refine lv_aload_n (pc := 24) hx hb d_Mo_note_24 rfl (lv_at hl 1 rfl) ?_
  obtain ⟨a109, ea109, h⟩ := h
  refine pq_geta (pc := 25) (f := 498) hx hb hT hK hP L50_12 hk101 rfl ea109 d_Mo_note_25 ?_
  refine lv_iload (pc := 28) hx hb d_Mo_note_28 (lv_at hl 0 rfl) ?_
  refine lv_iload_n (pc := 30) hx hb d_Mo_note_30 rfl (lv_at hl 4 rfl) ?_
  obtain ⟨hk110, h⟩ := h
  obtain ⟨hi111, h⟩ := h
  refine pq_iast (pc := 31) hx hb hK hP hS hk110 hi111 d_Mo_note_31 (fun H locs hP hS => ?_)
  have hk101 : p_k (s_ai (s_ai P a106 (Int32.toNatClampNeg x105) (p_i P 495 a0)) a109 (Int32.toNatClampNeg x105) x3) a0 = 13 := by rw [pk_ai]; exact hk101
  have hk103 : p_k (s_ai (s_ai P a106 (Int32.toNatClampNeg x105) (p_i P 495 a0)) a109 (Int32.toNatClampNeg x105) x3) a102 = 101 := by rw [pk_ai]; exact hk103
  have hk107 : p_k (s_ai (s_ai P a106 (Int32.toNatClampNeg x105) (p_i P 495 a0)) a109 (Int32.toNatClampNeg x105) x3) a106 = 101 := by rw [pk_ai]; exact hk107
  have hk110 : p_k (s_ai (s_ai P a106 (Int32.toNatClampNeg x105) (p_i P 495 a0)) a109 (Int32.toNatClampNeg x105) x3) a109 = 101 := by rw [pk_ai]; exact hk110
  obtain ⟨P112, eP112⟩ : ∃ z : Pic, z = s_ai (s_ai P a106 (Int32.toNatClampNeg x105) (p_i P 495 a0)) a109 (Int32.toNatClampNeg x105) x3 := ⟨_, rfl⟩
  replace h := h P112 eP112
  rw [← eP112] at hP hS
  have hk101 : p_k P112 a0 = 13 := by rw [eP112]; exact hk101
  have hk103 : p_k P112 a102 = 101 := by rw [eP112]; exact hk103
  have hk107 : p_k P112 a106 = 101 := by rw [eP112]; exact hk107
  have hk110 : p_k P112 a109 = 101 := by rw [eP112]; exact hk110
  refine lv_aload_n (pc := 32) hx hb d_Mo_note_32 rfl (lv_at hl 1 rfl) ?_
  obtain ⟨a113, ea113, h⟩ := h
  refine pq_geta (pc := 33) (f := 499) hx hb hT hK hP L53_12 hk101 rfl ea113 d_Mo_note_33 ?_
  refine lv_iload (pc := 36) hx hb d_Mo_note_36 (lv_at hl 0 rfl) ?_
  refine lv_iload_n (pc := 38) hx hb d_Mo_note_38 rfl (lv_at hl 3 rfl) ?_
  obtain ⟨hk114, h⟩ := h
  obtain ⟨hi115, h⟩ := h
  refine pq_iast (pc := 39) hx hb hK hP hS hk114 hi115 d_Mo_note_39 (fun H locs hP hS => ?_)
  have hk101 : p_k (s_ai P112 a113 (Int32.toNatClampNeg x105) x2) a0 = 13 := by rw [pk_ai]; exact hk101
  have hk103 : p_k (s_ai P112 a113 (Int32.toNatClampNeg x105) x2) a102 = 101 := by rw [pk_ai]; exact hk103
  have hk107 : p_k (s_ai P112 a113 (Int32.toNatClampNeg x105) x2) a106 = 101 := by rw [pk_ai]; exact hk107
  have hk110 : p_k (s_ai P112 a113 (Int32.toNatClampNeg x105) x2) a109 = 101 := by rw [pk_ai]; exact hk110
  have hk114 : p_k (s_ai P112 a113 (Int32.toNatClampNeg x105) x2) a113 = 101 := by rw [pk_ai]; exact hk114
  refine lv_aload_n (pc := 40) hx hb d_Mo_note_40 rfl (lv_at hl 1 rfl) ?_
  obtain ⟨a116, ea116, h⟩ := h
  refine pq_geta (pc := 41) (f := 500) hx hb hT hK hP L56_12 hk101 rfl ea116 d_Mo_note_41 ?_
  refine lv_iload (pc := 44) hx hb d_Mo_note_44 (lv_at hl 0 rfl) ?_
  refine lv_iload (pc := 46) hx hb d_Mo_note_46 (lv_at hl 5 rfl) ?_
  obtain ⟨hk117, h⟩ := h
  obtain ⟨hi118, h⟩ := h
  obtain ⟨hz119, h⟩ := h
  refine pq_zast (pc := 48) hx hb hK hP hS hk117 hi118 hz119 d_Mo_note_48 (fun H locs hP hS => ?_)
  have hk101 : p_k (s_ai (s_ai P112 a113 (Int32.toNatClampNeg x105) x2) a116 (Int32.toNatClampNeg x105) x4) a0 = 13 := by rw [pk_ai]; exact hk101
  have hk103 : p_k (s_ai (s_ai P112 a113 (Int32.toNatClampNeg x105) x2) a116 (Int32.toNatClampNeg x105) x4) a102 = 101 := by rw [pk_ai]; exact hk103
  have hk107 : p_k (s_ai (s_ai P112 a113 (Int32.toNatClampNeg x105) x2) a116 (Int32.toNatClampNeg x105) x4) a106 = 101 := by rw [pk_ai]; exact hk107
  have hk110 : p_k (s_ai (s_ai P112 a113 (Int32.toNatClampNeg x105) x2) a116 (Int32.toNatClampNeg x105) x4) a109 = 101 := by rw [pk_ai]; exact hk110
  have hk114 : p_k (s_ai (s_ai P112 a113 (Int32.toNatClampNeg x105) x2) a116 (Int32.toNatClampNeg x105) x4) a113 = 101 := by rw [pk_ai]; exact hk114
  have hk117 : p_k (s_ai (s_ai P112 a113 (Int32.toNatClampNeg x105) x2) a116 (Int32.toNatClampNeg x105) x4) a116 = 103 := by rw [pk_ai]; exact hk117
  obtain ⟨P120, eP120⟩ : ∃ z : Pic, z = s_ai (s_ai P112 a113 (Int32.toNatClampNeg x105) x2) a116 (Int32.toNatClampNeg x105) x4 := ⟨_, rfl⟩
  replace h := h P120 eP120
  rw [← eP120] at hP hS
  have hk101 : p_k P120 a0 = 13 := by rw [eP120]; exact hk101
  have hk103 : p_k P120 a102 = 101 := by rw [eP120]; exact hk103
  have hk107 : p_k P120 a106 = 101 := by rw [eP120]; exact hk107
  have hk110 : p_k P120 a109 = 101 := by rw [eP120]; exact hk110
  have hk114 : p_k P120 a113 = 101 := by rw [eP120]; exact hk114
  have hk117 : p_k P120 a116 = 103 := by rw [eP120]; exact hk117
  refine lv_aload_n (pc := 49) hx hb d_Mo_note_49 rfl (lv_at hl 1 rfl) ?_
  obtain ⟨a121, ea121, h⟩ := h
  refine pq_geta (pc := 50) (f := 496) hx hb hT hK hP L44_12 hk101 rfl ea121 d_Mo_note_50 ?_
  refine lv_iload_n (pc := 53) hx hb d_Mo_note_53 rfl (lv_at hl 2 rfl) ?_
  refine lv_dup2_11 (pc := 54) hx hb d_Mo_note_54 rfl rfl ?_
  obtain ⟨hk122, h⟩ := h
  obtain ⟨hi123, h⟩ := h
  refine pq_iald (pc := 55) hx hb hK hP hk122 hi123 d_Mo_note_55 ?_
  refine lv_iconst (pc := 56) (v := 1) hx hb d_Mo_note_56 (by decide) ?_
  refine lv_iadd (pc := 57) hx hb d_Mo_note_57 ?_
  obtain ⟨hi124, h⟩ := h
  refine pq_iast (pc := 58) hx hb hK hP hS hk122 hi124 d_Mo_note_58 (fun H locs hP hS => ?_)
  have hk101 : p_k (s_ai P120 a121 (Int32.toNatClampNeg x1) ((p_ai P120 a121 (Int32.toNatClampNeg x1)) + (1 : Int32))) a0 = 13 := by rw [pk_ai]; exact hk101
  have hk103 : p_k (s_ai P120 a121 (Int32.toNatClampNeg x1) ((p_ai P120 a121 (Int32.toNatClampNeg x1)) + (1 : Int32))) a102 = 101 := by rw [pk_ai]; exact hk103
  have hk107 : p_k (s_ai P120 a121 (Int32.toNatClampNeg x1) ((p_ai P120 a121 (Int32.toNatClampNeg x1)) + (1 : Int32))) a106 = 101 := by rw [pk_ai]; exact hk107
  have hk110 : p_k (s_ai P120 a121 (Int32.toNatClampNeg x1) ((p_ai P120 a121 (Int32.toNatClampNeg x1)) + (1 : Int32))) a109 = 101 := by rw [pk_ai]; exact hk110
  have hk114 : p_k (s_ai P120 a121 (Int32.toNatClampNeg x1) ((p_ai P120 a121 (Int32.toNatClampNeg x1)) + (1 : Int32))) a113 = 101 := by rw [pk_ai]; exact hk114
  have hk117 : p_k (s_ai P120 a121 (Int32.toNatClampNeg x1) ((p_ai P120 a121 (Int32.toNatClampNeg x1)) + (1 : Int32))) a116 = 103 := by rw [pk_ai]; exact hk117
  have hk122 : p_k (s_ai P120 a121 (Int32.toNatClampNeg x1) ((p_ai P120 a121 (Int32.toNatClampNeg x1)) + (1 : Int32))) a121 = 101 := by rw [pk_ai]; exact hk122
  obtain ⟨P125, eP125⟩ : ∃ z : Pic, z = s_ai P120 a121 (Int32.toNatClampNeg x1) ((p_ai P120 a121 (Int32.toNatClampNeg x1)) + (1 : Int32)) := ⟨_, rfl⟩
  replace h := h P125 eP125
  rw [← eP125] at hP hS
  have hk101 : p_k P125 a0 = 13 := by rw [eP125]; exact hk101
  have hk103 : p_k P125 a102 = 101 := by rw [eP125]; exact hk103
  have hk107 : p_k P125 a106 = 101 := by rw [eP125]; exact hk107
  have hk110 : p_k P125 a109 = 101 := by rw [eP125]; exact hk110
  have hk114 : p_k P125 a113 = 101 := by rw [eP125]; exact hk114
  have hk117 : p_k P125 a116 = 103 := by rw [eP125]; exact hk117
  have hk122 : p_k P125 a121 = 101 := by rw [eP125]; exact hk122
  refine lv_aload_n (pc := 59) hx hb d_Mo_note_59 rfl (lv_at hl 1 rfl) ?_
  obtain ⟨a126, ea126, h⟩ := h
  refine pq_geta (pc := 60) (f := 496) hx hb hT hK hP L44_12 hk101 rfl ea126 d_Mo_note_60 ?_
  refine lv_iload_n (pc := 63) hx hb d_Mo_note_63 rfl (lv_at hl 2 rfl) ?_
  obtain ⟨hk127, h⟩ := h
  obtain ⟨hi128, h⟩ := h
  refine pq_iald (pc := 64) hx hb hK hP hk127 hi128 d_Mo_note_64 ?_
  exact we_i (pc := 65) hx hb hlocks hr hP hS (show 0 + 0 ≤ 0 by omega) (show 0 + 0 ≤ 0 by omega) h d_Mo_note_65
/-! WaterWorksModel.install(III)I -/
abbrev y_Mo_install : MethodName := ⟨"WaterWorksModel", "install", "(III)I"⟩
abbrev rm_Mo_install : Room := { frames := 2, cells := 0, slots := 0, locals := 65 }
theorem h_Mo_install : y_Mo_install.cls ≠ "java/lang/invoke/MethodHandle" ∧ y_Mo_install.cls ≠ "java/lang/invoke/VarHandle" := by decide +kernel
theorem n_Mo_install : (parseMethodDescriptor y_Mo_install.desc).map (fun d => d.parameters.length) = some 3 := by decide +kernel
theorem d_Mo_install_0 : decode prog_15_method_25_code 0 = .ok (.aload_n 0, 1) := by decide +kernel
theorem d_Mo_install_1 : decode prog_15_method_25_code 1 = .ok (.iload_n 1, 1) := by decide +kernel
theorem d_Mo_install_2 : decode prog_15_method_25_code 2 = .ok (.invokevirtual 108, 3) := by decide +kernel
theorem d_Mo_install_5 : decode prog_15_method_25_code 5 = .ok (.ifCond .eq 10, 3) := by decide +kernel
theorem d_Mo_install_8 : decode prog_15_method_25_code 8 = .ok (.aload_n 0, 1) := by decide +kernel
theorem d_Mo_install_9 : decode prog_15_method_25_code 9 = .ok (.iconst 1, 1) := by decide +kernel
theorem d_Mo_install_10 : decode prog_15_method_25_code 10 = .ok (.putfield 81, 3) := by decide +kernel
theorem d_Mo_install_13 : decode prog_15_method_25_code 13 = .ok (.iconst 0, 1) := by decide +kernel
theorem d_Mo_install_14 : decode prog_15_method_25_code 14 = .ok (.ireturn, 1) := by decide +kernel
theorem d_Mo_install_15 : decode prog_15_method_25_code 15 = .ok (.iload_n 2, 1) := by decide +kernel
theorem d_Mo_install_16 : decode prog_15_method_25_code 16 = .ok (.iconst 1, 1) := by decide +kernel
theorem d_Mo_install_17 : decode prog_15_method_25_code 17 = .ok (.if_icmp .ne 8, 3) := by decide +kernel
theorem d_Mo_install_20 : decode prog_15_method_25_code 20 = .ok (.bipush 10, 2) := by decide +kernel
theorem d_Mo_install_22 : decode prog_15_method_25_code 22 = .ok (.goto 36, 3) := by decide +kernel
theorem d_Mo_install_25 : decode prog_15_method_25_code 25 = .ok (.iload_n 2, 1) := by decide +kernel
theorem d_Mo_install_26 : decode prog_15_method_25_code 26 = .ok (.iconst 2, 1) := by decide +kernel
theorem d_Mo_install_27 : decode prog_15_method_25_code 27 = .ok (.if_icmp .ne 8, 3) := by decide +kernel
theorem d_Mo_install_30 : decode prog_15_method_25_code 30 = .ok (.bipush 100, 2) := by decide +kernel
theorem d_Mo_install_32 : decode prog_15_method_25_code 32 = .ok (.goto 26, 3) := by decide +kernel
theorem d_Mo_install_35 : decode prog_15_method_25_code 35 = .ok (.iload_n 2, 1) := by decide +kernel
theorem d_Mo_install_36 : decode prog_15_method_25_code 36 = .ok (.iconst 3, 1) := by decide +kernel
theorem d_Mo_install_37 : decode prog_15_method_25_code 37 = .ok (.if_icmp .ne 9, 3) := by decide +kernel
theorem d_Mo_install_40 : decode prog_15_method_25_code 40 = .ok (.sipush 1000, 3) := by decide +kernel
theorem d_Mo_install_43 : decode prog_15_method_25_code 43 = .ok (.goto 15, 3) := by decide +kernel
theorem d_Mo_install_46 : decode prog_15_method_25_code 46 = .ok (.iload_n 2, 1) := by decide +kernel
theorem d_Mo_install_47 : decode prog_15_method_25_code 47 = .ok (.iconst 4, 1) := by decide +kernel
theorem d_Mo_install_48 : decode prog_15_method_25_code 48 = .ok (.if_icmp .ne 9, 3) := by decide +kernel
theorem d_Mo_install_51 : decode prog_15_method_25_code 51 = .ok (.sipush 10000, 3) := by decide +kernel
theorem d_Mo_install_54 : decode prog_15_method_25_code 54 = .ok (.goto 4, 3) := by decide +kernel
theorem d_Mo_install_57 : decode prog_15_method_25_code 57 = .ok (.iconst 0, 1) := by decide +kernel
theorem d_Mo_install_58 : decode prog_15_method_25_code 58 = .ok (.istore 4, 2) := by decide +kernel
theorem d_Mo_install_60 : decode prog_15_method_25_code 60 = .ok (.aload_n 0, 1) := by decide +kernel
theorem d_Mo_install_61 : decode prog_15_method_25_code 61 = .ok (.getfield 44, 3) := by decide +kernel
theorem d_Mo_install_64 : decode prog_15_method_25_code 64 = .ok (.iload_n 1, 1) := by decide +kernel
theorem d_Mo_install_65 : decode prog_15_method_25_code 65 = .ok (.iaload, 1) := by decide +kernel
theorem d_Mo_install_66 : decode prog_15_method_25_code 66 = .ok (.istore 5, 2) := by decide +kernel
theorem d_Mo_install_68 : decode prog_15_method_25_code 68 = .ok (.bipush 24, 2) := by decide +kernel
theorem d_Mo_install_70 : decode prog_15_method_25_code 70 = .ok (.iload_n 1, 1) := by decide +kernel
theorem d_Mo_install_71 : decode prog_15_method_25_code 71 = .ok (.imul, 1) := by decide +kernel
theorem d_Mo_install_72 : decode prog_15_method_25_code 72 = .ok (.iload 5, 2) := by decide +kernel
theorem d_Mo_install_74 : decode prog_15_method_25_code 74 = .ok (.iadd, 1) := by decide +kernel
theorem d_Mo_install_75 : decode prog_15_method_25_code 75 = .ok (.iconst 1, 1) := by decide +kernel
theorem d_Mo_install_76 : decode prog_15_method_25_code 76 = .ok (.isub, 1) := by decide +kernel
theorem d_Mo_install_77 : decode prog_15_method_25_code 77 = .ok (.istore 6, 2) := by decide +kernel
theorem d_Mo_install_79 : decode prog_15_method_25_code 79 = .ok (.iload 5, 2) := by decide +kernel
theorem d_Mo_install_81 : decode prog_15_method_25_code 81 = .ok (.ifCond .le 31, 3) := by decide +kernel
theorem d_Mo_install_84 : decode prog_15_method_25_code 84 = .ok (.aload_n 0, 1) := by decide +kernel
theorem d_Mo_install_85 : decode prog_15_method_25_code 85 = .ok (.getfield 47, 3) := by decide +kernel
theorem d_Mo_install_88 : decode prog_15_method_25_code 88 = .ok (.iload 6, 2) := by decide +kernel
theorem d_Mo_install_90 : decode prog_15_method_25_code 90 = .ok (.iaload, 1) := by decide +kernel
theorem d_Mo_install_91 : decode prog_15_method_25_code 91 = .ok (.aload_n 0, 1) := by decide +kernel
theorem d_Mo_install_92 : decode prog_15_method_25_code 92 = .ok (.getfield 125, 3) := by decide +kernel
theorem d_Mo_install_95 : decode prog_15_method_25_code 95 = .ok (.if_icmp .ne 17, 3) := by decide +kernel
theorem d_Mo_install_98 : decode prog_15_method_25_code 98 = .ok (.aload_n 0, 1) := by decide +kernel
theorem d_Mo_install_99 : decode prog_15_method_25_code 99 = .ok (.getfield 56, 3) := by decide +kernel
theorem d_Mo_install_102 : decode prog_15_method_25_code 102 = .ok (.iload 6, 2) := by decide +kernel
theorem d_Mo_install_104 : decode prog_15_method_25_code 104 = .ok (.baload, 1) := by decide +kernel
theorem d_Mo_install_105 : decode prog_15_method_25_code 105 = .ok (.ifCond .eq 7, 3) := by decide +kernel
theorem d_Mo_install_108 : decode prog_15_method_25_code 108 = .ok (.iconst 1, 1) := by decide +kernel
theorem d_Mo_install_109 : decode prog_15_method_25_code 109 = .ok (.goto 4, 3) := by decide +kernel
theorem d_Mo_install_112 : decode prog_15_method_25_code 112 = .ok (.iconst 0, 1) := by decide +kernel
theorem d_Mo_install_113 : decode prog_15_method_25_code 113 = .ok (.istore 7, 2) := by decide +kernel
theorem d_Mo_install_115 : decode prog_15_method_25_code 115 = .ok (.aload_n 0, 1) := by decide +kernel
theorem d_Mo_install_116 : decode prog_15_method_25_code 116 = .ok (.iload_n 3, 1) := by decide +kernel
theorem d_Mo_install_117 : decode prog_15_method_25_code 117 = .ok (.ifCond .lt 9, 3) := by decide +kernel
theorem d_Mo_install_120 : decode prog_15_method_25_code 120 = .ok (.iload_n 3, 1) := by decide +kernel
theorem d_Mo_install_121 : decode prog_15_method_25_code 121 = .ok (.iload 4, 2) := by decide +kernel
theorem d_Mo_install_123 : decode prog_15_method_25_code 123 = .ok (.if_icmp .lt 7, 3) := by decide +kernel
theorem d_Mo_install_126 : decode prog_15_method_25_code 126 = .ok (.iconst 2, 1) := by decide +kernel
theorem d_Mo_install_127 : decode prog_15_method_25_code 127 = .ok (.goto 20, 3) := by decide +kernel
theorem d_Mo_install_130 : decode prog_15_method_25_code 130 = .ok (.iload 5, 2) := by decide +kernel
theorem d_Mo_install_132 : decode prog_15_method_25_code 132 = .ok (.bipush 24, 2) := by decide +kernel
theorem d_Mo_install_134 : decode prog_15_method_25_code 134 = .ok (.if_icmp .eq 8, 3) := by decide +kernel
theorem d_Mo_install_137 : decode prog_15_method_25_code 137 = .ok (.iload 7, 2) := by decide +kernel
theorem d_Mo_install_139 : decode prog_15_method_25_code 139 = .ok (.ifCond .eq 7, 3) := by decide +kernel
theorem d_Mo_install_142 : decode prog_15_method_25_code 142 = .ok (.iconst 3, 1) := by decide +kernel
theorem d_Mo_install_143 : decode prog_15_method_25_code 143 = .ok (.goto 4, 3) := by decide +kernel
theorem d_Mo_install_146 : decode prog_15_method_25_code 146 = .ok (.iconst 0, 1) := by decide +kernel
theorem d_Mo_install_147 : decode prog_15_method_25_code 147 = .ok (.putfield 81, 3) := by decide +kernel
theorem d_Mo_install_150 : decode prog_15_method_25_code 150 = .ok (.aload_n 0, 1) := by decide +kernel
theorem d_Mo_install_151 : decode prog_15_method_25_code 151 = .ok (.getfield 81, 3) := by decide +kernel
theorem d_Mo_install_154 : decode prog_15_method_25_code 154 = .ok (.ifCond .le 7, 3) := by decide +kernel
theorem d_Mo_install_157 : decode prog_15_method_25_code 157 = .ok (.iconst 0, 1) := by decide +kernel
theorem d_Mo_install_158 : decode prog_15_method_25_code 158 = .ok (.goto 12, 3) := by decide +kernel
theorem d_Mo_install_161 : decode prog_15_method_25_code 161 = .ok (.aload_n 0, 1) := by decide +kernel
theorem d_Mo_install_162 : decode prog_15_method_25_code 162 = .ok (.iload_n 1, 1) := by decide +kernel
theorem d_Mo_install_163 : decode prog_15_method_25_code 163 = .ok (.iload 4, 2) := by decide +kernel
theorem d_Mo_install_165 : decode prog_15_method_25_code 165 = .ok (.iload_n 3, 1) := by decide +kernel
theorem d_Mo_install_166 : decode prog_15_method_25_code 166 = .ok (.iconst 1, 1) := by decide +kernel
theorem d_Mo_install_167 : decode prog_15_method_25_code 167 = .ok (.invokevirtual 128, 3) := by decide +kernel
theorem d_Mo_install_170 : decode prog_15_method_25_code 170 = .ok (.ireturn, 1) := by decide +kernel
def wb_Mo_install_147 (po : Option Value → Pic → Prop) (th : String → Pic → Prop) (P : Pic) (a0 : Nat) (x1 : Int32) (x3 : Int32) (x4 : Int32) (t0 : Int32) (t1 : Nat) : Prop := p_k P t1 = 13 ∧ p_k (s_i P 480 t1 t0) a0 = 13 ∧ (((p_i (s_i P 480 t1 t0) 480 a0) ≤ 0 → (wp_Mo_note (cp_i fun x129 P130 => po (some (.int x129)) P130) th (s_i P 480 t1 t0) a0 x1 x4 x3 (1 : Int32))) ∧ (¬ (p_i (s_i P 480 t1 t0) 480 a0) ≤ 0 → (po (some (.int (0 : Int32))) (s_i P 480 t1 t0))))
def wb_Mo_install_126 (po : Option Value → Pic → Prop) (th : String → Pic → Prop) (P : Pic) (a0 : Nat) (x1 : Int32) (x3 : Int32) (x4 : Int32) (t0 : Nat) : Prop := wb_Mo_install_147 po th P a0 x1 x3 x4 (2 : Int32) t0
def wb_Mo_install_142 (po : Option Value → Pic → Prop) (th : String → Pic → Prop) (P : Pic) (a0 : Nat) (x1 : Int32) (x3 : Int32) (x4 : Int32) (t0 : Nat) : Prop := wb_Mo_install_147 po th P a0 x1 x3 x4 (3 : Int32) t0
def wb_Mo_install_113 (po : Option Value → Pic → Prop) (th : String → Pic → Prop) (P : Pic) (a0 : Nat) (x1 : Int32) (x3 : Int32) (x4 : Int32) (x5 : Int32) (t0 : Int32) : Prop := ((x3 < 0 → (wb_Mo_install_126 po th P a0 x1 x3 x4 a0)) ∧ (¬ x3 < 0 → (((x3 < x4 → (((x5 = (24 : Int32) → (wb_Mo_install_142 po th P a0 x1 x3 x4 a0)) ∧ (¬ x5 = (24 : Int32) → (((t0 = 0 → (wb_Mo_install_147 po th P a0 x1 x3 x4 (0 : Int32) a0)) ∧ (¬ t0 = 0 → (wb_Mo_install_142 po th P a0 x1 x3 x4 a0)))))))) ∧ (¬ x3 < x4 → (wb_Mo_install_126 po th P a0 x1 x3 x4 a0))))))
def wb_Mo_install_112 (po : Option Value → Pic → Prop) (th : String → Pic → Prop) (P : Pic) (a0 : Nat) (x1 : Int32) (x3 : Int32) (x4 : Int32) (x5 : Int32) : Prop := wb_Mo_install_113 po th P a0 x1 x3 x4 x5 (0 : Int32)
def wb_Mo_install_58 (po : Option Value → Pic → Prop) (th : String → Pic → Prop) (P : Pic) (a0 : Nat) (x1 : Int32) (x3 : Int32) (t0 : Int32) : Prop := p_k P a0 = 13 ∧ ∃ a109, p_r P 496 a0 = some a109 ∧ p_k P a109 = 101 ∧ vp_in x1 (p_n P a109) ∧ ∀ (x112 : Int32), x112 = (p_ai P a109 (Int32.toNatClampNeg x1)) → ∀ (x113 : Int32), x113 = ((((24 : Int32) * x1) + x112) - (1 : Int32)) → ((x112 ≤ 0 → (wb_Mo_install_112 po th P a0 x1 x3 t0 x112)) ∧ (¬ x112 ≤ 0 → (∃ a114, p_r P 497 a0 = some a114 ∧ p_k P a114 = 101 ∧ vp_in x113 (p_n P a114) ∧ ((¬ (p_ai P a114 (Int32.toNatClampNeg x113)) = (p_i P 495 a0) → (wb_Mo_install_112 po th P a0 x1 x3 t0 x112)) ∧ ((p_ai P a114 (Int32.toNatClampNeg x113)) = (p_i P 495 a0) → (∃ a117, p_r P 500 a0 = some a117 ∧ p_k P a117 = 103 ∧ vp_in x113 (p_n P a117) ∧ (((p_ai P a117 (Int32.toNatClampNeg x113)) = 0 → (wb_Mo_install_112 po th P a0 x1 x3 t0 x112)) ∧ (¬ (p_ai P a117 (Int32.toNatClampNeg x113)) = 0 → (wb_Mo_install_113 po th P a0 x1 x3 t0 x112 (1 : Int32))))))))))
def wp_Mo_install (po : Option Value → Pic → Prop) (th : String → Pic → Prop) (P : Pic) (a0 : Nat) (x1 : Int32) (x2 : Int32) (x3 : Int32) : Prop := p_k P a0 = 13 ∧ wp_Mo_noCustomer (cp_i fun x102 _ => ((x102 = 0 → (((¬ x2 = (1 : Int32) → (((¬ x2 = (2 : Int32) → (((¬ x2 = (3 : Int32) → (((¬ x2 = (4 : Int32) → (wb_Mo_install_58 po th P a0 x1 x3 (0 : Int32))) ∧ (x2 = (4 : Int32) → (wb_Mo_install_58 po th P a0 x1 x3 (10000 : Int32)))))) ∧ (x2 = (3 : Int32) → (wb_Mo_install_58 po th P a0 x1 x3 (1000 : Int32)))))) ∧ (x2 = (2 : Int32) → (wb_Mo_install_58 po th P a0 x1 x3 (100 : Int32)))))) ∧ (x2 = (1 : Int32) → (wb_Mo_install_58 po th P a0 x1 x3 (10 : Int32)))))) ∧ (¬ x102 = 0 → (po (some (.int (0 : Int32))) (s_i P 480 a0 (1 : Int32)))))) th P a0 x1
set_option maxHeartbeats 4000000 in
set_option maxRecDepth 100000 in
theorem wk_Mo_install_147 {p : Program} {l : Launch} {e : Env} {s : State} {m : MethodId} {args : Array Value} {below : List Frame} {meth : Method} {c : Code} {D : pq_D} {P0 : Pic} {po : Option Value → Pic → Prop} {th : String → Pic → Prop} (hfl : l.flags = flags0) (C : Cx p e s m args meth c prog_15_method_25_code 8 "WaterWorksModel" D P0) (hmg : e.platform.magicAccessors = ({} : Platform).magicAccessors) (hr : meth.sig.returnType = (some .int)) (hin : meth.name = "install") (htab : c.exceptionTable.toList = tableOf []) : ∀ (P : Pic) (a0 : Nat) (x1 : Int32) (x3 : Int32) (x4 : Int32) (t0 : Int32) (t1 : Nat) (H : Heap) (locs : List Loc) (cells slots : Nat) (ls : Array Slot), wb_Mo_install_147 po th P a0 x1 x3 x4 t0 t1 → Pi D P H → Sg (cq_A P0 s) s.heap H P locs → lv_has ls 8 [(0, .ref a0), (1, .int x1), (3, .int x3), (4, .int x4)] → cells + 0 ≤ 0 → slots + 0 ≤ 0 → W p l e rm_Mo_install s m args below meth c H locs cells slots (mt_MQ below (cq_Q D P0 false po th) args s 0 0 (cq_free P0 false)) (F0 m 147 ls [.int t0, .ref t1]) := by
  intro P a0 x1 x3 x4 t0 t1 H locs cells slots ls h hP hS hl hcc hss
  obtain ⟨hx, hb, hml, hown, hlocks, htr, hT, hK, hSt, hN, hP0⟩ := id C
  have L125_12 : pq_fl s m args 125 12 15 := ⟨_, "WaterWorksModel", "WaterWorksModel", rfl, by decide, hown, Or.inl (hT _ k_1119 _), (fun _ z => z)⟩
  have L44_12 : pq_fl s m args 44 12 16 := ⟨_, "WaterWorksModel", "WaterWorksModel", rfl, by decide, hown, Or.inl (hT _ k_1120 _), (fun _ z => z)⟩
  have L47_12 : pq_fl s m args 47 12 17 := ⟨_, "WaterWorksModel", "WaterWorksModel", rfl, by decide, hown, Or.inl (hT _ k_1121 _), (fun _ z => z)⟩
  have L56_12 : pq_fl s m args 56 12 20 := ⟨_, "WaterWorksModel", "WaterWorksModel", rfl, by decide, hown, Or.inl (hT _ k_1124 _), (fun _ z => z)⟩
  have L81_12 : pq_fl s m args 81 12 0 := ⟨_, "WaterWorksModel", "WaterWorksModel", rfl, by decide, hown, Or.inl (hT _ k_1104 _), (fun _ z => z)⟩
  unfold wb_Mo_install_147 at h
  obtain ⟨hk127, h⟩ := h
  refine pq_puti (pc := 147) (f := 480) hx hb hT hK hP hS L81_12 hk127 rfl rfl rfl rfl d_Mo_install_147 (fun H locs hP hS => ?_)
  have hk127 : p_k (s_i P 480 t1 t0) t1 = 13 := by rw [pk_i]; exact hk127
  refine lv_aload_n (pc := 150) hx hb d_Mo_install_150 rfl (lv_at hl 0 rfl) ?_
  obtain ⟨hk128, h⟩ := h
  refine pq_geti (pc := 151) (f := 480) hx hb hT hK hP L81_12 hk128 rfl d_Mo_install_151 ?_
  refine lv_if_le (pc := 154) (tgt := 161) hx hb d_Mo_install_154 (by decide) (fun c131 => ?_) (fun c131 => ?_)
  · replace h := h.1 c131
    refine lv_aload_n (pc := 161) hx hb d_Mo_install_161 rfl (lv_at hl 0 rfl) ?_
    refine lv_iload_n (pc := 162) hx hb d_Mo_install_162 rfl (lv_at hl 1 rfl) ?_
    refine lv_iload (pc := 163) hx hb d_Mo_install_163 (lv_at hl 3 rfl) ?_
    refine lv_iload_n (pc := 165) hx hb d_Mo_install_165 rfl (lv_at hl 2 rfl) ?_
    refine lv_iconst (pc := 166) (v := 1) hx hb d_Mo_install_166 (by decide) ?_
    refine cc_i (pc := 167) C (rest := []) (mt_invV (As := [.int x1, .int x4, .int x3, .int (1 : Int32)]) hx hb hown (hT _ k_1287 _) (hT _ k_1289 _) (hT _ ks_26 _) (mt_Cd.code (hT _ k_1290 #[])) h_Mo_note (pq_recv hK hP hk128 rfl) n_Mo_note rfl d_Mo_install_167) (ct_Mo_note hfl D h) k_1290 k_24 ⟨Nat.le_of_ble_eq_true rfl, Nat.le_of_ble_eq_true rfl⟩ ⟨(show cells + 0 ≤ 0 by omega), (show slots + 0 ≤ 0 by omega)⟩ hl.1 d_Mo_install_167 (Nat.le_of_ble_eq_true rfl) hP hS (fun x129 P130 H locs h hP hS => ?_) (fun xx X P130 H locs h hX hex hP hS => ?_)
    · exact we_i (pc := 170) hx hb hlocks hr hP hS (show cells + 0 + 0 ≤ 0 by omega) (show slots + 0 + 0 ≤ 0 by omega) h d_Mo_install_170
    · exact cq_out hlocks (pq_nil htab rfl) (show cells + 0 + 0 ≤ 0 by omega) (show slots + 0 + 0 ≤ 0 by omega) hX hex hP hS h
  · replace h := h.2 c131
    refine lv_iconst (pc := 157) (v := 0) hx hb d_Mo_install_157 (by decide) ?_
    refine lv_goto (pc := 158) (tgt := 170) hx hb d_Mo_install_158 (by decide) ?_
    exact we_i (pc := 170) hx hb hlocks hr hP hS (show cells + 0 ≤ 0 by omega) (show slots + 0 ≤ 0 by omega) h d_Mo_install_170
set_option maxHeartbeats 4000000 in
set_option maxRecDepth 100000 in
theorem wk_Mo_install_126 {p : Program} {l : Launch} {e : Env} {s : State} {m : MethodId} {args : Array Value} {below : List Frame} {meth : Method} {c : Code} {D : pq_D} {P0 : Pic} {po : Option Value → Pic → Prop} {th : String → Pic → Prop} (hfl : l.flags = flags0) (C : Cx p e s m args meth c prog_15_method_25_code 8 "WaterWorksModel" D P0) (hmg : e.platform.magicAccessors = ({} : Platform).magicAccessors) (hr : meth.sig.returnType = (some .int)) (hin : meth.name = "install") (htab : c.exceptionTable.toList = tableOf []) : ∀ (P : Pic) (a0 : Nat) (x1 : Int32) (x3 : Int32) (x4 : Int32) (t0 : Nat) (H : Heap) (locs : List Loc) (cells slots : Nat) (ls : Array Slot), wb_Mo_install_126 po th P a0 x1 x3 x4 t0 → Pi D P H → Sg (cq_A P0 s) s.heap H P locs → lv_has ls 8 [(0, .ref a0), (1, .int x1), (3, .int x3), (4, .int x4)] → cells + 0 ≤ 0 → slots + 0 ≤ 0 → W p l e rm_Mo_install s m args below meth c H locs cells slots (mt_MQ below (cq_Q D P0 false po th) args s 0 0 (cq_free P0 false)) (F0 m 126 ls [.ref t0]) := by
  intro P a0 x1 x3 x4 t0 H locs cells slots ls h hP hS hl hcc hss
  obtain ⟨hx, hb, hml, hown, hlocks, htr, hT, hK, hSt, hN, hP0⟩ := id C
  have L125_12 : pq_fl s m args 125 12 15 := ⟨_, "WaterWorksModel", "WaterWorksModel", rfl, by decide, hown, Or.inl (hT _ k_1119 _), (fun _ z => z)⟩
  have L44_12 : pq_fl s m args 44 12 16 := ⟨_, "WaterWorksModel", "WaterWorksModel", rfl, by decide, hown, Or.inl (hT _ k_1120 _), (fun _ z => z)⟩
  have L47_12 : pq_fl s m args 47 12 17 := ⟨_, "WaterWorksModel", "WaterWorksModel", rfl, by decide, hown, Or.inl (hT _ k_1121 _), (fun _ z => z)⟩
  have L56_12 : pq_fl s m args 56 12 20 := ⟨_, "WaterWorksModel", "WaterWorksModel", rfl, by decide, hown, Or.inl (hT _ k_1124 _), (fun _ z => z)⟩
  have L81_12 : pq_fl s m args 81 12 0 := ⟨_, "WaterWorksModel", "WaterWorksModel", rfl, by decide, hown, Or.inl (hT _ k_1104 _), (fun _ z => z)⟩
  unfold wb_Mo_install_126 at h
  refine lv_iconst (pc := 126) (v := 2) hx hb d_Mo_install_126 (by decide) ?_
  refine lv_goto (pc := 127) (tgt := 147) hx hb d_Mo_install_127 (by decide) ?_
  exact wk_Mo_install_147 hfl C hmg hr hin htab _ a0 x1 x3 x4 (2 : Int32) t0 _ _ _ _ _ h hP hS (lv_sub hl [0, 1, 2, 3] rfl) (show cells + 0 ≤ 0 by omega) (show slots + 0 ≤ 0 by omega)
set_option maxHeartbeats 4000000 in
set_option maxRecDepth 100000 in
theorem wk_Mo_install_142 {p : Program} {l : Launch} {e : Env} {s : State} {m : MethodId} {args : Array Value} {below : List Frame} {meth : Method} {c : Code} {D : pq_D} {P0 : Pic} {po : Option Value → Pic → Prop} {th : String → Pic → Prop} (hfl : l.flags = flags0) (C : Cx p e s m args meth c prog_15_method_25_code 8 "WaterWorksModel" D P0) (hmg : e.platform.magicAccessors = ({} : Platform).magicAccessors) (hr : meth.sig.returnType = (some .int)) (hin : meth.name = "install") (htab : c.exceptionTable.toList = tableOf []) : ∀ (P : Pic) (a0 : Nat) (x1 : Int32) (x3 : Int32) (x4 : Int32) (t0 : Nat) (H : Heap) (locs : List Loc) (cells slots : Nat) (ls : Array Slot), wb_Mo_install_142 po th P a0 x1 x3 x4 t0 → Pi D P H → Sg (cq_A P0 s) s.heap H P locs → lv_has ls 8 [(0, .ref a0), (1, .int x1), (3, .int x3), (4, .int x4)] → cells + 0 ≤ 0 → slots + 0 ≤ 0 → W p l e rm_Mo_install s m args below meth c H locs cells slots (mt_MQ below (cq_Q D P0 false po th) args s 0 0 (cq_free P0 false)) (F0 m 142 ls [.ref t0]) := by
  intro P a0 x1 x3 x4 t0 H locs cells slots ls h hP hS hl hcc hss
  obtain ⟨hx, hb, hml, hown, hlocks, htr, hT, hK, hSt, hN, hP0⟩ := id C
  have L125_12 : pq_fl s m args 125 12 15 := ⟨_, "WaterWorksModel", "WaterWorksModel", rfl, by decide, hown, Or.inl (hT _ k_1119 _), (fun _ z => z)⟩
  have L44_12 : pq_fl s m args 44 12 16 := ⟨_, "WaterWorksModel", "WaterWorksModel", rfl, by decide, hown, Or.inl (hT _ k_1120 _), (fun _ z => z)⟩
  have L47_12 : pq_fl s m args 47 12 17 := ⟨_, "WaterWorksModel", "WaterWorksModel", rfl, by decide, hown, Or.inl (hT _ k_1121 _), (fun _ z => z)⟩
  have L56_12 : pq_fl s m args 56 12 20 := ⟨_, "WaterWorksModel", "WaterWorksModel", rfl, by decide, hown, Or.inl (hT _ k_1124 _), (fun _ z => z)⟩
  have L81_12 : pq_fl s m args 81 12 0 := ⟨_, "WaterWorksModel", "WaterWorksModel", rfl, by decide, hown, Or.inl (hT _ k_1104 _), (fun _ z => z)⟩
  unfold wb_Mo_install_142 at h
  refine lv_iconst (pc := 142) (v := 3) hx hb d_Mo_install_142 (by decide) ?_
  refine lv_goto (pc := 143) (tgt := 147) hx hb d_Mo_install_143 (by decide) ?_
  exact wk_Mo_install_147 hfl C hmg hr hin htab _ a0 x1 x3 x4 (3 : Int32) t0 _ _ _ _ _ h hP hS (lv_sub hl [0, 1, 2, 3] rfl) (show cells + 0 ≤ 0 by omega) (show slots + 0 ≤ 0 by omega)
set_option maxHeartbeats 4000000 in
set_option maxRecDepth 100000 in
theorem wk_Mo_install_113 {p : Program} {l : Launch} {e : Env} {s : State} {m : MethodId} {args : Array Value} {below : List Frame} {meth : Method} {c : Code} {D : pq_D} {P0 : Pic} {po : Option Value → Pic → Prop} {th : String → Pic → Prop} (hfl : l.flags = flags0) (C : Cx p e s m args meth c prog_15_method_25_code 8 "WaterWorksModel" D P0) (hmg : e.platform.magicAccessors = ({} : Platform).magicAccessors) (hr : meth.sig.returnType = (some .int)) (hin : meth.name = "install") (htab : c.exceptionTable.toList = tableOf []) : ∀ (P : Pic) (a0 : Nat) (x1 : Int32) (x3 : Int32) (x4 : Int32) (x5 : Int32) (t0 : Int32) (H : Heap) (locs : List Loc) (cells slots : Nat) (ls : Array Slot), wb_Mo_install_113 po th P a0 x1 x3 x4 x5 t0 → Pi D P H → Sg (cq_A P0 s) s.heap H P locs → lv_has ls 8 [(0, .ref a0), (1, .int x1), (3, .int x3), (4, .int x4), (5, .int x5)] → cells + 0 ≤ 0 → slots + 0 ≤ 0 → W p l e rm_Mo_install s m args below meth c H locs cells slots (mt_MQ below (cq_Q D P0 false po th) args s 0 0 (cq_free P0 false)) (F0 m 113 ls [.int t0]) := by
  intro P a0 x1 x3 x4 x5 t0 H locs cells slots ls h hP hS hl hcc hss
  obtain ⟨hx, hb, hml, hown, hlocks, htr, hT, hK, hSt, hN, hP0⟩ := id C
  have L125_12 : pq_fl s m args 125 12 15 := ⟨_, "WaterWorksModel", "WaterWorksModel", rfl, by decide, hown, Or.inl (hT _ k_1119 _), (fun _ z => z)⟩
  have L44_12 : pq_fl s m args 44 12 16 := ⟨_, "WaterWorksModel", "WaterWorksModel", rfl, by decide, hown, Or.inl (hT _ k_1120 _), (fun _ z => z)⟩
  have L47_12 : pq_fl s m args 47 12 17 := ⟨_, "WaterWorksModel", "WaterWorksModel", rfl, by decide, hown, Or.inl (hT _ k_1121 _), (fun _ z => z)⟩
  have L56_12 : pq_fl s m args 56 12 20 := ⟨_, "WaterWorksModel", "WaterWorksModel", rfl, by decide, hown, Or.inl (hT _ k_1124 _), (fun _ z => z)⟩
  have L81_12 : pq_fl s m args 81 12 0 := ⟨_, "WaterWorksModel", "WaterWorksModel", rfl, by decide, hown, Or.inl (hT _ k_1104 _), (fun _ z => z)⟩
  unfold wb_Mo_install_113 at h
  refine lv_istore (pc := 113) (lv' := [(7, .int t0), (0, .ref a0), (1, .int x1), (3, .int x3), (4, .int x4), (5, .int x5)]) hx hb d_Mo_install_113 hl (by decide) rfl (fun ls hl => ?_)
  refine lv_aload_n (pc := 115) hx hb d_Mo_install_115 rfl (lv_at hl 1 rfl) ?_
  refine lv_iload_n (pc := 116) hx hb d_Mo_install_116 rfl (lv_at hl 3 rfl) ?_
  refine lv_if_lt (pc := 117) (tgt := 126) hx hb d_Mo_install_117 (by decide) (fun c126 => ?_) (fun c126 => ?_)
  · replace h := h.1 c126
    exact wk_Mo_install_126 hfl C hmg hr hin htab _ a0 x1 x3 x4 a0 _ _ _ _ _ h hP hS (lv_sub hl [1, 2, 3, 4] rfl) (show cells + 0 ≤ 0 by omega) (show slots + 0 ≤ 0 by omega)
  · replace h := h.2 c126
    refine lv_iload_n (pc := 120) hx hb d_Mo_install_120 rfl (lv_at hl 3 rfl) ?_
    refine lv_iload (pc := 121) hx hb d_Mo_install_121 (lv_at hl 4 rfl) ?_
    refine lv_icmp_lt (pc := 123) (tgt := 130) hx hb d_Mo_install_123 (by decide) (fun c125 => ?_) (fun c125 => ?_)
    · replace h := h.1 c125
      refine lv_iload (pc := 130) hx hb d_Mo_install_130 (lv_at hl 5 rfl) ?_
      refine lv_bipush (pc := 132) (v := 24) hx hb d_Mo_install_132 (by decide) ?_
      refine lv_icmp_eq (pc := 134) (tgt := 142) hx hb d_Mo_install_134 (by decide) (fun c124 => ?_) (fun c124 => ?_)
      · replace h := h.1 c124
        exact wk_Mo_install_142 hfl C hmg hr hin htab _ a0 x1 x3 x4 a0 _ _ _ _ _ h hP hS (lv_sub hl [1, 2, 3, 4] rfl) (show cells + 0 ≤ 0 by omega) (show slots + 0 ≤ 0 by omega)
      · replace h := h.2 c124
        refine lv_iload (pc := 137) hx hb d_Mo_install_137 (lv_at hl 0 rfl) ?_
        refine lv_if_eq (pc := 139) (tgt := 146) hx hb d_Mo_install_139 (by decide) (fun c123 => ?_) (fun c123 => ?_)
        · replace h := h.1 c123
          refine lv_iconst (pc := 146) (v := 0) hx hb d_Mo_install_146 (by decide) ?_
          exact wk_Mo_install_147 hfl C hmg hr hin htab _ a0 x1 x3 x4 (0 : Int32) a0 _ _ _ _ _ h hP hS (lv_sub hl [1, 2, 3, 4] rfl) (show cells + 0 ≤ 0 by omega) (show slots + 0 ≤ 0 by omega)
        · replace h := h.2 c123
          exact wk_Mo_install_142 hfl C hmg hr hin htab _ a0 x1 x3 x4 a0 _ _ _ _ _ h hP hS (lv_sub hl [1, 2, 3, 4] rfl) (show cells + 0 ≤ 0 by omega) (show slots + 0 ≤ 0 by omega)
    · replace h := h.2 c125
      exact wk_Mo_install_126 hfl C hmg hr hin htab _ a0 x1 x3 x4 a0 _ _ _ _ _ h hP hS (lv_sub hl [1, 2, 3, 4] rfl) (show cells + 0 ≤ 0 by omega) (show slots + 0 ≤ 0 by omega)
set_option maxHeartbeats 4000000 in
set_option maxRecDepth 100000 in
theorem wk_Mo_install_112 {p : Program} {l : Launch} {e : Env} {s : State} {m : MethodId} {args : Array Value} {below : List Frame} {meth : Method} {c : Code} {D : pq_D} {P0 : Pic} {po : Option Value → Pic → Prop} {th : String → Pic → Prop} (hfl : l.flags = flags0) (C : Cx p e s m args meth c prog_15_method_25_code 8 "WaterWorksModel" D P0) (hmg : e.platform.magicAccessors = ({} : Platform).magicAccessors) (hr : meth.sig.returnType = (some .int)) (hin : meth.name = "install") (htab : c.exceptionTable.toList = tableOf []) : ∀ (P : Pic) (a0 : Nat) (x1 : Int32) (x3 : Int32) (x4 : Int32) (x5 : Int32) (H : Heap) (locs : List Loc) (cells slots : Nat) (ls : Array Slot), wb_Mo_install_112 po th P a0 x1 x3 x4 x5 → Pi D P H → Sg (cq_A P0 s) s.heap H P locs → lv_has ls 8 [(0, .ref a0), (1, .int x1), (3, .int x3), (4, .int x4), (5, .int x5)] → cells + 0 ≤ 0 → slots + 0 ≤ 0 → W p l e rm_Mo_install s m args below meth c H locs cells slots (mt_MQ below (cq_Q D P0 false po th) args s 0 0 (cq_free P0 false)) (F0 m 112 ls []) := by
  intro P a0 x1 x3 x4 x5 H locs cells slots ls h hP hS hl hcc hss
  obtain ⟨hx, hb, hml, hown, hlocks, htr, hT, hK, hSt, hN, hP0⟩ := id C
  have L125_12 : pq_fl s m args 125 12 15 := ⟨_, "WaterWorksModel", "WaterWorksModel", rfl, by decide, hown, Or.inl (hT _ k_1119 _), (fun _ z => z)⟩
  have L44_12 : pq_fl s m args 44 12 16 := ⟨_, "WaterWorksModel", "WaterWorksModel", rfl, by decide, hown, Or.inl (hT _ k_1120 _), (fun _ z => z)⟩
  have L47_12 : pq_fl s m args 47 12 17 := ⟨_, "WaterWorksModel", "WaterWorksModel", rfl, by decide, hown, Or.inl (hT _ k_1121 _), (fun _ z => z)⟩
  have L56_12 : pq_fl s m args 56 12 20 := ⟨_, "WaterWorksModel", "WaterWorksModel", rfl, by decide, hown, Or.inl (hT _ k_1124 _), (fun _ z => z)⟩
  have L81_12 : pq_fl s m args 81 12 0 := ⟨_, "WaterWorksModel", "WaterWorksModel", rfl, by decide, hown, Or.inl (hT _ k_1104 _), (fun _ z => z)⟩
  unfold wb_Mo_install_112 at h
  refine lv_iconst (pc := 112) (v := 0) hx hb d_Mo_install_112 (by decide) ?_
  exact wk_Mo_install_113 hfl C hmg hr hin htab _ a0 x1 x3 x4 x5 (0 : Int32) _ _ _ _ _ h hP hS (lv_sub hl [0, 1, 2, 3, 4] rfl) (show cells + 0 ≤ 0 by omega) (show slots + 0 ≤ 0 by omega)
set_option maxHeartbeats 4000000 in
set_option maxRecDepth 100000 in
theorem wk_Mo_install_58 {p : Program} {l : Launch} {e : Env} {s : State} {m : MethodId} {args : Array Value} {below : List Frame} {meth : Method} {c : Code} {D : pq_D} {P0 : Pic} {po : Option Value → Pic → Prop} {th : String → Pic → Prop} (hfl : l.flags = flags0) (C : Cx p e s m args meth c prog_15_method_25_code 8 "WaterWorksModel" D P0) (hmg : e.platform.magicAccessors = ({} : Platform).magicAccessors) (hr : meth.sig.returnType = (some .int)) (hin : meth.name = "install") (htab : c.exceptionTable.toList = tableOf []) : ∀ (P : Pic) (a0 : Nat) (x1 : Int32) (x3 : Int32) (t0 : Int32) (H : Heap) (locs : List Loc) (cells slots : Nat) (ls : Array Slot), wb_Mo_install_58 po th P a0 x1 x3 t0 → Pi D P H → Sg (cq_A P0 s) s.heap H P locs → lv_has ls 8 [(0, .ref a0), (1, .int x1), (3, .int x3)] → cells + 0 ≤ 0 → slots + 0 ≤ 0 → W p l e rm_Mo_install s m args below meth c H locs cells slots (mt_MQ below (cq_Q D P0 false po th) args s 0 0 (cq_free P0 false)) (F0 m 58 ls [.int t0]) := by
  intro P a0 x1 x3 t0 H locs cells slots ls h hP hS hl hcc hss
  obtain ⟨hx, hb, hml, hown, hlocks, htr, hT, hK, hSt, hN, hP0⟩ := id C
  have L125_12 : pq_fl s m args 125 12 15 := ⟨_, "WaterWorksModel", "WaterWorksModel", rfl, by decide, hown, Or.inl (hT _ k_1119 _), (fun _ z => z)⟩
  have L44_12 : pq_fl s m args 44 12 16 := ⟨_, "WaterWorksModel", "WaterWorksModel", rfl, by decide, hown, Or.inl (hT _ k_1120 _), (fun _ z => z)⟩
  have L47_12 : pq_fl s m args 47 12 17 := ⟨_, "WaterWorksModel", "WaterWorksModel", rfl, by decide, hown, Or.inl (hT _ k_1121 _), (fun _ z => z)⟩
  have L56_12 : pq_fl s m args 56 12 20 := ⟨_, "WaterWorksModel", "WaterWorksModel", rfl, by decide, hown, Or.inl (hT _ k_1124 _), (fun _ z => z)⟩
  have L81_12 : pq_fl s m args 81 12 0 := ⟨_, "WaterWorksModel", "WaterWorksModel", rfl, by decide, hown, Or.inl (hT _ k_1104 _), (fun _ z => z)⟩
  unfold wb_Mo_install_58 at h
  refine lv_istore (pc := 58) (lv' := [(4, .int t0), (0, .ref a0), (1, .int x1), (3, .int x3)]) hx hb d_Mo_install_58 hl (by decide) rfl (fun ls hl => ?_)
  refine lv_aload_n (pc := 60) hx hb d_Mo_install_60 rfl (lv_at hl 1 rfl) ?_
  obtain ⟨hk108, h⟩ := h
  obtain ⟨a109, ea109, h⟩ := h
  refine pq_geta (pc := 61) (f := 496) hx hb hT hK hP L44_12 hk108 rfl ea109 d_Mo_install_61 ?_
  refine lv_iload_n (pc := 64) hx hb d_Mo_install_64 rfl (lv_at hl 2 rfl) ?_
  obtain ⟨hk110, h⟩ := h
  obtain ⟨hi111, h⟩ := h
  refine pq_iald (pc := 65) hx hb hK hP hk110 hi111 d_Mo_install_65 ?_
  refine lv_topi (fun x112 ex112 => ?_)
  replace h := h x112 ex112
  refine lv_istore (pc := 66) (lv' := [(5, .int x112), (4, .int t0), (0, .ref a0), (1, .int x1), (3, .int x3)]) hx hb d_Mo_install_66 hl (by decide) rfl (fun ls hl => ?_)
  refine lv_bipush (pc := 68) (v := 24) hx hb d_Mo_install_68 (by decide) ?_
  refine lv_iload_n (pc := 70) hx hb d_Mo_install_70 rfl (lv_at hl 3 rfl) ?_
  refine lv_imul (pc := 71) hx hb d_Mo_install_71 ?_
  refine lv_iload (pc := 72) hx hb d_Mo_install_72 (lv_at hl 0 rfl) ?_
  refine lv_iadd (pc := 74) hx hb d_Mo_install_74 ?_
  refine lv_iconst (pc := 75) (v := 1) hx hb d_Mo_install_75 (by decide) ?_
  refine lv_isub (pc := 76) hx hb d_Mo_install_76 ?_
  refine lv_topi (fun x113 ex113 => ?_)
  replace h := h x113 ex113
  refine lv_istore (pc := 77) (lv' := [(6, .int x113), (5, .int x112), (4, .int t0), (0, .ref a0), (1, .int x1), (3, .int x3)]) hx hb d_Mo_install_77 hl (by decide) rfl (fun ls hl => ?_)
  refine lv_iload (pc := 79) hx hb d_Mo_install_79 (lv_at hl 1 rfl) ?_
  refine lv_if_le (pc := 81) (tgt := 112) hx hb d_Mo_install_81 (by decide) (fun c122 => ?_) (fun c122 => ?_)
  · replace h := h.1 c122
    exact wk_Mo_install_112 hfl C hmg hr hin htab _ a0 x1 x3 t0 x112 _ _ _ _ _ h hP hS (lv_sub hl [3, 4, 5, 2, 1] rfl) (show cells + 0 ≤ 0 by omega) (show slots + 0 ≤ 0 by omega)
  · replace h := h.2 c122
    refine lv_aload_n (pc := 84) hx hb d_Mo_install_84 rfl (lv_at hl 3 rfl) ?_
    obtain ⟨a114, ea114, h⟩ := h
    refine pq_geta (pc := 85) (f := 497) hx hb hT hK hP L47_12 hk108 rfl ea114 d_Mo_install_85 ?_
    refine lv_iload (pc := 88) hx hb d_Mo_install_88 (lv_at hl 0 rfl) ?_
    obtain ⟨hk115, h⟩ := h
    obtain ⟨hi116, h⟩ := h
    refine pq_iald (pc := 90) hx hb hK hP hk115 hi116 d_Mo_install_90 ?_
    refine lv_aload_n (pc := 91) hx hb d_Mo_install_91 rfl (lv_at hl 3 rfl) ?_
    refine pq_geti (pc := 92) (f := 495) hx hb hT hK hP L125_12 hk108 rfl d_Mo_install_92 ?_
    refine lv_icmp_ne (pc := 95) (tgt := 112) hx hb d_Mo_install_95 (by decide) (fun c121 => ?_) (fun c121 => ?_)
    · replace h := h.1 c121
      exact wk_Mo_install_112 hfl C hmg hr hin htab _ a0 x1 x3 t0 x112 _ _ _ _ _ h hP hS (lv_sub hl [3, 4, 5, 2, 1] rfl) (show cells + 0 ≤ 0 by omega) (show slots + 0 ≤ 0 by omega)
    · replace h := h.2 c121
      refine lv_aload_n (pc := 98) hx hb d_Mo_install_98 rfl (lv_at hl 3 rfl) ?_
      obtain ⟨a117, ea117, h⟩ := h
      refine pq_geta (pc := 99) (f := 500) hx hb hT hK hP L56_12 hk108 rfl ea117 d_Mo_install_99 ?_
      refine lv_iload (pc := 102) hx hb d_Mo_install_102 (lv_at hl 0 rfl) ?_
      obtain ⟨hk118, h⟩ := h
      obtain ⟨hi119, h⟩ := h
      refine pq_zald (pc := 104) hx hb hK hP hk118 hi119 d_Mo_install_104 ?_
      refine lv_if_eq (pc := 105) (tgt := 112) hx hb d_Mo_install_105 (by decide) (fun c120 => ?_) (fun c120 => ?_)
      · replace h := h.1 c120
        exact wk_Mo_install_112 hfl C hmg hr hin htab _ a0 x1 x3 t0 x112 _ _ _ _ _ h hP hS (lv_sub hl [3, 4, 5, 2, 1] rfl) (show cells + 0 ≤ 0 by omega) (show slots + 0 ≤ 0 by omega)
      · replace h := h.2 c120
        refine lv_iconst (pc := 108) (v := 1) hx hb d_Mo_install_108 (by decide) ?_
        refine lv_goto (pc := 109) (tgt := 113) hx hb d_Mo_install_109 (by decide) ?_
        exact wk_Mo_install_113 hfl C hmg hr hin htab _ a0 x1 x3 t0 x112 (1 : Int32) _ _ _ _ _ h hP hS (lv_sub hl [3, 4, 5, 2, 1] rfl) (show cells + 0 ≤ 0 by omega) (show slots + 0 ≤ 0 by omega)
set_option maxHeartbeats 4000000 in
set_option maxRecDepth 100000 in
theorem ct_Mo_install {l : Launch} (hfl : l.flags = flags0) (D : pq_D) {po : Option Value → Pic → Prop} {th : String → Pic → Prop} {P : Pic} {a0 : Nat} {x1 : Int32} {x2 : Int32} {x3 : Int32} (h : wp_Mo_install po th P a0 x1 x2 x3) : CT l D y_Mo_install (.code y_Mo_install prog_15_method_25_code 8 (some .int)) rm_Mo_install false [.ref a0, .int x1, .int x2, .int x3] P po th := by
  refine ct_of (hs := []) hfl (by decide +kernel) (Or.inl ⟨rfl, rfl⟩) (Nat.le_of_ble_eq_true rfl) ?_
  intro p e s m below meth c C hmg hr hin htab ls hl
  have hl : lv_has ls 8 [(0, .ref a0), (1, .int x1), (2, .int x2), (3, .int x3)] := hl
  generalize hargs : ([.ref a0, .int x1, .int x2, .int x3] : List Value).toArray = args at C ⊢
  obtain ⟨hx, hb, hml, hown, hlocks, htr, hT, hK, hSt, hN, hP0⟩ := id C
  have L125_12 : pq_fl s m args 125 12 15 := ⟨_, "WaterWorksModel", "WaterWorksModel", rfl, by decide, hown, Or.inl (hT _ k_1119 _), (fun _ z => z)⟩
  have L44_12 : pq_fl s m args 44 12 16 := ⟨_, "WaterWorksModel", "WaterWorksModel", rfl, by decide, hown, Or.inl (hT _ k_1120 _), (fun _ z => z)⟩
  have L47_12 : pq_fl s m args 47 12 17 := ⟨_, "WaterWorksModel", "WaterWorksModel", rfl, by decide, hown, Or.inl (hT _ k_1121 _), (fun _ z => z)⟩
  have L56_12 : pq_fl s m args 56 12 20 := ⟨_, "WaterWorksModel", "WaterWorksModel", rfl, by decide, hown, Or.inl (hT _ k_1124 _), (fun _ z => z)⟩
  have L81_12 : pq_fl s m args 81 12 0 := ⟨_, "WaterWorksModel", "WaterWorksModel", rfl, by decide, hown, Or.inl (hT _ k_1104 _), (fun _ z => z)⟩
  have hP : Pi D P s.heap := hP0
  have hS : Sg (cq_A P s) s.heap s.heap P [] := Sg.start hP0
  unfold wp_Mo_install at h
  refine lv_aload_n (pc := 0) hx hb d_Mo_install_0 rfl (lv_at hl 0 rfl) ?_
  refine lv_iload_n (pc := 1) hx hb d_Mo_install_1 rfl (lv_at hl 1 rfl) ?_
  obtain ⟨hk101, h⟩ := h
  refine cr_i (pc := 2) C (rest := []) (mt_invV (As := [.int x1]) hx hb hown (hT _ k_1239 _) (hT _ k_1241 _) (hT _ ks_20 _) (mt_Cd.code (hT _ k_1242 #[])) h_Mo_noCustomer (pq_recv hK hP hk101 rfl) n_Mo_noCustomer rfl d_Mo_install_2) (ct_Mo_noCustomer hfl D h) k_1242 k_24 ⟨Nat.le_of_ble_eq_true rfl, Nat.le_of_ble_eq_true rfl⟩ ⟨(show 0 + 0 ≤ 0 by omega), (show 0 + 0 ≤ 0 by omega)⟩ hl.1 d_Mo_install_2 (Nat.le_of_ble_eq_true rfl) hP hS (fun x102 H locs h hP hS => ?_) (fun xx X H locs h hX hex hP hS => ?_)
  · refine lv_if_eq (pc := 5) (tgt := 15) hx hb d_Mo_install_5 (by decide) (fun c107 => ?_) (fun c107 => ?_)
    · replace h := h.1 c107
      refine lv_iload_n (pc := 15) hx hb d_Mo_install_15 rfl (lv_at hl 2 rfl) ?_
      refine lv_iconst (pc := 16) (v := 1) hx hb d_Mo_install_16 (by decide) ?_
      refine lv_icmp_ne (pc := 17) (tgt := 25) hx hb d_Mo_install_17 (by decide) (fun c106 => ?_) (fun c106 => ?_)
      · replace h := h.1 c106
        refine lv_iload_n (pc := 25) hx hb d_Mo_install_25 rfl (lv_at hl 2 rfl) ?_
        refine lv_iconst (pc := 26) (v := 2) hx hb d_Mo_install_26 (by decide) ?_
        refine lv_icmp_ne (pc := 27) (tgt := 35) hx hb d_Mo_install_27 (by decide) (fun c105 => ?_) (fun c105 => ?_)
        · replace h := h.1 c105
          refine lv_iload_n (pc := 35) hx hb d_Mo_install_35 rfl (lv_at hl 2 rfl) ?_
          refine lv_iconst (pc := 36) (v := 3) hx hb d_Mo_install_36 (by decide) ?_
          refine lv_icmp_ne (pc := 37) (tgt := 46) hx hb d_Mo_install_37 (by decide) (fun c104 => ?_) (fun c104 => ?_)
          · replace h := h.1 c104
            refine lv_iload_n (pc := 46) hx hb d_Mo_install_46 rfl (lv_at hl 2 rfl) ?_
            refine lv_iconst (pc := 47) (v := 4) hx hb d_Mo_install_47 (by decide) ?_
            refine lv_icmp_ne (pc := 48) (tgt := 57) hx hb d_Mo_install_48 (by decide) (fun c103 => ?_) (fun c103 => ?_)
            · replace h := h.1 c103
              refine lv_iconst (pc := 57) (v := 0) hx hb d_Mo_install_57 (by decide) ?_
              exact wk_Mo_install_58 hfl C hmg hr hin htab _ a0 x1 x3 (0 : Int32) _ _ _ _ _ h hP hS (lv_sub hl [0, 1, 3] rfl) (show 0 + 0 + 0 ≤ 0 by omega) (show 0 + 0 + 0 ≤ 0 by omega)
            · replace h := h.2 c103
              refine lv_sipush (pc := 51) (v := 10000) hx hb d_Mo_install_51 (by decide) ?_
              refine lv_goto (pc := 54) (tgt := 58) hx hb d_Mo_install_54 (by decide) ?_
              exact wk_Mo_install_58 hfl C hmg hr hin htab _ a0 x1 x3 (10000 : Int32) _ _ _ _ _ h hP hS (lv_sub hl [0, 1, 3] rfl) (show 0 + 0 + 0 ≤ 0 by omega) (show 0 + 0 + 0 ≤ 0 by omega)
          · replace h := h.2 c104
            refine lv_sipush (pc := 40) (v := 1000) hx hb d_Mo_install_40 (by decide) ?_
            refine lv_goto (pc := 43) (tgt := 58) hx hb d_Mo_install_43 (by decide) ?_
            exact wk_Mo_install_58 hfl C hmg hr hin htab _ a0 x1 x3 (1000 : Int32) _ _ _ _ _ h hP hS (lv_sub hl [0, 1, 3] rfl) (show 0 + 0 + 0 ≤ 0 by omega) (show 0 + 0 + 0 ≤ 0 by omega)
        · replace h := h.2 c105
          refine lv_bipush (pc := 30) (v := 100) hx hb d_Mo_install_30 (by decide) ?_
          refine lv_goto (pc := 32) (tgt := 58) hx hb d_Mo_install_32 (by decide) ?_
          exact wk_Mo_install_58 hfl C hmg hr hin htab _ a0 x1 x3 (100 : Int32) _ _ _ _ _ h hP hS (lv_sub hl [0, 1, 3] rfl) (show 0 + 0 + 0 ≤ 0 by omega) (show 0 + 0 + 0 ≤ 0 by omega)
      · replace h := h.2 c106
        refine lv_bipush (pc := 20) (v := 10) hx hb d_Mo_install_20 (by decide) ?_
        refine lv_goto (pc := 22) (tgt := 58) hx hb d_Mo_install_22 (by decide) ?_
        exact wk_Mo_install_58 hfl C hmg hr hin htab _ a0 x1 x3 (10 : Int32) _ _ _ _ _ h hP hS (lv_sub hl [0, 1, 3] rfl) (show 0 + 0 + 0 ≤ 0 by omega) (show 0 + 0 + 0 ≤ 0 by omega)
    · replace h := h.2 c107
      refine lv_aload_n (pc := 8) hx hb d_Mo_install_8 rfl (lv_at hl 0 rfl) ?_
      refine lv_iconst (pc := 9) (v := 1) hx hb d_Mo_install_9 (by decide) ?_
      refine pq_puti (pc := 10) (f := 480) hx hb hT hK hP hS L81_12 hk101 rfl rfl rfl rfl d_Mo_install_10 (fun H locs hP hS => ?_)
      have hk101 : p_k (s_i P 480 a0 (1 : Int32)) a0 = 13 := by rw [pk_i]; exact hk101
      refine lv_iconst (pc := 13) (v := 0) hx hb d_Mo_install_13 (by decide) ?_
      exact we_i (pc := 14) hx hb hlocks hr hP hS (show 0 + 0 + 0 ≤ 0 by omega) (show 0 + 0 + 0 ≤ 0 by omega) h d_Mo_install_14
  · exact cq_out hlocks (pq_nil htab rfl) (show 0 + 0 + 0 ≤ 0 by omega) (show 0 + 0 + 0 ≤ 0 by omega) hX hex hP hS h
/-! WaterWorksModel.read(II)I -/
abbrev y_Mo_read : MethodName := ⟨"WaterWorksModel", "read", "(II)I"⟩
abbrev rm_Mo_read : Room := { frames := 2, cells := 0, slots := 0, locals := 65 }
theorem h_Mo_read : y_Mo_read.cls ≠ "java/lang/invoke/MethodHandle" ∧ y_Mo_read.cls ≠ "java/lang/invoke/VarHandle" := by decide +kernel
theorem n_Mo_read : (parseMethodDescriptor y_Mo_read.desc).map (fun d => d.parameters.length) = some 2 := by decide +kernel
theorem d_Mo_read_0 : decode prog_15_method_26_code 0 = .ok (.aload_n 0, 1) := by decide +kernel
theorem d_Mo_read_1 : decode prog_15_method_26_code 1 = .ok (.iload_n 1, 1) := by decide +kernel
theorem d_Mo_read_2 : decode prog_15_method_26_code 2 = .ok (.invokevirtual 108, 3) := by decide +kernel
theorem d_Mo_read_5 : decode prog_15_method_26_code 5 = .ok (.ifCond .eq 10, 3) := by decide +kernel
theorem d_Mo_read_8 : decode prog_15_method_26_code 8 = .ok (.aload_n 0, 1) := by decide +kernel
theorem d_Mo_read_9 : decode prog_15_method_26_code 9 = .ok (.iconst 1, 1) := by decide +kernel
theorem d_Mo_read_10 : decode prog_15_method_26_code 10 = .ok (.putfield 81, 3) := by decide +kernel
theorem d_Mo_read_13 : decode prog_15_method_26_code 13 = .ok (.iconst 0, 1) := by decide +kernel
theorem d_Mo_read_14 : decode prog_15_method_26_code 14 = .ok (.ireturn, 1) := by decide +kernel
theorem d_Mo_read_15 : decode prog_15_method_26_code 15 = .ok (.aload_n 0, 1) := by decide +kernel
theorem d_Mo_read_16 : decode prog_15_method_26_code 16 = .ok (.getfield 44, 3) := by decide +kernel
theorem d_Mo_read_19 : decode prog_15_method_26_code 19 = .ok (.iload_n 1, 1) := by decide +kernel
theorem d_Mo_read_20 : decode prog_15_method_26_code 20 = .ok (.iaload, 1) := by decide +kernel
theorem d_Mo_read_21 : decode prog_15_method_26_code 21 = .ok (.istore_n 3, 1) := by decide +kernel
theorem d_Mo_read_22 : decode prog_15_method_26_code 22 = .ok (.bipush 24, 2) := by decide +kernel
theorem d_Mo_read_24 : decode prog_15_method_26_code 24 = .ok (.iload_n 1, 1) := by decide +kernel
theorem d_Mo_read_25 : decode prog_15_method_26_code 25 = .ok (.imul, 1) := by decide +kernel
theorem d_Mo_read_26 : decode prog_15_method_26_code 26 = .ok (.iload_n 3, 1) := by decide +kernel
theorem d_Mo_read_27 : decode prog_15_method_26_code 27 = .ok (.iadd, 1) := by decide +kernel
theorem d_Mo_read_28 : decode prog_15_method_26_code 28 = .ok (.iconst 1, 1) := by decide +kernel
theorem d_Mo_read_29 : decode prog_15_method_26_code 29 = .ok (.isub, 1) := by decide +kernel
theorem d_Mo_read_30 : decode prog_15_method_26_code 30 = .ok (.istore 4, 2) := by decide +kernel
theorem d_Mo_read_32 : decode prog_15_method_26_code 32 = .ok (.aload_n 0, 1) := by decide +kernel
theorem d_Mo_read_33 : decode prog_15_method_26_code 33 = .ok (.iload_n 3, 1) := by decide +kernel
theorem d_Mo_read_34 : decode prog_15_method_26_code 34 = .ok (.ifCond .eq 23, 3) := by decide +kernel
theorem d_Mo_read_37 : decode prog_15_method_26_code 37 = .ok (.iload_n 3, 1) := by decide +kernel
theorem d_Mo_read_38 : decode prog_15_method_26_code 38 = .ok (.bipush 24, 2) := by decide +kernel
theorem d_Mo_read_40 : decode prog_15_method_26_code 40 = .ok (.if_icmp .eq 17, 3) := by decide +kernel
theorem d_Mo_read_43 : decode prog_15_method_26_code 43 = .ok (.aload_n 0, 1) := by decide +kernel
theorem d_Mo_read_44 : decode prog_15_method_26_code 44 = .ok (.getfield 47, 3) := by decide +kernel
theorem d_Mo_read_47 : decode prog_15_method_26_code 47 = .ok (.iload 4, 2) := by decide +kernel
theorem d_Mo_read_49 : decode prog_15_method_26_code 49 = .ok (.iaload, 1) := by decide +kernel
theorem d_Mo_read_50 : decode prog_15_method_26_code 50 = .ok (.aload_n 0, 1) := by decide +kernel
theorem d_Mo_read_51 : decode prog_15_method_26_code 51 = .ok (.getfield 125, 3) := by decide +kernel
theorem d_Mo_read_54 : decode prog_15_method_26_code 54 = .ok (.if_icmp .ne 7, 3) := by decide +kernel
theorem d_Mo_read_57 : decode prog_15_method_26_code 57 = .ok (.iconst 2, 1) := by decide +kernel
theorem d_Mo_read_58 : decode prog_15_method_26_code 58 = .ok (.goto 23, 3) := by decide +kernel
theorem d_Mo_read_61 : decode prog_15_method_26_code 61 = .ok (.iload_n 2, 1) := by decide +kernel
theorem d_Mo_read_62 : decode prog_15_method_26_code 62 = .ok (.ifCond .lt 14, 3) := by decide +kernel
theorem d_Mo_read_65 : decode prog_15_method_26_code 65 = .ok (.iload_n 2, 1) := by decide +kernel
theorem d_Mo_read_66 : decode prog_15_method_26_code 66 = .ok (.aload_n 0, 1) := by decide +kernel
theorem d_Mo_read_67 : decode prog_15_method_26_code 67 = .ok (.getfield 53, 3) := by decide +kernel
theorem d_Mo_read_70 : decode prog_15_method_26_code 70 = .ok (.iload 4, 2) := by decide +kernel
theorem d_Mo_read_72 : decode prog_15_method_26_code 72 = .ok (.iaload, 1) := by decide +kernel
theorem d_Mo_read_73 : decode prog_15_method_26_code 73 = .ok (.if_icmp .lt 7, 3) := by decide +kernel
theorem d_Mo_read_76 : decode prog_15_method_26_code 76 = .ok (.iconst 3, 1) := by decide +kernel
theorem d_Mo_read_77 : decode prog_15_method_26_code 77 = .ok (.goto 4, 3) := by decide +kernel
theorem d_Mo_read_80 : decode prog_15_method_26_code 80 = .ok (.iconst 0, 1) := by decide +kernel
theorem d_Mo_read_81 : decode prog_15_method_26_code 81 = .ok (.putfield 81, 3) := by decide +kernel
theorem d_Mo_read_84 : decode prog_15_method_26_code 84 = .ok (.aload_n 0, 1) := by decide +kernel
theorem d_Mo_read_85 : decode prog_15_method_26_code 85 = .ok (.getfield 81, 3) := by decide +kernel
theorem d_Mo_read_88 : decode prog_15_method_26_code 88 = .ok (.ifCond .le 7, 3) := by decide +kernel
theorem d_Mo_read_91 : decode prog_15_method_26_code 91 = .ok (.iconst 0, 1) := by decide +kernel
theorem d_Mo_read_92 : decode prog_15_method_26_code 92 = .ok (.goto 17, 3) := by decide +kernel
theorem d_Mo_read_95 : decode prog_15_method_26_code 95 = .ok (.aload_n 0, 1) := by decide +kernel
theorem d_Mo_read_96 : decode prog_15_method_26_code 96 = .ok (.iload_n 1, 1) := by decide +kernel
theorem d_Mo_read_97 : decode prog_15_method_26_code 97 = .ok (.aload_n 0, 1) := by decide +kernel
theorem d_Mo_read_98 : decode prog_15_method_26_code 98 = .ok (.getfield 53, 3) := by decide +kernel
theorem d_Mo_read_101 : decode prog_15_method_26_code 101 = .ok (.iload 4, 2) := by decide +kernel
theorem d_Mo_read_103 : decode prog_15_method_26_code 103 = .ok (.iaload, 1) := by decide +kernel
theorem d_Mo_read_104 : decode prog_15_method_26_code 104 = .ok (.iload_n 2, 1) := by decide +kernel
theorem d_Mo_read_105 : decode prog_15_method_26_code 105 = .ok (.iconst 0, 1) := by decide +kernel
theorem d_Mo_read_106 : decode prog_15_method_26_code 106 = .ok (.invokevirtual 128, 3) := by decide +kernel
theorem d_Mo_read_109 : decode prog_15_method_26_code 109 = .ok (.ireturn, 1) := by decide +kernel
def wb_Mo_read_81 (po : Option Value → Pic → Prop) (th : String → Pic → Prop) (P : Pic) (a0 : Nat) (x1 : Int32) (x2 : Int32) (x4 : Int32) (t0 : Int32) (t1 : Nat) : Prop := p_k P t1 = 13 ∧ p_k (s_i P 480 t1 t0) a0 = 13 ∧ (((p_i (s_i P 480 t1 t0) 480 a0) ≤ 0 → (∃ a122, p_r (s_i P 480 t1 t0) 499 a0 = some a122 ∧ p_k (s_i P 480 t1 t0) a122 = 101 ∧ vp_in x4 (p_n (s_i P 480 t1 t0) a122) ∧ wp_Mo_note (cp_i fun x125 P126 => po (some (.int x125)) P126) th (s_i P 480 t1 t0) a0 x1 (p_ai (s_i P 480 t1 t0) a122 (Int32.toNatClampNeg x4)) x2 (0 : Int32))) ∧ (¬ (p_i (s_i P 480 t1 t0) 480 a0) ≤ 0 → (po (some (.int (0 : Int32))) (s_i P 480 t1 t0))))
def wb_Mo_read_57 (po : Option Value → Pic → Prop) (th : String → Pic → Prop) (P : Pic) (a0 : Nat) (x1 : Int32) (x2 : Int32) (x4 : Int32) (t0 : Nat) : Prop := wb_Mo_read_81 po th P a0 x1 x2 x4 (2 : Int32) t0
def wb_Mo_read_76 (po : Option Value → Pic → Prop) (th : String → Pic → Prop) (P : Pic) (a0 : Nat) (x1 : Int32) (x2 : Int32) (x4 : Int32) (t0 : Nat) : Prop := wb_Mo_read_81 po th P a0 x1 x2 x4 (3 : Int32) t0
def wp_Mo_read (po : Option Value → Pic → Prop) (th : String → Pic → Prop) (P : Pic) (a0 : Nat) (x1 : Int32) (x2 : Int32) : Prop := p_k P a0 = 13 ∧ wp_Mo_noCustomer (cp_i fun x102 _ => ((x102 = 0 → (∃ a103, p_r P 496 a0 = some a103 ∧ p_k P a103 = 101 ∧ vp_in x1 (p_n P a103) ∧ ∀ (x106 : Int32), x106 = (p_ai P a103 (Int32.toNatClampNeg x1)) → ∀ (x107 : Int32), x107 = ((((24 : Int32) * x1) + x106) - (1 : Int32)) → ((x106 = 0 → (wb_Mo_read_57 po th P a0 x1 x2 x107 a0)) ∧ (¬ x106 = 0 → (((x106 = (24 : Int32) → (wb_Mo_read_57 po th P a0 x1 x2 x107 a0)) ∧ (¬ x106 = (24 : Int32) → (∃ a108, p_r P 497 a0 = some a108 ∧ p_k P a108 = 101 ∧ vp_in x107 (p_n P a108) ∧ ((¬ (p_ai P a108 (Int32.toNatClampNeg x107)) = (p_i P 495 a0) → (((x2 < 0 → (wb_Mo_read_76 po th P a0 x1 x2 x107 a0)) ∧ (¬ x2 < 0 → (∃ a111, p_r P 499 a0 = some a111 ∧ p_k P a111 = 101 ∧ vp_in x107 (p_n P a111) ∧ ((x2 < (p_ai P a111 (Int32.toNatClampNeg x107)) → (wb_Mo_read_81 po th P a0 x1 x2 x107 (0 : Int32) a0)) ∧ (¬ x2 < (p_ai P a111 (Int32.toNatClampNeg x107)) → (wb_Mo_read_76 po th P a0 x1 x2 x107 a0)))))))) ∧ ((p_ai P a108 (Int32.toNatClampNeg x107)) = (p_i P 495 a0) → (wb_Mo_read_57 po th P a0 x1 x2 x107 a0))))))))))) ∧ (¬ x102 = 0 → (po (some (.int (0 : Int32))) (s_i P 480 a0 (1 : Int32)))))) th P a0 x1
set_option maxHeartbeats 4000000 in
set_option maxRecDepth 100000 in
theorem wk_Mo_read_81 {p : Program} {l : Launch} {e : Env} {s : State} {m : MethodId} {args : Array Value} {below : List Frame} {meth : Method} {c : Code} {D : pq_D} {P0 : Pic} {po : Option Value → Pic → Prop} {th : String → Pic → Prop} (hfl : l.flags = flags0) (C : Cx p e s m args meth c prog_15_method_26_code 5 "WaterWorksModel" D P0) (hmg : e.platform.magicAccessors = ({} : Platform).magicAccessors) (hr : meth.sig.returnType = (some .int)) (hin : meth.name = "read") (htab : c.exceptionTable.toList = tableOf []) : ∀ (P : Pic) (a0 : Nat) (x1 : Int32) (x2 : Int32) (x4 : Int32) (t0 : Int32) (t1 : Nat) (H : Heap) (locs : List Loc) (cells slots : Nat) (ls : Array Slot), wb_Mo_read_81 po th P a0 x1 x2 x4 t0 t1 → Pi D P H → Sg (cq_A P0 s) s.heap H P locs → lv_has ls 5 [(0, .ref a0), (1, .int x1), (2, .int x2), (4, .int x4)] → cells + 0 ≤ 0 → slots + 0 ≤ 0 → W p l e rm_Mo_read s m args below meth c H locs cells slots (mt_MQ below (cq_Q D P0 false po th) args s 0 0 (cq_free P0 false)) (F0 m 81 ls [.int t0, .ref t1]) := by
  intro P a0 x1 x2 x4 t0 t1 H locs cells slots ls h hP hS hl hcc hss
  obtain ⟨hx, hb, hml, hown, hlocks, htr, hT, hK, hSt, hN, hP0⟩ := id C
  have L125_12 : pq_fl s m args 125 12 15 := ⟨_, "WaterWorksModel", "WaterWorksModel", rfl, by decide, hown, Or.inl (hT _ k_1119 _), (fun _ z => z)⟩
  have L44_12 : pq_fl s m args 44 12 16 := ⟨_, "WaterWorksModel", "WaterWorksModel", rfl, by decide, hown, Or.inl (hT _ k_1120 _), (fun _ z => z)⟩
  have L47_12 : pq_fl s m args 47 12 17 := ⟨_, "WaterWorksModel", "WaterWorksModel", rfl, by decide, hown, Or.inl (hT _ k_1121 _), (fun _ z => z)⟩
  have L53_12 : pq_fl s m args 53 12 19 := ⟨_, "WaterWorksModel", "WaterWorksModel", rfl, by decide, hown, Or.inl (hT _ k_1123 _), (fun _ z => z)⟩
  have L81_12 : pq_fl s m args 81 12 0 := ⟨_, "WaterWorksModel", "WaterWorksModel", rfl, by decide, hown, Or.inl (hT _ k_1104 _), (fun _ z => z)⟩
  unfold wb_Mo_read_81 at h
  obtain ⟨hk120, h⟩ := h
  refine pq_puti (pc := 81) (f := 480) hx hb hT hK hP hS L81_12 hk120 rfl rfl rfl rfl d_Mo_read_81 (fun H locs hP hS => ?_)
  have hk120 : p_k (s_i P 480 t1 t0) t1 = 13 := by rw [pk_i]; exact hk120
  refine lv_aload_n (pc := 84) hx hb d_Mo_read_84 rfl (lv_at hl 0 rfl) ?_
  obtain ⟨hk121, h⟩ := h
  refine pq_geti (pc := 85) (f := 480) hx hb hT hK hP L81_12 hk121 rfl d_Mo_read_85 ?_
  refine lv_if_le (pc := 88) (tgt := 95) hx hb d_Mo_read_88 (by decide) (fun c127 => ?_) (fun c127 => ?_)
  · replace h := h.1 c127
    refine lv_aload_n (pc := 95) hx hb d_Mo_read_95 rfl (lv_at hl 0 rfl) ?_
    refine lv_iload_n (pc := 96) hx hb d_Mo_read_96 rfl (lv_at hl 1 rfl) ?_
    refine lv_aload_n (pc := 97) hx hb d_Mo_read_97 rfl (lv_at hl 0 rfl) ?_
    obtain ⟨a122, ea122, h⟩ := h
    refine pq_geta (pc := 98) (f := 499) hx hb hT hK hP L53_12 hk121 rfl ea122 d_Mo_read_98 ?_
    refine lv_iload (pc := 101) hx hb d_Mo_read_101 (lv_at hl 3 rfl) ?_
    obtain ⟨hk123, h⟩ := h
    obtain ⟨hi124, h⟩ := h
    refine pq_iald (pc := 103) hx hb hK hP hk123 hi124 d_Mo_read_103 ?_
    refine lv_iload_n (pc := 104) hx hb d_Mo_read_104 rfl (lv_at hl 2 rfl) ?_
    refine lv_iconst (pc := 105) (v := 0) hx hb d_Mo_read_105 (by decide) ?_
    refine cc_i (pc := 106) C (rest := []) (mt_invV (As := [.int x1, .int (p_ai (s_i P 480 t1 t0) a122 (Int32.toNatClampNeg x4)), .int x2, .int (0 : Int32)]) hx hb hown (hT _ k_1287 _) (hT _ k_1289 _) (hT _ ks_26 _) (mt_Cd.code (hT _ k_1290 #[])) h_Mo_note (pq_recv hK hP hk121 rfl) n_Mo_note rfl d_Mo_read_106) (ct_Mo_note hfl D h) k_1290 k_24 ⟨Nat.le_of_ble_eq_true rfl, Nat.le_of_ble_eq_true rfl⟩ ⟨(show cells + 0 ≤ 0 by omega), (show slots + 0 ≤ 0 by omega)⟩ hl.1 d_Mo_read_106 (Nat.le_of_ble_eq_true rfl) hP hS (fun x125 P126 H locs h hP hS => ?_) (fun xx X P126 H locs h hX hex hP hS => ?_)
    · exact we_i (pc := 109) hx hb hlocks hr hP hS (show cells + 0 + 0 ≤ 0 by omega) (show slots + 0 + 0 ≤ 0 by omega) h d_Mo_read_109
    · exact cq_out hlocks (pq_nil htab rfl) (show cells + 0 + 0 ≤ 0 by omega) (show slots + 0 + 0 ≤ 0 by omega) hX hex hP hS h
  · replace h := h.2 c127
    refine lv_iconst (pc := 91) (v := 0) hx hb d_Mo_read_91 (by decide) ?_
    refine lv_goto (pc := 92) (tgt := 109) hx hb d_Mo_read_92 (by decide) ?_
    exact we_i (pc := 109) hx hb hlocks hr hP hS (show cells + 0 ≤ 0 by omega) (show slots + 0 ≤ 0 by omega) h d_Mo_read_109
set_option maxHeartbeats 4000000 in
set_option maxRecDepth 100000 in
theorem wk_Mo_read_57 {p : Program} {l : Launch} {e : Env} {s : State} {m : MethodId} {args : Array Value} {below : List Frame} {meth : Method} {c : Code} {D : pq_D} {P0 : Pic} {po : Option Value → Pic → Prop} {th : String → Pic → Prop} (hfl : l.flags = flags0) (C : Cx p e s m args meth c prog_15_method_26_code 5 "WaterWorksModel" D P0) (hmg : e.platform.magicAccessors = ({} : Platform).magicAccessors) (hr : meth.sig.returnType = (some .int)) (hin : meth.name = "read") (htab : c.exceptionTable.toList = tableOf []) : ∀ (P : Pic) (a0 : Nat) (x1 : Int32) (x2 : Int32) (x4 : Int32) (t0 : Nat) (H : Heap) (locs : List Loc) (cells slots : Nat) (ls : Array Slot), wb_Mo_read_57 po th P a0 x1 x2 x4 t0 → Pi D P H → Sg (cq_A P0 s) s.heap H P locs → lv_has ls 5 [(0, .ref a0), (1, .int x1), (2, .int x2), (4, .int x4)] → cells + 0 ≤ 0 → slots + 0 ≤ 0 → W p l e rm_Mo_read s m args below meth c H locs cells slots (mt_MQ below (cq_Q D P0 false po th) args s 0 0 (cq_free P0 false)) (F0 m 57 ls [.ref t0]) := by
  intro P a0 x1 x2 x4 t0 H locs cells slots ls h hP hS hl hcc hss
  obtain ⟨hx, hb, hml, hown, hlocks, htr, hT, hK, hSt, hN, hP0⟩ := id C
  have L125_12 : pq_fl s m args 125 12 15 := ⟨_, "WaterWorksModel", "WaterWorksModel", rfl, by decide, hown, Or.inl (hT _ k_1119 _), (fun _ z => z)⟩
  have L44_12 : pq_fl s m args 44 12 16 := ⟨_, "WaterWorksModel", "WaterWorksModel", rfl, by decide, hown, Or.inl (hT _ k_1120 _), (fun _ z => z)⟩
  have L47_12 : pq_fl s m args 47 12 17 := ⟨_, "WaterWorksModel", "WaterWorksModel", rfl, by decide, hown, Or.inl (hT _ k_1121 _), (fun _ z => z)⟩
  have L53_12 : pq_fl s m args 53 12 19 := ⟨_, "WaterWorksModel", "WaterWorksModel", rfl, by decide, hown, Or.inl (hT _ k_1123 _), (fun _ z => z)⟩
  have L81_12 : pq_fl s m args 81 12 0 := ⟨_, "WaterWorksModel", "WaterWorksModel", rfl, by decide, hown, Or.inl (hT _ k_1104 _), (fun _ z => z)⟩
  unfold wb_Mo_read_57 at h
  refine lv_iconst (pc := 57) (v := 2) hx hb d_Mo_read_57 (by decide) ?_
  refine lv_goto (pc := 58) (tgt := 81) hx hb d_Mo_read_58 (by decide) ?_
  exact wk_Mo_read_81 hfl C hmg hr hin htab _ a0 x1 x2 x4 (2 : Int32) t0 _ _ _ _ _ h hP hS (lv_sub hl [0, 1, 2, 3] rfl) (show cells + 0 ≤ 0 by omega) (show slots + 0 ≤ 0 by omega)
set_option maxHeartbeats 4000000 in
set_option maxRecDepth 100000 in
theorem wk_Mo_read_76 {p : Program} {l : Launch} {e : Env} {s : State} {m : MethodId} {args : Array Value} {below : List Frame} {meth : Method} {c : Code} {D : pq_D} {P0 : Pic} {po : Option Value → Pic → Prop} {th : String → Pic → Prop} (hfl : l.flags = flags0) (C : Cx p e s m args meth c prog_15_method_26_code 5 "WaterWorksModel" D P0) (hmg : e.platform.magicAccessors = ({} : Platform).magicAccessors) (hr : meth.sig.returnType = (some .int)) (hin : meth.name = "read") (htab : c.exceptionTable.toList = tableOf []) : ∀ (P : Pic) (a0 : Nat) (x1 : Int32) (x2 : Int32) (x4 : Int32) (t0 : Nat) (H : Heap) (locs : List Loc) (cells slots : Nat) (ls : Array Slot), wb_Mo_read_76 po th P a0 x1 x2 x4 t0 → Pi D P H → Sg (cq_A P0 s) s.heap H P locs → lv_has ls 5 [(0, .ref a0), (1, .int x1), (2, .int x2), (4, .int x4)] → cells + 0 ≤ 0 → slots + 0 ≤ 0 → W p l e rm_Mo_read s m args below meth c H locs cells slots (mt_MQ below (cq_Q D P0 false po th) args s 0 0 (cq_free P0 false)) (F0 m 76 ls [.ref t0]) := by
  intro P a0 x1 x2 x4 t0 H locs cells slots ls h hP hS hl hcc hss
  obtain ⟨hx, hb, hml, hown, hlocks, htr, hT, hK, hSt, hN, hP0⟩ := id C
  have L125_12 : pq_fl s m args 125 12 15 := ⟨_, "WaterWorksModel", "WaterWorksModel", rfl, by decide, hown, Or.inl (hT _ k_1119 _), (fun _ z => z)⟩
  have L44_12 : pq_fl s m args 44 12 16 := ⟨_, "WaterWorksModel", "WaterWorksModel", rfl, by decide, hown, Or.inl (hT _ k_1120 _), (fun _ z => z)⟩
  have L47_12 : pq_fl s m args 47 12 17 := ⟨_, "WaterWorksModel", "WaterWorksModel", rfl, by decide, hown, Or.inl (hT _ k_1121 _), (fun _ z => z)⟩
  have L53_12 : pq_fl s m args 53 12 19 := ⟨_, "WaterWorksModel", "WaterWorksModel", rfl, by decide, hown, Or.inl (hT _ k_1123 _), (fun _ z => z)⟩
  have L81_12 : pq_fl s m args 81 12 0 := ⟨_, "WaterWorksModel", "WaterWorksModel", rfl, by decide, hown, Or.inl (hT _ k_1104 _), (fun _ z => z)⟩
  unfold wb_Mo_read_76 at h
  refine lv_iconst (pc := 76) (v := 3) hx hb d_Mo_read_76 (by decide) ?_
  refine lv_goto (pc := 77) (tgt := 81) hx hb d_Mo_read_77 (by decide) ?_
  exact wk_Mo_read_81 hfl C hmg hr hin htab _ a0 x1 x2 x4 (3 : Int32) t0 _ _ _ _ _ h hP hS (lv_sub hl [0, 1, 2, 3] rfl) (show cells + 0 ≤ 0 by omega) (show slots + 0 ≤ 0 by omega)
set_option maxHeartbeats 4000000 in
set_option maxRecDepth 100000 in
theorem ct_Mo_read {l : Launch} (hfl : l.flags = flags0) (D : pq_D) {po : Option Value → Pic → Prop} {th : String → Pic → Prop} {P : Pic} {a0 : Nat} {x1 : Int32} {x2 : Int32} (h : wp_Mo_read po th P a0 x1 x2) : CT l D y_Mo_read (.code y_Mo_read prog_15_method_26_code 5 (some .int)) rm_Mo_read false [.ref a0, .int x1, .int x2] P po th := by
  refine ct_of (hs := []) hfl (by decide +kernel) (Or.inl ⟨rfl, rfl⟩) (Nat.le_of_ble_eq_true rfl) ?_
  intro p e s m below meth c C hmg hr hin htab ls hl
  have hl : lv_has ls 5 [(0, .ref a0), (1, .int x1), (2, .int x2)] := hl
  generalize hargs : ([.ref a0, .int x1, .int x2] : List Value).toArray = args at C ⊢
  obtain ⟨hx, hb, hml, hown, hlocks, htr, hT, hK, hSt, hN, hP0⟩ := id C
  have L125_12 : pq_fl s m args 125 12 15 := ⟨_, "WaterWorksModel", "WaterWorksModel", rfl, by decide, hown, Or.inl (hT _ k_1119 _), (fun _ z => z)⟩
  have L44_12 : pq_fl s m args 44 12 16 := ⟨_, "WaterWorksModel", "WaterWorksModel", rfl, by decide, hown, Or.inl (hT _ k_1120 _), (fun _ z => z)⟩
  have L47_12 : pq_fl s m args 47 12 17 := ⟨_, "WaterWorksModel", "WaterWorksModel", rfl, by decide, hown, Or.inl (hT _ k_1121 _), (fun _ z => z)⟩
  have L53_12 : pq_fl s m args 53 12 19 := ⟨_, "WaterWorksModel", "WaterWorksModel", rfl, by decide, hown, Or.inl (hT _ k_1123 _), (fun _ z => z)⟩
  have L81_12 : pq_fl s m args 81 12 0 := ⟨_, "WaterWorksModel", "WaterWorksModel", rfl, by decide, hown, Or.inl (hT _ k_1104 _), (fun _ z => z)⟩
  have hP : Pi D P s.heap := hP0
  have hS : Sg (cq_A P s) s.heap s.heap P [] := Sg.start hP0
  unfold wp_Mo_read at h
  refine lv_aload_n (pc := 0) hx hb d_Mo_read_0 rfl (lv_at hl 0 rfl) ?_
  refine lv_iload_n (pc := 1) hx hb d_Mo_read_1 rfl (lv_at hl 1 rfl) ?_
  obtain ⟨hk101, h⟩ := h
  refine cr_i (pc := 2) C (rest := []) (mt_invV (As := [.int x1]) hx hb hown (hT _ k_1239 _) (hT _ k_1241 _) (hT _ ks_20 _) (mt_Cd.code (hT _ k_1242 #[])) h_Mo_noCustomer (pq_recv hK hP hk101 rfl) n_Mo_noCustomer rfl d_Mo_read_2) (ct_Mo_noCustomer hfl D h) k_1242 k_24 ⟨Nat.le_of_ble_eq_true rfl, Nat.le_of_ble_eq_true rfl⟩ ⟨(show 0 + 0 ≤ 0 by omega), (show 0 + 0 ≤ 0 by omega)⟩ hl.1 d_Mo_read_2 (Nat.le_of_ble_eq_true rfl) hP hS (fun x102 H locs h hP hS => ?_) (fun xx X H locs h hX hex hP hS => ?_)
  · refine lv_if_eq (pc := 5) (tgt := 15) hx hb d_Mo_read_5 (by decide) (fun c119 => ?_) (fun c119 => ?_)
    · replace h := h.1 c119
      refine lv_aload_n (pc := 15) hx hb d_Mo_read_15 rfl (lv_at hl 0 rfl) ?_
      obtain ⟨a103, ea103, h⟩ := h
      refine pq_geta (pc := 16) (f := 496) hx hb hT hK hP L44_12 hk101 rfl ea103 d_Mo_read_16 ?_
      refine lv_iload_n (pc := 19) hx hb d_Mo_read_19 rfl (lv_at hl 1 rfl) ?_
      obtain ⟨hk104, h⟩ := h
      obtain ⟨hi105, h⟩ := h
      refine pq_iald (pc := 20) hx hb hK hP hk104 hi105 d_Mo_read_20 ?_
      refine lv_topi (fun x106 ex106 => ?_)
      replace h := h x106 ex106
      refine lv_istore_n (pc := 21) (lv' := [(3, .int x106), (0, .ref a0), (1, .int x1), (2, .int x2)]) hx hb d_Mo_read_21 rfl hl (by decide) rfl (fun ls hl => ?_)
      refine lv_bipush (pc := 22) (v := 24) hx hb d_Mo_read_22 (by decide) ?_
      refine lv_iload_n (pc := 24) hx hb d_Mo_read_24 rfl (lv_at hl 2 rfl) ?_
      refine lv_imul (pc := 25) hx hb d_Mo_read_25 ?_
      refine lv_iload_n (pc := 26) hx hb d_Mo_read_26 rfl (lv_at hl 0 rfl) ?_
      refine lv_iadd (pc := 27) hx hb d_Mo_read_27 ?_
      refine lv_iconst (pc := 28) (v := 1) hx hb d_Mo_read_28 (by decide) ?_
      refine lv_isub (pc := 29) hx hb d_Mo_read_29 ?_
      refine lv_topi (fun x107 ex107 => ?_)
      replace h := h x107 ex107
      refine lv_istore (pc := 30) (lv' := [(4, .int x107), (3, .int x106), (0, .ref a0), (1, .int x1), (2, .int x2)]) hx hb d_Mo_read_30 hl (by decide) rfl (fun ls hl => ?_)
      refine lv_aload_n (pc := 32) hx hb d_Mo_read_32 rfl (lv_at hl 2 rfl) ?_
      refine lv_iload_n (pc := 33) hx hb d_Mo_read_33 rfl (lv_at hl 1 rfl) ?_
      refine lv_if_eq (pc := 34) (tgt := 57) hx hb d_Mo_read_34 (by decide) (fun c118 => ?_) (fun c118 => ?_)
      · replace h := h.1 c118
        exact wk_Mo_read_57 hfl C hmg hr hin htab _ a0 x1 x2 x107 a0 _ _ _ _ _ h hP hS (lv_sub hl [2, 3, 4, 0] rfl) (show 0 + 0 + 0 ≤ 0 by omega) (show 0 + 0 + 0 ≤ 0 by omega)
      · replace h := h.2 c118
        refine lv_iload_n (pc := 37) hx hb d_Mo_read_37 rfl (lv_at hl 1 rfl) ?_
        refine lv_bipush (pc := 38) (v := 24) hx hb d_Mo_read_38 (by decide) ?_
        refine lv_icmp_eq (pc := 40) (tgt := 57) hx hb d_Mo_read_40 (by decide) (fun c117 => ?_) (fun c117 => ?_)
        · replace h := h.1 c117
          exact wk_Mo_read_57 hfl C hmg hr hin htab _ a0 x1 x2 x107 a0 _ _ _ _ _ h hP hS (lv_sub hl [2, 3, 4, 0] rfl) (show 0 + 0 + 0 ≤ 0 by omega) (show 0 + 0 + 0 ≤ 0 by omega)
        · replace h := h.2 c117
          refine lv_aload_n (pc := 43) hx hb d_Mo_read_43 rfl (lv_at hl 2 rfl) ?_
          obtain ⟨a108, ea108, h⟩ := h
          refine pq_geta (pc := 44) (f := 497) hx hb hT hK hP L47_12 hk101 rfl ea108 d_Mo_read_44 ?_
          refine lv_iload (pc := 47) hx hb d_Mo_read_47 (lv_at hl 0 rfl) ?_
          obtain ⟨hk109, h⟩ := h
          obtain ⟨hi110, h⟩ := h
          refine pq_iald (pc := 49) hx hb hK hP hk109 hi110 d_Mo_read_49 ?_
          refine lv_aload_n (pc := 50) hx hb d_Mo_read_50 rfl (lv_at hl 2 rfl) ?_
          refine pq_geti (pc := 51) (f := 495) hx hb hT hK hP L125_12 hk101 rfl d_Mo_read_51 ?_
          refine lv_icmp_ne (pc := 54) (tgt := 61) hx hb d_Mo_read_54 (by decide) (fun c116 => ?_) (fun c116 => ?_)
          · replace h := h.1 c116
            refine lv_iload_n (pc := 61) hx hb d_Mo_read_61 rfl (lv_at hl 4 rfl) ?_
            refine lv_if_lt (pc := 62) (tgt := 76) hx hb d_Mo_read_62 (by decide) (fun c115 => ?_) (fun c115 => ?_)
            · replace h := h.1 c115
              exact wk_Mo_read_76 hfl C hmg hr hin htab _ a0 x1 x2 x107 a0 _ _ _ _ _ h hP hS (lv_sub hl [2, 3, 4, 0] rfl) (show 0 + 0 + 0 ≤ 0 by omega) (show 0 + 0 + 0 ≤ 0 by omega)
            · replace h := h.2 c115
              refine lv_iload_n (pc := 65) hx hb d_Mo_read_65 rfl (lv_at hl 4 rfl) ?_
              refine lv_aload_n (pc := 66) hx hb d_Mo_read_66 rfl (lv_at hl 2 rfl) ?_
              obtain ⟨a111, ea111, h⟩ := h
              refine pq_geta (pc := 67) (f := 499) hx hb hT hK hP L53_12 hk101 rfl ea111 d_Mo_read_67 ?_
              refine lv_iload (pc := 70) hx hb d_Mo_read_70 (lv_at hl 0 rfl) ?_
              obtain ⟨hk112, h⟩ := h
              obtain ⟨hi113, h⟩ := h
              refine pq_iald (pc := 72) hx hb hK hP hk112 hi113 d_Mo_read_72 ?_
              refine lv_icmp_lt (pc := 73) (tgt := 80) hx hb d_Mo_read_73 (by decide) (fun c114 => ?_) (fun c114 => ?_)
              · replace h := h.1 c114
                refine lv_iconst (pc := 80) (v := 0) hx hb d_Mo_read_80 (by decide) ?_
                exact wk_Mo_read_81 hfl C hmg hr hin htab _ a0 x1 x2 x107 (0 : Int32) a0 _ _ _ _ _ h hP hS (lv_sub hl [2, 3, 4, 0] rfl) (show 0 + 0 + 0 ≤ 0 by omega) (show 0 + 0 + 0 ≤ 0 by omega)
              · replace h := h.2 c114
                exact wk_Mo_read_76 hfl C hmg hr hin htab _ a0 x1 x2 x107 a0 _ _ _ _ _ h hP hS (lv_sub hl [2, 3, 4, 0] rfl) (show 0 + 0 + 0 ≤ 0 by omega) (show 0 + 0 + 0 ≤ 0 by omega)
          · replace h := h.2 c116
            exact wk_Mo_read_57 hfl C hmg hr hin htab _ a0 x1 x2 x107 a0 _ _ _ _ _ h hP hS (lv_sub hl [2, 3, 4, 0] rfl) (show 0 + 0 + 0 ≤ 0 by omega) (show 0 + 0 + 0 ≤ 0 by omega)
    · replace h := h.2 c119
      refine lv_aload_n (pc := 8) hx hb d_Mo_read_8 rfl (lv_at hl 0 rfl) ?_
      refine lv_iconst (pc := 9) (v := 1) hx hb d_Mo_read_9 (by decide) ?_
      refine pq_puti (pc := 10) (f := 480) hx hb hT hK hP hS L81_12 hk101 rfl rfl rfl rfl d_Mo_read_10 (fun H locs hP hS => ?_)
      have hk101 : p_k (s_i P 480 a0 (1 : Int32)) a0 = 13 := by rw [pk_i]; exact hk101
      refine lv_iconst (pc := 13) (v := 0) hx hb d_Mo_read_13 (by decide) ?_
      exact we_i (pc := 14) hx hb hlocks hr hP hS (show 0 + 0 + 0 ≤ 0 by omega) (show 0 + 0 + 0 ≤ 0 by omega) h d_Mo_read_14
  · exact cq_out hlocks (pq_nil htab rfl) (show 0 + 0 + 0 ≤ 0 by omega) (show 0 + 0 + 0 ≤ 0 by omega) hX hex hP hS h
/-! WaterWorksModel.amend(III)I -/
abbrev y_Mo_amend : MethodName := ⟨"WaterWorksModel", "amend", "(III)I"⟩
abbrev rm_Mo_amend : Room := { frames := 2, cells := 0, slots := 0, locals := 61 }
theorem h_Mo_amend : y_Mo_amend.cls ≠ "java/lang/invoke/MethodHandle" ∧ y_Mo_amend.cls ≠ "java/lang/invoke/VarHandle" := by decide +kernel
theorem n_Mo_amend : (parseMethodDescriptor y_Mo_amend.desc).map (fun d => d.parameters.length) = some 3 := by decide +kernel
theorem d_Mo_amend_0 : decode prog_15_method_27_code 0 = .ok (.aload_n 0, 1) := by decide +kernel
theorem d_Mo_amend_1 : decode prog_15_method_27_code 1 = .ok (.iload_n 1, 1) := by decide +kernel
theorem d_Mo_amend_2 : decode prog_15_method_27_code 2 = .ok (.invokevirtual 108, 3) := by decide +kernel
theorem d_Mo_amend_5 : decode prog_15_method_27_code 5 = .ok (.ifCond .ne 17, 3) := by decide +kernel
theorem d_Mo_amend_8 : decode prog_15_method_27_code 8 = .ok (.iload_n 2, 1) := by decide +kernel
theorem d_Mo_amend_9 : decode prog_15_method_27_code 9 = .ok (.ifCond .lt 13, 3) := by decide +kernel
theorem d_Mo_amend_12 : decode prog_15_method_27_code 12 = .ok (.iload_n 2, 1) := by decide +kernel
theorem d_Mo_amend_13 : decode prog_15_method_27_code 13 = .ok (.aload_n 0, 1) := by decide +kernel
theorem d_Mo_amend_14 : decode prog_15_method_27_code 14 = .ok (.getfield 44, 3) := by decide +kernel
theorem d_Mo_amend_17 : decode prog_15_method_27_code 17 = .ok (.iload_n 1, 1) := by decide +kernel
theorem d_Mo_amend_18 : decode prog_15_method_27_code 18 = .ok (.iaload, 1) := by decide +kernel
theorem d_Mo_amend_19 : decode prog_15_method_27_code 19 = .ok (.if_icmp .lt 7, 3) := by decide +kernel
theorem d_Mo_amend_22 : decode prog_15_method_27_code 22 = .ok (.iconst 1, 1) := by decide +kernel
theorem d_Mo_amend_23 : decode prog_15_method_27_code 23 = .ok (.goto 4, 3) := by decide +kernel
theorem d_Mo_amend_26 : decode prog_15_method_27_code 26 = .ok (.iconst 0, 1) := by decide +kernel
theorem d_Mo_amend_27 : decode prog_15_method_27_code 27 = .ok (.istore 4, 2) := by decide +kernel
theorem d_Mo_amend_29 : decode prog_15_method_27_code 29 = .ok (.iload 4, 2) := by decide +kernel
theorem d_Mo_amend_31 : decode prog_15_method_27_code 31 = .ok (.ifCond .eq 7, 3) := by decide +kernel
theorem d_Mo_amend_34 : decode prog_15_method_27_code 34 = .ok (.iconst 0, 1) := by decide +kernel
theorem d_Mo_amend_35 : decode prog_15_method_27_code 35 = .ok (.goto 9, 3) := by decide +kernel
theorem d_Mo_amend_38 : decode prog_15_method_27_code 38 = .ok (.bipush 24, 2) := by decide +kernel
theorem d_Mo_amend_40 : decode prog_15_method_27_code 40 = .ok (.iload_n 1, 1) := by decide +kernel
theorem d_Mo_amend_41 : decode prog_15_method_27_code 41 = .ok (.imul, 1) := by decide +kernel
theorem d_Mo_amend_42 : decode prog_15_method_27_code 42 = .ok (.iload_n 2, 1) := by decide +kernel
theorem d_Mo_amend_43 : decode prog_15_method_27_code 43 = .ok (.iadd, 1) := by decide +kernel
theorem d_Mo_amend_44 : decode prog_15_method_27_code 44 = .ok (.istore 5, 2) := by decide +kernel
theorem d_Mo_amend_46 : decode prog_15_method_27_code 46 = .ok (.aload_n 0, 1) := by decide +kernel
theorem d_Mo_amend_47 : decode prog_15_method_27_code 47 = .ok (.aload_n 0, 1) := by decide +kernel
theorem d_Mo_amend_48 : decode prog_15_method_27_code 48 = .ok (.iload_n 1, 1) := by decide +kernel
theorem d_Mo_amend_49 : decode prog_15_method_27_code 49 = .ok (.invokevirtual 108, 3) := by decide +kernel
theorem d_Mo_amend_52 : decode prog_15_method_27_code 52 = .ok (.ifCond .eq 7, 3) := by decide +kernel
theorem d_Mo_amend_55 : decode prog_15_method_27_code 55 = .ok (.iconst 1, 1) := by decide +kernel
theorem d_Mo_amend_56 : decode prog_15_method_27_code 56 = .ok (.goto 32, 3) := by decide +kernel
theorem d_Mo_amend_59 : decode prog_15_method_27_code 59 = .ok (.iload 4, 2) := by decide +kernel
theorem d_Mo_amend_61 : decode prog_15_method_27_code 61 = .ok (.ifCond .eq 7, 3) := by decide +kernel
theorem d_Mo_amend_64 : decode prog_15_method_27_code 64 = .ok (.iconst 2, 1) := by decide +kernel
theorem d_Mo_amend_65 : decode prog_15_method_27_code 65 = .ok (.goto 23, 3) := by decide +kernel
theorem d_Mo_amend_68 : decode prog_15_method_27_code 68 = .ok (.iload_n 3, 1) := by decide +kernel
theorem d_Mo_amend_69 : decode prog_15_method_27_code 69 = .ok (.ifCond .lt 14, 3) := by decide +kernel
theorem d_Mo_amend_72 : decode prog_15_method_27_code 72 = .ok (.iload_n 3, 1) := by decide +kernel
theorem d_Mo_amend_73 : decode prog_15_method_27_code 73 = .ok (.aload_n 0, 1) := by decide +kernel
theorem d_Mo_amend_74 : decode prog_15_method_27_code 74 = .ok (.getfield 53, 3) := by decide +kernel
theorem d_Mo_amend_77 : decode prog_15_method_27_code 77 = .ok (.iload 5, 2) := by decide +kernel
theorem d_Mo_amend_79 : decode prog_15_method_27_code 79 = .ok (.iaload, 1) := by decide +kernel
theorem d_Mo_amend_80 : decode prog_15_method_27_code 80 = .ok (.if_icmp .lt 7, 3) := by decide +kernel
theorem d_Mo_amend_83 : decode prog_15_method_27_code 83 = .ok (.iconst 3, 1) := by decide +kernel
theorem d_Mo_amend_84 : decode prog_15_method_27_code 84 = .ok (.goto 4, 3) := by decide +kernel
theorem d_Mo_amend_87 : decode prog_15_method_27_code 87 = .ok (.iconst 0, 1) := by decide +kernel
theorem d_Mo_amend_88 : decode prog_15_method_27_code 88 = .ok (.putfield 81, 3) := by decide +kernel
theorem d_Mo_amend_91 : decode prog_15_method_27_code 91 = .ok (.aload_n 0, 1) := by decide +kernel
theorem d_Mo_amend_92 : decode prog_15_method_27_code 92 = .ok (.getfield 81, 3) := by decide +kernel
theorem d_Mo_amend_95 : decode prog_15_method_27_code 95 = .ok (.ifCond .le 5, 3) := by decide +kernel
theorem d_Mo_amend_98 : decode prog_15_method_27_code 98 = .ok (.iconst 0, 1) := by decide +kernel
theorem d_Mo_amend_99 : decode prog_15_method_27_code 99 = .ok (.ireturn, 1) := by decide +kernel
theorem d_Mo_amend_100 : decode prog_15_method_27_code 100 = .ok (.aload_n 0, 1) := by decide +kernel
theorem d_Mo_amend_101 : decode prog_15_method_27_code 101 = .ok (.getfield 50, 3) := by decide +kernel
theorem d_Mo_amend_104 : decode prog_15_method_27_code 104 = .ok (.iload 5, 2) := by decide +kernel
theorem d_Mo_amend_106 : decode prog_15_method_27_code 106 = .ok (.iaload, 1) := by decide +kernel
theorem d_Mo_amend_107 : decode prog_15_method_27_code 107 = .ok (.istore 6, 2) := by decide +kernel
theorem d_Mo_amend_109 : decode prog_15_method_27_code 109 = .ok (.aload_n 0, 1) := by decide +kernel
theorem d_Mo_amend_110 : decode prog_15_method_27_code 110 = .ok (.getfield 50, 3) := by decide +kernel
theorem d_Mo_amend_113 : decode prog_15_method_27_code 113 = .ok (.iload 5, 2) := by decide +kernel
theorem d_Mo_amend_115 : decode prog_15_method_27_code 115 = .ok (.iload_n 3, 1) := by decide +kernel
theorem d_Mo_amend_116 : decode prog_15_method_27_code 116 = .ok (.iastore, 1) := by decide +kernel
theorem d_Mo_amend_117 : decode prog_15_method_27_code 117 = .ok (.iload 6, 2) := by decide +kernel
theorem d_Mo_amend_119 : decode prog_15_method_27_code 119 = .ok (.ireturn, 1) := by decide +kernel
def wb_Mo_amend_88 (po : Option Value → Pic → Prop) (th : String → Pic → Prop) (P : Pic) (a0 : Nat) (x3 : Int32) (x5 : Int32) (t0 : Int32) (t1 : Nat) : Prop := p_k P t1 = 13 ∧ p_k (s_i P 480 t1 t0) a0 = 13 ∧ (((p_i (s_i P 480 t1 t0) 480 a0) ≤ 0 → (∃ a121, p_r (s_i P 480 t1 t0) 498 a0 = some a121 ∧ p_k (s_i P 480 t1 t0) a121 = 101 ∧ vp_in x5 (p_n (s_i P 480 t1 t0) a121) ∧ ∀ (x124 : Int32), x124 = (p_ai (s_i P 480 t1 t0) a121 (Int32.toNatClampNeg x5)) → ∃ a125, p_r (s_i P 480 t1 t0) 498 a0 = some a125 ∧ p_k (s_i P 480 t1 t0) a125 = 101 ∧ vp_in x5 (p_n (s_i P 480 t1 t0) a125) ∧ po (some (.int x124)) (s_ai (s_i P 480 t1 t0) a125 (Int32.toNatClampNeg x5) x3))) ∧ (¬ (p_i (s_i P 480 t1 t0) 480 a0) ≤ 0 → (po (some (.int (0 : Int32))) (s_i P 480 t1 t0))))
def wb_Mo_amend_83 (po : Option Value → Pic → Prop) (th : String → Pic → Prop) (P : Pic) (a0 : Nat) (x3 : Int32) (x5 : Int32) (t0 : Nat) : Prop := wb_Mo_amend_88 po th P a0 x3 x5 (3 : Int32) t0
def wb_Mo_amend_44 (po : Option Value → Pic → Prop) (th : String → Pic → Prop) (P : Pic) (a0 : Nat) (x1 : Int32) (x3 : Int32) (x4 : Int32) (t0 : Int32) : Prop := p_k P a0 = 13 ∧ wp_Mo_noCustomer (cp_i fun x111 _ => ((x111 = 0 → (((x4 = 0 → (((x3 < 0 → (wb_Mo_amend_83 po th P a0 x3 t0 a0)) ∧ (¬ x3 < 0 → (∃ a112, p_r P 499 a0 = some a112 ∧ p_k P a112 = 101 ∧ vp_in t0 (p_n P a112) ∧ ((x3 < (p_ai P a112 (Int32.toNatClampNeg t0)) → (wb_Mo_amend_88 po th P a0 x3 t0 (0 : Int32) a0)) ∧ (¬ x3 < (p_ai P a112 (Int32.toNatClampNeg t0)) → (wb_Mo_amend_83 po th P a0 x3 t0 a0)))))))) ∧ (¬ x4 = 0 → (wb_Mo_amend_88 po th P a0 x3 t0 (2 : Int32) a0))))) ∧ (¬ x111 = 0 → (wb_Mo_amend_88 po th P a0 x3 t0 (1 : Int32) a0)))) th P a0 x1
def wb_Mo_amend_27 (po : Option Value → Pic → Prop) (th : String → Pic → Prop) (P : Pic) (a0 : Nat) (x1 : Int32) (x2 : Int32) (x3 : Int32) (t0 : Int32) : Prop := ((t0 = 0 → (wb_Mo_amend_44 po th P a0 x1 x3 t0 (((24 : Int32) * x1) + x2))) ∧ (¬ t0 = 0 → (wb_Mo_amend_44 po th P a0 x1 x3 t0 (0 : Int32))))
def wb_Mo_amend_22 (po : Option Value → Pic → Prop) (th : String → Pic → Prop) (P : Pic) (a0 : Nat) (x1 : Int32) (x2 : Int32) (x3 : Int32) : Prop := wb_Mo_amend_27 po th P a0 x1 x2 x3 (1 : Int32)
def wp_Mo_amend (po : Option Value → Pic → Prop) (th : String → Pic → Prop) (P : Pic) (a0 : Nat) (x1 : Int32) (x2 : Int32) (x3 : Int32) : Prop := p_k P a0 = 13 ∧ wp_Mo_noCustomer (cp_i fun x102 _ => ((¬ x102 = 0 → (wb_Mo_amend_22 po th P a0 x1 x2 x3)) ∧ (x102 = 0 → (((x2 < 0 → (wb_Mo_amend_22 po th P a0 x1 x2 x3)) ∧ (¬ x2 < 0 → (∃ a103, p_r P 496 a0 = some a103 ∧ p_k P a103 = 101 ∧ vp_in x1 (p_n P a103) ∧ ((x2 < (p_ai P a103 (Int32.toNatClampNeg x1)) → (wb_Mo_amend_27 po th P a0 x1 x2 x3 (0 : Int32))) ∧ (¬ x2 < (p_ai P a103 (Int32.toNatClampNeg x1)) → (wb_Mo_amend_22 po th P a0 x1 x2 x3)))))))))) th P a0 x1
set_option maxHeartbeats 4000000 in
set_option maxRecDepth 100000 in
theorem wk_Mo_amend_88 {p : Program} {l : Launch} {e : Env} {s : State} {m : MethodId} {args : Array Value} {below : List Frame} {meth : Method} {c : Code} {D : pq_D} {P0 : Pic} {po : Option Value → Pic → Prop} {th : String → Pic → Prop} (hfl : l.flags = flags0) (C : Cx p e s m args meth c prog_15_method_27_code 7 "WaterWorksModel" D P0) (hmg : e.platform.magicAccessors = ({} : Platform).magicAccessors) (hr : meth.sig.returnType = (some .int)) (hin : meth.name = "amend") (htab : c.exceptionTable.toList = tableOf []) : ∀ (P : Pic) (a0 : Nat) (x3 : Int32) (x5 : Int32) (t0 : Int32) (t1 : Nat) (H : Heap) (locs : List Loc) (cells slots : Nat) (ls : Array Slot), wb_Mo_amend_88 po th P a0 x3 x5 t0 t1 → Pi D P H → Sg (cq_A P0 s) s.heap H P locs → lv_has ls 7 [(0, .ref a0), (3, .int x3), (5, .int x5)] → cells + 0 ≤ 0 → slots + 0 ≤ 0 → W p l e rm_Mo_amend s m args below meth c H locs cells slots (mt_MQ below (cq_Q D P0 false po th) args s 0 0 (cq_free P0 false)) (F0 m 88 ls [.int t0, .ref t1]) := by
  intro P a0 x3 x5 t0 t1 H locs cells slots ls h hP hS hl hcc hss
  obtain ⟨hx, hb, hml, hown, hlocks, htr, hT, hK, hSt, hN, hP0⟩ := id C
  have L44_12 : pq_fl s m args 44 12 16 := ⟨_, "WaterWorksModel", "WaterWorksModel", rfl, by decide, hown, Or.inl (hT _ k_1120 _), (fun _ z => z)⟩
  have L50_12 : pq_fl s m args 50 12 18 := ⟨_, "WaterWorksModel", "WaterWorksModel", rfl, by decide, hown, Or.inl (hT _ k_1122 _), (fun _ z => z)⟩
  have L53_12 : pq_fl s m args 53 12 19 := ⟨_, "WaterWorksModel", "WaterWorksModel", rfl, by decide, hown, Or.inl (hT _ k_1123 _), (fun _ z => z)⟩
  have L81_12 : pq_fl s m args 81 12 0 := ⟨_, "WaterWorksModel", "WaterWorksModel", rfl, by decide, hown, Or.inl (hT _ k_1104 _), (fun _ z => z)⟩
  unfold wb_Mo_amend_88 at h
  obtain ⟨hk119, h⟩ := h
  refine pq_puti (pc := 88) (f := 480) hx hb hT hK hP hS L81_12 hk119 rfl rfl rfl rfl d_Mo_amend_88 (fun H locs hP hS => ?_)
  have hk119 : p_k (s_i P 480 t1 t0) t1 = 13 := by rw [pk_i]; exact hk119
  refine lv_aload_n (pc := 91) hx hb d_Mo_amend_91 rfl (lv_at hl 0 rfl) ?_
  obtain ⟨hk120, h⟩ := h
  refine pq_geti (pc := 92) (f := 480) hx hb hT hK hP L81_12 hk120 rfl d_Mo_amend_92 ?_
  refine lv_if_le (pc := 95) (tgt := 100) hx hb d_Mo_amend_95 (by decide) (fun c128 => ?_) (fun c128 => ?_)
  · replace h := h.1 c128
    refine lv_aload_n (pc := 100) hx hb d_Mo_amend_100 rfl (lv_at hl 0 rfl) ?_
    obtain ⟨a121, ea121, h⟩ := h
    refine pq_geta (pc := 101) (f := 498) hx hb hT hK hP L50_12 hk120 rfl ea121 d_Mo_amend_101 ?_
    refine lv_iload (pc := 104) hx hb d_Mo_amend_104 (lv_at hl 2 rfl) ?_
    obtain ⟨hk122, h⟩ := h
    obtain ⟨hi123, h⟩ := h
    refine pq_iald (pc := 106) hx hb hK hP hk122 hi123 d_Mo_amend_106 ?_
    refine lv_topi (fun x124 ex124 => ?_)
    replace h := h x124 ex124
    refine lv_istore (pc := 107) (lv' := [(6, .int x124), (0, .ref a0), (3, .int x3), (5, .int x5)]) hx hb d_Mo_amend_107 hl (by decide) rfl (fun ls hl => ?_)
    refine lv_aload_n (pc := 109) hx hb d_Mo_amend_109 rfl (lv_at hl 1 rfl) ?_
    obtain ⟨a125, ea125, h⟩ := h
    refine pq_geta (pc := 110) (f := 498) hx hb hT hK hP L50_12 hk120 rfl ea125 d_Mo_amend_110 ?_
    refine lv_iload (pc := 113) hx hb d_Mo_amend_113 (lv_at hl 3 rfl) ?_
    refine lv_iload_n (pc := 115) hx hb d_Mo_amend_115 rfl (lv_at hl 2 rfl) ?_
    obtain ⟨hk126, h⟩ := h
    obtain ⟨hi127, h⟩ := h
    refine pq_iast (pc := 116) hx hb hK hP hS hk126 hi127 d_Mo_amend_116 (fun H locs hP hS => ?_)
    have hk119 : p_k (s_ai (s_i P 480 t1 t0) a125 (Int32.toNatClampNeg x5) x3) t1 = 13 := by rw [pk_ai]; exact hk119
    have hk120 : p_k (s_ai (s_i P 480 t1 t0) a125 (Int32.toNatClampNeg x5) x3) a0 = 13 := by rw [pk_ai]; exact hk120
    have hk122 : p_k (s_ai (s_i P 480 t1 t0) a125 (Int32.toNatClampNeg x5) x3) a121 = 101 := by rw [pk_ai]; exact hk122
    have hk126 : p_k (s_ai (s_i P 480 t1 t0) a125 (Int32.toNatClampNeg x5) x3) a125 = 101 := by rw [pk_ai]; exact hk126
    refine lv_iload (pc := 117) hx hb d_Mo_amend_117 (lv_at hl 0 rfl) ?_
    exact we_i (pc := 119) hx hb hlocks hr hP hS (show cells + 0 ≤ 0 by omega) (show slots + 0 ≤ 0 by omega) h d_Mo_amend_119
  · replace h := h.2 c128
    refine lv_iconst (pc := 98) (v := 0) hx hb d_Mo_amend_98 (by decide) ?_
    exact we_i (pc := 99) hx hb hlocks hr hP hS (show cells + 0 ≤ 0 by omega) (show slots + 0 ≤ 0 by omega) h d_Mo_amend_99
set_option maxHeartbeats 4000000 in
set_option maxRecDepth 100000 in
theorem wk_Mo_amend_83 {p : Program} {l : Launch} {e : Env} {s : State} {m : MethodId} {args : Array Value} {below : List Frame} {meth : Method} {c : Code} {D : pq_D} {P0 : Pic} {po : Option Value → Pic → Prop} {th : String → Pic → Prop} (hfl : l.flags = flags0) (C : Cx p e s m args meth c prog_15_method_27_code 7 "WaterWorksModel" D P0) (hmg : e.platform.magicAccessors = ({} : Platform).magicAccessors) (hr : meth.sig.returnType = (some .int)) (hin : meth.name = "amend") (htab : c.exceptionTable.toList = tableOf []) : ∀ (P : Pic) (a0 : Nat) (x3 : Int32) (x5 : Int32) (t0 : Nat) (H : Heap) (locs : List Loc) (cells slots : Nat) (ls : Array Slot), wb_Mo_amend_83 po th P a0 x3 x5 t0 → Pi D P H → Sg (cq_A P0 s) s.heap H P locs → lv_has ls 7 [(0, .ref a0), (3, .int x3), (5, .int x5)] → cells + 0 ≤ 0 → slots + 0 ≤ 0 → W p l e rm_Mo_amend s m args below meth c H locs cells slots (mt_MQ below (cq_Q D P0 false po th) args s 0 0 (cq_free P0 false)) (F0 m 83 ls [.ref t0]) := by
  intro P a0 x3 x5 t0 H locs cells slots ls h hP hS hl hcc hss
  obtain ⟨hx, hb, hml, hown, hlocks, htr, hT, hK, hSt, hN, hP0⟩ := id C
  have L44_12 : pq_fl s m args 44 12 16 := ⟨_, "WaterWorksModel", "WaterWorksModel", rfl, by decide, hown, Or.inl (hT _ k_1120 _), (fun _ z => z)⟩
  have L50_12 : pq_fl s m args 50 12 18 := ⟨_, "WaterWorksModel", "WaterWorksModel", rfl, by decide, hown, Or.inl (hT _ k_1122 _), (fun _ z => z)⟩
  have L53_12 : pq_fl s m args 53 12 19 := ⟨_, "WaterWorksModel", "WaterWorksModel", rfl, by decide, hown, Or.inl (hT _ k_1123 _), (fun _ z => z)⟩
  have L81_12 : pq_fl s m args 81 12 0 := ⟨_, "WaterWorksModel", "WaterWorksModel", rfl, by decide, hown, Or.inl (hT _ k_1104 _), (fun _ z => z)⟩
  unfold wb_Mo_amend_83 at h
  refine lv_iconst (pc := 83) (v := 3) hx hb d_Mo_amend_83 (by decide) ?_
  refine lv_goto (pc := 84) (tgt := 88) hx hb d_Mo_amend_84 (by decide) ?_
  exact wk_Mo_amend_88 hfl C hmg hr hin htab _ a0 x3 x5 (3 : Int32) t0 _ _ _ _ _ h hP hS (lv_sub hl [0, 1, 2] rfl) (show cells + 0 ≤ 0 by omega) (show slots + 0 ≤ 0 by omega)
set_option maxHeartbeats 4000000 in
set_option maxRecDepth 100000 in
theorem wk_Mo_amend_44 {p : Program} {l : Launch} {e : Env} {s : State} {m : MethodId} {args : Array Value} {below : List Frame} {meth : Method} {c : Code} {D : pq_D} {P0 : Pic} {po : Option Value → Pic → Prop} {th : String → Pic → Prop} (hfl : l.flags = flags0) (C : Cx p e s m args meth c prog_15_method_27_code 7 "WaterWorksModel" D P0) (hmg : e.platform.magicAccessors = ({} : Platform).magicAccessors) (hr : meth.sig.returnType = (some .int)) (hin : meth.name = "amend") (htab : c.exceptionTable.toList = tableOf []) : ∀ (P : Pic) (a0 : Nat) (x1 : Int32) (x3 : Int32) (x4 : Int32) (t0 : Int32) (H : Heap) (locs : List Loc) (cells slots : Nat) (ls : Array Slot), wb_Mo_amend_44 po th P a0 x1 x3 x4 t0 → Pi D P H → Sg (cq_A P0 s) s.heap H P locs → lv_has ls 7 [(0, .ref a0), (1, .int x1), (3, .int x3), (4, .int x4)] → cells + 0 ≤ 0 → slots + 0 ≤ 0 → W p l e rm_Mo_amend s m args below meth c H locs cells slots (mt_MQ below (cq_Q D P0 false po th) args s 0 0 (cq_free P0 false)) (F0 m 44 ls [.int t0]) := by
  intro P a0 x1 x3 x4 t0 H locs cells slots ls h hP hS hl hcc hss
  obtain ⟨hx, hb, hml, hown, hlocks, htr, hT, hK, hSt, hN, hP0⟩ := id C
  have L44_12 : pq_fl s m args 44 12 16 := ⟨_, "WaterWorksModel", "WaterWorksModel", rfl, by decide, hown, Or.inl (hT _ k_1120 _), (fun _ z => z)⟩
  have L50_12 : pq_fl s m args 50 12 18 := ⟨_, "WaterWorksModel", "WaterWorksModel", rfl, by decide, hown, Or.inl (hT _ k_1122 _), (fun _ z => z)⟩
  have L53_12 : pq_fl s m args 53 12 19 := ⟨_, "WaterWorksModel", "WaterWorksModel", rfl, by decide, hown, Or.inl (hT _ k_1123 _), (fun _ z => z)⟩
  have L81_12 : pq_fl s m args 81 12 0 := ⟨_, "WaterWorksModel", "WaterWorksModel", rfl, by decide, hown, Or.inl (hT _ k_1104 _), (fun _ z => z)⟩
  unfold wb_Mo_amend_44 at h
  refine lv_istore (pc := 44) (lv' := [(5, .int t0), (0, .ref a0), (1, .int x1), (3, .int x3), (4, .int x4)]) hx hb d_Mo_amend_44 hl (by decide) rfl (fun ls hl => ?_)
  refine lv_aload_n (pc := 46) hx hb d_Mo_amend_46 rfl (lv_at hl 1 rfl) ?_
  refine lv_aload_n (pc := 47) hx hb d_Mo_amend_47 rfl (lv_at hl 1 rfl) ?_
  refine lv_iload_n (pc := 48) hx hb d_Mo_amend_48 rfl (lv_at hl 2 rfl) ?_
  obtain ⟨hk110, h⟩ := h
  refine cr_i (pc := 49) C (rest := [.ref a0]) (mt_invV (As := [.int x1]) hx hb hown (hT _ k_1239 _) (hT _ k_1241 _) (hT _ ks_20 _) (mt_Cd.code (hT _ k_1242 #[])) h_Mo_noCustomer (pq_recv hK hP hk110 rfl) n_Mo_noCustomer rfl d_Mo_amend_49) (ct_Mo_noCustomer hfl D h) k_1242 k_24 ⟨Nat.le_of_ble_eq_true rfl, Nat.le_of_ble_eq_true rfl⟩ ⟨(show cells + 0 ≤ 0 by omega), (show slots + 0 ≤ 0 by omega)⟩ hl.1 d_Mo_amend_49 (Nat.le_of_ble_eq_true rfl) hP hS (fun x111 H locs h hP hS => ?_) (fun xx X H locs h hX hex hP hS => ?_)
  · refine lv_if_eq (pc := 52) (tgt := 59) hx hb d_Mo_amend_52 (by decide) (fun c118 => ?_) (fun c118 => ?_)
    · replace h := h.1 c118
      refine lv_iload (pc := 59) hx hb d_Mo_amend_59 (lv_at hl 4 rfl) ?_
      refine lv_if_eq (pc := 61) (tgt := 68) hx hb d_Mo_amend_61 (by decide) (fun c117 => ?_) (fun c117 => ?_)
      · replace h := h.1 c117
        refine lv_iload_n (pc := 68) hx hb d_Mo_amend_68 rfl (lv_at hl 3 rfl) ?_
        refine lv_if_lt (pc := 69) (tgt := 83) hx hb d_Mo_amend_69 (by decide) (fun c116 => ?_) (fun c116 => ?_)
        · replace h := h.1 c116
          exact wk_Mo_amend_83 hfl C hmg hr hin htab _ a0 x3 t0 a0 _ _ _ _ _ h hP hS (lv_sub hl [1, 3, 0] rfl) (show cells + 0 + 0 ≤ 0 by omega) (show slots + 0 + 0 ≤ 0 by omega)
        · replace h := h.2 c116
          refine lv_iload_n (pc := 72) hx hb d_Mo_amend_72 rfl (lv_at hl 3 rfl) ?_
          refine lv_aload_n (pc := 73) hx hb d_Mo_amend_73 rfl (lv_at hl 1 rfl) ?_
          obtain ⟨a112, ea112, h⟩ := h
          refine pq_geta (pc := 74) (f := 499) hx hb hT hK hP L53_12 hk110 rfl ea112 d_Mo_amend_74 ?_
          refine lv_iload (pc := 77) hx hb d_Mo_amend_77 (lv_at hl 0 rfl) ?_
          obtain ⟨hk113, h⟩ := h
          obtain ⟨hi114, h⟩ := h
          refine pq_iald (pc := 79) hx hb hK hP hk113 hi114 d_Mo_amend_79 ?_
          refine lv_icmp_lt (pc := 80) (tgt := 87) hx hb d_Mo_amend_80 (by decide) (fun c115 => ?_) (fun c115 => ?_)
          · replace h := h.1 c115
            refine lv_iconst (pc := 87) (v := 0) hx hb d_Mo_amend_87 (by decide) ?_
            exact wk_Mo_amend_88 hfl C hmg hr hin htab _ a0 x3 t0 (0 : Int32) a0 _ _ _ _ _ h hP hS (lv_sub hl [1, 3, 0] rfl) (show cells + 0 + 0 ≤ 0 by omega) (show slots + 0 + 0 ≤ 0 by omega)
          · replace h := h.2 c115
            exact wk_Mo_amend_83 hfl C hmg hr hin htab _ a0 x3 t0 a0 _ _ _ _ _ h hP hS (lv_sub hl [1, 3, 0] rfl) (show cells + 0 + 0 ≤ 0 by omega) (show slots + 0 + 0 ≤ 0 by omega)
      · replace h := h.2 c117
        refine lv_iconst (pc := 64) (v := 2) hx hb d_Mo_amend_64 (by decide) ?_
        refine lv_goto (pc := 65) (tgt := 88) hx hb d_Mo_amend_65 (by decide) ?_
        exact wk_Mo_amend_88 hfl C hmg hr hin htab _ a0 x3 t0 (2 : Int32) a0 _ _ _ _ _ h hP hS (lv_sub hl [1, 3, 0] rfl) (show cells + 0 + 0 ≤ 0 by omega) (show slots + 0 + 0 ≤ 0 by omega)
    · replace h := h.2 c118
      refine lv_iconst (pc := 55) (v := 1) hx hb d_Mo_amend_55 (by decide) ?_
      refine lv_goto (pc := 56) (tgt := 88) hx hb d_Mo_amend_56 (by decide) ?_
      exact wk_Mo_amend_88 hfl C hmg hr hin htab _ a0 x3 t0 (1 : Int32) a0 _ _ _ _ _ h hP hS (lv_sub hl [1, 3, 0] rfl) (show cells + 0 + 0 ≤ 0 by omega) (show slots + 0 + 0 ≤ 0 by omega)
  · exact cq_out hlocks (pq_nil htab rfl) (show cells + 0 + 0 ≤ 0 by omega) (show slots + 0 + 0 ≤ 0 by omega) hX hex hP hS h
set_option maxHeartbeats 4000000 in
set_option maxRecDepth 100000 in
theorem wk_Mo_amend_27 {p : Program} {l : Launch} {e : Env} {s : State} {m : MethodId} {args : Array Value} {below : List Frame} {meth : Method} {c : Code} {D : pq_D} {P0 : Pic} {po : Option Value → Pic → Prop} {th : String → Pic → Prop} (hfl : l.flags = flags0) (C : Cx p e s m args meth c prog_15_method_27_code 7 "WaterWorksModel" D P0) (hmg : e.platform.magicAccessors = ({} : Platform).magicAccessors) (hr : meth.sig.returnType = (some .int)) (hin : meth.name = "amend") (htab : c.exceptionTable.toList = tableOf []) : ∀ (P : Pic) (a0 : Nat) (x1 : Int32) (x2 : Int32) (x3 : Int32) (t0 : Int32) (H : Heap) (locs : List Loc) (cells slots : Nat) (ls : Array Slot), wb_Mo_amend_27 po th P a0 x1 x2 x3 t0 → Pi D P H → Sg (cq_A P0 s) s.heap H P locs → lv_has ls 7 [(0, .ref a0), (1, .int x1), (2, .int x2), (3, .int x3)] → cells + 0 ≤ 0 → slots + 0 ≤ 0 → W p l e rm_Mo_amend s m args below meth c H locs cells slots (mt_MQ below (cq_Q D P0 false po th) args s 0 0 (cq_free P0 false)) (F0 m 27 ls [.int t0]) := by
  intro P a0 x1 x2 x3 t0 H locs cells slots ls h hP hS hl hcc hss
  obtain ⟨hx, hb, hml, hown, hlocks, htr, hT, hK, hSt, hN, hP0⟩ := id C
  have L44_12 : pq_fl s m args 44 12 16 := ⟨_, "WaterWorksModel", "WaterWorksModel", rfl, by decide, hown, Or.inl (hT _ k_1120 _), (fun _ z => z)⟩
  have L50_12 : pq_fl s m args 50 12 18 := ⟨_, "WaterWorksModel", "WaterWorksModel", rfl, by decide, hown, Or.inl (hT _ k_1122 _), (fun _ z => z)⟩
  have L53_12 : pq_fl s m args 53 12 19 := ⟨_, "WaterWorksModel", "WaterWorksModel", rfl, by decide, hown, Or.inl (hT _ k_1123 _), (fun _ z => z)⟩
  have L81_12 : pq_fl s m args 81 12 0 := ⟨_, "WaterWorksModel", "WaterWorksModel", rfl, by decide, hown, Or.inl (hT _ k_1104 _), (fun _ z => z)⟩
  unfold wb_Mo_amend_27 at h
  refine lv_istore (pc := 27) (lv' := [(4, .int t0), (0, .ref a0), (1, .int x1), (2, .int x2), (3, .int x3)]) hx hb d_Mo_amend_27 hl (by decide) rfl (fun ls hl => ?_)
  refine lv_iload (pc := 29) hx hb d_Mo_amend_29 (lv_at hl 0 rfl) ?_
  refine lv_if_eq (pc := 31) (tgt := 38) hx hb d_Mo_amend_31 (by decide) (fun c109 => ?_) (fun c109 => ?_)
  · replace h := h.1 c109
    refine lv_bipush (pc := 38) (v := 24) hx hb d_Mo_amend_38 (by decide) ?_
    refine lv_iload_n (pc := 40) hx hb d_Mo_amend_40 rfl (lv_at hl 2 rfl) ?_
    refine lv_imul (pc := 41) hx hb d_Mo_amend_41 ?_
    refine lv_iload_n (pc := 42) hx hb d_Mo_amend_42 rfl (lv_at hl 3 rfl) ?_
    refine lv_iadd (pc := 43) hx hb d_Mo_amend_43 ?_
    exact wk_Mo_amend_44 hfl C hmg hr hin htab _ a0 x1 x3 t0 (((24 : Int32) * x1) + x2) _ _ _ _ _ h hP hS (lv_sub hl [1, 2, 4, 0] rfl) (show cells + 0 ≤ 0 by omega) (show slots + 0 ≤ 0 by omega)
  · replace h := h.2 c109
    refine lv_iconst (pc := 34) (v := 0) hx hb d_Mo_amend_34 (by decide) ?_
    refine lv_goto (pc := 35) (tgt := 44) hx hb d_Mo_amend_35 (by decide) ?_
    exact wk_Mo_amend_44 hfl C hmg hr hin htab _ a0 x1 x3 t0 (0 : Int32) _ _ _ _ _ h hP hS (lv_sub hl [1, 2, 4, 0] rfl) (show cells + 0 ≤ 0 by omega) (show slots + 0 ≤ 0 by omega)
set_option maxHeartbeats 4000000 in
set_option maxRecDepth 100000 in
theorem wk_Mo_amend_22 {p : Program} {l : Launch} {e : Env} {s : State} {m : MethodId} {args : Array Value} {below : List Frame} {meth : Method} {c : Code} {D : pq_D} {P0 : Pic} {po : Option Value → Pic → Prop} {th : String → Pic → Prop} (hfl : l.flags = flags0) (C : Cx p e s m args meth c prog_15_method_27_code 7 "WaterWorksModel" D P0) (hmg : e.platform.magicAccessors = ({} : Platform).magicAccessors) (hr : meth.sig.returnType = (some .int)) (hin : meth.name = "amend") (htab : c.exceptionTable.toList = tableOf []) : ∀ (P : Pic) (a0 : Nat) (x1 : Int32) (x2 : Int32) (x3 : Int32) (H : Heap) (locs : List Loc) (cells slots : Nat) (ls : Array Slot), wb_Mo_amend_22 po th P a0 x1 x2 x3 → Pi D P H → Sg (cq_A P0 s) s.heap H P locs → lv_has ls 7 [(0, .ref a0), (1, .int x1), (2, .int x2), (3, .int x3)] → cells + 0 ≤ 0 → slots + 0 ≤ 0 → W p l e rm_Mo_amend s m args below meth c H locs cells slots (mt_MQ below (cq_Q D P0 false po th) args s 0 0 (cq_free P0 false)) (F0 m 22 ls []) := by
  intro P a0 x1 x2 x3 H locs cells slots ls h hP hS hl hcc hss
  obtain ⟨hx, hb, hml, hown, hlocks, htr, hT, hK, hSt, hN, hP0⟩ := id C
  have L44_12 : pq_fl s m args 44 12 16 := ⟨_, "WaterWorksModel", "WaterWorksModel", rfl, by decide, hown, Or.inl (hT _ k_1120 _), (fun _ z => z)⟩
  have L50_12 : pq_fl s m args 50 12 18 := ⟨_, "WaterWorksModel", "WaterWorksModel", rfl, by decide, hown, Or.inl (hT _ k_1122 _), (fun _ z => z)⟩
  have L53_12 : pq_fl s m args 53 12 19 := ⟨_, "WaterWorksModel", "WaterWorksModel", rfl, by decide, hown, Or.inl (hT _ k_1123 _), (fun _ z => z)⟩
  have L81_12 : pq_fl s m args 81 12 0 := ⟨_, "WaterWorksModel", "WaterWorksModel", rfl, by decide, hown, Or.inl (hT _ k_1104 _), (fun _ z => z)⟩
  unfold wb_Mo_amend_22 at h
  refine lv_iconst (pc := 22) (v := 1) hx hb d_Mo_amend_22 (by decide) ?_
  refine lv_goto (pc := 23) (tgt := 27) hx hb d_Mo_amend_23 (by decide) ?_
  exact wk_Mo_amend_27 hfl C hmg hr hin htab _ a0 x1 x2 x3 (1 : Int32) _ _ _ _ _ h hP hS (lv_sub hl [0, 1, 2, 3] rfl) (show cells + 0 ≤ 0 by omega) (show slots + 0 ≤ 0 by omega)
set_option maxHeartbeats 4000000 in
set_option maxRecDepth 100000 in
theorem ct_Mo_amend {l : Launch} (hfl : l.flags = flags0) (D : pq_D) {po : Option Value → Pic → Prop} {th : String → Pic → Prop} {P : Pic} {a0 : Nat} {x1 : Int32} {x2 : Int32} {x3 : Int32} (h : wp_Mo_amend po th P a0 x1 x2 x3) : CT l D y_Mo_amend (.code y_Mo_amend prog_15_method_27_code 7 (some .int)) rm_Mo_amend false [.ref a0, .int x1, .int x2, .int x3] P po th := by
  refine ct_of (hs := []) hfl (by decide +kernel) (Or.inl ⟨rfl, rfl⟩) (Nat.le_of_ble_eq_true rfl) ?_
  intro p e s m below meth c C hmg hr hin htab ls hl
  have hl : lv_has ls 7 [(0, .ref a0), (1, .int x1), (2, .int x2), (3, .int x3)] := hl
  generalize hargs : ([.ref a0, .int x1, .int x2, .int x3] : List Value).toArray = args at C ⊢
  obtain ⟨hx, hb, hml, hown, hlocks, htr, hT, hK, hSt, hN, hP0⟩ := id C
  have L44_12 : pq_fl s m args 44 12 16 := ⟨_, "WaterWorksModel", "WaterWorksModel", rfl, by decide, hown, Or.inl (hT _ k_1120 _), (fun _ z => z)⟩
  have L50_12 : pq_fl s m args 50 12 18 := ⟨_, "WaterWorksModel", "WaterWorksModel", rfl, by decide, hown, Or.inl (hT _ k_1122 _), (fun _ z => z)⟩
  have L53_12 : pq_fl s m args 53 12 19 := ⟨_, "WaterWorksModel", "WaterWorksModel", rfl, by decide, hown, Or.inl (hT _ k_1123 _), (fun _ z => z)⟩
  have L81_12 : pq_fl s m args 81 12 0 := ⟨_, "WaterWorksModel", "WaterWorksModel", rfl, by decide, hown, Or.inl (hT _ k_1104 _), (fun _ z => z)⟩
  have hP : Pi D P s.heap := hP0
  have hS : Sg (cq_A P s) s.heap s.heap P [] := Sg.start hP0
  unfold wp_Mo_amend at h
  refine lv_aload_n (pc := 0) hx hb d_Mo_amend_0 rfl (lv_at hl 0 rfl) ?_
  refine lv_iload_n (pc := 1) hx hb d_Mo_amend_1 rfl (lv_at hl 1 rfl) ?_
  obtain ⟨hk101, h⟩ := h
  refine cr_i (pc := 2) C (rest := []) (mt_invV (As := [.int x1]) hx hb hown (hT _ k_1239 _) (hT _ k_1241 _) (hT _ ks_20 _) (mt_Cd.code (hT _ k_1242 #[])) h_Mo_noCustomer (pq_recv hK hP hk101 rfl) n_Mo_noCustomer rfl d_Mo_amend_2) (ct_Mo_noCustomer hfl D h) k_1242 k_24 ⟨Nat.le_of_ble_eq_true rfl, Nat.le_of_ble_eq_true rfl⟩ ⟨(show 0 + 0 ≤ 0 by omega), (show 0 + 0 ≤ 0 by omega)⟩ hl.1 d_Mo_amend_2 (Nat.le_of_ble_eq_true rfl) hP hS (fun x102 H locs h hP hS => ?_) (fun xx X H locs h hX hex hP hS => ?_)
  · refine lv_if_ne (pc := 5) (tgt := 22) hx hb d_Mo_amend_5 (by decide) (fun c108 => ?_) (fun c108 => ?_)
    · replace h := h.1 c108
      exact wk_Mo_amend_22 hfl C hmg hr hin htab _ a0 x1 x2 x3 _ _ _ _ _ h hP hS (lv_sub hl [0, 1, 2, 3] rfl) (show 0 + 0 + 0 ≤ 0 by omega) (show 0 + 0 + 0 ≤ 0 by omega)
    · replace h := h.2 c108
      refine lv_iload_n (pc := 8) hx hb d_Mo_amend_8 rfl (lv_at hl 2 rfl) ?_
      refine lv_if_lt (pc := 9) (tgt := 22) hx hb d_Mo_amend_9 (by decide) (fun c107 => ?_) (fun c107 => ?_)
      · replace h := h.1 c107
        exact wk_Mo_amend_22 hfl C hmg hr hin htab _ a0 x1 x2 x3 _ _ _ _ _ h hP hS (lv_sub hl [0, 1, 2, 3] rfl) (show 0 + 0 + 0 ≤ 0 by omega) (show 0 + 0 + 0 ≤ 0 by omega)
      · replace h := h.2 c107
        refine lv_iload_n (pc := 12) hx hb d_Mo_amend_12 rfl (lv_at hl 2 rfl) ?_
        refine lv_aload_n (pc := 13) hx hb d_Mo_amend_13 rfl (lv_at hl 0 rfl) ?_
        obtain ⟨a103, ea103, h⟩ := h
        refine pq_geta (pc := 14) (f := 496) hx hb hT hK hP L44_12 hk101 rfl ea103 d_Mo_amend_14 ?_
        refine lv_iload_n (pc := 17) hx hb d_Mo_amend_17 rfl (lv_at hl 1 rfl) ?_
        obtain ⟨hk104, h⟩ := h
        obtain ⟨hi105, h⟩ := h
        refine pq_iald (pc := 18) hx hb hK hP hk104 hi105 d_Mo_amend_18 ?_
        refine lv_icmp_lt (pc := 19) (tgt := 26) hx hb d_Mo_amend_19 (by decide) (fun c106 => ?_) (fun c106 => ?_)
        · replace h := h.1 c106
          refine lv_iconst (pc := 26) (v := 0) hx hb d_Mo_amend_26 (by decide) ?_
          exact wk_Mo_amend_27 hfl C hmg hr hin htab _ a0 x1 x2 x3 (0 : Int32) _ _ _ _ _ h hP hS (lv_sub hl [0, 1, 2, 3] rfl) (show 0 + 0 + 0 ≤ 0 by omega) (show 0 + 0 + 0 ≤ 0 by omega)
        · replace h := h.2 c106
          exact wk_Mo_amend_22 hfl C hmg hr hin htab _ a0 x1 x2 x3 _ _ _ _ _ h hP hS (lv_sub hl [0, 1, 2, 3] rfl) (show 0 + 0 + 0 ≤ 0 by omega) (show 0 + 0 + 0 ≤ 0 by omega)
  · exact cq_out hlocks (pq_nil htab rfl) (show 0 + 0 + 0 ≤ 0 by omega) (show 0 + 0 + 0 ≤ 0 by omega) hX hex hP hS h
/-! WaterWorksModel.countAt(II)I -/
abbrev y_Mo_countAt : MethodName := ⟨"WaterWorksModel", "countAt", "(II)I"⟩
abbrev rm_Mo_countAt : Room := { frames := 1, cells := 0, slots := 0, locals := 40 }
theorem h_Mo_countAt : y_Mo_countAt.cls ≠ "java/lang/invoke/MethodHandle" ∧ y_Mo_countAt.cls ≠ "java/lang/invoke/VarHandle" := by decide +kernel
theorem n_Mo_countAt : (parseMethodDescriptor y_Mo_countAt.desc).map (fun d => d.parameters.length) = some 2 := by decide +kernel
theorem d_Mo_countAt_0 : decode prog_15_method_28_code 0 = .ok (.iconst 0, 1) := by decide +kernel
theorem d_Mo_countAt_1 : decode prog_15_method_28_code 1 = .ok (.istore_n 3, 1) := by decide +kernel
theorem d_Mo_countAt_2 : decode prog_15_method_28_code 2 = .ok (.iconst (-1), 1) := by decide +kernel
theorem d_Mo_countAt_3 : decode prog_15_method_28_code 3 = .ok (.istore 4, 2) := by decide +kernel
theorem d_Mo_countAt_5 : decode prog_15_method_28_code 5 = .ok (.iconst 0, 1) := by decide +kernel
theorem d_Mo_countAt_6 : decode prog_15_method_28_code 6 = .ok (.istore 5, 2) := by decide +kernel
theorem d_Mo_countAt_8 : decode prog_15_method_28_code 8 = .ok (.iload 5, 2) := by decide +kernel
theorem d_Mo_countAt_10 : decode prog_15_method_28_code 10 = .ok (.aload_n 0, 1) := by decide +kernel
theorem d_Mo_countAt_11 : decode prog_15_method_28_code 11 = .ok (.getfield 44, 3) := by decide +kernel
theorem d_Mo_countAt_14 : decode prog_15_method_28_code 14 = .ok (.iload_n 1, 1) := by decide +kernel
theorem d_Mo_countAt_15 : decode prog_15_method_28_code 15 = .ok (.iaload, 1) := by decide +kernel
theorem d_Mo_countAt_16 : decode prog_15_method_28_code 16 = .ok (.if_icmp .ge 162, 3) := by decide +kernel
theorem d_Mo_countAt_19 : decode prog_15_method_28_code 19 = .ok (.bipush 24, 2) := by decide +kernel
theorem d_Mo_countAt_21 : decode prog_15_method_28_code 21 = .ok (.iload_n 1, 1) := by decide +kernel
theorem d_Mo_countAt_22 : decode prog_15_method_28_code 22 = .ok (.imul, 1) := by decide +kernel
theorem d_Mo_countAt_23 : decode prog_15_method_28_code 23 = .ok (.iload 5, 2) := by decide +kernel
theorem d_Mo_countAt_25 : decode prog_15_method_28_code 25 = .ok (.iadd, 1) := by decide +kernel
theorem d_Mo_countAt_26 : decode prog_15_method_28_code 26 = .ok (.istore 6, 2) := by decide +kernel
theorem d_Mo_countAt_28 : decode prog_15_method_28_code 28 = .ok (.iload 5, 2) := by decide +kernel
theorem d_Mo_countAt_30 : decode prog_15_method_28_code 30 = .ok (.ifCond .le 123, 3) := by decide +kernel
theorem d_Mo_countAt_33 : decode prog_15_method_28_code 33 = .ok (.aload_n 0, 1) := by decide +kernel
theorem d_Mo_countAt_34 : decode prog_15_method_28_code 34 = .ok (.getfield 56, 3) := by decide +kernel
theorem d_Mo_countAt_37 : decode prog_15_method_28_code 37 = .ok (.iload 6, 2) := by decide +kernel
theorem d_Mo_countAt_39 : decode prog_15_method_28_code 39 = .ok (.baload, 1) := by decide +kernel
theorem d_Mo_countAt_40 : decode prog_15_method_28_code 40 = .ok (.ifCond .eq 7, 3) := by decide +kernel
theorem d_Mo_countAt_43 : decode prog_15_method_28_code 43 = .ok (.iconst 0, 1) := by decide +kernel
theorem d_Mo_countAt_44 : decode prog_15_method_28_code 44 = .ok (.goto 20, 3) := by decide +kernel
theorem d_Mo_countAt_47 : decode prog_15_method_28_code 47 = .ok (.aload_n 0, 1) := by decide +kernel
theorem d_Mo_countAt_48 : decode prog_15_method_28_code 48 = .ok (.getfield 50, 3) := by decide +kernel
theorem d_Mo_countAt_51 : decode prog_15_method_28_code 51 = .ok (.iload 6, 2) := by decide +kernel
theorem d_Mo_countAt_53 : decode prog_15_method_28_code 53 = .ok (.iaload, 1) := by decide +kernel
theorem d_Mo_countAt_54 : decode prog_15_method_28_code 54 = .ok (.aload_n 0, 1) := by decide +kernel
theorem d_Mo_countAt_55 : decode prog_15_method_28_code 55 = .ok (.getfield 50, 3) := by decide +kernel
theorem d_Mo_countAt_58 : decode prog_15_method_28_code 58 = .ok (.iload 6, 2) := by decide +kernel
theorem d_Mo_countAt_60 : decode prog_15_method_28_code 60 = .ok (.iconst 1, 1) := by decide +kernel
theorem d_Mo_countAt_61 : decode prog_15_method_28_code 61 = .ok (.isub, 1) := by decide +kernel
theorem d_Mo_countAt_62 : decode prog_15_method_28_code 62 = .ok (.iaload, 1) := by decide +kernel
theorem d_Mo_countAt_63 : decode prog_15_method_28_code 63 = .ok (.isub, 1) := by decide +kernel
theorem d_Mo_countAt_64 : decode prog_15_method_28_code 64 = .ok (.istore 7, 2) := by decide +kernel
theorem d_Mo_countAt_66 : decode prog_15_method_28_code 66 = .ok (.iload 7, 2) := by decide +kernel
theorem d_Mo_countAt_68 : decode prog_15_method_28_code 68 = .ok (.ifCond .ge 16, 3) := by decide +kernel
theorem d_Mo_countAt_71 : decode prog_15_method_28_code 71 = .ok (.iload 7, 2) := by decide +kernel
theorem d_Mo_countAt_73 : decode prog_15_method_28_code 73 = .ok (.aload_n 0, 1) := by decide +kernel
theorem d_Mo_countAt_74 : decode prog_15_method_28_code 74 = .ok (.getfield 53, 3) := by decide +kernel
theorem d_Mo_countAt_77 : decode prog_15_method_28_code 77 = .ok (.iload 6, 2) := by decide +kernel
theorem d_Mo_countAt_79 : decode prog_15_method_28_code 79 = .ok (.iaload, 1) := by decide +kernel
theorem d_Mo_countAt_80 : decode prog_15_method_28_code 80 = .ok (.iadd, 1) := by decide +kernel
theorem d_Mo_countAt_81 : decode prog_15_method_28_code 81 = .ok (.goto 5, 3) := by decide +kernel
theorem d_Mo_countAt_84 : decode prog_15_method_28_code 84 = .ok (.iload 7, 2) := by decide +kernel
theorem d_Mo_countAt_86 : decode prog_15_method_28_code 86 = .ok (.istore 7, 2) := by decide +kernel
theorem d_Mo_countAt_88 : decode prog_15_method_28_code 88 = .ok (.aload_n 0, 1) := by decide +kernel
theorem d_Mo_countAt_89 : decode prog_15_method_28_code 89 = .ok (.getfield 47, 3) := by decide +kernel
theorem d_Mo_countAt_92 : decode prog_15_method_28_code 92 = .ok (.iload 6, 2) := by decide +kernel
theorem d_Mo_countAt_94 : decode prog_15_method_28_code 94 = .ok (.iconst 1, 1) := by decide +kernel
theorem d_Mo_countAt_95 : decode prog_15_method_28_code 95 = .ok (.isub, 1) := by decide +kernel
theorem d_Mo_countAt_96 : decode prog_15_method_28_code 96 = .ok (.iaload, 1) := by decide +kernel
theorem d_Mo_countAt_97 : decode prog_15_method_28_code 97 = .ok (.iload_n 2, 1) := by decide +kernel
theorem d_Mo_countAt_98 : decode prog_15_method_28_code 98 = .ok (.if_icmp .ge 50, 3) := by decide +kernel
theorem d_Mo_countAt_101 : decode prog_15_method_28_code 101 = .ok (.iload_n 2, 1) := by decide +kernel
theorem d_Mo_countAt_102 : decode prog_15_method_28_code 102 = .ok (.aload_n 0, 1) := by decide +kernel
theorem d_Mo_countAt_103 : decode prog_15_method_28_code 103 = .ok (.getfield 47, 3) := by decide +kernel
theorem d_Mo_countAt_106 : decode prog_15_method_28_code 106 = .ok (.iload 6, 2) := by decide +kernel
theorem d_Mo_countAt_108 : decode prog_15_method_28_code 108 = .ok (.iaload, 1) := by decide +kernel
theorem d_Mo_countAt_109 : decode prog_15_method_28_code 109 = .ok (.if_icmp .ge 39, 3) := by decide +kernel
theorem d_Mo_countAt_112 : decode prog_15_method_28_code 112 = .ok (.iload_n 3, 1) := by decide +kernel
theorem d_Mo_countAt_113 : decode prog_15_method_28_code 113 = .ok (.iload 7, 2) := by decide +kernel
theorem d_Mo_countAt_115 : decode prog_15_method_28_code 115 = .ok (.iload_n 2, 1) := by decide +kernel
theorem d_Mo_countAt_116 : decode prog_15_method_28_code 116 = .ok (.aload_n 0, 1) := by decide +kernel
theorem d_Mo_countAt_117 : decode prog_15_method_28_code 117 = .ok (.getfield 47, 3) := by decide +kernel
theorem d_Mo_countAt_120 : decode prog_15_method_28_code 120 = .ok (.iload 6, 2) := by decide +kernel
theorem d_Mo_countAt_122 : decode prog_15_method_28_code 122 = .ok (.iconst 1, 1) := by decide +kernel
theorem d_Mo_countAt_123 : decode prog_15_method_28_code 123 = .ok (.isub, 1) := by decide +kernel
theorem d_Mo_countAt_124 : decode prog_15_method_28_code 124 = .ok (.iaload, 1) := by decide +kernel
theorem d_Mo_countAt_125 : decode prog_15_method_28_code 125 = .ok (.isub, 1) := by decide +kernel
theorem d_Mo_countAt_126 : decode prog_15_method_28_code 126 = .ok (.imul, 1) := by decide +kernel
theorem d_Mo_countAt_127 : decode prog_15_method_28_code 127 = .ok (.aload_n 0, 1) := by decide +kernel
theorem d_Mo_countAt_128 : decode prog_15_method_28_code 128 = .ok (.getfield 47, 3) := by decide +kernel
theorem d_Mo_countAt_131 : decode prog_15_method_28_code 131 = .ok (.iload 6, 2) := by decide +kernel
theorem d_Mo_countAt_133 : decode prog_15_method_28_code 133 = .ok (.iaload, 1) := by decide +kernel
theorem d_Mo_countAt_134 : decode prog_15_method_28_code 134 = .ok (.aload_n 0, 1) := by decide +kernel
theorem d_Mo_countAt_135 : decode prog_15_method_28_code 135 = .ok (.getfield 47, 3) := by decide +kernel
theorem d_Mo_countAt_138 : decode prog_15_method_28_code 138 = .ok (.iload 6, 2) := by decide +kernel
theorem d_Mo_countAt_140 : decode prog_15_method_28_code 140 = .ok (.iconst 1, 1) := by decide +kernel
theorem d_Mo_countAt_141 : decode prog_15_method_28_code 141 = .ok (.isub, 1) := by decide +kernel
theorem d_Mo_countAt_142 : decode prog_15_method_28_code 142 = .ok (.iaload, 1) := by decide +kernel
theorem d_Mo_countAt_143 : decode prog_15_method_28_code 143 = .ok (.isub, 1) := by decide +kernel
theorem d_Mo_countAt_144 : decode prog_15_method_28_code 144 = .ok (.idiv, 1) := by decide +kernel
theorem d_Mo_countAt_145 : decode prog_15_method_28_code 145 = .ok (.iadd, 1) := by decide +kernel
theorem d_Mo_countAt_146 : decode prog_15_method_28_code 146 = .ok (.istore 4, 2) := by decide +kernel
theorem d_Mo_countAt_148 : decode prog_15_method_28_code 148 = .ok (.iload_n 3, 1) := by decide +kernel
theorem d_Mo_countAt_149 : decode prog_15_method_28_code 149 = .ok (.iload 7, 2) := by decide +kernel
theorem d_Mo_countAt_151 : decode prog_15_method_28_code 151 = .ok (.iadd, 1) := by decide +kernel
theorem d_Mo_countAt_152 : decode prog_15_method_28_code 152 = .ok (.istore_n 3, 1) := by decide +kernel
theorem d_Mo_countAt_153 : decode prog_15_method_28_code 153 = .ok (.aload_n 0, 1) := by decide +kernel
theorem d_Mo_countAt_154 : decode prog_15_method_28_code 154 = .ok (.getfield 47, 3) := by decide +kernel
theorem d_Mo_countAt_157 : decode prog_15_method_28_code 157 = .ok (.iload 6, 2) := by decide +kernel
theorem d_Mo_countAt_159 : decode prog_15_method_28_code 159 = .ok (.iaload, 1) := by decide +kernel
theorem d_Mo_countAt_160 : decode prog_15_method_28_code 160 = .ok (.iload_n 2, 1) := by decide +kernel
theorem d_Mo_countAt_161 : decode prog_15_method_28_code 161 = .ok (.if_icmp .ne 7, 3) := by decide +kernel
theorem d_Mo_countAt_164 : decode prog_15_method_28_code 164 = .ok (.iload_n 3, 1) := by decide +kernel
theorem d_Mo_countAt_165 : decode prog_15_method_28_code 165 = .ok (.goto 5, 3) := by decide +kernel
theorem d_Mo_countAt_168 : decode prog_15_method_28_code 168 = .ok (.iload 4, 2) := by decide +kernel
theorem d_Mo_countAt_170 : decode prog_15_method_28_code 170 = .ok (.istore 4, 2) := by decide +kernel
theorem d_Mo_countAt_172 : decode prog_15_method_28_code 172 = .ok (.iinc 5 1, 3) := by decide +kernel
theorem d_Mo_countAt_175 : decode prog_15_method_28_code 175 = .ok (.goto (-167), 3) := by decide +kernel
theorem d_Mo_countAt_178 : decode prog_15_method_28_code 178 = .ok (.iload 4, 2) := by decide +kernel
theorem d_Mo_countAt_180 : decode prog_15_method_28_code 180 = .ok (.ireturn, 1) := by decide +kernel
def wb_Mo_countAt_170 (po : Option Value → Pic → Prop) (th : String → Pic → Prop) (K8 : Pic → Nat → Int32 → Int32 → Int32 → Int32 → Int32 → Prop) (P : Pic) (a0 : Nat) (x1 : Int32) (x2 : Int32) (x3 : Int32) (x5 : Int32) (t0 : Int32) : Prop := ∀ (x149 : Int32), x149 = x5 + 1 → K8 P a0 x1 x2 x3 t0 x149
def wb_Mo_countAt_153 (po : Option Value → Pic → Prop) (th : String → Pic → Prop) (K8 : Pic → Nat → Int32 → Int32 → Int32 → Int32 → Int32 → Prop) (P : Pic) (a0 : Nat) (x1 : Int32) (x2 : Int32) (x3 : Int32) (x4 : Int32) (x5 : Int32) (x6 : Int32) : Prop := p_k P a0 = 13 ∧ ∃ a145, p_r P 497 a0 = some a145 ∧ p_k P a145 = 101 ∧ vp_in x6 (p_n P a145) ∧ ((¬ (p_ai P a145 (Int32.toNatClampNeg x6)) = x2 → (wb_Mo_countAt_170 po th K8 P a0 x1 x2 x3 x5 x4)) ∧ ((p_ai P a145 (Int32.toNatClampNeg x6)) = x2 → (wb_Mo_countAt_170 po th K8 P a0 x1 x2 x3 x5 x3)))
def wb_Mo_countAt_148 (po : Option Value → Pic → Prop) (th : String → Pic → Prop) (K8 : Pic → Nat → Int32 → Int32 → Int32 → Int32 → Int32 → Prop) (P : Pic) (a0 : Nat) (x1 : Int32) (x2 : Int32) (x3 : Int32) (x4 : Int32) (x5 : Int32) (x6 : Int32) (x7 : Int32) : Prop := ∀ (x143 : Int32), x143 = (x3 + x7) → wb_Mo_countAt_153 po th K8 P a0 x1 x2 x143 x4 x5 x6
def wb_Mo_countAt_86 (po : Option Value → Pic → Prop) (th : String → Pic → Prop) (K8 : Pic → Nat → Int32 → Int32 → Int32 → Int32 → Int32 → Prop) (P : Pic) (a0 : Nat) (x1 : Int32) (x2 : Int32) (x3 : Int32) (x4 : Int32) (x5 : Int32) (x6 : Int32) (t0 : Int32) : Prop := p_k P a0 = 13 ∧ ∃ a124, p_r P 497 a0 = some a124 ∧ p_k P a124 = 101 ∧ vp_in (x6 - (1 : Int32)) (p_n P a124) ∧ ((x2 ≤ (p_ai P a124 (Int32.toNatClampNeg (x6 - (1 : Int32)))) → (wb_Mo_countAt_148 po th K8 P a0 x1 x2 x3 x4 x5 x6 t0)) ∧ (¬ x2 ≤ (p_ai P a124 (Int32.toNatClampNeg (x6 - (1 : Int32)))) → (∃ a127, p_r P 497 a0 = some a127 ∧ p_k P a127 = 101 ∧ vp_in x6 (p_n P a127) ∧ (((p_ai P a127 (Int32.toNatClampNeg x6)) ≤ x2 → (wb_Mo_countAt_148 po th K8 P a0 x1 x2 x3 x4 x5 x6 t0)) ∧ (¬ (p_ai P a127 (Int32.toNatClampNeg x6)) ≤ x2 → (∃ a130, p_r P 497 a0 = some a130 ∧ p_k P a130 = 101 ∧ vp_in (x6 - (1 : Int32)) (p_n P a130) ∧ ∃ a133, p_r P 497 a0 = some a133 ∧ p_k P a133 = 101 ∧ vp_in x6 (p_n P a133) ∧ ∃ a136, p_r P 497 a0 = some a136 ∧ p_k P a136 = 101 ∧ vp_in (x6 - (1 : Int32)) (p_n P a136) ∧ ¬ ((p_ai P a133 (Int32.toNatClampNeg x6)) - (p_ai P a136 (Int32.toNatClampNeg (x6 - (1 : Int32))))) = 0 ∧ ∀ (x140 : Int32), x140 = (x3 + ((t0 * (x2 - (p_ai P a130 (Int32.toNatClampNeg (x6 - (1 : Int32)))))) / ((p_ai P a133 (Int32.toNatClampNeg x6)) - (p_ai P a136 (Int32.toNatClampNeg (x6 - (1 : Int32))))))) → wb_Mo_countAt_148 po th K8 P a0 x1 x2 x3 x140 x5 x6 t0))))))
def wb_Mo_countAt_64 (po : Option Value → Pic → Prop) (th : String → Pic → Prop) (K8 : Pic → Nat → Int32 → Int32 → Int32 → Int32 → Int32 → Prop) (P : Pic) (a0 : Nat) (x1 : Int32) (x2 : Int32) (x3 : Int32) (x4 : Int32) (x5 : Int32) (x6 : Int32) (t0 : Int32) : Prop := ((0 ≤ t0 → (wb_Mo_countAt_86 po th K8 P a0 x1 x2 x3 x4 x5 x6 t0)) ∧ (¬ 0 ≤ t0 → (p_k P a0 = 13 ∧ ∃ a119, p_r P 499 a0 = some a119 ∧ p_k P a119 = 101 ∧ vp_in x6 (p_n P a119) ∧ wb_Mo_countAt_86 po th K8 P a0 x1 x2 x3 x4 x5 x6 (t0 + (p_ai P a119 (Int32.toNatClampNeg x6))))))
def wb_Mo_countAt_8 (po : Option Value → Pic → Prop) (th : String → Pic → Prop) (K8 : Pic → Nat → Int32 → Int32 → Int32 → Int32 → Int32 → Prop) (P : Pic) (a0 : Nat) (x1 : Int32) (x2 : Int32) (x3 : Int32) (x4 : Int32) (x5 : Int32) : Prop := p_k P a0 = 13 ∧ ∃ a102, p_r P 496 a0 = some a102 ∧ p_k P a102 = 101 ∧ vp_in x1 (p_n P a102) ∧ (((p_ai P a102 (Int32.toNatClampNeg x1)) ≤ x5 → (po (some (.int x4)) P)) ∧ (¬ (p_ai P a102 (Int32.toNatClampNeg x1)) ≤ x5 → (∀ (x105 : Int32), x105 = (((24 : Int32) * x1) + x5) → ((x5 ≤ 0 → (wb_Mo_countAt_153 po th K8 P a0 x1 x2 x3 x4 x5 x105)) ∧ (¬ x5 ≤ 0 → (∃ a106, p_r P 500 a0 = some a106 ∧ p_k P a106 = 103 ∧ vp_in x105 (p_n P a106) ∧ (((p_ai P a106 (Int32.toNatClampNeg x105)) = 0 → (∃ a109, p_r P 498 a0 = some a109 ∧ p_k P a109 = 101 ∧ vp_in x105 (p_n P a109) ∧ ∃ a112, p_r P 498 a0 = some a112 ∧ p_k P a112 = 101 ∧ vp_in (x105 - (1 : Int32)) (p_n P a112) ∧ wb_Mo_countAt_64 po th K8 P a0 x1 x2 x3 x4 x5 x105 ((p_ai P a109 (Int32.toNatClampNeg x105)) - (p_ai P a112 (Int32.toNatClampNeg (x105 - (1 : Int32))))))) ∧ (¬ (p_ai P a106 (Int32.toNatClampNeg x105)) = 0 → (wb_Mo_countAt_64 po th K8 P a0 x1 x2 x3 x4 x5 x105 (0 : Int32))))))))))
def wl_Mo_countAt_8 (po : Option Value → Pic → Prop) (th : String → Pic → Prop) : Nat → Pic → Nat → Int32 → Int32 → Int32 → Int32 → Int32 → Prop
  | 0 => fun _ _ _ _ _ _ _ => False
  | n + 1 => wb_Mo_countAt_8 po th (wl_Mo_countAt_8 po th n)
def wp_Mo_countAt (po : Option Value → Pic → Prop) (th : String → Pic → Prop) (P : Pic) (a0 : Nat) (x1 : Int32) (x2 : Int32) : Prop := ∃ n, wl_Mo_countAt_8 po th n P a0 x1 x2 (0 : Int32) (-1 : Int32) (0 : Int32)
set_option maxHeartbeats 4000000 in
set_option maxRecDepth 100000 in
theorem wk_Mo_countAt_170 {p : Program} {l : Launch} {e : Env} {s : State} {m : MethodId} {args : Array Value} {below : List Frame} {meth : Method} {c : Code} {D : pq_D} {P : Pic} {po : Option Value → Pic → Prop} {th : String → Pic → Prop} {K8 : Pic → Nat → Int32 → Int32 → Int32 → Int32 → Int32 → Prop} (hfl : l.flags = flags0) (C : Cx p e s m args meth c prog_15_method_28_code 8 "WaterWorksModel" D P) (hmg : e.platform.magicAccessors = ({} : Platform).magicAccessors) (hr : meth.sig.returnType = (some .int)) (hin : meth.name = "countAt") (htab : c.exceptionTable.toList = tableOf []) (HK8 : ∀ (a0 : Nat) (x1 : Int32) (x2 : Int32) (x3 : Int32) (x4 : Int32) (x5 : Int32) (H : Heap) (cells slots : Nat) (ls : Array Slot), K8 P a0 x1 x2 x3 x4 x5 → So s.heap H → lv_has ls 8 [(0, .ref a0), (1, .int x1), (2, .int x2), (3, .int x3), (4, .int x4), (5, .int x5)] → cells + 0 ≤ 0 → slots + 0 ≤ 0 → W p l e rm_Mo_countAt s m args below meth c H [] cells slots (mt_MQ below (cq_Q D P true po th) args s 0 0 (cq_free P true)) (F0 m 8 ls [])) : ∀ (a0 : Nat) (x1 : Int32) (x2 : Int32) (x3 : Int32) (x5 : Int32) (t0 : Int32) (H : Heap) (cells slots : Nat) (ls : Array Slot), wb_Mo_countAt_170 po th K8 P a0 x1 x2 x3 x5 t0 → So s.heap H → lv_has ls 8 [(0, .ref a0), (1, .int x1), (2, .int x2), (3, .int x3), (5, .int x5)] → cells + 0 ≤ 0 → slots + 0 ≤ 0 → W p l e rm_Mo_countAt s m args below meth c H [] cells slots (mt_MQ below (cq_Q D P true po th) args s 0 0 (cq_free P true)) (F0 m 170 ls [.int t0]) := by
  intro a0 x1 x2 x3 x5 t0 H cells slots ls h hO hl hcc hss
  obtain ⟨hx, hb, hml, hown, hlocks, htr, hT, hK, hSt, hN, hP0⟩ := id C
  have L44_12 : pq_fl s m args 44 12 16 := ⟨_, "WaterWorksModel", "WaterWorksModel", rfl, by decide, hown, Or.inl (hT _ k_1120 _), (fun _ z => z)⟩
  have L47_12 : pq_fl s m args 47 12 17 := ⟨_, "WaterWorksModel", "WaterWorksModel", rfl, by decide, hown, Or.inl (hT _ k_1121 _), (fun _ z => z)⟩
  have L50_12 : pq_fl s m args 50 12 18 := ⟨_, "WaterWorksModel", "WaterWorksModel", rfl, by decide, hown, Or.inl (hT _ k_1122 _), (fun _ z => z)⟩
  have L53_12 : pq_fl s m args 53 12 19 := ⟨_, "WaterWorksModel", "WaterWorksModel", rfl, by decide, hown, Or.inl (hT _ k_1123 _), (fun _ z => z)⟩
  have L56_12 : pq_fl s m args 56 12 20 := ⟨_, "WaterWorksModel", "WaterWorksModel", rfl, by decide, hown, Or.inl (hT _ k_1124 _), (fun _ z => z)⟩
  have hP : Pi D P H := So.pi hP0 hO
  unfold wb_Mo_countAt_170 at h
  refine lv_istore (pc := 170) (lv' := [(4, .int t0), (0, .ref a0), (1, .int x1), (2, .int x2), (3, .int x3), (5, .int x5)]) hx hb d_Mo_countAt_170 hl (by decide) rfl (fun ls hl => ?_)
  obtain ⟨x149, ex149⟩ : ∃ z : Int32, z = x5 + 1 := ⟨_, rfl⟩
  replace h := h x149 ex149
  refine lv_iinc (pc := 172) (v := x149) (lv' := [(5, .int x149), (4, .int t0), (0, .ref a0), (1, .int x1), (2, .int x2), (3, .int x3)]) hx hb d_Mo_countAt_172 hl (k := 5) rfl (by rw [ex149]; rfl) (by decide) rfl (fun ls hl => ?_)
  refine lv_goto (pc := 175) (tgt := 8) hx hb d_Mo_countAt_175 (by decide) ?_
  exact HK8 a0 x1 x2 x3 t0 x149 _ _ _ _ h hO (lv_sub hl [2, 3, 4, 5, 1, 0] rfl) (show cells + 0 ≤ 0 by omega) (show slots + 0 ≤ 0 by omega)
set_option maxHeartbeats 4000000 in
set_option maxRecDepth 100000 in
theorem wk_Mo_countAt_153 {p : Program} {l : Launch} {e : Env} {s : State} {m : MethodId} {args : Array Value} {below : List Frame} {meth : Method} {c : Code} {D : pq_D} {P : Pic} {po : Option Value → Pic → Prop} {th : String → Pic → Prop} {K8 : Pic → Nat → Int32 → Int32 → Int32 → Int32 → Int32 → Prop} (hfl : l.flags = flags0) (C : Cx p e s m args meth c prog_15_method_28_code 8 "WaterWorksModel" D P) (hmg : e.platform.magicAccessors = ({} : Platform).magicAccessors) (hr : meth.sig.returnType = (some .int)) (hin : meth.name = "countAt") (htab : c.exceptionTable.toList = tableOf []) (HK8 : ∀ (a0 : Nat) (x1 : Int32) (x2 : Int32) (x3 : Int32) (x4 : Int32) (x5 : Int32) (H : Heap) (cells slots : Nat) (ls : Array Slot), K8 P a0 x1 x2 x3 x4 x5 → So s.heap H → lv_has ls 8 [(0, .ref a0), (1, .int x1), (2, .int x2), (3, .int x3), (4, .int x4), (5, .int x5)] → cells + 0 ≤ 0 → slots + 0 ≤ 0 → W p l e rm_Mo_countAt s m args below meth c H [] cells slots (mt_MQ below (cq_Q D P true po th) args s 0 0 (cq_free P true)) (F0 m 8 ls [])) : ∀ (a0 : Nat) (x1 : Int32) (x2 : Int32) (x3 : Int32) (x4 : Int32) (x5 : Int32) (x6 : Int32) (H : Heap) (cells slots : Nat) (ls : Array Slot), wb_Mo_countAt_153 po th K8 P a0 x1 x2 x3 x4 x5 x6 → So s.heap H → lv_has ls 8 [(0, .ref a0), (1, .int x1), (2, .int x2), (3, .int x3), (4, .int x4), (5, .int x5), (6, .int x6)] → cells + 0 ≤ 0 → slots + 0 ≤ 0 → W p l e rm_Mo_countAt s m args below meth c H [] cells slots (mt_MQ below (cq_Q D P true po th) args s 0 0 (cq_free P true)) (F0 m 153 ls []) := by
  intro a0 x1 x2 x3 x4 x5 x6 H cells slots ls h hO hl hcc hss
  obtain ⟨hx, hb, hml, hown, hlocks, htr, hT, hK, hSt, hN, hP0⟩ := id C
  have L44_12 : pq_fl s m args 44 12 16 := ⟨_, "WaterWorksModel", "WaterWorksModel", rfl, by decide, hown, Or.inl (hT _ k_1120 _), (fun _ z => z)⟩
  have L47_12 : pq_fl s m args 47 12 17 := ⟨_, "WaterWorksModel", "WaterWorksModel", rfl, by decide, hown, Or.inl (hT _ k_1121 _), (fun _ z => z)⟩
  have L50_12 : pq_fl s m args 50 12 18 := ⟨_, "WaterWorksModel", "WaterWorksModel", rfl, by decide, hown, Or.inl (hT _ k_1122 _), (fun _ z => z)⟩
  have L53_12 : pq_fl s m args 53 12 19 := ⟨_, "WaterWorksModel", "WaterWorksModel", rfl, by decide, hown, Or.inl (hT _ k_1123 _), (fun _ z => z)⟩
  have L56_12 : pq_fl s m args 56 12 20 := ⟨_, "WaterWorksModel", "WaterWorksModel", rfl, by decide, hown, Or.inl (hT _ k_1124 _), (fun _ z => z)⟩
  have hP : Pi D P H := So.pi hP0 hO
  unfold wb_Mo_countAt_153 at h
  refine lv_aload_n (pc := 153) hx hb d_Mo_countAt_153 rfl (lv_at hl 0 rfl) ?_
  obtain ⟨hk144, h⟩ := h
  obtain ⟨a145, ea145, h⟩ := h
  refine pq_geta (pc := 154) (f := 497) hx hb hT hK hP L47_12 hk144 rfl ea145 d_Mo_countAt_154 ?_
  refine lv_iload (pc := 157) hx hb d_Mo_countAt_157 (lv_at hl 6 rfl) ?_
  obtain ⟨hk146, h⟩ := h
  obtain ⟨hi147, h⟩ := h
  refine pq_iald (pc := 159) hx hb hK hP hk146 hi147 d_Mo_countAt_159 ?_
  refine lv_iload_n (pc := 160) hx hb d_Mo_countAt_160 rfl (lv_at hl 2 rfl) ?_
  refine lv_icmp_ne (pc := 161) (tgt := 168) hx hb d_Mo_countAt_161 (by decide) (fun c148 => ?_) (fun c148 => ?_)
  · replace h := h.1 c148
    refine lv_iload (pc := 168) hx hb d_Mo_countAt_168 (lv_at hl 4 rfl) ?_
    exact wk_Mo_countAt_170 hfl C hmg hr hin htab HK8 a0 x1 x2 x3 x5 x4 _ _ _ _ h hO (lv_sub hl [0, 1, 2, 3, 5] rfl) (show cells + 0 ≤ 0 by omega) (show slots + 0 ≤ 0 by omega)
  · replace h := h.2 c148
    refine lv_iload_n (pc := 164) hx hb d_Mo_countAt_164 rfl (lv_at hl 3 rfl) ?_
    refine lv_goto (pc := 165) (tgt := 170) hx hb d_Mo_countAt_165 (by decide) ?_
    exact wk_Mo_countAt_170 hfl C hmg hr hin htab HK8 a0 x1 x2 x3 x5 x3 _ _ _ _ h hO (lv_sub hl [0, 1, 2, 3, 5] rfl) (show cells + 0 ≤ 0 by omega) (show slots + 0 ≤ 0 by omega)
set_option maxHeartbeats 4000000 in
set_option maxRecDepth 100000 in
theorem wk_Mo_countAt_148 {p : Program} {l : Launch} {e : Env} {s : State} {m : MethodId} {args : Array Value} {below : List Frame} {meth : Method} {c : Code} {D : pq_D} {P : Pic} {po : Option Value → Pic → Prop} {th : String → Pic → Prop} {K8 : Pic → Nat → Int32 → Int32 → Int32 → Int32 → Int32 → Prop} (hfl : l.flags = flags0) (C : Cx p e s m args meth c prog_15_method_28_code 8 "WaterWorksModel" D P) (hmg : e.platform.magicAccessors = ({} : Platform).magicAccessors) (hr : meth.sig.returnType = (some .int)) (hin : meth.name = "countAt") (htab : c.exceptionTable.toList = tableOf []) (HK8 : ∀ (a0 : Nat) (x1 : Int32) (x2 : Int32) (x3 : Int32) (x4 : Int32) (x5 : Int32) (H : Heap) (cells slots : Nat) (ls : Array Slot), K8 P a0 x1 x2 x3 x4 x5 → So s.heap H → lv_has ls 8 [(0, .ref a0), (1, .int x1), (2, .int x2), (3, .int x3), (4, .int x4), (5, .int x5)] → cells + 0 ≤ 0 → slots + 0 ≤ 0 → W p l e rm_Mo_countAt s m args below meth c H [] cells slots (mt_MQ below (cq_Q D P true po th) args s 0 0 (cq_free P true)) (F0 m 8 ls [])) : ∀ (a0 : Nat) (x1 : Int32) (x2 : Int32) (x3 : Int32) (x4 : Int32) (x5 : Int32) (x6 : Int32) (x7 : Int32) (H : Heap) (cells slots : Nat) (ls : Array Slot), wb_Mo_countAt_148 po th K8 P a0 x1 x2 x3 x4 x5 x6 x7 → So s.heap H → lv_has ls 8 [(0, .ref a0), (1, .int x1), (2, .int x2), (3, .int x3), (4, .int x4), (5, .int x5), (6, .int x6), (7, .int x7)] → cells + 0 ≤ 0 → slots + 0 ≤ 0 → W p l e rm_Mo_countAt s m args below meth c H [] cells slots (mt_MQ below (cq_Q D P true po th) args s 0 0 (cq_free P true)) (F0 m 148 ls []) := by
  intro a0 x1 x2 x3 x4 x5 x6 x7 H cells slots ls h hO hl hcc hss
  obtain ⟨hx, hb, hml, hown, hlocks, htr, hT, hK, hSt, hN, hP0⟩ := id C
  have L44_12 : pq_fl s m args 44 12 16 := ⟨_, "WaterWorksModel", "WaterWorksModel", rfl, by decide, hown, Or.inl (hT _ k_1120 _), (fun _ z => z)⟩
  have L47_12 : pq_fl s m args 47 12 17 := ⟨_, "WaterWorksModel", "WaterWorksModel", rfl, by decide, hown, Or.inl (hT _ k_1121 _), (fun _ z => z)⟩
  have L50_12 : pq_fl s m args 50 12 18 := ⟨_, "WaterWorksModel", "WaterWorksModel", rfl, by decide, hown, Or.inl (hT _ k_1122 _), (fun _ z => z)⟩
  have L53_12 : pq_fl s m args 53 12 19 := ⟨_, "WaterWorksModel", "WaterWorksModel", rfl, by decide, hown, Or.inl (hT _ k_1123 _), (fun _ z => z)⟩
  have L56_12 : pq_fl s m args 56 12 20 := ⟨_, "WaterWorksModel", "WaterWorksModel", rfl, by decide, hown, Or.inl (hT _ k_1124 _), (fun _ z => z)⟩
  have hP : Pi D P H := So.pi hP0 hO
  unfold wb_Mo_countAt_148 at h
  refine lv_iload_n (pc := 148) hx hb d_Mo_countAt_148 rfl (lv_at hl 3 rfl) ?_
  refine lv_iload (pc := 149) hx hb d_Mo_countAt_149 (lv_at hl 7 rfl) ?_
  refine lv_iadd (pc := 151) hx hb d_Mo_countAt_151 ?_
  refine lv_topi (fun x143 ex143 => ?_)
  replace h := h x143 ex143
  refine lv_istore_n (pc := 152) (lv' := [(3, .int x143), (0, .ref a0), (1, .int x1), (2, .int x2), (4, .int x4), (5, .int x5), (6, .int x6), (7, .int x7)]) hx hb d_Mo_countAt_152 rfl hl (by decide) rfl (fun ls hl => ?_)
  exact wk_Mo_countAt_153 hfl C hmg hr hin htab HK8 a0 x1 x2 x143 x4 x5 x6 _ _ _ _ h hO (lv_sub hl [1, 2, 3, 0, 4, 5, 6] rfl) (show cells + 0 ≤ 0 by omega) (show slots + 0 ≤ 0 by omega)
set_option maxHeartbeats 4000000 in
set_option maxRecDepth 100000 in
theorem wk_Mo_countAt_86 {p : Program} {l : Launch} {e : Env} {s : State} {m : MethodId} {args : Array Value} {below : List Frame} {meth : Method} {c : Code} {D : pq_D} {P : Pic} {po : Option Value → Pic → Prop} {th : String → Pic → Prop} {K8 : Pic → Nat → Int32 → Int32 → Int32 → Int32 → Int32 → Prop} (hfl : l.flags = flags0) (C : Cx p e s m args meth c prog_15_method_28_code 8 "WaterWorksModel" D P) (hmg : e.platform.magicAccessors = ({} : Platform).magicAccessors) (hr : meth.sig.returnType = (some .int)) (hin : meth.name = "countAt") (htab : c.exceptionTable.toList = tableOf []) (HK8 : ∀ (a0 : Nat) (x1 : Int32) (x2 : Int32) (x3 : Int32) (x4 : Int32) (x5 : Int32) (H : Heap) (cells slots : Nat) (ls : Array Slot), K8 P a0 x1 x2 x3 x4 x5 → So s.heap H → lv_has ls 8 [(0, .ref a0), (1, .int x1), (2, .int x2), (3, .int x3), (4, .int x4), (5, .int x5)] → cells + 0 ≤ 0 → slots + 0 ≤ 0 → W p l e rm_Mo_countAt s m args below meth c H [] cells slots (mt_MQ below (cq_Q D P true po th) args s 0 0 (cq_free P true)) (F0 m 8 ls [])) : ∀ (a0 : Nat) (x1 : Int32) (x2 : Int32) (x3 : Int32) (x4 : Int32) (x5 : Int32) (x6 : Int32) (t0 : Int32) (H : Heap) (cells slots : Nat) (ls : Array Slot), wb_Mo_countAt_86 po th K8 P a0 x1 x2 x3 x4 x5 x6 t0 → So s.heap H → lv_has ls 8 [(0, .ref a0), (1, .int x1), (2, .int x2), (3, .int x3), (4, .int x4), (5, .int x5), (6, .int x6)] → cells + 0 ≤ 0 → slots + 0 ≤ 0 → W p l e rm_Mo_countAt s m args below meth c H [] cells slots (mt_MQ below (cq_Q D P true po th) args s 0 0 (cq_free P true)) (F0 m 86 ls [.int t0]) := by
  intro a0 x1 x2 x3 x4 x5 x6 t0 H cells slots ls h hO hl hcc hss
  obtain ⟨hx, hb, hml, hown, hlocks, htr, hT, hK, hSt, hN, hP0⟩ := id C
  have L44_12 : pq_fl s m args 44 12 16 := ⟨_, "WaterWorksModel", "WaterWorksModel", rfl, by decide, hown, Or.inl (hT _ k_1120 _), (fun _ z => z)⟩
  have L47_12 : pq_fl s m args 47 12 17 := ⟨_, "WaterWorksModel", "WaterWorksModel", rfl, by decide, hown, Or.inl (hT _ k_1121 _), (fun _ z => z)⟩
  have L50_12 : pq_fl s m args 50 12 18 := ⟨_, "WaterWorksModel", "WaterWorksModel", rfl, by decide, hown, Or.inl (hT _ k_1122 _), (fun _ z => z)⟩
  have L53_12 : pq_fl s m args 53 12 19 := ⟨_, "WaterWorksModel", "WaterWorksModel", rfl, by decide, hown, Or.inl (hT _ k_1123 _), (fun _ z => z)⟩
  have L56_12 : pq_fl s m args 56 12 20 := ⟨_, "WaterWorksModel", "WaterWorksModel", rfl, by decide, hown, Or.inl (hT _ k_1124 _), (fun _ z => z)⟩
  have hP : Pi D P H := So.pi hP0 hO
  unfold wb_Mo_countAt_86 at h
  refine lv_istore (pc := 86) (lv' := [(7, .int t0), (0, .ref a0), (1, .int x1), (2, .int x2), (3, .int x3), (4, .int x4), (5, .int x5), (6, .int x6)]) hx hb d_Mo_countAt_86 hl (by decide) rfl (fun ls hl => ?_)
  refine lv_aload_n (pc := 88) hx hb d_Mo_countAt_88 rfl (lv_at hl 1 rfl) ?_
  obtain ⟨hk123, h⟩ := h
  obtain ⟨a124, ea124, h⟩ := h
  refine pq_geta (pc := 89) (f := 497) hx hb hT hK hP L47_12 hk123 rfl ea124 d_Mo_countAt_89 ?_
  refine lv_iload (pc := 92) hx hb d_Mo_countAt_92 (lv_at hl 7 rfl) ?_
  refine lv_iconst (pc := 94) (v := 1) hx hb d_Mo_countAt_94 (by decide) ?_
  refine lv_isub (pc := 95) hx hb d_Mo_countAt_95 ?_
  obtain ⟨hk125, h⟩ := h
  obtain ⟨hi126, h⟩ := h
  refine pq_iald (pc := 96) hx hb hK hP hk125 hi126 d_Mo_countAt_96 ?_
  refine lv_iload_n (pc := 97) hx hb d_Mo_countAt_97 rfl (lv_at hl 3 rfl) ?_
  refine lv_icmp_ge (pc := 98) (tgt := 148) hx hb d_Mo_countAt_98 (by decide) (fun c142 => ?_) (fun c142 => ?_)
  · replace h := h.1 c142
    exact wk_Mo_countAt_148 hfl C hmg hr hin htab HK8 a0 x1 x2 x3 x4 x5 x6 t0 _ _ _ _ h hO (lv_sub hl [1, 2, 3, 4, 5, 6, 7, 0] rfl) (show cells + 0 ≤ 0 by omega) (show slots + 0 ≤ 0 by omega)
  · replace h := h.2 c142
    refine lv_iload_n (pc := 101) hx hb d_Mo_countAt_101 rfl (lv_at hl 3 rfl) ?_
    refine lv_aload_n (pc := 102) hx hb d_Mo_countAt_102 rfl (lv_at hl 1 rfl) ?_
    obtain ⟨a127, ea127, h⟩ := h
    refine pq_geta (pc := 103) (f := 497) hx hb hT hK hP L47_12 hk123 rfl ea127 d_Mo_countAt_103 ?_
    refine lv_iload (pc := 106) hx hb d_Mo_countAt_106 (lv_at hl 7 rfl) ?_
    obtain ⟨hk128, h⟩ := h
    obtain ⟨hi129, h⟩ := h
    refine pq_iald (pc := 108) hx hb hK hP hk128 hi129 d_Mo_countAt_108 ?_
    refine lv_icmp_ge (pc := 109) (tgt := 148) hx hb d_Mo_countAt_109 (by decide) (fun c141 => ?_) (fun c141 => ?_)
    · replace h := h.1 c141
      exact wk_Mo_countAt_148 hfl C hmg hr hin htab HK8 a0 x1 x2 x3 x4 x5 x6 t0 _ _ _ _ h hO (lv_sub hl [1, 2, 3, 4, 5, 6, 7, 0] rfl) (show cells + 0 ≤ 0 by omega) (show slots + 0 ≤ 0 by omega)
    · replace h := h.2 c141
      refine lv_iload_n (pc := 112) hx hb d_Mo_countAt_112 rfl (lv_at hl 4 rfl) ?_
      refine lv_iload (pc := 113) hx hb d_Mo_countAt_113 (lv_at hl 0 rfl) ?_
      refine lv_iload_n (pc := 115) hx hb d_Mo_countAt_115 rfl (lv_at hl 3 rfl) ?_
      refine lv_aload_n (pc := 116) hx hb d_Mo_countAt_116 rfl (lv_at hl 1 rfl) ?_
      obtain ⟨a130, ea130, h⟩ := h
      refine pq_geta (pc := 117) (f := 497) hx hb hT hK hP L47_12 hk123 rfl ea130 d_Mo_countAt_117 ?_
      refine lv_iload (pc := 120) hx hb d_Mo_countAt_120 (lv_at hl 7 rfl) ?_
      refine lv_iconst (pc := 122) (v := 1) hx hb d_Mo_countAt_122 (by decide) ?_
      refine lv_isub (pc := 123) hx hb d_Mo_countAt_123 ?_
      obtain ⟨hk131, h⟩ := h
      obtain ⟨hi132, h⟩ := h
      refine pq_iald (pc := 124) hx hb hK hP hk131 hi132 d_Mo_countAt_124 ?_
      refine lv_isub (pc := 125) hx hb d_Mo_countAt_125 ?_
      refine lv_imul (pc := 126) hx hb d_Mo_countAt_126 ?_
      refine lv_aload_n (pc := 127) hx hb d_Mo_countAt_127 rfl (lv_at hl 1 rfl) ?_
      obtain ⟨a133, ea133, h⟩ := h
      refine pq_geta (pc := 128) (f := 497) hx hb hT hK hP L47_12 hk123 rfl ea133 d_Mo_countAt_128 ?_
      refine lv_iload (pc := 131) hx hb d_Mo_countAt_131 (lv_at hl 7 rfl) ?_
      obtain ⟨hk134, h⟩ := h
      obtain ⟨hi135, h⟩ := h
      refine pq_iald (pc := 133) hx hb hK hP hk134 hi135 d_Mo_countAt_133 ?_
      refine lv_aload_n (pc := 134) hx hb d_Mo_countAt_134 rfl (lv_at hl 1 rfl) ?_
      obtain ⟨a136, ea136, h⟩ := h
      refine pq_geta (pc := 135) (f := 497) hx hb hT hK hP L47_12 hk123 rfl ea136 d_Mo_countAt_135 ?_
      refine lv_iload (pc := 138) hx hb d_Mo_countAt_138 (lv_at hl 7 rfl) ?_
      refine lv_iconst (pc := 140) (v := 1) hx hb d_Mo_countAt_140 (by decide) ?_
      refine lv_isub (pc := 141) hx hb d_Mo_countAt_141 ?_
      obtain ⟨hk137, h⟩ := h
      obtain ⟨hi138, h⟩ := h
      refine pq_iald (pc := 142) hx hb hK hP hk137 hi138 d_Mo_countAt_142 ?_
      refine lv_isub (pc := 143) hx hb d_Mo_countAt_143 ?_
      obtain ⟨hd139, h⟩ := h
      refine lv_idiv (pc := 144) hx hb d_Mo_countAt_144 hd139 ?_
      refine lv_iadd (pc := 145) hx hb d_Mo_countAt_145 ?_
      refine lv_topi (fun x140 ex140 => ?_)
      replace h := h x140 ex140
      refine lv_istore (pc := 146) (lv' := [(4, .int x140), (7, .int t0), (0, .ref a0), (1, .int x1), (2, .int x2), (3, .int x3), (5, .int x5), (6, .int x6)]) hx hb d_Mo_countAt_146 hl (by decide) rfl (fun ls hl => ?_)
      exact wk_Mo_countAt_148 hfl C hmg hr hin htab HK8 a0 x1 x2 x3 x140 x5 x6 t0 _ _ _ _ h hO (lv_sub hl [2, 3, 4, 5, 0, 6, 7, 1] rfl) (show cells + 0 ≤ 0 by omega) (show slots + 0 ≤ 0 by omega)
set_option maxHeartbeats 4000000 in
set_option maxRecDepth 100000 in
theorem wk_Mo_countAt_64 {p : Program} {l : Launch} {e : Env} {s : State} {m : MethodId} {args : Array Value} {below : List Frame} {meth : Method} {c : Code} {D : pq_D} {P : Pic} {po : Option Value → Pic → Prop} {th : String → Pic → Prop} {K8 : Pic → Nat → Int32 → Int32 → Int32 → Int32 → Int32 → Prop} (hfl : l.flags = flags0) (C : Cx p e s m args meth c prog_15_method_28_code 8 "WaterWorksModel" D P) (hmg : e.platform.magicAccessors = ({} : Platform).magicAccessors) (hr : meth.sig.returnType = (some .int)) (hin : meth.name = "countAt") (htab : c.exceptionTable.toList = tableOf []) (HK8 : ∀ (a0 : Nat) (x1 : Int32) (x2 : Int32) (x3 : Int32) (x4 : Int32) (x5 : Int32) (H : Heap) (cells slots : Nat) (ls : Array Slot), K8 P a0 x1 x2 x3 x4 x5 → So s.heap H → lv_has ls 8 [(0, .ref a0), (1, .int x1), (2, .int x2), (3, .int x3), (4, .int x4), (5, .int x5)] → cells + 0 ≤ 0 → slots + 0 ≤ 0 → W p l e rm_Mo_countAt s m args below meth c H [] cells slots (mt_MQ below (cq_Q D P true po th) args s 0 0 (cq_free P true)) (F0 m 8 ls [])) : ∀ (a0 : Nat) (x1 : Int32) (x2 : Int32) (x3 : Int32) (x4 : Int32) (x5 : Int32) (x6 : Int32) (t0 : Int32) (H : Heap) (cells slots : Nat) (ls : Array Slot), wb_Mo_countAt_64 po th K8 P a0 x1 x2 x3 x4 x5 x6 t0 → So s.heap H → lv_has ls 8 [(0, .ref a0), (1, .int x1), (2, .int x2), (3, .int x3), (4, .int x4), (5, .int x5), (6, .int x6)] → cells + 0 ≤ 0 → slots + 0 ≤ 0 → W p l e rm_Mo_countAt s m args below meth c H [] cells slots (mt_MQ below (cq_Q D P true po th) args s 0 0 (cq_free P true)) (F0 m 64 ls [.int t0]) := by
  intro a0 x1 x2 x3 x4 x5 x6 t0 H cells slots ls h hO hl hcc hss
  obtain ⟨hx, hb, hml, hown, hlocks, htr, hT, hK, hSt, hN, hP0⟩ := id C
  have L44_12 : pq_fl s m args 44 12 16 := ⟨_, "WaterWorksModel", "WaterWorksModel", rfl, by decide, hown, Or.inl (hT _ k_1120 _), (fun _ z => z)⟩
  have L47_12 : pq_fl s m args 47 12 17 := ⟨_, "WaterWorksModel", "WaterWorksModel", rfl, by decide, hown, Or.inl (hT _ k_1121 _), (fun _ z => z)⟩
  have L50_12 : pq_fl s m args 50 12 18 := ⟨_, "WaterWorksModel", "WaterWorksModel", rfl, by decide, hown, Or.inl (hT _ k_1122 _), (fun _ z => z)⟩
  have L53_12 : pq_fl s m args 53 12 19 := ⟨_, "WaterWorksModel", "WaterWorksModel", rfl, by decide, hown, Or.inl (hT _ k_1123 _), (fun _ z => z)⟩
  have L56_12 : pq_fl s m args 56 12 20 := ⟨_, "WaterWorksModel", "WaterWorksModel", rfl, by decide, hown, Or.inl (hT _ k_1124 _), (fun _ z => z)⟩
  have hP : Pi D P H := So.pi hP0 hO
  unfold wb_Mo_countAt_64 at h
  refine lv_istore (pc := 64) (lv' := [(7, .int t0), (0, .ref a0), (1, .int x1), (2, .int x2), (3, .int x3), (4, .int x4), (5, .int x5), (6, .int x6)]) hx hb d_Mo_countAt_64 hl (by decide) rfl (fun ls hl => ?_)
  refine lv_iload (pc := 66) hx hb d_Mo_countAt_66 (lv_at hl 0 rfl) ?_
  refine lv_if_ge (pc := 68) (tgt := 84) hx hb d_Mo_countAt_68 (by decide) (fun c122 => ?_) (fun c122 => ?_)
  · replace h := h.1 c122
    refine lv_iload (pc := 84) hx hb d_Mo_countAt_84 (lv_at hl 0 rfl) ?_
    exact wk_Mo_countAt_86 hfl C hmg hr hin htab HK8 a0 x1 x2 x3 x4 x5 x6 t0 _ _ _ _ h hO (lv_sub hl [1, 2, 3, 4, 5, 6, 7] rfl) (show cells + 0 ≤ 0 by omega) (show slots + 0 ≤ 0 by omega)
  · replace h := h.2 c122
    refine lv_iload (pc := 71) hx hb d_Mo_countAt_71 (lv_at hl 0 rfl) ?_
    refine lv_aload_n (pc := 73) hx hb d_Mo_countAt_73 rfl (lv_at hl 1 rfl) ?_
    obtain ⟨hk118, h⟩ := h
    obtain ⟨a119, ea119, h⟩ := h
    refine pq_geta (pc := 74) (f := 499) hx hb hT hK hP L53_12 hk118 rfl ea119 d_Mo_countAt_74 ?_
    refine lv_iload (pc := 77) hx hb d_Mo_countAt_77 (lv_at hl 7 rfl) ?_
    obtain ⟨hk120, h⟩ := h
    obtain ⟨hi121, h⟩ := h
    refine pq_iald (pc := 79) hx hb hK hP hk120 hi121 d_Mo_countAt_79 ?_
    refine lv_iadd (pc := 80) hx hb d_Mo_countAt_80 ?_
    refine lv_goto (pc := 81) (tgt := 86) hx hb d_Mo_countAt_81 (by decide) ?_
    exact wk_Mo_countAt_86 hfl C hmg hr hin htab HK8 a0 x1 x2 x3 x4 x5 x6 (t0 + (p_ai P a119 (Int32.toNatClampNeg x6))) _ _ _ _ h hO (lv_sub hl [1, 2, 3, 4, 5, 6, 7] rfl) (show cells + 0 ≤ 0 by omega) (show slots + 0 ≤ 0 by omega)
set_option maxHeartbeats 4000000 in
set_option maxRecDepth 100000 in
theorem wk_Mo_countAt_8 {p : Program} {l : Launch} {e : Env} {s : State} {m : MethodId} {args : Array Value} {below : List Frame} {meth : Method} {c : Code} {D : pq_D} {P : Pic} {po : Option Value → Pic → Prop} {th : String → Pic → Prop} {K8 : Pic → Nat → Int32 → Int32 → Int32 → Int32 → Int32 → Prop} (hfl : l.flags = flags0) (C : Cx p e s m args meth c prog_15_method_28_code 8 "WaterWorksModel" D P) (hmg : e.platform.magicAccessors = ({} : Platform).magicAccessors) (hr : meth.sig.returnType = (some .int)) (hin : meth.name = "countAt") (htab : c.exceptionTable.toList = tableOf []) (HK8 : ∀ (a0 : Nat) (x1 : Int32) (x2 : Int32) (x3 : Int32) (x4 : Int32) (x5 : Int32) (H : Heap) (cells slots : Nat) (ls : Array Slot), K8 P a0 x1 x2 x3 x4 x5 → So s.heap H → lv_has ls 8 [(0, .ref a0), (1, .int x1), (2, .int x2), (3, .int x3), (4, .int x4), (5, .int x5)] → cells + 0 ≤ 0 → slots + 0 ≤ 0 → W p l e rm_Mo_countAt s m args below meth c H [] cells slots (mt_MQ below (cq_Q D P true po th) args s 0 0 (cq_free P true)) (F0 m 8 ls [])) : ∀ (a0 : Nat) (x1 : Int32) (x2 : Int32) (x3 : Int32) (x4 : Int32) (x5 : Int32) (H : Heap) (cells slots : Nat) (ls : Array Slot), wb_Mo_countAt_8 po th K8 P a0 x1 x2 x3 x4 x5 → So s.heap H → lv_has ls 8 [(0, .ref a0), (1, .int x1), (2, .int x2), (3, .int x3), (4, .int x4), (5, .int x5)] → cells + 0 ≤ 0 → slots + 0 ≤ 0 → W p l e rm_Mo_countAt s m args below meth c H [] cells slots (mt_MQ below (cq_Q D P true po th) args s 0 0 (cq_free P true)) (F0 m 8 ls []) := by
  intro a0 x1 x2 x3 x4 x5 H cells slots ls h hO hl hcc hss
  obtain ⟨hx, hb, hml, hown, hlocks, htr, hT, hK, hSt, hN, hP0⟩ := id C
  have L44_12 : pq_fl s m args 44 12 16 := ⟨_, "WaterWorksModel", "WaterWorksModel", rfl, by decide, hown, Or.inl (hT _ k_1120 _), (fun _ z => z)⟩
  have L47_12 : pq_fl s m args 47 12 17 := ⟨_, "WaterWorksModel", "WaterWorksModel", rfl, by decide, hown, Or.inl (hT _ k_1121 _), (fun _ z => z)⟩
  have L50_12 : pq_fl s m args 50 12 18 := ⟨_, "WaterWorksModel", "WaterWorksModel", rfl, by decide, hown, Or.inl (hT _ k_1122 _), (fun _ z => z)⟩
  have L53_12 : pq_fl s m args 53 12 19 := ⟨_, "WaterWorksModel", "WaterWorksModel", rfl, by decide, hown, Or.inl (hT _ k_1123 _), (fun _ z => z)⟩
  have L56_12 : pq_fl s m args 56 12 20 := ⟨_, "WaterWorksModel", "WaterWorksModel", rfl, by decide, hown, Or.inl (hT _ k_1124 _), (fun _ z => z)⟩
  have hP : Pi D P H := So.pi hP0 hO
  unfold wb_Mo_countAt_8 at h
  refine lv_iload (pc := 8) hx hb d_Mo_countAt_8 (lv_at hl 5 rfl) ?_
  refine lv_aload_n (pc := 10) hx hb d_Mo_countAt_10 rfl (lv_at hl 0 rfl) ?_
  obtain ⟨hk101, h⟩ := h
  obtain ⟨a102, ea102, h⟩ := h
  refine pq_geta (pc := 11) (f := 496) hx hb hT hK hP L44_12 hk101 rfl ea102 d_Mo_countAt_11 ?_
  refine lv_iload_n (pc := 14) hx hb d_Mo_countAt_14 rfl (lv_at hl 1 rfl) ?_
  obtain ⟨hk103, h⟩ := h
  obtain ⟨hi104, h⟩ := h
  refine pq_iald (pc := 15) hx hb hK hP hk103 hi104 d_Mo_countAt_15 ?_
  refine lv_icmp_ge (pc := 16) (tgt := 178) hx hb d_Mo_countAt_16 (by decide) (fun c117 => ?_) (fun c117 => ?_)
  · replace h := h.1 c117
    refine lv_iload (pc := 178) hx hb d_Mo_countAt_178 (lv_at hl 4 rfl) ?_
    exact wo_i (pc := 180) hx hb hlocks hr hP0 hO (show cells + 0 ≤ 0 by omega) (show slots + 0 ≤ 0 by omega) h d_Mo_countAt_180
  · replace h := h.2 c117
    refine lv_bipush (pc := 19) (v := 24) hx hb d_Mo_countAt_19 (by decide) ?_
    refine lv_iload_n (pc := 21) hx hb d_Mo_countAt_21 rfl (lv_at hl 1 rfl) ?_
    refine lv_imul (pc := 22) hx hb d_Mo_countAt_22 ?_
    refine lv_iload (pc := 23) hx hb d_Mo_countAt_23 (lv_at hl 5 rfl) ?_
    refine lv_iadd (pc := 25) hx hb d_Mo_countAt_25 ?_
    refine lv_topi (fun x105 ex105 => ?_)
    replace h := h x105 ex105
    refine lv_istore (pc := 26) (lv' := [(6, .int x105), (0, .ref a0), (1, .int x1), (2, .int x2), (3, .int x3), (4, .int x4), (5, .int x5)]) hx hb d_Mo_countAt_26 hl (by decide) rfl (fun ls hl => ?_)
    refine lv_iload (pc := 28) hx hb d_Mo_countAt_28 (lv_at hl 6 rfl) ?_
    refine lv_if_le (pc := 30) (tgt := 153) hx hb d_Mo_countAt_30 (by decide) (fun c116 => ?_) (fun c116 => ?_)
    · replace h := h.1 c116
      exact wk_Mo_countAt_153 hfl C hmg hr hin htab HK8 a0 x1 x2 x3 x4 x5 x105 _ _ _ _ h hO (lv_sub hl [1, 2, 3, 4, 5, 6, 0] rfl) (show cells + 0 ≤ 0 by omega) (show slots + 0 ≤ 0 by omega)
    · replace h := h.2 c116
      refine lv_aload_n (pc := 33) hx hb d_Mo_countAt_33 rfl (lv_at hl 1 rfl) ?_
      obtain ⟨a106, ea106, h⟩ := h
      refine pq_geta (pc := 34) (f := 500) hx hb hT hK hP L56_12 hk101 rfl ea106 d_Mo_countAt_34 ?_
      refine lv_iload (pc := 37) hx hb d_Mo_countAt_37 (lv_at hl 0 rfl) ?_
      obtain ⟨hk107, h⟩ := h
      obtain ⟨hi108, h⟩ := h
      refine pq_zald (pc := 39) hx hb hK hP hk107 hi108 d_Mo_countAt_39 ?_
      refine lv_if_eq (pc := 40) (tgt := 47) hx hb d_Mo_countAt_40 (by decide) (fun c115 => ?_) (fun c115 => ?_)
      · replace h := h.1 c115
        refine lv_aload_n (pc := 47) hx hb d_Mo_countAt_47 rfl (lv_at hl 1 rfl) ?_
        obtain ⟨a109, ea109, h⟩ := h
        refine pq_geta (pc := 48) (f := 498) hx hb hT hK hP L50_12 hk101 rfl ea109 d_Mo_countAt_48 ?_
        refine lv_iload (pc := 51) hx hb d_Mo_countAt_51 (lv_at hl 0 rfl) ?_
        obtain ⟨hk110, h⟩ := h
        obtain ⟨hi111, h⟩ := h
        refine pq_iald (pc := 53) hx hb hK hP hk110 hi111 d_Mo_countAt_53 ?_
        refine lv_aload_n (pc := 54) hx hb d_Mo_countAt_54 rfl (lv_at hl 1 rfl) ?_
        obtain ⟨a112, ea112, h⟩ := h
        refine pq_geta (pc := 55) (f := 498) hx hb hT hK hP L50_12 hk101 rfl ea112 d_Mo_countAt_55 ?_
        refine lv_iload (pc := 58) hx hb d_Mo_countAt_58 (lv_at hl 0 rfl) ?_
        refine lv_iconst (pc := 60) (v := 1) hx hb d_Mo_countAt_60 (by decide) ?_
        refine lv_isub (pc := 61) hx hb d_Mo_countAt_61 ?_
        obtain ⟨hk113, h⟩ := h
        obtain ⟨hi114, h⟩ := h
        refine pq_iald (pc := 62) hx hb hK hP hk113 hi114 d_Mo_countAt_62 ?_
        refine lv_isub (pc := 63) hx hb d_Mo_countAt_63 ?_
        exact wk_Mo_countAt_64 hfl C hmg hr hin htab HK8 a0 x1 x2 x3 x4 x5 x105 ((p_ai P a109 (Int32.toNatClampNeg x105)) - (p_ai P a112 (Int32.toNatClampNeg (x105 - (1 : Int32))))) _ _ _ _ h hO (lv_sub hl [1, 2, 3, 4, 5, 6, 0] rfl) (show cells + 0 ≤ 0 by omega) (show slots + 0 ≤ 0 by omega)
      · replace h := h.2 c115
        refine lv_iconst (pc := 43) (v := 0) hx hb d_Mo_countAt_43 (by decide) ?_
        refine lv_goto (pc := 44) (tgt := 64) hx hb d_Mo_countAt_44 (by decide) ?_
        exact wk_Mo_countAt_64 hfl C hmg hr hin htab HK8 a0 x1 x2 x3 x4 x5 x105 (0 : Int32) _ _ _ _ h hO (lv_sub hl [1, 2, 3, 4, 5, 6, 0] rfl) (show cells + 0 ≤ 0 by omega) (show slots + 0 ≤ 0 by omega)
theorem wm_Mo_countAt_8 {p : Program} {l : Launch} {e : Env} {s : State} {m : MethodId} {args : Array Value} {below : List Frame} {meth : Method} {c : Code} {D : pq_D} {P : Pic} {po : Option Value → Pic → Prop} {th : String → Pic → Prop} (hfl : l.flags = flags0) (C : Cx p e s m args meth c prog_15_method_28_code 8 "WaterWorksModel" D P) (hmg : e.platform.magicAccessors = ({} : Platform).magicAccessors) (hr : meth.sig.returnType = (some .int)) (hin : meth.name = "countAt") (htab : c.exceptionTable.toList = tableOf []) : ∀ n : Nat, ∀ (a0 : Nat) (x1 : Int32) (x2 : Int32) (x3 : Int32) (x4 : Int32) (x5 : Int32) (H : Heap) (cells slots : Nat) (ls : Array Slot), wl_Mo_countAt_8 po th n P a0 x1 x2 x3 x4 x5 → So s.heap H → lv_has ls 8 [(0, .ref a0), (1, .int x1), (2, .int x2), (3, .int x3), (4, .int x4), (5, .int x5)] → cells + 0 ≤ 0 → slots + 0 ≤ 0 → W p l e rm_Mo_countAt s m args below meth c H [] cells slots (mt_MQ below (cq_Q D P true po th) args s 0 0 (cq_free P true)) (F0 m 8 ls []) := by
  intro n
  induction n with
  | zero => intro a0 x1 x2 x3 x4 x5 H cells slots ls h; exact h.elim
  | succ n ih => exact wk_Mo_countAt_8 hfl C hmg hr hin htab ih
set_option maxHeartbeats 4000000 in
set_option maxRecDepth 100000 in
theorem ct_Mo_countAt {l : Launch} (hfl : l.flags = flags0) (D : pq_D) {po : Option Value → Pic → Prop} {th : String → Pic → Prop} {P : Pic} {a0 : Nat} {x1 : Int32} {x2 : Int32} (h : wp_Mo_countAt po th P a0 x1 x2) : CT l D y_Mo_countAt (.code y_Mo_countAt prog_15_method_28_code 8 (some .int)) rm_Mo_countAt true [.ref a0, .int x1, .int x2] P po th := by
  refine ct_of (hs := []) hfl (by decide +kernel) (Or.inl ⟨rfl, rfl⟩) (Nat.le_of_ble_eq_true rfl) ?_
  intro p e s m below meth c C hmg hr hin htab ls hl
  have hl : lv_has ls 8 [(0, .ref a0), (1, .int x1), (2, .int x2)] := hl
  generalize hargs : ([.ref a0, .int x1, .int x2] : List Value).toArray = args at C ⊢
  obtain ⟨hx, hb, hml, hown, hlocks, htr, hT, hK, hSt, hN, hP0⟩ := id C
  have L44_12 : pq_fl s m args 44 12 16 := ⟨_, "WaterWorksModel", "WaterWorksModel", rfl, by decide, hown, Or.inl (hT _ k_1120 _), (fun _ z => z)⟩
  have L47_12 : pq_fl s m args 47 12 17 := ⟨_, "WaterWorksModel", "WaterWorksModel", rfl, by decide, hown, Or.inl (hT _ k_1121 _), (fun _ z => z)⟩
  have L50_12 : pq_fl s m args 50 12 18 := ⟨_, "WaterWorksModel", "WaterWorksModel", rfl, by decide, hown, Or.inl (hT _ k_1122 _), (fun _ z => z)⟩
  have L53_12 : pq_fl s m args 53 12 19 := ⟨_, "WaterWorksModel", "WaterWorksModel", rfl, by decide, hown, Or.inl (hT _ k_1123 _), (fun _ z => z)⟩
  have L56_12 : pq_fl s m args 56 12 20 := ⟨_, "WaterWorksModel", "WaterWorksModel", rfl, by decide, hown, Or.inl (hT _ k_1124 _), (fun _ z => z)⟩
  have hO : So s.heap s.heap := So.rf
  have hP : Pi D P s.heap := hP0
  unfold wp_Mo_countAt at h
  refine lv_iconst (pc := 0) (v := 0) hx hb d_Mo_countAt_0 (by decide) ?_
  refine lv_istore_n (pc := 1) (lv' := [(3, .int (0 : Int32)), (0, .ref a0), (1, .int x1), (2, .int x2)]) hx hb d_Mo_countAt_1 rfl hl (by decide) rfl (fun ls hl => ?_)
  refine lv_iconst (pc := 2) (v := (-1)) hx hb d_Mo_countAt_2 (by decide) ?_
  refine lv_istore (pc := 3) (lv' := [(4, .int (-1 : Int32)), (3, .int (0 : Int32)), (0, .ref a0), (1, .int x1), (2, .int x2)]) hx hb d_Mo_countAt_3 hl (by decide) rfl (fun ls hl => ?_)
  refine lv_iconst (pc := 5) (v := 0) hx hb d_Mo_countAt_5 (by decide) ?_
  refine lv_istore (pc := 6) (lv' := [(5, .int (0 : Int32)), (4, .int (-1 : Int32)), (3, .int (0 : Int32)), (0, .ref a0), (1, .int x1), (2, .int x2)]) hx hb d_Mo_countAt_6 hl (by decide) rfl (fun ls hl => ?_)
  obtain ⟨n, h⟩ := h
  exact wm_Mo_countAt_8 hfl C hmg hr hin htab n a0 x1 x2 (0 : Int32) (-1 : Int32) (0 : Int32) _ _ _ _ h hO (lv_sub hl [3, 4, 5, 2, 1, 0] rfl) (show 0 + 0 ≤ 0 by omega) (show 0 + 0 ≤ 0 by omega)
/-! WaterWorksModel.used(III)I -/
abbrev y_Mo_used : MethodName := ⟨"WaterWorksModel", "used", "(III)I"⟩
abbrev rm_Mo_used : Room := { frames := 2, cells := 0, slots := 0, locals := 67 }
theorem h_Mo_used : y_Mo_used.cls ≠ "java/lang/invoke/MethodHandle" ∧ y_Mo_used.cls ≠ "java/lang/invoke/VarHandle" := by decide +kernel
theorem n_Mo_used : (parseMethodDescriptor y_Mo_used.desc).map (fun d => d.parameters.length) = some 3 := by decide +kernel
theorem d_Mo_used_0 : decode prog_15_method_29_code 0 = .ok (.aload_n 0, 1) := by decide +kernel
theorem d_Mo_used_1 : decode prog_15_method_29_code 1 = .ok (.aload_n 0, 1) := by decide +kernel
theorem d_Mo_used_2 : decode prog_15_method_29_code 2 = .ok (.iload_n 1, 1) := by decide +kernel
theorem d_Mo_used_3 : decode prog_15_method_29_code 3 = .ok (.invokevirtual 108, 3) := by decide +kernel
theorem d_Mo_used_6 : decode prog_15_method_29_code 6 = .ok (.ifCond .eq 7, 3) := by decide +kernel
theorem d_Mo_used_9 : decode prog_15_method_29_code 9 = .ok (.iconst 1, 1) := by decide +kernel
theorem d_Mo_used_10 : decode prog_15_method_29_code 10 = .ok (.goto 35, 3) := by decide +kernel
theorem d_Mo_used_13 : decode prog_15_method_29_code 13 = .ok (.iload_n 3, 1) := by decide +kernel
theorem d_Mo_used_14 : decode prog_15_method_29_code 14 = .ok (.iload_n 2, 1) := by decide +kernel
theorem d_Mo_used_15 : decode prog_15_method_29_code 15 = .ok (.if_icmp .ge 7, 3) := by decide +kernel
theorem d_Mo_used_18 : decode prog_15_method_29_code 18 = .ok (.iconst 2, 1) := by decide +kernel
theorem d_Mo_used_19 : decode prog_15_method_29_code 19 = .ok (.goto 26, 3) := by decide +kernel
theorem d_Mo_used_22 : decode prog_15_method_29_code 22 = .ok (.aload_n 0, 1) := by decide +kernel
theorem d_Mo_used_23 : decode prog_15_method_29_code 23 = .ok (.iload_n 1, 1) := by decide +kernel
theorem d_Mo_used_24 : decode prog_15_method_29_code 24 = .ok (.iload_n 2, 1) := by decide +kernel
theorem d_Mo_used_25 : decode prog_15_method_29_code 25 = .ok (.invokevirtual 132, 3) := by decide +kernel
theorem d_Mo_used_28 : decode prog_15_method_29_code 28 = .ok (.ifCond .lt 12, 3) := by decide +kernel
theorem d_Mo_used_31 : decode prog_15_method_29_code 31 = .ok (.aload_n 0, 1) := by decide +kernel
theorem d_Mo_used_32 : decode prog_15_method_29_code 32 = .ok (.iload_n 1, 1) := by decide +kernel
theorem d_Mo_used_33 : decode prog_15_method_29_code 33 = .ok (.iload_n 3, 1) := by decide +kernel
theorem d_Mo_used_34 : decode prog_15_method_29_code 34 = .ok (.invokevirtual 132, 3) := by decide +kernel
theorem d_Mo_used_37 : decode prog_15_method_29_code 37 = .ok (.ifCond .ge 7, 3) := by decide +kernel
theorem d_Mo_used_40 : decode prog_15_method_29_code 40 = .ok (.iconst 3, 1) := by decide +kernel
theorem d_Mo_used_41 : decode prog_15_method_29_code 41 = .ok (.goto 4, 3) := by decide +kernel
theorem d_Mo_used_44 : decode prog_15_method_29_code 44 = .ok (.iconst 0, 1) := by decide +kernel
theorem d_Mo_used_45 : decode prog_15_method_29_code 45 = .ok (.putfield 81, 3) := by decide +kernel
theorem d_Mo_used_48 : decode prog_15_method_29_code 48 = .ok (.aload_n 0, 1) := by decide +kernel
theorem d_Mo_used_49 : decode prog_15_method_29_code 49 = .ok (.getfield 81, 3) := by decide +kernel
theorem d_Mo_used_52 : decode prog_15_method_29_code 52 = .ok (.ifCond .le 7, 3) := by decide +kernel
theorem d_Mo_used_55 : decode prog_15_method_29_code 55 = .ok (.iconst 0, 1) := by decide +kernel
theorem d_Mo_used_56 : decode prog_15_method_29_code 56 = .ok (.goto 16, 3) := by decide +kernel
theorem d_Mo_used_59 : decode prog_15_method_29_code 59 = .ok (.aload_n 0, 1) := by decide +kernel
theorem d_Mo_used_60 : decode prog_15_method_29_code 60 = .ok (.iload_n 1, 1) := by decide +kernel
theorem d_Mo_used_61 : decode prog_15_method_29_code 61 = .ok (.iload_n 3, 1) := by decide +kernel
theorem d_Mo_used_62 : decode prog_15_method_29_code 62 = .ok (.invokevirtual 132, 3) := by decide +kernel
theorem d_Mo_used_65 : decode prog_15_method_29_code 65 = .ok (.aload_n 0, 1) := by decide +kernel
theorem d_Mo_used_66 : decode prog_15_method_29_code 66 = .ok (.iload_n 1, 1) := by decide +kernel
theorem d_Mo_used_67 : decode prog_15_method_29_code 67 = .ok (.iload_n 2, 1) := by decide +kernel
theorem d_Mo_used_68 : decode prog_15_method_29_code 68 = .ok (.invokevirtual 132, 3) := by decide +kernel
theorem d_Mo_used_71 : decode prog_15_method_29_code 71 = .ok (.isub, 1) := by decide +kernel
theorem d_Mo_used_72 : decode prog_15_method_29_code 72 = .ok (.ireturn, 1) := by decide +kernel
def wb_Mo_used_45 (po : Option Value → Pic → Prop) (th : String → Pic → Prop) (P : Pic) (a0 : Nat) (x1 : Int32) (x2 : Int32) (x3 : Int32) (t0 : Int32) (t1 : Nat) : Prop := p_k P t1 = 13 ∧ p_k (s_i P 480 t1 t0) a0 = 13 ∧ (((p_i (s_i P 480 t1 t0) 480 a0) ≤ 0 → (wp_Mo_countAt (cp_i fun x111 _ => wp_Mo_countAt (cp_i fun x112 _ => po (some (.int (x111 - x112))) (s_i P 480 t1 t0)) th (s_i P 480 t1 t0) a0 x1 x2) th (s_i P 480 t1 t0) a0 x1 x3)) ∧ (¬ (p_i (s_i P 480 t1 t0) 480 a0) ≤ 0 → (po (some (.int (0 : Int32))) (s_i P 480 t1 t0))))
def wb_Mo_used_40 (po : Option Value → Pic → Prop) (th : String → Pic → Prop) (P : Pic) (a0 : Nat) (x1 : Int32) (x2 : Int32) (x3 : Int32) (t0 : Nat) : Prop := wb_Mo_used_45 po th P a0 x1 x2 x3 (3 : Int32) t0
def wp_Mo_used (po : Option Value → Pic → Prop) (th : String → Pic → Prop) (P : Pic) (a0 : Nat) (x1 : Int32) (x2 : Int32) (x3 : Int32) : Prop := p_k P a0 = 13 ∧ wp_Mo_noCustomer (cp_i fun x102 _ => ((x102 = 0 → (((x2 ≤ x3 → (wp_Mo_countAt (cp_i fun x103 _ => ((x103 < 0 → (wb_Mo_used_40 po th P a0 x1 x2 x3 a0)) ∧ (¬ x103 < 0 → (wp_Mo_countAt (cp_i fun x104 _ => ((0 ≤ x104 → (wb_Mo_used_45 po th P a0 x1 x2 x3 (0 : Int32) a0)) ∧ (¬ 0 ≤ x104 → (wb_Mo_used_40 po th P a0 x1 x2 x3 a0)))) th P a0 x1 x3)))) th P a0 x1 x2)) ∧ (¬ x2 ≤ x3 → (wb_Mo_used_45 po th P a0 x1 x2 x3 (2 : Int32) a0))))) ∧ (¬ x102 = 0 → (wb_Mo_used_45 po th P a0 x1 x2 x3 (1 : Int32) a0)))) th P a0 x1
set_option maxHeartbeats 4000000 in
set_option maxRecDepth 100000 in
theorem wk_Mo_used_45 {p : Program} {l : Launch} {e : Env} {s : State} {m : MethodId} {args : Array Value} {below : List Frame} {meth : Method} {c : Code} {D : pq_D} {P0 : Pic} {po : Option Value → Pic → Prop} {th : String → Pic → Prop} (hfl : l.flags = flags0) (C : Cx p e s m args meth c prog_15_method_29_code 4 "WaterWorksModel" D P0) (hmg : e.platform.magicAccessors = ({} : Platform).magicAccessors) (hr : meth.sig.returnType = (some .int)) (hin : meth.name = "used") (htab : c.exceptionTable.toList = tableOf []) : ∀ (P : Pic) (a0 : Nat) (x1 : Int32) (x2 : Int32) (x3 : Int32) (t0 : Int32) (t1 : Nat) (H : Heap) (locs : List Loc) (cells slots : Nat) (ls : Array Slot), wb_Mo_used_45 po th P a0 x1 x2 x3 t0 t1 → Pi D P H → Sg (cq_A P0 s) s.heap H P locs → lv_has ls 4 [(0, .ref a0), (1, .int x1), (2, .int x2), (3, .int x3)] → cells + 0 ≤ 0 → slots + 0 ≤ 0 → W p l e rm_Mo_used s m args below meth c H locs cells slots (mt_MQ below (cq_Q D P0 false po th) args s 0 0 (cq_free P0 false)) (F0 m 45 ls [.int t0, .ref t1]) := by
  intro P a0 x1 x2 x3 t0 t1 H locs cells slots ls h hP hS hl hcc hss
  obtain ⟨hx, hb, hml, hown, hlocks, htr, hT, hK, hSt, hN, hP0⟩ := id C
  have L81_12 : pq_fl s m args 81 12 0 := ⟨_, "WaterWorksModel", "WaterWorksModel", rfl, by decide, hown, Or.inl (hT _ k_1104 _), (fun _ z => z)⟩
  unfold wb_Mo_used_45 at h
  obtain ⟨hk109, h⟩ := h
  refine pq_puti (pc := 45) (f := 480) hx hb hT hK hP hS L81_12 hk109 rfl rfl rfl rfl d_Mo_used_45 (fun H locs hP hS => ?_)
  have hk109 : p_k (s_i P 480 t1 t0) t1 = 13 := by rw [pk_i]; exact hk109
  refine lv_aload_n (pc := 48) hx hb d_Mo_used_48 rfl (lv_at hl 0 rfl) ?_
  obtain ⟨hk110, h⟩ := h
  refine pq_geti (pc := 49) (f := 480) hx hb hT hK hP L81_12 hk110 rfl d_Mo_used_49 ?_
  refine lv_if_le (pc := 52) (tgt := 59) hx hb d_Mo_used_52 (by decide) (fun c113 => ?_) (fun c113 => ?_)
  · replace h := h.1 c113
    refine lv_aload_n (pc := 59) hx hb d_Mo_used_59 rfl (lv_at hl 0 rfl) ?_
    refine lv_iload_n (pc := 60) hx hb d_Mo_used_60 rfl (lv_at hl 1 rfl) ?_
    refine lv_iload_n (pc := 61) hx hb d_Mo_used_61 rfl (lv_at hl 3 rfl) ?_
    refine cr_i (pc := 62) C (rest := []) (mt_invV (As := [.int x1, .int x3]) hx hb hown (hT _ k_1303 _) (hT _ k_1305 _) (hT _ ks_27 _) (mt_Cd.code (hT _ k_1306 #[])) h_Mo_countAt (pq_recv hK hP hk110 rfl) n_Mo_countAt rfl d_Mo_used_62) (ct_Mo_countAt hfl D h) k_1306 k_24 ⟨Nat.le_of_ble_eq_true rfl, Nat.le_of_ble_eq_true rfl⟩ ⟨(show cells + 0 ≤ 0 by omega), (show slots + 0 ≤ 0 by omega)⟩ hl.1 d_Mo_used_62 (Nat.le_of_ble_eq_true rfl) hP hS (fun x111 H locs h hP hS => ?_) (fun xx X H locs h hX hex hP hS => ?_)
    · refine lv_aload_n (pc := 65) hx hb d_Mo_used_65 rfl (lv_at hl 0 rfl) ?_
      refine lv_iload_n (pc := 66) hx hb d_Mo_used_66 rfl (lv_at hl 1 rfl) ?_
      refine lv_iload_n (pc := 67) hx hb d_Mo_used_67 rfl (lv_at hl 2 rfl) ?_
      refine cr_i (pc := 68) C (rest := [.int x111]) (mt_invV (As := [.int x1, .int x2]) hx hb hown (hT _ k_1303 _) (hT _ k_1305 _) (hT _ ks_27 _) (mt_Cd.code (hT _ k_1306 #[])) h_Mo_countAt (pq_recv hK hP hk110 rfl) n_Mo_countAt rfl d_Mo_used_68) (ct_Mo_countAt hfl D h) k_1306 k_24 ⟨Nat.le_of_ble_eq_true rfl, Nat.le_of_ble_eq_true rfl⟩ ⟨(show cells + 0 + 0 ≤ 0 by omega), (show slots + 0 + 0 ≤ 0 by omega)⟩ hl.1 d_Mo_used_68 (Nat.le_of_ble_eq_true rfl) hP hS (fun x112 H locs h hP hS => ?_) (fun xx X H locs h hX hex hP hS => ?_)
      · refine lv_isub (pc := 71) hx hb d_Mo_used_71 ?_
        exact we_i (pc := 72) hx hb hlocks hr hP hS (show cells + 0 + 0 + 0 ≤ 0 by omega) (show slots + 0 + 0 + 0 ≤ 0 by omega) h d_Mo_used_72
      · exact cq_out hlocks (pq_nil htab rfl) (show cells + 0 + 0 + 0 ≤ 0 by omega) (show slots + 0 + 0 + 0 ≤ 0 by omega) hX hex hP hS h
    · exact cq_out hlocks (pq_nil htab rfl) (show cells + 0 + 0 ≤ 0 by omega) (show slots + 0 + 0 ≤ 0 by omega) hX hex hP hS h
  · replace h := h.2 c113
    refine lv_iconst (pc := 55) (v := 0) hx hb d_Mo_used_55 (by decide) ?_
    refine lv_goto (pc := 56) (tgt := 72) hx hb d_Mo_used_56 (by decide) ?_
    exact we_i (pc := 72) hx hb hlocks hr hP hS (show cells + 0 ≤ 0 by omega) (show slots + 0 ≤ 0 by omega) h d_Mo_used_72
set_option maxHeartbeats 4000000 in
set_option maxRecDepth 100000 in
theorem wk_Mo_used_40 {p : Program} {l : Launch} {e : Env} {s : State} {m : MethodId} {args : Array Value} {below : List Frame} {meth : Method} {c : Code} {D : pq_D} {P0 : Pic} {po : Option Value → Pic → Prop} {th : String → Pic → Prop} (hfl : l.flags = flags0) (C : Cx p e s m args meth c prog_15_method_29_code 4 "WaterWorksModel" D P0) (hmg : e.platform.magicAccessors = ({} : Platform).magicAccessors) (hr : meth.sig.returnType = (some .int)) (hin : meth.name = "used") (htab : c.exceptionTable.toList = tableOf []) : ∀ (P : Pic) (a0 : Nat) (x1 : Int32) (x2 : Int32) (x3 : Int32) (t0 : Nat) (H : Heap) (locs : List Loc) (cells slots : Nat) (ls : Array Slot), wb_Mo_used_40 po th P a0 x1 x2 x3 t0 → Pi D P H → Sg (cq_A P0 s) s.heap H P locs → lv_has ls 4 [(0, .ref a0), (1, .int x1), (2, .int x2), (3, .int x3)] → cells + 0 ≤ 0 → slots + 0 ≤ 0 → W p l e rm_Mo_used s m args below meth c H locs cells slots (mt_MQ below (cq_Q D P0 false po th) args s 0 0 (cq_free P0 false)) (F0 m 40 ls [.ref t0]) := by
  intro P a0 x1 x2 x3 t0 H locs cells slots ls h hP hS hl hcc hss
  obtain ⟨hx, hb, hml, hown, hlocks, htr, hT, hK, hSt, hN, hP0⟩ := id C
  have L81_12 : pq_fl s m args 81 12 0 := ⟨_, "WaterWorksModel", "WaterWorksModel", rfl, by decide, hown, Or.inl (hT _ k_1104 _), (fun _ z => z)⟩
  unfold wb_Mo_used_40 at h
  refine lv_iconst (pc := 40) (v := 3) hx hb d_Mo_used_40 (by decide) ?_
  refine lv_goto (pc := 41) (tgt := 45) hx hb d_Mo_used_41 (by decide) ?_
  exact wk_Mo_used_45 hfl C hmg hr hin htab _ a0 x1 x2 x3 (3 : Int32) t0 _ _ _ _ _ h hP hS (lv_sub hl [0, 1, 2, 3] rfl) (show cells + 0 ≤ 0 by omega) (show slots + 0 ≤ 0 by omega)
set_option maxHeartbeats 4000000 in
set_option maxRecDepth 100000 in
theorem ct_Mo_used {l : Launch} (hfl : l.flags = flags0) (D : pq_D) {po : Option Value → Pic → Prop} {th : String → Pic → Prop} {P : Pic} {a0 : Nat} {x1 : Int32} {x2 : Int32} {x3 : Int32} (h : wp_Mo_used po th P a0 x1 x2 x3) : CT l D y_Mo_used (.code y_Mo_used prog_15_method_29_code 4 (some .int)) rm_Mo_used false [.ref a0, .int x1, .int x2, .int x3] P po th := by
  refine ct_of (hs := []) hfl (by decide +kernel) (Or.inl ⟨rfl, rfl⟩) (Nat.le_of_ble_eq_true rfl) ?_
  intro p e s m below meth c C hmg hr hin htab ls hl
  have hl : lv_has ls 4 [(0, .ref a0), (1, .int x1), (2, .int x2), (3, .int x3)] := hl
  generalize hargs : ([.ref a0, .int x1, .int x2, .int x3] : List Value).toArray = args at C ⊢
  obtain ⟨hx, hb, hml, hown, hlocks, htr, hT, hK, hSt, hN, hP0⟩ := id C
  have L81_12 : pq_fl s m args 81 12 0 := ⟨_, "WaterWorksModel", "WaterWorksModel", rfl, by decide, hown, Or.inl (hT _ k_1104 _), (fun _ z => z)⟩
  have hP : Pi D P s.heap := hP0
  have hS : Sg (cq_A P s) s.heap s.heap P [] := Sg.start hP0
  unfold wp_Mo_used at h
  refine lv_aload_n (pc := 0) hx hb d_Mo_used_0 rfl (lv_at hl 0 rfl) ?_
  refine lv_aload_n (pc := 1) hx hb d_Mo_used_1 rfl (lv_at hl 0 rfl) ?_
  refine lv_iload_n (pc := 2) hx hb d_Mo_used_2 rfl (lv_at hl 1 rfl) ?_
  obtain ⟨hk101, h⟩ := h
  refine cr_i (pc := 3) C (rest := [.ref a0]) (mt_invV (As := [.int x1]) hx hb hown (hT _ k_1239 _) (hT _ k_1241 _) (hT _ ks_20 _) (mt_Cd.code (hT _ k_1242 #[])) h_Mo_noCustomer (pq_recv hK hP hk101 rfl) n_Mo_noCustomer rfl d_Mo_used_3) (ct_Mo_noCustomer hfl D h) k_1242 k_24 ⟨Nat.le_of_ble_eq_true rfl, Nat.le_of_ble_eq_true rfl⟩ ⟨(show 0 + 0 ≤ 0 by omega), (show 0 + 0 ≤ 0 by omega)⟩ hl.1 d_Mo_used_3 (Nat.le_of_ble_eq_true rfl) hP hS (fun x102 H locs h hP hS => ?_) (fun xx X H locs h hX hex hP hS => ?_)
  · refine lv_if_eq (pc := 6) (tgt := 13) hx hb d_Mo_used_6 (by decide) (fun c108 => ?_) (fun c108 => ?_)
    · replace h := h.1 c108
      refine lv_iload_n (pc := 13) hx hb d_Mo_used_13 rfl (lv_at hl 3 rfl) ?_
      refine lv_iload_n (pc := 14) hx hb d_Mo_used_14 rfl (lv_at hl 2 rfl) ?_
      refine lv_icmp_ge (pc := 15) (tgt := 22) hx hb d_Mo_used_15 (by decide) (fun c107 => ?_) (fun c107 => ?_)
      · replace h := h.1 c107
        refine lv_aload_n (pc := 22) hx hb d_Mo_used_22 rfl (lv_at hl 0 rfl) ?_
        refine lv_iload_n (pc := 23) hx hb d_Mo_used_23 rfl (lv_at hl 1 rfl) ?_
        refine lv_iload_n (pc := 24) hx hb d_Mo_used_24 rfl (lv_at hl 2 rfl) ?_
        refine cr_i (pc := 25) C (rest := [.ref a0]) (mt_invV (As := [.int x1, .int x2]) hx hb hown (hT _ k_1303 _) (hT _ k_1305 _) (hT _ ks_27 _) (mt_Cd.code (hT _ k_1306 #[])) h_Mo_countAt (pq_recv hK hP hk101 rfl) n_Mo_countAt rfl d_Mo_used_25) (ct_Mo_countAt hfl D h) k_1306 k_24 ⟨Nat.le_of_ble_eq_true rfl, Nat.le_of_ble_eq_true rfl⟩ ⟨(show 0 + 0 + 0 ≤ 0 by omega), (show 0 + 0 + 0 ≤ 0 by omega)⟩ hl.1 d_Mo_used_25 (Nat.le_of_ble_eq_true rfl) hP hS (fun x103 H locs h hP hS => ?_) (fun xx X H locs h hX hex hP hS => ?_)
        · refine lv_if_lt (pc := 28) (tgt := 40) hx hb d_Mo_used_28 (by decide) (fun c106 => ?_) (fun c106 => ?_)
          · replace h := h.1 c106
            exact wk_Mo_used_40 hfl C hmg hr hin htab _ a0 x1 x2 x3 a0 _ _ _ _ _ h hP hS (lv_sub hl [0, 1, 2, 3] rfl) (show 0 + 0 + 0 + 0 ≤ 0 by omega) (show 0 + 0 + 0 + 0 ≤ 0 by omega)
          · replace h := h.2 c106
            refine lv_aload_n (pc := 31) hx hb d_Mo_used_31 rfl (lv_at hl 0 rfl) ?_
            refine lv_iload_n (pc := 32) hx hb d_Mo_used_32 rfl (lv_at hl 1 rfl) ?_
            refine lv_iload_n (pc := 33) hx hb d_Mo_used_33 rfl (lv_at hl 3 rfl) ?_
            refine cr_i (pc := 34) C (rest := [.ref a0]) (mt_invV (As := [.int x1, .int x3]) hx hb hown (hT _ k_1303 _) (hT _ k_1305 _) (hT _ ks_27 _) (mt_Cd.code (hT _ k_1306 #[])) h_Mo_countAt (pq_recv hK hP hk101 rfl) n_Mo_countAt rfl d_Mo_used_34) (ct_Mo_countAt hfl D h) k_1306 k_24 ⟨Nat.le_of_ble_eq_true rfl, Nat.le_of_ble_eq_true rfl⟩ ⟨(show 0 + 0 + 0 + 0 ≤ 0 by omega), (show 0 + 0 + 0 + 0 ≤ 0 by omega)⟩ hl.1 d_Mo_used_34 (Nat.le_of_ble_eq_true rfl) hP hS (fun x104 H locs h hP hS => ?_) (fun xx X H locs h hX hex hP hS => ?_)
            · refine lv_if_ge (pc := 37) (tgt := 44) hx hb d_Mo_used_37 (by decide) (fun c105 => ?_) (fun c105 => ?_)
              · replace h := h.1 c105
                refine lv_iconst (pc := 44) (v := 0) hx hb d_Mo_used_44 (by decide) ?_
                exact wk_Mo_used_45 hfl C hmg hr hin htab _ a0 x1 x2 x3 (0 : Int32) a0 _ _ _ _ _ h hP hS (lv_sub hl [0, 1, 2, 3] rfl) (show 0 + 0 + 0 + 0 + 0 ≤ 0 by omega) (show 0 + 0 + 0 + 0 + 0 ≤ 0 by omega)
              · replace h := h.2 c105
                exact wk_Mo_used_40 hfl C hmg hr hin htab _ a0 x1 x2 x3 a0 _ _ _ _ _ h hP hS (lv_sub hl [0, 1, 2, 3] rfl) (show 0 + 0 + 0 + 0 + 0 ≤ 0 by omega) (show 0 + 0 + 0 + 0 + 0 ≤ 0 by omega)
            · exact cq_out hlocks (pq_nil htab rfl) (show 0 + 0 + 0 + 0 + 0 ≤ 0 by omega) (show 0 + 0 + 0 + 0 + 0 ≤ 0 by omega) hX hex hP hS h
        · exact cq_out hlocks (pq_nil htab rfl) (show 0 + 0 + 0 + 0 ≤ 0 by omega) (show 0 + 0 + 0 + 0 ≤ 0 by omega) hX hex hP hS h
      · replace h := h.2 c107
        refine lv_iconst (pc := 18) (v := 2) hx hb d_Mo_used_18 (by decide) ?_
        refine lv_goto (pc := 19) (tgt := 45) hx hb d_Mo_used_19 (by decide) ?_
        exact wk_Mo_used_45 hfl C hmg hr hin htab _ a0 x1 x2 x3 (2 : Int32) a0 _ _ _ _ _ h hP hS (lv_sub hl [0, 1, 2, 3] rfl) (show 0 + 0 + 0 ≤ 0 by omega) (show 0 + 0 + 0 ≤ 0 by omega)
    · replace h := h.2 c108
      refine lv_iconst (pc := 9) (v := 1) hx hb d_Mo_used_9 (by decide) ?_
      refine lv_goto (pc := 10) (tgt := 45) hx hb d_Mo_used_10 (by decide) ?_
      exact wk_Mo_used_45 hfl C hmg hr hin htab _ a0 x1 x2 x3 (1 : Int32) a0 _ _ _ _ _ h hP hS (lv_sub hl [0, 1, 2, 3] rfl) (show 0 + 0 + 0 ≤ 0 by omega) (show 0 + 0 + 0 ≤ 0 by omega)
  · exact cq_out hlocks (pq_nil htab rfl) (show 0 + 0 + 0 ≤ 0 by omega) (show 0 + 0 + 0 ≤ 0 by omega) hX hex hP hS h
/-! WaterWorksModel.tariff(IJ)I -/
abbrev y_Mo_tariff : MethodName := ⟨"WaterWorksModel", "tariff", "(IJ)I"⟩
abbrev rm_Mo_tariff : Room := { frames := 1, cells := 0, slots := 0, locals := 40 }
theorem h_Mo_tariff : y_Mo_tariff.cls ≠ "java/lang/invoke/MethodHandle" ∧ y_Mo_tariff.cls ≠ "java/lang/invoke/VarHandle" := by decide +kernel
theorem n_Mo_tariff : (parseMethodDescriptor y_Mo_tariff.desc).map (fun d => d.parameters.length) = some 2 := by decide +kernel
theorem d_Mo_tariff_0 : decode prog_15_method_30_code 0 = .ok (.iload_n 1, 1) := by decide +kernel
theorem d_Mo_tariff_1 : decode prog_15_method_30_code 1 = .ok (.ifCond .lt 36, 3) := by decide +kernel
theorem d_Mo_tariff_4 : decode prog_15_method_30_code 4 = .ok (.iload_n 1, 1) := by decide +kernel
theorem d_Mo_tariff_5 : decode prog_15_method_30_code 5 = .ok (.sipush 400, 3) := by decide +kernel
theorem d_Mo_tariff_8 : decode prog_15_method_30_code 8 = .ok (.if_icmp .gt 29, 3) := by decide +kernel
theorem d_Mo_tariff_11 : decode prog_15_method_30_code 11 = .ok (.lload_n 2, 1) := by decide +kernel
theorem d_Mo_tariff_12 : decode prog_15_method_30_code 12 = .ok (.lconst 0, 1) := by decide +kernel
theorem d_Mo_tariff_13 : decode prog_15_method_30_code 13 = .ok (.lcmp, 1) := by decide +kernel
theorem d_Mo_tariff_14 : decode prog_15_method_30_code 14 = .ok (.ifCond .lt 23, 3) := by decide +kernel
theorem d_Mo_tariff_17 : decode prog_15_method_30_code 17 = .ok (.lload_n 2, 1) := by decide +kernel
theorem d_Mo_tariff_18 : decode prog_15_method_30_code 18 = .ok (.bipush 50, 2) := by decide +kernel
theorem d_Mo_tariff_20 : decode prog_15_method_30_code 20 = .ok (.lshr, 1) := by decide +kernel
theorem d_Mo_tariff_21 : decode prog_15_method_30_code 21 = .ok (.lconst 0, 1) := by decide +kernel
theorem d_Mo_tariff_22 : decode prog_15_method_30_code 22 = .ok (.lcmp, 1) := by decide +kernel
theorem d_Mo_tariff_23 : decode prog_15_method_30_code 23 = .ok (.ifCond .ne 14, 3) := by decide +kernel
theorem d_Mo_tariff_26 : decode prog_15_method_30_code 26 = .ok (.lload_n 2, 1) := by decide +kernel
theorem d_Mo_tariff_27 : decode prog_15_method_30_code 27 = .ok (.bipush 40, 2) := by decide +kernel
theorem d_Mo_tariff_29 : decode prog_15_method_30_code 29 = .ok (.lshr, 1) := by decide +kernel
theorem d_Mo_tariff_30 : decode prog_15_method_30_code 30 = .ok (.ldc2_w 136, 3) := by decide +kernel
theorem d_Mo_tariff_33 : decode prog_15_method_30_code 33 = .ok (.lcmp, 1) := by decide +kernel
theorem d_Mo_tariff_34 : decode prog_15_method_30_code 34 = .ok (.ifCond .le 7, 3) := by decide +kernel
theorem d_Mo_tariff_37 : decode prog_15_method_30_code 37 = .ok (.iconst 1, 1) := by decide +kernel
theorem d_Mo_tariff_38 : decode prog_15_method_30_code 38 = .ok (.goto 4, 3) := by decide +kernel
theorem d_Mo_tariff_41 : decode prog_15_method_30_code 41 = .ok (.iconst 0, 1) := by decide +kernel
theorem d_Mo_tariff_42 : decode prog_15_method_30_code 42 = .ok (.istore 4, 2) := by decide +kernel
theorem d_Mo_tariff_44 : decode prog_15_method_30_code 44 = .ok (.aload_n 0, 1) := by decide +kernel
theorem d_Mo_tariff_45 : decode prog_15_method_30_code 45 = .ok (.iload 4, 2) := by decide +kernel
theorem d_Mo_tariff_47 : decode prog_15_method_30_code 47 = .ok (.ifCond .eq 7, 3) := by decide +kernel
theorem d_Mo_tariff_50 : decode prog_15_method_30_code 50 = .ok (.iconst 1, 1) := by decide +kernel
theorem d_Mo_tariff_51 : decode prog_15_method_30_code 51 = .ok (.goto 4, 3) := by decide +kernel
theorem d_Mo_tariff_54 : decode prog_15_method_30_code 54 = .ok (.iconst 0, 1) := by decide +kernel
theorem d_Mo_tariff_55 : decode prog_15_method_30_code 55 = .ok (.putfield 81, 3) := by decide +kernel
theorem d_Mo_tariff_58 : decode prog_15_method_30_code 58 = .ok (.iconst 0, 1) := by decide +kernel
theorem d_Mo_tariff_59 : decode prog_15_method_30_code 59 = .ok (.istore 5, 2) := by decide +kernel
theorem d_Mo_tariff_61 : decode prog_15_method_30_code 61 = .ok (.iload 5, 2) := by decide +kernel
theorem d_Mo_tariff_63 : decode prog_15_method_30_code 63 = .ok (.aload_n 0, 1) := by decide +kernel
theorem d_Mo_tariff_64 : decode prog_15_method_30_code 64 = .ok (.getfield 138, 3) := by decide +kernel
theorem d_Mo_tariff_67 : decode prog_15_method_30_code 67 = .ok (.if_icmp .ge 20, 3) := by decide +kernel
theorem d_Mo_tariff_70 : decode prog_15_method_30_code 70 = .ok (.aload_n 0, 1) := by decide +kernel
theorem d_Mo_tariff_71 : decode prog_15_method_30_code 71 = .ok (.getfield 59, 3) := by decide +kernel
theorem d_Mo_tariff_74 : decode prog_15_method_30_code 74 = .ok (.iload 5, 2) := by decide +kernel
theorem d_Mo_tariff_76 : decode prog_15_method_30_code 76 = .ok (.iaload, 1) := by decide +kernel
theorem d_Mo_tariff_77 : decode prog_15_method_30_code 77 = .ok (.iload_n 1, 1) := by decide +kernel
theorem d_Mo_tariff_78 : decode prog_15_method_30_code 78 = .ok (.if_icmp .ge 9, 3) := by decide +kernel
theorem d_Mo_tariff_81 : decode prog_15_method_30_code 81 = .ok (.iinc 5 1, 3) := by decide +kernel
theorem d_Mo_tariff_84 : decode prog_15_method_30_code 84 = .ok (.goto (-23), 3) := by decide +kernel
theorem d_Mo_tariff_87 : decode prog_15_method_30_code 87 = .ok (.iload 5, 2) := by decide +kernel
theorem d_Mo_tariff_89 : decode prog_15_method_30_code 89 = .ok (.aload_n 0, 1) := by decide +kernel
theorem d_Mo_tariff_90 : decode prog_15_method_30_code 90 = .ok (.getfield 138, 3) := by decide +kernel
theorem d_Mo_tariff_93 : decode prog_15_method_30_code 93 = .ok (.if_icmp .ge 18, 3) := by decide +kernel
theorem d_Mo_tariff_96 : decode prog_15_method_30_code 96 = .ok (.aload_n 0, 1) := by decide +kernel
theorem d_Mo_tariff_97 : decode prog_15_method_30_code 97 = .ok (.getfield 59, 3) := by decide +kernel
theorem d_Mo_tariff_100 : decode prog_15_method_30_code 100 = .ok (.iload 5, 2) := by decide +kernel
theorem d_Mo_tariff_102 : decode prog_15_method_30_code 102 = .ok (.iaload, 1) := by decide +kernel
theorem d_Mo_tariff_103 : decode prog_15_method_30_code 103 = .ok (.iload_n 1, 1) := by decide +kernel
theorem d_Mo_tariff_104 : decode prog_15_method_30_code 104 = .ok (.if_icmp .ne 7, 3) := by decide +kernel
theorem d_Mo_tariff_107 : decode prog_15_method_30_code 107 = .ok (.iconst 1, 1) := by decide +kernel
theorem d_Mo_tariff_108 : decode prog_15_method_30_code 108 = .ok (.goto 4, 3) := by decide +kernel
theorem d_Mo_tariff_111 : decode prog_15_method_30_code 111 = .ok (.iconst 0, 1) := by decide +kernel
theorem d_Mo_tariff_112 : decode prog_15_method_30_code 112 = .ok (.istore 6, 2) := by decide +kernel
theorem d_Mo_tariff_114 : decode prog_15_method_30_code 114 = .ok (.aload_n 0, 1) := by decide +kernel
theorem d_Mo_tariff_115 : decode prog_15_method_30_code 115 = .ok (.aload_n 0, 1) := by decide +kernel
theorem d_Mo_tariff_116 : decode prog_15_method_30_code 116 = .ok (.getfield 81, 3) := by decide +kernel
theorem d_Mo_tariff_119 : decode prog_15_method_30_code 119 = .ok (.ifCond .ne 21, 3) := by decide +kernel
theorem d_Mo_tariff_122 : decode prog_15_method_30_code 122 = .ok (.iload 6, 2) := by decide +kernel
theorem d_Mo_tariff_124 : decode prog_15_method_30_code 124 = .ok (.ifCond .ne 16, 3) := by decide +kernel
theorem d_Mo_tariff_127 : decode prog_15_method_30_code 127 = .ok (.aload_n 0, 1) := by decide +kernel
theorem d_Mo_tariff_128 : decode prog_15_method_30_code 128 = .ok (.getfield 138, 3) := by decide +kernel
theorem d_Mo_tariff_131 : decode prog_15_method_30_code 131 = .ok (.bipush 8, 2) := by decide +kernel
theorem d_Mo_tariff_133 : decode prog_15_method_30_code 133 = .ok (.if_icmp .ne 7, 3) := by decide +kernel
theorem d_Mo_tariff_136 : decode prog_15_method_30_code 136 = .ok (.iconst 2, 1) := by decide +kernel
theorem d_Mo_tariff_137 : decode prog_15_method_30_code 137 = .ok (.goto 7, 3) := by decide +kernel
theorem d_Mo_tariff_140 : decode prog_15_method_30_code 140 = .ok (.aload_n 0, 1) := by decide +kernel
theorem d_Mo_tariff_141 : decode prog_15_method_30_code 141 = .ok (.getfield 81, 3) := by decide +kernel
theorem d_Mo_tariff_144 : decode prog_15_method_30_code 144 = .ok (.putfield 81, 3) := by decide +kernel
theorem d_Mo_tariff_147 : decode prog_15_method_30_code 147 = .ok (.aload_n 0, 1) := by decide +kernel
theorem d_Mo_tariff_148 : decode prog_15_method_30_code 148 = .ok (.getfield 81, 3) := by decide +kernel
theorem d_Mo_tariff_151 : decode prog_15_method_30_code 151 = .ok (.ifCond .le 5, 3) := by decide +kernel
theorem d_Mo_tariff_154 : decode prog_15_method_30_code 154 = .ok (.iconst 0, 1) := by decide +kernel
theorem d_Mo_tariff_155 : decode prog_15_method_30_code 155 = .ok (.ireturn, 1) := by decide +kernel
theorem d_Mo_tariff_156 : decode prog_15_method_30_code 156 = .ok (.aload_n 0, 1) := by decide +kernel
theorem d_Mo_tariff_157 : decode prog_15_method_30_code 157 = .ok (.getfield 138, 3) := by decide +kernel
theorem d_Mo_tariff_160 : decode prog_15_method_30_code 160 = .ok (.istore 7, 2) := by decide +kernel
theorem d_Mo_tariff_162 : decode prog_15_method_30_code 162 = .ok (.iload 7, 2) := by decide +kernel
theorem d_Mo_tariff_164 : decode prog_15_method_30_code 164 = .ok (.iload 5, 2) := by decide +kernel
theorem d_Mo_tariff_166 : decode prog_15_method_30_code 166 = .ok (.if_icmp .le 46, 3) := by decide +kernel
theorem d_Mo_tariff_169 : decode prog_15_method_30_code 169 = .ok (.iload 6, 2) := by decide +kernel
theorem d_Mo_tariff_171 : decode prog_15_method_30_code 171 = .ok (.ifCond .ne 41, 3) := by decide +kernel
theorem d_Mo_tariff_174 : decode prog_15_method_30_code 174 = .ok (.aload_n 0, 1) := by decide +kernel
theorem d_Mo_tariff_175 : decode prog_15_method_30_code 175 = .ok (.getfield 59, 3) := by decide +kernel
theorem d_Mo_tariff_178 : decode prog_15_method_30_code 178 = .ok (.iload 7, 2) := by decide +kernel
theorem d_Mo_tariff_180 : decode prog_15_method_30_code 180 = .ok (.aload_n 0, 1) := by decide +kernel
theorem d_Mo_tariff_181 : decode prog_15_method_30_code 181 = .ok (.getfield 59, 3) := by decide +kernel
theorem d_Mo_tariff_184 : decode prog_15_method_30_code 184 = .ok (.iload 7, 2) := by decide +kernel
theorem d_Mo_tariff_186 : decode prog_15_method_30_code 186 = .ok (.iconst 1, 1) := by decide +kernel
theorem d_Mo_tariff_187 : decode prog_15_method_30_code 187 = .ok (.isub, 1) := by decide +kernel
theorem d_Mo_tariff_188 : decode prog_15_method_30_code 188 = .ok (.iaload, 1) := by decide +kernel
theorem d_Mo_tariff_189 : decode prog_15_method_30_code 189 = .ok (.iastore, 1) := by decide +kernel
theorem d_Mo_tariff_190 : decode prog_15_method_30_code 190 = .ok (.aload_n 0, 1) := by decide +kernel
theorem d_Mo_tariff_191 : decode prog_15_method_30_code 191 = .ok (.getfield 62, 3) := by decide +kernel
theorem d_Mo_tariff_194 : decode prog_15_method_30_code 194 = .ok (.iload 7, 2) := by decide +kernel
theorem d_Mo_tariff_196 : decode prog_15_method_30_code 196 = .ok (.aload_n 0, 1) := by decide +kernel
theorem d_Mo_tariff_197 : decode prog_15_method_30_code 197 = .ok (.getfield 62, 3) := by decide +kernel
theorem d_Mo_tariff_200 : decode prog_15_method_30_code 200 = .ok (.iload 7, 2) := by decide +kernel
theorem d_Mo_tariff_202 : decode prog_15_method_30_code 202 = .ok (.iconst 1, 1) := by decide +kernel
theorem d_Mo_tariff_203 : decode prog_15_method_30_code 203 = .ok (.isub, 1) := by decide +kernel
theorem d_Mo_tariff_204 : decode prog_15_method_30_code 204 = .ok (.laload, 1) := by decide +kernel
theorem d_Mo_tariff_205 : decode prog_15_method_30_code 205 = .ok (.lastore, 1) := by decide +kernel
theorem d_Mo_tariff_206 : decode prog_15_method_30_code 206 = .ok (.iinc 7 (-1), 3) := by decide +kernel
theorem d_Mo_tariff_209 : decode prog_15_method_30_code 209 = .ok (.goto (-47), 3) := by decide +kernel
theorem d_Mo_tariff_212 : decode prog_15_method_30_code 212 = .ok (.aload_n 0, 1) := by decide +kernel
theorem d_Mo_tariff_213 : decode prog_15_method_30_code 213 = .ok (.getfield 59, 3) := by decide +kernel
theorem d_Mo_tariff_216 : decode prog_15_method_30_code 216 = .ok (.iload 5, 2) := by decide +kernel
theorem d_Mo_tariff_218 : decode prog_15_method_30_code 218 = .ok (.iload_n 1, 1) := by decide +kernel
theorem d_Mo_tariff_219 : decode prog_15_method_30_code 219 = .ok (.iastore, 1) := by decide +kernel
theorem d_Mo_tariff_220 : decode prog_15_method_30_code 220 = .ok (.aload_n 0, 1) := by decide +kernel
theorem d_Mo_tariff_221 : decode prog_15_method_30_code 221 = .ok (.getfield 62, 3) := by decide +kernel
theorem d_Mo_tariff_224 : decode prog_15_method_30_code 224 = .ok (.iload 5, 2) := by decide +kernel
theorem d_Mo_tariff_226 : decode prog_15_method_30_code 226 = .ok (.lload_n 2, 1) := by decide +kernel
theorem d_Mo_tariff_227 : decode prog_15_method_30_code 227 = .ok (.lastore, 1) := by decide +kernel
theorem d_Mo_tariff_228 : decode prog_15_method_30_code 228 = .ok (.aload_n 0, 1) := by decide +kernel
theorem d_Mo_tariff_229 : decode prog_15_method_30_code 229 = .ok (.iload 6, 2) := by decide +kernel
theorem d_Mo_tariff_231 : decode prog_15_method_30_code 231 = .ok (.ifCond .eq 10, 3) := by decide +kernel
theorem d_Mo_tariff_234 : decode prog_15_method_30_code 234 = .ok (.aload_n 0, 1) := by decide +kernel
theorem d_Mo_tariff_235 : decode prog_15_method_30_code 235 = .ok (.getfield 138, 3) := by decide +kernel
theorem d_Mo_tariff_238 : decode prog_15_method_30_code 238 = .ok (.goto 9, 3) := by decide +kernel
theorem d_Mo_tariff_241 : decode prog_15_method_30_code 241 = .ok (.aload_n 0, 1) := by decide +kernel
theorem d_Mo_tariff_242 : decode prog_15_method_30_code 242 = .ok (.getfield 138, 3) := by decide +kernel
theorem d_Mo_tariff_245 : decode prog_15_method_30_code 245 = .ok (.iconst 1, 1) := by decide +kernel
theorem d_Mo_tariff_246 : decode prog_15_method_30_code 246 = .ok (.iadd, 1) := by decide +kernel
theorem d_Mo_tariff_247 : decode prog_15_method_30_code 247 = .ok (.putfield 138, 3) := by decide +kernel
theorem d_Mo_tariff_250 : decode prog_15_method_30_code 250 = .ok (.aload_n 0, 1) := by decide +kernel
theorem d_Mo_tariff_251 : decode prog_15_method_30_code 251 = .ok (.getfield 138, 3) := by decide +kernel
theorem d_Mo_tariff_254 : decode prog_15_method_30_code 254 = .ok (.ireturn, 1) := by decide +kernel
def wb_Mo_tariff_247 (po : Option Value → Pic → Prop) (th : String → Pic → Prop) (P : Pic) (a0 : Nat) (t0 : Int32) (t1 : Nat) : Prop := p_k P t1 = 13 ∧ p_k (s_i P 501 t1 t0) a0 = 13 ∧ po (some (.int (p_i (s_i P 501 t1 t0) 501 a0))) (s_i P 501 t1 t0)
def wb_Mo_tariff_212 (po : Option Value → Pic → Prop) (th : String → Pic → Prop) (P : Pic) (a0 : Nat) (x1 : Int32) (w2 : Int64) (x5 : Int32) (x6 : Int32) : Prop := p_k P a0 = 13 ∧ ∃ a149, p_r P 502 a0 = some a149 ∧ p_k P a149 = 101 ∧ vp_in x5 (p_n P a149) ∧ ∃ a152, p_r (s_ai P a149 (Int32.toNatClampNeg x5) x1) 503 a0 = some a152 ∧ p_k (s_ai P a149 (Int32.toNatClampNeg x5) x1) a152 = 102 ∧ vp_in x5 (p_n (s_ai P a149 (Int32.toNatClampNeg x5) x1) a152) ∧ ∀ (P155 : Pic), P155 = s_al (s_ai P a149 (Int32.toNatClampNeg x5) x1) a152 (Int32.toNatClampNeg x5) w2 → ((x6 = 0 → (wb_Mo_tariff_247 po th P155 a0 ((p_i P155 501 a0) + (1 : Int32)) a0)) ∧ (¬ x6 = 0 → (wb_Mo_tariff_247 po th P155 a0 (p_i P155 501 a0) a0)))
def wb_Mo_tariff_162 (po : Option Value → Pic → Prop) (th : String → Pic → Prop) (K162 : Pic → Nat → Int32 → Int64 → Int32 → Int32 → Int32 → Prop) (P : Pic) (a0 : Nat) (x1 : Int32) (w2 : Int64) (x5 : Int32) (x6 : Int32) (x7 : Int32) : Prop := ((x7 ≤ x5 → (wb_Mo_tariff_212 po th P a0 x1 w2 x5 x6)) ∧ (¬ x7 ≤ x5 → (((¬ x6 = 0 → (wb_Mo_tariff_212 po th P a0 x1 w2 x5 x6)) ∧ (x6 = 0 → (p_k P a0 = 13 ∧ ∃ a131, p_r P 502 a0 = some a131 ∧ ∃ a132, p_r P 502 a0 = some a132 ∧ p_k P a132 = 101 ∧ vp_in (x7 - (1 : Int32)) (p_n P a132) ∧ p_k P a131 = 101 ∧ vp_in x7 (p_n P a131) ∧ ∀ (P137 : Pic), P137 = s_ai P a131 (Int32.toNatClampNeg x7) (p_ai P a132 (Int32.toNatClampNeg (x7 - (1 : Int32)))) → ∃ a138, p_r P137 503 a0 = some a138 ∧ ∃ a139, p_r P137 503 a0 = some a139 ∧ p_k P137 a139 = 102 ∧ vp_in (x7 - (1 : Int32)) (p_n P137 a139) ∧ p_k P137 a138 = 102 ∧ vp_in x7 (p_n P137 a138) ∧ ∀ (P144 : Pic), P144 = s_al P137 a138 (Int32.toNatClampNeg x7) (p_al P137 a139 (Int32.toNatClampNeg (x7 - (1 : Int32)))) → ∀ (x145 : Int32), x145 = x7 + (-1) → K162 P144 a0 x1 w2 x5 x6 x145))))))
def wl_Mo_tariff_162 (po : Option Value → Pic → Prop) (th : String → Pic → Prop) : Nat → Pic → Nat → Int32 → Int64 → Int32 → Int32 → Int32 → Prop
  | 0 => fun _ _ _ _ _ _ _ => False
  | n + 1 => wb_Mo_tariff_162 po th (wl_Mo_tariff_162 po th n)
def wb_Mo_tariff_144 (po : Option Value → Pic → Prop) (th : String → Pic → Prop) (P : Pic) (a0 : Nat) (x1 : Int32) (w2 : Int64) (x5 : Int32) (x6 : Int32) (t0 : Int32) (t1 : Nat) : Prop := p_k P t1 = 13 ∧ p_k (s_i P 480 t1 t0) a0 = 13 ∧ (((p_i (s_i P 480 t1 t0) 480 a0) ≤ 0 → (∀ (x128 : Int32), x128 = (p_i (s_i P 480 t1 t0) 501 a0) → ∃ n, wl_Mo_tariff_162 po th n (s_i P 480 t1 t0) a0 x1 w2 x5 x6 x128)) ∧ (¬ (p_i (s_i P 480 t1 t0) 480 a0) ≤ 0 → (po (some (.int (0 : Int32))) (s_i P 480 t1 t0))))
def wb_Mo_tariff_140 (po : Option Value → Pic → Prop) (th : String → Pic → Prop) (P : Pic) (a0 : Nat) (x1 : Int32) (w2 : Int64) (x5 : Int32) (x6 : Int32) (t0 : Nat) : Prop := p_k P a0 = 13 ∧ wb_Mo_tariff_144 po th P a0 x1 w2 x5 x6 (p_i P 480 a0) t0
def wb_Mo_tariff_112 (po : Option Value → Pic → Prop) (th : String → Pic → Prop) (P : Pic) (a0 : Nat) (x1 : Int32) (w2 : Int64) (x5 : Int32) (t0 : Int32) : Prop := p_k P a0 = 13 ∧ ((¬ (p_i P 480 a0) = 0 → (wb_Mo_tariff_140 po th P a0 x1 w2 x5 t0 a0)) ∧ ((p_i P 480 a0) = 0 → (((¬ t0 = 0 → (wb_Mo_tariff_140 po th P a0 x1 w2 x5 t0 a0)) ∧ (t0 = 0 → (((¬ (p_i P 501 a0) = (8 : Int32) → (wb_Mo_tariff_140 po th P a0 x1 w2 x5 t0 a0)) ∧ ((p_i P 501 a0) = (8 : Int32) → (wb_Mo_tariff_144 po th P a0 x1 w2 x5 t0 (2 : Int32) a0)))))))))
def wb_Mo_tariff_111 (po : Option Value → Pic → Prop) (th : String → Pic → Prop) (P : Pic) (a0 : Nat) (x1 : Int32) (w2 : Int64) (x5 : Int32) : Prop := wb_Mo_tariff_112 po th P a0 x1 w2 x5 (0 : Int32)
def wb_Mo_tariff_87 (po : Option Value → Pic → Prop) (th : String → Pic → Prop) (P : Pic) (a0 : Nat) (x1 : Int32) (w2 : Int64) (x5 : Int32) : Prop := p_k P a0 = 13 ∧ (((p_i P 501 a0) ≤ x5 → (wb_Mo_tariff_111 po th P a0 x1 w2 x5)) ∧ (¬ (p_i P 501 a0) ≤ x5 → (∃ a116, p_r P 502 a0 = some a116 ∧ p_k P a116 = 101 ∧ vp_in x5 (p_n P a116) ∧ ((¬ (p_ai P a116 (Int32.toNatClampNeg x5)) = x1 → (wb_Mo_tariff_111 po th P a0 x1 w2 x5)) ∧ ((p_ai P a116 (Int32.toNatClampNeg x5)) = x1 → (wb_Mo_tariff_112 po th P a0 x1 w2 x5 (1 : Int32)))))))
def wb_Mo_tariff_61 (po : Option Value → Pic → Prop) (th : String → Pic → Prop) (K61 : Pic → Nat → Int32 → Int64 → Int32 → Prop) (P : Pic) (a0 : Nat) (x1 : Int32) (w2 : Int64) (x5 : Int32) : Prop := p_k P a0 = 13 ∧ (((p_i P 501 a0) ≤ x5 → (wb_Mo_tariff_87 po th P a0 x1 w2 x5)) ∧ (¬ (p_i P 501 a0) ≤ x5 → (∃ a109, p_r P 502 a0 = some a109 ∧ p_k P a109 = 101 ∧ vp_in x5 (p_n P a109) ∧ ((x1 ≤ (p_ai P a109 (Int32.toNatClampNeg x5)) → (wb_Mo_tariff_87 po th P a0 x1 w2 x5)) ∧ (¬ x1 ≤ (p_ai P a109 (Int32.toNatClampNeg x5)) → (∀ (x112 : Int32), x112 = x5 + 1 → K61 P a0 x1 w2 x112))))))
def wl_Mo_tariff_61 (po : Option Value → Pic → Prop) (th : String → Pic → Prop) : Nat → Pic → Nat → Int32 → Int64 → Int32 → Prop
  | 0 => fun _ _ _ _ _ => False
  | n + 1 => wb_Mo_tariff_61 po th (wl_Mo_tariff_61 po th n)
def wb_Mo_tariff_55 (po : Option Value → Pic → Prop) (th : String → Pic → Prop) (P : Pic) (a0 : Nat) (x1 : Int32) (w2 : Int64) (t0 : Int32) (t1 : Nat) : Prop := p_k P t1 = 13 ∧ ∃ n, wl_Mo_tariff_61 po th n (s_i P 480 t1 t0) a0 x1 w2 (0 : Int32)
def wb_Mo_tariff_42 (po : Option Value → Pic → Prop) (th : String → Pic → Prop) (P : Pic) (a0 : Nat) (x1 : Int32) (w2 : Int64) (t0 : Int32) : Prop := ((t0 = 0 → (wb_Mo_tariff_55 po th P a0 x1 w2 (0 : Int32) a0)) ∧ (¬ t0 = 0 → (wb_Mo_tariff_55 po th P a0 x1 w2 (1 : Int32) a0)))
def wb_Mo_tariff_37 (po : Option Value → Pic → Prop) (th : String → Pic → Prop) (P : Pic) (a0 : Nat) (x1 : Int32) (w2 : Int64) : Prop := wb_Mo_tariff_42 po th P a0 x1 w2 (1 : Int32)
def wp_Mo_tariff (po : Option Value → Pic → Prop) (th : String → Pic → Prop) (P : Pic) (a0 : Nat) (x1 : Int32) (w2 : Int64) : Prop := ((x1 < 0 → (wb_Mo_tariff_37 po th P a0 x1 w2)) ∧ (¬ x1 < 0 → ((((400 : Int32) < x1 → (wb_Mo_tariff_37 po th P a0 x1 w2)) ∧ (¬ (400 : Int32) < x1 → ((((lg_cmp w2 (0 : Int64)) < 0 → (wb_Mo_tariff_37 po th P a0 x1 w2)) ∧ (¬ (lg_cmp w2 (0 : Int64)) < 0 → (((¬ (lg_cmp (w2 >>> (Int32.toInt64 (50 : Int32) &&& 63)) (0 : Int64)) = 0 → (wb_Mo_tariff_37 po th P a0 x1 w2)) ∧ ((lg_cmp (w2 >>> (Int32.toInt64 (50 : Int32) &&& 63)) (0 : Int64)) = 0 → ((((lg_cmp (w2 >>> (Int32.toInt64 (40 : Int32) &&& 63)) (1000 : Int64)) ≤ 0 → (wb_Mo_tariff_42 po th P a0 x1 w2 (0 : Int32))) ∧ (¬ (lg_cmp (w2 >>> (Int32.toInt64 (40 : Int32) &&& 63)) (1000 : Int64)) ≤ 0 → (wb_Mo_tariff_37 po th P a0 x1 w2)))))))))))))))
set_option maxHeartbeats 4000000 in
set_option maxRecDepth 100000 in
theorem wk_Mo_tariff_247 {p : Program} {l : Launch} {e : Env} {s : State} {m : MethodId} {args : Array Value} {below : List Frame} {meth : Method} {c : Code} {D : pq_D} {P0 : Pic} {po : Option Value → Pic → Prop} {th : String → Pic → Prop} (hfl : l.flags = flags0) (C : Cx p e s m args meth c prog_15_method_30_code 8 "WaterWorksModel" D P0) (hmg : e.platform.magicAccessors = ({} : Platform).magicAccessors) (hr : meth.sig.returnType = (some .int)) (hin : meth.name = "tariff") (htab : c.exceptionTable.toList = tableOf []) : ∀ (P : Pic) (a0 : Nat) (t0 : Int32) (t1 : Nat) (H : Heap) (locs : List Loc) (cells slots : Nat) (ls : Array Slot), wb_Mo_tariff_247 po th P a0 t0 t1 → Pi D P H → Sg (cq_A P0 s) s.heap H P locs → lv_has ls 8 [(0, .ref a0)] → cells + 0 ≤ 0 → slots + 0 ≤ 0 → W p l e rm_Mo_tariff s m args below meth c H locs cells slots (mt_MQ below (cq_Q D P0 false po th) args s 0 0 (cq_free P0 false)) (F0 m 247 ls [.int t0, .ref t1]) := by
  intro P a0 t0 t1 H locs cells slots ls h hP hS hl hcc hss
  obtain ⟨hx, hb, hml, hown, hlocks, htr, hT, hK, hSt, hN, hP0⟩ := id C
  have L138_12 : pq_fl s m args 138 12 21 := ⟨_, "WaterWorksModel", "WaterWorksModel", rfl, by decide, hown, Or.inl (hT _ k_1125 _), (fun _ z => z)⟩
  have L59_12 : pq_fl s m args 59 12 22 := ⟨_, "WaterWorksModel", "WaterWorksModel", rfl, by decide, hown, Or.inl (hT _ k_1126 _), (fun _ z => z)⟩
  have L62_12 : pq_fl s m args 62 12 23 := ⟨_, "WaterWorksModel", "WaterWorksModel", rfl, by decide, hown, Or.inl (hT _ k_1127 _), (fun _ z => z)⟩
  have L81_12 : pq_fl s m args 81 12 0 := ⟨_, "WaterWorksModel", "WaterWorksModel", rfl, by decide, hown, Or.inl (hT _ k_1104 _), (fun _ z => z)⟩
  unfold wb_Mo_tariff_247 at h
  obtain ⟨hk157, h⟩ := h
  refine pq_puti (pc := 247) (f := 501) hx hb hT hK hP hS L138_12 hk157 rfl rfl rfl rfl d_Mo_tariff_247 (fun H locs hP hS => ?_)
  have hk157 : p_k (s_i P 501 t1 t0) t1 = 13 := by rw [pk_i]; exact hk157
  refine lv_aload_n (pc := 250) hx hb d_Mo_tariff_250 rfl (lv_at hl 0 rfl) ?_
  obtain ⟨hk158, h⟩ := h
  refine pq_geti (pc := 251) (f := 501) hx hb hT hK hP L138_12 hk158 rfl d_Mo_tariff_251 ?_
  exact we_i (pc := 254) hx hb hlocks hr hP hS (show cells + 0 ≤ 0 by omega) (show slots + 0 ≤ 0 by omega) h d_Mo_tariff_254
set_option maxHeartbeats 4000000 in
set_option maxRecDepth 100000 in
theorem wk_Mo_tariff_212 {p : Program} {l : Launch} {e : Env} {s : State} {m : MethodId} {args : Array Value} {below : List Frame} {meth : Method} {c : Code} {D : pq_D} {P0 : Pic} {po : Option Value → Pic → Prop} {th : String → Pic → Prop} (hfl : l.flags = flags0) (C : Cx p e s m args meth c prog_15_method_30_code 8 "WaterWorksModel" D P0) (hmg : e.platform.magicAccessors = ({} : Platform).magicAccessors) (hr : meth.sig.returnType = (some .int)) (hin : meth.name = "tariff") (htab : c.exceptionTable.toList = tableOf []) : ∀ (P : Pic) (a0 : Nat) (x1 : Int32) (w2 : Int64) (x5 : Int32) (x6 : Int32) (H : Heap) (locs : List Loc) (cells slots : Nat) (ls : Array Slot), wb_Mo_tariff_212 po th P a0 x1 w2 x5 x6 → Pi D P H → Sg (cq_A P0 s) s.heap H P locs → lv_has ls 8 [(0, .ref a0), (1, .int x1), (2, .long w2), (5, .int x5), (6, .int x6)] → cells + 0 ≤ 0 → slots + 0 ≤ 0 → W p l e rm_Mo_tariff s m args below meth c H locs cells slots (mt_MQ below (cq_Q D P0 false po th) args s 0 0 (cq_free P0 false)) (F0 m 212 ls []) := by
  intro P a0 x1 w2 x5 x6 H locs cells slots ls h hP hS hl hcc hss
  obtain ⟨hx, hb, hml, hown, hlocks, htr, hT, hK, hSt, hN, hP0⟩ := id C
  have L138_12 : pq_fl s m args 138 12 21 := ⟨_, "WaterWorksModel", "WaterWorksModel", rfl, by decide, hown, Or.inl (hT _ k_1125 _), (fun _ z => z)⟩
  have L59_12 : pq_fl s m args 59 12 22 := ⟨_, "WaterWorksModel", "WaterWorksModel", rfl, by decide, hown, Or.inl (hT _ k_1126 _), (fun _ z => z)⟩
  have L62_12 : pq_fl s m args 62 12 23 := ⟨_, "WaterWorksModel", "WaterWorksModel", rfl, by decide, hown, Or.inl (hT _ k_1127 _), (fun _ z => z)⟩
  have L81_12 : pq_fl s m args 81 12 0 := ⟨_, "WaterWorksModel", "WaterWorksModel", rfl, by decide, hown, Or.inl (hT _ k_1104 _), (fun _ z => z)⟩
  unfold wb_Mo_tariff_212 at h
  refine lv_aload_n (pc := 212) hx hb d_Mo_tariff_212 rfl (lv_at hl 0 rfl) ?_
  obtain ⟨hk148, h⟩ := h
  obtain ⟨a149, ea149, h⟩ := h
  refine pq_geta (pc := 213) (f := 502) hx hb hT hK hP L59_12 hk148 rfl ea149 d_Mo_tariff_213 ?_
  refine lv_iload (pc := 216) hx hb d_Mo_tariff_216 (lv_at hl 3 rfl) ?_
  refine lv_iload_n (pc := 218) hx hb d_Mo_tariff_218 rfl (lv_at hl 1 rfl) ?_
  obtain ⟨hk150, h⟩ := h
  obtain ⟨hi151, h⟩ := h
  refine pq_iast (pc := 219) hx hb hK hP hS hk150 hi151 d_Mo_tariff_219 (fun H locs hP hS => ?_)
  have hk148 : p_k (s_ai P a149 (Int32.toNatClampNeg x5) x1) a0 = 13 := by rw [pk_ai]; exact hk148
  have hk150 : p_k (s_ai P a149 (Int32.toNatClampNeg x5) x1) a149 = 101 := by rw [pk_ai]; exact hk150
  refine lv_aload_n (pc := 220) hx hb d_Mo_tariff_220 rfl (lv_at hl 0 rfl) ?_
  obtain ⟨a152, ea152, h⟩ := h
  refine pq_geta (pc := 221) (f := 503) hx hb hT hK hP L62_12 hk148 rfl ea152 d_Mo_tariff_221 ?_
  refine lv_iload (pc := 224) hx hb d_Mo_tariff_224 (lv_at hl 3 rfl) ?_
  refine lv_lload_n (pc := 226) hx hb d_Mo_tariff_226 rfl (lv_at hl 2 rfl) ?_
  obtain ⟨hk153, h⟩ := h
  obtain ⟨hi154, h⟩ := h
  refine pq_last (pc := 227) hx hb hK hP hS hk153 hi154 d_Mo_tariff_227 (fun H locs hP hS => ?_)
  have hk148 : p_k (s_al (s_ai P a149 (Int32.toNatClampNeg x5) x1) a152 (Int32.toNatClampNeg x5) w2) a0 = 13 := by rw [pk_al]; exact hk148
  have hk150 : p_k (s_al (s_ai P a149 (Int32.toNatClampNeg x5) x1) a152 (Int32.toNatClampNeg x5) w2) a149 = 101 := by rw [pk_al]; exact hk150
  have hk153 : p_k (s_al (s_ai P a149 (Int32.toNatClampNeg x5) x1) a152 (Int32.toNatClampNeg x5) w2) a152 = 102 := by rw [pk_al]; exact hk153
  obtain ⟨P155, eP155⟩ : ∃ z : Pic, z = s_al (s_ai P a149 (Int32.toNatClampNeg x5) x1) a152 (Int32.toNatClampNeg x5) w2 := ⟨_, rfl⟩
  replace h := h P155 eP155
  rw [← eP155] at hP hS
  have hk148 : p_k P155 a0 = 13 := by rw [eP155]; exact hk148
  have hk150 : p_k P155 a149 = 101 := by rw [eP155]; exact hk150
  have hk153 : p_k P155 a152 = 102 := by rw [eP155]; exact hk153
  refine lv_aload_n (pc := 228) hx hb d_Mo_tariff_228 rfl (lv_at hl 0 rfl) ?_
  refine lv_iload (pc := 229) hx hb d_Mo_tariff_229 (lv_at hl 4 rfl) ?_
  refine lv_if_eq (pc := 231) (tgt := 241) hx hb d_Mo_tariff_231 (by decide) (fun c156 => ?_) (fun c156 => ?_)
  · replace h := h.1 c156
    refine lv_aload_n (pc := 241) hx hb d_Mo_tariff_241 rfl (lv_at hl 0 rfl) ?_
    refine pq_geti (pc := 242) (f := 501) hx hb hT hK hP L138_12 hk148 rfl d_Mo_tariff_242 ?_
    refine lv_iconst (pc := 245) (v := 1) hx hb d_Mo_tariff_245 (by decide) ?_
    refine lv_iadd (pc := 246) hx hb d_Mo_tariff_246 ?_
    exact wk_Mo_tariff_247 hfl C hmg hr hin htab _ a0 ((p_i P155 501 a0) + (1 : Int32)) a0 _ _ _ _ _ h hP hS (lv_sub hl [0] rfl) (show cells + 0 ≤ 0 by omega) (show slots + 0 ≤ 0 by omega)
  · replace h := h.2 c156
    refine lv_aload_n (pc := 234) hx hb d_Mo_tariff_234 rfl (lv_at hl 0 rfl) ?_
    refine pq_geti (pc := 235) (f := 501) hx hb hT hK hP L138_12 hk148 rfl d_Mo_tariff_235 ?_
    refine lv_goto (pc := 238) (tgt := 247) hx hb d_Mo_tariff_238 (by decide) ?_
    exact wk_Mo_tariff_247 hfl C hmg hr hin htab _ a0 (p_i P155 501 a0) a0 _ _ _ _ _ h hP hS (lv_sub hl [0] rfl) (show cells + 0 ≤ 0 by omega) (show slots + 0 ≤ 0 by omega)
set_option maxHeartbeats 4000000 in
set_option maxRecDepth 100000 in
theorem wk_Mo_tariff_162 {p : Program} {l : Launch} {e : Env} {s : State} {m : MethodId} {args : Array Value} {below : List Frame} {meth : Method} {c : Code} {D : pq_D} {P0 : Pic} {po : Option Value → Pic → Prop} {th : String → Pic → Prop} {K162 : Pic → Nat → Int32 → Int64 → Int32 → Int32 → Int32 → Prop} (hfl : l.flags = flags0) (C : Cx p e s m args meth c prog_15_method_30_code 8 "WaterWorksModel" D P0) (hmg : e.platform.magicAccessors = ({} : Platform).magicAccessors) (hr : meth.sig.returnType = (some .int)) (hin : meth.name = "tariff") (htab : c.exceptionTable.toList = tableOf []) (HK162 : ∀ (P : Pic) (a0 : Nat) (x1 : Int32) (w2 : Int64) (x5 : Int32) (x6 : Int32) (x7 : Int32) (H : Heap) (locs : List Loc) (cells slots : Nat) (ls : Array Slot), K162 P a0 x1 w2 x5 x6 x7 → Pi D P H → Sg (cq_A P0 s) s.heap H P locs → lv_has ls 8 [(0, .ref a0), (1, .int x1), (2, .long w2), (5, .int x5), (6, .int x6), (7, .int x7)] → cells + 0 ≤ 0 → slots + 0 ≤ 0 → W p l e rm_Mo_tariff s m args below meth c H locs cells slots (mt_MQ below (cq_Q D P0 false po th) args s 0 0 (cq_free P0 false)) (F0 m 162 ls [])) : ∀ (P : Pic) (a0 : Nat) (x1 : Int32) (w2 : Int64) (x5 : Int32) (x6 : Int32) (x7 : Int32) (H : Heap) (locs : List Loc) (cells slots : Nat) (ls : Array Slot), wb_Mo_tariff_162 po th K162 P a0 x1 w2 x5 x6 x7 → Pi D P H → Sg (cq_A P0 s) s.heap H P locs → lv_has ls 8 [(0, .ref a0), (1, .int x1), (2, .long w2), (5, .int x5), (6, .int x6), (7, .int x7)] → cells + 0 ≤ 0 → slots + 0 ≤ 0 → W p l e rm_Mo_tariff s m args below meth c H locs cells slots (mt_MQ below (cq_Q D P0 false po th) args s 0 0 (cq_free P0 false)) (F0 m 162 ls []) := by
  intro P a0 x1 w2 x5 x6 x7 H locs cells slots ls h hP hS hl hcc hss
  obtain ⟨hx, hb, hml, hown, hlocks, htr, hT, hK, hSt, hN, hP0⟩ := id C
  have L138_12 : pq_fl s m args 138 12 21 := ⟨_, "WaterWorksModel", "WaterWorksModel", rfl, by decide, hown, Or.inl (hT _ k_1125 _), (fun _ z => z)⟩
  have L59_12 : pq_fl s m args 59 12 22 := ⟨_, "WaterWorksModel", "WaterWorksModel", rfl, by decide, hown, Or.inl (hT _ k_1126 _), (fun _ z => z)⟩
  have L62_12 : pq_fl s m args 62 12 23 := ⟨_, "WaterWorksModel", "WaterWorksModel", rfl, by decide, hown, Or.inl (hT _ k_1127 _), (fun _ z => z)⟩
  have L81_12 : pq_fl s m args 81 12 0 := ⟨_, "WaterWorksModel", "WaterWorksModel", rfl, by decide, hown, Or.inl (hT _ k_1104 _), (fun _ z => z)⟩
  unfold wb_Mo_tariff_162 at h
  refine lv_iload (pc := 162) hx hb d_Mo_tariff_162 (lv_at hl 5 rfl) ?_
  refine lv_iload (pc := 164) hx hb d_Mo_tariff_164 (lv_at hl 3 rfl) ?_
  refine lv_icmp_le (pc := 166) (tgt := 212) hx hb d_Mo_tariff_166 (by decide) (fun c147 => ?_) (fun c147 => ?_)
  · replace h := h.1 c147
    exact wk_Mo_tariff_212 hfl C hmg hr hin htab _ a0 x1 w2 x5 x6 _ _ _ _ _ h hP hS (lv_sub hl [0, 1, 2, 3, 4] rfl) (show cells + 0 ≤ 0 by omega) (show slots + 0 ≤ 0 by omega)
  · replace h := h.2 c147
    refine lv_iload (pc := 169) hx hb d_Mo_tariff_169 (lv_at hl 4 rfl) ?_
    refine lv_if_ne (pc := 171) (tgt := 212) hx hb d_Mo_tariff_171 (by decide) (fun c146 => ?_) (fun c146 => ?_)
    · replace h := h.1 c146
      exact wk_Mo_tariff_212 hfl C hmg hr hin htab _ a0 x1 w2 x5 x6 _ _ _ _ _ h hP hS (lv_sub hl [0, 1, 2, 3, 4] rfl) (show cells + 0 ≤ 0 by omega) (show slots + 0 ≤ 0 by omega)
    · replace h := h.2 c146
      refine lv_aload_n (pc := 174) hx hb d_Mo_tariff_174 rfl (lv_at hl 0 rfl) ?_
      obtain ⟨hk130, h⟩ := h
      obtain ⟨a131, ea131, h⟩ := h
      refine pq_geta (pc := 175) (f := 502) hx hb hT hK hP L59_12 hk130 rfl ea131 d_Mo_tariff_175 ?_
      refine lv_iload (pc := 178) hx hb d_Mo_tariff_178 (lv_at hl 5 rfl) ?_
      refine lv_aload_n (pc := 180) hx hb d_Mo_tariff_180 rfl (lv_at hl 0 rfl) ?_
      obtain ⟨a132, ea132, h⟩ := h
      refine pq_geta (pc := 181) (f := 502) hx hb hT hK hP L59_12 hk130 rfl ea132 d_Mo_tariff_181 ?_
      refine lv_iload (pc := 184) hx hb d_Mo_tariff_184 (lv_at hl 5 rfl) ?_
      refine lv_iconst (pc := 186) (v := 1) hx hb d_Mo_tariff_186 (by decide) ?_
      refine lv_isub (pc := 187) hx hb d_Mo_tariff_187 ?_
      obtain ⟨hk133, h⟩ := h
      obtain ⟨hi134, h⟩ := h
      refine pq_iald (pc := 188) hx hb hK hP hk133 hi134 d_Mo_tariff_188 ?_
      obtain ⟨hk135, h⟩ := h
      obtain ⟨hi136, h⟩ := h
      refine pq_iast (pc := 189) hx hb hK hP hS hk135 hi136 d_Mo_tariff_189 (fun H locs hP hS => ?_)
      have hk130 : p_k (s_ai P a131 (Int32.toNatClampNeg x7) (p_ai P a132 (Int32.toNatClampNeg (x7 - (1 : Int32))))) a0 = 13 := by rw [pk_ai]; exact hk130
      have hk133 : p_k (s_ai P a131 (Int32.toNatClampNeg x7) (p_ai P a132 (Int32.toNatClampNeg (x7 - (1 : Int32))))) a132 = 101 := by rw [pk_ai]; exact hk133
      have hk135 : p_k (s_ai P a131 (Int32.toNatClampNeg x7) (p_ai P a132 (Int32.toNatClampNeg (x7 - (1 : Int32))))) a131 = 101 := by rw [pk_ai]; exact hk135
      obtain ⟨P137, eP137⟩ : ∃ z : Pic, z = s_ai P a131 (Int32.toNatClampNeg x7) (p_ai P a132 (Int32.toNatClampNeg (x7 - (1 : Int32)))) := ⟨_, rfl⟩
      replace h := h P137 eP137
      rw [← eP137] at hP hS
      have hk130 : p_k P137 a0 = 13 := by rw [eP137]; exact hk130
      have hk133 : p_k P137 a132 = 101 := by rw [eP137]; exact hk133
      have hk135 : p_k P137 a131 = 101 := by rw [eP137]; exact hk135
      refine lv_aload_n (pc := 190) hx hb d_Mo_tariff_190 rfl (lv_at hl 0 rfl) ?_
      obtain ⟨a138, ea138, h⟩ := h
      refine pq_geta (pc := 191) (f := 503) hx hb hT hK hP L62_12 hk130 rfl ea138 d_Mo_tariff_191 ?_
      refine lv_iload (pc := 194) hx hb d_Mo_tariff_194 (lv_at hl 5 rfl) ?_
      refine lv_aload_n (pc := 196) hx hb d_Mo_tariff_196 rfl (lv_at hl 0 rfl) ?_
      obtain ⟨a139, ea139, h⟩ := h
      refine pq_geta (pc := 197) (f := 503) hx hb hT hK hP L62_12 hk130 rfl ea139 d_Mo_tariff_197 ?_
      refine lv_iload (pc := 200) hx hb d_Mo_tariff_200 (lv_at hl 5 rfl) ?_
      refine lv_iconst (pc := 202) (v := 1) hx hb d_Mo_tariff_202 (by decide) ?_
      refine lv_isub (pc := 203) hx hb d_Mo_tariff_203 ?_
      obtain ⟨hk140, h⟩ := h
      obtain ⟨hi141, h⟩ := h
      refine pq_lald (pc := 204) hx hb hK hP hk140 hi141 d_Mo_tariff_204 ?_
      obtain ⟨hk142, h⟩ := h
      obtain ⟨hi143, h⟩ := h
      refine pq_last (pc := 205) hx hb hK hP hS hk142 hi143 d_Mo_tariff_205 (fun H locs hP hS => ?_)
      have hk130 : p_k (s_al P137 a138 (Int32.toNatClampNeg x7) (p_al P137 a139 (Int32.toNatClampNeg (x7 - (1 : Int32))))) a0 = 13 := by rw [pk_al]; exact hk130
      have hk133 : p_k (s_al P137 a138 (Int32.toNatClampNeg x7) (p_al P137 a139 (Int32.toNatClampNeg (x7 - (1 : Int32))))) a132 = 101 := by rw [pk_al]; exact hk133
      have hk135 : p_k (s_al P137 a138 (Int32.toNatClampNeg x7) (p_al P137 a139 (Int32.toNatClampNeg (x7 - (1 : Int32))))) a131 = 101 := by rw [pk_al]; exact hk135
      have hk140 : p_k (s_al P137 a138 (Int32.toNatClampNeg x7) (p_al P137 a139 (Int32.toNatClampNeg (x7 - (1 : Int32))))) a139 = 102 := by rw [pk_al]; exact hk140
      have hk142 : p_k (s_al P137 a138 (Int32.toNatClampNeg x7) (p_al P137 a139 (Int32.toNatClampNeg (x7 - (1 : Int32))))) a138 = 102 := by rw [pk_al]; exact hk142
      obtain ⟨P144, eP144⟩ : ∃ z : Pic, z = s_al P137 a138 (Int32.toNatClampNeg x7) (p_al P137 a139 (Int32.toNatClampNeg (x7 - (1 : Int32)))) := ⟨_, rfl⟩
      replace h := h P144 eP144
      rw [← eP144] at hP hS
      have hk130 : p_k P144 a0 = 13 := by rw [eP144]; exact hk130
      have hk133 : p_k P144 a132 = 101 := by rw [eP144]; exact hk133
      have hk135 : p_k P144 a131 = 101 := by rw [eP144]; exact hk135
      have hk140 : p_k P144 a139 = 102 := by rw [eP144]; exact hk140
      have hk142 : p_k P144 a138 = 102 := by rw [eP144]; exact hk142
      obtain ⟨x145, ex145⟩ : ∃ z : Int32, z = x7 + (-1) := ⟨_, rfl⟩
      replace h := h x145 ex145
      refine lv_iinc (pc := 206) (v := x145) (lv' := [(7, .int x145), (0, .ref a0), (1, .int x1), (2, .long w2), (5, .int x5), (6, .int x6)]) hx hb d_Mo_tariff_206 hl (k := 5) rfl (by rw [ex145]; rfl) (by decide) rfl (fun ls hl => ?_)
      refine lv_goto (pc := 209) (tgt := 162) hx hb d_Mo_tariff_209 (by decide) ?_
      exact HK162 _ a0 x1 w2 x5 x6 x145 _ _ _ _ _ h hP hS (lv_sub hl [1, 2, 3, 4, 5, 0] rfl) (show cells + 0 ≤ 0 by omega) (show slots + 0 ≤ 0 by omega)
theorem wm_Mo_tariff_162 {p : Program} {l : Launch} {e : Env} {s : State} {m : MethodId} {args : Array Value} {below : List Frame} {meth : Method} {c : Code} {D : pq_D} {P0 : Pic} {po : Option Value → Pic → Prop} {th : String → Pic → Prop} (hfl : l.flags = flags0) (C : Cx p e s m args meth c prog_15_method_30_code 8 "WaterWorksModel" D P0) (hmg : e.platform.magicAccessors = ({} : Platform).magicAccessors) (hr : meth.sig.returnType = (some .int)) (hin : meth.name = "tariff") (htab : c.exceptionTable.toList = tableOf []) : ∀ n : Nat, ∀ (P : Pic) (a0 : Nat) (x1 : Int32) (w2 : Int64) (x5 : Int32) (x6 : Int32) (x7 : Int32) (H : Heap) (locs : List Loc) (cells slots : Nat) (ls : Array Slot), wl_Mo_tariff_162 po th n P a0 x1 w2 x5 x6 x7 → Pi D P H → Sg (cq_A P0 s) s.heap H P locs → lv_has ls 8 [(0, .ref a0), (1, .int x1), (2, .long w2), (5, .int x5), (6, .int x6), (7, .int x7)] → cells + 0 ≤ 0 → slots + 0 ≤ 0 → W p l e rm_Mo_tariff s m args below meth c H locs cells slots (mt_MQ below (cq_Q D P0 false po th) args s 0 0 (cq_free P0 false)) (F0 m 162 ls []) := by
  intro n
  induction n with
  | zero => intro P a0 x1 w2 x5 x6 x7 H locs cells slots ls h; exact h.elim
  | succ n ih => exact wk_Mo_tariff_162 hfl C hmg hr hin htab ih
set_option maxHeartbeats 4000000 in
set_option maxRecDepth 100000 in
theorem wk_Mo_tariff_144 {p : Program} {l : Launch} {e : Env} {s : State} {m : MethodId} {args : Array Value} {below : List Frame} {meth : Method} {c : Code} {D : pq_D} {P0 : Pic} {po : Option Value → Pic → Prop} {th : String → Pic → Prop} (hfl : l.flags = flags0) (C : Cx p e s m args meth c prog_15_method_30_code 8 "WaterWorksModel" D P0) (hmg : e.platform.magicAccessors = ({} : Platform).magicAccessors) (hr : meth.sig.returnType = (some .int)) (hin : meth.name = "tariff") (htab : c.exceptionTable.toList = tableOf []) : ∀ (P : Pic) (a0 : Nat) (x1 : Int32) (w2 : Int64) (x5 : Int32) (x6 : Int32) (t0 : Int32) (t1 : Nat) (H : Heap) (locs : List Loc) (cells slots : Nat) (ls : Array Slot), wb_Mo_tariff_144 po th P a0 x1 w2 x5 x6 t0 t1 → Pi D P H → Sg (cq_A P0 s) s.heap H P locs → lv_has ls 8 [(0, .ref a0), (1, .int x1), (2, .long w2), (5, .int x5), (6, .int x6)] → cells + 0 ≤ 0 → slots + 0 ≤ 0 → W p l e rm_Mo_tariff s m args below meth c H locs cells slots (mt_MQ below (cq_Q D P0 false po th) args s 0 0 (cq_free P0 false)) (F0 m 144 ls [.int t0, .ref t1]) := by
  intro P a0 x1 w2 x5 x6 t0 t1 H locs cells slots ls h hP hS hl hcc hss
  obtain ⟨hx, hb, hml, hown, hlocks, htr, hT, hK, hSt, hN, hP0⟩ := id C
  have L138_12 : pq_fl s m args 138 12 21 := ⟨_, "WaterWorksModel", "WaterWorksModel", rfl, by decide, hown, Or.inl (hT _ k_1125 _), (fun _ z => z)⟩
  have L59_12 : pq_fl s m args 59 12 22 := ⟨_, "WaterWorksModel", "WaterWorksModel", rfl, by decide, hown, Or.inl (hT _ k_1126 _), (fun _ z => z)⟩
  have L62_12 : pq_fl s m args 62 12 23 := ⟨_, "WaterWorksModel", "WaterWorksModel", rfl, by decide, hown, Or.inl (hT _ k_1127 _), (fun _ z => z)⟩
  have L81_12 : pq_fl s m args 81 12 0 := ⟨_, "WaterWorksModel", "WaterWorksModel", rfl, by decide, hown, Or.inl (hT _ k_1104 _), (fun _ z => z)⟩
  unfold wb_Mo_tariff_144 at h
  obtain ⟨hk126, h⟩ := h
  refine pq_puti (pc := 144) (f := 480) hx hb hT hK hP hS L81_12 hk126 rfl rfl rfl rfl d_Mo_tariff_144 (fun H locs hP hS => ?_)
  have hk126 : p_k (s_i P 480 t1 t0) t1 = 13 := by rw [pk_i]; exact hk126
  refine lv_aload_n (pc := 147) hx hb d_Mo_tariff_147 rfl (lv_at hl 0 rfl) ?_
  obtain ⟨hk127, h⟩ := h
  refine pq_geti (pc := 148) (f := 480) hx hb hT hK hP L81_12 hk127 rfl d_Mo_tariff_148 ?_
  refine lv_if_le (pc := 151) (tgt := 156) hx hb d_Mo_tariff_151 (by decide) (fun c129 => ?_) (fun c129 => ?_)
  · replace h := h.1 c129
    refine lv_aload_n (pc := 156) hx hb d_Mo_tariff_156 rfl (lv_at hl 0 rfl) ?_
    refine pq_geti (pc := 157) (f := 501) hx hb hT hK hP L138_12 hk127 rfl d_Mo_tariff_157 ?_
    refine lv_topi (fun x128 ex128 => ?_)
    replace h := h x128 ex128
    refine lv_istore (pc := 160) (lv' := [(7, .int x128), (0, .ref a0), (1, .int x1), (2, .long w2), (5, .int x5), (6, .int x6)]) hx hb d_Mo_tariff_160 hl (by decide) rfl (fun ls hl => ?_)
    obtain ⟨n, h⟩ := h
    exact wm_Mo_tariff_162 hfl C hmg hr hin htab n _ a0 x1 w2 x5 x6 x128 _ _ _ _ _ h hP hS (lv_sub hl [1, 2, 3, 4, 5, 0] rfl) (show cells + 0 ≤ 0 by omega) (show slots + 0 ≤ 0 by omega)
  · replace h := h.2 c129
    refine lv_iconst (pc := 154) (v := 0) hx hb d_Mo_tariff_154 (by decide) ?_
    exact we_i (pc := 155) hx hb hlocks hr hP hS (show cells + 0 ≤ 0 by omega) (show slots + 0 ≤ 0 by omega) h d_Mo_tariff_155
set_option maxHeartbeats 4000000 in
set_option maxRecDepth 100000 in
theorem wk_Mo_tariff_140 {p : Program} {l : Launch} {e : Env} {s : State} {m : MethodId} {args : Array Value} {below : List Frame} {meth : Method} {c : Code} {D : pq_D} {P0 : Pic} {po : Option Value → Pic → Prop} {th : String → Pic → Prop} (hfl : l.flags = flags0) (C : Cx p e s m args meth c prog_15_method_30_code 8 "WaterWorksModel" D P0) (hmg : e.platform.magicAccessors = ({} : Platform).magicAccessors) (hr : meth.sig.returnType = (some .int)) (hin : meth.name = "tariff") (htab : c.exceptionTable.toList = tableOf []) : ∀ (P : Pic) (a0 : Nat) (x1 : Int32) (w2 : Int64) (x5 : Int32) (x6 : Int32) (t0 : Nat) (H : Heap) (locs : List Loc) (cells slots : Nat) (ls : Array Slot), wb_Mo_tariff_140 po th P a0 x1 w2 x5 x6 t0 → Pi D P H → Sg (cq_A P0 s) s.heap H P locs → lv_has ls 8 [(0, .ref a0), (1, .int x1), (2, .long w2), (5, .int x5), (6, .int x6)] → cells + 0 ≤ 0 → slots + 0 ≤ 0 → W p l e rm_Mo_tariff s m args below meth c H locs cells slots (mt_MQ below (cq_Q D P0 false po th) args s 0 0 (cq_free P0 false)) (F0 m 140 ls [.ref t0]) := by
  intro P a0 x1 w2 x5 x6 t0 H locs cells slots ls h hP hS hl hcc hss
  obtain ⟨hx, hb, hml, hown, hlocks, htr, hT, hK, hSt, hN, hP0⟩ := id C
  have L138_12 : pq_fl s m args 138 12 21 := ⟨_, "WaterWorksModel", "WaterWorksModel", rfl, by decide, hown, Or.inl (hT _ k_1125 _), (fun _ z => z)⟩
  have L59_12 : pq_fl s m args 59 12 22 := ⟨_, "WaterWorksModel", "WaterWorksModel", rfl, by decide, hown, Or.inl (hT _ k_1126 _), (fun _ z => z)⟩
  have L62_12 : pq_fl s m args 62 12 23 := ⟨_, "WaterWorksModel", "WaterWorksModel", rfl, by decide, hown, Or.inl (hT _ k_1127 _), (fun _ z => z)⟩
  have L81_12 : pq_fl s m args 81 12 0 := ⟨_, "WaterWorksModel", "WaterWorksModel", rfl, by decide, hown, Or.inl (hT _ k_1104 _), (fun _ z => z)⟩
  unfold wb_Mo_tariff_140 at h
  refine lv_aload_n (pc := 140) hx hb d_Mo_tariff_140 rfl (lv_at hl 0 rfl) ?_
  obtain ⟨hk125, h⟩ := h
  refine pq_geti (pc := 141) (f := 480) hx hb hT hK hP L81_12 hk125 rfl d_Mo_tariff_141 ?_
  exact wk_Mo_tariff_144 hfl C hmg hr hin htab _ a0 x1 w2 x5 x6 (p_i P 480 a0) t0 _ _ _ _ _ h hP hS (lv_sub hl [0, 1, 2, 3, 4] rfl) (show cells + 0 ≤ 0 by omega) (show slots + 0 ≤ 0 by omega)
set_option maxHeartbeats 4000000 in
set_option maxRecDepth 100000 in
theorem wk_Mo_tariff_112 {p : Program} {l : Launch} {e : Env} {s : State} {m : MethodId} {args : Array Value} {below : List Frame} {meth : Method} {c : Code} {D : pq_D} {P0 : Pic} {po : Option Value → Pic → Prop} {th : String → Pic → Prop} (hfl : l.flags = flags0) (C : Cx p e s m args meth c prog_15_method_30_code 8 "WaterWorksModel" D P0) (hmg : e.platform.magicAccessors = ({} : Platform).magicAccessors) (hr : meth.sig.returnType = (some .int)) (hin : meth.name = "tariff") (htab : c.exceptionTable.toList = tableOf []) : ∀ (P : Pic) (a0 : Nat) (x1 : Int32) (w2 : Int64) (x5 : Int32) (t0 : Int32) (H : Heap) (locs : List Loc) (cells slots : Nat) (ls : Array Slot), wb_Mo_tariff_112 po th P a0 x1 w2 x5 t0 → Pi D P H → Sg (cq_A P0 s) s.heap H P locs → lv_has ls 8 [(0, .ref a0), (1, .int x1), (2, .long w2), (5, .int x5)] → cells + 0 ≤ 0 → slots + 0 ≤ 0 → W p l e rm_Mo_tariff s m args below meth c H locs cells slots (mt_MQ below (cq_Q D P0 false po th) args s 0 0 (cq_free P0 false)) (F0 m 112 ls [.int t0]) := by
  intro P a0 x1 w2 x5 t0 H locs cells slots ls h hP hS hl hcc hss
  obtain ⟨hx, hb, hml, hown, hlocks, htr, hT, hK, hSt, hN, hP0⟩ := id C
  have L138_12 : pq_fl s m args 138 12 21 := ⟨_, "WaterWorksModel", "WaterWorksModel", rfl, by decide, hown, Or.inl (hT _ k_1125 _), (fun _ z => z)⟩
  have L59_12 : pq_fl s m args 59 12 22 := ⟨_, "WaterWorksModel", "WaterWorksModel", rfl, by decide, hown, Or.inl (hT _ k_1126 _), (fun _ z => z)⟩
  have L62_12 : pq_fl s m args 62 12 23 := ⟨_, "WaterWorksModel", "WaterWorksModel", rfl, by decide, hown, Or.inl (hT _ k_1127 _), (fun _ z => z)⟩
  have L81_12 : pq_fl s m args 81 12 0 := ⟨_, "WaterWorksModel", "WaterWorksModel", rfl, by decide, hown, Or.inl (hT _ k_1104 _), (fun _ z => z)⟩
  unfold wb_Mo_tariff_112 at h
  refine lv_istore (pc := 112) (lv' := [(6, .int t0), (0, .ref a0), (1, .int x1), (2, .long w2), (5, .int x5)]) hx hb d_Mo_tariff_112 hl (by decide) rfl (fun ls hl => ?_)
  refine lv_aload_n (pc := 114) hx hb d_Mo_tariff_114 rfl (lv_at hl 1 rfl) ?_
  refine lv_aload_n (pc := 115) hx hb d_Mo_tariff_115 rfl (lv_at hl 1 rfl) ?_
  obtain ⟨hk121, h⟩ := h
  refine pq_geti (pc := 116) (f := 480) hx hb hT hK hP L81_12 hk121 rfl d_Mo_tariff_116 ?_
  refine lv_if_ne (pc := 119) (tgt := 140) hx hb d_Mo_tariff_119 (by decide) (fun c124 => ?_) (fun c124 => ?_)
  · replace h := h.1 c124
    exact wk_Mo_tariff_140 hfl C hmg hr hin htab _ a0 x1 w2 x5 t0 a0 _ _ _ _ _ h hP hS (lv_sub hl [1, 2, 3, 4, 0] rfl) (show cells + 0 ≤ 0 by omega) (show slots + 0 ≤ 0 by omega)
  · replace h := h.2 c124
    refine lv_iload (pc := 122) hx hb d_Mo_tariff_122 (lv_at hl 0 rfl) ?_
    refine lv_if_ne (pc := 124) (tgt := 140) hx hb d_Mo_tariff_124 (by decide) (fun c123 => ?_) (fun c123 => ?_)
    · replace h := h.1 c123
      exact wk_Mo_tariff_140 hfl C hmg hr hin htab _ a0 x1 w2 x5 t0 a0 _ _ _ _ _ h hP hS (lv_sub hl [1, 2, 3, 4, 0] rfl) (show cells + 0 ≤ 0 by omega) (show slots + 0 ≤ 0 by omega)
    · replace h := h.2 c123
      refine lv_aload_n (pc := 127) hx hb d_Mo_tariff_127 rfl (lv_at hl 1 rfl) ?_
      refine pq_geti (pc := 128) (f := 501) hx hb hT hK hP L138_12 hk121 rfl d_Mo_tariff_128 ?_
      refine lv_bipush (pc := 131) (v := 8) hx hb d_Mo_tariff_131 (by decide) ?_
      refine lv_icmp_ne (pc := 133) (tgt := 140) hx hb d_Mo_tariff_133 (by decide) (fun c122 => ?_) (fun c122 => ?_)
      · replace h := h.1 c122
        exact wk_Mo_tariff_140 hfl C hmg hr hin htab _ a0 x1 w2 x5 t0 a0 _ _ _ _ _ h hP hS (lv_sub hl [1, 2, 3, 4, 0] rfl) (show cells + 0 ≤ 0 by omega) (show slots + 0 ≤ 0 by omega)
      · replace h := h.2 c122
        refine lv_iconst (pc := 136) (v := 2) hx hb d_Mo_tariff_136 (by decide) ?_
        refine lv_goto (pc := 137) (tgt := 144) hx hb d_Mo_tariff_137 (by decide) ?_
        exact wk_Mo_tariff_144 hfl C hmg hr hin htab _ a0 x1 w2 x5 t0 (2 : Int32) a0 _ _ _ _ _ h hP hS (lv_sub hl [1, 2, 3, 4, 0] rfl) (show cells + 0 ≤ 0 by omega) (show slots + 0 ≤ 0 by omega)
set_option maxHeartbeats 4000000 in
set_option maxRecDepth 100000 in
theorem wk_Mo_tariff_111 {p : Program} {l : Launch} {e : Env} {s : State} {m : MethodId} {args : Array Value} {below : List Frame} {meth : Method} {c : Code} {D : pq_D} {P0 : Pic} {po : Option Value → Pic → Prop} {th : String → Pic → Prop} (hfl : l.flags = flags0) (C : Cx p e s m args meth c prog_15_method_30_code 8 "WaterWorksModel" D P0) (hmg : e.platform.magicAccessors = ({} : Platform).magicAccessors) (hr : meth.sig.returnType = (some .int)) (hin : meth.name = "tariff") (htab : c.exceptionTable.toList = tableOf []) : ∀ (P : Pic) (a0 : Nat) (x1 : Int32) (w2 : Int64) (x5 : Int32) (H : Heap) (locs : List Loc) (cells slots : Nat) (ls : Array Slot), wb_Mo_tariff_111 po th P a0 x1 w2 x5 → Pi D P H → Sg (cq_A P0 s) s.heap H P locs → lv_has ls 8 [(0, .ref a0), (1, .int x1), (2, .long w2), (5, .int x5)] → cells + 0 ≤ 0 → slots + 0 ≤ 0 → W p l e rm_Mo_tariff s m args below meth c H locs cells slots (mt_MQ below (cq_Q D P0 false po th) args s 0 0 (cq_free P0 false)) (F0 m 111 ls []) := by
  intro P a0 x1 w2 x5 H locs cells slots ls h hP hS hl hcc hss
  obtain ⟨hx, hb, hml, hown, hlocks, htr, hT, hK, hSt, hN, hP0⟩ := id C
  have L138_12 : pq_fl s m args 138 12 21 := ⟨_, "WaterWorksModel", "WaterWorksModel", rfl, by decide, hown, Or.inl (hT _ k_1125 _), (fun _ z => z)⟩
  have L59_12 : pq_fl s m args 59 12 22 := ⟨_, "WaterWorksModel", "WaterWorksModel", rfl, by decide, hown, Or.inl (hT _ k_1126 _), (fun _ z => z)⟩
  have L62_12 : pq_fl s m args 62 12 23 := ⟨_, "WaterWorksModel", "WaterWorksModel", rfl, by decide, hown, Or.inl (hT _ k_1127 _), (fun _ z => z)⟩
  have L81_12 : pq_fl s m args 81 12 0 := ⟨_, "WaterWorksModel", "WaterWorksModel", rfl, by decide, hown, Or.inl (hT _ k_1104 _), (fun _ z => z)⟩
  unfold wb_Mo_tariff_111 at h
  refine lv_iconst (pc := 111) (v := 0) hx hb d_Mo_tariff_111 (by decide) ?_
  exact wk_Mo_tariff_112 hfl C hmg hr hin htab _ a0 x1 w2 x5 (0 : Int32) _ _ _ _ _ h hP hS (lv_sub hl [0, 1, 2, 3] rfl) (show cells + 0 ≤ 0 by omega) (show slots + 0 ≤ 0 by omega)
set_option maxHeartbeats 4000000 in
set_option maxRecDepth 100000 in
theorem wk_Mo_tariff_87 {p : Program} {l : Launch} {e : Env} {s : State} {m : MethodId} {args : Array Value} {below : List Frame} {meth : Method} {c : Code} {D : pq_D} {P0 : Pic} {po : Option Value → Pic → Prop} {th : String → Pic → Prop} (hfl : l.flags = flags0) (C : Cx p e s m args meth c prog_15_method_30_code 8 "WaterWorksModel" D P0) (hmg : e.platform.magicAccessors = ({} : Platform).magicAccessors) (hr : meth.sig.returnType = (some .int)) (hin : meth.name = "tariff") (htab : c.exceptionTable.toList = tableOf []) : ∀ (P : Pic) (a0 : Nat) (x1 : Int32) (w2 : Int64) (x5 : Int32) (H : Heap) (locs : List Loc) (cells slots : Nat) (ls : Array Slot), wb_Mo_tariff_87 po th P a0 x1 w2 x5 → Pi D P H → Sg (cq_A P0 s) s.heap H P locs → lv_has ls 8 [(0, .ref a0), (1, .int x1), (2, .long w2), (5, .int x5)] → cells + 0 ≤ 0 → slots + 0 ≤ 0 → W p l e rm_Mo_tariff s m args below meth c H locs cells slots (mt_MQ below (cq_Q D P0 false po th) args s 0 0 (cq_free P0 false)) (F0 m 87 ls []) := by
  intro P a0 x1 w2 x5 H locs cells slots ls h hP hS hl hcc hss
  obtain ⟨hx, hb, hml, hown, hlocks, htr, hT, hK, hSt, hN, hP0⟩ := id C
  have L138_12 : pq_fl s m args 138 12 21 := ⟨_, "WaterWorksModel", "WaterWorksModel", rfl, by decide, hown, Or.inl (hT _ k_1125 _), (fun _ z => z)⟩
  have L59_12 : pq_fl s m args 59 12 22 := ⟨_, "WaterWorksModel", "WaterWorksModel", rfl, by decide, hown, Or.inl (hT _ k_1126 _), (fun _ z => z)⟩
  have L62_12 : pq_fl s m args 62 12 23 := ⟨_, "WaterWorksModel", "WaterWorksModel", rfl, by decide, hown, Or.inl (hT _ k_1127 _), (fun _ z => z)⟩
  have L81_12 : pq_fl s m args 81 12 0 := ⟨_, "WaterWorksModel", "WaterWorksModel", rfl, by decide, hown, Or.inl (hT _ k_1104 _), (fun _ z => z)⟩
  unfold wb_Mo_tariff_87 at h
  refine lv_iload (pc := 87) hx hb d_Mo_tariff_87 (lv_at hl 3 rfl) ?_
  refine lv_aload_n (pc := 89) hx hb d_Mo_tariff_89 rfl (lv_at hl 0 rfl) ?_
  obtain ⟨hk115, h⟩ := h
  refine pq_geti (pc := 90) (f := 501) hx hb hT hK hP L138_12 hk115 rfl d_Mo_tariff_90 ?_
  refine lv_icmp_ge (pc := 93) (tgt := 111) hx hb d_Mo_tariff_93 (by decide) (fun c120 => ?_) (fun c120 => ?_)
  · replace h := h.1 c120
    exact wk_Mo_tariff_111 hfl C hmg hr hin htab _ a0 x1 w2 x5 _ _ _ _ _ h hP hS (lv_sub hl [0, 1, 2, 3] rfl) (show cells + 0 ≤ 0 by omega) (show slots + 0 ≤ 0 by omega)
  · replace h := h.2 c120
    refine lv_aload_n (pc := 96) hx hb d_Mo_tariff_96 rfl (lv_at hl 0 rfl) ?_
    obtain ⟨a116, ea116, h⟩ := h
    refine pq_geta (pc := 97) (f := 502) hx hb hT hK hP L59_12 hk115 rfl ea116 d_Mo_tariff_97 ?_
    refine lv_iload (pc := 100) hx hb d_Mo_tariff_100 (lv_at hl 3 rfl) ?_
    obtain ⟨hk117, h⟩ := h
    obtain ⟨hi118, h⟩ := h
    refine pq_iald (pc := 102) hx hb hK hP hk117 hi118 d_Mo_tariff_102 ?_
    refine lv_iload_n (pc := 103) hx hb d_Mo_tariff_103 rfl (lv_at hl 1 rfl) ?_
    refine lv_icmp_ne (pc := 104) (tgt := 111) hx hb d_Mo_tariff_104 (by decide) (fun c119 => ?_) (fun c119 => ?_)
    · replace h := h.1 c119
      exact wk_Mo_tariff_111 hfl C hmg hr hin htab _ a0 x1 w2 x5 _ _ _ _ _ h hP hS (lv_sub hl [0, 1, 2, 3] rfl) (show cells + 0 ≤ 0 by omega) (show slots + 0 ≤ 0 by omega)
    · replace h := h.2 c119
      refine lv_iconst (pc := 107) (v := 1) hx hb d_Mo_tariff_107 (by decide) ?_
      refine lv_goto (pc := 108) (tgt := 112) hx hb d_Mo_tariff_108 (by decide) ?_
      exact wk_Mo_tariff_112 hfl C hmg hr hin htab _ a0 x1 w2 x5 (1 : Int32) _ _ _ _ _ h hP hS (lv_sub hl [0, 1, 2, 3] rfl) (show cells + 0 ≤ 0 by omega) (show slots + 0 ≤ 0 by omega)
set_option maxHeartbeats 4000000 in
set_option maxRecDepth 100000 in
theorem wk_Mo_tariff_61 {p : Program} {l : Launch} {e : Env} {s : State} {m : MethodId} {args : Array Value} {below : List Frame} {meth : Method} {c : Code} {D : pq_D} {P0 : Pic} {po : Option Value → Pic → Prop} {th : String → Pic → Prop} {K61 : Pic → Nat → Int32 → Int64 → Int32 → Prop} (hfl : l.flags = flags0) (C : Cx p e s m args meth c prog_15_method_30_code 8 "WaterWorksModel" D P0) (hmg : e.platform.magicAccessors = ({} : Platform).magicAccessors) (hr : meth.sig.returnType = (some .int)) (hin : meth.name = "tariff") (htab : c.exceptionTable.toList = tableOf []) (HK61 : ∀ (P : Pic) (a0 : Nat) (x1 : Int32) (w2 : Int64) (x5 : Int32) (H : Heap) (locs : List Loc) (cells slots : Nat) (ls : Array Slot), K61 P a0 x1 w2 x5 → Pi D P H → Sg (cq_A P0 s) s.heap H P locs → lv_has ls 8 [(0, .ref a0), (1, .int x1), (2, .long w2), (5, .int x5)] → cells + 0 ≤ 0 → slots + 0 ≤ 0 → W p l e rm_Mo_tariff s m args below meth c H locs cells slots (mt_MQ below (cq_Q D P0 false po th) args s 0 0 (cq_free P0 false)) (F0 m 61 ls [])) : ∀ (P : Pic) (a0 : Nat) (x1 : Int32) (w2 : Int64) (x5 : Int32) (H : Heap) (locs : List Loc) (cells slots : Nat) (ls : Array Slot), wb_Mo_tariff_61 po th K61 P a0 x1 w2 x5 → Pi D P H → Sg (cq_A P0 s) s.heap H P locs → lv_has ls 8 [(0, .ref a0), (1, .int x1), (2, .long w2), (5, .int x5)] → cells + 0 ≤ 0 → slots + 0 ≤ 0 → W p l e rm_Mo_tariff s m args below meth c H locs cells slots (mt_MQ below (cq_Q D P0 false po th) args s 0 0 (cq_free P0 false)) (F0 m 61 ls []) := by
  intro P a0 x1 w2 x5 H locs cells slots ls h hP hS hl hcc hss
  obtain ⟨hx, hb, hml, hown, hlocks, htr, hT, hK, hSt, hN, hP0⟩ := id C
  have L138_12 : pq_fl s m args 138 12 21 := ⟨_, "WaterWorksModel", "WaterWorksModel", rfl, by decide, hown, Or.inl (hT _ k_1125 _), (fun _ z => z)⟩
  have L59_12 : pq_fl s m args 59 12 22 := ⟨_, "WaterWorksModel", "WaterWorksModel", rfl, by decide, hown, Or.inl (hT _ k_1126 _), (fun _ z => z)⟩
  have L62_12 : pq_fl s m args 62 12 23 := ⟨_, "WaterWorksModel", "WaterWorksModel", rfl, by decide, hown, Or.inl (hT _ k_1127 _), (fun _ z => z)⟩
  have L81_12 : pq_fl s m args 81 12 0 := ⟨_, "WaterWorksModel", "WaterWorksModel", rfl, by decide, hown, Or.inl (hT _ k_1104 _), (fun _ z => z)⟩
  unfold wb_Mo_tariff_61 at h
  refine lv_iload (pc := 61) hx hb d_Mo_tariff_61 (lv_at hl 3 rfl) ?_
  refine lv_aload_n (pc := 63) hx hb d_Mo_tariff_63 rfl (lv_at hl 0 rfl) ?_
  obtain ⟨hk108, h⟩ := h
  refine pq_geti (pc := 64) (f := 501) hx hb hT hK hP L138_12 hk108 rfl d_Mo_tariff_64 ?_
  refine lv_icmp_ge (pc := 67) (tgt := 87) hx hb d_Mo_tariff_67 (by decide) (fun c114 => ?_) (fun c114 => ?_)
  · replace h := h.1 c114
    exact wk_Mo_tariff_87 hfl C hmg hr hin htab _ a0 x1 w2 x5 _ _ _ _ _ h hP hS (lv_sub hl [0, 1, 2, 3] rfl) (show cells + 0 ≤ 0 by omega) (show slots + 0 ≤ 0 by omega)
  · replace h := h.2 c114
    refine lv_aload_n (pc := 70) hx hb d_Mo_tariff_70 rfl (lv_at hl 0 rfl) ?_
    obtain ⟨a109, ea109, h⟩ := h
    refine pq_geta (pc := 71) (f := 502) hx hb hT hK hP L59_12 hk108 rfl ea109 d_Mo_tariff_71 ?_
    refine lv_iload (pc := 74) hx hb d_Mo_tariff_74 (lv_at hl 3 rfl) ?_
    obtain ⟨hk110, h⟩ := h
    obtain ⟨hi111, h⟩ := h
    refine pq_iald (pc := 76) hx hb hK hP hk110 hi111 d_Mo_tariff_76 ?_
    refine lv_iload_n (pc := 77) hx hb d_Mo_tariff_77 rfl (lv_at hl 1 rfl) ?_
    refine lv_icmp_ge (pc := 78) (tgt := 87) hx hb d_Mo_tariff_78 (by decide) (fun c113 => ?_) (fun c113 => ?_)
    · replace h := h.1 c113
      exact wk_Mo_tariff_87 hfl C hmg hr hin htab _ a0 x1 w2 x5 _ _ _ _ _ h hP hS (lv_sub hl [0, 1, 2, 3] rfl) (show cells + 0 ≤ 0 by omega) (show slots + 0 ≤ 0 by omega)
    · replace h := h.2 c113
      obtain ⟨x112, ex112⟩ : ∃ z : Int32, z = x5 + 1 := ⟨_, rfl⟩
      replace h := h x112 ex112
      refine lv_iinc (pc := 81) (v := x112) (lv' := [(5, .int x112), (0, .ref a0), (1, .int x1), (2, .long w2)]) hx hb d_Mo_tariff_81 hl (k := 3) rfl (by rw [ex112]; rfl) (by decide) rfl (fun ls hl => ?_)
      refine lv_goto (pc := 84) (tgt := 61) hx hb d_Mo_tariff_84 (by decide) ?_
      exact HK61 _ a0 x1 w2 x112 _ _ _ _ _ h hP hS (lv_sub hl [1, 2, 3, 0] rfl) (show cells + 0 ≤ 0 by omega) (show slots + 0 ≤ 0 by omega)
theorem wm_Mo_tariff_61 {p : Program} {l : Launch} {e : Env} {s : State} {m : MethodId} {args : Array Value} {below : List Frame} {meth : Method} {c : Code} {D : pq_D} {P0 : Pic} {po : Option Value → Pic → Prop} {th : String → Pic → Prop} (hfl : l.flags = flags0) (C : Cx p e s m args meth c prog_15_method_30_code 8 "WaterWorksModel" D P0) (hmg : e.platform.magicAccessors = ({} : Platform).magicAccessors) (hr : meth.sig.returnType = (some .int)) (hin : meth.name = "tariff") (htab : c.exceptionTable.toList = tableOf []) : ∀ n : Nat, ∀ (P : Pic) (a0 : Nat) (x1 : Int32) (w2 : Int64) (x5 : Int32) (H : Heap) (locs : List Loc) (cells slots : Nat) (ls : Array Slot), wl_Mo_tariff_61 po th n P a0 x1 w2 x5 → Pi D P H → Sg (cq_A P0 s) s.heap H P locs → lv_has ls 8 [(0, .ref a0), (1, .int x1), (2, .long w2), (5, .int x5)] → cells + 0 ≤ 0 → slots + 0 ≤ 0 → W p l e rm_Mo_tariff s m args below meth c H locs cells slots (mt_MQ below (cq_Q D P0 false po th) args s 0 0 (cq_free P0 false)) (F0 m 61 ls []) := by
  intro n
  induction n with
  | zero => intro P a0 x1 w2 x5 H locs cells slots ls h; exact h.elim
  | succ n ih => exact wk_Mo_tariff_61 hfl C hmg hr hin htab ih
set_option maxHeartbeats 4000000 in
set_option maxRecDepth 100000 in
theorem wk_Mo_tariff_55 {p : Program} {l : Launch} {e : Env} {s : State} {m : MethodId} {args : Array Value} {below : List Frame} {meth : Method} {c : Code} {D : pq_D} {P0 : Pic} {po : Option Value → Pic → Prop} {th : String → Pic → Prop} (hfl : l.flags = flags0) (C : Cx p e s m args meth c prog_15_method_30_code 8 "WaterWorksModel" D P0) (hmg : e.platform.magicAccessors = ({} : Platform).magicAccessors) (hr : meth.sig.returnType = (some .int)) (hin : meth.name = "tariff") (htab : c.exceptionTable.toList = tableOf []) : ∀ (P : Pic) (a0 : Nat) (x1 : Int32) (w2 : Int64) (t0 : Int32) (t1 : Nat) (H : Heap) (locs : List Loc) (cells slots : Nat) (ls : Array Slot), wb_Mo_tariff_55 po th P a0 x1 w2 t0 t1 → Pi D P H → Sg (cq_A P0 s) s.heap H P locs → lv_has ls 8 [(0, .ref a0), (1, .int x1), (2, .long w2)] → cells + 0 ≤ 0 → slots + 0 ≤ 0 → W p l e rm_Mo_tariff s m args below meth c H locs cells slots (mt_MQ below (cq_Q D P0 false po th) args s 0 0 (cq_free P0 false)) (F0 m 55 ls [.int t0, .ref t1]) := by
  intro P a0 x1 w2 t0 t1 H locs cells slots ls h hP hS hl hcc hss
  obtain ⟨hx, hb, hml, hown, hlocks, htr, hT, hK, hSt, hN, hP0⟩ := id C
  have L138_12 : pq_fl s m args 138 12 21 := ⟨_, "WaterWorksModel", "WaterWorksModel", rfl, by decide, hown, Or.inl (hT _ k_1125 _), (fun _ z => z)⟩
  have L59_12 : pq_fl s m args 59 12 22 := ⟨_, "WaterWorksModel", "WaterWorksModel", rfl, by decide, hown, Or.inl (hT _ k_1126 _), (fun _ z => z)⟩
  have L62_12 : pq_fl s m args 62 12 23 := ⟨_, "WaterWorksModel", "WaterWorksModel", rfl, by decide, hown, Or.inl (hT _ k_1127 _), (fun _ z => z)⟩
  have L81_12 : pq_fl s m args 81 12 0 := ⟨_, "WaterWorksModel", "WaterWorksModel", rfl, by decide, hown, Or.inl (hT _ k_1104 _), (fun _ z => z)⟩
  unfold wb_Mo_tariff_55 at h
  obtain ⟨hk107, h⟩ := h
  refine pq_puti (pc := 55) (f := 480) hx hb hT hK hP hS L81_12 hk107 rfl rfl rfl rfl d_Mo_tariff_55 (fun H locs hP hS => ?_)
  have hk107 : p_k (s_i P 480 t1 t0) t1 = 13 := by rw [pk_i]; exact hk107
  refine lv_iconst (pc := 58) (v := 0) hx hb d_Mo_tariff_58 (by decide) ?_
  refine lv_istore (pc := 59) (lv' := [(5, .int (0 : Int32)), (0, .ref a0), (1, .int x1), (2, .long w2)]) hx hb d_Mo_tariff_59 hl (by decide) rfl (fun ls hl => ?_)
  obtain ⟨n, h⟩ := h
  exact wm_Mo_tariff_61 hfl C hmg hr hin htab n _ a0 x1 w2 (0 : Int32) _ _ _ _ _ h hP hS (lv_sub hl [1, 2, 3, 0] rfl) (show cells + 0 ≤ 0 by omega) (show slots + 0 ≤ 0 by omega)
set_option maxHeartbeats 4000000 in
set_option maxRecDepth 100000 in
theorem wk_Mo_tariff_42 {p : Program} {l : Launch} {e : Env} {s : State} {m : MethodId} {args : Array Value} {below : List Frame} {meth : Method} {c : Code} {D : pq_D} {P0 : Pic} {po : Option Value → Pic → Prop} {th : String → Pic → Prop} (hfl : l.flags = flags0) (C : Cx p e s m args meth c prog_15_method_30_code 8 "WaterWorksModel" D P0) (hmg : e.platform.magicAccessors = ({} : Platform).magicAccessors) (hr : meth.sig.returnType = (some .int)) (hin : meth.name = "tariff") (htab : c.exceptionTable.toList = tableOf []) : ∀ (P : Pic) (a0 : Nat) (x1 : Int32) (w2 : Int64) (t0 : Int32) (H : Heap) (locs : List Loc) (cells slots : Nat) (ls : Array Slot), wb_Mo_tariff_42 po th P a0 x1 w2 t0 → Pi D P H → Sg (cq_A P0 s) s.heap H P locs → lv_has ls 8 [(0, .ref a0), (1, .int x1), (2, .long w2)] → cells + 0 ≤ 0 → slots + 0 ≤ 0 → W p l e rm_Mo_tariff s m args below meth c H locs cells slots (mt_MQ below (cq_Q D P0 false po th) args s 0 0 (cq_free P0 false)) (F0 m 42 ls [.int t0]) := by
  intro P a0 x1 w2 t0 H locs cells slots ls h hP hS hl hcc hss
  obtain ⟨hx, hb, hml, hown, hlocks, htr, hT, hK, hSt, hN, hP0⟩ := id C
  have L138_12 : pq_fl s m args 138 12 21 := ⟨_, "WaterWorksModel", "WaterWorksModel", rfl, by decide, hown, Or.inl (hT _ k_1125 _), (fun _ z => z)⟩
  have L59_12 : pq_fl s m args 59 12 22 := ⟨_, "WaterWorksModel", "WaterWorksModel", rfl, by decide, hown, Or.inl (hT _ k_1126 _), (fun _ z => z)⟩
  have L62_12 : pq_fl s m args 62 12 23 := ⟨_, "WaterWorksModel", "WaterWorksModel", rfl, by decide, hown, Or.inl (hT _ k_1127 _), (fun _ z => z)⟩
  have L81_12 : pq_fl s m args 81 12 0 := ⟨_, "WaterWorksModel", "WaterWorksModel", rfl, by decide, hown, Or.inl (hT _ k_1104 _), (fun _ z => z)⟩
  unfold wb_Mo_tariff_42 at h
  refine lv_istore (pc := 42) (lv' := [(4, .int t0), (0, .ref a0), (1, .int x1), (2, .long w2)]) hx hb d_Mo_tariff_42 hl (by decide) rfl (fun ls hl => ?_)
  refine lv_aload_n (pc := 44) hx hb d_Mo_tariff_44 rfl (lv_at hl 1 rfl) ?_
  refine lv_iload (pc := 45) hx hb d_Mo_tariff_45 (lv_at hl 0 rfl) ?_
  refine lv_if_eq (pc := 47) (tgt := 54) hx hb d_Mo_tariff_47 (by decide) (fun c106 => ?_) (fun c106 => ?_)
  · replace h := h.1 c106
    refine lv_iconst (pc := 54) (v := 0) hx hb d_Mo_tariff_54 (by decide) ?_
    exact wk_Mo_tariff_55 hfl C hmg hr hin htab _ a0 x1 w2 (0 : Int32) a0 _ _ _ _ _ h hP hS (lv_sub hl [1, 2, 3] rfl) (show cells + 0 ≤ 0 by omega) (show slots + 0 ≤ 0 by omega)
  · replace h := h.2 c106
    refine lv_iconst (pc := 50) (v := 1) hx hb d_Mo_tariff_50 (by decide) ?_
    refine lv_goto (pc := 51) (tgt := 55) hx hb d_Mo_tariff_51 (by decide) ?_
    exact wk_Mo_tariff_55 hfl C hmg hr hin htab _ a0 x1 w2 (1 : Int32) a0 _ _ _ _ _ h hP hS (lv_sub hl [1, 2, 3] rfl) (show cells + 0 ≤ 0 by omega) (show slots + 0 ≤ 0 by omega)
set_option maxHeartbeats 4000000 in
set_option maxRecDepth 100000 in
theorem wk_Mo_tariff_37 {p : Program} {l : Launch} {e : Env} {s : State} {m : MethodId} {args : Array Value} {below : List Frame} {meth : Method} {c : Code} {D : pq_D} {P0 : Pic} {po : Option Value → Pic → Prop} {th : String → Pic → Prop} (hfl : l.flags = flags0) (C : Cx p e s m args meth c prog_15_method_30_code 8 "WaterWorksModel" D P0) (hmg : e.platform.magicAccessors = ({} : Platform).magicAccessors) (hr : meth.sig.returnType = (some .int)) (hin : meth.name = "tariff") (htab : c.exceptionTable.toList = tableOf []) : ∀ (P : Pic) (a0 : Nat) (x1 : Int32) (w2 : Int64) (H : Heap) (locs : List Loc) (cells slots : Nat) (ls : Array Slot), wb_Mo_tariff_37 po th P a0 x1 w2 → Pi D P H → Sg (cq_A P0 s) s.heap H P locs → lv_has ls 8 [(0, .ref a0), (1, .int x1), (2, .long w2)] → cells + 0 ≤ 0 → slots + 0 ≤ 0 → W p l e rm_Mo_tariff s m args below meth c H locs cells slots (mt_MQ below (cq_Q D P0 false po th) args s 0 0 (cq_free P0 false)) (F0 m 37 ls []) := by
  intro P a0 x1 w2 H locs cells slots ls h hP hS hl hcc hss
  obtain ⟨hx, hb, hml, hown, hlocks, htr, hT, hK, hSt, hN, hP0⟩ := id C
  have L138_12 : pq_fl s m args 138 12 21 := ⟨_, "WaterWorksModel", "WaterWorksModel", rfl, by decide, hown, Or.inl (hT _ k_1125 _), (fun _ z => z)⟩
  have L59_12 : pq_fl s m args 59 12 22 := ⟨_, "WaterWorksModel", "WaterWorksModel", rfl, by decide, hown, Or.inl (hT _ k_1126 _), (fun _ z => z)⟩
  have L62_12 : pq_fl s m args 62 12 23 := ⟨_, "WaterWorksModel", "WaterWorksModel", rfl, by decide, hown, Or.inl (hT _ k_1127 _), (fun _ z => z)⟩
  have L81_12 : pq_fl s m args 81 12 0 := ⟨_, "WaterWorksModel", "WaterWorksModel", rfl, by decide, hown, Or.inl (hT _ k_1104 _), (fun _ z => z)⟩
  unfold wb_Mo_tariff_37 at h
  refine lv_iconst (pc := 37) (v := 1) hx hb d_Mo_tariff_37 (by decide) ?_
  refine lv_goto (pc := 38) (tgt := 42) hx hb d_Mo_tariff_38 (by decide) ?_
  exact wk_Mo_tariff_42 hfl C hmg hr hin htab _ a0 x1 w2 (1 : Int32) _ _ _ _ _ h hP hS (lv_sub hl [0, 1, 2] rfl) (show cells + 0 ≤ 0 by omega) (show slots + 0 ≤ 0 by omega)
set_option maxHeartbeats 4000000 in
set_option maxRecDepth 100000 in
theorem ct_Mo_tariff {l : Launch} (hfl : l.flags = flags0) (D : pq_D) {po : Option Value → Pic → Prop} {th : String → Pic → Prop} {P : Pic} {a0 : Nat} {x1 : Int32} {w2 : Int64} (h : wp_Mo_tariff po th P a0 x1 w2) : CT l D y_Mo_tariff (.code y_Mo_tariff prog_15_method_30_code 8 (some .int)) rm_Mo_tariff false [.ref a0, .int x1, .long w2] P po th := by
  refine ct_of (hs := []) hfl (by decide +kernel) (Or.inl ⟨rfl, rfl⟩) (Nat.le_of_ble_eq_true rfl) ?_
  intro p e s m below meth c C hmg hr hin htab ls hl
  have hl : lv_has ls 8 [(0, .ref a0), (1, .int x1), (2, .long w2)] := hl
  generalize hargs : ([.ref a0, .int x1, .long w2] : List Value).toArray = args at C ⊢
  obtain ⟨hx, hb, hml, hown, hlocks, htr, hT, hK, hSt, hN, hP0⟩ := id C
  have L138_12 : pq_fl s m args 138 12 21 := ⟨_, "WaterWorksModel", "WaterWorksModel", rfl, by decide, hown, Or.inl (hT _ k_1125 _), (fun _ z => z)⟩
  have L59_12 : pq_fl s m args 59 12 22 := ⟨_, "WaterWorksModel", "WaterWorksModel", rfl, by decide, hown, Or.inl (hT _ k_1126 _), (fun _ z => z)⟩
  have L62_12 : pq_fl s m args 62 12 23 := ⟨_, "WaterWorksModel", "WaterWorksModel", rfl, by decide, hown, Or.inl (hT _ k_1127 _), (fun _ z => z)⟩
  have L81_12 : pq_fl s m args 81 12 0 := ⟨_, "WaterWorksModel", "WaterWorksModel", rfl, by decide, hown, Or.inl (hT _ k_1104 _), (fun _ z => z)⟩
  have hP : Pi D P s.heap := hP0
  have hS : Sg (cq_A P s) s.heap s.heap P [] := Sg.start hP0
  unfold wp_Mo_tariff at h
  refine lv_iload_n (pc := 0) hx hb d_Mo_tariff_0 rfl (lv_at hl 1 rfl) ?_
  refine lv_if_lt (pc := 1) (tgt := 37) hx hb d_Mo_tariff_1 (by decide) (fun c105 => ?_) (fun c105 => ?_)
  · replace h := h.1 c105
    exact wk_Mo_tariff_37 hfl C hmg hr hin htab _ a0 x1 w2 _ _ _ _ _ h hP hS (lv_sub hl [0, 1, 2] rfl) (show 0 + 0 ≤ 0 by omega) (show 0 + 0 ≤ 0 by omega)
  · replace h := h.2 c105
    refine lv_iload_n (pc := 4) hx hb d_Mo_tariff_4 rfl (lv_at hl 1 rfl) ?_
    refine lv_sipush (pc := 5) (v := 400) hx hb d_Mo_tariff_5 (by decide) ?_
    refine lv_icmp_gt (pc := 8) (tgt := 37) hx hb d_Mo_tariff_8 (by decide) (fun c104 => ?_) (fun c104 => ?_)
    · replace h := h.1 c104
      exact wk_Mo_tariff_37 hfl C hmg hr hin htab _ a0 x1 w2 _ _ _ _ _ h hP hS (lv_sub hl [0, 1, 2] rfl) (show 0 + 0 ≤ 0 by omega) (show 0 + 0 ≤ 0 by omega)
    · replace h := h.2 c104
      refine lv_lload_n (pc := 11) hx hb d_Mo_tariff_11 rfl (lv_at hl 2 rfl) ?_
      refine lv_lconst (pc := 12) (v := 0) hx hb d_Mo_tariff_12 (by decide) ?_
      refine W.lcmp hx hb d_Mo_tariff_13 ?_
      refine lv_if_lt (pc := 14) (tgt := 37) hx hb d_Mo_tariff_14 (by decide) (fun c103 => ?_) (fun c103 => ?_)
      · replace h := h.1 c103
        exact wk_Mo_tariff_37 hfl C hmg hr hin htab _ a0 x1 w2 _ _ _ _ _ h hP hS (lv_sub hl [0, 1, 2] rfl) (show 0 + 0 ≤ 0 by omega) (show 0 + 0 ≤ 0 by omega)
      · replace h := h.2 c103
        refine lv_lload_n (pc := 17) hx hb d_Mo_tariff_17 rfl (lv_at hl 2 rfl) ?_
        refine lv_bipush (pc := 18) (v := 50) hx hb d_Mo_tariff_18 (by decide) ?_
        refine lv_lshr (pc := 20) hx hb d_Mo_tariff_20 rfl ?_
        refine lv_lconst (pc := 21) (v := 0) hx hb d_Mo_tariff_21 (by decide) ?_
        refine W.lcmp hx hb d_Mo_tariff_22 ?_
        refine lv_if_ne (pc := 23) (tgt := 37) hx hb d_Mo_tariff_23 (by decide) (fun c102 => ?_) (fun c102 => ?_)
        · replace h := h.1 c102
          exact wk_Mo_tariff_37 hfl C hmg hr hin htab _ a0 x1 w2 _ _ _ _ _ h hP hS (lv_sub hl [0, 1, 2] rfl) (show 0 + 0 ≤ 0 by omega) (show 0 + 0 ≤ 0 by omega)
        · replace h := h.2 c102
          refine lv_lload_n (pc := 26) hx hb d_Mo_tariff_26 rfl (lv_at hl 2 rfl) ?_
          refine lv_bipush (pc := 27) (v := 40) hx hb d_Mo_tariff_27 (by decide) ?_
          refine lv_lshr (pc := 29) hx hb d_Mo_tariff_29 rfl ?_
          refine lv_ldc2 (pc := 30) hx hb hown (hT _ k_1311 _) d_Mo_tariff_30 ?_
          refine W.lcmp hx hb d_Mo_tariff_33 ?_
          refine lv_if_le (pc := 34) (tgt := 41) hx hb d_Mo_tariff_34 (by decide) (fun c101 => ?_) (fun c101 => ?_)
          · replace h := h.1 c101
            refine lv_iconst (pc := 41) (v := 0) hx hb d_Mo_tariff_41 (by decide) ?_
            exact wk_Mo_tariff_42 hfl C hmg hr hin htab _ a0 x1 w2 (0 : Int32) _ _ _ _ _ h hP hS (lv_sub hl [0, 1, 2] rfl) (show 0 + 0 ≤ 0 by omega) (show 0 + 0 ≤ 0 by omega)
          · replace h := h.2 c101
            exact wk_Mo_tariff_37 hfl C hmg hr hin htab _ a0 x1 w2 _ _ _ _ _ h hP hS (lv_sub hl [0, 1, 2] rfl) (show 0 + 0 ≤ 0 by omega) (show 0 + 0 ≤ 0 by omega)
/-! WaterWorksModel.number(JI)J -/
abbrev y_Mo_number : MethodName := ⟨"WaterWorksModel", "number", "(JI)J"⟩
abbrev rm_Mo_number : Room := { frames := 1, cells := 0, slots := 0, locals := 40 }
theorem h_Mo_number : y_Mo_number.cls ≠ "java/lang/invoke/MethodHandle" ∧ y_Mo_number.cls ≠ "java/lang/invoke/VarHandle" := by decide +kernel
theorem n_Mo_number : (parseMethodDescriptor y_Mo_number.desc).map (fun d => d.parameters.length) = some 2 := by decide +kernel
theorem d_Mo_number_0 : decode prog_15_method_31_code 0 = .ok (.lload_n 0, 1) := by decide +kernel
theorem d_Mo_number_1 : decode prog_15_method_31_code 1 = .ok (.bipush 10, 2) := by decide +kernel
theorem d_Mo_number_3 : decode prog_15_method_31_code 3 = .ok (.iload_n 2, 1) := by decide +kernel
theorem d_Mo_number_4 : decode prog_15_method_31_code 4 = .ok (.imul, 1) := by decide +kernel
theorem d_Mo_number_5 : decode prog_15_method_31_code 5 = .ok (.lshr, 1) := by decide +kernel
theorem d_Mo_number_6 : decode prog_15_method_31_code 6 = .ok (.ldc2_w 141, 3) := by decide +kernel
theorem d_Mo_number_9 : decode prog_15_method_31_code 9 = .ok (.land, 1) := by decide +kernel
theorem d_Mo_number_10 : decode prog_15_method_31_code 10 = .ok (.lreturn, 1) := by decide +kernel
def wp_Mo_number (po : Option Value → Pic → Prop) (th : String → Pic → Prop) (P : Pic) (w0 : Int64) (x2 : Int32) : Prop := po (some (.long ((w0 >>> (Int32.toInt64 ((10 : Int32) * x2) &&& 63)) &&& (1023 : Int64)))) P
set_option maxHeartbeats 4000000 in
set_option maxRecDepth 100000 in
theorem ct_Mo_number {l : Launch} (hfl : l.flags = flags0) (D : pq_D) {po : Option Value → Pic → Prop} {th : String → Pic → Prop} {P : Pic} {w0 : Int64} {x2 : Int32} (h : wp_Mo_number po th P w0 x2) : CT l D y_Mo_number (.code y_Mo_number prog_15_method_31_code 3 (some .long)) rm_Mo_number true [.long w0, .int x2] P po th := by
  refine ct_of (hs := []) hfl (by decide +kernel) (Or.inl ⟨rfl, rfl⟩) (Nat.le_of_ble_eq_true rfl) ?_
  intro p e s m below meth c C hmg hr hin htab ls hl
  have hl : lv_has ls 3 [(0, .long w0), (2, .int x2)] := hl
  generalize hargs : ([.long w0, .int x2] : List Value).toArray = args at C ⊢
  obtain ⟨hx, hb, hml, hown, hlocks, htr, hT, hK, hSt, hN, hP0⟩ := id C
  have hO : So s.heap s.heap := So.rf
  have hP : Pi D P s.heap := hP0
  unfold wp_Mo_number at h
  refine lv_lload_n (pc := 0) hx hb d_Mo_number_0 rfl (lv_at hl 0 rfl) ?_
  refine lv_bipush (pc := 1) (v := 10) hx hb d_Mo_number_1 (by decide) ?_
  refine lv_iload_n (pc := 3) hx hb d_Mo_number_3 rfl (lv_at hl 1 rfl) ?_
  refine lv_imul (pc := 4) hx hb d_Mo_number_4 ?_
  refine lv_lshr (pc := 5) hx hb d_Mo_number_5 rfl ?_
  refine lv_ldc2 (pc := 6) hx hb hown (hT _ k_1327 _) d_Mo_number_6 ?_
  refine lv_land (pc := 9) hx hb d_Mo_number_9 ?_
  exact wo_l (pc := 10) hx hb hlocks hr hP0 hO (show 0 + 0 ≤ 0 by omega) (show 0 + 0 ≤ 0 by omega) h d_Mo_number_10
/-! WaterWorksModel.part(JJJ)J -/
abbrev y_Mo_part : MethodName := ⟨"WaterWorksModel", "part", "(JJJ)J"⟩
abbrev rm_Mo_part : Room := { frames := 2, cells := 0, slots := 0, locals := 62 }
theorem h_Mo_part : y_Mo_part.cls ≠ "java/lang/invoke/MethodHandle" ∧ y_Mo_part.cls ≠ "java/lang/invoke/VarHandle" := by decide +kernel
theorem n_Mo_part : (parseMethodDescriptor y_Mo_part.desc).map (fun d => d.parameters.length) = some 3 := by decide +kernel
theorem d_Mo_part_0 : decode prog_15_method_32_code 0 = .ok (.lload_n 0, 1) := by decide +kernel
theorem d_Mo_part_1 : decode prog_15_method_32_code 1 = .ok (.iconst 0, 1) := by decide +kernel
theorem d_Mo_part_2 : decode prog_15_method_32_code 2 = .ok (.invokestatic 143, 3) := by decide +kernel
theorem d_Mo_part_5 : decode prog_15_method_32_code 5 = .ok (.lload_n 2, 1) := by decide +kernel
theorem d_Mo_part_6 : decode prog_15_method_32_code 6 = .ok (.lmul, 1) := by decide +kernel
theorem d_Mo_part_7 : decode prog_15_method_32_code 7 = .ok (.ldc2_w 147, 3) := by decide +kernel
theorem d_Mo_part_10 : decode prog_15_method_32_code 10 = .ok (.ldiv, 1) := by decide +kernel
theorem d_Mo_part_11 : decode prog_15_method_32_code 11 = .ok (.lstore 6, 2) := by decide +kernel
theorem d_Mo_part_13 : decode prog_15_method_32_code 13 = .ok (.lload 4, 2) := by decide +kernel
theorem d_Mo_part_15 : decode prog_15_method_32_code 15 = .ok (.lload 6, 2) := by decide +kernel
theorem d_Mo_part_17 : decode prog_15_method_32_code 17 = .ok (.lcmp, 1) := by decide +kernel
theorem d_Mo_part_18 : decode prog_15_method_32_code 18 = .ok (.ifCond .ge 8, 3) := by decide +kernel
theorem d_Mo_part_21 : decode prog_15_method_32_code 21 = .ok (.lload 4, 2) := by decide +kernel
theorem d_Mo_part_23 : decode prog_15_method_32_code 23 = .ok (.goto 5, 3) := by decide +kernel
theorem d_Mo_part_26 : decode prog_15_method_32_code 26 = .ok (.lload 6, 2) := by decide +kernel
theorem d_Mo_part_28 : decode prog_15_method_32_code 28 = .ok (.lstore 6, 2) := by decide +kernel
theorem d_Mo_part_30 : decode prog_15_method_32_code 30 = .ok (.lload 6, 2) := by decide +kernel
theorem d_Mo_part_32 : decode prog_15_method_32_code 32 = .ok (.lload_n 0, 1) := by decide +kernel
theorem d_Mo_part_33 : decode prog_15_method_32_code 33 = .ok (.iconst 1, 1) := by decide +kernel
theorem d_Mo_part_34 : decode prog_15_method_32_code 34 = .ok (.invokestatic 143, 3) := by decide +kernel
theorem d_Mo_part_37 : decode prog_15_method_32_code 37 = .ok (.lmul, 1) := by decide +kernel
theorem d_Mo_part_38 : decode prog_15_method_32_code 38 = .ok (.lload 4, 2) := by decide +kernel
theorem d_Mo_part_40 : decode prog_15_method_32_code 40 = .ok (.lload 6, 2) := by decide +kernel
theorem d_Mo_part_42 : decode prog_15_method_32_code 42 = .ok (.lsub, 1) := by decide +kernel
theorem d_Mo_part_43 : decode prog_15_method_32_code 43 = .ok (.lload_n 0, 1) := by decide +kernel
theorem d_Mo_part_44 : decode prog_15_method_32_code 44 = .ok (.iconst 2, 1) := by decide +kernel
theorem d_Mo_part_45 : decode prog_15_method_32_code 45 = .ok (.invokestatic 143, 3) := by decide +kernel
theorem d_Mo_part_48 : decode prog_15_method_32_code 48 = .ok (.lmul, 1) := by decide +kernel
theorem d_Mo_part_49 : decode prog_15_method_32_code 49 = .ok (.ladd, 1) := by decide +kernel
theorem d_Mo_part_50 : decode prog_15_method_32_code 50 = .ok (.lstore 8, 2) := by decide +kernel
theorem d_Mo_part_52 : decode prog_15_method_32_code 52 = .ok (.lload_n 2, 1) := by decide +kernel
theorem d_Mo_part_53 : decode prog_15_method_32_code 53 = .ok (.lload_n 0, 1) := by decide +kernel
theorem d_Mo_part_54 : decode prog_15_method_32_code 54 = .ok (.iconst 3, 1) := by decide +kernel
theorem d_Mo_part_55 : decode prog_15_method_32_code 55 = .ok (.invokestatic 143, 3) := by decide +kernel
theorem d_Mo_part_58 : decode prog_15_method_32_code 58 = .ok (.lmul, 1) := by decide +kernel
theorem d_Mo_part_59 : decode prog_15_method_32_code 59 = .ok (.lload 8, 2) := by decide +kernel
theorem d_Mo_part_61 : decode prog_15_method_32_code 61 = .ok (.ladd, 1) := by decide +kernel
theorem d_Mo_part_62 : decode prog_15_method_32_code 62 = .ok (.ldc2_w 149, 3) := by decide +kernel
theorem d_Mo_part_65 : decode prog_15_method_32_code 65 = .ok (.lload 8, 2) := by decide +kernel
theorem d_Mo_part_67 : decode prog_15_method_32_code 67 = .ok (.lmul, 1) := by decide +kernel
theorem d_Mo_part_68 : decode prog_15_method_32_code 68 = .ok (.lload_n 0, 1) := by decide +kernel
theorem d_Mo_part_69 : decode prog_15_method_32_code 69 = .ok (.iconst 4, 1) := by decide +kernel
theorem d_Mo_part_70 : decode prog_15_method_32_code 70 = .ok (.invokestatic 143, 3) := by decide +kernel
theorem d_Mo_part_73 : decode prog_15_method_32_code 73 = .ok (.lmul, 1) := by decide +kernel
theorem d_Mo_part_74 : decode prog_15_method_32_code 74 = .ok (.ldc2_w 136, 3) := by decide +kernel
theorem d_Mo_part_77 : decode prog_15_method_32_code 77 = .ok (.ladd, 1) := by decide +kernel
theorem d_Mo_part_78 : decode prog_15_method_32_code 78 = .ok (.ldc2_w 151, 3) := by decide +kernel
theorem d_Mo_part_81 : decode prog_15_method_32_code 81 = .ok (.ldiv, 1) := by decide +kernel
theorem d_Mo_part_82 : decode prog_15_method_32_code 82 = .ok (.ladd, 1) := by decide +kernel
theorem d_Mo_part_83 : decode prog_15_method_32_code 83 = .ok (.lreturn, 1) := by decide +kernel
def wb_Mo_part_28 (po : Option Value → Pic → Prop) (th : String → Pic → Prop) (P : Pic) (w0 : Int64) (w2 : Int64) (w4 : Int64) (t0 : Int64) : Prop := wp_Mo_number (cp_l fun w104 _ => wp_Mo_number (cp_l fun w105 _ => ∀ (w106 : Int64), w106 = ((t0 * w104) + ((w4 - t0) * w105)) → wp_Mo_number (cp_l fun w107 _ => wp_Mo_number (cp_l fun w108 _ => po (some (.long (((w2 * w107) + w106) + (((((2 : Int64) * w106) * w108) + (1000 : Int64)) / (2000 : Int64))))) P) th P w0 (4 : Int32)) th P w0 (3 : Int32)) th P w0 (2 : Int32)) th P w0 (1 : Int32)
def wp_Mo_part (po : Option Value → Pic → Prop) (th : String → Pic → Prop) (P : Pic) (w0 : Int64) (w2 : Int64) (w4 : Int64) : Prop := wp_Mo_number (cp_l fun w101 _ => ∀ (w102 : Int64), w102 = ((w101 * w2) / (30 : Int64)) → ((0 ≤ (lg_cmp w4 w102) → (wb_Mo_part_28 po th P w0 w2 w4 w102)) ∧ (¬ 0 ≤ (lg_cmp w4 w102) → (wb_Mo_part_28 po th P w0 w2 w4 w4)))) th P w0 (0 : Int32)
set_option maxHeartbeats 4000000 in
set_option maxRecDepth 100000 in
theorem wk_Mo_part_28 {p : Program} {l : Launch} {e : Env} {s : State} {m : MethodId} {args : Array Value} {below : List Frame} {meth : Method} {c : Code} {D : pq_D} {P : Pic} {po : Option Value → Pic → Prop} {th : String → Pic → Prop} (hfl : l.flags = flags0) (C : Cx p e s m args meth c prog_15_method_32_code 10 "WaterWorksModel" D P) (hmg : e.platform.magicAccessors = ({} : Platform).magicAccessors) (hr : meth.sig.returnType = (some .long)) (hin : meth.name = "part") (htab : c.exceptionTable.toList = tableOf []) : ∀ (w0 : Int64) (w2 : Int64) (w4 : Int64) (t0 : Int64) (H : Heap) (cells slots : Nat) (ls : Array Slot), wb_Mo_part_28 po th P w0 w2 w4 t0 → So s.heap H → lv_has ls 10 [(0, .long w0), (2, .long w2), (4, .long w4)] → cells + 0 ≤ 0 → slots + 0 ≤ 0 → W p l e rm_Mo_part s m args below meth c H [] cells slots (mt_MQ below (cq_Q D P true po th) args s 0 0 (cq_free P true)) (F0 m 28 ls [.long t0]) := by
  intro w0 w2 w4 t0 H cells slots ls h hO hl hcc hss
  obtain ⟨hx, hb, hml, hown, hlocks, htr, hT, hK, hSt, hN, hP0⟩ := id C
  have hP : Pi D P H := So.pi hP0 hO
  unfold wb_Mo_part_28 at h
  refine lv_lstore (pc := 28) (lv' := [(6, .long t0), (0, .long w0), (2, .long w2), (4, .long w4)]) hx hb d_Mo_part_28 hl (by decide) rfl (fun ls hl => ?_)
  refine lv_lload (pc := 30) hx hb d_Mo_part_30 (lv_at hl 0 rfl) ?_
  refine lv_lload_n (pc := 32) hx hb d_Mo_part_32 rfl (lv_at hl 1 rfl) ?_
  refine lv_iconst (pc := 33) (v := 1) hx hb d_Mo_part_33 (by decide) ?_
  refine co_l (pc := 34) C (rest := [.long t0]) (mt_invS (As := [.long w0, .int (1 : Int32)]) hx hb hown (hT _ k_1324 _) (hT _ k_1325 _) (hT _ k_24 _) (mt_Cd.code (hT _ k_1326 #[])) h_Mo_number n_Mo_number rfl d_Mo_part_34) (ct_Mo_number hfl D h) k_1326 k_24 ⟨Nat.le_of_ble_eq_true rfl, Nat.le_of_ble_eq_true rfl⟩ ⟨(show cells + 0 ≤ 0 by omega), (show slots + 0 ≤ 0 by omega)⟩ hl.1 d_Mo_part_34 (Nat.le_of_ble_eq_true rfl) hO (fun w104 H h hO => ?_) (fun xx X H h hX hex hO => ?_)
  · have hP : Pi D P H := So.pi hP0 hO
    refine lv_lmul (pc := 37) hx hb d_Mo_part_37 ?_
    refine lv_lload (pc := 38) hx hb d_Mo_part_38 (lv_at hl 3 rfl) ?_
    refine lv_lload (pc := 40) hx hb d_Mo_part_40 (lv_at hl 0 rfl) ?_
    refine lv_lsub (pc := 42) hx hb d_Mo_part_42 ?_
    refine lv_lload_n (pc := 43) hx hb d_Mo_part_43 rfl (lv_at hl 1 rfl) ?_
    refine lv_iconst (pc := 44) (v := 2) hx hb d_Mo_part_44 (by decide) ?_
    refine co_l (pc := 45) C (rest := [.long (w4 - t0), .long (t0 * w104)]) (mt_invS (As := [.long w0, .int (2 : Int32)]) hx hb hown (hT _ k_1324 _) (hT _ k_1325 _) (hT _ k_24 _) (mt_Cd.code (hT _ k_1326 #[])) h_Mo_number n_Mo_number rfl d_Mo_part_45) (ct_Mo_number hfl D h) k_1326 k_24 ⟨Nat.le_of_ble_eq_true rfl, Nat.le_of_ble_eq_true rfl⟩ ⟨(show cells + 0 + 0 ≤ 0 by omega), (show slots + 0 + 0 ≤ 0 by omega)⟩ hl.1 d_Mo_part_45 (Nat.le_of_ble_eq_true rfl) hO (fun w105 H h hO => ?_) (fun xx X H h hX hex hO => ?_)
    · have hP : Pi D P H := So.pi hP0 hO
      refine lv_lmul (pc := 48) hx hb d_Mo_part_48 ?_
      refine lv_ladd (pc := 49) hx hb d_Mo_part_49 ?_
      refine lv_topl (fun w106 ew106 => ?_)
      replace h := h w106 ew106
      refine lv_lstore (pc := 50) (lv' := [(8, .long w106), (6, .long t0), (0, .long w0), (2, .long w2), (4, .long w4)]) hx hb d_Mo_part_50 hl (by decide) rfl (fun ls hl => ?_)
      refine lv_lload_n (pc := 52) hx hb d_Mo_part_52 rfl (lv_at hl 3 rfl) ?_
      refine lv_lload_n (pc := 53) hx hb d_Mo_part_53 rfl (lv_at hl 2 rfl) ?_
      refine lv_iconst (pc := 54) (v := 3) hx hb d_Mo_part_54 (by decide) ?_
      refine co_l (pc := 55) C (rest := [.long w2]) (mt_invS (As := [.long w0, .int (3 : Int32)]) hx hb hown (hT _ k_1324 _) (hT _ k_1325 _) (hT _ k_24 _) (mt_Cd.code (hT _ k_1326 #[])) h_Mo_number n_Mo_number rfl d_Mo_part_55) (ct_Mo_number hfl D h) k_1326 k_24 ⟨Nat.le_of_ble_eq_true rfl, Nat.le_of_ble_eq_true rfl⟩ ⟨(show cells + 0 + 0 + 0 ≤ 0 by omega), (show slots + 0 + 0 + 0 ≤ 0 by omega)⟩ hl.1 d_Mo_part_55 (Nat.le_of_ble_eq_true rfl) hO (fun w107 H h hO => ?_) (fun xx X H h hX hex hO => ?_)
      · have hP : Pi D P H := So.pi hP0 hO
        refine lv_lmul (pc := 58) hx hb d_Mo_part_58 ?_
        refine lv_lload (pc := 59) hx hb d_Mo_part_59 (lv_at hl 0 rfl) ?_
        refine lv_ladd (pc := 61) hx hb d_Mo_part_61 ?_
        refine lv_ldc2 (pc := 62) hx hb hown (hT _ k_1329 _) d_Mo_part_62 ?_
        refine lv_lload (pc := 65) hx hb d_Mo_part_65 (lv_at hl 0 rfl) ?_
        refine lv_lmul (pc := 67) hx hb d_Mo_part_67 ?_
        refine lv_lload_n (pc := 68) hx hb d_Mo_part_68 rfl (lv_at hl 2 rfl) ?_
        refine lv_iconst (pc := 69) (v := 4) hx hb d_Mo_part_69 (by decide) ?_
        refine co_l (pc := 70) C (rest := [.long ((2 : Int64) * w106), .long ((w2 * w107) + w106)]) (mt_invS (As := [.long w0, .int (4 : Int32)]) hx hb hown (hT _ k_1324 _) (hT _ k_1325 _) (hT _ k_24 _) (mt_Cd.code (hT _ k_1326 #[])) h_Mo_number n_Mo_number rfl d_Mo_part_70) (ct_Mo_number hfl D h) k_1326 k_24 ⟨Nat.le_of_ble_eq_true rfl, Nat.le_of_ble_eq_true rfl⟩ ⟨(show cells + 0 + 0 + 0 + 0 ≤ 0 by omega), (show slots + 0 + 0 + 0 + 0 ≤ 0 by omega)⟩ hl.1 d_Mo_part_70 (Nat.le_of_ble_eq_true rfl) hO (fun w108 H h hO => ?_) (fun xx X H h hX hex hO => ?_)
        · have hP : Pi D P H := So.pi hP0 hO
          refine lv_lmul (pc := 73) hx hb d_Mo_part_73 ?_
          refine lv_ldc2 (pc := 74) hx hb hown (hT _ k_1311 _) d_Mo_part_74 ?_
          refine lv_ladd (pc := 77) hx hb d_Mo_part_77 ?_
          refine lv_ldc2 (pc := 78) hx hb hown (hT _ k_1330 _) d_Mo_part_78 ?_
          refine lv_ldiv (pc := 81) hx hb d_Mo_part_81 (by decide) ?_
          refine lv_ladd (pc := 82) hx hb d_Mo_part_82 ?_
          exact wo_l (pc := 83) hx hb hlocks hr hP0 hO (show cells + 0 + 0 + 0 + 0 + 0 ≤ 0 by omega) (show slots + 0 + 0 + 0 + 0 + 0 ≤ 0 by omega) h d_Mo_part_83
        · exact cq_outo hlocks (pq_nil htab rfl) (show cells + 0 + 0 + 0 + 0 + 0 ≤ 0 by omega) (show slots + 0 + 0 + 0 + 0 + 0 ≤ 0 by omega) hX hex hP0 hO h
      · exact cq_outo hlocks (pq_nil htab rfl) (show cells + 0 + 0 + 0 + 0 ≤ 0 by omega) (show slots + 0 + 0 + 0 + 0 ≤ 0 by omega) hX hex hP0 hO h
    · exact cq_outo hlocks (pq_nil htab rfl) (show cells + 0 + 0 + 0 ≤ 0 by omega) (show slots + 0 + 0 + 0 ≤ 0 by omega) hX hex hP0 hO h
  · exact cq_outo hlocks (pq_nil htab rfl) (show cells + 0 + 0 ≤ 0 by omega) (show slots + 0 + 0 ≤ 0 by omega) hX hex hP0 hO h
set_option maxHeartbeats 4000000 in
set_option maxRecDepth 100000 in
theorem ct_Mo_part {l : Launch} (hfl : l.flags = flags0) (D : pq_D) {po : Option Value → Pic → Prop} {th : String → Pic → Prop} {P : Pic} {w0 : Int64} {w2 : Int64} {w4 : Int64} (h : wp_Mo_part po th P w0 w2 w4) : CT l D y_Mo_part (.code y_Mo_part prog_15_method_32_code 10 (some .long)) rm_Mo_part true [.long w0, .long w2, .long w4] P po th := by
  refine ct_of (hs := []) hfl (by decide +kernel) (Or.inl ⟨rfl, rfl⟩) (Nat.le_of_ble_eq_true rfl) ?_
  intro p e s m below meth c C hmg hr hin htab ls hl
  have hl : lv_has ls 10 [(0, .long w0), (2, .long w2), (4, .long w4)] := hl
  generalize hargs : ([.long w0, .long w2, .long w4] : List Value).toArray = args at C ⊢
  obtain ⟨hx, hb, hml, hown, hlocks, htr, hT, hK, hSt, hN, hP0⟩ := id C
  have hO : So s.heap s.heap := So.rf
  have hP : Pi D P s.heap := hP0
  unfold wp_Mo_part at h
  refine lv_lload_n (pc := 0) hx hb d_Mo_part_0 rfl (lv_at hl 0 rfl) ?_
  refine lv_iconst (pc := 1) (v := 0) hx hb d_Mo_part_1 (by decide) ?_
  refine co_l (pc := 2) C (rest := []) (mt_invS (As := [.long w0, .int (0 : Int32)]) hx hb hown (hT _ k_1324 _) (hT _ k_1325 _) (hT _ k_24 _) (mt_Cd.code (hT _ k_1326 #[])) h_Mo_number n_Mo_number rfl d_Mo_part_2) (ct_Mo_number hfl D h) k_1326 k_24 ⟨Nat.le_of_ble_eq_true rfl, Nat.le_of_ble_eq_true rfl⟩ ⟨(show 0 + 0 ≤ 0 by omega), (show 0 + 0 ≤ 0 by omega)⟩ hl.1 d_Mo_part_2 (Nat.le_of_ble_eq_true rfl) hO (fun w101 H h hO => ?_) (fun xx X H h hX hex hO => ?_)
  · have hP : Pi D P H := So.pi hP0 hO
    refine lv_lload_n (pc := 5) hx hb d_Mo_part_5 rfl (lv_at hl 1 rfl) ?_
    refine lv_lmul (pc := 6) hx hb d_Mo_part_6 ?_
    refine lv_ldc2 (pc := 7) hx hb hown (hT _ k_1328 _) d_Mo_part_7 ?_
    refine lv_ldiv (pc := 10) hx hb d_Mo_part_10 (by decide) ?_
    refine lv_topl (fun w102 ew102 => ?_)
    replace h := h w102 ew102
    refine lv_lstore (pc := 11) (lv' := [(6, .long w102), (0, .long w0), (2, .long w2), (4, .long w4)]) hx hb d_Mo_part_11 hl (by decide) rfl (fun ls hl => ?_)
    refine lv_lload (pc := 13) hx hb d_Mo_part_13 (lv_at hl 3 rfl) ?_
    refine lv_lload (pc := 15) hx hb d_Mo_part_15 (lv_at hl 0 rfl) ?_
    refine W.lcmp hx hb d_Mo_part_17 ?_
    refine lv_if_ge (pc := 18) (tgt := 26) hx hb d_Mo_part_18 (by decide) (fun c103 => ?_) (fun c103 => ?_)
    · replace h := h.1 c103
      refine lv_lload (pc := 26) hx hb d_Mo_part_26 (lv_at hl 0 rfl) ?_
      exact wk_Mo_part_28 hfl C hmg hr hin htab w0 w2 w4 w102 _ _ _ _ h hO (lv_sub hl [1, 2, 3] rfl) (show 0 + 0 + 0 ≤ 0 by omega) (show 0 + 0 + 0 ≤ 0 by omega)
    · replace h := h.2 c103
      refine lv_lload (pc := 21) hx hb d_Mo_part_21 (lv_at hl 3 rfl) ?_
      refine lv_goto (pc := 23) (tgt := 28) hx hb d_Mo_part_23 (by decide) ?_
      exact wk_Mo_part_28 hfl C hmg hr hin htab w0 w2 w4 w4 _ _ _ _ h hO (lv_sub hl [1, 2, 3] rfl) (show 0 + 0 + 0 ≤ 0 by omega) (show 0 + 0 + 0 ≤ 0 by omega)
  · exact cq_outo hlocks (pq_nil htab rfl) (show 0 + 0 + 0 ≤ 0 by omega) (show 0 + 0 + 0 ≤ 0 by omega) hX hex hP0 hO h
/-! WaterWorksModel.price(III)J -/
abbrev y_Mo_price : MethodName := ⟨"WaterWorksModel", "price", "(III)J"⟩
abbrev rm_Mo_price : Room := { frames := 3, cells := 0, slots := 0, locals := 91 }
theorem h_Mo_price : y_Mo_price.cls ≠ "java/lang/invoke/MethodHandle" ∧ y_Mo_price.cls ≠ "java/lang/invoke/VarHandle" := by decide +kernel
theorem n_Mo_price : (parseMethodDescriptor y_Mo_price.desc).map (fun d => d.parameters.length) = some 3 := by decide +kernel
theorem d_Mo_price_0 : decode prog_15_method_33_code 0 = .ok (.lconst 0, 1) := by decide +kernel
theorem d_Mo_price_1 : decode prog_15_method_33_code 1 = .ok (.lstore 4, 2) := by decide +kernel
theorem d_Mo_price_3 : decode prog_15_method_33_code 3 = .ok (.iload_n 2, 1) := by decide +kernel
theorem d_Mo_price_4 : decode prog_15_method_33_code 4 = .ok (.istore 6, 2) := by decide +kernel
theorem d_Mo_price_6 : decode prog_15_method_33_code 6 = .ok (.iconst (-1), 1) := by decide +kernel
theorem d_Mo_price_7 : decode prog_15_method_33_code 7 = .ok (.istore 7, 2) := by decide +kernel
theorem d_Mo_price_9 : decode prog_15_method_33_code 9 = .ok (.aload_n 0, 1) := by decide +kernel
theorem d_Mo_price_10 : decode prog_15_method_33_code 10 = .ok (.iload_n 1, 1) := by decide +kernel
theorem d_Mo_price_11 : decode prog_15_method_33_code 11 = .ok (.iload_n 2, 1) := by decide +kernel
theorem d_Mo_price_12 : decode prog_15_method_33_code 12 = .ok (.invokevirtual 132, 3) := by decide +kernel
theorem d_Mo_price_15 : decode prog_15_method_33_code 15 = .ok (.istore 8, 2) := by decide +kernel
theorem d_Mo_price_17 : decode prog_15_method_33_code 17 = .ok (.iconst 0, 1) := by decide +kernel
theorem d_Mo_price_18 : decode prog_15_method_33_code 18 = .ok (.istore 9, 2) := by decide +kernel
theorem d_Mo_price_20 : decode prog_15_method_33_code 20 = .ok (.iload 9, 2) := by decide +kernel
theorem d_Mo_price_22 : decode prog_15_method_33_code 22 = .ok (.aload_n 0, 1) := by decide +kernel
theorem d_Mo_price_23 : decode prog_15_method_33_code 23 = .ok (.getfield 138, 3) := by decide +kernel
theorem d_Mo_price_26 : decode prog_15_method_33_code 26 = .ok (.if_icmp .gt 145, 3) := by decide +kernel
theorem d_Mo_price_29 : decode prog_15_method_33_code 29 = .ok (.iload 9, 2) := by decide +kernel
theorem d_Mo_price_31 : decode prog_15_method_33_code 31 = .ok (.aload_n 0, 1) := by decide +kernel
theorem d_Mo_price_32 : decode prog_15_method_33_code 32 = .ok (.getfield 138, 3) := by decide +kernel
theorem d_Mo_price_35 : decode prog_15_method_33_code 35 = .ok (.if_icmp .ge 21, 3) := by decide +kernel
theorem d_Mo_price_38 : decode prog_15_method_33_code 38 = .ok (.aload_n 0, 1) := by decide +kernel
theorem d_Mo_price_39 : decode prog_15_method_33_code 39 = .ok (.getfield 59, 3) := by decide +kernel
theorem d_Mo_price_42 : decode prog_15_method_33_code 42 = .ok (.iload 9, 2) := by decide +kernel
theorem d_Mo_price_44 : decode prog_15_method_33_code 44 = .ok (.iaload, 1) := by decide +kernel
theorem d_Mo_price_45 : decode prog_15_method_33_code 45 = .ok (.iload_n 2, 1) := by decide +kernel
theorem d_Mo_price_46 : decode prog_15_method_33_code 46 = .ok (.if_icmp .gt 10, 3) := by decide +kernel
theorem d_Mo_price_49 : decode prog_15_method_33_code 49 = .ok (.iload 9, 2) := by decide +kernel
theorem d_Mo_price_51 : decode prog_15_method_33_code 51 = .ok (.istore 7, 2) := by decide +kernel
theorem d_Mo_price_53 : decode prog_15_method_33_code 53 = .ok (.goto 112, 3) := by decide +kernel
theorem d_Mo_price_56 : decode prog_15_method_33_code 56 = .ok (.iload 9, 2) := by decide +kernel
theorem d_Mo_price_58 : decode prog_15_method_33_code 58 = .ok (.aload_n 0, 1) := by decide +kernel
theorem d_Mo_price_59 : decode prog_15_method_33_code 59 = .ok (.getfield 138, 3) := by decide +kernel
theorem d_Mo_price_62 : decode prog_15_method_33_code 62 = .ok (.if_icmp .eq 14, 3) := by decide +kernel
theorem d_Mo_price_65 : decode prog_15_method_33_code 65 = .ok (.aload_n 0, 1) := by decide +kernel
theorem d_Mo_price_66 : decode prog_15_method_33_code 66 = .ok (.getfield 59, 3) := by decide +kernel
theorem d_Mo_price_69 : decode prog_15_method_33_code 69 = .ok (.iload 9, 2) := by decide +kernel
theorem d_Mo_price_71 : decode prog_15_method_33_code 71 = .ok (.iaload, 1) := by decide +kernel
theorem d_Mo_price_72 : decode prog_15_method_33_code 72 = .ok (.iload_n 3, 1) := by decide +kernel
theorem d_Mo_price_73 : decode prog_15_method_33_code 73 = .ok (.if_icmp .ge 92, 3) := by decide +kernel
theorem d_Mo_price_76 : decode prog_15_method_33_code 76 = .ok (.iload 9, 2) := by decide +kernel
theorem d_Mo_price_78 : decode prog_15_method_33_code 78 = .ok (.aload_n 0, 1) := by decide +kernel
theorem d_Mo_price_79 : decode prog_15_method_33_code 79 = .ok (.getfield 138, 3) := by decide +kernel
theorem d_Mo_price_82 : decode prog_15_method_33_code 82 = .ok (.if_icmp .ne 7, 3) := by decide +kernel
theorem d_Mo_price_85 : decode prog_15_method_33_code 85 = .ok (.iload_n 3, 1) := by decide +kernel
theorem d_Mo_price_86 : decode prog_15_method_33_code 86 = .ok (.goto 10, 3) := by decide +kernel
theorem d_Mo_price_89 : decode prog_15_method_33_code 89 = .ok (.aload_n 0, 1) := by decide +kernel
theorem d_Mo_price_90 : decode prog_15_method_33_code 90 = .ok (.getfield 59, 3) := by decide +kernel
theorem d_Mo_price_93 : decode prog_15_method_33_code 93 = .ok (.iload 9, 2) := by decide +kernel
theorem d_Mo_price_95 : decode prog_15_method_33_code 95 = .ok (.iaload, 1) := by decide +kernel
theorem d_Mo_price_96 : decode prog_15_method_33_code 96 = .ok (.istore 10, 2) := by decide +kernel
theorem d_Mo_price_98 : decode prog_15_method_33_code 98 = .ok (.aload_n 0, 1) := by decide +kernel
theorem d_Mo_price_99 : decode prog_15_method_33_code 99 = .ok (.iload_n 1, 1) := by decide +kernel
theorem d_Mo_price_100 : decode prog_15_method_33_code 100 = .ok (.iload 10, 2) := by decide +kernel
theorem d_Mo_price_102 : decode prog_15_method_33_code 102 = .ok (.invokevirtual 132, 3) := by decide +kernel
theorem d_Mo_price_105 : decode prog_15_method_33_code 105 = .ok (.istore 11, 2) := by decide +kernel
theorem d_Mo_price_107 : decode prog_15_method_33_code 107 = .ok (.iload 7, 2) := by decide +kernel
theorem d_Mo_price_109 : decode prog_15_method_33_code 109 = .ok (.ifCond .lt 13, 3) := by decide +kernel
theorem d_Mo_price_112 : decode prog_15_method_33_code 112 = .ok (.iload 8, 2) := by decide +kernel
theorem d_Mo_price_114 : decode prog_15_method_33_code 114 = .ok (.ifCond .lt 8, 3) := by decide +kernel
theorem d_Mo_price_117 : decode prog_15_method_33_code 117 = .ok (.iload 11, 2) := by decide +kernel
theorem d_Mo_price_119 : decode prog_15_method_33_code 119 = .ok (.ifCond .ge 7, 3) := by decide +kernel
theorem d_Mo_price_122 : decode prog_15_method_33_code 122 = .ok (.ldc2_w 153, 3) := by decide +kernel
theorem d_Mo_price_125 : decode prog_15_method_33_code 125 = .ok (.lreturn, 1) := by decide +kernel
theorem d_Mo_price_126 : decode prog_15_method_33_code 126 = .ok (.lload 4, 2) := by decide +kernel
theorem d_Mo_price_128 : decode prog_15_method_33_code 128 = .ok (.aload_n 0, 1) := by decide +kernel
theorem d_Mo_price_129 : decode prog_15_method_33_code 129 = .ok (.getfield 62, 3) := by decide +kernel
theorem d_Mo_price_132 : decode prog_15_method_33_code 132 = .ok (.iload 7, 2) := by decide +kernel
theorem d_Mo_price_134 : decode prog_15_method_33_code 134 = .ok (.laload, 1) := by decide +kernel
theorem d_Mo_price_135 : decode prog_15_method_33_code 135 = .ok (.iload 10, 2) := by decide +kernel
theorem d_Mo_price_137 : decode prog_15_method_33_code 137 = .ok (.iload 6, 2) := by decide +kernel
theorem d_Mo_price_139 : decode prog_15_method_33_code 139 = .ok (.isub, 1) := by decide +kernel
theorem d_Mo_price_140 : decode prog_15_method_33_code 140 = .ok (.i2l, 1) := by decide +kernel
theorem d_Mo_price_141 : decode prog_15_method_33_code 141 = .ok (.iload 11, 2) := by decide +kernel
theorem d_Mo_price_143 : decode prog_15_method_33_code 143 = .ok (.iload 8, 2) := by decide +kernel
theorem d_Mo_price_145 : decode prog_15_method_33_code 145 = .ok (.isub, 1) := by decide +kernel
theorem d_Mo_price_146 : decode prog_15_method_33_code 146 = .ok (.i2l, 1) := by decide +kernel
theorem d_Mo_price_147 : decode prog_15_method_33_code 147 = .ok (.invokestatic 155, 3) := by decide +kernel
theorem d_Mo_price_150 : decode prog_15_method_33_code 150 = .ok (.ladd, 1) := by decide +kernel
theorem d_Mo_price_151 : decode prog_15_method_33_code 151 = .ok (.lstore 4, 2) := by decide +kernel
theorem d_Mo_price_153 : decode prog_15_method_33_code 153 = .ok (.iload 10, 2) := by decide +kernel
theorem d_Mo_price_155 : decode prog_15_method_33_code 155 = .ok (.istore 6, 2) := by decide +kernel
theorem d_Mo_price_157 : decode prog_15_method_33_code 157 = .ok (.iload 11, 2) := by decide +kernel
theorem d_Mo_price_159 : decode prog_15_method_33_code 159 = .ok (.istore 8, 2) := by decide +kernel
theorem d_Mo_price_161 : decode prog_15_method_33_code 161 = .ok (.iload 9, 2) := by decide +kernel
theorem d_Mo_price_163 : decode prog_15_method_33_code 163 = .ok (.istore 7, 2) := by decide +kernel
theorem d_Mo_price_165 : decode prog_15_method_33_code 165 = .ok (.iinc 9 1, 3) := by decide +kernel
theorem d_Mo_price_168 : decode prog_15_method_33_code 168 = .ok (.goto (-148), 3) := by decide +kernel
theorem d_Mo_price_171 : decode prog_15_method_33_code 171 = .ok (.lload 4, 2) := by decide +kernel
theorem d_Mo_price_173 : decode prog_15_method_33_code 173 = .ok (.lreturn, 1) := by decide +kernel
def wb_Mo_price_122 (po : Option Value → Pic → Prop) (th : String → Pic → Prop) (P : Pic) : Prop := po (some (.long (-1 : Int64))) P
def wb_Mo_price_165 (po : Option Value → Pic → Prop) (th : String → Pic → Prop) (K20 : Pic → Nat → Int32 → Int32 → Int32 → Int64 → Int32 → Int32 → Int32 → Int32 → Prop) (P : Pic) (a0 : Nat) (x1 : Int32) (x2 : Int32) (x3 : Int32) (w4 : Int64) (x6 : Int32) (x7 : Int32) (x8 : Int32) (x9 : Int32) : Prop := ∀ (x131 : Int32), x131 = x9 + 1 → K20 P a0 x1 x2 x3 w4 x6 x7 x8 x131
def wb_Mo_price_96 (po : Option Value → Pic → Prop) (th : String → Pic → Prop) (K20 : Pic → Nat → Int32 → Int32 → Int32 → Int64 → Int32 → Int32 → Int32 → Int32 → Prop) (P : Pic) (a0 : Nat) (x1 : Int32) (x2 : Int32) (x3 : Int32) (w4 : Int64) (x6 : Int32) (x7 : Int32) (x8 : Int32) (x9 : Int32) (t0 : Int32) : Prop := p_k P a0 = 13 ∧ wp_Mo_countAt (cp_i fun x122 _ => ((x7 < 0 → (wb_Mo_price_122 po th P )) ∧ (¬ x7 < 0 → (((x8 < 0 → (wb_Mo_price_122 po th P )) ∧ (¬ x8 < 0 → (((0 ≤ x122 → (∃ a123, p_r P 503 a0 = some a123 ∧ p_k P a123 = 102 ∧ vp_in x7 (p_n P a123) ∧ wp_Mo_part (cp_l fun w126 _ => ∀ (w127 : Int64), w127 = (w4 + w126) → wb_Mo_price_165 po th K20 P a0 x1 x2 x3 w127 t0 x9 x122 x9) th P (p_al P a123 (Int32.toNatClampNeg x7)) (Int32.toInt64 (t0 - x6)) (Int32.toInt64 (x122 - x8)))) ∧ (¬ 0 ≤ x122 → (wb_Mo_price_122 po th P )))))))))) th P a0 x1 t0
def wb_Mo_price_76 (po : Option Value → Pic → Prop) (th : String → Pic → Prop) (K20 : Pic → Nat → Int32 → Int32 → Int32 → Int64 → Int32 → Int32 → Int32 → Int32 → Prop) (P : Pic) (a0 : Nat) (x1 : Int32) (x2 : Int32) (x3 : Int32) (w4 : Int64) (x6 : Int32) (x7 : Int32) (x8 : Int32) (x9 : Int32) : Prop := p_k P a0 = 13 ∧ ((¬ x9 = (p_i P 501 a0) → (∃ a117, p_r P 502 a0 = some a117 ∧ p_k P a117 = 101 ∧ vp_in x9 (p_n P a117) ∧ wb_Mo_price_96 po th K20 P a0 x1 x2 x3 w4 x6 x7 x8 x9 (p_ai P a117 (Int32.toNatClampNeg x9)))) ∧ (x9 = (p_i P 501 a0) → (wb_Mo_price_96 po th K20 P a0 x1 x2 x3 w4 x6 x7 x8 x9 x3)))
def wb_Mo_price_56 (po : Option Value → Pic → Prop) (th : String → Pic → Prop) (K20 : Pic → Nat → Int32 → Int32 → Int32 → Int64 → Int32 → Int32 → Int32 → Int32 → Prop) (P : Pic) (a0 : Nat) (x1 : Int32) (x2 : Int32) (x3 : Int32) (w4 : Int64) (x6 : Int32) (x7 : Int32) (x8 : Int32) (x9 : Int32) : Prop := p_k P a0 = 13 ∧ ((x9 = (p_i P 501 a0) → (wb_Mo_price_76 po th K20 P a0 x1 x2 x3 w4 x6 x7 x8 x9)) ∧ (¬ x9 = (p_i P 501 a0) → (∃ a111, p_r P 502 a0 = some a111 ∧ p_k P a111 = 101 ∧ vp_in x9 (p_n P a111) ∧ ((x3 ≤ (p_ai P a111 (Int32.toNatClampNeg x9)) → (wb_Mo_price_165 po th K20 P a0 x1 x2 x3 w4 x6 x7 x8 x9)) ∧ (¬ x3 ≤ (p_ai P a111 (Int32.toNatClampNeg x9)) → (wb_Mo_price_76 po th K20 P a0 x1 x2 x3 w4 x6 x7 x8 x9))))))
def wb_Mo_price_20 (po : Option Value → Pic → Prop) (th : String → Pic → Prop) (K20 : Pic → Nat → Int32 → Int32 → Int32 → Int64 → Int32 → Int32 → Int32 → Int32 → Prop) (P : Pic) (a0 : Nat) (x1 : Int32) (x2 : Int32) (x3 : Int32) (w4 : Int64) (x6 : Int32) (x7 : Int32) (x8 : Int32) (x9 : Int32) : Prop := p_k P a0 = 13 ∧ (((p_i P 501 a0) < x9 → (po (some (.long w4)) P)) ∧ (¬ (p_i P 501 a0) < x9 → ((((p_i P 501 a0) ≤ x9 → (wb_Mo_price_56 po th K20 P a0 x1 x2 x3 w4 x6 x7 x8 x9)) ∧ (¬ (p_i P 501 a0) ≤ x9 → (∃ a104, p_r P 502 a0 = some a104 ∧ p_k P a104 = 101 ∧ vp_in x9 (p_n P a104) ∧ ((x2 < (p_ai P a104 (Int32.toNatClampNeg x9)) → (wb_Mo_price_56 po th K20 P a0 x1 x2 x3 w4 x6 x7 x8 x9)) ∧ (¬ x2 < (p_ai P a104 (Int32.toNatClampNeg x9)) → (wb_Mo_price_165 po th K20 P a0 x1 x2 x3 w4 x6 x9 x8 x9)))))))))
def wl_Mo_price_20 (po : Option Value → Pic → Prop) (th : String → Pic → Prop) : Nat → Pic → Nat → Int32 → Int32 → Int32 → Int64 → Int32 → Int32 → Int32 → Int32 → Prop
  | 0 => fun _ _ _ _ _ _ _ _ _ _ => False
  | n + 1 => wb_Mo_price_20 po th (wl_Mo_price_20 po th n)
def wp_Mo_price (po : Option Value → Pic → Prop) (th : String → Pic → Prop) (P : Pic) (a0 : Nat) (x1 : Int32) (x2 : Int32) (x3 : Int32) : Prop := p_k P a0 = 13 ∧ wp_Mo_countAt (cp_i fun x102 _ => ∃ n, wl_Mo_price_20 po th n P a0 x1 x2 x3 (0 : Int64) x2 (-1 : Int32) x102 (0 : Int32)) th P a0 x1 x2
set_option maxHeartbeats 4000000 in
set_option maxRecDepth 100000 in
theorem wk_Mo_price_122 {p : Program} {l : Launch} {e : Env} {s : State} {m : MethodId} {args : Array Value} {below : List Frame} {meth : Method} {c : Code} {D : pq_D} {P : Pic} {po : Option Value → Pic → Prop} {th : String → Pic → Prop} (hfl : l.flags = flags0) (C : Cx p e s m args meth c prog_15_method_33_code 12 "WaterWorksModel" D P) (hmg : e.platform.magicAccessors = ({} : Platform).magicAccessors) (hr : meth.sig.returnType = (some .long)) (hin : meth.name = "price") (htab : c.exceptionTable.toList = tableOf []) : ∀ (H : Heap) (cells slots : Nat) (ls : Array Slot), wb_Mo_price_122 po th P  → So s.heap H → lv_has ls 12 [] → cells + 0 ≤ 0 → slots + 0 ≤ 0 → W p l e rm_Mo_price s m args below meth c H [] cells slots (mt_MQ below (cq_Q D P true po th) args s 0 0 (cq_free P true)) (F0 m 122 ls []) := by
  intro  H cells slots ls h hO hl hcc hss
  obtain ⟨hx, hb, hml, hown, hlocks, htr, hT, hK, hSt, hN, hP0⟩ := id C
  have L138_12 : pq_fl s m args 138 12 21 := ⟨_, "WaterWorksModel", "WaterWorksModel", rfl, by decide, hown, Or.inl (hT _ k_1125 _), (fun _ z => z)⟩
  have L59_12 : pq_fl s m args 59 12 22 := ⟨_, "WaterWorksModel", "WaterWorksModel", rfl, by decide, hown, Or.inl (hT _ k_1126 _), (fun _ z => z)⟩
  have L62_12 : pq_fl s m args 62 12 23 := ⟨_, "WaterWorksModel", "WaterWorksModel", rfl, by decide, hown, Or.inl (hT _ k_1127 _), (fun _ z => z)⟩
  have hP : Pi D P H := So.pi hP0 hO
  unfold wb_Mo_price_122 at h
  refine lv_ldc2 (pc := 122) hx hb hown (hT _ k_1320 _) d_Mo_price_122 ?_
  exact wo_l (pc := 125) hx hb hlocks hr hP0 hO (show cells + 0 ≤ 0 by omega) (show slots + 0 ≤ 0 by omega) h d_Mo_price_125
set_option maxHeartbeats 4000000 in
set_option maxRecDepth 100000 in
theorem wk_Mo_price_165 {p : Program} {l : Launch} {e : Env} {s : State} {m : MethodId} {args : Array Value} {below : List Frame} {meth : Method} {c : Code} {D : pq_D} {P : Pic} {po : Option Value → Pic → Prop} {th : String → Pic → Prop} {K20 : Pic → Nat → Int32 → Int32 → Int32 → Int64 → Int32 → Int32 → Int32 → Int32 → Prop} (hfl : l.flags = flags0) (C : Cx p e s m args meth c prog_15_method_33_code 12 "WaterWorksModel" D P) (hmg : e.platform.magicAccessors = ({} : Platform).magicAccessors) (hr : meth.sig.returnType = (some .long)) (hin : meth.name = "price") (htab : c.exceptionTable.toList = tableOf []) (HK20 : ∀ (a0 : Nat) (x1 : Int32) (x2 : Int32) (x3 : Int32) (w4 : Int64) (x6 : Int32) (x7 : Int32) (x8 : Int32) (x9 : Int32) (H : Heap) (cells slots : Nat) (ls : Array Slot), K20 P a0 x1 x2 x3 w4 x6 x7 x8 x9 → So s.heap H → lv_has ls 12 [(0, .ref a0), (1, .int x1), (2, .int x2), (3, .int x3), (4, .long w4), (6, .int x6), (7, .int x7), (8, .int x8), (9, .int x9)] → cells + 0 ≤ 0 → slots + 0 ≤ 0 → W p l e rm_Mo_price s m args below meth c H [] cells slots (mt_MQ below (cq_Q D P true po th) args s 0 0 (cq_free P true)) (F0 m 20 ls [])) : ∀ (a0 : Nat) (x1 : Int32) (x2 : Int32) (x3 : Int32) (w4 : Int64) (x6 : Int32) (x7 : Int32) (x8 : Int32) (x9 : Int32) (H : Heap) (cells slots : Nat) (ls : Array Slot), wb_Mo_price_165 po th K20 P a0 x1 x2 x3 w4 x6 x7 x8 x9 → So s.heap H → lv_has ls 12 [(0, .ref a0), (1, .int x1), (2, .int x2), (3, .int x3), (4, .long w4), (6, .int x6), (7, .int x7), (8, .int x8), (9, .int x9)] → cells + 0 ≤ 0 → slots + 0 ≤ 0 → W p l e rm_Mo_price s m args below meth c H [] cells slots (mt_MQ below (cq_Q D P true po th) args s 0 0 (cq_free P true)) (F0 m 165 ls []) := by
  intro a0 x1 x2 x3 w4 x6 x7 x8 x9 H cells slots ls h hO hl hcc hss
  obtain ⟨hx, hb, hml, hown, hlocks, htr, hT, hK, hSt, hN, hP0⟩ := id C
  have L138_12 : pq_fl s m args 138 12 21 := ⟨_, "WaterWorksModel", "WaterWorksModel", rfl, by decide, hown, Or.inl (hT _ k_1125 _), (fun _ z => z)⟩
  have L59_12 : pq_fl s m args 59 12 22 := ⟨_, "WaterWorksModel", "WaterWorksModel", rfl, by decide, hown, Or.inl (hT _ k_1126 _), (fun _ z => z)⟩
  have L62_12 : pq_fl s m args 62 12 23 := ⟨_, "WaterWorksModel", "WaterWorksModel", rfl, by decide, hown, Or.inl (hT _ k_1127 _), (fun _ z => z)⟩
  have hP : Pi D P H := So.pi hP0 hO
  unfold wb_Mo_price_165 at h
  obtain ⟨x131, ex131⟩ : ∃ z : Int32, z = x9 + 1 := ⟨_, rfl⟩
  replace h := h x131 ex131
  refine lv_iinc (pc := 165) (v := x131) (lv' := [(9, .int x131), (0, .ref a0), (1, .int x1), (2, .int x2), (3, .int x3), (4, .long w4), (6, .int x6), (7, .int x7), (8, .int x8)]) hx hb d_Mo_price_165 hl (k := 8) rfl (by rw [ex131]; rfl) (by decide) rfl (fun ls hl => ?_)
  refine lv_goto (pc := 168) (tgt := 20) hx hb d_Mo_price_168 (by decide) ?_
  exact HK20 a0 x1 x2 x3 w4 x6 x7 x8 x131 _ _ _ _ h hO (lv_sub hl [1, 2, 3, 4, 5, 6, 7, 8, 0] rfl) (show cells + 0 ≤ 0 by omega) (show slots + 0 ≤ 0 by omega)
set_option maxHeartbeats 4000000 in
set_option maxRecDepth 100000 in
theorem wk_Mo_price_96 {p : Program} {l : Launch} {e : Env} {s : State} {m : MethodId} {args : Array Value} {below : List Frame} {meth : Method} {c : Code} {D : pq_D} {P : Pic} {po : Option Value → Pic → Prop} {th : String → Pic → Prop} {K20 : Pic → Nat → Int32 → Int32 → Int32 → Int64 → Int32 → Int32 → Int32 → Int32 → Prop} (hfl : l.flags = flags0) (C : Cx p e s m args meth c prog_15_method_33_code 12 "WaterWorksModel" D P) (hmg : e.platform.magicAccessors = ({} : Platform).magicAccessors) (hr : meth.sig.returnType = (some .long)) (hin : meth.name = "price") (htab : c.exceptionTable.toList = tableOf []) (HK20 : ∀ (a0 : Nat) (x1 : Int32) (x2 : Int32) (x3 : Int32) (w4 : Int64) (x6 : Int32) (x7 : Int32) (x8 : Int32) (x9 : Int32) (H : Heap) (cells slots : Nat) (ls : Array Slot), K20 P a0 x1 x2 x3 w4 x6 x7 x8 x9 → So s.heap H → lv_has ls 12 [(0, .ref a0), (1, .int x1), (2, .int x2), (3, .int x3), (4, .long w4), (6, .int x6), (7, .int x7), (8, .int x8), (9, .int x9)] → cells + 0 ≤ 0 → slots + 0 ≤ 0 → W p l e rm_Mo_price s m args below meth c H [] cells slots (mt_MQ below (cq_Q D P true po th) args s 0 0 (cq_free P true)) (F0 m 20 ls [])) : ∀ (a0 : Nat) (x1 : Int32) (x2 : Int32) (x3 : Int32) (w4 : Int64) (x6 : Int32) (x7 : Int32) (x8 : Int32) (x9 : Int32) (t0 : Int32) (H : Heap) (cells slots : Nat) (ls : Array Slot), wb_Mo_price_96 po th K20 P a0 x1 x2 x3 w4 x6 x7 x8 x9 t0 → So s.heap H → lv_has ls 12 [(0, .ref a0), (1, .int x1), (2, .int x2), (3, .int x3), (4, .long w4), (6, .int x6), (7, .int x7), (8, .int x8), (9, .int x9)] → cells + 0 ≤ 0 → slots + 0 ≤ 0 → W p l e rm_Mo_price s m args below meth c H [] cells slots (mt_MQ below (cq_Q D P true po th) args s 0 0 (cq_free P true)) (F0 m 96 ls [.int t0]) := by
  intro a0 x1 x2 x3 w4 x6 x7 x8 x9 t0 H cells slots ls h hO hl hcc hss
  obtain ⟨hx, hb, hml, hown, hlocks, htr, hT, hK, hSt, hN, hP0⟩ := id C
  have L138_12 : pq_fl s m args 138 12 21 := ⟨_, "WaterWorksModel", "WaterWorksModel", rfl, by decide, hown, Or.inl (hT _ k_1125 _), (fun _ z => z)⟩
  have L59_12 : pq_fl s m args 59 12 22 := ⟨_, "WaterWorksModel", "WaterWorksModel", rfl, by decide, hown, Or.inl (hT _ k_1126 _), (fun _ z => z)⟩
  have L62_12 : pq_fl s m args 62 12 23 := ⟨_, "WaterWorksModel", "WaterWorksModel", rfl, by decide, hown, Or.inl (hT _ k_1127 _), (fun _ z => z)⟩
  have hP : Pi D P H := So.pi hP0 hO
  unfold wb_Mo_price_96 at h
  refine lv_istore (pc := 96) (lv' := [(10, .int t0), (0, .ref a0), (1, .int x1), (2, .int x2), (3, .int x3), (4, .long w4), (6, .int x6), (7, .int x7), (8, .int x8), (9, .int x9)]) hx hb d_Mo_price_96 hl (by decide) rfl (fun ls hl => ?_)
  refine lv_aload_n (pc := 98) hx hb d_Mo_price_98 rfl (lv_at hl 1 rfl) ?_
  refine lv_iload_n (pc := 99) hx hb d_Mo_price_99 rfl (lv_at hl 2 rfl) ?_
  refine lv_iload (pc := 100) hx hb d_Mo_price_100 (lv_at hl 0 rfl) ?_
  obtain ⟨hk121, h⟩ := h
  refine co_i (pc := 102) C (rest := []) (mt_invV (As := [.int x1, .int t0]) hx hb hown (hT _ k_1303 _) (hT _ k_1305 _) (hT _ ks_27 _) (mt_Cd.code (hT _ k_1306 #[])) h_Mo_countAt (pq_recv hK hP hk121 rfl) n_Mo_countAt rfl d_Mo_price_102) (ct_Mo_countAt hfl D h) k_1306 k_24 ⟨Nat.le_of_ble_eq_true rfl, Nat.le_of_ble_eq_true rfl⟩ ⟨(show cells + 0 ≤ 0 by omega), (show slots + 0 ≤ 0 by omega)⟩ hl.1 d_Mo_price_102 (Nat.le_of_ble_eq_true rfl) hO (fun x122 H h hO => ?_) (fun xx X H h hX hex hO => ?_)
  · have hP : Pi D P H := So.pi hP0 hO
    refine lv_istore (pc := 105) (lv' := [(11, .int x122), (10, .int t0), (0, .ref a0), (1, .int x1), (2, .int x2), (3, .int x3), (4, .long w4), (6, .int x6), (7, .int x7), (8, .int x8), (9, .int x9)]) hx hb d_Mo_price_105 hl (by decide) rfl (fun ls hl => ?_)
    refine lv_iload (pc := 107) hx hb d_Mo_price_107 (lv_at hl 8 rfl) ?_
    refine lv_if_lt (pc := 109) (tgt := 122) hx hb d_Mo_price_109 (by decide) (fun c130 => ?_) (fun c130 => ?_)
    · replace h := h.1 c130
      exact wk_Mo_price_122 hfl C hmg hr hin htab  _ _ _ _ h hO (lv_sub hl [] rfl) (show cells + 0 + 0 ≤ 0 by omega) (show slots + 0 + 0 ≤ 0 by omega)
    · replace h := h.2 c130
      refine lv_iload (pc := 112) hx hb d_Mo_price_112 (lv_at hl 9 rfl) ?_
      refine lv_if_lt (pc := 114) (tgt := 122) hx hb d_Mo_price_114 (by decide) (fun c129 => ?_) (fun c129 => ?_)
      · replace h := h.1 c129
        exact wk_Mo_price_122 hfl C hmg hr hin htab  _ _ _ _ h hO (lv_sub hl [] rfl) (show cells + 0 + 0 ≤ 0 by omega) (show slots + 0 + 0 ≤ 0 by omega)
      · replace h := h.2 c129
        refine lv_iload (pc := 117) hx hb d_Mo_price_117 (lv_at hl 0 rfl) ?_
        refine lv_if_ge (pc := 119) (tgt := 126) hx hb d_Mo_price_119 (by decide) (fun c128 => ?_) (fun c128 => ?_)
        · replace h := h.1 c128
          refine lv_lload (pc := 126) hx hb d_Mo_price_126 (lv_at hl 6 rfl) ?_
          refine lv_aload_n (pc := 128) hx hb d_Mo_price_128 rfl (lv_at hl 2 rfl) ?_
          obtain ⟨a123, ea123, h⟩ := h
          refine pq_geta (pc := 129) (f := 503) hx hb hT hK hP L62_12 hk121 rfl ea123 d_Mo_price_129 ?_
          refine lv_iload (pc := 132) hx hb d_Mo_price_132 (lv_at hl 8 rfl) ?_
          obtain ⟨hk124, h⟩ := h
          obtain ⟨hi125, h⟩ := h
          refine pq_lald (pc := 134) hx hb hK hP hk124 hi125 d_Mo_price_134 ?_
          refine lv_iload (pc := 135) hx hb d_Mo_price_135 (lv_at hl 1 rfl) ?_
          refine lv_iload (pc := 137) hx hb d_Mo_price_137 (lv_at hl 7 rfl) ?_
          refine lv_isub (pc := 139) hx hb d_Mo_price_139 ?_
          refine lv_i2l (pc := 140) hx hb d_Mo_price_140 rfl ?_
          refine lv_iload (pc := 141) hx hb d_Mo_price_141 (lv_at hl 0 rfl) ?_
          refine lv_iload (pc := 143) hx hb d_Mo_price_143 (lv_at hl 9 rfl) ?_
          refine lv_isub (pc := 145) hx hb d_Mo_price_145 ?_
          refine lv_i2l (pc := 146) hx hb d_Mo_price_146 rfl ?_
          refine co_l (pc := 147) C (rest := [.long w4]) (mt_invS (As := [.long (p_al P a123 (Int32.toNatClampNeg x7)), .long (Int32.toInt64 (t0 - x6)), .long (Int32.toInt64 (x122 - x8))]) hx hb hown (hT _ k_1321 _) (hT _ k_1322 _) (hT _ k_24 _) (mt_Cd.code (hT _ k_1323 #[])) h_Mo_part n_Mo_part rfl d_Mo_price_147) (ct_Mo_part hfl D h) k_1323 k_24 ⟨Nat.le_of_ble_eq_true rfl, Nat.le_of_ble_eq_true rfl⟩ ⟨(show cells + 0 + 0 ≤ 0 by omega), (show slots + 0 + 0 ≤ 0 by omega)⟩ hl.1 d_Mo_price_147 (Nat.le_of_ble_eq_true rfl) hO (fun w126 H h hO => ?_) (fun xx X H h hX hex hO => ?_)
          · have hP : Pi D P H := So.pi hP0 hO
            refine lv_ladd (pc := 150) hx hb d_Mo_price_150 ?_
            refine lv_topl (fun w127 ew127 => ?_)
            replace h := h w127 ew127
            refine lv_lstore (pc := 151) (lv' := [(4, .long w127), (11, .int x122), (10, .int t0), (0, .ref a0), (1, .int x1), (2, .int x2), (3, .int x3), (6, .int x6), (7, .int x7), (8, .int x8), (9, .int x9)]) hx hb d_Mo_price_151 hl (by decide) rfl (fun ls hl => ?_)
            refine lv_iload (pc := 153) hx hb d_Mo_price_153 (lv_at hl 2 rfl) ?_
            refine lv_istore (pc := 155) (lv' := [(6, .int t0), (4, .long w127), (11, .int x122), (10, .int t0), (0, .ref a0), (1, .int x1), (2, .int x2), (3, .int x3), (7, .int x7), (8, .int x8), (9, .int x9)]) hx hb d_Mo_price_155 hl (by decide) rfl (fun ls hl => ?_)
            refine lv_iload (pc := 157) hx hb d_Mo_price_157 (lv_at hl 2 rfl) ?_
            refine lv_istore (pc := 159) (lv' := [(8, .int x122), (6, .int t0), (4, .long w127), (11, .int x122), (10, .int t0), (0, .ref a0), (1, .int x1), (2, .int x2), (3, .int x3), (7, .int x7), (9, .int x9)]) hx hb d_Mo_price_159 hl (by decide) rfl (fun ls hl => ?_)
            refine lv_iload (pc := 161) hx hb d_Mo_price_161 (lv_at hl 10 rfl) ?_
            refine lv_istore (pc := 163) (lv' := [(7, .int x9), (8, .int x122), (6, .int t0), (4, .long w127), (11, .int x122), (10, .int t0), (0, .ref a0), (1, .int x1), (2, .int x2), (3, .int x3), (9, .int x9)]) hx hb d_Mo_price_163 hl (by decide) rfl (fun ls hl => ?_)
            exact wk_Mo_price_165 hfl C hmg hr hin htab HK20 a0 x1 x2 x3 w127 t0 x9 x122 x9 _ _ _ _ h hO (lv_sub hl [6, 7, 8, 9, 3, 2, 0, 1, 10] rfl) (show cells + 0 + 0 + 0 ≤ 0 by omega) (show slots + 0 + 0 + 0 ≤ 0 by omega)
          · exact cq_outo hlocks (pq_nil htab rfl) (show cells + 0 + 0 + 0 ≤ 0 by omega) (show slots + 0 + 0 + 0 ≤ 0 by omega) hX hex hP0 hO h
        · replace h := h.2 c128
          exact wk_Mo_price_122 hfl C hmg hr hin htab  _ _ _ _ h hO (lv_sub hl [] rfl) (show cells + 0 + 0 ≤ 0 by omega) (show slots + 0 + 0 ≤ 0 by omega)
  · exact cq_outo hlocks (pq_nil htab rfl) (show cells + 0 + 0 ≤ 0 by omega) (show slots + 0 + 0 ≤ 0 by omega) hX hex hP0 hO h
set_option maxHeartbeats 4000000 in
set_option maxRecDepth 100000 in
theorem wk_Mo_price_76 {p : Program} {l : Launch} {e : Env} {s : State} {m : MethodId} {args : Array Value} {below : List Frame} {meth : Method} {c : Code} {D : pq_D} {P : Pic} {po : Option Value → Pic → Prop} {th : String → Pic → Prop} {K20 : Pic → Nat → Int32 → Int32 → Int32 → Int64 → Int32 → Int32 → Int32 → Int32 → Prop} (hfl : l.flags = flags0) (C : Cx p e s m args meth c prog_15_method_33_code 12 "WaterWorksModel" D P) (hmg : e.platform.magicAccessors = ({} : Platform).magicAccessors) (hr : meth.sig.returnType = (some .long)) (hin : meth.name = "price") (htab : c.exceptionTable.toList = tableOf []) (HK20 : ∀ (a0 : Nat) (x1 : Int32) (x2 : Int32) (x3 : Int32) (w4 : Int64) (x6 : Int32) (x7 : Int32) (x8 : Int32) (x9 : Int32) (H : Heap) (cells slots : Nat) (ls : Array Slot), K20 P a0 x1 x2 x3 w4 x6 x7 x8 x9 → So s.heap H → lv_has ls 12 [(0, .ref a0), (1, .int x1), (2, .int x2), (3, .int x3), (4, .long w4), (6, .int x6), (7, .int x7), (8, .int x8), (9, .int x9)] → cells + 0 ≤ 0 → slots + 0 ≤ 0 → W p l e rm_Mo_price s m args below meth c H [] cells slots (mt_MQ below (cq_Q D P true po th) args s 0 0 (cq_free P true)) (F0 m 20 ls [])) : ∀ (a0 : Nat) (x1 : Int32) (x2 : Int32) (x3 : Int32) (w4 : Int64) (x6 : Int32) (x7 : Int32) (x8 : Int32) (x9 : Int32) (H : Heap) (cells slots : Nat) (ls : Array Slot), wb_Mo_price_76 po th K20 P a0 x1 x2 x3 w4 x6 x7 x8 x9 → So s.heap H → lv_has ls 12 [(0, .ref a0), (1, .int x1), (2, .int x2), (3, .int x3), (4, .long w4), (6, .int x6), (7, .int x7), (8, .int x8), (9, .int x9)] → cells + 0 ≤ 0 → slots + 0 ≤ 0 → W p l e rm_Mo_price s m args below meth c H [] cells slots (mt_MQ below (cq_Q D P true po th) args s 0 0 (cq_free P true)) (F0 m 76 ls []) := by
  intro a0 x1 x2 x3 w4 x6 x7 x8 x9 H cells slots ls h hO hl hcc hss
  obtain ⟨hx, hb, hml, hown, hlocks, htr, hT, hK, hSt, hN, hP0⟩ := id C
  have L138_12 : pq_fl s m args 138 12 21 := ⟨_, "WaterWorksModel", "WaterWorksModel", rfl, by decide, hown, Or.inl (hT _ k_1125 _), (fun _ z => z)⟩
  have L59_12 : pq_fl s m args 59 12 22 := ⟨_, "WaterWorksModel", "WaterWorksModel", rfl, by decide, hown, Or.inl (hT _ k_1126 _), (fun _ z => z)⟩
  have L62_12 : pq_fl s m args 62 12 23 := ⟨_, "WaterWorksModel", "WaterWorksModel", rfl, by decide, hown, Or.inl (hT _ k_1127 _), (fun _ z => z)⟩
  have hP : Pi D P H := So.pi hP0 hO
  unfold wb_Mo_price_76 at h
  refine lv_iload (pc := 76) hx hb d_Mo_price_76 (lv_at hl 8 rfl) ?_
  refine lv_aload_n (pc := 78) hx hb d_Mo_price_78 rfl (lv_at hl 0 rfl) ?_
  obtain ⟨hk116, h⟩ := h
  refine pq_geti (pc := 79) (f := 501) hx hb hT hK hP L138_12 hk116 rfl d_Mo_price_79 ?_
  refine lv_icmp_ne (pc := 82) (tgt := 89) hx hb d_Mo_price_82 (by decide) (fun c120 => ?_) (fun c120 => ?_)
  · replace h := h.1 c120
    refine lv_aload_n (pc := 89) hx hb d_Mo_price_89 rfl (lv_at hl 0 rfl) ?_
    obtain ⟨a117, ea117, h⟩ := h
    refine pq_geta (pc := 90) (f := 502) hx hb hT hK hP L59_12 hk116 rfl ea117 d_Mo_price_90 ?_
    refine lv_iload (pc := 93) hx hb d_Mo_price_93 (lv_at hl 8 rfl) ?_
    obtain ⟨hk118, h⟩ := h
    obtain ⟨hi119, h⟩ := h
    refine pq_iald (pc := 95) hx hb hK hP hk118 hi119 d_Mo_price_95 ?_
    exact wk_Mo_price_96 hfl C hmg hr hin htab HK20 a0 x1 x2 x3 w4 x6 x7 x8 x9 (p_ai P a117 (Int32.toNatClampNeg x9)) _ _ _ _ h hO (lv_sub hl [0, 1, 2, 3, 4, 5, 6, 7, 8] rfl) (show cells + 0 ≤ 0 by omega) (show slots + 0 ≤ 0 by omega)
  · replace h := h.2 c120
    refine lv_iload_n (pc := 85) hx hb d_Mo_price_85 rfl (lv_at hl 3 rfl) ?_
    refine lv_goto (pc := 86) (tgt := 96) hx hb d_Mo_price_86 (by decide) ?_
    exact wk_Mo_price_96 hfl C hmg hr hin htab HK20 a0 x1 x2 x3 w4 x6 x7 x8 x9 x3 _ _ _ _ h hO (lv_sub hl [0, 1, 2, 3, 4, 5, 6, 7, 8] rfl) (show cells + 0 ≤ 0 by omega) (show slots + 0 ≤ 0 by omega)
set_option maxHeartbeats 4000000 in
set_option maxRecDepth 100000 in
theorem wk_Mo_price_56 {p : Program} {l : Launch} {e : Env} {s : State} {m : MethodId} {args : Array Value} {below : List Frame} {meth : Method} {c : Code} {D : pq_D} {P : Pic} {po : Option Value → Pic → Prop} {th : String → Pic → Prop} {K20 : Pic → Nat → Int32 → Int32 → Int32 → Int64 → Int32 → Int32 → Int32 → Int32 → Prop} (hfl : l.flags = flags0) (C : Cx p e s m args meth c prog_15_method_33_code 12 "WaterWorksModel" D P) (hmg : e.platform.magicAccessors = ({} : Platform).magicAccessors) (hr : meth.sig.returnType = (some .long)) (hin : meth.name = "price") (htab : c.exceptionTable.toList = tableOf []) (HK20 : ∀ (a0 : Nat) (x1 : Int32) (x2 : Int32) (x3 : Int32) (w4 : Int64) (x6 : Int32) (x7 : Int32) (x8 : Int32) (x9 : Int32) (H : Heap) (cells slots : Nat) (ls : Array Slot), K20 P a0 x1 x2 x3 w4 x6 x7 x8 x9 → So s.heap H → lv_has ls 12 [(0, .ref a0), (1, .int x1), (2, .int x2), (3, .int x3), (4, .long w4), (6, .int x6), (7, .int x7), (8, .int x8), (9, .int x9)] → cells + 0 ≤ 0 → slots + 0 ≤ 0 → W p l e rm_Mo_price s m args below meth c H [] cells slots (mt_MQ below (cq_Q D P true po th) args s 0 0 (cq_free P true)) (F0 m 20 ls [])) : ∀ (a0 : Nat) (x1 : Int32) (x2 : Int32) (x3 : Int32) (w4 : Int64) (x6 : Int32) (x7 : Int32) (x8 : Int32) (x9 : Int32) (H : Heap) (cells slots : Nat) (ls : Array Slot), wb_Mo_price_56 po th K20 P a0 x1 x2 x3 w4 x6 x7 x8 x9 → So s.heap H → lv_has ls 12 [(0, .ref a0), (1, .int x1), (2, .int x2), (3, .int x3), (4, .long w4), (6, .int x6), (7, .int x7), (8, .int x8), (9, .int x9)] → cells + 0 ≤ 0 → slots + 0 ≤ 0 → W p l e rm_Mo_price s m args below meth c H [] cells slots (mt_MQ below (cq_Q D P true po th) args s 0 0 (cq_free P true)) (F0 m 56 ls []) := by
  intro a0 x1 x2 x3 w4 x6 x7 x8 x9 H cells slots ls h hO hl hcc hss
  obtain ⟨hx, hb, hml, hown, hlocks, htr, hT, hK, hSt, hN, hP0⟩ := id C
  have L138_12 : pq_fl s m args 138 12 21 := ⟨_, "WaterWorksModel", "WaterWorksModel", rfl, by decide, hown, Or.inl (hT _ k_1125 _), (fun _ z => z)⟩
  have L59_12 : pq_fl s m args 59 12 22 := ⟨_, "WaterWorksModel", "WaterWorksModel", rfl, by decide, hown, Or.inl (hT _ k_1126 _), (fun _ z => z)⟩
  have L62_12 : pq_fl s m args 62 12 23 := ⟨_, "WaterWorksModel", "WaterWorksModel", rfl, by decide, hown, Or.inl (hT _ k_1127 _), (fun _ z => z)⟩
  have hP : Pi D P H := So.pi hP0 hO
  unfold wb_Mo_price_56 at h
  refine lv_iload (pc := 56) hx hb d_Mo_price_56 (lv_at hl 8 rfl) ?_
  refine lv_aload_n (pc := 58) hx hb d_Mo_price_58 rfl (lv_at hl 0 rfl) ?_
  obtain ⟨hk110, h⟩ := h
  refine pq_geti (pc := 59) (f := 501) hx hb hT hK hP L138_12 hk110 rfl d_Mo_price_59 ?_
  refine lv_icmp_eq (pc := 62) (tgt := 76) hx hb d_Mo_price_62 (by decide) (fun c115 => ?_) (fun c115 => ?_)
  · replace h := h.1 c115
    exact wk_Mo_price_76 hfl C hmg hr hin htab HK20 a0 x1 x2 x3 w4 x6 x7 x8 x9 _ _ _ _ h hO (lv_sub hl [0, 1, 2, 3, 4, 5, 6, 7, 8] rfl) (show cells + 0 ≤ 0 by omega) (show slots + 0 ≤ 0 by omega)
  · replace h := h.2 c115
    refine lv_aload_n (pc := 65) hx hb d_Mo_price_65 rfl (lv_at hl 0 rfl) ?_
    obtain ⟨a111, ea111, h⟩ := h
    refine pq_geta (pc := 66) (f := 502) hx hb hT hK hP L59_12 hk110 rfl ea111 d_Mo_price_66 ?_
    refine lv_iload (pc := 69) hx hb d_Mo_price_69 (lv_at hl 8 rfl) ?_
    obtain ⟨hk112, h⟩ := h
    obtain ⟨hi113, h⟩ := h
    refine pq_iald (pc := 71) hx hb hK hP hk112 hi113 d_Mo_price_71 ?_
    refine lv_iload_n (pc := 72) hx hb d_Mo_price_72 rfl (lv_at hl 3 rfl) ?_
    refine lv_icmp_ge (pc := 73) (tgt := 165) hx hb d_Mo_price_73 (by decide) (fun c114 => ?_) (fun c114 => ?_)
    · replace h := h.1 c114
      exact wk_Mo_price_165 hfl C hmg hr hin htab HK20 a0 x1 x2 x3 w4 x6 x7 x8 x9 _ _ _ _ h hO (lv_sub hl [0, 1, 2, 3, 4, 5, 6, 7, 8] rfl) (show cells + 0 ≤ 0 by omega) (show slots + 0 ≤ 0 by omega)
    · replace h := h.2 c114
      exact wk_Mo_price_76 hfl C hmg hr hin htab HK20 a0 x1 x2 x3 w4 x6 x7 x8 x9 _ _ _ _ h hO (lv_sub hl [0, 1, 2, 3, 4, 5, 6, 7, 8] rfl) (show cells + 0 ≤ 0 by omega) (show slots + 0 ≤ 0 by omega)
set_option maxHeartbeats 4000000 in
set_option maxRecDepth 100000 in
theorem wk_Mo_price_20 {p : Program} {l : Launch} {e : Env} {s : State} {m : MethodId} {args : Array Value} {below : List Frame} {meth : Method} {c : Code} {D : pq_D} {P : Pic} {po : Option Value → Pic → Prop} {th : String → Pic → Prop} {K20 : Pic → Nat → Int32 → Int32 → Int32 → Int64 → Int32 → Int32 → Int32 → Int32 → Prop} (hfl : l.flags = flags0) (C : Cx p e s m args meth c prog_15_method_33_code 12 "WaterWorksModel" D P) (hmg : e.platform.magicAccessors = ({} : Platform).magicAccessors) (hr : meth.sig.returnType = (some .long)) (hin : meth.name = "price") (htab : c.exceptionTable.toList = tableOf []) (HK20 : ∀ (a0 : Nat) (x1 : Int32) (x2 : Int32) (x3 : Int32) (w4 : Int64) (x6 : Int32) (x7 : Int32) (x8 : Int32) (x9 : Int32) (H : Heap) (cells slots : Nat) (ls : Array Slot), K20 P a0 x1 x2 x3 w4 x6 x7 x8 x9 → So s.heap H → lv_has ls 12 [(0, .ref a0), (1, .int x1), (2, .int x2), (3, .int x3), (4, .long w4), (6, .int x6), (7, .int x7), (8, .int x8), (9, .int x9)] → cells + 0 ≤ 0 → slots + 0 ≤ 0 → W p l e rm_Mo_price s m args below meth c H [] cells slots (mt_MQ below (cq_Q D P true po th) args s 0 0 (cq_free P true)) (F0 m 20 ls [])) : ∀ (a0 : Nat) (x1 : Int32) (x2 : Int32) (x3 : Int32) (w4 : Int64) (x6 : Int32) (x7 : Int32) (x8 : Int32) (x9 : Int32) (H : Heap) (cells slots : Nat) (ls : Array Slot), wb_Mo_price_20 po th K20 P a0 x1 x2 x3 w4 x6 x7 x8 x9 → So s.heap H → lv_has ls 12 [(0, .ref a0), (1, .int x1), (2, .int x2), (3, .int x3), (4, .long w4), (6, .int x6), (7, .int x7), (8, .int x8), (9, .int x9)] → cells + 0 ≤ 0 → slots + 0 ≤ 0 → W p l e rm_Mo_price s m args below meth c H [] cells slots (mt_MQ below (cq_Q D P true po th) args s 0 0 (cq_free P true)) (F0 m 20 ls []) := by
  intro a0 x1 x2 x3 w4 x6 x7 x8 x9 H cells slots ls h hO hl hcc hss
  obtain ⟨hx, hb, hml, hown, hlocks, htr, hT, hK, hSt, hN, hP0⟩ := id C
  have L138_12 : pq_fl s m args 138 12 21 := ⟨_, "WaterWorksModel", "WaterWorksModel", rfl, by decide, hown, Or.inl (hT _ k_1125 _), (fun _ z => z)⟩
  have L59_12 : pq_fl s m args 59 12 22 := ⟨_, "WaterWorksModel", "WaterWorksModel", rfl, by decide, hown, Or.inl (hT _ k_1126 _), (fun _ z => z)⟩
  have L62_12 : pq_fl s m args 62 12 23 := ⟨_, "WaterWorksModel", "WaterWorksModel", rfl, by decide, hown, Or.inl (hT _ k_1127 _), (fun _ z => z)⟩
  have hP : Pi D P H := So.pi hP0 hO
  unfold wb_Mo_price_20 at h
  refine lv_iload (pc := 20) hx hb d_Mo_price_20 (lv_at hl 8 rfl) ?_
  refine lv_aload_n (pc := 22) hx hb d_Mo_price_22 rfl (lv_at hl 0 rfl) ?_
  obtain ⟨hk103, h⟩ := h
  refine pq_geti (pc := 23) (f := 501) hx hb hT hK hP L138_12 hk103 rfl d_Mo_price_23 ?_
  refine lv_icmp_gt (pc := 26) (tgt := 171) hx hb d_Mo_price_26 (by decide) (fun c109 => ?_) (fun c109 => ?_)
  · replace h := h.1 c109
    refine lv_lload (pc := 171) hx hb d_Mo_price_171 (lv_at hl 4 rfl) ?_
    exact wo_l (pc := 173) hx hb hlocks hr hP0 hO (show cells + 0 ≤ 0 by omega) (show slots + 0 ≤ 0 by omega) h d_Mo_price_173
  · replace h := h.2 c109
    refine lv_iload (pc := 29) hx hb d_Mo_price_29 (lv_at hl 8 rfl) ?_
    refine lv_aload_n (pc := 31) hx hb d_Mo_price_31 rfl (lv_at hl 0 rfl) ?_
    refine pq_geti (pc := 32) (f := 501) hx hb hT hK hP L138_12 hk103 rfl d_Mo_price_32 ?_
    refine lv_icmp_ge (pc := 35) (tgt := 56) hx hb d_Mo_price_35 (by decide) (fun c108 => ?_) (fun c108 => ?_)
    · replace h := h.1 c108
      exact wk_Mo_price_56 hfl C hmg hr hin htab HK20 a0 x1 x2 x3 w4 x6 x7 x8 x9 _ _ _ _ h hO (lv_sub hl [0, 1, 2, 3, 4, 5, 6, 7, 8] rfl) (show cells + 0 ≤ 0 by omega) (show slots + 0 ≤ 0 by omega)
    · replace h := h.2 c108
      refine lv_aload_n (pc := 38) hx hb d_Mo_price_38 rfl (lv_at hl 0 rfl) ?_
      obtain ⟨a104, ea104, h⟩ := h
      refine pq_geta (pc := 39) (f := 502) hx hb hT hK hP L59_12 hk103 rfl ea104 d_Mo_price_39 ?_
      refine lv_iload (pc := 42) hx hb d_Mo_price_42 (lv_at hl 8 rfl) ?_
      obtain ⟨hk105, h⟩ := h
      obtain ⟨hi106, h⟩ := h
      refine pq_iald (pc := 44) hx hb hK hP hk105 hi106 d_Mo_price_44 ?_
      refine lv_iload_n (pc := 45) hx hb d_Mo_price_45 rfl (lv_at hl 2 rfl) ?_
      refine lv_icmp_gt (pc := 46) (tgt := 56) hx hb d_Mo_price_46 (by decide) (fun c107 => ?_) (fun c107 => ?_)
      · replace h := h.1 c107
        exact wk_Mo_price_56 hfl C hmg hr hin htab HK20 a0 x1 x2 x3 w4 x6 x7 x8 x9 _ _ _ _ h hO (lv_sub hl [0, 1, 2, 3, 4, 5, 6, 7, 8] rfl) (show cells + 0 ≤ 0 by omega) (show slots + 0 ≤ 0 by omega)
      · replace h := h.2 c107
        refine lv_iload (pc := 49) hx hb d_Mo_price_49 (lv_at hl 8 rfl) ?_
        refine lv_istore (pc := 51) (lv' := [(7, .int x9), (0, .ref a0), (1, .int x1), (2, .int x2), (3, .int x3), (4, .long w4), (6, .int x6), (8, .int x8), (9, .int x9)]) hx hb d_Mo_price_51 hl (by decide) rfl (fun ls hl => ?_)
        refine lv_goto (pc := 53) (tgt := 165) hx hb d_Mo_price_53 (by decide) ?_
        exact wk_Mo_price_165 hfl C hmg hr hin htab HK20 a0 x1 x2 x3 w4 x6 x9 x8 x9 _ _ _ _ h hO (lv_sub hl [1, 2, 3, 4, 5, 6, 0, 7, 8] rfl) (show cells + 0 ≤ 0 by omega) (show slots + 0 ≤ 0 by omega)
theorem wm_Mo_price_20 {p : Program} {l : Launch} {e : Env} {s : State} {m : MethodId} {args : Array Value} {below : List Frame} {meth : Method} {c : Code} {D : pq_D} {P : Pic} {po : Option Value → Pic → Prop} {th : String → Pic → Prop} (hfl : l.flags = flags0) (C : Cx p e s m args meth c prog_15_method_33_code 12 "WaterWorksModel" D P) (hmg : e.platform.magicAccessors = ({} : Platform).magicAccessors) (hr : meth.sig.returnType = (some .long)) (hin : meth.name = "price") (htab : c.exceptionTable.toList = tableOf []) : ∀ n : Nat, ∀ (a0 : Nat) (x1 : Int32) (x2 : Int32) (x3 : Int32) (w4 : Int64) (x6 : Int32) (x7 : Int32) (x8 : Int32) (x9 : Int32) (H : Heap) (cells slots : Nat) (ls : Array Slot), wl_Mo_price_20 po th n P a0 x1 x2 x3 w4 x6 x7 x8 x9 → So s.heap H → lv_has ls 12 [(0, .ref a0), (1, .int x1), (2, .int x2), (3, .int x3), (4, .long w4), (6, .int x6), (7, .int x7), (8, .int x8), (9, .int x9)] → cells + 0 ≤ 0 → slots + 0 ≤ 0 → W p l e rm_Mo_price s m args below meth c H [] cells slots (mt_MQ below (cq_Q D P true po th) args s 0 0 (cq_free P true)) (F0 m 20 ls []) := by
  intro n
  induction n with
  | zero => intro a0 x1 x2 x3 w4 x6 x7 x8 x9 H cells slots ls h; exact h.elim
  | succ n ih => exact wk_Mo_price_20 hfl C hmg hr hin htab ih
set_option maxHeartbeats 4000000 in
set_option maxRecDepth 100000 in
theorem ct_Mo_price {l : Launch} (hfl : l.flags = flags0) (D : pq_D) {po : Option Value → Pic → Prop} {th : String → Pic → Prop} {P : Pic} {a0 : Nat} {x1 : Int32} {x2 : Int32} {x3 : Int32} (h : wp_Mo_price po th P a0 x1 x2 x3) : CT l D y_Mo_price (.code y_Mo_price prog_15_method_33_code 12 (some .long)) rm_Mo_price true [.ref a0, .int x1, .int x2, .int x3] P po th := by
  refine ct_of (hs := []) hfl (by decide +kernel) (Or.inl ⟨rfl, rfl⟩) (Nat.le_of_ble_eq_true rfl) ?_
  intro p e s m below meth c C hmg hr hin htab ls hl
  have hl : lv_has ls 12 [(0, .ref a0), (1, .int x1), (2, .int x2), (3, .int x3)] := hl
  generalize hargs : ([.ref a0, .int x1, .int x2, .int x3] : List Value).toArray = args at C ⊢
  obtain ⟨hx, hb, hml, hown, hlocks, htr, hT, hK, hSt, hN, hP0⟩ := id C
  have L138_12 : pq_fl s m args 138 12 21 := ⟨_, "WaterWorksModel", "WaterWorksModel", rfl, by decide, hown, Or.inl (hT _ k_1125 _), (fun _ z => z)⟩
  have L59_12 : pq_fl s m args 59 12 22 := ⟨_, "WaterWorksModel", "WaterWorksModel", rfl, by decide, hown, Or.inl (hT _ k_1126 _), (fun _ z => z)⟩
  have L62_12 : pq_fl s m args 62 12 23 := ⟨_, "WaterWorksModel", "WaterWorksModel", rfl, by decide, hown, Or.inl (hT _ k_1127 _), (fun _ z => z)⟩
  have hO : So s.heap s.heap := So.rf
  have hP : Pi D P s.heap := hP0
  unfold wp_Mo_price at h
  refine lv_lconst (pc := 0) (v := 0) hx hb d_Mo_price_0 (by decide) ?_
  refine lv_lstore (pc := 1) (lv' := [(4, .long (0 : Int64)), (0, .ref a0), (1, .int x1), (2, .int x2), (3, .int x3)]) hx hb d_Mo_price_1 hl (by decide) rfl (fun ls hl => ?_)
  refine lv_iload_n (pc := 3) hx hb d_Mo_price_3 rfl (lv_at hl 3 rfl) ?_
  refine lv_istore (pc := 4) (lv' := [(6, .int x2), (4, .long (0 : Int64)), (0, .ref a0), (1, .int x1), (2, .int x2), (3, .int x3)]) hx hb d_Mo_price_4 hl (by decide) rfl (fun ls hl => ?_)
  refine lv_iconst (pc := 6) (v := (-1)) hx hb d_Mo_price_6 (by decide) ?_
  refine lv_istore (pc := 7) (lv' := [(7, .int (-1 : Int32)), (6, .int x2), (4, .long (0 : Int64)), (0, .ref a0), (1, .int x1), (2, .int x2), (3, .int x3)]) hx hb d_Mo_price_7 hl (by decide) rfl (fun ls hl => ?_)
  refine lv_aload_n (pc := 9) hx hb d_Mo_price_9 rfl (lv_at hl 3 rfl) ?_
  refine lv_iload_n (pc := 10) hx hb d_Mo_price_10 rfl (lv_at hl 4 rfl) ?_
  refine lv_iload_n (pc := 11) hx hb d_Mo_price_11 rfl (lv_at hl 5 rfl) ?_
  obtain ⟨hk101, h⟩ := h
  refine co_i (pc := 12) C (rest := []) (mt_invV (As := [.int x1, .int x2]) hx hb hown (hT _ k_1303 _) (hT _ k_1305 _) (hT _ ks_27 _) (mt_Cd.code (hT _ k_1306 #[])) h_Mo_countAt (pq_recv hK hP hk101 rfl) n_Mo_countAt rfl d_Mo_price_12) (ct_Mo_countAt hfl D h) k_1306 k_24 ⟨Nat.le_of_ble_eq_true rfl, Nat.le_of_ble_eq_true rfl⟩ ⟨(show 0 + 0 ≤ 0 by omega), (show 0 + 0 ≤ 0 by omega)⟩ hl.1 d_Mo_price_12 (Nat.le_of_ble_eq_true rfl) hO (fun x102 H h hO => ?_) (fun xx X H h hX hex hO => ?_)
  · have hP : Pi D P H := So.pi hP0 hO
    refine lv_istore (pc := 15) (lv' := [(8, .int x102), (7, .int (-1 : Int32)), (6, .int x2), (4, .long (0 : Int64)), (0, .ref a0), (1, .int x1), (2, .int x2), (3, .int x3)]) hx hb d_Mo_price_15 hl (by decide) rfl (fun ls hl => ?_)
    refine lv_iconst (pc := 17) (v := 0) hx hb d_Mo_price_17 (by decide) ?_
    refine lv_istore (pc := 18) (lv' := [(9, .int (0 : Int32)), (8, .int x102), (7, .int (-1 : Int32)), (6, .int x2), (4, .long (0 : Int64)), (0, .ref a0), (1, .int x1), (2, .int x2), (3, .int x3)]) hx hb d_Mo_price_18 hl (by decide) rfl (fun ls hl => ?_)
    obtain ⟨n, h⟩ := h
    exact wm_Mo_price_20 hfl C hmg hr hin htab n a0 x1 x2 x3 (0 : Int64) x2 (-1 : Int32) x102 (0 : Int32) _ _ _ _ h hO (lv_sub hl [5, 6, 7, 8, 4, 3, 2, 1, 0] rfl) (show 0 + 0 + 0 ≤ 0 by omega) (show 0 + 0 + 0 ≤ 0 by omega)
  · exact cq_outo hlocks (pq_nil htab rfl) (show 0 + 0 + 0 ≤ 0 by omega) (show 0 + 0 + 0 ≤ 0 by omega) hX hex hP0 hO h
/-! WaterWorksModel.bill(II)J -/
abbrev y_Mo_bill : MethodName := ⟨"WaterWorksModel", "bill", "(II)J"⟩
abbrev rm_Mo_bill : Room := { frames := 4, cells := 0, slots := 0, locals := 122 }
theorem h_Mo_bill : y_Mo_bill.cls ≠ "java/lang/invoke/MethodHandle" ∧ y_Mo_bill.cls ≠ "java/lang/invoke/VarHandle" := by decide +kernel
theorem n_Mo_bill : (parseMethodDescriptor y_Mo_bill.desc).map (fun d => d.parameters.length) = some 2 := by decide +kernel
theorem d_Mo_bill_0 : decode prog_15_method_34_code 0 = .ok (.aload_n 0, 1) := by decide +kernel
theorem d_Mo_bill_1 : decode prog_15_method_34_code 1 = .ok (.iload_n 1, 1) := by decide +kernel
theorem d_Mo_bill_2 : decode prog_15_method_34_code 2 = .ok (.invokevirtual 108, 3) := by decide +kernel
theorem d_Mo_bill_5 : decode prog_15_method_34_code 5 = .ok (.ifCond .eq 10, 3) := by decide +kernel
theorem d_Mo_bill_8 : decode prog_15_method_34_code 8 = .ok (.aload_n 0, 1) := by decide +kernel
theorem d_Mo_bill_9 : decode prog_15_method_34_code 9 = .ok (.iconst 1, 1) := by decide +kernel
theorem d_Mo_bill_10 : decode prog_15_method_34_code 10 = .ok (.putfield 81, 3) := by decide +kernel
theorem d_Mo_bill_13 : decode prog_15_method_34_code 13 = .ok (.lconst 0, 1) := by decide +kernel
theorem d_Mo_bill_14 : decode prog_15_method_34_code 14 = .ok (.lreturn, 1) := by decide +kernel
theorem d_Mo_bill_15 : decode prog_15_method_34_code 15 = .ok (.aload_n 0, 1) := by decide +kernel
theorem d_Mo_bill_16 : decode prog_15_method_34_code 16 = .ok (.getfield 66, 3) := by decide +kernel
theorem d_Mo_bill_19 : decode prog_15_method_34_code 19 = .ok (.iload_n 1, 1) := by decide +kernel
theorem d_Mo_bill_20 : decode prog_15_method_34_code 20 = .ok (.iaload, 1) := by decide +kernel
theorem d_Mo_bill_21 : decode prog_15_method_34_code 21 = .ok (.istore_n 3, 1) := by decide +kernel
theorem d_Mo_bill_22 : decode prog_15_method_34_code 22 = .ok (.iload_n 3, 1) := by decide +kernel
theorem d_Mo_bill_23 : decode prog_15_method_34_code 23 = .ok (.ifCond .le 19, 3) := by decide +kernel
theorem d_Mo_bill_26 : decode prog_15_method_34_code 26 = .ok (.aload_n 0, 1) := by decide +kernel
theorem d_Mo_bill_27 : decode prog_15_method_34_code 27 = .ok (.getfield 72, 3) := by decide +kernel
theorem d_Mo_bill_30 : decode prog_15_method_34_code 30 = .ok (.bipush 6, 2) := by decide +kernel
theorem d_Mo_bill_32 : decode prog_15_method_34_code 32 = .ok (.iload_n 1, 1) := by decide +kernel
theorem d_Mo_bill_33 : decode prog_15_method_34_code 33 = .ok (.imul, 1) := by decide +kernel
theorem d_Mo_bill_34 : decode prog_15_method_34_code 34 = .ok (.iload_n 3, 1) := by decide +kernel
theorem d_Mo_bill_35 : decode prog_15_method_34_code 35 = .ok (.iadd, 1) := by decide +kernel
theorem d_Mo_bill_36 : decode prog_15_method_34_code 36 = .ok (.iconst 1, 1) := by decide +kernel
theorem d_Mo_bill_37 : decode prog_15_method_34_code 37 = .ok (.isub, 1) := by decide +kernel
theorem d_Mo_bill_38 : decode prog_15_method_34_code 38 = .ok (.iaload, 1) := by decide +kernel
theorem d_Mo_bill_39 : decode prog_15_method_34_code 39 = .ok (.goto 12, 3) := by decide +kernel
theorem d_Mo_bill_42 : decode prog_15_method_34_code 42 = .ok (.aload_n 0, 1) := by decide +kernel
theorem d_Mo_bill_43 : decode prog_15_method_34_code 43 = .ok (.getfield 47, 3) := by decide +kernel
theorem d_Mo_bill_46 : decode prog_15_method_34_code 46 = .ok (.bipush 24, 2) := by decide +kernel
theorem d_Mo_bill_48 : decode prog_15_method_34_code 48 = .ok (.iload_n 1, 1) := by decide +kernel
theorem d_Mo_bill_49 : decode prog_15_method_34_code 49 = .ok (.imul, 1) := by decide +kernel
theorem d_Mo_bill_50 : decode prog_15_method_34_code 50 = .ok (.iaload, 1) := by decide +kernel
theorem d_Mo_bill_51 : decode prog_15_method_34_code 51 = .ok (.istore 4, 2) := by decide +kernel
theorem d_Mo_bill_53 : decode prog_15_method_34_code 53 = .ok (.aload_n 0, 1) := by decide +kernel
theorem d_Mo_bill_54 : decode prog_15_method_34_code 54 = .ok (.aload_n 0, 1) := by decide +kernel
theorem d_Mo_bill_55 : decode prog_15_method_34_code 55 = .ok (.getfield 44, 3) := by decide +kernel
theorem d_Mo_bill_58 : decode prog_15_method_34_code 58 = .ok (.iload_n 1, 1) := by decide +kernel
theorem d_Mo_bill_59 : decode prog_15_method_34_code 59 = .ok (.iaload, 1) := by decide +kernel
theorem d_Mo_bill_60 : decode prog_15_method_34_code 60 = .ok (.ifCond .ne 7, 3) := by decide +kernel
theorem d_Mo_bill_63 : decode prog_15_method_34_code 63 = .ok (.iconst 4, 1) := by decide +kernel
theorem d_Mo_bill_64 : decode prog_15_method_34_code 64 = .ok (.goto 41, 3) := by decide +kernel
theorem d_Mo_bill_67 : decode prog_15_method_34_code 67 = .ok (.iload_n 2, 1) := by decide +kernel
theorem d_Mo_bill_68 : decode prog_15_method_34_code 68 = .ok (.iload 4, 2) := by decide +kernel
theorem d_Mo_bill_70 : decode prog_15_method_34_code 70 = .ok (.if_icmp .gt 7, 3) := by decide +kernel
theorem d_Mo_bill_73 : decode prog_15_method_34_code 73 = .ok (.iconst 2, 1) := by decide +kernel
theorem d_Mo_bill_74 : decode prog_15_method_34_code 74 = .ok (.goto 31, 3) := by decide +kernel
theorem d_Mo_bill_77 : decode prog_15_method_34_code 77 = .ok (.iload_n 3, 1) := by decide +kernel
theorem d_Mo_bill_78 : decode prog_15_method_34_code 78 = .ok (.bipush 6, 2) := by decide +kernel
theorem d_Mo_bill_80 : decode prog_15_method_34_code 80 = .ok (.if_icmp .ne 7, 3) := by decide +kernel
theorem d_Mo_bill_83 : decode prog_15_method_34_code 83 = .ok (.iconst 3, 1) := by decide +kernel
theorem d_Mo_bill_84 : decode prog_15_method_34_code 84 = .ok (.goto 21, 3) := by decide +kernel
theorem d_Mo_bill_87 : decode prog_15_method_34_code 87 = .ok (.aload_n 0, 1) := by decide +kernel
theorem d_Mo_bill_88 : decode prog_15_method_34_code 88 = .ok (.iload_n 1, 1) := by decide +kernel
theorem d_Mo_bill_89 : decode prog_15_method_34_code 89 = .ok (.iload 4, 2) := by decide +kernel
theorem d_Mo_bill_91 : decode prog_15_method_34_code 91 = .ok (.iload_n 2, 1) := by decide +kernel
theorem d_Mo_bill_92 : decode prog_15_method_34_code 92 = .ok (.invokevirtual 159, 3) := by decide +kernel
theorem d_Mo_bill_95 : decode prog_15_method_34_code 95 = .ok (.lconst 0, 1) := by decide +kernel
theorem d_Mo_bill_96 : decode prog_15_method_34_code 96 = .ok (.lcmp, 1) := by decide +kernel
theorem d_Mo_bill_97 : decode prog_15_method_34_code 97 = .ok (.ifCond .ge 7, 3) := by decide +kernel
theorem d_Mo_bill_100 : decode prog_15_method_34_code 100 = .ok (.iconst 4, 1) := by decide +kernel
theorem d_Mo_bill_101 : decode prog_15_method_34_code 101 = .ok (.goto 4, 3) := by decide +kernel
theorem d_Mo_bill_104 : decode prog_15_method_34_code 104 = .ok (.iconst 0, 1) := by decide +kernel
theorem d_Mo_bill_105 : decode prog_15_method_34_code 105 = .ok (.putfield 81, 3) := by decide +kernel
theorem d_Mo_bill_108 : decode prog_15_method_34_code 108 = .ok (.aload_n 0, 1) := by decide +kernel
theorem d_Mo_bill_109 : decode prog_15_method_34_code 109 = .ok (.getfield 81, 3) := by decide +kernel
theorem d_Mo_bill_112 : decode prog_15_method_34_code 112 = .ok (.ifCond .le 5, 3) := by decide +kernel
theorem d_Mo_bill_115 : decode prog_15_method_34_code 115 = .ok (.lconst 0, 1) := by decide +kernel
theorem d_Mo_bill_116 : decode prog_15_method_34_code 116 = .ok (.lreturn, 1) := by decide +kernel
theorem d_Mo_bill_117 : decode prog_15_method_34_code 117 = .ok (.aload_n 0, 1) := by decide +kernel
theorem d_Mo_bill_118 : decode prog_15_method_34_code 118 = .ok (.getfield 69, 3) := by decide +kernel
theorem d_Mo_bill_121 : decode prog_15_method_34_code 121 = .ok (.bipush 6, 2) := by decide +kernel
theorem d_Mo_bill_123 : decode prog_15_method_34_code 123 = .ok (.iload_n 1, 1) := by decide +kernel
theorem d_Mo_bill_124 : decode prog_15_method_34_code 124 = .ok (.imul, 1) := by decide +kernel
theorem d_Mo_bill_125 : decode prog_15_method_34_code 125 = .ok (.iload_n 3, 1) := by decide +kernel
theorem d_Mo_bill_126 : decode prog_15_method_34_code 126 = .ok (.iadd, 1) := by decide +kernel
theorem d_Mo_bill_127 : decode prog_15_method_34_code 127 = .ok (.iload 4, 2) := by decide +kernel
theorem d_Mo_bill_129 : decode prog_15_method_34_code 129 = .ok (.iastore, 1) := by decide +kernel
theorem d_Mo_bill_130 : decode prog_15_method_34_code 130 = .ok (.aload_n 0, 1) := by decide +kernel
theorem d_Mo_bill_131 : decode prog_15_method_34_code 131 = .ok (.getfield 72, 3) := by decide +kernel
theorem d_Mo_bill_134 : decode prog_15_method_34_code 134 = .ok (.bipush 6, 2) := by decide +kernel
theorem d_Mo_bill_136 : decode prog_15_method_34_code 136 = .ok (.iload_n 1, 1) := by decide +kernel
theorem d_Mo_bill_137 : decode prog_15_method_34_code 137 = .ok (.imul, 1) := by decide +kernel
theorem d_Mo_bill_138 : decode prog_15_method_34_code 138 = .ok (.iload_n 3, 1) := by decide +kernel
theorem d_Mo_bill_139 : decode prog_15_method_34_code 139 = .ok (.iadd, 1) := by decide +kernel
theorem d_Mo_bill_140 : decode prog_15_method_34_code 140 = .ok (.iload_n 2, 1) := by decide +kernel
theorem d_Mo_bill_141 : decode prog_15_method_34_code 141 = .ok (.iastore, 1) := by decide +kernel
theorem d_Mo_bill_142 : decode prog_15_method_34_code 142 = .ok (.aload_n 0, 1) := by decide +kernel
theorem d_Mo_bill_143 : decode prog_15_method_34_code 143 = .ok (.getfield 75, 3) := by decide +kernel
theorem d_Mo_bill_146 : decode prog_15_method_34_code 146 = .ok (.bipush 6, 2) := by decide +kernel
theorem d_Mo_bill_148 : decode prog_15_method_34_code 148 = .ok (.iload_n 1, 1) := by decide +kernel
theorem d_Mo_bill_149 : decode prog_15_method_34_code 149 = .ok (.imul, 1) := by decide +kernel
theorem d_Mo_bill_150 : decode prog_15_method_34_code 150 = .ok (.iload_n 3, 1) := by decide +kernel
theorem d_Mo_bill_151 : decode prog_15_method_34_code 151 = .ok (.iadd, 1) := by decide +kernel
theorem d_Mo_bill_152 : decode prog_15_method_34_code 152 = .ok (.aload_n 0, 1) := by decide +kernel
theorem d_Mo_bill_153 : decode prog_15_method_34_code 153 = .ok (.iload_n 1, 1) := by decide +kernel
theorem d_Mo_bill_154 : decode prog_15_method_34_code 154 = .ok (.iload 4, 2) := by decide +kernel
theorem d_Mo_bill_156 : decode prog_15_method_34_code 156 = .ok (.iload_n 2, 1) := by decide +kernel
theorem d_Mo_bill_157 : decode prog_15_method_34_code 157 = .ok (.invokevirtual 159, 3) := by decide +kernel
theorem d_Mo_bill_160 : decode prog_15_method_34_code 160 = .ok (.lastore, 1) := by decide +kernel
theorem d_Mo_bill_161 : decode prog_15_method_34_code 161 = .ok (.aload_n 0, 1) := by decide +kernel
theorem d_Mo_bill_162 : decode prog_15_method_34_code 162 = .ok (.getfield 66, 3) := by decide +kernel
theorem d_Mo_bill_165 : decode prog_15_method_34_code 165 = .ok (.iload_n 1, 1) := by decide +kernel
theorem d_Mo_bill_166 : decode prog_15_method_34_code 166 = .ok (.dup2, 1) := by decide +kernel
theorem d_Mo_bill_167 : decode prog_15_method_34_code 167 = .ok (.iaload, 1) := by decide +kernel
theorem d_Mo_bill_168 : decode prog_15_method_34_code 168 = .ok (.iconst 1, 1) := by decide +kernel
theorem d_Mo_bill_169 : decode prog_15_method_34_code 169 = .ok (.iadd, 1) := by decide +kernel
theorem d_Mo_bill_170 : decode prog_15_method_34_code 170 = .ok (.iastore, 1) := by decide +kernel
theorem d_Mo_bill_171 : decode prog_15_method_34_code 171 = .ok (.aload_n 0, 1) := by decide +kernel
theorem d_Mo_bill_172 : decode prog_15_method_34_code 172 = .ok (.getfield 75, 3) := by decide +kernel
theorem d_Mo_bill_175 : decode prog_15_method_34_code 175 = .ok (.bipush 6, 2) := by decide +kernel
theorem d_Mo_bill_177 : decode prog_15_method_34_code 177 = .ok (.iload_n 1, 1) := by decide +kernel
theorem d_Mo_bill_178 : decode prog_15_method_34_code 178 = .ok (.imul, 1) := by decide +kernel
theorem d_Mo_bill_179 : decode prog_15_method_34_code 179 = .ok (.iload_n 3, 1) := by decide +kernel
theorem d_Mo_bill_180 : decode prog_15_method_34_code 180 = .ok (.iadd, 1) := by decide +kernel
theorem d_Mo_bill_181 : decode prog_15_method_34_code 181 = .ok (.laload, 1) := by decide +kernel
theorem d_Mo_bill_182 : decode prog_15_method_34_code 182 = .ok (.lreturn, 1) := by decide +kernel
def wb_Mo_bill_105 (po : Option Value → Pic → Prop) (th : String → Pic → Prop) (P : Pic) (a0 : Nat) (x1 : Int32) (x2 : Int32) (x3 : Int32) (x4 : Int32) (t0 : Int32) (t1 : Nat) : Prop := p_k P t1 = 13 ∧ p_k (s_i P 480 t1 t0) a0 = 13 ∧ (((p_i (s_i P 480 t1 t0) 480 a0) ≤ 0 → (∃ a126, p_r (s_i P 480 t1 t0) 505 a0 = some a126 ∧ p_k (s_i P 480 t1 t0) a126 = 101 ∧ vp_in (((6 : Int32) * x1) + x3) (p_n (s_i P 480 t1 t0) a126) ∧ ∀ (P129 : Pic), P129 = s_ai (s_i P 480 t1 t0) a126 (Int32.toNatClampNeg (((6 : Int32) * x1) + x3)) x4 → ∃ a130, p_r P129 506 a0 = some a130 ∧ p_k P129 a130 = 101 ∧ vp_in (((6 : Int32) * x1) + x3) (p_n P129 a130) ∧ ∃ a133, p_r (s_ai P129 a130 (Int32.toNatClampNeg (((6 : Int32) * x1) + x3)) x2) 507 a0 = some a133 ∧ wp_Mo_price (cp_l fun w134 _ => p_k (s_ai P129 a130 (Int32.toNatClampNeg (((6 : Int32) * x1) + x3)) x2) a133 = 102 ∧ vp_in (((6 : Int32) * x1) + x3) (p_n (s_ai P129 a130 (Int32.toNatClampNeg (((6 : Int32) * x1) + x3)) x2) a133) ∧ ∀ (P137 : Pic), P137 = s_al (s_ai P129 a130 (Int32.toNatClampNeg (((6 : Int32) * x1) + x3)) x2) a133 (Int32.toNatClampNeg (((6 : Int32) * x1) + x3)) w134 → ∃ a138, p_r P137 504 a0 = some a138 ∧ p_k P137 a138 = 101 ∧ vp_in x1 (p_n P137 a138) ∧ vp_in x1 (p_n P137 a138) ∧ ∀ (P142 : Pic), P142 = s_ai P137 a138 (Int32.toNatClampNeg x1) ((p_ai P137 a138 (Int32.toNatClampNeg x1)) + (1 : Int32)) → ∃ a143, p_r P142 507 a0 = some a143 ∧ p_k P142 a143 = 102 ∧ vp_in (((6 : Int32) * x1) + x3) (p_n P142 a143) ∧ po (some (.long (p_al P142 a143 (Int32.toNatClampNeg (((6 : Int32) * x1) + x3))))) P142) th (s_ai P129 a130 (Int32.toNatClampNeg (((6 : Int32) * x1) + x3)) x2) a0 x1 x4 x2)) ∧ (¬ (p_i (s_i P 480 t1 t0) 480 a0) ≤ 0 → (po (some (.long (0 : Int64))) (s_i P 480 t1 t0))))
def wb_Mo_bill_51 (po : Option Value → Pic → Prop) (th : String → Pic → Prop) (P : Pic) (a0 : Nat) (x1 : Int32) (x2 : Int32) (x3 : Int32) (t0 : Int32) : Prop := p_k P a0 = 13 ∧ ∃ a116, p_r P 496 a0 = some a116 ∧ p_k P a116 = 101 ∧ vp_in x1 (p_n P a116) ∧ ((¬ (p_ai P a116 (Int32.toNatClampNeg x1)) = 0 → (((t0 < x2 → (((¬ x3 = (6 : Int32) → (wp_Mo_price (cp_l fun w119 _ => ((0 ≤ (lg_cmp w119 (0 : Int64)) → (wb_Mo_bill_105 po th P a0 x1 x2 x3 t0 (0 : Int32) a0)) ∧ (¬ 0 ≤ (lg_cmp w119 (0 : Int64)) → (wb_Mo_bill_105 po th P a0 x1 x2 x3 t0 (4 : Int32) a0)))) th P a0 x1 t0 x2)) ∧ (x3 = (6 : Int32) → (wb_Mo_bill_105 po th P a0 x1 x2 x3 t0 (3 : Int32) a0))))) ∧ (¬ t0 < x2 → (wb_Mo_bill_105 po th P a0 x1 x2 x3 t0 (2 : Int32) a0))))) ∧ ((p_ai P a116 (Int32.toNatClampNeg x1)) = 0 → (wb_Mo_bill_105 po th P a0 x1 x2 x3 t0 (4 : Int32) a0)))
def wp_Mo_bill (po : Option Value → Pic → Prop) (th : String → Pic → Prop) (P : Pic) (a0 : Nat) (x1 : Int32) (x2 : Int32) : Prop := p_k P a0 = 13 ∧ wp_Mo_noCustomer (cp_i fun x102 _ => ((x102 = 0 → (∃ a103, p_r P 504 a0 = some a103 ∧ p_k P a103 = 101 ∧ vp_in x1 (p_n P a103) ∧ ∀ (x106 : Int32), x106 = (p_ai P a103 (Int32.toNatClampNeg x1)) → ((x106 ≤ 0 → (∃ a107, p_r P 497 a0 = some a107 ∧ p_k P a107 = 101 ∧ vp_in ((24 : Int32) * x1) (p_n P a107) ∧ wb_Mo_bill_51 po th P a0 x1 x2 x106 (p_ai P a107 (Int32.toNatClampNeg ((24 : Int32) * x1))))) ∧ (¬ x106 ≤ 0 → (∃ a110, p_r P 506 a0 = some a110 ∧ p_k P a110 = 101 ∧ vp_in ((((6 : Int32) * x1) + x106) - (1 : Int32)) (p_n P a110) ∧ wb_Mo_bill_51 po th P a0 x1 x2 x106 (p_ai P a110 (Int32.toNatClampNeg ((((6 : Int32) * x1) + x106) - (1 : Int32))))))))) ∧ (¬ x102 = 0 → (po (some (.long (0 : Int64))) (s_i P 480 a0 (1 : Int32)))))) th P a0 x1
set_option maxHeartbeats 4000000 in
set_option maxRecDepth 100000 in
theorem wk_Mo_bill_105 {p : Program} {l : Launch} {e : Env} {s : State} {m : MethodId} {args : Array Value} {below : List Frame} {meth : Method} {c : Code} {D : pq_D} {P0 : Pic} {po : Option Value → Pic → Prop} {th : String → Pic → Prop} (hfl : l.flags = flags0) (C : Cx p e s m args meth c prog_15_method_34_code 5 "WaterWorksModel" D P0) (hmg : e.platform.magicAccessors = ({} : Platform).magicAccessors) (hr : meth.sig.returnType = (some .long)) (hin : meth.name = "bill") (htab : c.exceptionTable.toList = tableOf []) : ∀ (P : Pic) (a0 : Nat) (x1 : Int32) (x2 : Int32) (x3 : Int32) (x4 : Int32) (t0 : Int32) (t1 : Nat) (H : Heap) (locs : List Loc) (cells slots : Nat) (ls : Array Slot), wb_Mo_bill_105 po th P a0 x1 x2 x3 x4 t0 t1 → Pi D P H → Sg (cq_A P0 s) s.heap H P locs → lv_has ls 5 [(0, .ref a0), (1, .int x1), (2, .int x2), (3, .int x3), (4, .int x4)] → cells + 0 ≤ 0 → slots + 0 ≤ 0 → W p l e rm_Mo_bill s m args below meth c H locs cells slots (mt_MQ below (cq_Q D P0 false po th) args s 0 0 (cq_free P0 false)) (F0 m 105 ls [.int t0, .ref t1]) := by
  intro P a0 x1 x2 x3 x4 t0 t1 H locs cells slots ls h hP hS hl hcc hss
  obtain ⟨hx, hb, hml, hown, hlocks, htr, hT, hK, hSt, hN, hP0⟩ := id C
  have L44_12 : pq_fl s m args 44 12 16 := ⟨_, "WaterWorksModel", "WaterWorksModel", rfl, by decide, hown, Or.inl (hT _ k_1120 _), (fun _ z => z)⟩
  have L47_12 : pq_fl s m args 47 12 17 := ⟨_, "WaterWorksModel", "WaterWorksModel", rfl, by decide, hown, Or.inl (hT _ k_1121 _), (fun _ z => z)⟩
  have L66_12 : pq_fl s m args 66 12 24 := ⟨_, "WaterWorksModel", "WaterWorksModel", rfl, by decide, hown, Or.inl (hT _ k_1128 _), (fun _ z => z)⟩
  have L69_12 : pq_fl s m args 69 12 25 := ⟨_, "WaterWorksModel", "WaterWorksModel", rfl, by decide, hown, Or.inl (hT _ k_1129 _), (fun _ z => z)⟩
  have L72_12 : pq_fl s m args 72 12 26 := ⟨_, "WaterWorksModel", "WaterWorksModel", rfl, by decide, hown, Or.inl (hT _ k_1130 _), (fun _ z => z)⟩
  have L75_12 : pq_fl s m args 75 12 27 := ⟨_, "WaterWorksModel", "WaterWorksModel", rfl, by decide, hown, Or.inl (hT _ k_1131 _), (fun _ z => z)⟩
  have L81_12 : pq_fl s m args 81 12 0 := ⟨_, "WaterWorksModel", "WaterWorksModel", rfl, by decide, hown, Or.inl (hT _ k_1104 _), (fun _ z => z)⟩
  unfold wb_Mo_bill_105 at h
  obtain ⟨hk124, h⟩ := h
  refine pq_puti (pc := 105) (f := 480) hx hb hT hK hP hS L81_12 hk124 rfl rfl rfl rfl d_Mo_bill_105 (fun H locs hP hS => ?_)
  have hk124 : p_k (s_i P 480 t1 t0) t1 = 13 := by rw [pk_i]; exact hk124
  refine lv_aload_n (pc := 108) hx hb d_Mo_bill_108 rfl (lv_at hl 0 rfl) ?_
  obtain ⟨hk125, h⟩ := h
  refine pq_geti (pc := 109) (f := 480) hx hb hT hK hP L81_12 hk125 rfl d_Mo_bill_109 ?_
  refine lv_if_le (pc := 112) (tgt := 117) hx hb d_Mo_bill_112 (by decide) (fun c146 => ?_) (fun c146 => ?_)
  · replace h := h.1 c146
    refine lv_aload_n (pc := 117) hx hb d_Mo_bill_117 rfl (lv_at hl 0 rfl) ?_
    obtain ⟨a126, ea126, h⟩ := h
    refine pq_geta (pc := 118) (f := 505) hx hb hT hK hP L69_12 hk125 rfl ea126 d_Mo_bill_118 ?_
    refine lv_bipush (pc := 121) (v := 6) hx hb d_Mo_bill_121 (by decide) ?_
    refine lv_iload_n (pc := 123) hx hb d_Mo_bill_123 rfl (lv_at hl 1 rfl) ?_
    refine lv_imul (pc := 124) hx hb d_Mo_bill_124 ?_
    refine lv_iload_n (pc := 125) hx hb d_Mo_bill_125 rfl (lv_at hl 3 rfl) ?_
    refine lv_iadd (pc := 126) hx hb d_Mo_bill_126 ?_
    refine lv_iload (pc := 127) hx hb d_Mo_bill_127 (lv_at hl 4 rfl) ?_
    obtain ⟨hk127, h⟩ := h
    obtain ⟨hi128, h⟩ := h
    refine pq_iast (pc := 129) hx hb hK hP hS hk127 hi128 d_Mo_bill_129 (fun H locs hP hS => ?_)
    have hk124 : p_k (s_ai (s_i P 480 t1 t0) a126 (Int32.toNatClampNeg (((6 : Int32) * x1) + x3)) x4) t1 = 13 := by rw [pk_ai]; exact hk124
    have hk125 : p_k (s_ai (s_i P 480 t1 t0) a126 (Int32.toNatClampNeg (((6 : Int32) * x1) + x3)) x4) a0 = 13 := by rw [pk_ai]; exact hk125
    have hk127 : p_k (s_ai (s_i P 480 t1 t0) a126 (Int32.toNatClampNeg (((6 : Int32) * x1) + x3)) x4) a126 = 101 := by rw [pk_ai]; exact hk127
    obtain ⟨P129, eP129⟩ : ∃ z : Pic, z = s_ai (s_i P 480 t1 t0) a126 (Int32.toNatClampNeg (((6 : Int32) * x1) + x3)) x4 := ⟨_, rfl⟩
    replace h := h P129 eP129
    rw [← eP129] at hP hS
    have hk124 : p_k P129 t1 = 13 := by rw [eP129]; exact hk124
    have hk125 : p_k P129 a0 = 13 := by rw [eP129]; exact hk125
    have hk127 : p_k P129 a126 = 101 := by rw [eP129]; exact hk127
    refine lv_aload_n (pc := 130) hx hb d_Mo_bill_130 rfl (lv_at hl 0 rfl) ?_
    obtain ⟨a130, ea130, h⟩ := h
    refine pq_geta (pc := 131) (f := 506) hx hb hT hK hP L72_12 hk125 rfl ea130 d_Mo_bill_131 ?_
    refine lv_bipush (pc := 134) (v := 6) hx hb d_Mo_bill_134 (by decide) ?_
    refine lv_iload_n (pc := 136) hx hb d_Mo_bill_136 rfl (lv_at hl 1 rfl) ?_
    refine lv_imul (pc := 137) hx hb d_Mo_bill_137 ?_
    refine lv_iload_n (pc := 138) hx hb d_Mo_bill_138 rfl (lv_at hl 3 rfl) ?_
    refine lv_iadd (pc := 139) hx hb d_Mo_bill_139 ?_
    refine lv_iload_n (pc := 140) hx hb d_Mo_bill_140 rfl (lv_at hl 2 rfl) ?_
    obtain ⟨hk131, h⟩ := h
    obtain ⟨hi132, h⟩ := h
    refine pq_iast (pc := 141) hx hb hK hP hS hk131 hi132 d_Mo_bill_141 (fun H locs hP hS => ?_)
    have hk124 : p_k (s_ai P129 a130 (Int32.toNatClampNeg (((6 : Int32) * x1) + x3)) x2) t1 = 13 := by rw [pk_ai]; exact hk124
    have hk125 : p_k (s_ai P129 a130 (Int32.toNatClampNeg (((6 : Int32) * x1) + x3)) x2) a0 = 13 := by rw [pk_ai]; exact hk125
    have hk127 : p_k (s_ai P129 a130 (Int32.toNatClampNeg (((6 : Int32) * x1) + x3)) x2) a126 = 101 := by rw [pk_ai]; exact hk127
    have hk131 : p_k (s_ai P129 a130 (Int32.toNatClampNeg (((6 : Int32) * x1) + x3)) x2) a130 = 101 := by rw [pk_ai]; exact hk131
    refine lv_aload_n (pc := 142) hx hb d_Mo_bill_142 rfl (lv_at hl 0 rfl) ?_
    obtain ⟨a133, ea133, h⟩ := h
    refine pq_geta (pc := 143) (f := 507) hx hb hT hK hP L75_12 hk125 rfl ea133 d_Mo_bill_143 ?_
    refine lv_bipush (pc := 146) (v := 6) hx hb d_Mo_bill_146 (by decide) ?_
    refine lv_iload_n (pc := 148) hx hb d_Mo_bill_148 rfl (lv_at hl 1 rfl) ?_
    refine lv_imul (pc := 149) hx hb d_Mo_bill_149 ?_
    refine lv_iload_n (pc := 150) hx hb d_Mo_bill_150 rfl (lv_at hl 3 rfl) ?_
    refine lv_iadd (pc := 151) hx hb d_Mo_bill_151 ?_
    refine lv_aload_n (pc := 152) hx hb d_Mo_bill_152 rfl (lv_at hl 0 rfl) ?_
    refine lv_iload_n (pc := 153) hx hb d_Mo_bill_153 rfl (lv_at hl 1 rfl) ?_
    refine lv_iload (pc := 154) hx hb d_Mo_bill_154 (lv_at hl 4 rfl) ?_
    refine lv_iload_n (pc := 156) hx hb d_Mo_bill_156 rfl (lv_at hl 2 rfl) ?_
    refine cr_l (pc := 157) C (rest := [.int (((6 : Int32) * x1) + x3), .ref a133]) (mt_invV (As := [.int x1, .int x4, .int x2]) hx hb hown (hT _ k_1316 _) (hT _ k_1318 _) (hT _ ks_28 _) (mt_Cd.code (hT _ k_1319 #[])) h_Mo_price (pq_recv hK hP hk125 rfl) n_Mo_price rfl d_Mo_bill_157) (ct_Mo_price hfl D h) k_1319 k_24 ⟨Nat.le_of_ble_eq_true rfl, Nat.le_of_ble_eq_true rfl⟩ ⟨(show cells + 0 ≤ 0 by omega), (show slots + 0 ≤ 0 by omega)⟩ hl.1 d_Mo_bill_157 (Nat.le_of_ble_eq_true rfl) hP hS (fun w134 H locs h hP hS => ?_) (fun xx X H locs h hX hex hP hS => ?_)
    · obtain ⟨hk135, h⟩ := h
      obtain ⟨hi136, h⟩ := h
      refine pq_last (pc := 160) hx hb hK hP hS hk135 hi136 d_Mo_bill_160 (fun H locs hP hS => ?_)
      have hk124 : p_k (s_al (s_ai P129 a130 (Int32.toNatClampNeg (((6 : Int32) * x1) + x3)) x2) a133 (Int32.toNatClampNeg (((6 : Int32) * x1) + x3)) w134) t1 = 13 := by rw [pk_al]; exact hk124
      have hk125 : p_k (s_al (s_ai P129 a130 (Int32.toNatClampNeg (((6 : Int32) * x1) + x3)) x2) a133 (Int32.toNatClampNeg (((6 : Int32) * x1) + x3)) w134) a0 = 13 := by rw [pk_al]; exact hk125
      have hk127 : p_k (s_al (s_ai P129 a130 (Int32.toNatClampNeg (((6 : Int32) * x1) + x3)) x2) a133 (Int32.toNatClampNeg (((6 : Int32) * x1) + x3)) w134) a126 = 101 := by rw [pk_al]; exact hk127
      have hk131 : p_k (s_al (s_ai P129 a130 (Int32.toNatClampNeg (((6 : Int32) * x1) + x3)) x2) a133 (Int32.toNatClampNeg (((6 : Int32) * x1) + x3)) w134) a130 = 101 := by rw [pk_al]; exact hk131
      have hk135 : p_k (s_al (s_ai P129 a130 (Int32.toNatClampNeg (((6 : Int32) * x1) + x3)) x2) a133 (Int32.toNatClampNeg (((6 : Int32) * x1) + x3)) w134) a133 = 102 := by rw [pk_al]; exact hk135
      obtain ⟨P137, eP137⟩ : ∃ z : Pic, z = s_al (s_ai P129 a130 (Int32.toNatClampNeg (((6 : Int32) * x1) + x3)) x2) a133 (Int32.toNatClampNeg (((6 : Int32) * x1) + x3)) w134 := ⟨_, rfl⟩
      replace h := h P137 eP137
      rw [← eP137] at hP hS
      have hk124 : p_k P137 t1 = 13 := by rw [eP137]; exact hk124
      have hk125 : p_k P137 a0 = 13 := by rw [eP137]; exact hk125
      have hk127 : p_k P137 a126 = 101 := by rw [eP137]; exact hk127
      have hk131 : p_k P137 a130 = 101 := by rw [eP137]; exact hk131
      have hk135 : p_k P137 a133 = 102 := by rw [eP137]; exact hk135
      refine lv_aload_n (pc := 161) hx hb d_Mo_bill_161 rfl (lv_at hl 0 rfl) ?_
      obtain ⟨a138, ea138, h⟩ := h
      refine pq_geta (pc := 162) (f := 504) hx hb hT hK hP L66_12 hk125 rfl ea138 d_Mo_bill_162 ?_
      refine lv_iload_n (pc := 165) hx hb d_Mo_bill_165 rfl (lv_at hl 1 rfl) ?_
      refine lv_dup2_11 (pc := 166) hx hb d_Mo_bill_166 rfl rfl ?_
      obtain ⟨hk139, h⟩ := h
      obtain ⟨hi140, h⟩ := h
      refine pq_iald (pc := 167) hx hb hK hP hk139 hi140 d_Mo_bill_167 ?_
      refine lv_iconst (pc := 168) (v := 1) hx hb d_Mo_bill_168 (by decide) ?_
      refine lv_iadd (pc := 169) hx hb d_Mo_bill_169 ?_
      obtain ⟨hi141, h⟩ := h
      refine pq_iast (pc := 170) hx hb hK hP hS hk139 hi141 d_Mo_bill_170 (fun H locs hP hS => ?_)
      have hk124 : p_k (s_ai P137 a138 (Int32.toNatClampNeg x1) ((p_ai P137 a138 (Int32.toNatClampNeg x1)) + (1 : Int32))) t1 = 13 := by rw [pk_ai]; exact hk124
      have hk125 : p_k (s_ai P137 a138 (Int32.toNatClampNeg x1) ((p_ai P137 a138 (Int32.toNatClampNeg x1)) + (1 : Int32))) a0 = 13 := by rw [pk_ai]; exact hk125
      have hk127 : p_k (s_ai P137 a138 (Int32.toNatClampNeg x1) ((p_ai P137 a138 (Int32.toNatClampNeg x1)) + (1 : Int32))) a126 = 101 := by rw [pk_ai]; exact hk127
      have hk131 : p_k (s_ai P137 a138 (Int32.toNatClampNeg x1) ((p_ai P137 a138 (Int32.toNatClampNeg x1)) + (1 : Int32))) a130 = 101 := by rw [pk_ai]; exact hk131
      have hk135 : p_k (s_ai P137 a138 (Int32.toNatClampNeg x1) ((p_ai P137 a138 (Int32.toNatClampNeg x1)) + (1 : Int32))) a133 = 102 := by rw [pk_ai]; exact hk135
      have hk139 : p_k (s_ai P137 a138 (Int32.toNatClampNeg x1) ((p_ai P137 a138 (Int32.toNatClampNeg x1)) + (1 : Int32))) a138 = 101 := by rw [pk_ai]; exact hk139
      obtain ⟨P142, eP142⟩ : ∃ z : Pic, z = s_ai P137 a138 (Int32.toNatClampNeg x1) ((p_ai P137 a138 (Int32.toNatClampNeg x1)) + (1 : Int32)) := ⟨_, rfl⟩
      replace h := h P142 eP142
      rw [← eP142] at hP hS
      have hk124 : p_k P142 t1 = 13 := by rw [eP142]; exact hk124
      have hk125 : p_k P142 a0 = 13 := by rw [eP142]; exact hk125
      have hk127 : p_k P142 a126 = 101 := by rw [eP142]; exact hk127
      have hk131 : p_k P142 a130 = 101 := by rw [eP142]; exact hk131
      have hk135 : p_k P142 a133 = 102 := by rw [eP142]; exact hk135
      have hk139 : p_k P142 a138 = 101 := by rw [eP142]; exact hk139
      refine lv_aload_n (pc := 171) hx hb d_Mo_bill_171 rfl (lv_at hl 0 rfl) ?_
      obtain ⟨a143, ea143, h⟩ := h
      refine pq_geta (pc := 172) (f := 507) hx hb hT hK hP L75_12 hk125 rfl ea143 d_Mo_bill_172 ?_
      refine lv_bipush (pc := 175) (v := 6) hx hb d_Mo_bill_175 (by decide) ?_
      refine lv_iload_n (pc := 177) hx hb d_Mo_bill_177 rfl (lv_at hl 1 rfl) ?_
      refine lv_imul (pc := 178) hx hb d_Mo_bill_178 ?_
      refine lv_iload_n (pc := 179) hx hb d_Mo_bill_179 rfl (lv_at hl 3 rfl) ?_
      refine lv_iadd (pc := 180) hx hb d_Mo_bill_180 ?_
      obtain ⟨hk144, h⟩ := h
      obtain ⟨hi145, h⟩ := h
      refine pq_lald (pc := 181) hx hb hK hP hk144 hi145 d_Mo_bill_181 ?_
      exact we_l (pc := 182) hx hb hlocks hr hP hS (show cells + 0 + 0 ≤ 0 by omega) (show slots + 0 + 0 ≤ 0 by omega) h d_Mo_bill_182
    · exact cq_out hlocks (pq_nil htab rfl) (show cells + 0 + 0 ≤ 0 by omega) (show slots + 0 + 0 ≤ 0 by omega) hX hex hP hS h
  · replace h := h.2 c146
    refine lv_lconst (pc := 115) (v := 0) hx hb d_Mo_bill_115 (by decide) ?_
    exact we_l (pc := 116) hx hb hlocks hr hP hS (show cells + 0 ≤ 0 by omega) (show slots + 0 ≤ 0 by omega) h d_Mo_bill_116
set_option maxHeartbeats 4000000 in
set_option maxRecDepth 100000 in
theorem wk_Mo_bill_51 {p : Program} {l : Launch} {e : Env} {s : State} {m : MethodId} {args : Array Value} {below : List Frame} {meth : Method} {c : Code} {D : pq_D} {P0 : Pic} {po : Option Value → Pic → Prop} {th : String → Pic → Prop} (hfl : l.flags = flags0) (C : Cx p e s m args meth c prog_15_method_34_code 5 "WaterWorksModel" D P0) (hmg : e.platform.magicAccessors = ({} : Platform).magicAccessors) (hr : meth.sig.returnType = (some .long)) (hin : meth.name = "bill") (htab : c.exceptionTable.toList = tableOf []) : ∀ (P : Pic) (a0 : Nat) (x1 : Int32) (x2 : Int32) (x3 : Int32) (t0 : Int32) (H : Heap) (locs : List Loc) (cells slots : Nat) (ls : Array Slot), wb_Mo_bill_51 po th P a0 x1 x2 x3 t0 → Pi D P H → Sg (cq_A P0 s) s.heap H P locs → lv_has ls 5 [(0, .ref a0), (1, .int x1), (2, .int x2), (3, .int x3)] → cells + 0 ≤ 0 → slots + 0 ≤ 0 → W p l e rm_Mo_bill s m args below meth c H locs cells slots (mt_MQ below (cq_Q D P0 false po th) args s 0 0 (cq_free P0 false)) (F0 m 51 ls [.int t0]) := by
  intro P a0 x1 x2 x3 t0 H locs cells slots ls h hP hS hl hcc hss
  obtain ⟨hx, hb, hml, hown, hlocks, htr, hT, hK, hSt, hN, hP0⟩ := id C
  have L44_12 : pq_fl s m args 44 12 16 := ⟨_, "WaterWorksModel", "WaterWorksModel", rfl, by decide, hown, Or.inl (hT _ k_1120 _), (fun _ z => z)⟩
  have L47_12 : pq_fl s m args 47 12 17 := ⟨_, "WaterWorksModel", "WaterWorksModel", rfl, by decide, hown, Or.inl (hT _ k_1121 _), (fun _ z => z)⟩
  have L66_12 : pq_fl s m args 66 12 24 := ⟨_, "WaterWorksModel", "WaterWorksModel", rfl, by decide, hown, Or.inl (hT _ k_1128 _), (fun _ z => z)⟩
  have L69_12 : pq_fl s m args 69 12 25 := ⟨_, "WaterWorksModel", "WaterWorksModel", rfl, by decide, hown, Or.inl (hT _ k_1129 _), (fun _ z => z)⟩
  have L72_12 : pq_fl s m args 72 12 26 := ⟨_, "WaterWorksModel", "WaterWorksModel", rfl, by decide, hown, Or.inl (hT _ k_1130 _), (fun _ z => z)⟩
  have L75_12 : pq_fl s m args 75 12 27 := ⟨_, "WaterWorksModel", "WaterWorksModel", rfl, by decide, hown, Or.inl (hT _ k_1131 _), (fun _ z => z)⟩
  have L81_12 : pq_fl s m args 81 12 0 := ⟨_, "WaterWorksModel", "WaterWorksModel", rfl, by decide, hown, Or.inl (hT _ k_1104 _), (fun _ z => z)⟩
  unfold wb_Mo_bill_51 at h
  refine lv_istore (pc := 51) (lv' := [(4, .int t0), (0, .ref a0), (1, .int x1), (2, .int x2), (3, .int x3)]) hx hb d_Mo_bill_51 hl (by decide) rfl (fun ls hl => ?_)
  refine lv_aload_n (pc := 53) hx hb d_Mo_bill_53 rfl (lv_at hl 1 rfl) ?_
  refine lv_aload_n (pc := 54) hx hb d_Mo_bill_54 rfl (lv_at hl 1 rfl) ?_
  obtain ⟨hk115, h⟩ := h
  obtain ⟨a116, ea116, h⟩ := h
  refine pq_geta (pc := 55) (f := 496) hx hb hT hK hP L44_12 hk115 rfl ea116 d_Mo_bill_55 ?_
  refine lv_iload_n (pc := 58) hx hb d_Mo_bill_58 rfl (lv_at hl 2 rfl) ?_
  obtain ⟨hk117, h⟩ := h
  obtain ⟨hi118, h⟩ := h
  refine pq_iald (pc := 59) hx hb hK hP hk117 hi118 d_Mo_bill_59 ?_
  refine lv_if_ne (pc := 60) (tgt := 67) hx hb d_Mo_bill_60 (by decide) (fun c123 => ?_) (fun c123 => ?_)
  · replace h := h.1 c123
    refine lv_iload_n (pc := 67) hx hb d_Mo_bill_67 rfl (lv_at hl 3 rfl) ?_
    refine lv_iload (pc := 68) hx hb d_Mo_bill_68 (lv_at hl 0 rfl) ?_
    refine lv_icmp_gt (pc := 70) (tgt := 77) hx hb d_Mo_bill_70 (by decide) (fun c122 => ?_) (fun c122 => ?_)
    · replace h := h.1 c122
      refine lv_iload_n (pc := 77) hx hb d_Mo_bill_77 rfl (lv_at hl 4 rfl) ?_
      refine lv_bipush (pc := 78) (v := 6) hx hb d_Mo_bill_78 (by decide) ?_
      refine lv_icmp_ne (pc := 80) (tgt := 87) hx hb d_Mo_bill_80 (by decide) (fun c121 => ?_) (fun c121 => ?_)
      · replace h := h.1 c121
        refine lv_aload_n (pc := 87) hx hb d_Mo_bill_87 rfl (lv_at hl 1 rfl) ?_
        refine lv_iload_n (pc := 88) hx hb d_Mo_bill_88 rfl (lv_at hl 2 rfl) ?_
        refine lv_iload (pc := 89) hx hb d_Mo_bill_89 (lv_at hl 0 rfl) ?_
        refine lv_iload_n (pc := 91) hx hb d_Mo_bill_91 rfl (lv_at hl 3 rfl) ?_
        refine cr_l (pc := 92) C (rest := [.ref a0]) (mt_invV (As := [.int x1, .int t0, .int x2]) hx hb hown (hT _ k_1316 _) (hT _ k_1318 _) (hT _ ks_28 _) (mt_Cd.code (hT _ k_1319 #[])) h_Mo_price (pq_recv hK hP hk115 rfl) n_Mo_price rfl d_Mo_bill_92) (ct_Mo_price hfl D h) k_1319 k_24 ⟨Nat.le_of_ble_eq_true rfl, Nat.le_of_ble_eq_true rfl⟩ ⟨(show cells + 0 ≤ 0 by omega), (show slots + 0 ≤ 0 by omega)⟩ hl.1 d_Mo_bill_92 (Nat.le_of_ble_eq_true rfl) hP hS (fun w119 H locs h hP hS => ?_) (fun xx X H locs h hX hex hP hS => ?_)
        · refine lv_lconst (pc := 95) (v := 0) hx hb d_Mo_bill_95 (by decide) ?_
          refine W.lcmp hx hb d_Mo_bill_96 ?_
          refine lv_if_ge (pc := 97) (tgt := 104) hx hb d_Mo_bill_97 (by decide) (fun c120 => ?_) (fun c120 => ?_)
          · replace h := h.1 c120
            refine lv_iconst (pc := 104) (v := 0) hx hb d_Mo_bill_104 (by decide) ?_
            exact wk_Mo_bill_105 hfl C hmg hr hin htab _ a0 x1 x2 x3 t0 (0 : Int32) a0 _ _ _ _ _ h hP hS (lv_sub hl [1, 2, 3, 4, 0] rfl) (show cells + 0 + 0 ≤ 0 by omega) (show slots + 0 + 0 ≤ 0 by omega)
          · replace h := h.2 c120
            refine lv_iconst (pc := 100) (v := 4) hx hb d_Mo_bill_100 (by decide) ?_
            refine lv_goto (pc := 101) (tgt := 105) hx hb d_Mo_bill_101 (by decide) ?_
            exact wk_Mo_bill_105 hfl C hmg hr hin htab _ a0 x1 x2 x3 t0 (4 : Int32) a0 _ _ _ _ _ h hP hS (lv_sub hl [1, 2, 3, 4, 0] rfl) (show cells + 0 + 0 ≤ 0 by omega) (show slots + 0 + 0 ≤ 0 by omega)
        · exact cq_out hlocks (pq_nil htab rfl) (show cells + 0 + 0 ≤ 0 by omega) (show slots + 0 + 0 ≤ 0 by omega) hX hex hP hS h
      · replace h := h.2 c121
        refine lv_iconst (pc := 83) (v := 3) hx hb d_Mo_bill_83 (by decide) ?_
        refine lv_goto (pc := 84) (tgt := 105) hx hb d_Mo_bill_84 (by decide) ?_
        exact wk_Mo_bill_105 hfl C hmg hr hin htab _ a0 x1 x2 x3 t0 (3 : Int32) a0 _ _ _ _ _ h hP hS (lv_sub hl [1, 2, 3, 4, 0] rfl) (show cells + 0 ≤ 0 by omega) (show slots + 0 ≤ 0 by omega)
    · replace h := h.2 c122
      refine lv_iconst (pc := 73) (v := 2) hx hb d_Mo_bill_73 (by decide) ?_
      refine lv_goto (pc := 74) (tgt := 105) hx hb d_Mo_bill_74 (by decide) ?_
      exact wk_Mo_bill_105 hfl C hmg hr hin htab _ a0 x1 x2 x3 t0 (2 : Int32) a0 _ _ _ _ _ h hP hS (lv_sub hl [1, 2, 3, 4, 0] rfl) (show cells + 0 ≤ 0 by omega) (show slots + 0 ≤ 0 by omega)
  · replace h := h.2 c123
    refine lv_iconst (pc := 63) (v := 4) hx hb d_Mo_bill_63 (by decide) ?_
    refine lv_goto (pc := 64) (tgt := 105) hx hb d_Mo_bill_64 (by decide) ?_
    exact wk_Mo_bill_105 hfl C hmg hr hin htab _ a0 x1 x2 x3 t0 (4 : Int32) a0 _ _ _ _ _ h hP hS (lv_sub hl [1, 2, 3, 4, 0] rfl) (show cells + 0 ≤ 0 by omega) (show slots + 0 ≤ 0 by omega)
set_option maxHeartbeats 4000000 in
set_option maxRecDepth 100000 in
theorem ct_Mo_bill {l : Launch} (hfl : l.flags = flags0) (D : pq_D) {po : Option Value → Pic → Prop} {th : String → Pic → Prop} {P : Pic} {a0 : Nat} {x1 : Int32} {x2 : Int32} (h : wp_Mo_bill po th P a0 x1 x2) : CT l D y_Mo_bill (.code y_Mo_bill prog_15_method_34_code 5 (some .long)) rm_Mo_bill false [.ref a0, .int x1, .int x2] P po th := by
  refine ct_of (hs := []) hfl (by decide +kernel) (Or.inl ⟨rfl, rfl⟩) (Nat.le_of_ble_eq_true rfl) ?_
  intro p e s m below meth c C hmg hr hin htab ls hl
  have hl : lv_has ls 5 [(0, .ref a0), (1, .int x1), (2, .int x2)] := hl
  generalize hargs : ([.ref a0, .int x1, .int x2] : List Value).toArray = args at C ⊢
  obtain ⟨hx, hb, hml, hown, hlocks, htr, hT, hK, hSt, hN, hP0⟩ := id C
  have L44_12 : pq_fl s m args 44 12 16 := ⟨_, "WaterWorksModel", "WaterWorksModel", rfl, by decide, hown, Or.inl (hT _ k_1120 _), (fun _ z => z)⟩
  have L47_12 : pq_fl s m args 47 12 17 := ⟨_, "WaterWorksModel", "WaterWorksModel", rfl, by decide, hown, Or.inl (hT _ k_1121 _), (fun _ z => z)⟩
  have L66_12 : pq_fl s m args 66 12 24 := ⟨_, "WaterWorksModel", "WaterWorksModel", rfl, by decide, hown, Or.inl (hT _ k_1128 _), (fun _ z => z)⟩
  have L69_12 : pq_fl s m args 69 12 25 := ⟨_, "WaterWorksModel", "WaterWorksModel", rfl, by decide, hown, Or.inl (hT _ k_1129 _), (fun _ z => z)⟩
  have L72_12 : pq_fl s m args 72 12 26 := ⟨_, "WaterWorksModel", "WaterWorksModel", rfl, by decide, hown, Or.inl (hT _ k_1130 _), (fun _ z => z)⟩
  have L75_12 : pq_fl s m args 75 12 27 := ⟨_, "WaterWorksModel", "WaterWorksModel", rfl, by decide, hown, Or.inl (hT _ k_1131 _), (fun _ z => z)⟩
  have L81_12 : pq_fl s m args 81 12 0 := ⟨_, "WaterWorksModel", "WaterWorksModel", rfl, by decide, hown, Or.inl (hT _ k_1104 _), (fun _ z => z)⟩
  have hP : Pi D P s.heap := hP0
  have hS : Sg (cq_A P s) s.heap s.heap P [] := Sg.start hP0
  unfold wp_Mo_bill at h
  refine lv_aload_n (pc := 0) hx hb d_Mo_bill_0 rfl (lv_at hl 0 rfl) ?_
  refine lv_iload_n (pc := 1) hx hb d_Mo_bill_1 rfl (lv_at hl 1 rfl) ?_
  obtain ⟨hk101, h⟩ := h
  refine cr_i (pc := 2) C (rest := []) (mt_invV (As := [.int x1]) hx hb hown (hT _ k_1239 _) (hT _ k_1241 _) (hT _ ks_20 _) (mt_Cd.code (hT _ k_1242 #[])) h_Mo_noCustomer (pq_recv hK hP hk101 rfl) n_Mo_noCustomer rfl d_Mo_bill_2) (ct_Mo_noCustomer hfl D h) k_1242 k_24 ⟨Nat.le_of_ble_eq_true rfl, Nat.le_of_ble_eq_true rfl⟩ ⟨(show 0 + 0 ≤ 0 by omega), (show 0 + 0 ≤ 0 by omega)⟩ hl.1 d_Mo_bill_2 (Nat.le_of_ble_eq_true rfl) hP hS (fun x102 H locs h hP hS => ?_) (fun xx X H locs h hX hex hP hS => ?_)
  · refine lv_if_eq (pc := 5) (tgt := 15) hx hb d_Mo_bill_5 (by decide) (fun c114 => ?_) (fun c114 => ?_)
    · replace h := h.1 c114
      refine lv_aload_n (pc := 15) hx hb d_Mo_bill_15 rfl (lv_at hl 0 rfl) ?_
      obtain ⟨a103, ea103, h⟩ := h
      refine pq_geta (pc := 16) (f := 504) hx hb hT hK hP L66_12 hk101 rfl ea103 d_Mo_bill_16 ?_
      refine lv_iload_n (pc := 19) hx hb d_Mo_bill_19 rfl (lv_at hl 1 rfl) ?_
      obtain ⟨hk104, h⟩ := h
      obtain ⟨hi105, h⟩ := h
      refine pq_iald (pc := 20) hx hb hK hP hk104 hi105 d_Mo_bill_20 ?_
      refine lv_topi (fun x106 ex106 => ?_)
      replace h := h x106 ex106
      refine lv_istore_n (pc := 21) (lv' := [(3, .int x106), (0, .ref a0), (1, .int x1), (2, .int x2)]) hx hb d_Mo_bill_21 rfl hl (by decide) rfl (fun ls hl => ?_)
      refine lv_iload_n (pc := 22) hx hb d_Mo_bill_22 rfl (lv_at hl 0 rfl) ?_
      refine lv_if_le (pc := 23) (tgt := 42) hx hb d_Mo_bill_23 (by decide) (fun c113 => ?_) (fun c113 => ?_)
      · replace h := h.1 c113
        refine lv_aload_n (pc := 42) hx hb d_Mo_bill_42 rfl (lv_at hl 1 rfl) ?_
        obtain ⟨a107, ea107, h⟩ := h
        refine pq_geta (pc := 43) (f := 497) hx hb hT hK hP L47_12 hk101 rfl ea107 d_Mo_bill_43 ?_
        refine lv_bipush (pc := 46) (v := 24) hx hb d_Mo_bill_46 (by decide) ?_
        refine lv_iload_n (pc := 48) hx hb d_Mo_bill_48 rfl (lv_at hl 2 rfl) ?_
        refine lv_imul (pc := 49) hx hb d_Mo_bill_49 ?_
        obtain ⟨hk108, h⟩ := h
        obtain ⟨hi109, h⟩ := h
        refine pq_iald (pc := 50) hx hb hK hP hk108 hi109 d_Mo_bill_50 ?_
        exact wk_Mo_bill_51 hfl C hmg hr hin htab _ a0 x1 x2 x106 (p_ai P a107 (Int32.toNatClampNeg ((24 : Int32) * x1))) _ _ _ _ _ h hP hS (lv_sub hl [1, 2, 3, 0] rfl) (show 0 + 0 + 0 ≤ 0 by omega) (show 0 + 0 + 0 ≤ 0 by omega)
      · replace h := h.2 c113
        refine lv_aload_n (pc := 26) hx hb d_Mo_bill_26 rfl (lv_at hl 1 rfl) ?_
        obtain ⟨a110, ea110, h⟩ := h
        refine pq_geta (pc := 27) (f := 506) hx hb hT hK hP L72_12 hk101 rfl ea110 d_Mo_bill_27 ?_
        refine lv_bipush (pc := 30) (v := 6) hx hb d_Mo_bill_30 (by decide) ?_
        refine lv_iload_n (pc := 32) hx hb d_Mo_bill_32 rfl (lv_at hl 2 rfl) ?_
        refine lv_imul (pc := 33) hx hb d_Mo_bill_33 ?_
        refine lv_iload_n (pc := 34) hx hb d_Mo_bill_34 rfl (lv_at hl 0 rfl) ?_
        refine lv_iadd (pc := 35) hx hb d_Mo_bill_35 ?_
        refine lv_iconst (pc := 36) (v := 1) hx hb d_Mo_bill_36 (by decide) ?_
        refine lv_isub (pc := 37) hx hb d_Mo_bill_37 ?_
        obtain ⟨hk111, h⟩ := h
        obtain ⟨hi112, h⟩ := h
        refine pq_iald (pc := 38) hx hb hK hP hk111 hi112 d_Mo_bill_38 ?_
        refine lv_goto (pc := 39) (tgt := 51) hx hb d_Mo_bill_39 (by decide) ?_
        exact wk_Mo_bill_51 hfl C hmg hr hin htab _ a0 x1 x2 x106 (p_ai P a110 (Int32.toNatClampNeg ((((6 : Int32) * x1) + x106) - (1 : Int32)))) _ _ _ _ _ h hP hS (lv_sub hl [1, 2, 3, 0] rfl) (show 0 + 0 + 0 ≤ 0 by omega) (show 0 + 0 + 0 ≤ 0 by omega)
    · replace h := h.2 c114
      refine lv_aload_n (pc := 8) hx hb d_Mo_bill_8 rfl (lv_at hl 0 rfl) ?_
      refine lv_iconst (pc := 9) (v := 1) hx hb d_Mo_bill_9 (by decide) ?_
      refine pq_puti (pc := 10) (f := 480) hx hb hT hK hP hS L81_12 hk101 rfl rfl rfl rfl d_Mo_bill_10 (fun H locs hP hS => ?_)
      have hk101 : p_k (s_i P 480 a0 (1 : Int32)) a0 = 13 := by rw [pk_i]; exact hk101
      refine lv_lconst (pc := 13) (v := 0) hx hb d_Mo_bill_13 (by decide) ?_
      exact we_l (pc := 14) hx hb hlocks hr hP hS (show 0 + 0 + 0 ≤ 0 by omega) (show 0 + 0 + 0 ≤ 0 by omega) h d_Mo_bill_14
  · exact cq_out hlocks (pq_nil htab rfl) (show 0 + 0 + 0 ≤ 0 by omega) (show 0 + 0 + 0 ≤ 0 by omega) hX hex hP hS h
/-! WaterWorksModel.correct(I)J -/
abbrev y_Mo_correct : MethodName := ⟨"WaterWorksModel", "correct", "(I)J"⟩
abbrev rm_Mo_correct : Room := { frames := 4, cells := 0, slots := 0, locals := 122 }
theorem h_Mo_correct : y_Mo_correct.cls ≠ "java/lang/invoke/MethodHandle" ∧ y_Mo_correct.cls ≠ "java/lang/invoke/VarHandle" := by decide +kernel
theorem n_Mo_correct : (parseMethodDescriptor y_Mo_correct.desc).map (fun d => d.parameters.length) = some 1 := by decide +kernel
theorem d_Mo_correct_0 : decode prog_15_method_35_code 0 = .ok (.aload_n 0, 1) := by decide +kernel
theorem d_Mo_correct_1 : decode prog_15_method_35_code 1 = .ok (.aload_n 0, 1) := by decide +kernel
theorem d_Mo_correct_2 : decode prog_15_method_35_code 2 = .ok (.iload_n 1, 1) := by decide +kernel
theorem d_Mo_correct_3 : decode prog_15_method_35_code 3 = .ok (.invokevirtual 108, 3) := by decide +kernel
theorem d_Mo_correct_6 : decode prog_15_method_35_code 6 = .ok (.ifCond .eq 7, 3) := by decide +kernel
theorem d_Mo_correct_9 : decode prog_15_method_35_code 9 = .ok (.iconst 1, 1) := by decide +kernel
theorem d_Mo_correct_10 : decode prog_15_method_35_code 10 = .ok (.goto 4, 3) := by decide +kernel
theorem d_Mo_correct_13 : decode prog_15_method_35_code 13 = .ok (.iconst 0, 1) := by decide +kernel
theorem d_Mo_correct_14 : decode prog_15_method_35_code 14 = .ok (.putfield 81, 3) := by decide +kernel
theorem d_Mo_correct_17 : decode prog_15_method_35_code 17 = .ok (.lconst 0, 1) := by decide +kernel
theorem d_Mo_correct_18 : decode prog_15_method_35_code 18 = .ok (.lstore_n 2, 1) := by decide +kernel
theorem d_Mo_correct_19 : decode prog_15_method_35_code 19 = .ok (.iconst 0, 1) := by decide +kernel
theorem d_Mo_correct_20 : decode prog_15_method_35_code 20 = .ok (.istore 4, 2) := by decide +kernel
theorem d_Mo_correct_22 : decode prog_15_method_35_code 22 = .ok (.aload_n 0, 1) := by decide +kernel
theorem d_Mo_correct_23 : decode prog_15_method_35_code 23 = .ok (.getfield 81, 3) := by decide +kernel
theorem d_Mo_correct_26 : decode prog_15_method_35_code 26 = .ok (.ifCond .ne 85, 3) := by decide +kernel
theorem d_Mo_correct_29 : decode prog_15_method_35_code 29 = .ok (.iload 4, 2) := by decide +kernel
theorem d_Mo_correct_31 : decode prog_15_method_35_code 31 = .ok (.aload_n 0, 1) := by decide +kernel
theorem d_Mo_correct_32 : decode prog_15_method_35_code 32 = .ok (.getfield 66, 3) := by decide +kernel
theorem d_Mo_correct_35 : decode prog_15_method_35_code 35 = .ok (.iload_n 1, 1) := by decide +kernel
theorem d_Mo_correct_36 : decode prog_15_method_35_code 36 = .ok (.iaload, 1) := by decide +kernel
theorem d_Mo_correct_37 : decode prog_15_method_35_code 37 = .ok (.if_icmp .ge 74, 3) := by decide +kernel
theorem d_Mo_correct_40 : decode prog_15_method_35_code 40 = .ok (.aload_n 0, 1) := by decide +kernel
theorem d_Mo_correct_41 : decode prog_15_method_35_code 41 = .ok (.iload_n 1, 1) := by decide +kernel
theorem d_Mo_correct_42 : decode prog_15_method_35_code 42 = .ok (.aload_n 0, 1) := by decide +kernel
theorem d_Mo_correct_43 : decode prog_15_method_35_code 43 = .ok (.getfield 69, 3) := by decide +kernel
theorem d_Mo_correct_46 : decode prog_15_method_35_code 46 = .ok (.bipush 6, 2) := by decide +kernel
theorem d_Mo_correct_48 : decode prog_15_method_35_code 48 = .ok (.iload_n 1, 1) := by decide +kernel
theorem d_Mo_correct_49 : decode prog_15_method_35_code 49 = .ok (.imul, 1) := by decide +kernel
theorem d_Mo_correct_50 : decode prog_15_method_35_code 50 = .ok (.iload 4, 2) := by decide +kernel
theorem d_Mo_correct_52 : decode prog_15_method_35_code 52 = .ok (.iadd, 1) := by decide +kernel
theorem d_Mo_correct_53 : decode prog_15_method_35_code 53 = .ok (.iaload, 1) := by decide +kernel
theorem d_Mo_correct_54 : decode prog_15_method_35_code 54 = .ok (.aload_n 0, 1) := by decide +kernel
theorem d_Mo_correct_55 : decode prog_15_method_35_code 55 = .ok (.getfield 72, 3) := by decide +kernel
theorem d_Mo_correct_58 : decode prog_15_method_35_code 58 = .ok (.bipush 6, 2) := by decide +kernel
theorem d_Mo_correct_60 : decode prog_15_method_35_code 60 = .ok (.iload_n 1, 1) := by decide +kernel
theorem d_Mo_correct_61 : decode prog_15_method_35_code 61 = .ok (.imul, 1) := by decide +kernel
theorem d_Mo_correct_62 : decode prog_15_method_35_code 62 = .ok (.iload 4, 2) := by decide +kernel
theorem d_Mo_correct_64 : decode prog_15_method_35_code 64 = .ok (.iadd, 1) := by decide +kernel
theorem d_Mo_correct_65 : decode prog_15_method_35_code 65 = .ok (.iaload, 1) := by decide +kernel
theorem d_Mo_correct_66 : decode prog_15_method_35_code 66 = .ok (.invokevirtual 159, 3) := by decide +kernel
theorem d_Mo_correct_69 : decode prog_15_method_35_code 69 = .ok (.lstore 5, 2) := by decide +kernel
theorem d_Mo_correct_71 : decode prog_15_method_35_code 71 = .ok (.aload_n 0, 1) := by decide +kernel
theorem d_Mo_correct_72 : decode prog_15_method_35_code 72 = .ok (.lload 5, 2) := by decide +kernel
theorem d_Mo_correct_74 : decode prog_15_method_35_code 74 = .ok (.lconst 0, 1) := by decide +kernel
theorem d_Mo_correct_75 : decode prog_15_method_35_code 75 = .ok (.lcmp, 1) := by decide +kernel
theorem d_Mo_correct_76 : decode prog_15_method_35_code 76 = .ok (.ifCond .ge 7, 3) := by decide +kernel
theorem d_Mo_correct_79 : decode prog_15_method_35_code 79 = .ok (.iconst 2, 1) := by decide +kernel
theorem d_Mo_correct_80 : decode prog_15_method_35_code 80 = .ok (.goto 4, 3) := by decide +kernel
theorem d_Mo_correct_83 : decode prog_15_method_35_code 83 = .ok (.iconst 0, 1) := by decide +kernel
theorem d_Mo_correct_84 : decode prog_15_method_35_code 84 = .ok (.putfield 81, 3) := by decide +kernel
theorem d_Mo_correct_87 : decode prog_15_method_35_code 87 = .ok (.lload_n 2, 1) := by decide +kernel
theorem d_Mo_correct_88 : decode prog_15_method_35_code 88 = .ok (.lload 5, 2) := by decide +kernel
theorem d_Mo_correct_90 : decode prog_15_method_35_code 90 = .ok (.ladd, 1) := by decide +kernel
theorem d_Mo_correct_91 : decode prog_15_method_35_code 91 = .ok (.aload_n 0, 1) := by decide +kernel
theorem d_Mo_correct_92 : decode prog_15_method_35_code 92 = .ok (.getfield 75, 3) := by decide +kernel
theorem d_Mo_correct_95 : decode prog_15_method_35_code 95 = .ok (.bipush 6, 2) := by decide +kernel
theorem d_Mo_correct_97 : decode prog_15_method_35_code 97 = .ok (.iload_n 1, 1) := by decide +kernel
theorem d_Mo_correct_98 : decode prog_15_method_35_code 98 = .ok (.imul, 1) := by decide +kernel
theorem d_Mo_correct_99 : decode prog_15_method_35_code 99 = .ok (.iload 4, 2) := by decide +kernel
theorem d_Mo_correct_101 : decode prog_15_method_35_code 101 = .ok (.iadd, 1) := by decide +kernel
theorem d_Mo_correct_102 : decode prog_15_method_35_code 102 = .ok (.laload, 1) := by decide +kernel
theorem d_Mo_correct_103 : decode prog_15_method_35_code 103 = .ok (.lsub, 1) := by decide +kernel
theorem d_Mo_correct_104 : decode prog_15_method_35_code 104 = .ok (.lstore_n 2, 1) := by decide +kernel
theorem d_Mo_correct_105 : decode prog_15_method_35_code 105 = .ok (.iinc 4 1, 3) := by decide +kernel
theorem d_Mo_correct_108 : decode prog_15_method_35_code 108 = .ok (.goto (-86), 3) := by decide +kernel
theorem d_Mo_correct_111 : decode prog_15_method_35_code 111 = .ok (.iconst 0, 1) := by decide +kernel
theorem d_Mo_correct_112 : decode prog_15_method_35_code 112 = .ok (.istore 4, 2) := by decide +kernel
theorem d_Mo_correct_114 : decode prog_15_method_35_code 114 = .ok (.aload_n 0, 1) := by decide +kernel
theorem d_Mo_correct_115 : decode prog_15_method_35_code 115 = .ok (.getfield 81, 3) := by decide +kernel
theorem d_Mo_correct_118 : decode prog_15_method_35_code 118 = .ok (.ifCond .ne 61, 3) := by decide +kernel
theorem d_Mo_correct_121 : decode prog_15_method_35_code 121 = .ok (.iload 4, 2) := by decide +kernel
theorem d_Mo_correct_123 : decode prog_15_method_35_code 123 = .ok (.aload_n 0, 1) := by decide +kernel
theorem d_Mo_correct_124 : decode prog_15_method_35_code 124 = .ok (.getfield 66, 3) := by decide +kernel
theorem d_Mo_correct_127 : decode prog_15_method_35_code 127 = .ok (.iload_n 1, 1) := by decide +kernel
theorem d_Mo_correct_128 : decode prog_15_method_35_code 128 = .ok (.iaload, 1) := by decide +kernel
theorem d_Mo_correct_129 : decode prog_15_method_35_code 129 = .ok (.if_icmp .ge 50, 3) := by decide +kernel
theorem d_Mo_correct_132 : decode prog_15_method_35_code 132 = .ok (.aload_n 0, 1) := by decide +kernel
theorem d_Mo_correct_133 : decode prog_15_method_35_code 133 = .ok (.getfield 75, 3) := by decide +kernel
theorem d_Mo_correct_136 : decode prog_15_method_35_code 136 = .ok (.bipush 6, 2) := by decide +kernel
theorem d_Mo_correct_138 : decode prog_15_method_35_code 138 = .ok (.iload_n 1, 1) := by decide +kernel
theorem d_Mo_correct_139 : decode prog_15_method_35_code 139 = .ok (.imul, 1) := by decide +kernel
theorem d_Mo_correct_140 : decode prog_15_method_35_code 140 = .ok (.iload 4, 2) := by decide +kernel
theorem d_Mo_correct_142 : decode prog_15_method_35_code 142 = .ok (.iadd, 1) := by decide +kernel
theorem d_Mo_correct_143 : decode prog_15_method_35_code 143 = .ok (.aload_n 0, 1) := by decide +kernel
theorem d_Mo_correct_144 : decode prog_15_method_35_code 144 = .ok (.iload_n 1, 1) := by decide +kernel
theorem d_Mo_correct_145 : decode prog_15_method_35_code 145 = .ok (.aload_n 0, 1) := by decide +kernel
theorem d_Mo_correct_146 : decode prog_15_method_35_code 146 = .ok (.getfield 69, 3) := by decide +kernel
theorem d_Mo_correct_149 : decode prog_15_method_35_code 149 = .ok (.bipush 6, 2) := by decide +kernel
theorem d_Mo_correct_151 : decode prog_15_method_35_code 151 = .ok (.iload_n 1, 1) := by decide +kernel
theorem d_Mo_correct_152 : decode prog_15_method_35_code 152 = .ok (.imul, 1) := by decide +kernel
theorem d_Mo_correct_153 : decode prog_15_method_35_code 153 = .ok (.iload 4, 2) := by decide +kernel
theorem d_Mo_correct_155 : decode prog_15_method_35_code 155 = .ok (.iadd, 1) := by decide +kernel
theorem d_Mo_correct_156 : decode prog_15_method_35_code 156 = .ok (.iaload, 1) := by decide +kernel
theorem d_Mo_correct_157 : decode prog_15_method_35_code 157 = .ok (.aload_n 0, 1) := by decide +kernel
theorem d_Mo_correct_158 : decode prog_15_method_35_code 158 = .ok (.getfield 72, 3) := by decide +kernel
theorem d_Mo_correct_161 : decode prog_15_method_35_code 161 = .ok (.bipush 6, 2) := by decide +kernel
theorem d_Mo_correct_163 : decode prog_15_method_35_code 163 = .ok (.iload_n 1, 1) := by decide +kernel
theorem d_Mo_correct_164 : decode prog_15_method_35_code 164 = .ok (.imul, 1) := by decide +kernel
theorem d_Mo_correct_165 : decode prog_15_method_35_code 165 = .ok (.iload 4, 2) := by decide +kernel
theorem d_Mo_correct_167 : decode prog_15_method_35_code 167 = .ok (.iadd, 1) := by decide +kernel
theorem d_Mo_correct_168 : decode prog_15_method_35_code 168 = .ok (.iaload, 1) := by decide +kernel
theorem d_Mo_correct_169 : decode prog_15_method_35_code 169 = .ok (.invokevirtual 159, 3) := by decide +kernel
theorem d_Mo_correct_172 : decode prog_15_method_35_code 172 = .ok (.lastore, 1) := by decide +kernel
theorem d_Mo_correct_173 : decode prog_15_method_35_code 173 = .ok (.iinc 4 1, 3) := by decide +kernel
theorem d_Mo_correct_176 : decode prog_15_method_35_code 176 = .ok (.goto (-62), 3) := by decide +kernel
theorem d_Mo_correct_179 : decode prog_15_method_35_code 179 = .ok (.aload_n 0, 1) := by decide +kernel
theorem d_Mo_correct_180 : decode prog_15_method_35_code 180 = .ok (.getfield 81, 3) := by decide +kernel
theorem d_Mo_correct_183 : decode prog_15_method_35_code 183 = .ok (.ifCond .le 7, 3) := by decide +kernel
theorem d_Mo_correct_186 : decode prog_15_method_35_code 186 = .ok (.lconst 0, 1) := by decide +kernel
theorem d_Mo_correct_187 : decode prog_15_method_35_code 187 = .ok (.goto 4, 3) := by decide +kernel
theorem d_Mo_correct_190 : decode prog_15_method_35_code 190 = .ok (.lload_n 2, 1) := by decide +kernel
theorem d_Mo_correct_191 : decode prog_15_method_35_code 191 = .ok (.lreturn, 1) := by decide +kernel
def wb_Mo_correct_84 (po : Option Value → Pic → Prop) (th : String → Pic → Prop) (K22 : Pic → Nat → Int32 → Int64 → Int32 → Prop) (P : Pic) (a0 : Nat) (x1 : Int32) (w2 : Int64) (x4 : Int32) (w5 : Int64) (t0 : Int32) (t1 : Nat) : Prop := p_k P t1 = 13 ∧ p_k (s_i P 480 t1 t0) a0 = 13 ∧ ∃ a121, p_r (s_i P 480 t1 t0) 507 a0 = some a121 ∧ p_k (s_i P 480 t1 t0) a121 = 102 ∧ vp_in (((6 : Int32) * x1) + x4) (p_n (s_i P 480 t1 t0) a121) ∧ ∀ (w124 : Int64), w124 = ((w2 + w5) - (p_al (s_i P 480 t1 t0) a121 (Int32.toNatClampNeg (((6 : Int32) * x1) + x4)))) → ∀ (x125 : Int32), x125 = x4 + 1 → K22 (s_i P 480 t1 t0) a0 x1 w124 x125
def wb_Mo_correct_179 (po : Option Value → Pic → Prop) (th : String → Pic → Prop) (P : Pic) (a0 : Nat) (w2 : Int64) : Prop := p_k P a0 = 13 ∧ (((p_i P 480 a0) ≤ 0 → (po (some (.long w2)) P)) ∧ (¬ (p_i P 480 a0) ≤ 0 → (po (some (.long (0 : Int64))) P)))
def wb_Mo_correct_114 (po : Option Value → Pic → Prop) (th : String → Pic → Prop) (K114 : Pic → Nat → Int32 → Int64 → Int32 → Prop) (P : Pic) (a0 : Nat) (x1 : Int32) (w2 : Int64) (x4 : Int32) : Prop := p_k P a0 = 13 ∧ ((¬ (p_i P 480 a0) = 0 → (wb_Mo_correct_179 po th P a0 w2)) ∧ ((p_i P 480 a0) = 0 → (∃ a127, p_r P 504 a0 = some a127 ∧ p_k P a127 = 101 ∧ vp_in x1 (p_n P a127) ∧ (((p_ai P a127 (Int32.toNatClampNeg x1)) ≤ x4 → (wb_Mo_correct_179 po th P a0 w2)) ∧ (¬ (p_ai P a127 (Int32.toNatClampNeg x1)) ≤ x4 → (∃ a130, p_r P 507 a0 = some a130 ∧ ∃ a131, p_r P 505 a0 = some a131 ∧ p_k P a131 = 101 ∧ vp_in (((6 : Int32) * x1) + x4) (p_n P a131) ∧ ∃ a134, p_r P 506 a0 = some a134 ∧ p_k P a134 = 101 ∧ vp_in (((6 : Int32) * x1) + x4) (p_n P a134) ∧ wp_Mo_price (cp_l fun w137 _ => p_k P a130 = 102 ∧ vp_in (((6 : Int32) * x1) + x4) (p_n P a130) ∧ ∀ (x140 : Int32), x140 = x4 + 1 → K114 (s_al P a130 (Int32.toNatClampNeg (((6 : Int32) * x1) + x4)) w137) a0 x1 w2 x140) th P a0 x1 (p_ai P a131 (Int32.toNatClampNeg (((6 : Int32) * x1) + x4))) (p_ai P a134 (Int32.toNatClampNeg (((6 : Int32) * x1) + x4)))))))))
def wl_Mo_correct_114 (po : Option Value → Pic → Prop) (th : String → Pic → Prop) : Nat → Pic → Nat → Int32 → Int64 → Int32 → Prop
  | 0 => fun _ _ _ _ _ => False
  | n + 1 => wb_Mo_correct_114 po th (wl_Mo_correct_114 po th n)
def wb_Mo_correct_111 (po : Option Value → Pic → Prop) (th : String → Pic → Prop) (P : Pic) (a0 : Nat) (x1 : Int32) (w2 : Int64) : Prop := ∃ n, wl_Mo_correct_114 po th n P a0 x1 w2 (0 : Int32)
def wb_Mo_correct_22 (po : Option Value → Pic → Prop) (th : String → Pic → Prop) (K22 : Pic → Nat → Int32 → Int64 → Int32 → Prop) (P : Pic) (a0 : Nat) (x1 : Int32) (w2 : Int64) (x4 : Int32) : Prop := p_k P a0 = 13 ∧ ((¬ (p_i P 480 a0) = 0 → (wb_Mo_correct_111 po th P a0 x1 w2)) ∧ ((p_i P 480 a0) = 0 → (∃ a106, p_r P 504 a0 = some a106 ∧ p_k P a106 = 101 ∧ vp_in x1 (p_n P a106) ∧ (((p_ai P a106 (Int32.toNatClampNeg x1)) ≤ x4 → (wb_Mo_correct_111 po th P a0 x1 w2)) ∧ (¬ (p_ai P a106 (Int32.toNatClampNeg x1)) ≤ x4 → (∃ a109, p_r P 505 a0 = some a109 ∧ p_k P a109 = 101 ∧ vp_in (((6 : Int32) * x1) + x4) (p_n P a109) ∧ ∃ a112, p_r P 506 a0 = some a112 ∧ p_k P a112 = 101 ∧ vp_in (((6 : Int32) * x1) + x4) (p_n P a112) ∧ wp_Mo_price (cp_l fun w115 _ => ((0 ≤ (lg_cmp w115 (0 : Int64)) → (wb_Mo_correct_84 po th K22 P a0 x1 w2 x4 w115 (0 : Int32) a0)) ∧ (¬ 0 ≤ (lg_cmp w115 (0 : Int64)) → (wb_Mo_correct_84 po th K22 P a0 x1 w2 x4 w115 (2 : Int32) a0)))) th P a0 x1 (p_ai P a109 (Int32.toNatClampNeg (((6 : Int32) * x1) + x4))) (p_ai P a112 (Int32.toNatClampNeg (((6 : Int32) * x1) + x4)))))))))
def wl_Mo_correct_22 (po : Option Value → Pic → Prop) (th : String → Pic → Prop) : Nat → Pic → Nat → Int32 → Int64 → Int32 → Prop
  | 0 => fun _ _ _ _ _ => False
  | n + 1 => wb_Mo_correct_22 po th (wl_Mo_correct_22 po th n)
def wb_Mo_correct_14 (po : Option Value → Pic → Prop) (th : String → Pic → Prop) (P : Pic) (a0 : Nat) (x1 : Int32) (t0 : Int32) (t1 : Nat) : Prop := p_k P t1 = 13 ∧ ∃ n, wl_Mo_correct_22 po th n (s_i P 480 t1 t0) a0 x1 (0 : Int64) (0 : Int32)
def wp_Mo_correct (po : Option Value → Pic → Prop) (th : String → Pic → Prop) (P : Pic) (a0 : Nat) (x1 : Int32) : Prop := p_k P a0 = 13 ∧ wp_Mo_noCustomer (cp_i fun x102 _ => ((x102 = 0 → (wb_Mo_correct_14 po th P a0 x1 (0 : Int32) a0)) ∧ (¬ x102 = 0 → (wb_Mo_correct_14 po th P a0 x1 (1 : Int32) a0)))) th P a0 x1
set_option maxHeartbeats 4000000 in
set_option maxRecDepth 100000 in
theorem wk_Mo_correct_84 {p : Program} {l : Launch} {e : Env} {s : State} {m : MethodId} {args : Array Value} {below : List Frame} {meth : Method} {c : Code} {D : pq_D} {P0 : Pic} {po : Option Value → Pic → Prop} {th : String → Pic → Prop} {K22 : Pic → Nat → Int32 → Int64 → Int32 → Prop} (hfl : l.flags = flags0) (C : Cx p e s m args meth c prog_15_method_35_code 7 "WaterWorksModel" D P0) (hmg : e.platform.magicAccessors = ({} : Platform).magicAccessors) (hr : meth.sig.returnType = (some .long)) (hin : meth.name = "correct") (htab : c.exceptionTable.toList = tableOf []) (HK22 : ∀ (P : Pic) (a0 : Nat) (x1 : Int32) (w2 : Int64) (x4 : Int32) (H : Heap) (locs : List Loc) (cells slots : Nat) (ls : Array Slot), K22 P a0 x1 w2 x4 → Pi D P H → Sg (cq_A P0 s) s.heap H P locs → lv_has ls 7 [(0, .ref a0), (1, .int x1), (2, .long w2), (4, .int x4)] → cells + 0 ≤ 0 → slots + 0 ≤ 0 → W p l e rm_Mo_correct s m args below meth c H locs cells slots (mt_MQ below (cq_Q D P0 false po th) args s 0 0 (cq_free P0 false)) (F0 m 22 ls [])) : ∀ (P : Pic) (a0 : Nat) (x1 : Int32) (w2 : Int64) (x4 : Int32) (w5 : Int64) (t0 : Int32) (t1 : Nat) (H : Heap) (locs : List Loc) (cells slots : Nat) (ls : Array Slot), wb_Mo_correct_84 po th K22 P a0 x1 w2 x4 w5 t0 t1 → Pi D P H → Sg (cq_A P0 s) s.heap H P locs → lv_has ls 7 [(0, .ref a0), (1, .int x1), (2, .long w2), (4, .int x4), (5, .long w5)] → cells + 0 ≤ 0 → slots + 0 ≤ 0 → W p l e rm_Mo_correct s m args below meth c H locs cells slots (mt_MQ below (cq_Q D P0 false po th) args s 0 0 (cq_free P0 false)) (F0 m 84 ls [.int t0, .ref t1]) := by
  intro P a0 x1 w2 x4 w5 t0 t1 H locs cells slots ls h hP hS hl hcc hss
  obtain ⟨hx, hb, hml, hown, hlocks, htr, hT, hK, hSt, hN, hP0⟩ := id C
  have L66_12 : pq_fl s m args 66 12 24 := ⟨_, "WaterWorksModel", "WaterWorksModel", rfl, by decide, hown, Or.inl (hT _ k_1128 _), (fun _ z => z)⟩
  have L69_12 : pq_fl s m args 69 12 25 := ⟨_, "WaterWorksModel", "WaterWorksModel", rfl, by decide, hown, Or.inl (hT _ k_1129 _), (fun _ z => z)⟩
  have L72_12 : pq_fl s m args 72 12 26 := ⟨_, "WaterWorksModel", "WaterWorksModel", rfl, by decide, hown, Or.inl (hT _ k_1130 _), (fun _ z => z)⟩
  have L75_12 : pq_fl s m args 75 12 27 := ⟨_, "WaterWorksModel", "WaterWorksModel", rfl, by decide, hown, Or.inl (hT _ k_1131 _), (fun _ z => z)⟩
  have L81_12 : pq_fl s m args 81 12 0 := ⟨_, "WaterWorksModel", "WaterWorksModel", rfl, by decide, hown, Or.inl (hT _ k_1104 _), (fun _ z => z)⟩
  unfold wb_Mo_correct_84 at h
  obtain ⟨hk119, h⟩ := h
  refine pq_puti (pc := 84) (f := 480) hx hb hT hK hP hS L81_12 hk119 rfl rfl rfl rfl d_Mo_correct_84 (fun H locs hP hS => ?_)
  have hk119 : p_k (s_i P 480 t1 t0) t1 = 13 := by rw [pk_i]; exact hk119
  refine lv_lload_n (pc := 87) hx hb d_Mo_correct_87 rfl (lv_at hl 2 rfl) ?_
  refine lv_lload (pc := 88) hx hb d_Mo_correct_88 (lv_at hl 4 rfl) ?_
  refine lv_ladd (pc := 90) hx hb d_Mo_correct_90 ?_
  refine lv_aload_n (pc := 91) hx hb d_Mo_correct_91 rfl (lv_at hl 0 rfl) ?_
  obtain ⟨hk120, h⟩ := h
  obtain ⟨a121, ea121, h⟩ := h
  refine pq_geta (pc := 92) (f := 507) hx hb hT hK hP L75_12 hk120 rfl ea121 d_Mo_correct_92 ?_
  refine lv_bipush (pc := 95) (v := 6) hx hb d_Mo_correct_95 (by decide) ?_
  refine lv_iload_n (pc := 97) hx hb d_Mo_correct_97 rfl (lv_at hl 1 rfl) ?_
  refine lv_imul (pc := 98) hx hb d_Mo_correct_98 ?_
  refine lv_iload (pc := 99) hx hb d_Mo_correct_99 (lv_at hl 3 rfl) ?_
  refine lv_iadd (pc := 101) hx hb d_Mo_correct_101 ?_
  obtain ⟨hk122, h⟩ := h
  obtain ⟨hi123, h⟩ := h
  refine pq_lald (pc := 102) hx hb hK hP hk122 hi123 d_Mo_correct_102 ?_
  refine lv_lsub (pc := 103) hx hb d_Mo_correct_103 ?_
  refine lv_topl (fun w124 ew124 => ?_)
  replace h := h w124 ew124
  refine lv_lstore_n (pc := 104) (lv' := [(2, .long w124), (0, .ref a0), (1, .int x1), (4, .int x4), (5, .long w5)]) hx hb d_Mo_correct_104 rfl hl (by decide) rfl (fun ls hl => ?_)
  obtain ⟨x125, ex125⟩ : ∃ z : Int32, z = x4 + 1 := ⟨_, rfl⟩
  replace h := h x125 ex125
  refine lv_iinc (pc := 105) (v := x125) (lv' := [(4, .int x125), (2, .long w124), (0, .ref a0), (1, .int x1), (5, .long w5)]) hx hb d_Mo_correct_105 hl (k := 3) rfl (by rw [ex125]; rfl) (by decide) rfl (fun ls hl => ?_)
  refine lv_goto (pc := 108) (tgt := 22) hx hb d_Mo_correct_108 (by decide) ?_
  exact HK22 _ a0 x1 w124 x125 _ _ _ _ _ h hP hS (lv_sub hl [2, 3, 1, 0] rfl) (show cells + 0 ≤ 0 by omega) (show slots + 0 ≤ 0 by omega)
set_option maxHeartbeats 4000000 in
set_option maxRecDepth 100000 in
theorem wk_Mo_correct_179 {p : Program} {l : Launch} {e : Env} {s : State} {m : MethodId} {args : Array Value} {below : List Frame} {meth : Method} {c : Code} {D : pq_D} {P0 : Pic} {po : Option Value → Pic → Prop} {th : String → Pic → Prop} (hfl : l.flags = flags0) (C : Cx p e s m args meth c prog_15_method_35_code 7 "WaterWorksModel" D P0) (hmg : e.platform.magicAccessors = ({} : Platform).magicAccessors) (hr : meth.sig.returnType = (some .long)) (hin : meth.name = "correct") (htab : c.exceptionTable.toList = tableOf []) : ∀ (P : Pic) (a0 : Nat) (w2 : Int64) (H : Heap) (locs : List Loc) (cells slots : Nat) (ls : Array Slot), wb_Mo_correct_179 po th P a0 w2 → Pi D P H → Sg (cq_A P0 s) s.heap H P locs → lv_has ls 7 [(0, .ref a0), (2, .long w2)] → cells + 0 ≤ 0 → slots + 0 ≤ 0 → W p l e rm_Mo_correct s m args below meth c H locs cells slots (mt_MQ below (cq_Q D P0 false po th) args s 0 0 (cq_free P0 false)) (F0 m 179 ls []) := by
  intro P a0 w2 H locs cells slots ls h hP hS hl hcc hss
  obtain ⟨hx, hb, hml, hown, hlocks, htr, hT, hK, hSt, hN, hP0⟩ := id C
  have L66_12 : pq_fl s m args 66 12 24 := ⟨_, "WaterWorksModel", "WaterWorksModel", rfl, by decide, hown, Or.inl (hT _ k_1128 _), (fun _ z => z)⟩
  have L69_12 : pq_fl s m args 69 12 25 := ⟨_, "WaterWorksModel", "WaterWorksModel", rfl, by decide, hown, Or.inl (hT _ k_1129 _), (fun _ z => z)⟩
  have L72_12 : pq_fl s m args 72 12 26 := ⟨_, "WaterWorksModel", "WaterWorksModel", rfl, by decide, hown, Or.inl (hT _ k_1130 _), (fun _ z => z)⟩
  have L75_12 : pq_fl s m args 75 12 27 := ⟨_, "WaterWorksModel", "WaterWorksModel", rfl, by decide, hown, Or.inl (hT _ k_1131 _), (fun _ z => z)⟩
  have L81_12 : pq_fl s m args 81 12 0 := ⟨_, "WaterWorksModel", "WaterWorksModel", rfl, by decide, hown, Or.inl (hT _ k_1104 _), (fun _ z => z)⟩
  unfold wb_Mo_correct_179 at h
  refine lv_aload_n (pc := 179) hx hb d_Mo_correct_179 rfl (lv_at hl 0 rfl) ?_
  obtain ⟨hk143, h⟩ := h
  refine pq_geti (pc := 180) (f := 480) hx hb hT hK hP L81_12 hk143 rfl d_Mo_correct_180 ?_
  refine lv_if_le (pc := 183) (tgt := 190) hx hb d_Mo_correct_183 (by decide) (fun c144 => ?_) (fun c144 => ?_)
  · replace h := h.1 c144
    refine lv_lload_n (pc := 190) hx hb d_Mo_correct_190 rfl (lv_at hl 1 rfl) ?_
    exact we_l (pc := 191) hx hb hlocks hr hP hS (show cells + 0 ≤ 0 by omega) (show slots + 0 ≤ 0 by omega) h d_Mo_correct_191
  · replace h := h.2 c144
    refine lv_lconst (pc := 186) (v := 0) hx hb d_Mo_correct_186 (by decide) ?_
    refine lv_goto (pc := 187) (tgt := 191) hx hb d_Mo_correct_187 (by decide) ?_
    exact we_l (pc := 191) hx hb hlocks hr hP hS (show cells + 0 ≤ 0 by omega) (show slots + 0 ≤ 0 by omega) h d_Mo_correct_191
set_option maxHeartbeats 4000000 in
set_option maxRecDepth 100000 in
theorem wk_Mo_correct_114 {p : Program} {l : Launch} {e : Env} {s : State} {m : MethodId} {args : Array Value} {below : List Frame} {meth : Method} {c : Code} {D : pq_D} {P0 : Pic} {po : Option Value → Pic → Prop} {th : String → Pic → Prop} {K114 : Pic → Nat → Int32 → Int64 → Int32 → Prop} (hfl : l.flags = flags0) (C : Cx p e s m args meth c prog_15_method_35_code 7 "WaterWorksModel" D P0) (hmg : e.platform.magicAccessors = ({} : Platform).magicAccessors) (hr : meth.sig.returnType = (some .long)) (hin : meth.name = "correct") (htab : c.exceptionTable.toList = tableOf []) (HK114 : ∀ (P : Pic) (a0 : Nat) (x1 : Int32) (w2 : Int64) (x4 : Int32) (H : Heap) (locs : List Loc) (cells slots : Nat) (ls : Array Slot), K114 P a0 x1 w2 x4 → Pi D P H → Sg (cq_A P0 s) s.heap H P locs → lv_has ls 7 [(0, .ref a0), (1, .int x1), (2, .long w2), (4, .int x4)] → cells + 0 ≤ 0 → slots + 0 ≤ 0 → W p l e rm_Mo_correct s m args below meth c H locs cells slots (mt_MQ below (cq_Q D P0 false po th) args s 0 0 (cq_free P0 false)) (F0 m 114 ls [])) : ∀ (P : Pic) (a0 : Nat) (x1 : Int32) (w2 : Int64) (x4 : Int32) (H : Heap) (locs : List Loc) (cells slots : Nat) (ls : Array Slot), wb_Mo_correct_114 po th K114 P a0 x1 w2 x4 → Pi D P H → Sg (cq_A P0 s) s.heap H P locs → lv_has ls 7 [(0, .ref a0), (1, .int x1), (2, .long w2), (4, .int x4)] → cells + 0 ≤ 0 → slots + 0 ≤ 0 → W p l e rm_Mo_correct s m args below meth c H locs cells slots (mt_MQ below (cq_Q D P0 false po th) args s 0 0 (cq_free P0 false)) (F0 m 114 ls []) := by
  intro P a0 x1 w2 x4 H locs cells slots ls h hP hS hl hcc hss
  obtain ⟨hx, hb, hml, hown, hlocks, htr, hT, hK, hSt, hN, hP0⟩ := id C
  have L66_12 : pq_fl s m args 66 12 24 := ⟨_, "WaterWorksModel", "WaterWorksModel", rfl, by decide, hown, Or.inl (hT _ k_1128 _), (fun _ z => z)⟩
  have L69_12 : pq_fl s m args 69 12 25 := ⟨_, "WaterWorksModel", "WaterWorksModel", rfl, by decide, hown, Or.inl (hT _ k_1129 _), (fun _ z => z)⟩
  have L72_12 : pq_fl s m args 72 12 26 := ⟨_, "WaterWorksModel", "WaterWorksModel", rfl, by decide, hown, Or.inl (hT _ k_1130 _), (fun _ z => z)⟩
  have L75_12 : pq_fl s m args 75 12 27 := ⟨_, "WaterWorksModel", "WaterWorksModel", rfl, by decide, hown, Or.inl (hT _ k_1131 _), (fun _ z => z)⟩
  have L81_12 : pq_fl s m args 81 12 0 := ⟨_, "WaterWorksModel", "WaterWorksModel", rfl, by decide, hown, Or.inl (hT _ k_1104 _), (fun _ z => z)⟩
  unfold wb_Mo_correct_114 at h
  refine lv_aload_n (pc := 114) hx hb d_Mo_correct_114 rfl (lv_at hl 0 rfl) ?_
  obtain ⟨hk126, h⟩ := h
  refine pq_geti (pc := 115) (f := 480) hx hb hT hK hP L81_12 hk126 rfl d_Mo_correct_115 ?_
  refine lv_if_ne (pc := 118) (tgt := 179) hx hb d_Mo_correct_118 (by decide) (fun c142 => ?_) (fun c142 => ?_)
  · replace h := h.1 c142
    exact wk_Mo_correct_179 hfl C hmg hr hin htab _ a0 w2 _ _ _ _ _ h hP hS (lv_sub hl [0, 2] rfl) (show cells + 0 ≤ 0 by omega) (show slots + 0 ≤ 0 by omega)
  · replace h := h.2 c142
    refine lv_iload (pc := 121) hx hb d_Mo_correct_121 (lv_at hl 3 rfl) ?_
    refine lv_aload_n (pc := 123) hx hb d_Mo_correct_123 rfl (lv_at hl 0 rfl) ?_
    obtain ⟨a127, ea127, h⟩ := h
    refine pq_geta (pc := 124) (f := 504) hx hb hT hK hP L66_12 hk126 rfl ea127 d_Mo_correct_124 ?_
    refine lv_iload_n (pc := 127) hx hb d_Mo_correct_127 rfl (lv_at hl 1 rfl) ?_
    obtain ⟨hk128, h⟩ := h
    obtain ⟨hi129, h⟩ := h
    refine pq_iald (pc := 128) hx hb hK hP hk128 hi129 d_Mo_correct_128 ?_
    refine lv_icmp_ge (pc := 129) (tgt := 179) hx hb d_Mo_correct_129 (by decide) (fun c141 => ?_) (fun c141 => ?_)
    · replace h := h.1 c141
      exact wk_Mo_correct_179 hfl C hmg hr hin htab _ a0 w2 _ _ _ _ _ h hP hS (lv_sub hl [0, 2] rfl) (show cells + 0 ≤ 0 by omega) (show slots + 0 ≤ 0 by omega)
    · replace h := h.2 c141
      refine lv_aload_n (pc := 132) hx hb d_Mo_correct_132 rfl (lv_at hl 0 rfl) ?_
      obtain ⟨a130, ea130, h⟩ := h
      refine pq_geta (pc := 133) (f := 507) hx hb hT hK hP L75_12 hk126 rfl ea130 d_Mo_correct_133 ?_
      refine lv_bipush (pc := 136) (v := 6) hx hb d_Mo_correct_136 (by decide) ?_
      refine lv_iload_n (pc := 138) hx hb d_Mo_correct_138 rfl (lv_at hl 1 rfl) ?_
      refine lv_imul (pc := 139) hx hb d_Mo_correct_139 ?_
      refine lv_iload (pc := 140) hx hb d_Mo_correct_140 (lv_at hl 3 rfl) ?_
      refine lv_iadd (pc := 142) hx hb d_Mo_correct_142 ?_
      refine lv_aload_n (pc := 143) hx hb d_Mo_correct_143 rfl (lv_at hl 0 rfl) ?_
      refine lv_iload_n (pc := 144) hx hb d_Mo_correct_144 rfl (lv_at hl 1 rfl) ?_
      refine lv_aload_n (pc := 145) hx hb d_Mo_correct_145 rfl (lv_at hl 0 rfl) ?_
      obtain ⟨a131, ea131, h⟩ := h
      refine pq_geta (pc := 146) (f := 505) hx hb hT hK hP L69_12 hk126 rfl ea131 d_Mo_correct_146 ?_
      refine lv_bipush (pc := 149) (v := 6) hx hb d_Mo_correct_149 (by decide) ?_
      refine lv_iload_n (pc := 151) hx hb d_Mo_correct_151 rfl (lv_at hl 1 rfl) ?_
      refine lv_imul (pc := 152) hx hb d_Mo_correct_152 ?_
      refine lv_iload (pc := 153) hx hb d_Mo_correct_153 (lv_at hl 3 rfl) ?_
      refine lv_iadd (pc := 155) hx hb d_Mo_correct_155 ?_
      obtain ⟨hk132, h⟩ := h
      obtain ⟨hi133, h⟩ := h
      refine pq_iald (pc := 156) hx hb hK hP hk132 hi133 d_Mo_correct_156 ?_
      refine lv_aload_n (pc := 157) hx hb d_Mo_correct_157 rfl (lv_at hl 0 rfl) ?_
      obtain ⟨a134, ea134, h⟩ := h
      refine pq_geta (pc := 158) (f := 506) hx hb hT hK hP L72_12 hk126 rfl ea134 d_Mo_correct_158 ?_
      refine lv_bipush (pc := 161) (v := 6) hx hb d_Mo_correct_161 (by decide) ?_
      refine lv_iload_n (pc := 163) hx hb d_Mo_correct_163 rfl (lv_at hl 1 rfl) ?_
      refine lv_imul (pc := 164) hx hb d_Mo_correct_164 ?_
      refine lv_iload (pc := 165) hx hb d_Mo_correct_165 (lv_at hl 3 rfl) ?_
      refine lv_iadd (pc := 167) hx hb d_Mo_correct_167 ?_
      obtain ⟨hk135, h⟩ := h
      obtain ⟨hi136, h⟩ := h
      refine pq_iald (pc := 168) hx hb hK hP hk135 hi136 d_Mo_correct_168 ?_
      refine cr_l (pc := 169) C (rest := [.int (((6 : Int32) * x1) + x4), .ref a130]) (mt_invV (As := [.int x1, .int (p_ai P a131 (Int32.toNatClampNeg (((6 : Int32) * x1) + x4))), .int (p_ai P a134 (Int32.toNatClampNeg (((6 : Int32) * x1) + x4)))]) hx hb hown (hT _ k_1316 _) (hT _ k_1318 _) (hT _ ks_28 _) (mt_Cd.code (hT _ k_1319 #[])) h_Mo_price (pq_recv hK hP hk126 rfl) n_Mo_price rfl d_Mo_correct_169) (ct_Mo_price hfl D h) k_1319 k_24 ⟨Nat.le_of_ble_eq_true rfl, Nat.le_of_ble_eq_true rfl⟩ ⟨(show cells + 0 ≤ 0 by omega), (show slots + 0 ≤ 0 by omega)⟩ hl.1 d_Mo_correct_169 (Nat.le_of_ble_eq_true rfl) hP hS (fun w137 H locs h hP hS => ?_) (fun xx X H locs h hX hex hP hS => ?_)
      · obtain ⟨hk138, h⟩ := h
        obtain ⟨hi139, h⟩ := h
        refine pq_last (pc := 172) hx hb hK hP hS hk138 hi139 d_Mo_correct_172 (fun H locs hP hS => ?_)
        have hk126 : p_k (s_al P a130 (Int32.toNatClampNeg (((6 : Int32) * x1) + x4)) w137) a0 = 13 := by rw [pk_al]; exact hk126
        have hk128 : p_k (s_al P a130 (Int32.toNatClampNeg (((6 : Int32) * x1) + x4)) w137) a127 = 101 := by rw [pk_al]; exact hk128
        have hk132 : p_k (s_al P a130 (Int32.toNatClampNeg (((6 : Int32) * x1) + x4)) w137) a131 = 101 := by rw [pk_al]; exact hk132
        have hk135 : p_k (s_al P a130 (Int32.toNatClampNeg (((6 : Int32) * x1) + x4)) w137) a134 = 101 := by rw [pk_al]; exact hk135
        have hk138 : p_k (s_al P a130 (Int32.toNatClampNeg (((6 : Int32) * x1) + x4)) w137) a130 = 102 := by rw [pk_al]; exact hk138
        obtain ⟨x140, ex140⟩ : ∃ z : Int32, z = x4 + 1 := ⟨_, rfl⟩
        replace h := h x140 ex140
        refine lv_iinc (pc := 173) (v := x140) (lv' := [(4, .int x140), (0, .ref a0), (1, .int x1), (2, .long w2)]) hx hb d_Mo_correct_173 hl (k := 3) rfl (by rw [ex140]; rfl) (by decide) rfl (fun ls hl => ?_)
        refine lv_goto (pc := 176) (tgt := 114) hx hb d_Mo_correct_176 (by decide) ?_
        exact HK114 _ a0 x1 w2 x140 _ _ _ _ _ h hP hS (lv_sub hl [1, 2, 3, 0] rfl) (show cells + 0 + 0 ≤ 0 by omega) (show slots + 0 + 0 ≤ 0 by omega)
      · exact cq_out hlocks (pq_nil htab rfl) (show cells + 0 + 0 ≤ 0 by omega) (show slots + 0 + 0 ≤ 0 by omega) hX hex hP hS h
theorem wm_Mo_correct_114 {p : Program} {l : Launch} {e : Env} {s : State} {m : MethodId} {args : Array Value} {below : List Frame} {meth : Method} {c : Code} {D : pq_D} {P0 : Pic} {po : Option Value → Pic → Prop} {th : String → Pic → Prop} (hfl : l.flags = flags0) (C : Cx p e s m args meth c prog_15_method_35_code 7 "WaterWorksModel" D P0) (hmg : e.platform.magicAccessors = ({} : Platform).magicAccessors) (hr : meth.sig.returnType = (some .long)) (hin : meth.name = "correct") (htab : c.exceptionTable.toList = tableOf []) : ∀ n : Nat, ∀ (P : Pic) (a0 : Nat) (x1 : Int32) (w2 : Int64) (x4 : Int32) (H : Heap) (locs : List Loc) (cells slots : Nat) (ls : Array Slot), wl_Mo_correct_114 po th n P a0 x1 w2 x4 → Pi D P H → Sg (cq_A P0 s) s.heap H P locs → lv_has ls 7 [(0, .ref a0), (1, .int x1), (2, .long w2), (4, .int x4)] → cells + 0 ≤ 0 → slots + 0 ≤ 0 → W p l e rm_Mo_correct s m args below meth c H locs cells slots (mt_MQ below (cq_Q D P0 false po th) args s 0 0 (cq_free P0 false)) (F0 m 114 ls []) := by
  intro n
  induction n with
  | zero => intro P a0 x1 w2 x4 H locs cells slots ls h; exact h.elim
  | succ n ih => exact wk_Mo_correct_114 hfl C hmg hr hin htab ih
set_option maxHeartbeats 4000000 in
set_option maxRecDepth 100000 in
theorem wk_Mo_correct_111 {p : Program} {l : Launch} {e : Env} {s : State} {m : MethodId} {args : Array Value} {below : List Frame} {meth : Method} {c : Code} {D : pq_D} {P0 : Pic} {po : Option Value → Pic → Prop} {th : String → Pic → Prop} (hfl : l.flags = flags0) (C : Cx p e s m args meth c prog_15_method_35_code 7 "WaterWorksModel" D P0) (hmg : e.platform.magicAccessors = ({} : Platform).magicAccessors) (hr : meth.sig.returnType = (some .long)) (hin : meth.name = "correct") (htab : c.exceptionTable.toList = tableOf []) : ∀ (P : Pic) (a0 : Nat) (x1 : Int32) (w2 : Int64) (H : Heap) (locs : List Loc) (cells slots : Nat) (ls : Array Slot), wb_Mo_correct_111 po th P a0 x1 w2 → Pi D P H → Sg (cq_A P0 s) s.heap H P locs → lv_has ls 7 [(0, .ref a0), (1, .int x1), (2, .long w2)] → cells + 0 ≤ 0 → slots + 0 ≤ 0 → W p l e rm_Mo_correct s m args below meth c H locs cells slots (mt_MQ below (cq_Q D P0 false po th) args s 0 0 (cq_free P0 false)) (F0 m 111 ls []) := by
  intro P a0 x1 w2 H locs cells slots ls h hP hS hl hcc hss
  obtain ⟨hx, hb, hml, hown, hlocks, htr, hT, hK, hSt, hN, hP0⟩ := id C
  have L66_12 : pq_fl s m args 66 12 24 := ⟨_, "WaterWorksModel", "WaterWorksModel", rfl, by decide, hown, Or.inl (hT _ k_1128 _), (fun _ z => z)⟩
  have L69_12 : pq_fl s m args 69 12 25 := ⟨_, "WaterWorksModel", "WaterWorksModel", rfl, by decide, hown, Or.inl (hT _ k_1129 _), (fun _ z => z)⟩
  have L72_12 : pq_fl s m args 72 12 26 := ⟨_, "WaterWorksModel", "WaterWorksModel", rfl, by decide, hown, Or.inl (hT _ k_1130 _), (fun _ z => z)⟩
  have L75_12 : pq_fl s m args 75 12 27 := ⟨_, "WaterWorksModel", "WaterWorksModel", rfl, by decide, hown, Or.inl (hT _ k_1131 _), (fun _ z => z)⟩
  have L81_12 : pq_fl s m args 81 12 0 := ⟨_, "WaterWorksModel", "WaterWorksModel", rfl, by decide, hown, Or.inl (hT _ k_1104 _), (fun _ z => z)⟩
  unfold wb_Mo_correct_111 at h
  refine lv_iconst (pc := 111) (v := 0) hx hb d_Mo_correct_111 (by decide) ?_
  refine lv_istore (pc := 112) (lv' := [(4, .int (0 : Int32)), (0, .ref a0), (1, .int x1), (2, .long w2)]) hx hb d_Mo_correct_112 hl (by decide) rfl (fun ls hl => ?_)
  obtain ⟨n, h⟩ := h
  exact wm_Mo_correct_114 hfl C hmg hr hin htab n _ a0 x1 w2 (0 : Int32) _ _ _ _ _ h hP hS (lv_sub hl [1, 2, 3, 0] rfl) (show cells + 0 ≤ 0 by omega) (show slots + 0 ≤ 0 by omega)
set_option maxHeartbeats 4000000 in
set_option maxRecDepth 100000 in
theorem wk_Mo_correct_22 {p : Program} {l : Launch} {e : Env} {s : State} {m : MethodId} {args : Array Value} {below : List Frame} {meth : Method} {c : Code} {D : pq_D} {P0 : Pic} {po : Option Value → Pic → Prop} {th : String → Pic → Prop} {K22 : Pic → Nat → Int32 → Int64 → Int32 → Prop} (hfl : l.flags = flags0) (C : Cx p e s m args meth c prog_15_method_35_code 7 "WaterWorksModel" D P0) (hmg : e.platform.magicAccessors = ({} : Platform).magicAccessors) (hr : meth.sig.returnType = (some .long)) (hin : meth.name = "correct") (htab : c.exceptionTable.toList = tableOf []) (HK22 : ∀ (P : Pic) (a0 : Nat) (x1 : Int32) (w2 : Int64) (x4 : Int32) (H : Heap) (locs : List Loc) (cells slots : Nat) (ls : Array Slot), K22 P a0 x1 w2 x4 → Pi D P H → Sg (cq_A P0 s) s.heap H P locs → lv_has ls 7 [(0, .ref a0), (1, .int x1), (2, .long w2), (4, .int x4)] → cells + 0 ≤ 0 → slots + 0 ≤ 0 → W p l e rm_Mo_correct s m args below meth c H locs cells slots (mt_MQ below (cq_Q D P0 false po th) args s 0 0 (cq_free P0 false)) (F0 m 22 ls [])) : ∀ (P : Pic) (a0 : Nat) (x1 : Int32) (w2 : Int64) (x4 : Int32) (H : Heap) (locs : List Loc) (cells slots : Nat) (ls : Array Slot), wb_Mo_correct_22 po th K22 P a0 x1 w2 x4 → Pi D P H → Sg (cq_A P0 s) s.heap H P locs → lv_has ls 7 [(0, .ref a0), (1, .int x1), (2, .long w2), (4, .int x4)] → cells + 0 ≤ 0 → slots + 0 ≤ 0 → W p l e rm_Mo_correct s m args below meth c H locs cells slots (mt_MQ below (cq_Q D P0 false po th) args s 0 0 (cq_free P0 false)) (F0 m 22 ls []) := by
  intro P a0 x1 w2 x4 H locs cells slots ls h hP hS hl hcc hss
  obtain ⟨hx, hb, hml, hown, hlocks, htr, hT, hK, hSt, hN, hP0⟩ := id C
  have L66_12 : pq_fl s m args 66 12 24 := ⟨_, "WaterWorksModel", "WaterWorksModel", rfl, by decide, hown, Or.inl (hT _ k_1128 _), (fun _ z => z)⟩
  have L69_12 : pq_fl s m args 69 12 25 := ⟨_, "WaterWorksModel", "WaterWorksModel", rfl, by decide, hown, Or.inl (hT _ k_1129 _), (fun _ z => z)⟩
  have L72_12 : pq_fl s m args 72 12 26 := ⟨_, "WaterWorksModel", "WaterWorksModel", rfl, by decide, hown, Or.inl (hT _ k_1130 _), (fun _ z => z)⟩
  have L75_12 : pq_fl s m args 75 12 27 := ⟨_, "WaterWorksModel", "WaterWorksModel", rfl, by decide, hown, Or.inl (hT _ k_1131 _), (fun _ z => z)⟩
  have L81_12 : pq_fl s m args 81 12 0 := ⟨_, "WaterWorksModel", "WaterWorksModel", rfl, by decide, hown, Or.inl (hT _ k_1104 _), (fun _ z => z)⟩
  unfold wb_Mo_correct_22 at h
  refine lv_aload_n (pc := 22) hx hb d_Mo_correct_22 rfl (lv_at hl 0 rfl) ?_
  obtain ⟨hk105, h⟩ := h
  refine pq_geti (pc := 23) (f := 480) hx hb hT hK hP L81_12 hk105 rfl d_Mo_correct_23 ?_
  refine lv_if_ne (pc := 26) (tgt := 111) hx hb d_Mo_correct_26 (by decide) (fun c118 => ?_) (fun c118 => ?_)
  · replace h := h.1 c118
    exact wk_Mo_correct_111 hfl C hmg hr hin htab _ a0 x1 w2 _ _ _ _ _ h hP hS (lv_sub hl [0, 1, 2] rfl) (show cells + 0 ≤ 0 by omega) (show slots + 0 ≤ 0 by omega)
  · replace h := h.2 c118
    refine lv_iload (pc := 29) hx hb d_Mo_correct_29 (lv_at hl 3 rfl) ?_
    refine lv_aload_n (pc := 31) hx hb d_Mo_correct_31 rfl (lv_at hl 0 rfl) ?_
    obtain ⟨a106, ea106, h⟩ := h
    refine pq_geta (pc := 32) (f := 504) hx hb hT hK hP L66_12 hk105 rfl ea106 d_Mo_correct_32 ?_
    refine lv_iload_n (pc := 35) hx hb d_Mo_correct_35 rfl (lv_at hl 1 rfl) ?_
    obtain ⟨hk107, h⟩ := h
    obtain ⟨hi108, h⟩ := h
    refine pq_iald (pc := 36) hx hb hK hP hk107 hi108 d_Mo_correct_36 ?_
    refine lv_icmp_ge (pc := 37) (tgt := 111) hx hb d_Mo_correct_37 (by decide) (fun c117 => ?_) (fun c117 => ?_)
    · replace h := h.1 c117
      exact wk_Mo_correct_111 hfl C hmg hr hin htab _ a0 x1 w2 _ _ _ _ _ h hP hS (lv_sub hl [0, 1, 2] rfl) (show cells + 0 ≤ 0 by omega) (show slots + 0 ≤ 0 by omega)
    · replace h := h.2 c117
      refine lv_aload_n (pc := 40) hx hb d_Mo_correct_40 rfl (lv_at hl 0 rfl) ?_
      refine lv_iload_n (pc := 41) hx hb d_Mo_correct_41 rfl (lv_at hl 1 rfl) ?_
      refine lv_aload_n (pc := 42) hx hb d_Mo_correct_42 rfl (lv_at hl 0 rfl) ?_
      obtain ⟨a109, ea109, h⟩ := h
      refine pq_geta (pc := 43) (f := 505) hx hb hT hK hP L69_12 hk105 rfl ea109 d_Mo_correct_43 ?_
      refine lv_bipush (pc := 46) (v := 6) hx hb d_Mo_correct_46 (by decide) ?_
      refine lv_iload_n (pc := 48) hx hb d_Mo_correct_48 rfl (lv_at hl 1 rfl) ?_
      refine lv_imul (pc := 49) hx hb d_Mo_correct_49 ?_
      refine lv_iload (pc := 50) hx hb d_Mo_correct_50 (lv_at hl 3 rfl) ?_
      refine lv_iadd (pc := 52) hx hb d_Mo_correct_52 ?_
      obtain ⟨hk110, h⟩ := h
      obtain ⟨hi111, h⟩ := h
      refine pq_iald (pc := 53) hx hb hK hP hk110 hi111 d_Mo_correct_53 ?_
      refine lv_aload_n (pc := 54) hx hb d_Mo_correct_54 rfl (lv_at hl 0 rfl) ?_
      obtain ⟨a112, ea112, h⟩ := h
      refine pq_geta (pc := 55) (f := 506) hx hb hT hK hP L72_12 hk105 rfl ea112 d_Mo_correct_55 ?_
      refine lv_bipush (pc := 58) (v := 6) hx hb d_Mo_correct_58 (by decide) ?_
      refine lv_iload_n (pc := 60) hx hb d_Mo_correct_60 rfl (lv_at hl 1 rfl) ?_
      refine lv_imul (pc := 61) hx hb d_Mo_correct_61 ?_
      refine lv_iload (pc := 62) hx hb d_Mo_correct_62 (lv_at hl 3 rfl) ?_
      refine lv_iadd (pc := 64) hx hb d_Mo_correct_64 ?_
      obtain ⟨hk113, h⟩ := h
      obtain ⟨hi114, h⟩ := h
      refine pq_iald (pc := 65) hx hb hK hP hk113 hi114 d_Mo_correct_65 ?_
      refine cr_l (pc := 66) C (rest := []) (mt_invV (As := [.int x1, .int (p_ai P a109 (Int32.toNatClampNeg (((6 : Int32) * x1) + x4))), .int (p_ai P a112 (Int32.toNatClampNeg (((6 : Int32) * x1) + x4)))]) hx hb hown (hT _ k_1316 _) (hT _ k_1318 _) (hT _ ks_28 _) (mt_Cd.code (hT _ k_1319 #[])) h_Mo_price (pq_recv hK hP hk105 rfl) n_Mo_price rfl d_Mo_correct_66) (ct_Mo_price hfl D h) k_1319 k_24 ⟨Nat.le_of_ble_eq_true rfl, Nat.le_of_ble_eq_true rfl⟩ ⟨(show cells + 0 ≤ 0 by omega), (show slots + 0 ≤ 0 by omega)⟩ hl.1 d_Mo_correct_66 (Nat.le_of_ble_eq_true rfl) hP hS (fun w115 H locs h hP hS => ?_) (fun xx X H locs h hX hex hP hS => ?_)
      · refine lv_lstore (pc := 69) (lv' := [(5, .long w115), (0, .ref a0), (1, .int x1), (2, .long w2), (4, .int x4)]) hx hb d_Mo_correct_69 hl (by decide) rfl (fun ls hl => ?_)
        refine lv_aload_n (pc := 71) hx hb d_Mo_correct_71 rfl (lv_at hl 1 rfl) ?_
        refine lv_lload (pc := 72) hx hb d_Mo_correct_72 (lv_at hl 0 rfl) ?_
        refine lv_lconst (pc := 74) (v := 0) hx hb d_Mo_correct_74 (by decide) ?_
        refine W.lcmp hx hb d_Mo_correct_75 ?_
        refine lv_if_ge (pc := 76) (tgt := 83) hx hb d_Mo_correct_76 (by decide) (fun c116 => ?_) (fun c116 => ?_)
        · replace h := h.1 c116
          refine lv_iconst (pc := 83) (v := 0) hx hb d_Mo_correct_83 (by decide) ?_
          exact wk_Mo_correct_84 hfl C hmg hr hin htab HK22 _ a0 x1 w2 x4 w115 (0 : Int32) a0 _ _ _ _ _ h hP hS (lv_sub hl [1, 2, 3, 4, 0] rfl) (show cells + 0 + 0 ≤ 0 by omega) (show slots + 0 + 0 ≤ 0 by omega)
        · replace h := h.2 c116
          refine lv_iconst (pc := 79) (v := 2) hx hb d_Mo_correct_79 (by decide) ?_
          refine lv_goto (pc := 80) (tgt := 84) hx hb d_Mo_correct_80 (by decide) ?_
          exact wk_Mo_correct_84 hfl C hmg hr hin htab HK22 _ a0 x1 w2 x4 w115 (2 : Int32) a0 _ _ _ _ _ h hP hS (lv_sub hl [1, 2, 3, 4, 0] rfl) (show cells + 0 + 0 ≤ 0 by omega) (show slots + 0 + 0 ≤ 0 by omega)
      · exact cq_out hlocks (pq_nil htab rfl) (show cells + 0 + 0 ≤ 0 by omega) (show slots + 0 + 0 ≤ 0 by omega) hX hex hP hS h
theorem wm_Mo_correct_22 {p : Program} {l : Launch} {e : Env} {s : State} {m : MethodId} {args : Array Value} {below : List Frame} {meth : Method} {c : Code} {D : pq_D} {P0 : Pic} {po : Option Value → Pic → Prop} {th : String → Pic → Prop} (hfl : l.flags = flags0) (C : Cx p e s m args meth c prog_15_method_35_code 7 "WaterWorksModel" D P0) (hmg : e.platform.magicAccessors = ({} : Platform).magicAccessors) (hr : meth.sig.returnType = (some .long)) (hin : meth.name = "correct") (htab : c.exceptionTable.toList = tableOf []) : ∀ n : Nat, ∀ (P : Pic) (a0 : Nat) (x1 : Int32) (w2 : Int64) (x4 : Int32) (H : Heap) (locs : List Loc) (cells slots : Nat) (ls : Array Slot), wl_Mo_correct_22 po th n P a0 x1 w2 x4 → Pi D P H → Sg (cq_A P0 s) s.heap H P locs → lv_has ls 7 [(0, .ref a0), (1, .int x1), (2, .long w2), (4, .int x4)] → cells + 0 ≤ 0 → slots + 0 ≤ 0 → W p l e rm_Mo_correct s m args below meth c H locs cells slots (mt_MQ below (cq_Q D P0 false po th) args s 0 0 (cq_free P0 false)) (F0 m 22 ls []) := by
  intro n
  induction n with
  | zero => intro P a0 x1 w2 x4 H locs cells slots ls h; exact h.elim
  | succ n ih => exact wk_Mo_correct_22 hfl C hmg hr hin htab ih
set_option maxHeartbeats 4000000 in
set_option maxRecDepth 100000 in
theorem wk_Mo_correct_14 {p : Program} {l : Launch} {e : Env} {s : State} {m : MethodId} {args : Array Value} {below : List Frame} {meth : Method} {c : Code} {D : pq_D} {P0 : Pic} {po : Option Value → Pic → Prop} {th : String → Pic → Prop} (hfl : l.flags = flags0) (C : Cx p e s m args meth c prog_15_method_35_code 7 "WaterWorksModel" D P0) (hmg : e.platform.magicAccessors = ({} : Platform).magicAccessors) (hr : meth.sig.returnType = (some .long)) (hin : meth.name = "correct") (htab : c.exceptionTable.toList = tableOf []) : ∀ (P : Pic) (a0 : Nat) (x1 : Int32) (t0 : Int32) (t1 : Nat) (H : Heap) (locs : List Loc) (cells slots : Nat) (ls : Array Slot), wb_Mo_correct_14 po th P a0 x1 t0 t1 → Pi D P H → Sg (cq_A P0 s) s.heap H P locs → lv_has ls 7 [(0, .ref a0), (1, .int x1)] → cells + 0 ≤ 0 → slots + 0 ≤ 0 → W p l e rm_Mo_correct s m args below meth c H locs cells slots (mt_MQ below (cq_Q D P0 false po th) args s 0 0 (cq_free P0 false)) (F0 m 14 ls [.int t0, .ref t1]) := by
  intro P a0 x1 t0 t1 H locs cells slots ls h hP hS hl hcc hss
  obtain ⟨hx, hb, hml, hown, hlocks, htr, hT, hK, hSt, hN, hP0⟩ := id C
  have L66_12 : pq_fl s m args 66 12 24 := ⟨_, "WaterWorksModel", "WaterWorksModel", rfl, by decide, hown, Or.inl (hT _ k_1128 _), (fun _ z => z)⟩
  have L69_12 : pq_fl s m args 69 12 25 := ⟨_, "WaterWorksModel", "WaterWorksModel", rfl, by decide, hown, Or.inl (hT _ k_1129 _), (fun _ z => z)⟩
  have L72_12 : pq_fl s m args 72 12 26 := ⟨_, "WaterWorksModel", "WaterWorksModel", rfl, by decide, hown, Or.inl (hT _ k_1130 _), (fun _ z => z)⟩
  have L75_12 : pq_fl s m args 75 12 27 := ⟨_, "WaterWorksModel", "WaterWorksModel", rfl, by decide, hown, Or.inl (hT _ k_1131 _), (fun _ z => z)⟩
  have L81_12 : pq_fl s m args 81 12 0 := ⟨_, "WaterWorksModel", "WaterWorksModel", rfl, by decide, hown, Or.inl (hT _ k_1104 _), (fun _ z => z)⟩
  unfold wb_Mo_correct_14 at h
  obtain ⟨hk104, h⟩ := h
  refine pq_puti (pc := 14) (f := 480) hx hb hT hK hP hS L81_12 hk104 rfl rfl rfl rfl d_Mo_correct_14 (fun H locs hP hS => ?_)
  have hk104 : p_k (s_i P 480 t1 t0) t1 = 13 := by rw [pk_i]; exact hk104
  refine lv_lconst (pc := 17) (v := 0) hx hb d_Mo_correct_17 (by decide) ?_
  refine lv_lstore_n (pc := 18) (lv' := [(2, .long (0 : Int64)), (0, .ref a0), (1, .int x1)]) hx hb d_Mo_correct_18 rfl hl (by decide) rfl (fun ls hl => ?_)
  refine lv_iconst (pc := 19) (v := 0) hx hb d_Mo_correct_19 (by decide) ?_
  refine lv_istore (pc := 20) (lv' := [(4, .int (0 : Int32)), (2, .long (0 : Int64)), (0, .ref a0), (1, .int x1)]) hx hb d_Mo_correct_20 hl (by decide) rfl (fun ls hl => ?_)
  obtain ⟨n, h⟩ := h
  exact wm_Mo_correct_22 hfl C hmg hr hin htab n _ a0 x1 (0 : Int64) (0 : Int32) _ _ _ _ _ h hP hS (lv_sub hl [2, 3, 1, 0] rfl) (show cells + 0 ≤ 0 by omega) (show slots + 0 ≤ 0 by omega)
set_option maxHeartbeats 4000000 in
set_option maxRecDepth 100000 in
theorem ct_Mo_correct {l : Launch} (hfl : l.flags = flags0) (D : pq_D) {po : Option Value → Pic → Prop} {th : String → Pic → Prop} {P : Pic} {a0 : Nat} {x1 : Int32} (h : wp_Mo_correct po th P a0 x1) : CT l D y_Mo_correct (.code y_Mo_correct prog_15_method_35_code 7 (some .long)) rm_Mo_correct false [.ref a0, .int x1] P po th := by
  refine ct_of (hs := []) hfl (by decide +kernel) (Or.inl ⟨rfl, rfl⟩) (Nat.le_of_ble_eq_true rfl) ?_
  intro p e s m below meth c C hmg hr hin htab ls hl
  have hl : lv_has ls 7 [(0, .ref a0), (1, .int x1)] := hl
  generalize hargs : ([.ref a0, .int x1] : List Value).toArray = args at C ⊢
  obtain ⟨hx, hb, hml, hown, hlocks, htr, hT, hK, hSt, hN, hP0⟩ := id C
  have L66_12 : pq_fl s m args 66 12 24 := ⟨_, "WaterWorksModel", "WaterWorksModel", rfl, by decide, hown, Or.inl (hT _ k_1128 _), (fun _ z => z)⟩
  have L69_12 : pq_fl s m args 69 12 25 := ⟨_, "WaterWorksModel", "WaterWorksModel", rfl, by decide, hown, Or.inl (hT _ k_1129 _), (fun _ z => z)⟩
  have L72_12 : pq_fl s m args 72 12 26 := ⟨_, "WaterWorksModel", "WaterWorksModel", rfl, by decide, hown, Or.inl (hT _ k_1130 _), (fun _ z => z)⟩
  have L75_12 : pq_fl s m args 75 12 27 := ⟨_, "WaterWorksModel", "WaterWorksModel", rfl, by decide, hown, Or.inl (hT _ k_1131 _), (fun _ z => z)⟩
  have L81_12 : pq_fl s m args 81 12 0 := ⟨_, "WaterWorksModel", "WaterWorksModel", rfl, by decide, hown, Or.inl (hT _ k_1104 _), (fun _ z => z)⟩
  have hP : Pi D P s.heap := hP0
  have hS : Sg (cq_A P s) s.heap s.heap P [] := Sg.start hP0
  unfold wp_Mo_correct at h
  refine lv_aload_n (pc := 0) hx hb d_Mo_correct_0 rfl (lv_at hl 0 rfl) ?_
  refine lv_aload_n (pc := 1) hx hb d_Mo_correct_1 rfl (lv_at hl 0 rfl) ?_
  refine lv_iload_n (pc := 2) hx hb d_Mo_correct_2 rfl (lv_at hl 1 rfl) ?_
  obtain ⟨hk101, h⟩ := h
  refine cr_i (pc := 3) C (rest := [.ref a0]) (mt_invV (As := [.int x1]) hx hb hown (hT _ k_1239 _) (hT _ k_1241 _) (hT _ ks_20 _) (mt_Cd.code (hT _ k_1242 #[])) h_Mo_noCustomer (pq_recv hK hP hk101 rfl) n_Mo_noCustomer rfl d_Mo_correct_3) (ct_Mo_noCustomer hfl D h) k_1242 k_24 ⟨Nat.le_of_ble_eq_true rfl, Nat.le_of_ble_eq_true rfl⟩ ⟨(show 0 + 0 ≤ 0 by omega), (show 0 + 0 ≤ 0 by omega)⟩ hl.1 d_Mo_correct_3 (Nat.le_of_ble_eq_true rfl) hP hS (fun x102 H locs h hP hS => ?_) (fun xx X H locs h hX hex hP hS => ?_)
  · refine lv_if_eq (pc := 6) (tgt := 13) hx hb d_Mo_correct_6 (by decide) (fun c103 => ?_) (fun c103 => ?_)
    · replace h := h.1 c103
      refine lv_iconst (pc := 13) (v := 0) hx hb d_Mo_correct_13 (by decide) ?_
      exact wk_Mo_correct_14 hfl C hmg hr hin htab _ a0 x1 (0 : Int32) a0 _ _ _ _ _ h hP hS (lv_sub hl [0, 1] rfl) (show 0 + 0 + 0 ≤ 0 by omega) (show 0 + 0 + 0 ≤ 0 by omega)
    · replace h := h.2 c103
      refine lv_iconst (pc := 9) (v := 1) hx hb d_Mo_correct_9 (by decide) ?_
      refine lv_goto (pc := 10) (tgt := 14) hx hb d_Mo_correct_10 (by decide) ?_
      exact wk_Mo_correct_14 hfl C hmg hr hin htab _ a0 x1 (1 : Int32) a0 _ _ _ _ _ h hP hS (lv_sub hl [0, 1] rfl) (show 0 + 0 + 0 ≤ 0 by omega) (show 0 + 0 + 0 ≤ 0 by omega)
  · exact cq_out hlocks (pq_nil htab rfl) (show 0 + 0 + 0 ≤ 0 by omega) (show 0 + 0 + 0 ≤ 0 by omega) hX hex hP hS h
/-! WaterWorksModel.pay(II)J -/
abbrev y_Mo_pay : MethodName := ⟨"WaterWorksModel", "pay", "(II)J"⟩
abbrev rm_Mo_pay : Room := { frames := 2, cells := 0, slots := 0, locals := 61 }
theorem h_Mo_pay : y_Mo_pay.cls ≠ "java/lang/invoke/MethodHandle" ∧ y_Mo_pay.cls ≠ "java/lang/invoke/VarHandle" := by decide +kernel
theorem n_Mo_pay : (parseMethodDescriptor y_Mo_pay.desc).map (fun d => d.parameters.length) = some 2 := by decide +kernel
theorem d_Mo_pay_0 : decode prog_15_method_36_code 0 = .ok (.aload_n 0, 1) := by decide +kernel
theorem d_Mo_pay_1 : decode prog_15_method_36_code 1 = .ok (.aload_n 0, 1) := by decide +kernel
theorem d_Mo_pay_2 : decode prog_15_method_36_code 2 = .ok (.iload_n 1, 1) := by decide +kernel
theorem d_Mo_pay_3 : decode prog_15_method_36_code 3 = .ok (.invokevirtual 108, 3) := by decide +kernel
theorem d_Mo_pay_6 : decode prog_15_method_36_code 6 = .ok (.ifCond .eq 7, 3) := by decide +kernel
theorem d_Mo_pay_9 : decode prog_15_method_36_code 9 = .ok (.iconst 1, 1) := by decide +kernel
theorem d_Mo_pay_10 : decode prog_15_method_36_code 10 = .ok (.goto 12, 3) := by decide +kernel
theorem d_Mo_pay_13 : decode prog_15_method_36_code 13 = .ok (.iload_n 2, 1) := by decide +kernel
theorem d_Mo_pay_14 : decode prog_15_method_36_code 14 = .ok (.ifCond .ge 7, 3) := by decide +kernel
theorem d_Mo_pay_17 : decode prog_15_method_36_code 17 = .ok (.iconst 2, 1) := by decide +kernel
theorem d_Mo_pay_18 : decode prog_15_method_36_code 18 = .ok (.goto 4, 3) := by decide +kernel
theorem d_Mo_pay_21 : decode prog_15_method_36_code 21 = .ok (.iconst 0, 1) := by decide +kernel
theorem d_Mo_pay_22 : decode prog_15_method_36_code 22 = .ok (.putfield 81, 3) := by decide +kernel
theorem d_Mo_pay_25 : decode prog_15_method_36_code 25 = .ok (.aload_n 0, 1) := by decide +kernel
theorem d_Mo_pay_26 : decode prog_15_method_36_code 26 = .ok (.getfield 81, 3) := by decide +kernel
theorem d_Mo_pay_29 : decode prog_15_method_36_code 29 = .ok (.ifCond .le 5, 3) := by decide +kernel
theorem d_Mo_pay_32 : decode prog_15_method_36_code 32 = .ok (.lconst 0, 1) := by decide +kernel
theorem d_Mo_pay_33 : decode prog_15_method_36_code 33 = .ok (.lreturn, 1) := by decide +kernel
theorem d_Mo_pay_34 : decode prog_15_method_36_code 34 = .ok (.aload_n 0, 1) := by decide +kernel
theorem d_Mo_pay_35 : decode prog_15_method_36_code 35 = .ok (.getfield 78, 3) := by decide +kernel
theorem d_Mo_pay_38 : decode prog_15_method_36_code 38 = .ok (.iload_n 1, 1) := by decide +kernel
theorem d_Mo_pay_39 : decode prog_15_method_36_code 39 = .ok (.aload_n 0, 1) := by decide +kernel
theorem d_Mo_pay_40 : decode prog_15_method_36_code 40 = .ok (.getfield 78, 3) := by decide +kernel
theorem d_Mo_pay_43 : decode prog_15_method_36_code 43 = .ok (.iload_n 1, 1) := by decide +kernel
theorem d_Mo_pay_44 : decode prog_15_method_36_code 44 = .ok (.laload, 1) := by decide +kernel
theorem d_Mo_pay_45 : decode prog_15_method_36_code 45 = .ok (.iload_n 2, 1) := by decide +kernel
theorem d_Mo_pay_46 : decode prog_15_method_36_code 46 = .ok (.i2l, 1) := by decide +kernel
theorem d_Mo_pay_47 : decode prog_15_method_36_code 47 = .ok (.ladd, 1) := by decide +kernel
theorem d_Mo_pay_48 : decode prog_15_method_36_code 48 = .ok (.lastore, 1) := by decide +kernel
theorem d_Mo_pay_49 : decode prog_15_method_36_code 49 = .ok (.lconst 0, 1) := by decide +kernel
theorem d_Mo_pay_50 : decode prog_15_method_36_code 50 = .ok (.aload_n 0, 1) := by decide +kernel
theorem d_Mo_pay_51 : decode prog_15_method_36_code 51 = .ok (.getfield 78, 3) := by decide +kernel
theorem d_Mo_pay_54 : decode prog_15_method_36_code 54 = .ok (.iload_n 1, 1) := by decide +kernel
theorem d_Mo_pay_55 : decode prog_15_method_36_code 55 = .ok (.laload, 1) := by decide +kernel
theorem d_Mo_pay_56 : decode prog_15_method_36_code 56 = .ok (.lsub, 1) := by decide +kernel
theorem d_Mo_pay_57 : decode prog_15_method_36_code 57 = .ok (.lstore_n 3, 1) := by decide +kernel
theorem d_Mo_pay_58 : decode prog_15_method_36_code 58 = .ok (.iconst 0, 1) := by decide +kernel
theorem d_Mo_pay_59 : decode prog_15_method_36_code 59 = .ok (.istore 5, 2) := by decide +kernel
theorem d_Mo_pay_61 : decode prog_15_method_36_code 61 = .ok (.iload 5, 2) := by decide +kernel
theorem d_Mo_pay_63 : decode prog_15_method_36_code 63 = .ok (.aload_n 0, 1) := by decide +kernel
theorem d_Mo_pay_64 : decode prog_15_method_36_code 64 = .ok (.getfield 66, 3) := by decide +kernel
theorem d_Mo_pay_67 : decode prog_15_method_36_code 67 = .ok (.iload_n 1, 1) := by decide +kernel
theorem d_Mo_pay_68 : decode prog_15_method_36_code 68 = .ok (.iaload, 1) := by decide +kernel
theorem d_Mo_pay_69 : decode prog_15_method_36_code 69 = .ok (.if_icmp .ge 24, 3) := by decide +kernel
theorem d_Mo_pay_72 : decode prog_15_method_36_code 72 = .ok (.lload_n 3, 1) := by decide +kernel
theorem d_Mo_pay_73 : decode prog_15_method_36_code 73 = .ok (.aload_n 0, 1) := by decide +kernel
theorem d_Mo_pay_74 : decode prog_15_method_36_code 74 = .ok (.getfield 75, 3) := by decide +kernel
theorem d_Mo_pay_77 : decode prog_15_method_36_code 77 = .ok (.bipush 6, 2) := by decide +kernel
theorem d_Mo_pay_79 : decode prog_15_method_36_code 79 = .ok (.iload_n 1, 1) := by decide +kernel
theorem d_Mo_pay_80 : decode prog_15_method_36_code 80 = .ok (.imul, 1) := by decide +kernel
theorem d_Mo_pay_81 : decode prog_15_method_36_code 81 = .ok (.iload 5, 2) := by decide +kernel
theorem d_Mo_pay_83 : decode prog_15_method_36_code 83 = .ok (.iadd, 1) := by decide +kernel
theorem d_Mo_pay_84 : decode prog_15_method_36_code 84 = .ok (.laload, 1) := by decide +kernel
theorem d_Mo_pay_85 : decode prog_15_method_36_code 85 = .ok (.ladd, 1) := by decide +kernel
theorem d_Mo_pay_86 : decode prog_15_method_36_code 86 = .ok (.lstore_n 3, 1) := by decide +kernel
theorem d_Mo_pay_87 : decode prog_15_method_36_code 87 = .ok (.iinc 5 1, 3) := by decide +kernel
theorem d_Mo_pay_90 : decode prog_15_method_36_code 90 = .ok (.goto (-29), 3) := by decide +kernel
theorem d_Mo_pay_93 : decode prog_15_method_36_code 93 = .ok (.lload_n 3, 1) := by decide +kernel
theorem d_Mo_pay_94 : decode prog_15_method_36_code 94 = .ok (.lreturn, 1) := by decide +kernel
def wb_Mo_pay_61 (po : Option Value → Pic → Prop) (th : String → Pic → Prop) (K61 : Pic → Nat → Int32 → Int64 → Int32 → Prop) (P : Pic) (a0 : Nat) (x1 : Int32) (w3 : Int64) (x5 : Int32) : Prop := p_k P a0 = 13 ∧ ∃ a120, p_r P 504 a0 = some a120 ∧ p_k P a120 = 101 ∧ vp_in x1 (p_n P a120) ∧ (((p_ai P a120 (Int32.toNatClampNeg x1)) ≤ x5 → (po (some (.long w3)) P)) ∧ (¬ (p_ai P a120 (Int32.toNatClampNeg x1)) ≤ x5 → (∃ a123, p_r P 507 a0 = some a123 ∧ p_k P a123 = 102 ∧ vp_in (((6 : Int32) * x1) + x5) (p_n P a123) ∧ ∀ (w126 : Int64), w126 = (w3 + (p_al P a123 (Int32.toNatClampNeg (((6 : Int32) * x1) + x5)))) → ∀ (x127 : Int32), x127 = x5 + 1 → K61 P a0 x1 w126 x127)))
def wl_Mo_pay_61 (po : Option Value → Pic → Prop) (th : String → Pic → Prop) : Nat → Pic → Nat → Int32 → Int64 → Int32 → Prop
  | 0 => fun _ _ _ _ _ => False
  | n + 1 => wb_Mo_pay_61 po th (wl_Mo_pay_61 po th n)
def wb_Mo_pay_22 (po : Option Value → Pic → Prop) (th : String → Pic → Prop) (P : Pic) (a0 : Nat) (x1 : Int32) (x2 : Int32) (t0 : Int32) (t1 : Nat) : Prop := p_k P t1 = 13 ∧ p_k (s_i P 480 t1 t0) a0 = 13 ∧ (((p_i (s_i P 480 t1 t0) 480 a0) ≤ 0 → (∃ a107, p_r (s_i P 480 t1 t0) 508 a0 = some a107 ∧ ∃ a108, p_r (s_i P 480 t1 t0) 508 a0 = some a108 ∧ p_k (s_i P 480 t1 t0) a108 = 102 ∧ vp_in x1 (p_n (s_i P 480 t1 t0) a108) ∧ p_k (s_i P 480 t1 t0) a107 = 102 ∧ vp_in x1 (p_n (s_i P 480 t1 t0) a107) ∧ ∀ (P113 : Pic), P113 = s_al (s_i P 480 t1 t0) a107 (Int32.toNatClampNeg x1) ((p_al (s_i P 480 t1 t0) a108 (Int32.toNatClampNeg x1)) + (Int32.toInt64 x2)) → ∃ a114, p_r P113 508 a0 = some a114 ∧ p_k P113 a114 = 102 ∧ vp_in x1 (p_n P113 a114) ∧ ∀ (w117 : Int64), w117 = ((0 : Int64) - (p_al P113 a114 (Int32.toNatClampNeg x1))) → ∃ n, wl_Mo_pay_61 po th n P113 a0 x1 w117 (0 : Int32))) ∧ (¬ (p_i (s_i P 480 t1 t0) 480 a0) ≤ 0 → (po (some (.long (0 : Int64))) (s_i P 480 t1 t0))))
def wp_Mo_pay (po : Option Value → Pic → Prop) (th : String → Pic → Prop) (P : Pic) (a0 : Nat) (x1 : Int32) (x2 : Int32) : Prop := p_k P a0 = 13 ∧ wp_Mo_noCustomer (cp_i fun x102 _ => ((x102 = 0 → (((0 ≤ x2 → (wb_Mo_pay_22 po th P a0 x1 x2 (0 : Int32) a0)) ∧ (¬ 0 ≤ x2 → (wb_Mo_pay_22 po th P a0 x1 x2 (2 : Int32) a0))))) ∧ (¬ x102 = 0 → (wb_Mo_pay_22 po th P a0 x1 x2 (1 : Int32) a0)))) th P a0 x1
set_option maxHeartbeats 4000000 in
set_option maxRecDepth 100000 in
theorem wk_Mo_pay_61 {p : Program} {l : Launch} {e : Env} {s : State} {m : MethodId} {args : Array Value} {below : List Frame} {meth : Method} {c : Code} {D : pq_D} {P0 : Pic} {po : Option Value → Pic → Prop} {th : String → Pic → Prop} {K61 : Pic → Nat → Int32 → Int64 → Int32 → Prop} (hfl : l.flags = flags0) (C : Cx p e s m args meth c prog_15_method_36_code 6 "WaterWorksModel" D P0) (hmg : e.platform.magicAccessors = ({} : Platform).magicAccessors) (hr : meth.sig.returnType = (some .long)) (hin : meth.name = "pay") (htab : c.exceptionTable.toList = tableOf []) (HK61 : ∀ (P : Pic) (a0 : Nat) (x1 : Int32) (w3 : Int64) (x5 : Int32) (H : Heap) (locs : List Loc) (cells slots : Nat) (ls : Array Slot), K61 P a0 x1 w3 x5 → Pi D P H → Sg (cq_A P0 s) s.heap H P locs → lv_has ls 6 [(0, .ref a0), (1, .int x1), (3, .long w3), (5, .int x5)] → cells + 0 ≤ 0 → slots + 0 ≤ 0 → W p l e rm_Mo_pay s m args below meth c H locs cells slots (mt_MQ below (cq_Q D P0 false po th) args s 0 0 (cq_free P0 false)) (F0 m 61 ls [])) : ∀ (P : Pic) (a0 : Nat) (x1 : Int32) (w3 : Int64) (x5 : Int32) (H : Heap) (locs : List Loc) (cells slots : Nat) (ls : Array Slot), wb_Mo_pay_61 po th K61 P a0 x1 w3 x5 → Pi D P H → Sg (cq_A P0 s) s.heap H P locs → lv_has ls 6 [(0, .ref a0), (1, .int x1), (3, .long w3), (5, .int x5)] → cells + 0 ≤ 0 → slots + 0 ≤ 0 → W p l e rm_Mo_pay s m args below meth c H locs cells slots (mt_MQ below (cq_Q D P0 false po th) args s 0 0 (cq_free P0 false)) (F0 m 61 ls []) := by
  intro P a0 x1 w3 x5 H locs cells slots ls h hP hS hl hcc hss
  obtain ⟨hx, hb, hml, hown, hlocks, htr, hT, hK, hSt, hN, hP0⟩ := id C
  have L66_12 : pq_fl s m args 66 12 24 := ⟨_, "WaterWorksModel", "WaterWorksModel", rfl, by decide, hown, Or.inl (hT _ k_1128 _), (fun _ z => z)⟩
  have L75_12 : pq_fl s m args 75 12 27 := ⟨_, "WaterWorksModel", "WaterWorksModel", rfl, by decide, hown, Or.inl (hT _ k_1131 _), (fun _ z => z)⟩
  have L78_12 : pq_fl s m args 78 12 28 := ⟨_, "WaterWorksModel", "WaterWorksModel", rfl, by decide, hown, Or.inl (hT _ k_1132 _), (fun _ z => z)⟩
  have L81_12 : pq_fl s m args 81 12 0 := ⟨_, "WaterWorksModel", "WaterWorksModel", rfl, by decide, hown, Or.inl (hT _ k_1104 _), (fun _ z => z)⟩
  unfold wb_Mo_pay_61 at h
  refine lv_iload (pc := 61) hx hb d_Mo_pay_61 (lv_at hl 3 rfl) ?_
  refine lv_aload_n (pc := 63) hx hb d_Mo_pay_63 rfl (lv_at hl 0 rfl) ?_
  obtain ⟨hk119, h⟩ := h
  obtain ⟨a120, ea120, h⟩ := h
  refine pq_geta (pc := 64) (f := 504) hx hb hT hK hP L66_12 hk119 rfl ea120 d_Mo_pay_64 ?_
  refine lv_iload_n (pc := 67) hx hb d_Mo_pay_67 rfl (lv_at hl 1 rfl) ?_
  obtain ⟨hk121, h⟩ := h
  obtain ⟨hi122, h⟩ := h
  refine pq_iald (pc := 68) hx hb hK hP hk121 hi122 d_Mo_pay_68 ?_
  refine lv_icmp_ge (pc := 69) (tgt := 93) hx hb d_Mo_pay_69 (by decide) (fun c128 => ?_) (fun c128 => ?_)
  · replace h := h.1 c128
    refine lv_lload_n (pc := 93) hx hb d_Mo_pay_93 rfl (lv_at hl 2 rfl) ?_
    exact we_l (pc := 94) hx hb hlocks hr hP hS (show cells + 0 ≤ 0 by omega) (show slots + 0 ≤ 0 by omega) h d_Mo_pay_94
  · replace h := h.2 c128
    refine lv_lload_n (pc := 72) hx hb d_Mo_pay_72 rfl (lv_at hl 2 rfl) ?_
    refine lv_aload_n (pc := 73) hx hb d_Mo_pay_73 rfl (lv_at hl 0 rfl) ?_
    obtain ⟨a123, ea123, h⟩ := h
    refine pq_geta (pc := 74) (f := 507) hx hb hT hK hP L75_12 hk119 rfl ea123 d_Mo_pay_74 ?_
    refine lv_bipush (pc := 77) (v := 6) hx hb d_Mo_pay_77 (by decide) ?_
    refine lv_iload_n (pc := 79) hx hb d_Mo_pay_79 rfl (lv_at hl 1 rfl) ?_
    refine lv_imul (pc := 80) hx hb d_Mo_pay_80 ?_
    refine lv_iload (pc := 81) hx hb d_Mo_pay_81 (lv_at hl 3 rfl) ?_
    refine lv_iadd (pc := 83) hx hb d_Mo_pay_83 ?_
    obtain ⟨hk124, h⟩ := h
    obtain ⟨hi125, h⟩ := h
    refine pq_lald (pc := 84) hx hb hK hP hk124 hi125 d_Mo_pay_84 ?_
    refine lv_ladd (pc := 85) hx hb d_Mo_pay_85 ?_
    refine lv_topl (fun w126 ew126 => ?_)
    replace h := h w126 ew126
    refine lv_lstore_n (pc := 86) (lv' := [(3, .long w126), (0, .ref a0), (1, .int x1), (5, .int x5)]) hx hb d_Mo_pay_86 rfl hl (by decide) rfl (fun ls hl => ?_)
    obtain ⟨x127, ex127⟩ : ∃ z : Int32, z = x5 + 1 := ⟨_, rfl⟩
    replace h := h x127 ex127
    refine lv_iinc (pc := 87) (v := x127) (lv' := [(5, .int x127), (3, .long w126), (0, .ref a0), (1, .int x1)]) hx hb d_Mo_pay_87 hl (k := 3) rfl (by rw [ex127]; rfl) (by decide) rfl (fun ls hl => ?_)
    refine lv_goto (pc := 90) (tgt := 61) hx hb d_Mo_pay_90 (by decide) ?_
    exact HK61 _ a0 x1 w126 x127 _ _ _ _ _ h hP hS (lv_sub hl [2, 3, 1, 0] rfl) (show cells + 0 ≤ 0 by omega) (show slots + 0 ≤ 0 by omega)
theorem wm_Mo_pay_61 {p : Program} {l : Launch} {e : Env} {s : State} {m : MethodId} {args : Array Value} {below : List Frame} {meth : Method} {c : Code} {D : pq_D} {P0 : Pic} {po : Option Value → Pic → Prop} {th : String → Pic → Prop} (hfl : l.flags = flags0) (C : Cx p e s m args meth c prog_15_method_36_code 6 "WaterWorksModel" D P0) (hmg : e.platform.magicAccessors = ({} : Platform).magicAccessors) (hr : meth.sig.returnType = (some .long)) (hin : meth.name = "pay") (htab : c.exceptionTable.toList = tableOf []) : ∀ n : Nat, ∀ (P : Pic) (a0 : Nat) (x1 : Int32) (w3 : Int64) (x5 : Int32) (H : Heap) (locs : List Loc) (cells slots : Nat) (ls : Array Slot), wl_Mo_pay_61 po th n P a0 x1 w3 x5 → Pi D P H → Sg (cq_A P0 s) s.heap H P locs → lv_has ls 6 [(0, .ref a0), (1, .int x1), (3, .long w3), (5, .int x5)] → cells + 0 ≤ 0 → slots + 0 ≤ 0 → W p l e rm_Mo_pay s m args below meth c H locs cells slots (mt_MQ below (cq_Q D P0 false po th) args s 0 0 (cq_free P0 false)) (F0 m 61 ls []) := by
  intro n
  induction n with
  | zero => intro P a0 x1 w3 x5 H locs cells slots ls h; exact h.elim
  | succ n ih => exact wk_Mo_pay_61 hfl C hmg hr hin htab ih
set_option maxHeartbeats 4000000 in
set_option maxRecDepth 100000 in
theorem wk_Mo_pay_22 {p : Program} {l : Launch} {e : Env} {s : State} {m : MethodId} {args : Array Value} {below : List Frame} {meth : Method} {c : Code} {D : pq_D} {P0 : Pic} {po : Option Value → Pic → Prop} {th : String → Pic → Prop} (hfl : l.flags = flags0) (C : Cx p e s m args meth c prog_15_method_36_code 6 "WaterWorksModel" D P0) (hmg : e.platform.magicAccessors = ({} : Platform).magicAccessors) (hr : meth.sig.returnType = (some .long)) (hin : meth.name = "pay") (htab : c.exceptionTable.toList = tableOf []) : ∀ (P : Pic) (a0 : Nat) (x1 : Int32) (x2 : Int32) (t0 : Int32) (t1 : Nat) (H : Heap) (locs : List Loc) (cells slots : Nat) (ls : Array Slot), wb_Mo_pay_22 po th P a0 x1 x2 t0 t1 → Pi D P H → Sg (cq_A P0 s) s.heap H P locs → lv_has ls 6 [(0, .ref a0), (1, .int x1), (2, .int x2)] → cells + 0 ≤ 0 → slots + 0 ≤ 0 → W p l e rm_Mo_pay s m args below meth c H locs cells slots (mt_MQ below (cq_Q D P0 false po th) args s 0 0 (cq_free P0 false)) (F0 m 22 ls [.int t0, .ref t1]) := by
  intro P a0 x1 x2 t0 t1 H locs cells slots ls h hP hS hl hcc hss
  obtain ⟨hx, hb, hml, hown, hlocks, htr, hT, hK, hSt, hN, hP0⟩ := id C
  have L66_12 : pq_fl s m args 66 12 24 := ⟨_, "WaterWorksModel", "WaterWorksModel", rfl, by decide, hown, Or.inl (hT _ k_1128 _), (fun _ z => z)⟩
  have L75_12 : pq_fl s m args 75 12 27 := ⟨_, "WaterWorksModel", "WaterWorksModel", rfl, by decide, hown, Or.inl (hT _ k_1131 _), (fun _ z => z)⟩
  have L78_12 : pq_fl s m args 78 12 28 := ⟨_, "WaterWorksModel", "WaterWorksModel", rfl, by decide, hown, Or.inl (hT _ k_1132 _), (fun _ z => z)⟩
  have L81_12 : pq_fl s m args 81 12 0 := ⟨_, "WaterWorksModel", "WaterWorksModel", rfl, by decide, hown, Or.inl (hT _ k_1104 _), (fun _ z => z)⟩
  unfold wb_Mo_pay_22 at h
  obtain ⟨hk105, h⟩ := h
  refine pq_puti (pc := 22) (f := 480) hx hb hT hK hP hS L81_12 hk105 rfl rfl rfl rfl d_Mo_pay_22 (fun H locs hP hS => ?_)
  have hk105 : p_k (s_i P 480 t1 t0) t1 = 13 := by rw [pk_i]; exact hk105
  refine lv_aload_n (pc := 25) hx hb d_Mo_pay_25 rfl (lv_at hl 0 rfl) ?_
  obtain ⟨hk106, h⟩ := h
  refine pq_geti (pc := 26) (f := 480) hx hb hT hK hP L81_12 hk106 rfl d_Mo_pay_26 ?_
  refine lv_if_le (pc := 29) (tgt := 34) hx hb d_Mo_pay_29 (by decide) (fun c118 => ?_) (fun c118 => ?_)
  · replace h := h.1 c118
    refine lv_aload_n (pc := 34) hx hb d_Mo_pay_34 rfl (lv_at hl 0 rfl) ?_
    obtain ⟨a107, ea107, h⟩ := h
    refine pq_geta (pc := 35) (f := 508) hx hb hT hK hP L78_12 hk106 rfl ea107 d_Mo_pay_35 ?_
    refine lv_iload_n (pc := 38) hx hb d_Mo_pay_38 rfl (lv_at hl 1 rfl) ?_
    refine lv_aload_n (pc := 39) hx hb d_Mo_pay_39 rfl (lv_at hl 0 rfl) ?_
    obtain ⟨a108, ea108, h⟩ := h
    refine pq_geta (pc := 40) (f := 508) hx hb hT hK hP L78_12 hk106 rfl ea108 d_Mo_pay_40 ?_
    refine lv_iload_n (pc := 43) hx hb d_Mo_pay_43 rfl (lv_at hl 1 rfl) ?_
    obtain ⟨hk109, h⟩ := h
    obtain ⟨hi110, h⟩ := h
    refine pq_lald (pc := 44) hx hb hK hP hk109 hi110 d_Mo_pay_44 ?_
    refine lv_iload_n (pc := 45) hx hb d_Mo_pay_45 rfl (lv_at hl 2 rfl) ?_
    refine lv_i2l (pc := 46) hx hb d_Mo_pay_46 rfl ?_
    refine lv_ladd (pc := 47) hx hb d_Mo_pay_47 ?_
    obtain ⟨hk111, h⟩ := h
    obtain ⟨hi112, h⟩ := h
    refine pq_last (pc := 48) hx hb hK hP hS hk111 hi112 d_Mo_pay_48 (fun H locs hP hS => ?_)
    have hk105 : p_k (s_al (s_i P 480 t1 t0) a107 (Int32.toNatClampNeg x1) ((p_al (s_i P 480 t1 t0) a108 (Int32.toNatClampNeg x1)) + (Int32.toInt64 x2))) t1 = 13 := by rw [pk_al]; exact hk105
    have hk106 : p_k (s_al (s_i P 480 t1 t0) a107 (Int32.toNatClampNeg x1) ((p_al (s_i P 480 t1 t0) a108 (Int32.toNatClampNeg x1)) + (Int32.toInt64 x2))) a0 = 13 := by rw [pk_al]; exact hk106
    have hk109 : p_k (s_al (s_i P 480 t1 t0) a107 (Int32.toNatClampNeg x1) ((p_al (s_i P 480 t1 t0) a108 (Int32.toNatClampNeg x1)) + (Int32.toInt64 x2))) a108 = 102 := by rw [pk_al]; exact hk109
    have hk111 : p_k (s_al (s_i P 480 t1 t0) a107 (Int32.toNatClampNeg x1) ((p_al (s_i P 480 t1 t0) a108 (Int32.toNatClampNeg x1)) + (Int32.toInt64 x2))) a107 = 102 := by rw [pk_al]; exact hk111
    obtain ⟨P113, eP113⟩ : ∃ z : Pic, z = s_al (s_i P 480 t1 t0) a107 (Int32.toNatClampNeg x1) ((p_al (s_i P 480 t1 t0) a108 (Int32.toNatClampNeg x1)) + (Int32.toInt64 x2)) := ⟨_, rfl⟩
    replace h := h P113 eP113
    rw [← eP113] at hP hS
    have hk105 : p_k P113 t1 = 13 := by rw [eP113]; exact hk105
    have hk106 : p_k P113 a0 = 13 := by rw [eP113]; exact hk106
    have hk109 : p_k P113 a108 = 102 := by rw [eP113]; exact hk109
    have hk111 : p_k P113 a107 = 102 := by rw [eP113]; exact hk111
    refine lv_lconst (pc := 49) (v := 0) hx hb d_Mo_pay_49 (by decide) ?_
    refine lv_aload_n (pc := 50) hx hb d_Mo_pay_50 rfl (lv_at hl 0 rfl) ?_
    obtain ⟨a114, ea114, h⟩ := h
    refine pq_geta (pc := 51) (f := 508) hx hb hT hK hP L78_12 hk106 rfl ea114 d_Mo_pay_51 ?_
    refine lv_iload_n (pc := 54) hx hb d_Mo_pay_54 rfl (lv_at hl 1 rfl) ?_
    obtain ⟨hk115, h⟩ := h
    obtain ⟨hi116, h⟩ := h
    refine pq_lald (pc := 55) hx hb hK hP hk115 hi116 d_Mo_pay_55 ?_
    refine lv_lsub (pc := 56) hx hb d_Mo_pay_56 ?_
    refine lv_topl (fun w117 ew117 => ?_)
    replace h := h w117 ew117
    refine lv_lstore_n (pc := 57) (lv' := [(3, .long w117), (0, .ref a0), (1, .int x1), (2, .int x2)]) hx hb d_Mo_pay_57 rfl hl (by decide) rfl (fun ls hl => ?_)
    refine lv_iconst (pc := 58) (v := 0) hx hb d_Mo_pay_58 (by decide) ?_
    refine lv_istore (pc := 59) (lv' := [(5, .int (0 : Int32)), (3, .long w117), (0, .ref a0), (1, .int x1), (2, .int x2)]) hx hb d_Mo_pay_59 hl (by decide) rfl (fun ls hl => ?_)
    obtain ⟨n, h⟩ := h
    exact wm_Mo_pay_61 hfl C hmg hr hin htab n _ a0 x1 w117 (0 : Int32) _ _ _ _ _ h hP hS (lv_sub hl [2, 3, 1, 0] rfl) (show cells + 0 ≤ 0 by omega) (show slots + 0 ≤ 0 by omega)
  · replace h := h.2 c118
    refine lv_lconst (pc := 32) (v := 0) hx hb d_Mo_pay_32 (by decide) ?_
    exact we_l (pc := 33) hx hb hlocks hr hP hS (show cells + 0 ≤ 0 by omega) (show slots + 0 ≤ 0 by omega) h d_Mo_pay_33
set_option maxHeartbeats 4000000 in
set_option maxRecDepth 100000 in
theorem ct_Mo_pay {l : Launch} (hfl : l.flags = flags0) (D : pq_D) {po : Option Value → Pic → Prop} {th : String → Pic → Prop} {P : Pic} {a0 : Nat} {x1 : Int32} {x2 : Int32} (h : wp_Mo_pay po th P a0 x1 x2) : CT l D y_Mo_pay (.code y_Mo_pay prog_15_method_36_code 6 (some .long)) rm_Mo_pay false [.ref a0, .int x1, .int x2] P po th := by
  refine ct_of (hs := []) hfl (by decide +kernel) (Or.inl ⟨rfl, rfl⟩) (Nat.le_of_ble_eq_true rfl) ?_
  intro p e s m below meth c C hmg hr hin htab ls hl
  have hl : lv_has ls 6 [(0, .ref a0), (1, .int x1), (2, .int x2)] := hl
  generalize hargs : ([.ref a0, .int x1, .int x2] : List Value).toArray = args at C ⊢
  obtain ⟨hx, hb, hml, hown, hlocks, htr, hT, hK, hSt, hN, hP0⟩ := id C
  have L66_12 : pq_fl s m args 66 12 24 := ⟨_, "WaterWorksModel", "WaterWorksModel", rfl, by decide, hown, Or.inl (hT _ k_1128 _), (fun _ z => z)⟩
  have L75_12 : pq_fl s m args 75 12 27 := ⟨_, "WaterWorksModel", "WaterWorksModel", rfl, by decide, hown, Or.inl (hT _ k_1131 _), (fun _ z => z)⟩
  have L78_12 : pq_fl s m args 78 12 28 := ⟨_, "WaterWorksModel", "WaterWorksModel", rfl, by decide, hown, Or.inl (hT _ k_1132 _), (fun _ z => z)⟩
  have L81_12 : pq_fl s m args 81 12 0 := ⟨_, "WaterWorksModel", "WaterWorksModel", rfl, by decide, hown, Or.inl (hT _ k_1104 _), (fun _ z => z)⟩
  have hP : Pi D P s.heap := hP0
  have hS : Sg (cq_A P s) s.heap s.heap P [] := Sg.start hP0
  unfold wp_Mo_pay at h
  refine lv_aload_n (pc := 0) hx hb d_Mo_pay_0 rfl (lv_at hl 0 rfl) ?_
  refine lv_aload_n (pc := 1) hx hb d_Mo_pay_1 rfl (lv_at hl 0 rfl) ?_
  refine lv_iload_n (pc := 2) hx hb d_Mo_pay_2 rfl (lv_at hl 1 rfl) ?_
  obtain ⟨hk101, h⟩ := h
  refine cr_i (pc := 3) C (rest := [.ref a0]) (mt_invV (As := [.int x1]) hx hb hown (hT _ k_1239 _) (hT _ k_1241 _) (hT _ ks_20 _) (mt_Cd.code (hT _ k_1242 #[])) h_Mo_noCustomer (pq_recv hK hP hk101 rfl) n_Mo_noCustomer rfl d_Mo_pay_3) (ct_Mo_noCustomer hfl D h) k_1242 k_24 ⟨Nat.le_of_ble_eq_true rfl, Nat.le_of_ble_eq_true rfl⟩ ⟨(show 0 + 0 ≤ 0 by omega), (show 0 + 0 ≤ 0 by omega)⟩ hl.1 d_Mo_pay_3 (Nat.le_of_ble_eq_true rfl) hP hS (fun x102 H locs h hP hS => ?_) (fun xx X H locs h hX hex hP hS => ?_)
  · refine lv_if_eq (pc := 6) (tgt := 13) hx hb d_Mo_pay_6 (by decide) (fun c104 => ?_) (fun c104 => ?_)
    · replace h := h.1 c104
      refine lv_iload_n (pc := 13) hx hb d_Mo_pay_13 rfl (lv_at hl 2 rfl) ?_
      refine lv_if_ge (pc := 14) (tgt := 21) hx hb d_Mo_pay_14 (by decide) (fun c103 => ?_) (fun c103 => ?_)
      · replace h := h.1 c103
        refine lv_iconst (pc := 21) (v := 0) hx hb d_Mo_pay_21 (by decide) ?_
        exact wk_Mo_pay_22 hfl C hmg hr hin htab _ a0 x1 x2 (0 : Int32) a0 _ _ _ _ _ h hP hS (lv_sub hl [0, 1, 2] rfl) (show 0 + 0 + 0 ≤ 0 by omega) (show 0 + 0 + 0 ≤ 0 by omega)
      · replace h := h.2 c103
        refine lv_iconst (pc := 17) (v := 2) hx hb d_Mo_pay_17 (by decide) ?_
        refine lv_goto (pc := 18) (tgt := 22) hx hb d_Mo_pay_18 (by decide) ?_
        exact wk_Mo_pay_22 hfl C hmg hr hin htab _ a0 x1 x2 (2 : Int32) a0 _ _ _ _ _ h hP hS (lv_sub hl [0, 1, 2] rfl) (show 0 + 0 + 0 ≤ 0 by omega) (show 0 + 0 + 0 ≤ 0 by omega)
    · replace h := h.2 c104
      refine lv_iconst (pc := 9) (v := 1) hx hb d_Mo_pay_9 (by decide) ?_
      refine lv_goto (pc := 10) (tgt := 22) hx hb d_Mo_pay_10 (by decide) ?_
      exact wk_Mo_pay_22 hfl C hmg hr hin htab _ a0 x1 x2 (1 : Int32) a0 _ _ _ _ _ h hP hS (lv_sub hl [0, 1, 2] rfl) (show 0 + 0 + 0 ≤ 0 by omega) (show 0 + 0 + 0 ≤ 0 by omega)
  · exact cq_out hlocks (pq_nil htab rfl) (show 0 + 0 + 0 ≤ 0 by omega) (show 0 + 0 + 0 ≤ 0 by omega) hX hex hP hS h
