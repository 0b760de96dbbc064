/-! java/lang/Math.min(II)I -/
abbrev y_Ma_min : MethodName := ⟨"java/lang/Math", "min", "(II)I"⟩
abbrev rm_Ma_min : Room := { frames := 1, cells := 0, slots := 0, locals := 40 }
theorem h_Ma_min : y_Ma_min.cls ≠ "java/lang/invoke/MethodHandle" ∧ y_Ma_min.cls ≠ "java/lang/invoke/VarHandle" := by decide +kernel
theorem n_Ma_min : (parseMethodDescriptor y_Ma_min.desc).map (fun d => d.parameters.length) = some 2 := by decide +kernel
theorem d_Ma_min_0 : decode prog_25_method_69_code 0 = .ok (.iload_n 0, 1) := by decide +kernel
theorem d_Ma_min_1 : decode prog_25_method_69_code 1 = .ok (.iload_n 1, 1) := by decide +kernel
theorem d_Ma_min_2 : decode prog_25_method_69_code 2 = .ok (.if_icmp .gt 7, 3) := by decide +kernel
theorem d_Ma_min_5 : decode prog_25_method_69_code 5 = .ok (.iload_n 0, 1) := by decide +kernel
theorem d_Ma_min_6 : decode prog_25_method_69_code 6 = .ok (.goto 4, 3) := by decide +kernel
theorem d_Ma_min_9 : decode prog_25_method_69_code 9 = .ok (.iload_n 1, 1) := by decide +kernel
theorem d_Ma_min_10 : decode prog_25_method_69_code 10 = .ok (.ireturn, 1) := by decide +kernel
def wp_Ma_min (po : Option Value → Pic → Prop) (th : String → Pic → Prop) (P : Pic) (x0 : Int32) (x1 : Int32) : Prop := ((x1 < x0 → (po (some (.int x1)) P)) ∧ (¬ x1 < x0 → (po (some (.int x0)) P)))
set_option maxHeartbeats 4000000 in
set_option maxRecDepth 100000 in
theorem ct_Ma_min {l : Launch} (hfl : l.flags = flags0) (D : pq_D) {po : Option Value → Pic → Prop} {th : String → Pic → Prop} {P : Pic} {x0 : Int32} {x1 : Int32} (h : wp_Ma_min po th P x0 x1) : CT l D y_Ma_min (.code y_Ma_min prog_25_method_69_code 2 (some .int)) rm_Ma_min true [.int x0, .int x1] P po th := by
  refine ct_of (hs := []) hfl (by decide +kernel) (Or.inl ⟨rfl, rfl⟩) (Nat.le_of_ble_eq_true rfl) ?_
  intro p e s m below meth c C hmg hr hin htab ls hl
  have hl : lv_has ls 2 [(0, .int x0), (1, .int x1)] := hl
  generalize hargs : ([.int x0, .int x1] : List Value).toArray = args at C ⊢
  obtain ⟨hx, hb, hml, hown, hlocks, htr, hT, hK, hSt, hN, hP0⟩ := id C
  have hO : So s.heap s.heap := So.rf
  have hP : Pi D P s.heap := hP0
  unfold wp_Ma_min at h
  refine lv_iload_n (pc := 0) hx hb d_Ma_min_0 rfl (lv_at hl 0 rfl) ?_
  refine lv_iload_n (pc := 1) hx hb d_Ma_min_1 rfl (lv_at hl 1 rfl) ?_
  refine lv_icmp_gt (pc := 2) (tgt := 9) hx hb d_Ma_min_2 (by decide) (fun c101 => ?_) (fun c101 => ?_)
  · replace h := h.1 c101
    refine lv_iload_n (pc := 9) hx hb d_Ma_min_9 rfl (lv_at hl 1 rfl) ?_
    exact wo_i (pc := 10) hx hb hlocks hr hP0 hO (show 0 + 0 ≤ 0 by omega) (show 0 + 0 ≤ 0 by omega) h d_Ma_min_10
  · replace h := h.2 c101
    refine lv_iload_n (pc := 5) hx hb d_Ma_min_5 rfl (lv_at hl 0 rfl) ?_
    refine lv_goto (pc := 6) (tgt := 10) hx hb d_Ma_min_6 (by decide) ?_
    exact wo_i (pc := 10) hx hb hlocks hr hP0 hO (show 0 + 0 ≤ 0 by omega) (show 0 + 0 ≤ 0 by omega) h d_Ma_min_10
/-! java/lang/Math.min(JJ)J -/
abbrev y_Ma_minL : MethodName := ⟨"java/lang/Math", "min", "(JJ)J"⟩
abbrev rm_Ma_minL : Room := { frames := 1, cells := 0, slots := 0, locals := 40 }
theorem h_Ma_minL : y_Ma_minL.cls ≠ "java/lang/invoke/MethodHandle" ∧ y_Ma_minL.cls ≠ "java/lang/invoke/VarHandle" := by decide +kernel
theorem n_Ma_minL : (parseMethodDescriptor y_Ma_minL.desc).map (fun d => d.parameters.length) = some 2 := by decide +kernel
theorem d_Ma_minL_0 : decode prog_25_method_70_code 0 = .ok (.lload_n 0, 1) := by decide +kernel
theorem d_Ma_minL_1 : decode prog_25_method_70_code 1 = .ok (.lload_n 2, 1) := by decide +kernel
theorem d_Ma_minL_2 : decode prog_25_method_70_code 2 = .ok (.lcmp, 1) := by decide +kernel
theorem d_Ma_minL_3 : decode prog_25_method_70_code 3 = .ok (.ifCond .gt 7, 3) := by decide +kernel
theorem d_Ma_minL_6 : decode prog_25_method_70_code 6 = .ok (.lload_n 0, 1) := by decide +kernel
theorem d_Ma_minL_7 : decode prog_25_method_70_code 7 = .ok (.goto 4, 3) := by decide +kernel
theorem d_Ma_minL_10 : decode prog_25_method_70_code 10 = .ok (.lload_n 2, 1) := by decide +kernel
theorem d_Ma_minL_11 : decode prog_25_method_70_code 11 = .ok (.lreturn, 1) := by decide +kernel
def wp_Ma_minL (po : Option Value → Pic → Prop) (th : String → Pic → Prop) (P : Pic) (w0 : Int64) (w2 : Int64) : Prop := ((0 < (lg_cmp w0 w2) → (po (some (.long w2)) P)) ∧ (¬ 0 < (lg_cmp w0 w2) → (po (some (.long w0)) P)))
set_option maxHeartbeats 4000000 in
set_option maxRecDepth 100000 in
theorem ct_Ma_minL {l : Launch} (hfl : l.flags = flags0) (D : pq_D) {po : Option Value → Pic → Prop} {th : String → Pic → Prop} {P : Pic} {w0 : Int64} {w2 : Int64} (h : wp_Ma_minL po th P w0 w2) : CT l D y_Ma_minL (.code y_Ma_minL prog_25_method_70_code 4 (some .long)) rm_Ma_minL true [.long w0, .long w2] P po th := by
  refine ct_of (hs := []) hfl (by decide +kernel) (Or.inl ⟨rfl, rfl⟩) (Nat.le_of_ble_eq_true rfl) ?_
  intro p e s m below meth c C hmg hr hin htab ls hl
  have hl : lv_has ls 4 [(0, .long w0), (2, .long w2)] := hl
  generalize hargs : ([.long w0, .long w2] : List Value).toArray = args at C ⊢
  obtain ⟨hx, hb, hml, hown, hlocks, htr, hT, hK, hSt, hN, hP0⟩ := id C
  have hO : So s.heap s.heap := So.rf
  have hP : Pi D P s.heap := hP0
  unfold wp_Ma_minL at h
  refine lv_lload_n (pc := 0) hx hb d_Ma_minL_0 rfl (lv_at hl 0 rfl) ?_
  refine lv_lload_n (pc := 1) hx hb d_Ma_minL_1 rfl (lv_at hl 1 rfl) ?_
  refine W.lcmp hx hb d_Ma_minL_2 ?_
  refine lv_if_gt (pc := 3) (tgt := 10) hx hb d_Ma_minL_3 (by decide) (fun c101 => ?_) (fun c101 => ?_)
  · replace h := h.1 c101
    refine lv_lload_n (pc := 10) hx hb d_Ma_minL_10 rfl (lv_at hl 1 rfl) ?_
    exact wo_l (pc := 11) hx hb hlocks hr hP0 hO (show 0 + 0 ≤ 0 by omega) (show 0 + 0 ≤ 0 by omega) h d_Ma_minL_11
  · replace h := h.2 c101
    refine lv_lload_n (pc := 6) hx hb d_Ma_minL_6 rfl (lv_at hl 0 rfl) ?_
    refine lv_goto (pc := 7) (tgt := 11) hx hb d_Ma_minL_7 (by decide) ?_
    exact wo_l (pc := 11) hx hb hlocks hr hP0 hO (show 0 + 0 ≤ 0 by omega) (show 0 + 0 ≤ 0 by omega) h d_Ma_minL_11
/-! java/lang/Math.max(II)I -/
abbrev y_Ma_max : MethodName := ⟨"java/lang/Math", "max", "(II)I"⟩
abbrev rm_Ma_max : Room := { frames := 1, cells := 0, slots := 0, locals := 40 }
theorem h_Ma_max : y_Ma_max.cls ≠ "java/lang/invoke/MethodHandle" ∧ y_Ma_max.cls ≠ "java/lang/invoke/VarHandle" := by decide +kernel
theorem n_Ma_max : (parseMethodDescriptor y_Ma_max.desc).map (fun d => d.parameters.length) = some 2 := by decide +kernel
theorem d_Ma_max_0 : decode prog_25_method_65_code 0 = .ok (.iload_n 0, 1) := by decide +kernel
theorem d_Ma_max_1 : decode prog_25_method_65_code 1 = .ok (.iload_n 1, 1) := by decide +kernel
theorem d_Ma_max_2 : decode prog_25_method_65_code 2 = .ok (.if_icmp .lt 7, 3) := by decide +kernel
theorem d_Ma_max_5 : decode prog_25_method_65_code 5 = .ok (.iload_n 0, 1) := by decide +kernel
theorem d_Ma_max_6 : decode prog_25_method_65_code 6 = .ok (.goto 4, 3) := by decide +kernel
theorem d_Ma_max_9 : decode prog_25_method_65_code 9 = .ok (.iload_n 1, 1) := by decide +kernel
theorem d_Ma_max_10 : decode prog_25_method_65_code 10 = .ok (.ireturn, 1) := by decide +kernel
def wp_Ma_max (po : Option Value → Pic → Prop) (th : String → Pic → Prop) (P : Pic) (x0 : Int32) (x1 : Int32) : Prop := ((x0 < x1 → (po (some (.int x1)) P)) ∧ (¬ x0 < x1 → (po (some (.int x0)) P)))
set_option maxHeartbeats 4000000 in
set_option maxRecDepth 100000 in
theorem ct_Ma_max {l : Launch} (hfl : l.flags = flags0) (D : pq_D) {po : Option Value → Pic → Prop} {th : String → Pic → Prop} {P : Pic} {x0 : Int32} {x1 : Int32} (h : wp_Ma_max po th P x0 x1) : CT l D y_Ma_max (.code y_Ma_max prog_25_method_65_code 2 (some .int)) rm_Ma_max true [.int x0, .int x1] P po th := by
  refine ct_of (hs := []) hfl (by decide +kernel) (Or.inl ⟨rfl, rfl⟩) (Nat.le_of_ble_eq_true rfl) ?_
  intro p e s m below meth c C hmg hr hin htab ls hl
  have hl : lv_has ls 2 [(0, .int x0), (1, .int x1)] := hl
  generalize hargs : ([.int x0, .int x1] : List Value).toArray = args at C ⊢
  obtain ⟨hx, hb, hml, hown, hlocks, htr, hT, hK, hSt, hN, hP0⟩ := id C
  have hO : So s.heap s.heap := So.rf
  have hP : Pi D P s.heap := hP0
  unfold wp_Ma_max at h
  refine lv_iload_n (pc := 0) hx hb d_Ma_max_0 rfl (lv_at hl 0 rfl) ?_
  refine lv_iload_n (pc := 1) hx hb d_Ma_max_1 rfl (lv_at hl 1 rfl) ?_
  refine lv_icmp_lt (pc := 2) (tgt := 9) hx hb d_Ma_max_2 (by decide) (fun c101 => ?_) (fun c101 => ?_)
  · replace h := h.1 c101
    refine lv_iload_n (pc := 9) hx hb d_Ma_max_9 rfl (lv_at hl 1 rfl) ?_
    exact wo_i (pc := 10) hx hb hlocks hr hP0 hO (show 0 + 0 ≤ 0 by omega) (show 0 + 0 ≤ 0 by omega) h d_Ma_max_10
  · replace h := h.2 c101
    refine lv_iload_n (pc := 5) hx hb d_Ma_max_5 rfl (lv_at hl 0 rfl) ?_
    refine lv_goto (pc := 6) (tgt := 10) hx hb d_Ma_max_6 (by decide) ?_
    exact wo_i (pc := 10) hx hb hlocks hr hP0 hO (show 0 + 0 ≤ 0 by omega) (show 0 + 0 ≤ 0 by omega) h d_Ma_max_10
/-! jdk/internal/util/Preconditions.checkIndex(IILjava/util/function/BiFunction;)I -/
abbrev y_Pr_checkIndex : MethodName := ⟨"jdk/internal/util/Preconditions", "checkIndex", "(IILjava/util/function/BiFunction;)I"⟩
abbrev rm_Pr_checkIndex : Room := { frames := 1, cells := 0, slots := 0, locals := 40 }
theorem h_Pr_checkIndex : y_Pr_checkIndex.cls ≠ "java/lang/invoke/MethodHandle" ∧ y_Pr_checkIndex.cls ≠ "java/lang/invoke/VarHandle" := by decide +kernel
theorem n_Pr_checkIndex : (parseMethodDescriptor y_Pr_checkIndex.desc).map (fun d => d.parameters.length) = some 3 := by decide +kernel
theorem d_Pr_checkIndex_0 : decode prog_45_method_11_code 0 = .ok (.iload_n 0, 1) := by decide +kernel
theorem d_Pr_checkIndex_1 : decode prog_45_method_11_code 1 = .ok (.ifCond .lt 8, 3) := by decide +kernel
theorem d_Pr_checkIndex_4 : decode prog_45_method_11_code 4 = .ok (.iload_n 0, 1) := by decide +kernel
theorem d_Pr_checkIndex_5 : decode prog_45_method_11_code 5 = .ok (.iload_n 1, 1) := by decide +kernel
theorem d_Pr_checkIndex_6 : decode prog_45_method_11_code 6 = .ok (.if_icmp .lt 10, 3) := by decide +kernel
theorem d_Pr_checkIndex_9 : decode prog_45_method_11_code 9 = .ok (.aload_n 2, 1) := by decide +kernel
theorem d_Pr_checkIndex_10 : decode prog_45_method_11_code 10 = .ok (.iload_n 0, 1) := by decide +kernel
theorem d_Pr_checkIndex_11 : decode prog_45_method_11_code 11 = .ok (.iload_n 1, 1) := by decide +kernel
theorem d_Pr_checkIndex_16 : decode prog_45_method_11_code 16 = .ok (.iload_n 0, 1) := by decide +kernel
theorem d_Pr_checkIndex_17 : decode prog_45_method_11_code 17 = .ok (.ireturn, 1) := by decide +kernel
def wb_Pr_checkIndex_9 (po : Option Value → Pic → Prop) (th : String → Pic → Prop) (P : Pic) (x0 : Int32) (x1 : Int32) : Prop := False
def wp_Pr_checkIndex (po : Option Value → Pic → Prop) (th : String → Pic → Prop) (P : Pic) (x0 : Int32) (x1 : Int32) : Prop := ((x0 < 0 → (wb_Pr_checkIndex_9 po th P x0 x1)) ∧ (¬ x0 < 0 → (((x0 < x1 → (po (some (.int x0)) P)) ∧ (¬ x0 < x1 → (wb_Pr_checkIndex_9 po th P x0 x1))))))
set_option maxHeartbeats 4000000 in
set_option maxRecDepth 100000 in
theorem wk_Pr_checkIndex_9 {p : Program} {l : Launch} {e : Env} {s : State} {m : MethodId} {args : Array Value} {below : List Frame} {meth : Method} {c : Code} {D : pq_D} {P : Pic} {po : Option Value → Pic → Prop} {th : String → Pic → Prop} (hfl : l.flags = flags0) (C : Cx p e s m args meth c prog_45_method_11_code 3 "jdk/internal/util/Preconditions" D P) (hmg : e.platform.magicAccessors = ({} : Platform).magicAccessors) (hr : meth.sig.returnType = (some .int)) (hin : meth.name = "checkIndex") (htab : c.exceptionTable.toList = tableOf []) : ∀ (x0 : Int32) (x1 : Int32) (H : Heap) (cells slots : Nat) (ls : Array Slot), wb_Pr_checkIndex_9 po th P x0 x1 → So s.heap H → lv_has ls 3 [(0, .int x0), (1, .int x1), (2, .null)] → cells + 0 ≤ 0 → slots + 0 ≤ 0 → W p l e rm_Pr_checkIndex s m args below meth c H [] cells slots (mt_MQ below (cq_Q D P true po th) args s 0 0 (cq_free P true)) (F0 m 9 ls []) := by
  intro x0 x1 H cells slots ls h hO hl hcc hss
  obtain ⟨hx, hb, hml, hown, hlocks, htr, hT, hK, hSt, hN, hP0⟩ := id C
  have hP : Pi D P H := So.pi hP0 hO
  unfold wb_Pr_checkIndex_9 at h
  refine lv_aload_nN (pc := 9) hx hb d_Pr_checkIndex_9 rfl (lv_at hl 2 rfl) ?_
  refine lv_iload_n (pc := 10) hx hb d_Pr_checkIndex_10 rfl (lv_at hl 0 rfl) ?_
  refine lv_iload_n (pc := 11) hx hb d_Pr_checkIndex_11 rfl (lv_at hl 1 rfl) ?_
  exact h.elim
set_option maxHeartbeats 4000000 in
set_option maxRecDepth 100000 in
theorem ct_Pr_checkIndex {l : Launch} (hfl : l.flags = flags0) (D : pq_D) {po : Option Value → Pic → Prop} {th : String → Pic → Prop} {P : Pic} {x0 : Int32} {x1 : Int32} (h : wp_Pr_checkIndex po th P x0 x1) : CT l D y_Pr_checkIndex (.code y_Pr_checkIndex prog_45_method_11_code 3 (some .int)) rm_Pr_checkIndex true [.int x0, .int x1, .null] P po th := by
  refine ct_of (hs := []) hfl (by decide +kernel) (Or.inl ⟨rfl, rfl⟩) (Nat.le_of_ble_eq_true rfl) ?_
  intro p e s m below meth c C hmg hr hin htab ls hl
  have hl : lv_has ls 3 [(0, .int x0), (1, .int x1), (2, .null)] := hl
  generalize hargs : ([.int x0, .int x1, .null] : List Value).toArray = args at C ⊢
  obtain ⟨hx, hb, hml, hown, hlocks, htr, hT, hK, hSt, hN, hP0⟩ := id C
  have hO : So s.heap s.heap := So.rf
  have hP : Pi D P s.heap := hP0
  unfold wp_Pr_checkIndex at h
  refine lv_iload_n (pc := 0) hx hb d_Pr_checkIndex_0 rfl (lv_at hl 0 rfl) ?_
  refine lv_if_lt (pc := 1) (tgt := 9) hx hb d_Pr_checkIndex_1 (by decide) (fun c102 => ?_) (fun c102 => ?_)
  · replace h := h.1 c102
    exact wk_Pr_checkIndex_9 hfl C hmg hr hin htab x0 x1 _ _ _ _ h hO (lv_sub hl [0, 1, 2] rfl) (show 0 + 0 ≤ 0 by omega) (show 0 + 0 ≤ 0 by omega)
  · replace h := h.2 c102
    refine lv_iload_n (pc := 4) hx hb d_Pr_checkIndex_4 rfl (lv_at hl 0 rfl) ?_
    refine lv_iload_n (pc := 5) hx hb d_Pr_checkIndex_5 rfl (lv_at hl 1 rfl) ?_
    refine lv_icmp_lt (pc := 6) (tgt := 16) hx hb d_Pr_checkIndex_6 (by decide) (fun c101 => ?_) (fun c101 => ?_)
    · replace h := h.1 c101
      refine lv_iload_n (pc := 16) hx hb d_Pr_checkIndex_16 rfl (lv_at hl 0 rfl) ?_
      exact wo_i (pc := 17) hx hb hlocks hr hP0 hO (show 0 + 0 ≤ 0 by omega) (show 0 + 0 ≤ 0 by omega) h d_Pr_checkIndex_17
    · replace h := h.2 c101
      exact wk_Pr_checkIndex_9 hfl C hmg hr hin htab x0 x1 _ _ _ _ h hO (lv_sub hl [0, 1, 2] rfl) (show 0 + 0 ≤ 0 by omega) (show 0 + 0 ≤ 0 by omega)
/-! java/util/Objects.checkIndex(II)I -/
abbrev y_Oj_checkIndex : MethodName := ⟨"java/util/Objects", "checkIndex", "(II)I"⟩
abbrev rm_Oj_checkIndex : Room := { frames := 2, cells := 0, slots := 0, locals := 62 }
theorem h_Oj_checkIndex : y_Oj_checkIndex.cls ≠ "java/lang/invoke/MethodHandle" ∧ y_Oj_checkIndex.cls ≠ "java/lang/invoke/VarHandle" := by decide +kernel
theorem n_Oj_checkIndex : (parseMethodDescriptor y_Oj_checkIndex.desc).map (fun d => d.parameters.length) = some 2 := by decide +kernel
theorem d_Oj_checkIndex_0 : decode prog_41_method_17_code 0 = .ok (.iload_n 0, 1) := by decide +kernel
theorem d_Oj_checkIndex_1 : decode prog_41_method_17_code 1 = .ok (.iload_n 1, 1) := by decide +kernel
theorem d_Oj_checkIndex_2 : decode prog_41_method_17_code 2 = .ok (.aconst_null, 1) := by decide +kernel
theorem d_Oj_checkIndex_3 : decode prog_41_method_17_code 3 = .ok (.invokestatic 105, 3) := by decide +kernel
theorem d_Oj_checkIndex_6 : decode prog_41_method_17_code 6 = .ok (.ireturn, 1) := by decide +kernel
def wp_Oj_checkIndex (po : Option Value → Pic → Prop) (th : String → Pic → Prop) (P : Pic) (x0 : Int32) (x1 : Int32) : Prop := wp_Pr_checkIndex (cp_i fun x101 _ => po (some (.int x101)) P) th P x0 x1
set_option maxHeartbeats 4000000 in
set_option maxRecDepth 100000 in
theorem ct_Oj_checkIndex {l : Launch} (hfl : l.flags = flags0) (D : pq_D) {po : Option Value → Pic → Prop} {th : String → Pic → Prop} {P : Pic} {x0 : Int32} {x1 : Int32} (h : wp_Oj_checkIndex po th P x0 x1) : CT l D y_Oj_checkIndex (.code y_Oj_checkIndex prog_41_method_17_code 2 (some .int)) rm_Oj_checkIndex true [.int x0, .int x1] P po th := by
  refine ct_of (hs := []) hfl (by decide +kernel) (Or.inl ⟨rfl, rfl⟩) (Nat.le_of_ble_eq_true rfl) ?_
  intro p e s m below meth c C hmg hr hin htab ls hl
  have hl : lv_has ls 2 [(0, .int x0), (1, .int x1)] := hl
  generalize hargs : ([.int x0, .int x1] : List Value).toArray = args at C ⊢
  obtain ⟨hx, hb, hml, hown, hlocks, htr, hT, hK, hSt, hN, hP0⟩ := id C
  have hO : So s.heap s.heap := So.rf
  have hP : Pi D P s.heap := hP0
  unfold wp_Oj_checkIndex at h
  refine lv_iload_n (pc := 0) hx hb d_Oj_checkIndex_0 rfl (lv_at hl 0 rfl) ?_
  refine lv_iload_n (pc := 1) hx hb d_Oj_checkIndex_1 rfl (lv_at hl 1 rfl) ?_
  refine lv_null (pc := 2) hx hb d_Oj_checkIndex_2 ?_
  refine co_i (pc := 3) C (rest := []) (mt_invS (As := [.int x0, .int x1, .null]) hx hb hown (hT _ k_613 _) (hT _ k_614 _) (hT _ k_18 _) (mt_Cd.code (hT _ k_615 #[])) h_Pr_checkIndex n_Pr_checkIndex rfl d_Oj_checkIndex_3) (ct_Pr_checkIndex hfl D h) k_615 k_18 ⟨Nat.le_of_ble_eq_true rfl, Nat.le_of_ble_eq_true rfl⟩ ⟨(show 0 + 0 ≤ 0 by omega), (show 0 + 0 ≤ 0 by omega)⟩ hl.1 d_Oj_checkIndex_3 (Nat.le_of_ble_eq_true rfl) hO (fun x101 H h hO => ?_) (fun xx X H h hX hex hO => ?_)
  · have hP : Pi D P H := So.pi hP0 hO
    exact wo_i (pc := 6) hx hb hlocks hr hP0 hO (show 0 + 0 + 0 ≤ 0 by omega) (show 0 + 0 + 0 ≤ 0 by omega) h d_Oj_checkIndex_6
  · exact cq_outo hlocks (pq_nil htab rfl) (show 0 + 0 + 0 ≤ 0 by omega) (show 0 + 0 + 0 ≤ 0 by omega) hX hex hP0 hO h
/-! jdk/internal/util/ArraysSupport.newLength(III)I -/
abbrev y_Su_newLength : MethodName := ⟨"jdk/internal/util/ArraysSupport", "newLength", "(III)I"⟩
abbrev rm_Su_newLength : Room := { frames := 2, cells := 0, slots := 0, locals := 61 }
theorem h_Su_newLength : y_Su_newLength.cls ≠ "java/lang/invoke/MethodHandle" ∧ y_Su_newLength.cls ≠ "java/lang/invoke/VarHandle" := by decide +kernel
theorem n_Su_newLength : (parseMethodDescriptor y_Su_newLength.desc).map (fun d => d.parameters.length) = some 3 := by decide +kernel
theorem d_Su_newLength_0 : decode prog_44_method_27_code 0 = .ok (.iload_n 0, 1) := by decide +kernel
theorem d_Su_newLength_1 : decode prog_44_method_27_code 1 = .ok (.iload_n 1, 1) := by decide +kernel
theorem d_Su_newLength_2 : decode prog_44_method_27_code 2 = .ok (.iload_n 2, 1) := by decide +kernel
theorem d_Su_newLength_3 : decode prog_44_method_27_code 3 = .ok (.invokestatic 194, 3) := by decide +kernel
theorem d_Su_newLength_6 : decode prog_44_method_27_code 6 = .ok (.iadd, 1) := by decide +kernel
theorem d_Su_newLength_7 : decode prog_44_method_27_code 7 = .ok (.istore_n 3, 1) := by decide +kernel
theorem d_Su_newLength_8 : decode prog_44_method_27_code 8 = .ok (.iconst 0, 1) := by decide +kernel
theorem d_Su_newLength_9 : decode prog_44_method_27_code 9 = .ok (.iload_n 3, 1) := by decide +kernel
theorem d_Su_newLength_10 : decode prog_44_method_27_code 10 = .ok (.if_icmp .ge 11, 3) := by decide +kernel
theorem d_Su_newLength_13 : decode prog_44_method_27_code 13 = .ok (.iload_n 3, 1) := by decide +kernel
theorem d_Su_newLength_14 : decode prog_44_method_27_code 14 = .ok (.ldc 200, 2) := by decide +kernel
theorem d_Su_newLength_16 : decode prog_44_method_27_code 16 = .ok (.if_icmp .gt 5, 3) := by decide +kernel
theorem d_Su_newLength_19 : decode prog_44_method_27_code 19 = .ok (.iload_n 3, 1) := by decide +kernel
theorem d_Su_newLength_20 : decode prog_44_method_27_code 20 = .ok (.ireturn, 1) := by decide +kernel
theorem d_Su_newLength_21 : decode prog_44_method_27_code 21 = .ok (.iload_n 0, 1) := by decide +kernel
theorem d_Su_newLength_22 : decode prog_44_method_27_code 22 = .ok (.iload_n 1, 1) := by decide +kernel
def wb_Su_newLength_21 (po : Option Value → Pic → Prop) (th : String → Pic → Prop) (P : Pic) (x0 : Int32) (x1 : Int32) : Prop := False
def wp_Su_newLength (po : Option Value → Pic → Prop) (th : String → Pic → Prop) (P : Pic) (x0 : Int32) (x1 : Int32) (x2 : Int32) : Prop := wp_Ma_max (cp_i fun x101 _ => ∀ (x102 : Int32), x102 = (x0 + x101) → ((x102 ≤ (0 : Int32) → (wb_Su_newLength_21 po th P x0 x1)) ∧ (¬ x102 ≤ (0 : Int32) → ((((2147483639 : Int32) < x102 → (wb_Su_newLength_21 po th P x0 x1)) ∧ (¬ (2147483639 : Int32) < x102 → (po (some (.int x102)) P))))))) th P x1 x2
set_option maxHeartbeats 4000000 in
set_option maxRecDepth 100000 in
theorem wk_Su_newLength_21 {p : Program} {l : Launch} {e : Env} {s : State} {m : MethodId} {args : Array Value} {below : List Frame} {meth : Method} {c : Code} {D : pq_D} {P : Pic} {po : Option Value → Pic → Prop} {th : String → Pic → Prop} (hfl : l.flags = flags0) (C : Cx p e s m args meth c prog_44_method_27_code 4 "jdk/internal/util/ArraysSupport" D P) (hmg : e.platform.magicAccessors = ({} : Platform).magicAccessors) (hr : meth.sig.returnType = (some .int)) (hin : meth.name = "newLength") (htab : c.exceptionTable.toList = tableOf []) : ∀ (x0 : Int32) (x1 : Int32) (H : Heap) (cells slots : Nat) (ls : Array Slot), wb_Su_newLength_21 po th P x0 x1 → So s.heap H → lv_has ls 4 [(0, .int x0), (1, .int x1)] → cells + 0 ≤ 0 → slots + 0 ≤ 0 → W p l e rm_Su_newLength s m args below meth c H [] cells slots (mt_MQ below (cq_Q D P true po th) args s 0 0 (cq_free P true)) (F0 m 21 ls []) := by
  intro x0 x1 H cells slots ls h hO hl hcc hss
  obtain ⟨hx, hb, hml, hown, hlocks, htr, hT, hK, hSt, hN, hP0⟩ := id C
  have hP : Pi D P H := So.pi hP0 hO
  unfold wb_Su_newLength_21 at h
  refine lv_iload_n (pc := 21) hx hb d_Su_newLength_21 rfl (lv_at hl 0 rfl) ?_
  refine lv_iload_n (pc := 22) hx hb d_Su_newLength_22 rfl (lv_at hl 1 rfl) ?_
  exact h.elim
set_option maxHeartbeats 4000000 in
set_option maxRecDepth 100000 in
theorem ct_Su_newLength {l : Launch} (hfl : l.flags = flags0) (D : pq_D) {po : Option Value → Pic → Prop} {th : String → Pic → Prop} {P : Pic} {x0 : Int32} {x1 : Int32} {x2 : Int32} (h : wp_Su_newLength po th P x0 x1 x2) : CT l D y_Su_newLength (.code y_Su_newLength prog_44_method_27_code 4 (some .int)) rm_Su_newLength true [.int x0, .int x1, .int x2] P po th := by
  refine ct_of (hs := []) hfl (by decide +kernel) (Or.inl ⟨rfl, rfl⟩) (Nat.le_of_ble_eq_true rfl) ?_
  intro p e s m below meth c C hmg hr hin htab ls hl
  have hl : lv_has ls 4 [(0, .int x0), (1, .int x1), (2, .int x2)] := hl
  generalize hargs : ([.int x0, .int x1, .int x2] : List Value).toArray = args at C ⊢
  obtain ⟨hx, hb, hml, hown, hlocks, htr, hT, hK, hSt, hN, hP0⟩ := id C
  have hO : So s.heap s.heap := So.rf
  have hP : Pi D P s.heap := hP0
  unfold wp_Su_newLength at h
  refine lv_iload_n (pc := 0) hx hb d_Su_newLength_0 rfl (lv_at hl 0 rfl) ?_
  refine lv_iload_n (pc := 1) hx hb d_Su_newLength_1 rfl (lv_at hl 1 rfl) ?_
  refine lv_iload_n (pc := 2) hx hb d_Su_newLength_2 rfl (lv_at hl 2 rfl) ?_
  refine co_i (pc := 3) C (rest := [.int x0]) (mt_invS (As := [.int x1, .int x2]) hx hb hown (hT _ k_164 _) (hT _ k_165 _) (hT _ k_15 _) (mt_Cd.code (hT _ k_166 #[])) h_Ma_max n_Ma_max rfl d_Su_newLength_3) (ct_Ma_max hfl D h) k_166 k_15 ⟨Nat.le_of_ble_eq_true rfl, Nat.le_of_ble_eq_true rfl⟩ ⟨(show 0 + 0 ≤ 0 by omega), (show 0 + 0 ≤ 0 by omega)⟩ hl.1 d_Su_newLength_3 (Nat.le_of_ble_eq_true rfl) hO (fun x101 H h hO => ?_) (fun xx X H h hX hex hO => ?_)
  · have hP : Pi D P H := So.pi hP0 hO
    refine lv_iadd (pc := 6) hx hb d_Su_newLength_6 ?_
    refine lv_topi (fun x102 ex102 => ?_)
    replace h := h x102 ex102
    refine lv_istore_n (pc := 7) (lv' := [(3, .int x102), (0, .int x0), (1, .int x1), (2, .int x2)]) hx hb d_Su_newLength_7 rfl hl (by decide) rfl (fun ls hl => ?_)
    refine lv_iconst (pc := 8) (v := 0) hx hb d_Su_newLength_8 (by decide) ?_
    refine lv_iload_n (pc := 9) hx hb d_Su_newLength_9 rfl (lv_at hl 0 rfl) ?_
    refine lv_icmp_ge (pc := 10) (tgt := 21) hx hb d_Su_newLength_10 (by decide) (fun c104 => ?_) (fun c104 => ?_)
    · replace h := h.1 c104
      exact wk_Su_newLength_21 hfl C hmg hr hin htab x0 x1 _ _ _ _ h hO (lv_sub hl [1, 2] rfl) (show 0 + 0 + 0 ≤ 0 by omega) (show 0 + 0 + 0 ≤ 0 by omega)
    · replace h := h.2 c104
      refine lv_iload_n (pc := 13) hx hb d_Su_newLength_13 rfl (lv_at hl 0 rfl) ?_
      refine lv_ldc (pc := 14) hx hb hown (hT _ k_167 _) d_Su_newLength_14 ?_
      refine lv_icmp_gt (pc := 16) (tgt := 21) hx hb d_Su_newLength_16 (by decide) (fun c103 => ?_) (fun c103 => ?_)
      · replace h := h.1 c103
        exact wk_Su_newLength_21 hfl C hmg hr hin htab x0 x1 _ _ _ _ h hO (lv_sub hl [1, 2] rfl) (show 0 + 0 + 0 ≤ 0 by omega) (show 0 + 0 + 0 ≤ 0 by omega)
      · replace h := h.2 c103
        refine lv_iload_n (pc := 19) hx hb d_Su_newLength_19 rfl (lv_at hl 0 rfl) ?_
        exact wo_i (pc := 20) hx hb hlocks hr hP0 hO (show 0 + 0 + 0 ≤ 0 by omega) (show 0 + 0 + 0 ≤ 0 by omega) h d_Su_newLength_20
  · exact cq_outo hlocks (pq_nil htab rfl) (show 0 + 0 + 0 ≤ 0 by omega) (show 0 + 0 + 0 ≤ 0 by omega) hX hex hP0 hO h
/-! java/util/ArrayList.size()I -/
abbrev y_Ar_size : MethodName := ⟨"java/util/ArrayList", "size", "()I"⟩
abbrev rm_Ar_size : Room := { frames := 1, cells := 0, slots := 0, locals := 40 }
theorem h_Ar_size : y_Ar_size.cls ≠ "java/lang/invoke/MethodHandle" ∧ y_Ar_size.cls ≠ "java/lang/invoke/VarHandle" := by decide +kernel
theorem n_Ar_size : (parseMethodDescriptor y_Ar_size.desc).map (fun d => d.parameters.length) = some 0 := by decide +kernel
theorem d_Ar_size_0 : decode prog_36_method_8_code 0 = .ok (.aload_n 0, 1) := by decide +kernel
theorem d_Ar_size_1 : decode prog_36_method_8_code 1 = .ok (.getfield 48, 3) := by decide +kernel
theorem d_Ar_size_4 : decode prog_36_method_8_code 4 = .ok (.ireturn, 1) := by decide +kernel
def wp_Ar_size (po : Option Value → Pic → Prop) (th : String → Pic → Prop) (P : Pic) (a0 : Nat) : Prop := p_k P a0 = 14 ∧ po (some (.int (p_i P 521 a0))) P
set_option maxHeartbeats 4000000 in
set_option maxRecDepth 100000 in
theorem ct_Ar_size {l : Launch} (hfl : l.flags = flags0) (D : pq_D) {po : Option Value → Pic → Prop} {th : String → Pic → Prop} {P : Pic} {a0 : Nat} (h : wp_Ar_size po th P a0) : CT l D y_Ar_size (.code y_Ar_size prog_36_method_8_code 1 (some .int)) rm_Ar_size true [.ref a0] P po th := by
  refine ct_of (hs := []) hfl (by decide +kernel) (Or.inl ⟨rfl, rfl⟩) (Nat.le_of_ble_eq_true rfl) ?_
  intro p e s m below meth c C hmg hr hin htab ls hl
  have hl : lv_has ls 1 [(0, .ref a0)] := hl
  generalize hargs : ([.ref a0] : List Value).toArray = args at C ⊢
  obtain ⟨hx, hb, hml, hown, hlocks, htr, hT, hK, hSt, hN, hP0⟩ := id C
  have L48_13 : pq_fl s m args 48 13 1 := ⟨_, "java/util/ArrayList", "java/util/ArrayList", rfl, by decide, hown, Or.inl (hT _ k_381 _), (fun _ z => z)⟩
  have hO : So s.heap s.heap := So.rf
  have hP : Pi D P s.heap := hP0
  unfold wp_Ar_size at h
  refine lv_aload_n (pc := 0) hx hb d_Ar_size_0 rfl (lv_at hl 0 rfl) ?_
  obtain ⟨hk101, h⟩ := h
  refine pq_geti (pc := 1) (f := 521) hx hb hT hK hP L48_13 hk101 rfl d_Ar_size_1 ?_
  exact wo_i (pc := 4) hx hb hlocks hr hP0 hO (show 0 + 0 ≤ 0 by omega) (show 0 + 0 ≤ 0 by omega) h d_Ar_size_4
/-! java/util/ArrayList.isEmpty()Z -/
abbrev y_Ar_isEmpty : MethodName := ⟨"java/util/ArrayList", "isEmpty", "()Z"⟩
abbrev rm_Ar_isEmpty : Room := { frames := 1, cells := 0, slots := 0, locals := 40 }
theorem h_Ar_isEmpty : y_Ar_isEmpty.cls ≠ "java/lang/invoke/MethodHandle" ∧ y_Ar_isEmpty.cls ≠ "java/lang/invoke/VarHandle" := by decide +kernel
theorem n_Ar_isEmpty : (parseMethodDescriptor y_Ar_isEmpty.desc).map (fun d => d.parameters.length) = some 0 := by decide +kernel
theorem d_Ar_isEmpty_0 : decode prog_36_method_9_code 0 = .ok (.aload_n 0, 1) := by decide +kernel
theorem d_Ar_isEmpty_1 : decode prog_36_method_9_code 1 = .ok (.getfield 48, 3) := by decide +kernel
theorem d_Ar_isEmpty_4 : decode prog_36_method_9_code 4 = .ok (.ifCond .ne 7, 3) := by decide +kernel
theorem d_Ar_isEmpty_7 : decode prog_36_method_9_code 7 = .ok (.iconst 1, 1) := by decide +kernel
theorem d_Ar_isEmpty_8 : decode prog_36_method_9_code 8 = .ok (.goto 4, 3) := by decide +kernel
theorem d_Ar_isEmpty_11 : decode prog_36_method_9_code 11 = .ok (.iconst 0, 1) := by decide +kernel
theorem d_Ar_isEmpty_12 : decode prog_36_method_9_code 12 = .ok (.ireturn, 1) := by decide +kernel
def wp_Ar_isEmpty (po : Option Value → Pic → Prop) (th : String → Pic → Prop) (P : Pic) (a0 : Nat) : Prop := p_k P a0 = 14 ∧ ((¬ (p_i P 521 a0) = 0 → (po (some (.int (0 : Int32))) P)) ∧ ((p_i P 521 a0) = 0 → (po (some (.int (1 : Int32))) P)))
set_option maxHeartbeats 4000000 in
set_option maxRecDepth 100000 in
theorem ct_Ar_isEmpty {l : Launch} (hfl : l.flags = flags0) (D : pq_D) {po : Option Value → Pic → Prop} {th : String → Pic → Prop} {P : Pic} {a0 : Nat} (h : wp_Ar_isEmpty po th P a0) : CT l D y_Ar_isEmpty (.code y_Ar_isEmpty prog_36_method_9_code 1 (some .boolean)) rm_Ar_isEmpty true [.ref a0] P po th := by
  refine ct_of (hs := []) hfl (by decide +kernel) (Or.inl ⟨rfl, rfl⟩) (Nat.le_of_ble_eq_true rfl) ?_
  intro p e s m below meth c C hmg hr hin htab ls hl
  have hl : lv_has ls 1 [(0, .ref a0)] := hl
  generalize hargs : ([.ref a0] : List Value).toArray = args at C ⊢
  obtain ⟨hx, hb, hml, hown, hlocks, htr, hT, hK, hSt, hN, hP0⟩ := id C
  have L48_13 : pq_fl s m args 48 13 1 := ⟨_, "java/util/ArrayList", "java/util/ArrayList", rfl, by decide, hown, Or.inl (hT _ k_381 _), (fun _ z => z)⟩
  have hO : So s.heap s.heap := So.rf
  have hP : Pi D P s.heap := hP0
  unfold wp_Ar_isEmpty at h
  refine lv_aload_n (pc := 0) hx hb d_Ar_isEmpty_0 rfl (lv_at hl 0 rfl) ?_
  obtain ⟨hk101, h⟩ := h
  refine pq_geti (pc := 1) (f := 521) hx hb hT hK hP L48_13 hk101 rfl d_Ar_isEmpty_1 ?_
  refine lv_if_ne (pc := 4) (tgt := 11) hx hb d_Ar_isEmpty_4 (by decide) (fun c102 => ?_) (fun c102 => ?_)
  · replace h := h.1 c102
    refine lv_iconst (pc := 11) (v := 0) hx hb d_Ar_isEmpty_11 (by decide) ?_
    exact wo_z (pc := 12) hx hb hlocks hr hP0 hO (show 0 + 0 ≤ 0 by omega) (show 0 + 0 ≤ 0 by omega) (by decide) h d_Ar_isEmpty_12
  · replace h := h.2 c102
    refine lv_iconst (pc := 7) (v := 1) hx hb d_Ar_isEmpty_7 (by decide) ?_
    refine lv_goto (pc := 8) (tgt := 12) hx hb d_Ar_isEmpty_8 (by decide) ?_
    exact wo_z (pc := 12) hx hb hlocks hr hP0 hO (show 0 + 0 ≤ 0 by omega) (show 0 + 0 ≤ 0 by omega) (by decide) h d_Ar_isEmpty_12
/-! java/util/ArrayList.elementData(I)Ljava/lang/Object; -/
abbrev y_Ar_elementData : MethodName := ⟨"java/util/ArrayList", "elementData", "(I)Ljava/lang/Object;"⟩
abbrev rm_Ar_elementData : Room := { frames := 1, cells := 0, slots := 0, locals := 40 }
theorem h_Ar_elementData : y_Ar_elementData.cls ≠ "java/lang/invoke/MethodHandle" ∧ y_Ar_elementData.cls ≠ "java/lang/invoke/VarHandle" := by decide +kernel
theorem n_Ar_elementData : (parseMethodDescriptor y_Ar_elementData.desc).map (fun d => d.parameters.length) = some 1 := by decide +kernel
theorem d_Ar_elementData_0 : decode prog_36_method_18_code 0 = .ok (.aload_n 0, 1) := by decide +kernel
theorem d_Ar_elementData_1 : decode prog_36_method_18_code 1 = .ok (.getfield 9, 3) := by decide +kernel
theorem d_Ar_elementData_4 : decode prog_36_method_18_code 4 = .ok (.iload_n 1, 1) := by decide +kernel
theorem d_Ar_elementData_5 : decode prog_36_method_18_code 5 = .ok (.aaload, 1) := by decide +kernel
theorem d_Ar_elementData_6 : decode prog_36_method_18_code 6 = .ok (.areturn, 1) := by decide +kernel
def wp_Ar_elementData (po : Option Value → Pic → Prop) (th : String → Pic → Prop) (P : Pic) (a0 : Nat) (x1 : Int32) : Prop := p_k P a0 = 14 ∧ ∃ a102, p_r P 520 a0 = some a102 ∧ (p_k P a102 = 104 ∨ p_k P a102 = 105) ∧ vp_in x1 (p_n P a102) ∧ ∃ a105, p_aq P a102 (Int32.toNatClampNeg x1) = some a105 ∧ po (some (.ref a105)) P
set_option maxHeartbeats 4000000 in
set_option maxRecDepth 100000 in
theorem ct_Ar_elementData {l : Launch} (hfl : l.flags = flags0) (D : pq_D) {po : Option Value → Pic → Prop} {th : String → Pic → Prop} {P : Pic} {a0 : Nat} {x1 : Int32} (h : wp_Ar_elementData po th P a0 x1) : CT l D y_Ar_elementData (.code y_Ar_elementData prog_36_method_18_code 2 (some (.object "java/lang/Object"))) rm_Ar_elementData true [.ref a0, .int x1] P po th := by
  refine ct_of (hs := []) hfl (by decide +kernel) (Or.inl ⟨rfl, rfl⟩) (Nat.le_of_ble_eq_true rfl) ?_
  intro p e s m below meth c C hmg hr hin htab ls hl
  have hl : lv_has ls 2 [(0, .ref a0), (1, .int x1)] := hl
  generalize hargs : ([.ref a0, .int x1] : List Value).toArray = args at C ⊢
  obtain ⟨hx, hb, hml, hown, hlocks, htr, hT, hK, hSt, hN, hP0⟩ := id C
  have L9_13 : pq_fl s m args 9 13 0 := ⟨_, "java/util/ArrayList", "java/util/ArrayList", rfl, by decide, hown, Or.inl (hT _ k_380 _), (fun _ z => z)⟩
  have hO : So s.heap s.heap := So.rf
  have hP : Pi D P s.heap := hP0
  unfold wp_Ar_elementData at h
  refine lv_aload_n (pc := 0) hx hb d_Ar_elementData_0 rfl (lv_at hl 0 rfl) ?_
  obtain ⟨hk101, h⟩ := h
  obtain ⟨a102, ea102, h⟩ := h
  refine pq_geta (pc := 1) (f := 520) hx hb hT hK hP L9_13 hk101 rfl ea102 d_Ar_elementData_1 ?_
  refine lv_iload_n (pc := 4) hx hb d_Ar_elementData_4 rfl (lv_at hl 1 rfl) ?_
  obtain ⟨hk103, h⟩ := h
  obtain ⟨hi104, h⟩ := h
  obtain ⟨a105, ea105, h⟩ := h
  refine pq_aalda (pc := 5) hx hb hK hP hk103 hi104 ea105 d_Ar_elementData_5 ?_
  exact wo_a (pc := 6) hx hb hlocks hr (Or.inl ⟨_, rfl⟩) (Or.inr ⟨_, rfl⟩) hP0 hO (show 0 + 0 ≤ 0 by omega) (show 0 + 0 ≤ 0 by omega) h d_Ar_elementData_6
/-! java/util/ArrayList.get(I)Ljava/lang/Object; -/
abbrev y_Ar_get : MethodName := ⟨"java/util/ArrayList", "get", "(I)Ljava/lang/Object;"⟩
abbrev rm_Ar_get : Room := { frames := 3, cells := 0, slots := 0, locals := 83 }
theorem h_Ar_get : y_Ar_get.cls ≠ "java/lang/invoke/MethodHandle" ∧ y_Ar_get.cls ≠ "java/lang/invoke/VarHandle" := by decide +kernel
theorem n_Ar_get : (parseMethodDescriptor y_Ar_get.desc).map (fun d => d.parameters.length) = some 1 := by decide +kernel
theorem d_Ar_get_0 : decode prog_36_method_20_code 0 = .ok (.iload_n 1, 1) := by decide +kernel
theorem d_Ar_get_1 : decode prog_36_method_20_code 1 = .ok (.aload_n 0, 1) := by decide +kernel
theorem d_Ar_get_2 : decode prog_36_method_20_code 2 = .ok (.getfield 48, 3) := by decide +kernel
theorem d_Ar_get_5 : decode prog_36_method_20_code 5 = .ok (.invokestatic 118, 3) := by decide +kernel
theorem d_Ar_get_8 : decode prog_36_method_20_code 8 = .ok (.pop, 1) := by decide +kernel
theorem d_Ar_get_9 : decode prog_36_method_20_code 9 = .ok (.aload_n 0, 1) := by decide +kernel
theorem d_Ar_get_10 : decode prog_36_method_20_code 10 = .ok (.iload_n 1, 1) := by decide +kernel
theorem d_Ar_get_11 : decode prog_36_method_20_code 11 = .ok (.invokevirtual 123, 3) := by decide +kernel
theorem d_Ar_get_14 : decode prog_36_method_20_code 14 = .ok (.areturn, 1) := by decide +kernel
def wp_Ar_get (po : Option Value → Pic → Prop) (th : String → Pic → Prop) (P : Pic) (a0 : Nat) (x1 : Int32) : Prop := p_k P a0 = 14 ∧ wp_Oj_checkIndex (cp_i fun x102 _ => wp_Ar_elementData (cp_a fun a103 _ => po (some (.ref a103)) P) th P a0 x1) th P x1 (p_i P 521 a0)
set_option maxHeartbeats 4000000 in
set_option maxRecDepth 100000 in
theorem ct_Ar_get {l : Launch} (hfl : l.flags = flags0) (D : pq_D) {po : Option Value → Pic → Prop} {th : String → Pic → Prop} {P : Pic} {a0 : Nat} {x1 : Int32} (h : wp_Ar_get po th P a0 x1) : CT l D y_Ar_get (.code y_Ar_get prog_36_method_20_code 2 (some (.object "java/lang/Object"))) rm_Ar_get true [.ref a0, .int x1] P po th := by
  refine ct_of (hs := []) hfl (by decide +kernel) (Or.inl ⟨rfl, rfl⟩) (Nat.le_of_ble_eq_true rfl) ?_
  intro p e s m below meth c C hmg hr hin htab ls hl
  have hl : lv_has ls 2 [(0, .ref a0), (1, .int x1)] := hl
  generalize hargs : ([.ref a0, .int x1] : List Value).toArray = args at C ⊢
  obtain ⟨hx, hb, hml, hown, hlocks, htr, hT, hK, hSt, hN, hP0⟩ := id C
  have L48_13 : pq_fl s m args 48 13 1 := ⟨_, "java/util/ArrayList", "java/util/ArrayList", rfl, by decide, hown, Or.inl (hT _ k_381 _), (fun _ z => z)⟩
  have hO : So s.heap s.heap := So.rf
  have hP : Pi D P s.heap := hP0
  unfold wp_Ar_get at h
  refine lv_iload_n (pc := 0) hx hb d_Ar_get_0 rfl (lv_at hl 1 rfl) ?_
  refine lv_aload_n (pc := 1) hx hb d_Ar_get_1 rfl (lv_at hl 0 rfl) ?_
  obtain ⟨hk101, h⟩ := h
  refine pq_geti (pc := 2) (f := 521) hx hb hT hK hP L48_13 hk101 rfl d_Ar_get_2 ?_
  refine co_i (pc := 5) C (rest := []) (mt_invS (As := [.int x1, .int (p_i P 521 a0)]) hx hb hown (hT _ k_610 _) (hT _ k_611 _) (hT _ k_29 _) (mt_Cd.code (hT _ k_612 #[])) h_Oj_checkIndex n_Oj_checkIndex rfl d_Ar_get_5) (ct_Oj_checkIndex hfl D h) k_612 k_29 ⟨Nat.le_of_ble_eq_true rfl, Nat.le_of_ble_eq_true rfl⟩ ⟨(show 0 + 0 ≤ 0 by omega), (show 0 + 0 ≤ 0 by omega)⟩ hl.1 d_Ar_get_5 (Nat.le_of_ble_eq_true rfl) hO (fun x102 H h hO => ?_) (fun xx X H h hX hex hO => ?_)
  · have hP : Pi D P H := So.pi hP0 hO
    refine lv_pop (pc := 8) hx hb d_Ar_get_8 rfl ?_
    refine lv_aload_n (pc := 9) hx hb d_Ar_get_9 rfl (lv_at hl 0 rfl) ?_
    refine lv_iload_n (pc := 10) hx hb d_Ar_get_10 rfl (lv_at hl 1 rfl) ?_
    refine co_a (pc := 11) C (rest := []) (mt_invV (As := [.int x1]) hx hb hown (hT _ k_616 _) (hT _ k_617 _) (hT _ k_618 _) (mt_Cd.code (hT _ k_619 #[])) h_Ar_elementData (pq_recv hK hP hk101 rfl) n_Ar_elementData rfl d_Ar_get_11) (ct_Ar_elementData hfl D h) k_619 k_5 ⟨Nat.le_of_ble_eq_true rfl, Nat.le_of_ble_eq_true rfl⟩ ⟨(show 0 + 0 + 0 ≤ 0 by omega), (show 0 + 0 + 0 ≤ 0 by omega)⟩ hl.1 d_Ar_get_11 (Nat.le_of_ble_eq_true rfl) hO (fun a103 H h hO => ?_) (fun xx X H h hX hex hO => ?_)
    · have hP : Pi D P H := So.pi hP0 hO
      exact wo_a (pc := 14) hx hb hlocks hr (Or.inl ⟨_, rfl⟩) (Or.inr ⟨_, rfl⟩) hP0 hO (show 0 + 0 + 0 + 0 ≤ 0 by omega) (show 0 + 0 + 0 + 0 ≤ 0 by omega) h d_Ar_get_14
    · exact cq_outo hlocks (pq_nil htab rfl) (show 0 + 0 + 0 + 0 ≤ 0 by omega) (show 0 + 0 + 0 + 0 ≤ 0 by omega) hX hex hP0 hO h
  · exact cq_outo hlocks (pq_nil htab rfl) (show 0 + 0 + 0 ≤ 0 by omega) (show 0 + 0 + 0 ≤ 0 by omega) hX hex hP0 hO h
/-! java/util/ArrayList.set(ILjava/lang/Object;)Ljava/lang/Object; -/
abbrev y_Ar_set : MethodName := ⟨"java/util/ArrayList", "set", "(ILjava/lang/Object;)Ljava/lang/Object;"⟩
abbrev rm_Ar_set : Room := { frames := 3, cells := 0, slots := 0, locals := 83 }
theorem h_Ar_set : y_Ar_set.cls ≠ "java/lang/invoke/MethodHandle" ∧ y_Ar_set.cls ≠ "java/lang/invoke/VarHandle" := by decide +kernel
theorem n_Ar_set : (parseMethodDescriptor y_Ar_set.desc).map (fun d => d.parameters.length) = some 2 := by decide +kernel
theorem d_Ar_set_0 : decode prog_36_method_23_code 0 = .ok (.iload_n 1, 1) := by decide +kernel
theorem d_Ar_set_1 : decode prog_36_method_23_code 1 = .ok (.aload_n 0, 1) := by decide +kernel
theorem d_Ar_set_2 : decode prog_36_method_23_code 2 = .ok (.getfield 48, 3) := by decide +kernel
theorem d_Ar_set_5 : decode prog_36_method_23_code 5 = .ok (.invokestatic 118, 3) := by decide +kernel
theorem d_Ar_set_8 : decode prog_36_method_23_code 8 = .ok (.pop, 1) := by decide +kernel
theorem d_Ar_set_9 : decode prog_36_method_23_code 9 = .ok (.aload_n 0, 1) := by decide +kernel
theorem d_Ar_set_10 : decode prog_36_method_23_code 10 = .ok (.iload_n 1, 1) := by decide +kernel
theorem d_Ar_set_11 : decode prog_36_method_23_code 11 = .ok (.invokevirtual 123, 3) := by decide +kernel
theorem d_Ar_set_14 : decode prog_36_method_23_code 14 = .ok (.astore_n 3, 1) := by decide +kernel
theorem d_Ar_set_15 : decode prog_36_method_23_code 15 = .ok (.aload_n 0, 1) := by decide +kernel
theorem d_Ar_set_16 : decode prog_36_method_23_code 16 = .ok (.getfield 9, 3) := by decide +kernel
theorem d_Ar_set_19 : decode prog_36_method_23_code 19 = .ok (.iload_n 1, 1) := by decide +kernel
theorem d_Ar_set_20 : decode prog_36_method_23_code 20 = .ok (.aload_n 2, 1) := by decide +kernel
theorem d_Ar_set_21 : decode prog_36_method_23_code 21 = .ok (.aastore, 1) := by decide +kernel
theorem d_Ar_set_22 : decode prog_36_method_23_code 22 = .ok (.aload_n 3, 1) := by decide +kernel
theorem d_Ar_set_23 : decode prog_36_method_23_code 23 = .ok (.areturn, 1) := by decide +kernel
def wp_Ar_set (po : Option Value → Pic → Prop) (th : String → Pic → Prop) (P : Pic) (a0 : Nat) (x1 : Int32) (a2 : Nat) : Prop := p_k P a0 = 14 ∧ wp_Oj_checkIndex (cp_i fun x102 _ => wp_Ar_elementData (cp_a fun a103 _ => ∃ a104, p_r P 520 a0 = some a104 ∧ p_k P a104 = 104 ∧ Ob (p_k P a2) ∧ vp_in x1 (p_n P a104) ∧ po (some (.ref a103)) (s_aq P a104 (Int32.toNatClampNeg x1) (some a2))) th P a0 x1) th P x1 (p_i P 521 a0)
set_option maxHeartbeats 4000000 in
set_option maxRecDepth 100000 in
theorem ct_Ar_set {l : Launch} (hfl : l.flags = flags0) (D : pq_D) {po : Option Value → Pic → Prop} {th : String → Pic → Prop} {P : Pic} {a0 : Nat} {x1 : Int32} {a2 : Nat} (h : wp_Ar_set po th P a0 x1 a2) : CT l D y_Ar_set (.code y_Ar_set prog_36_method_23_code 4 (some (.object "java/lang/Object"))) rm_Ar_set false [.ref a0, .int x1, .ref a2] P po th := by
  refine ct_of (hs := []) hfl (by decide +kernel) (Or.inl ⟨rfl, rfl⟩) (Nat.le_of_ble_eq_true rfl) ?_
  intro p e s m below meth c C hmg hr hin htab ls hl
  have hl : lv_has ls 4 [(0, .ref a0), (1, .int x1), (2, .ref a2)] := hl
  generalize hargs : ([.ref a0, .int x1, .ref a2] : List Value).toArray = args at C ⊢
  obtain ⟨hx, hb, hml, hown, hlocks, htr, hT, hK, hSt, hN, hP0⟩ := id C
  have L48_13 : pq_fl s m args 48 13 1 := ⟨_, "java/util/ArrayList", "java/util/ArrayList", rfl, by decide, hown, Or.inl (hT _ k_381 _), (fun _ z => z)⟩
  have L9_13 : pq_fl s m args 9 13 0 := ⟨_, "java/util/ArrayList", "java/util/ArrayList", rfl, by decide, hown, Or.inl (hT _ k_380 _), (fun _ z => z)⟩
  have hP : Pi D P s.heap := hP0
  have hS : Sg (cq_A P s) s.heap s.heap P [] := Sg.start hP0
  unfold wp_Ar_set at h
  refine lv_iload_n (pc := 0) hx hb d_Ar_set_0 rfl (lv_at hl 1 rfl) ?_
  refine lv_aload_n (pc := 1) hx hb d_Ar_set_1 rfl (lv_at hl 0 rfl) ?_
  obtain ⟨hk101, h⟩ := h
  refine pq_geti (pc := 2) (f := 521) hx hb hT hK hP L48_13 hk101 rfl d_Ar_set_2 ?_
  refine cr_i (pc := 5) C (rest := []) (mt_invS (As := [.int x1, .int (p_i P 521 a0)]) hx hb hown (hT _ k_610 _) (hT _ k_611 _) (hT _ k_29 _) (mt_Cd.code (hT _ k_612 #[])) h_Oj_checkIndex n_Oj_checkIndex rfl d_Ar_set_5) (ct_Oj_checkIndex hfl D h) k_612 k_29 ⟨Nat.le_of_ble_eq_true rfl, Nat.le_of_ble_eq_true rfl⟩ ⟨(show 0 + 0 ≤ 0 by omega), (show 0 + 0 ≤ 0 by omega)⟩ hl.1 d_Ar_set_5 (Nat.le_of_ble_eq_true rfl) hP hS (fun x102 H locs h hP hS => ?_) (fun xx X H locs h hX hex hP hS => ?_)
  · refine lv_pop (pc := 8) hx hb d_Ar_set_8 rfl ?_
    refine lv_aload_n (pc := 9) hx hb d_Ar_set_9 rfl (lv_at hl 0 rfl) ?_
    refine lv_iload_n (pc := 10) hx hb d_Ar_set_10 rfl (lv_at hl 1 rfl) ?_
    refine cr_a (pc := 11) C (rest := []) (mt_invV (As := [.int x1]) hx hb hown (hT _ k_616 _) (hT _ k_617 _) (hT _ k_618 _) (mt_Cd.code (hT _ k_619 #[])) h_Ar_elementData (pq_recv hK hP hk101 rfl) n_Ar_elementData rfl d_Ar_set_11) (ct_Ar_elementData hfl D h) k_619 k_5 ⟨Nat.le_of_ble_eq_true rfl, Nat.le_of_ble_eq_true rfl⟩ ⟨(show 0 + 0 + 0 ≤ 0 by omega), (show 0 + 0 + 0 ≤ 0 by omega)⟩ hl.1 d_Ar_set_11 (Nat.le_of_ble_eq_true rfl) hP hS (fun a103 H locs h hP hS => ?_) (fun xx X H locs h hX hex hP hS => ?_)
    · refine lv_astore_n (pc := 14) (lv' := [(3, .ref a103), (0, .ref a0), (1, .int x1), (2, .ref a2)]) hx hb d_Ar_set_14 rfl hl (by decide) rfl (fun ls hl => ?_)
      refine lv_aload_n (pc := 15) hx hb d_Ar_set_15 rfl (lv_at hl 1 rfl) ?_
      obtain ⟨a104, ea104, h⟩ := h
      refine pq_geta (pc := 16) (f := 520) hx hb hT hK hP L9_13 hk101 rfl ea104 d_Ar_set_16 ?_
      refine lv_iload_n (pc := 19) hx hb d_Ar_set_19 rfl (lv_at hl 2 rfl) ?_
      refine lv_aload_n (pc := 20) hx hb d_Ar_set_20 rfl (lv_at hl 3 rfl) ?_
      obtain ⟨hk106, h⟩ := h
      obtain ⟨ho107, h⟩ := h
      obtain ⟨hi105, h⟩ := h
      refine pq_aastO (pc := 21) hx hb hT hK hP hS hk106 ho107 hi105 d_Ar_set_21 (fun H locs hP hS => ?_)
      have hk101 : p_k (s_aq P a104 (Int32.toNatClampNeg x1) (some a2)) a0 = 14 := by rw [pk_aq]; exact hk101
      have hk106 : p_k (s_aq P a104 (Int32.toNatClampNeg x1) (some a2)) a104 = 104 := by rw [pk_aq]; exact hk106
      refine lv_aload_n (pc := 22) hx hb d_Ar_set_22 rfl (lv_at hl 0 rfl) ?_
      exact we_a (pc := 23) hx hb hlocks hr (Or.inl ⟨_, rfl⟩) (Or.inr ⟨_, rfl⟩) hP hS (show 0 + 0 + 0 + 0 ≤ 0 by omega) (show 0 + 0 + 0 + 0 ≤ 0 by omega) h d_Ar_set_23
    · exact cq_out hlocks (pq_nil htab rfl) (show 0 + 0 + 0 + 0 ≤ 0 by omega) (show 0 + 0 + 0 + 0 ≤ 0 by omega) hX hex hP hS h
  · exact cq_out hlocks (pq_nil htab rfl) (show 0 + 0 + 0 ≤ 0 by omega) (show 0 + 0 + 0 ≤ 0 by omega) hX hex hP hS h
/-! java/util/AbstractCollection.<init>()V -/
abbrev y_Ac_init : MethodName := ⟨"java/util/AbstractCollection", "<init>", "()V"⟩
abbrev rm_Ac_init : Room := { frames := 1, cells := 0, slots := 0, locals := 40 }
theorem h_Ac_init : y_Ac_init.cls ≠ "java/lang/invoke/MethodHandle" ∧ y_Ac_init.cls ≠ "java/lang/invoke/VarHandle" := by decide +kernel
theorem n_Ac_init : (parseMethodDescriptor y_Ac_init.desc).map (fun d => d.parameters.length) = some 0 := by decide +kernel
theorem d_Ac_init_0 : decode prog_34_method_1_code 0 = .ok (.aload_n 0, 1) := by decide +kernel
theorem d_Ac_init_1 : decode prog_34_method_1_code 1 = .ok (.invokespecial 1, 3) := by decide +kernel
theorem d_Ac_init_4 : decode prog_34_method_1_code 4 = .ok (.return_, 1) := by decide +kernel
def wp_Ac_init (po : Option Value → Pic → Prop) (th : String → Pic → Prop) (P : Pic) (a0 : Nat) : Prop := po none P
set_option maxHeartbeats 4000000 in
set_option maxRecDepth 100000 in
theorem ct_Ac_init {l : Launch} (hfl : l.flags = flags0) (D : pq_D) {po : Option Value → Pic → Prop} {th : String → Pic → Prop} {P : Pic} {a0 : Nat} (h : wp_Ac_init po th P a0) : CT l D y_Ac_init (.code y_Ac_init prog_34_method_1_code 1 none) rm_Ac_init true [.ref a0] P po th := by
  refine ct_of (hs := []) hfl (by decide +kernel) (Or.inl ⟨rfl, rfl⟩) (Nat.le_of_ble_eq_true rfl) ?_
  intro p e s m below meth c C hmg hr hin htab ls hl
  have hl : lv_has ls 1 [(0, .ref a0)] := hl
  generalize hargs : ([.ref a0] : List Value).toArray = args at C ⊢
  obtain ⟨hx, hb, hml, hown, hlocks, htr, hT, hK, hSt, hN, hP0⟩ := id C
  have hO : So s.heap s.heap := So.rf
  have hP : Pi D P s.heap := hP0
  unfold wp_Ac_init at h
  refine lv_aload_n (pc := 0) hx hb d_Ac_init_0 rfl (lv_at hl 0 rfl) ?_
  refine W.objInit hx hb hown (hT _ k_62 _) (hT _ k_43 _) (hT _ k_44 _) rfl (by rw [hml]; exact hl.1) rfl d_Ac_init_1 (Nat.le_of_ble_eq_true rfl) (Nat.le_of_ble_eq_true rfl) ?_
  refine W.eq (g2 := F0 m 4 ls []) rfl ?_
  exact wo_v (pc := 4) hx hb hlocks hr hP0 hO (show 0 + 0 ≤ 0 by omega) (show 0 + 0 ≤ 0 by omega) h d_Ac_init_4
/-! java/util/AbstractList.<init>()V -/
abbrev y_Al_init : MethodName := ⟨"java/util/AbstractList", "<init>", "()V"⟩
abbrev rm_Al_init : Room := { frames := 2, cells := 0, slots := 0, locals := 60 }
theorem h_Al_init : y_Al_init.cls ≠ "java/lang/invoke/MethodHandle" ∧ y_Al_init.cls ≠ "java/lang/invoke/VarHandle" := by decide +kernel
theorem n_Al_init : (parseMethodDescriptor y_Al_init.desc).map (fun d => d.parameters.length) = some 0 := by decide +kernel
theorem d_Al_init_0 : decode prog_35_method_1_code 0 = .ok (.aload_n 0, 1) := by decide +kernel
theorem d_Al_init_1 : decode prog_35_method_1_code 1 = .ok (.invokespecial 1, 3) := by decide +kernel
theorem d_Al_init_4 : decode prog_35_method_1_code 4 = .ok (.aload_n 0, 1) := by decide +kernel
theorem d_Al_init_5 : decode prog_35_method_1_code 5 = .ok (.iconst 0, 1) := by decide +kernel
theorem d_Al_init_6 : decode prog_35_method_1_code 6 = .ok (.putfield 7, 3) := by decide +kernel
theorem d_Al_init_9 : decode prog_35_method_1_code 9 = .ok (.return_, 1) := by decide +kernel
def wp_Al_init (po : Option Value → Pic → Prop) (th : String → Pic → Prop) (P : Pic) (a0 : Nat) : Prop := wp_Ac_init (cp_v fun _ => p_k P a0 = 14 ∧ po none (s_i P 522 a0 (0 : Int32))) th P a0
set_option maxHeartbeats 4000000 in
set_option maxRecDepth 100000 in
theorem ct_Al_init {l : Launch} (hfl : l.flags = flags0) (D : pq_D) {po : Option Value → Pic → Prop} {th : String → Pic → Prop} {P : Pic} {a0 : Nat} (h : wp_Al_init po th P a0) : CT l D y_Al_init (.code y_Al_init prog_35_method_1_code 1 none) rm_Al_init false [.ref a0] P po th := by
  refine ct_of (hs := []) hfl (by decide +kernel) (Or.inl ⟨rfl, rfl⟩) (Nat.le_of_ble_eq_true rfl) ?_
  intro p e s m below meth c C hmg hr hin htab ls hl
  have hl : lv_has ls 1 [(0, .ref a0)] := hl
  generalize hargs : ([.ref a0] : List Value).toArray = args at C ⊢
  obtain ⟨hx, hb, hml, hown, hlocks, htr, hT, hK, hSt, hN, hP0⟩ := id C
  have L7_13 : pq_fl s m args 7 13 2 := ⟨_, "java/util/AbstractList", "java/util/AbstractList", rfl, by decide, hown, Or.inl (hT _ k_382 _), (fun _ z => z)⟩
  have hP : Pi D P s.heap := hP0
  have hS : Sg (cq_A P s) s.heap s.heap P [] := Sg.start hP0
  unfold wp_Al_init at h
  refine lv_aload_n (pc := 0) hx hb d_Al_init_0 rfl (lv_at hl 0 rfl) ?_
  refine cr_v (pc := 1) C (rest := []) (mt_invI (As := []) hx hb hown rfl (hT _ k_59 _) (hT _ k_60 _) (hT _ k_61 _) h_Ac_init n_Ac_init rfl d_Al_init_1) (ct_Ac_init hfl D h) k_61 k_3 ⟨Nat.le_of_ble_eq_true rfl, Nat.le_of_ble_eq_true rfl⟩ ⟨(show 0 + 0 ≤ 0 by omega), (show 0 + 0 ≤ 0 by omega)⟩ hl.1 d_Al_init_1 (Nat.le_of_ble_eq_true rfl) hP hS (fun H locs h hP hS => ?_) (fun xx X H locs h hX hex hP hS => ?_)
  · refine lv_aload_n (pc := 4) hx hb d_Al_init_4 rfl (lv_at hl 0 rfl) ?_
    refine lv_iconst (pc := 5) (v := 0) hx hb d_Al_init_5 (by decide) ?_
    obtain ⟨hk101, h⟩ := h
    refine pq_puti (pc := 6) (f := 522) hx hb hT hK hP hS L7_13 hk101 rfl rfl rfl rfl d_Al_init_6 (fun H locs hP hS => ?_)
    have hk101 : p_k (s_i P 522 a0 (0 : Int32)) a0 = 14 := by rw [pk_i]; exact hk101
    exact we_v (pc := 9) hx hb hlocks hr hP hS (show 0 + 0 + 0 ≤ 0 by omega) (show 0 + 0 + 0 ≤ 0 by omega) h d_Al_init_9
  · exact cq_out hlocks (pq_nil htab rfl) (show 0 + 0 + 0 ≤ 0 by omega) (show 0 + 0 + 0 ≤ 0 by omega) hX hex hP hS h
/-! java/util/ArrayList.<init>(I)V -/
abbrev y_Ar_init : MethodName := ⟨"java/util/ArrayList", "<init>", "(I)V"⟩
abbrev rm_Ar_init : Room := { frames := 3, cells := 1, slots := 32, locals := 80 }
theorem h_Ar_init : y_Ar_init.cls ≠ "java/lang/invoke/MethodHandle" ∧ y_Ar_init.cls ≠ "java/lang/invoke/VarHandle" := by decide +kernel
theorem n_Ar_init : (parseMethodDescriptor y_Ar_init.desc).map (fun d => d.parameters.length) = some 1 := by decide +kernel
theorem d_Ar_init_0 : decode prog_36_method_1_code 0 = .ok (.aload_n 0, 1) := by decide +kernel
theorem d_Ar_init_1 : decode prog_36_method_1_code 1 = .ok (.invokespecial 1, 3) := by decide +kernel
theorem d_Ar_init_4 : decode prog_36_method_1_code 4 = .ok (.iload_n 1, 1) := by decide +kernel
theorem d_Ar_init_5 : decode prog_36_method_1_code 5 = .ok (.ifCond .le 14, 3) := by decide +kernel
theorem d_Ar_init_8 : decode prog_36_method_1_code 8 = .ok (.aload_n 0, 1) := by decide +kernel
theorem d_Ar_init_9 : decode prog_36_method_1_code 9 = .ok (.iload_n 1, 1) := by decide +kernel
theorem d_Ar_init_10 : decode prog_36_method_1_code 10 = .ok (.anewarray 7, 3) := by decide +kernel
theorem d_Ar_init_13 : decode prog_36_method_1_code 13 = .ok (.putfield 9, 3) := by decide +kernel
theorem d_Ar_init_16 : decode prog_36_method_1_code 16 = .ok (.goto 44, 3) := by decide +kernel
theorem d_Ar_init_19 : decode prog_36_method_1_code 19 = .ok (.iload_n 1, 1) := by decide +kernel
theorem d_Ar_init_20 : decode prog_36_method_1_code 20 = .ok (.ifCond .ne 13, 3) := by decide +kernel
theorem d_Ar_init_23 : decode prog_36_method_1_code 23 = .ok (.aload_n 0, 1) := by decide +kernel
theorem d_Ar_init_60 : decode prog_36_method_1_code 60 = .ok (.return_, 1) := by decide +kernel
def wp_Ar_init (po : Option Value → Pic → Prop) (th : String → Pic → Prop) (P : Pic) (a0 : Nat) (x1 : Int32) : Prop := wp_Al_init (cp_v fun P101 => ((x1 ≤ 0 → (((¬ x1 = 0 → (False)) ∧ (x1 = 0 → (False))))) ∧ (¬ x1 ≤ 0 → ((¬ x1 < 0 ∧ Int32.toNatClampNeg x1 ≤ 32) ∧ ∀ (q103 : Nat), p_z P101 ≤ q103 → p_k (s_arr P101 q103 3 (Int32.toNatClampNeg x1)) a0 = 14 ∧ po none (s_r (s_arr P101 q103 3 (Int32.toNatClampNeg x1)) 520 a0 (some q103)))))) th P a0
set_option maxHeartbeats 4000000 in
set_option maxRecDepth 100000 in
theorem ct_Ar_init {l : Launch} (hfl : l.flags = flags0) (D : pq_D) {po : Option Value → Pic → Prop} {th : String → Pic → Prop} {P : Pic} {a0 : Nat} {x1 : Int32} (h : wp_Ar_init po th P a0 x1) : CT l D y_Ar_init (.code y_Ar_init prog_36_method_1_code 2 none) rm_Ar_init false [.ref a0, .int x1] P po th := by
  refine ct_of (hs := []) hfl (by decide +kernel) (Or.inl ⟨rfl, rfl⟩) (Nat.le_of_ble_eq_true rfl) ?_
  intro p e s m below meth c C hmg hr hin htab ls hl
  have hl : lv_has ls 2 [(0, .ref a0), (1, .int x1)] := hl
  generalize hargs : ([.ref a0, .int x1] : List Value).toArray = args at C ⊢
  obtain ⟨hx, hb, hml, hown, hlocks, htr, hT, hK, hSt, hN, hP0⟩ := id C
  have L9_13 : pq_fl s m args 9 13 0 := ⟨_, "java/util/ArrayList", "java/util/ArrayList", rfl, by decide, hown, Or.inl (hT _ k_380 _), (fun _ z => z)⟩
  have hP : Pi D P s.heap := hP0
  have hS : Sg (cq_A P s) s.heap s.heap P [] := Sg.start hP0
  unfold wp_Ar_init at h
  refine lv_aload_n (pc := 0) hx hb d_Ar_init_0 rfl (lv_at hl 0 rfl) ?_
  refine cc_v (pc := 1) C (rest := []) (mt_invI (As := []) hx hb hown rfl (hT _ k_56 _) (hT _ k_57 _) (hT _ k_58 _) h_Al_init n_Al_init rfl d_Ar_init_1) (ct_Al_init hfl D h) k_58 k_4 ⟨Nat.le_of_ble_eq_true rfl, Nat.le_of_ble_eq_true rfl⟩ ⟨(show 0 + 0 ≤ 1 by omega), (show 0 + 0 ≤ 32 by omega)⟩ hl.1 d_Ar_init_1 (Nat.le_of_ble_eq_true rfl) hP hS (fun P101 H locs h hP hS => ?_) (fun xx X P101 H locs h hX hex hP hS => ?_)
  · refine lv_iload_n (pc := 4) hx hb d_Ar_init_4 rfl (lv_at hl 1 rfl) ?_
    refine lv_if_le (pc := 5) (tgt := 19) hx hb d_Ar_init_5 (by decide) (fun c106 => ?_) (fun c106 => ?_)
    · replace h := h.1 c106
      refine lv_iload_n (pc := 19) hx hb d_Ar_init_19 rfl (lv_at hl 1 rfl) ?_
      refine lv_if_ne (pc := 20) (tgt := 33) hx hb d_Ar_init_20 (by decide) (fun c102 => ?_) (fun c102 => ?_)
      · replace h := h.1 c102
        exact h.elim
      · replace h := h.2 c102
        refine lv_aload_n (pc := 23) hx hb d_Ar_init_23 rfl (lv_at hl 0 rfl) ?_
        exact h.elim
    · replace h := h.2 c106
      refine lv_aload_n (pc := 8) hx hb d_Ar_init_8 rfl (lv_at hl 0 rfl) ?_
      refine lv_iload_n (pc := 9) hx hb d_Ar_init_9 rfl (lv_at hl 1 rfl) ?_
      obtain ⟨hn104, h⟩ := h
      refine pq_newq (pc := 10) (t := 3) (N := 32) hx hb hK hP hS hown (hT _ k_63 _) (hT _ k_64 _) (by simp) hn104.1 hn104.2 (by decide) (show 0 + 0 + 1 ≤ 1 by omega) (show 0 + 0 + 32 ≤ 32 by omega) d_Ar_init_10 (fun q103 H hq103 hP1 hS => ?_)
      replace h := h q103 hq103
      have hkq103 : p_k (s_arr P101 q103 3 (Int32.toNatClampNeg x1)) q103 = 104 := pk_arrq _ _ _ _
      replace hP := hP1
      clear hP1
      obtain ⟨hk105, h⟩ := h
      refine pq_puta (pc := 13) (f := 520) hx hb hT hK hP hS L9_13 hk105 rfl rfl rfl rfl d_Ar_init_13 (fun H locs hP hS => ?_)
      have hkq103 : p_k (s_r (s_arr P101 q103 3 (Int32.toNatClampNeg x1)) 520 a0 (some q103)) q103 = 104 := by rw [pk_r]; exact hkq103
      have hk105 : p_k (s_r (s_arr P101 q103 3 (Int32.toNatClampNeg x1)) 520 a0 (some q103)) a0 = 14 := by rw [pk_r]; exact hk105
      refine lv_goto (pc := 16) (tgt := 60) hx hb d_Ar_init_16 (by decide) ?_
      exact we_v (pc := 60) hx hb hlocks hr hP hS (show 0 + 0 + 1 + 0 ≤ 1 by omega) (show 0 + 0 + 32 + 0 ≤ 32 by omega) h d_Ar_init_60
  · exact cq_out hlocks (pq_nil htab rfl) (show 0 + 0 + 0 ≤ 1 by omega) (show 0 + 0 + 0 ≤ 32 by omega) hX hex hP hS h
/-! java/lang/Record.<init>()V -/
abbrev y_Rc_init : MethodName := ⟨"java/lang/Record", "<init>", "()V"⟩
abbrev rm_Rc_init : Room := { frames := 1, cells := 0, slots := 0, locals := 40 }
theorem h_Rc_init : y_Rc_init.cls ≠ "java/lang/invoke/MethodHandle" ∧ y_Rc_init.cls ≠ "java/lang/invoke/VarHandle" := by decide +kernel
theorem n_Rc_init : (parseMethodDescriptor y_Rc_init.desc).map (fun d => d.parameters.length) = some 0 := by decide +kernel
theorem d_Rc_init_0 : decode prog_26_method_1_code 0 = .ok (.aload_n 0, 1) := by decide +kernel
theorem d_Rc_init_1 : decode prog_26_method_1_code 1 = .ok (.invokespecial 1, 3) := by decide +kernel
theorem d_Rc_init_4 : decode prog_26_method_1_code 4 = .ok (.return_, 1) := by decide +kernel
def wp_Rc_init (po : Option Value → Pic → Prop) (th : String → Pic → Prop) (P : Pic) (a0 : Nat) : Prop := po none P
set_option maxHeartbeats 4000000 in
set_option maxRecDepth 100000 in
theorem ct_Rc_init {l : Launch} (hfl : l.flags = flags0) (D : pq_D) {po : Option Value → Pic → Prop} {th : String → Pic → Prop} {P : Pic} {a0 : Nat} (h : wp_Rc_init po th P a0) : CT l D y_Rc_init (.code y_Rc_init prog_26_method_1_code 1 none) rm_Rc_init true [.ref a0] P po th := by
  refine ct_of (hs := []) hfl (by decide +kernel) (Or.inl ⟨rfl, rfl⟩) (Nat.le_of_ble_eq_true rfl) ?_
  intro p e s m below meth c C hmg hr hin htab ls hl
  have hl : lv_has ls 1 [(0, .ref a0)] := hl
  generalize hargs : ([.ref a0] : List Value).toArray = args at C ⊢
  obtain ⟨hx, hb, hml, hown, hlocks, htr, hT, hK, hSt, hN, hP0⟩ := id C
  have hO : So s.heap s.heap := So.rf
  have hP : Pi D P s.heap := hP0
  unfold wp_Rc_init at h
  refine lv_aload_n (pc := 0) hx hb d_Rc_init_0 rfl (lv_at hl 0 rfl) ?_
  refine W.objInit hx hb hown (hT _ k_913 _) (hT _ k_43 _) (hT _ k_44 _) rfl (by rw [hml]; exact hl.1) rfl d_Rc_init_1 (Nat.le_of_ble_eq_true rfl) (Nat.le_of_ble_eq_true rfl) ?_
  refine W.eq (g2 := F0 m 4 ls []) rfl ?_
  exact wo_v (pc := 4) hx hb hlocks hr hP0 hO (show 0 + 0 ≤ 0 by omega) (show 0 + 0 ≤ 0 by omega) h d_Rc_init_4
