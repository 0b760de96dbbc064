/-! WaterWorks.size(I)I -/
abbrev y_Wa_size : MethodName := ⟨"WaterWorks", "size", "(I)I"⟩
abbrev rm_Wa_size : Room := { frames := 1, cells := 0, slots := 0, locals := 40 }
theorem h_Wa_size : y_Wa_size.cls ≠ "java/lang/invoke/MethodHandle" ∧ y_Wa_size.cls ≠ "java/lang/invoke/VarHandle" := by decide +kernel
theorem n_Wa_size : (parseMethodDescriptor y_Wa_size.desc).map (fun d => d.parameters.length) = some 1 := by decide +kernel
theorem d_Wa_size_0 : decode prog_1_method_1_code 0 = .ok (.iconst 1, 1) := by decide +kernel
theorem d_Wa_size_1 : decode prog_1_method_1_code 1 = .ok (.istore_n 1, 1) := by decide +kernel
theorem d_Wa_size_2 : decode prog_1_method_1_code 2 = .ok (.iconst 0, 1) := by decide +kernel
theorem d_Wa_size_3 : decode prog_1_method_1_code 3 = .ok (.istore_n 2, 1) := by decide +kernel
theorem d_Wa_size_4 : decode prog_1_method_1_code 4 = .ok (.iload_n 2, 1) := by decide +kernel
theorem d_Wa_size_5 : decode prog_1_method_1_code 5 = .ok (.iload_n 0, 1) := by decide +kernel
theorem d_Wa_size_6 : decode prog_1_method_1_code 6 = .ok (.if_icmp .ge 14, 3) := by decide +kernel
theorem d_Wa_size_9 : decode prog_1_method_1_code 9 = .ok (.iload_n 1, 1) := by decide +kernel
theorem d_Wa_size_10 : decode prog_1_method_1_code 10 = .ok (.bipush 10, 2) := by decide +kernel
theorem d_Wa_size_12 : decode prog_1_method_1_code 12 = .ok (.imul, 1) := by decide +kernel
theorem d_Wa_size_13 : decode prog_1_method_1_code 13 = .ok (.istore_n 1, 1) := by decide +kernel
theorem d_Wa_size_14 : decode prog_1_method_1_code 14 = .ok (.iinc 2 1, 3) := by decide +kernel
theorem d_Wa_size_17 : decode prog_1_method_1_code 17 = .ok (.goto (-13), 3) := by decide +kernel
theorem d_Wa_size_20 : decode prog_1_method_1_code 20 = .ok (.iload_n 1, 1) := by decide +kernel
theorem d_Wa_size_21 : decode prog_1_method_1_code 21 = .ok (.ireturn, 1) := by decide +kernel
def wb_Wa_size_4 (po : Option Value → Pic → Prop) (th : String → Pic → Prop) (K4 : Pic → Int32 → Int32 → Int32 → Prop) (P : Pic) (x0 : Int32) (x1 : Int32) (x2 : Int32) : Prop := ((x0 ≤ x2 → (po (some (.int x1)) P)) ∧ (¬ x0 ≤ x2 → (∀ (x101 : Int32), x101 = (x1 * (10 : Int32)) → ∀ (x102 : Int32), x102 = x2 + 1 → K4 P x0 x101 x102)))
def wl_Wa_size_4 (po : Option Value → Pic → Prop) (th : String → Pic → Prop) : Nat → Pic → Int32 → Int32 → Int32 → Prop
  | 0 => fun _ _ _ _ => False
  | n + 1 => wb_Wa_size_4 po th (wl_Wa_size_4 po th n)
def wp_Wa_size (po : Option Value → Pic → Prop) (th : String → Pic → Prop) (P : Pic) (x0 : Int32) : Prop := ∃ n, wl_Wa_size_4 po th n P x0 (1 : Int32) (0 : Int32)
set_option maxHeartbeats 4000000 in
set_option maxRecDepth 100000 in
theorem wk_Wa_size_4 {p : Program} {l : Launch} {e : Env} {s : State} {m : MethodId} {args : Array Value} {below : List Frame} {meth : Method} {c : Code} {D : pq_D} {P : Pic} {po : Option Value → Pic → Prop} {th : String → Pic → Prop} {K4 : Pic → Int32 → Int32 → Int32 → Prop} (hfl : l.flags = flags0) (C : Cx p e s m args meth c prog_1_method_1_code 3 "WaterWorks" D P) (hmg : e.platform.magicAccessors = ({} : Platform).magicAccessors) (hr : meth.sig.returnType = (some .int)) (hin : meth.name = "size") (htab : c.exceptionTable.toList = tableOf []) (HK4 : ∀ (x0 : Int32) (x1 : Int32) (x2 : Int32) (H : Heap) (cells slots : Nat) (ls : Array Slot), K4 P x0 x1 x2 → So s.heap H → lv_has ls 3 [(0, .int x0), (1, .int x1), (2, .int x2)] → cells + 0 ≤ 0 → slots + 0 ≤ 0 → W p l e rm_Wa_size s m args below meth c H [] cells slots (mt_MQ below (cq_Q D P true po th) args s 0 0 (cq_free P true)) (F0 m 4 ls [])) : ∀ (x0 : Int32) (x1 : Int32) (x2 : Int32) (H : Heap) (cells slots : Nat) (ls : Array Slot), wb_Wa_size_4 po th K4 P x0 x1 x2 → So s.heap H → lv_has ls 3 [(0, .int x0), (1, .int x1), (2, .int x2)] → cells + 0 ≤ 0 → slots + 0 ≤ 0 → W p l e rm_Wa_size s m args below meth c H [] cells slots (mt_MQ below (cq_Q D P true po th) args s 0 0 (cq_free P true)) (F0 m 4 ls []) := by
  intro x0 x1 x2 H cells slots ls h hO hl hcc hss
  obtain ⟨hx, hb, hml, hown, hlocks, htr, hT, hK, hSt, hN, hP0⟩ := id C
  have hP : Pi D P H := So.pi hP0 hO
  unfold wb_Wa_size_4 at h
  refine lv_iload_n (pc := 4) hx hb d_Wa_size_4 rfl (lv_at hl 2 rfl) ?_
  refine lv_iload_n (pc := 5) hx hb d_Wa_size_5 rfl (lv_at hl 0 rfl) ?_
  refine lv_icmp_ge (pc := 6) (tgt := 20) hx hb d_Wa_size_6 (by decide) (fun c103 => ?_) (fun c103 => ?_)
  · replace h := h.1 c103
    refine lv_iload_n (pc := 20) hx hb d_Wa_size_20 rfl (lv_at hl 1 rfl) ?_
    exact wo_i (pc := 21) hx hb hlocks hr hP0 hO (show cells + 0 ≤ 0 by omega) (show slots + 0 ≤ 0 by omega) h d_Wa_size_21
  · replace h := h.2 c103
    refine lv_iload_n (pc := 9) hx hb d_Wa_size_9 rfl (lv_at hl 1 rfl) ?_
    refine lv_bipush (pc := 10) (v := 10) hx hb d_Wa_size_10 (by decide) ?_
    refine lv_imul (pc := 12) hx hb d_Wa_size_12 ?_
    refine lv_topi (fun x101 ex101 => ?_)
    replace h := h x101 ex101
    refine lv_istore_n (pc := 13) (lv' := [(1, .int x101), (0, .int x0), (2, .int x2)]) hx hb d_Wa_size_13 rfl hl (by decide) rfl (fun ls hl => ?_)
    obtain ⟨x102, ex102⟩ : ∃ z : Int32, z = x2 + 1 := ⟨_, rfl⟩
    replace h := h x102 ex102
    refine lv_iinc (pc := 14) (v := x102) (lv' := [(2, .int x102), (1, .int x101), (0, .int x0)]) hx hb d_Wa_size_14 hl (k := 2) rfl (by rw [ex102]; rfl) (by decide) rfl (fun ls hl => ?_)
    refine lv_goto (pc := 17) (tgt := 4) hx hb d_Wa_size_17 (by decide) ?_
    exact HK4 x0 x101 x102 _ _ _ _ h hO (lv_sub hl [2, 1, 0] rfl) (show cells + 0 ≤ 0 by omega) (show slots + 0 ≤ 0 by omega)
theorem wm_Wa_size_4 {p : Program} {l : Launch} {e : Env} {s : State} {m : MethodId} {args : Array Value} {below : List Frame} {meth : Method} {c : Code} {D : pq_D} {P : Pic} {po : Option Value → Pic → Prop} {th : String → Pic → Prop} (hfl : l.flags = flags0) (C : Cx p e s m args meth c prog_1_method_1_code 3 "WaterWorks" D P) (hmg : e.platform.magicAccessors = ({} : Platform).magicAccessors) (hr : meth.sig.returnType = (some .int)) (hin : meth.name = "size") (htab : c.exceptionTable.toList = tableOf []) : ∀ n : Nat, ∀ (x0 : Int32) (x1 : Int32) (x2 : Int32) (H : Heap) (cells slots : Nat) (ls : Array Slot), wl_Wa_size_4 po th n P x0 x1 x2 → So s.heap H → lv_has ls 3 [(0, .int x0), (1, .int x1), (2, .int x2)] → cells + 0 ≤ 0 → slots + 0 ≤ 0 → W p l e rm_Wa_size s m args below meth c H [] cells slots (mt_MQ below (cq_Q D P true po th) args s 0 0 (cq_free P true)) (F0 m 4 ls []) := by
  intro n
  induction n with
  | zero => intro x0 x1 x2 H cells slots ls h; exact h.elim
  | succ n ih => exact wk_Wa_size_4 hfl C hmg hr hin htab ih
set_option maxHeartbeats 4000000 in
set_option maxRecDepth 100000 in
theorem ct_Wa_size {l : Launch} (hfl : l.flags = flags0) (D : pq_D) {po : Option Value → Pic → Prop} {th : String → Pic → Prop} {P : Pic} {x0 : Int32} (h : wp_Wa_size po th P x0) : CT l D y_Wa_size (.code y_Wa_size prog_1_method_1_code 3 (some .int)) rm_Wa_size true [.int x0] P po th := by
  refine ct_of (hs := []) hfl (by decide +kernel) (Or.inl ⟨rfl, rfl⟩) (Nat.le_of_ble_eq_true rfl) ?_
  intro p e s m below meth c C hmg hr hin htab ls hl
  have hl : lv_has ls 3 [(0, .int x0)] := hl
  generalize hargs : ([.int x0] : List Value).toArray = args at C ⊢
  obtain ⟨hx, hb, hml, hown, hlocks, htr, hT, hK, hSt, hN, hP0⟩ := id C
  have hO : So s.heap s.heap := So.rf
  have hP : Pi D P s.heap := hP0
  unfold wp_Wa_size at h
  refine lv_iconst (pc := 0) (v := 1) hx hb d_Wa_size_0 (by decide) ?_
  refine lv_istore_n (pc := 1) (lv' := [(1, .int (1 : Int32)), (0, .int x0)]) hx hb d_Wa_size_1 rfl hl (by decide) rfl (fun ls hl => ?_)
  refine lv_iconst (pc := 2) (v := 0) hx hb d_Wa_size_2 (by decide) ?_
  refine lv_istore_n (pc := 3) (lv' := [(2, .int (0 : Int32)), (1, .int (1 : Int32)), (0, .int x0)]) hx hb d_Wa_size_3 rfl hl (by decide) rfl (fun ls hl => ?_)
  obtain ⟨n, h⟩ := h
  exact wm_Wa_size_4 hfl C hmg hr hin htab n x0 (1 : Int32) (0 : Int32) _ _ _ _ h hO (lv_sub hl [2, 1, 0] rfl) (show 0 + 0 ≤ 0 by omega) (show 0 + 0 ≤ 0 by omega)
/-! WaterWorks.lies(II)V -/
abbrev y_Wa_lies : MethodName := ⟨"WaterWorks", "lies", "(II)V"⟩
abbrev rm_Wa_lies : Room := { frames := 6, cells := 1, slots := 6, locals := 120 }
theorem h_Wa_lies : y_Wa_lies.cls ≠ "java/lang/invoke/MethodHandle" ∧ y_Wa_lies.cls ≠ "java/lang/invoke/VarHandle" := by decide +kernel
theorem n_Wa_lies : (parseMethodDescriptor y_Wa_lies.desc).map (fun d => d.parameters.length) = some 2 := by decide +kernel
theorem d_Wa_lies_0 : decode prog_1_method_6_code 0 = .ok (.iload_n 0, 1) := by decide +kernel
theorem d_Wa_lies_1 : decode prog_1_method_6_code 1 = .ok (.ifCond .lt 8, 3) := by decide +kernel
theorem d_Wa_lies_4 : decode prog_1_method_6_code 4 = .ok (.iload_n 0, 1) := by decide +kernel
theorem d_Wa_lies_5 : decode prog_1_method_6_code 5 = .ok (.iload_n 1, 1) := by decide +kernel
theorem d_Wa_lies_6 : decode prog_1_method_6_code 6 = .ok (.if_icmp .lt 11, 3) := by decide +kernel
theorem d_Wa_lies_9 : decode prog_1_method_6_code 9 = .ok (.new 37, 3) := by decide +kernel
theorem d_Wa_lies_12 : decode prog_1_method_6_code 12 = .ok (.dup, 1) := by decide +kernel
theorem d_Wa_lies_13 : decode prog_1_method_6_code 13 = .ok (.invokespecial 39, 3) := by decide +kernel
theorem d_Wa_lies_16 : decode prog_1_method_6_code 16 = .ok (.athrow, 1) := by decide +kernel
theorem d_Wa_lies_17 : decode prog_1_method_6_code 17 = .ok (.return_, 1) := by decide +kernel
def wb_Wa_lies_9 (po : Option Value → Pic → Prop) (th : String → Pic → Prop) (P : Pic) : Prop := th "java/lang/IndexOutOfBoundsException" P
def wp_Wa_lies (po : Option Value → Pic → Prop) (th : String → Pic → Prop) (P : Pic) (x0 : Int32) (x1 : Int32) : Prop := ((x0 < 0 → (wb_Wa_lies_9 po th P )) ∧ (¬ x0 < 0 → (((x0 < x1 → (po none P)) ∧ (¬ x0 < x1 → (wb_Wa_lies_9 po th P ))))))
theorem at_Wa_39 : ∀ a ∈ Bundle.ownAtoms0 "WaterWorks" 39 "java/lang/IndexOutOfBoundsException" ["java/lang/RuntimeException", "java/lang/Exception"], a ∈ pq_tbl ∨ a ∈ ([.laysStatic Bundle.tN "UNASSIGNED_STACK" Bundle.steD, .isRef (.static Bundle.tN "UNASSIGNED_STACK" Bundle.steD), .laysStatic Bundle.tN "SUPPRESSED_SENTINEL" Bundle.listD, .isRef (.static Bundle.tN "SUPPRESSED_SENTINEL" Bundle.listD)] : List Cond) := by decide +kernel
set_option maxHeartbeats 4000000 in
set_option maxRecDepth 100000 in
theorem wk_Wa_lies_9 {p : Program} {l : Launch} {e : Env} {s : State} {m : MethodId} {args : Array Value} {below : List Frame} {meth : Method} {c : Code} {D : pq_D} {P : Pic} {po : Option Value → Pic → Prop} {th : String → Pic → Prop} (hfl : l.flags = flags0) (C : Cx p e s m args meth c prog_1_method_6_code 2 "WaterWorks" D P) (hmg : e.platform.magicAccessors = ({} : Platform).magicAccessors) (hr : meth.sig.returnType = none) (hin : meth.name = "lies") (htab : c.exceptionTable.toList = tableOf []) : ∀ (H : Heap) (cells slots : Nat) (ls : Array Slot), wb_Wa_lies_9 po th P  → So s.heap H → lv_has ls 2 [] → cells + 1 ≤ 1 → slots + 6 ≤ 6 → W p l e rm_Wa_lies s m args below meth c H [] cells slots (mt_MQ below (cq_Q D P true po th) args s 1 6 (cq_free P true)) (F0 m 9 ls []) := by
  intro  H cells slots ls h hO hl hcc hss
  obtain ⟨hx, hb, hml, hown, hlocks, htr, hT, hK, hSt, hN, hP0⟩ := id C
  have hP : Pi D P H := So.pi hP0 hO
  unfold wb_Wa_lies_9 at h
  exact cq_throw C (by decide) (by decide +kernel) k_591 k_592 k_28 at_Wa_39 hl.1 d_Wa_lies_9 d_Wa_lies_12 d_Wa_lies_13 d_Wa_lies_16 (pq_nil htab rfl) ⟨Nat.le_of_ble_eq_true rfl, Nat.le_of_ble_eq_true rfl, (show cells + 1 ≤ 1 by omega), (show slots + 6 ≤ 6 by omega)⟩ (show cells + 1 ≤ 1 by omega) (show slots + 6 ≤ 6 by omega) hO h
set_option maxHeartbeats 4000000 in
set_option maxRecDepth 100000 in
theorem ct_Wa_lies {l : Launch} (hfl : l.flags = flags0) (D : pq_D) {po : Option Value → Pic → Prop} {th : String → Pic → Prop} {P : Pic} {x0 : Int32} {x1 : Int32} (h : wp_Wa_lies po th P x0 x1) : CT l D y_Wa_lies (.code y_Wa_lies prog_1_method_6_code 2 none) rm_Wa_lies true [.int x0, .int x1] P po th := by
  refine ct_of (hs := []) hfl (by decide +kernel) (Or.inl ⟨rfl, rfl⟩) (Nat.le_of_ble_eq_true rfl) ?_
  intro p e s m below meth c C hmg hr hin htab ls hl
  have hl : lv_has ls 2 [(0, .int x0), (1, .int x1)] := hl
  generalize hargs : ([.int x0, .int x1] : List Value).toArray = args at C ⊢
  obtain ⟨hx, hb, hml, hown, hlocks, htr, hT, hK, hSt, hN, hP0⟩ := id C
  have hO : So s.heap s.heap := So.rf
  have hP : Pi D P s.heap := hP0
  unfold wp_Wa_lies at h
  refine lv_iload_n (pc := 0) hx hb d_Wa_lies_0 rfl (lv_at hl 0 rfl) ?_
  refine lv_if_lt (pc := 1) (tgt := 9) hx hb d_Wa_lies_1 (by decide) (fun c102 => ?_) (fun c102 => ?_)
  · replace h := h.1 c102
    exact wk_Wa_lies_9 hfl C hmg hr hin htab  _ _ _ _ h hO (lv_sub hl [] rfl) (show 0 + 1 ≤ 1 by omega) (show 0 + 6 ≤ 6 by omega)
  · replace h := h.2 c102
    refine lv_iload_n (pc := 4) hx hb d_Wa_lies_4 rfl (lv_at hl 0 rfl) ?_
    refine lv_iload_n (pc := 5) hx hb d_Wa_lies_5 rfl (lv_at hl 1 rfl) ?_
    refine lv_icmp_lt (pc := 6) (tgt := 17) hx hb d_Wa_lies_6 (by decide) (fun c101 => ?_) (fun c101 => ?_)
    · replace h := h.1 c101
      exact wo_v (pc := 17) hx hb hlocks hr hP0 hO (show 0 + 0 ≤ 1 by omega) (show 0 + 0 ≤ 6 by omega) h d_Wa_lies_17
    · replace h := h.2 c101
      exact wk_Wa_lies_9 hfl C hmg hr hin htab  _ _ _ _ h hO (lv_sub hl [] rfl) (show 0 + 1 ≤ 1 by omega) (show 0 + 6 ≤ 6 by omega)
/-! WaterWorks.may(Z)V -/
abbrev y_Wa_may : MethodName := ⟨"WaterWorks", "may", "(Z)V"⟩
abbrev rm_Wa_may : Room := { frames := 6, cells := 1, slots := 6, locals := 120 }
theorem h_Wa_may : y_Wa_may.cls ≠ "java/lang/invoke/MethodHandle" ∧ y_Wa_may.cls ≠ "java/lang/invoke/VarHandle" := by decide +kernel
theorem n_Wa_may : (parseMethodDescriptor y_Wa_may.desc).map (fun d => d.parameters.length) = some 1 := by decide +kernel
theorem d_Wa_may_0 : decode prog_1_method_4_code 0 = .ok (.iload_n 0, 1) := by decide +kernel
theorem d_Wa_may_1 : decode prog_1_method_4_code 1 = .ok (.ifCond .ne 11, 3) := by decide +kernel
theorem d_Wa_may_4 : decode prog_1_method_4_code 4 = .ok (.new 31, 3) := by decide +kernel
theorem d_Wa_may_7 : decode prog_1_method_4_code 7 = .ok (.dup, 1) := by decide +kernel
theorem d_Wa_may_8 : decode prog_1_method_4_code 8 = .ok (.invokespecial 33, 3) := by decide +kernel
theorem d_Wa_may_11 : decode prog_1_method_4_code 11 = .ok (.athrow, 1) := by decide +kernel
theorem d_Wa_may_12 : decode prog_1_method_4_code 12 = .ok (.return_, 1) := by decide +kernel
def wp_Wa_may (po : Option Value → Pic → Prop) (th : String → Pic → Prop) (P : Pic) (x0 : Int32) : Prop := ((¬ x0 = 0 → (po none P)) ∧ (x0 = 0 → (th "java/lang/IllegalStateException" P)))
theorem at_Wa_33 : ∀ a ∈ Bundle.ownAtoms0 "WaterWorks" 33 "java/lang/IllegalStateException" ["java/lang/RuntimeException", "java/lang/Exception"], a ∈ pq_tbl ∨ a ∈ ([.laysStatic Bundle.tN "UNASSIGNED_STACK" Bundle.steD, .isRef (.static Bundle.tN "UNASSIGNED_STACK" Bundle.steD), .laysStatic Bundle.tN "SUPPRESSED_SENTINEL" Bundle.listD, .isRef (.static Bundle.tN "SUPPRESSED_SENTINEL" Bundle.listD)] : List Cond) := by decide +kernel
set_option maxHeartbeats 4000000 in
set_option maxRecDepth 100000 in
theorem ct_Wa_may {l : Launch} (hfl : l.flags = flags0) (D : pq_D) {po : Option Value → Pic → Prop} {th : String → Pic → Prop} {P : Pic} {x0 : Int32} (h : wp_Wa_may po th P x0) : CT l D y_Wa_may (.code y_Wa_may prog_1_method_4_code 1 none) rm_Wa_may true [.int x0] P po th := by
  refine ct_of (hs := []) hfl (by decide +kernel) (Or.inl ⟨rfl, rfl⟩) (Nat.le_of_ble_eq_true rfl) ?_
  intro p e s m below meth c C hmg hr hin htab ls hl
  have hl : lv_has ls 1 [(0, .int x0)] := hl
  generalize hargs : ([.int x0] : List Value).toArray = args at C ⊢
  obtain ⟨hx, hb, hml, hown, hlocks, htr, hT, hK, hSt, hN, hP0⟩ := id C
  have hO : So s.heap s.heap := So.rf
  have hP : Pi D P s.heap := hP0
  unfold wp_Wa_may at h
  refine lv_iload_n (pc := 0) hx hb d_Wa_may_0 rfl (lv_at hl 0 rfl) ?_
  refine lv_if_ne (pc := 1) (tgt := 12) hx hb d_Wa_may_1 (by decide) (fun c101 => ?_) (fun c101 => ?_)
  · replace h := h.1 c101
    exact wo_v (pc := 12) hx hb hlocks hr hP0 hO (show 0 + 0 ≤ 1 by omega) (show 0 + 0 ≤ 6 by omega) h d_Wa_may_12
  · replace h := h.2 c101
    exact cq_throw C (by decide) (by decide +kernel) k_478 k_479 k_25 at_Wa_33 hl.1 d_Wa_may_4 d_Wa_may_7 d_Wa_may_8 d_Wa_may_11 (pq_nil htab rfl) ⟨Nat.le_of_ble_eq_true rfl, Nat.le_of_ble_eq_true rfl, (show 0 + 1 ≤ 1 by omega), (show 0 + 6 ≤ 6 by omega)⟩ (show 0 + 1 ≤ 1 by omega) (show 0 + 6 ≤ 6 by omega) hO h
/-! WaterWorks.is(Z)V -/
abbrev y_Wa_is : MethodName := ⟨"WaterWorks", "is", "(Z)V"⟩
abbrev rm_Wa_is : Room := { frames := 6, cells := 1, slots := 6, locals := 120 }
theorem h_Wa_is : y_Wa_is.cls ≠ "java/lang/invoke/MethodHandle" ∧ y_Wa_is.cls ≠ "java/lang/invoke/VarHandle" := by decide +kernel
theorem n_Wa_is : (parseMethodDescriptor y_Wa_is.desc).map (fun d => d.parameters.length) = some 1 := by decide +kernel
theorem d_Wa_is_0 : decode prog_1_method_5_code 0 = .ok (.iload_n 0, 1) := by decide +kernel
theorem d_Wa_is_1 : decode prog_1_method_5_code 1 = .ok (.ifCond .ne 11, 3) := by decide +kernel
theorem d_Wa_is_4 : decode prog_1_method_5_code 4 = .ok (.new 34, 3) := by decide +kernel
theorem d_Wa_is_7 : decode prog_1_method_5_code 7 = .ok (.dup, 1) := by decide +kernel
theorem d_Wa_is_8 : decode prog_1_method_5_code 8 = .ok (.invokespecial 36, 3) := by decide +kernel
theorem d_Wa_is_11 : decode prog_1_method_5_code 11 = .ok (.athrow, 1) := by decide +kernel
theorem d_Wa_is_12 : decode prog_1_method_5_code 12 = .ok (.return_, 1) := by decide +kernel
def wp_Wa_is (po : Option Value → Pic → Prop) (th : String → Pic → Prop) (P : Pic) (x0 : Int32) : Prop := ((¬ x0 = 0 → (po none P)) ∧ (x0 = 0 → (th "java/util/NoSuchElementException" P)))
theorem at_Wa_36 : ∀ a ∈ Bundle.ownAtoms0 "WaterWorks" 36 "java/util/NoSuchElementException" ["java/lang/RuntimeException", "java/lang/Exception"], a ∈ pq_tbl ∨ a ∈ ([.laysStatic Bundle.tN "UNASSIGNED_STACK" Bundle.steD, .isRef (.static Bundle.tN "UNASSIGNED_STACK" Bundle.steD), .laysStatic Bundle.tN "SUPPRESSED_SENTINEL" Bundle.listD, .isRef (.static Bundle.tN "SUPPRESSED_SENTINEL" Bundle.listD)] : List Cond) := by decide +kernel
set_option maxHeartbeats 4000000 in
set_option maxRecDepth 100000 in
theorem ct_Wa_is {l : Launch} (hfl : l.flags = flags0) (D : pq_D) {po : Option Value → Pic → Prop} {th : String → Pic → Prop} {P : Pic} {x0 : Int32} (h : wp_Wa_is po th P x0) : CT l D y_Wa_is (.code y_Wa_is prog_1_method_5_code 1 none) rm_Wa_is true [.int x0] P po th := by
  refine ct_of (hs := []) hfl (by decide +kernel) (Or.inl ⟨rfl, rfl⟩) (Nat.le_of_ble_eq_true rfl) ?_
  intro p e s m below meth c C hmg hr hin htab ls hl
  have hl : lv_has ls 1 [(0, .int x0)] := hl
  generalize hargs : ([.int x0] : List Value).toArray = args at C ⊢
  obtain ⟨hx, hb, hml, hown, hlocks, htr, hT, hK, hSt, hN, hP0⟩ := id C
  have hO : So s.heap s.heap := So.rf
  have hP : Pi D P s.heap := hP0
  unfold wp_Wa_is at h
  refine lv_iload_n (pc := 0) hx hb d_Wa_is_0 rfl (lv_at hl 0 rfl) ?_
  refine lv_if_ne (pc := 1) (tgt := 12) hx hb d_Wa_is_1 (by decide) (fun c101 => ?_) (fun c101 => ?_)
  · replace h := h.1 c101
    exact wo_v (pc := 12) hx hb hlocks hr hP0 hO (show 0 + 0 ≤ 1 by omega) (show 0 + 0 ≤ 6 by omega) h d_Wa_is_12
  · replace h := h.2 c101
    exact cq_throw C (by decide) (by decide +kernel) k_728 k_729 k_32 at_Wa_36 hl.1 d_Wa_is_4 d_Wa_is_7 d_Wa_is_8 d_Wa_is_11 (pq_nil htab rfl) ⟨Nat.le_of_ble_eq_true rfl, Nat.le_of_ble_eq_true rfl, (show 0 + 1 ≤ 1 by omega), (show 0 + 6 ≤ 6 by omega)⟩ (show 0 + 1 ≤ 1 by omega) (show 0 + 6 ≤ 6 by omega) hO h
/-! WaterWorks.fits(Z)V -/
abbrev y_Wa_fits : MethodName := ⟨"WaterWorks", "fits", "(Z)V"⟩
abbrev rm_Wa_fits : Room := { frames := 6, cells := 1, slots := 6, locals := 120 }
theorem h_Wa_fits : y_Wa_fits.cls ≠ "java/lang/invoke/MethodHandle" ∧ y_Wa_fits.cls ≠ "java/lang/invoke/VarHandle" := by decide +kernel
theorem n_Wa_fits : (parseMethodDescriptor y_Wa_fits.desc).map (fun d => d.parameters.length) = some 1 := by decide +kernel
theorem d_Wa_fits_0 : decode prog_1_method_3_code 0 = .ok (.iload_n 0, 1) := by decide +kernel
theorem d_Wa_fits_1 : decode prog_1_method_3_code 1 = .ok (.ifCond .ne 11, 3) := by decide +kernel
theorem d_Wa_fits_4 : decode prog_1_method_3_code 4 = .ok (.new 28, 3) := by decide +kernel
theorem d_Wa_fits_7 : decode prog_1_method_3_code 7 = .ok (.dup, 1) := by decide +kernel
theorem d_Wa_fits_8 : decode prog_1_method_3_code 8 = .ok (.invokespecial 30, 3) := by decide +kernel
theorem d_Wa_fits_11 : decode prog_1_method_3_code 11 = .ok (.athrow, 1) := by decide +kernel
theorem d_Wa_fits_12 : decode prog_1_method_3_code 12 = .ok (.return_, 1) := by decide +kernel
def wp_Wa_fits (po : Option Value → Pic → Prop) (th : String → Pic → Prop) (P : Pic) (x0 : Int32) : Prop := ((¬ x0 = 0 → (po none P)) ∧ (x0 = 0 → (th "java/lang/IllegalArgumentException" P)))
theorem at_Wa_30 : ∀ a ∈ Bundle.ownAtoms0 "WaterWorks" 30 "java/lang/IllegalArgumentException" ["java/lang/RuntimeException", "java/lang/Exception"], a ∈ pq_tbl ∨ a ∈ ([.laysStatic Bundle.tN "UNASSIGNED_STACK" Bundle.steD, .isRef (.static Bundle.tN "UNASSIGNED_STACK" Bundle.steD), .laysStatic Bundle.tN "SUPPRESSED_SENTINEL" Bundle.listD, .isRef (.static Bundle.tN "SUPPRESSED_SENTINEL" Bundle.listD)] : List Cond) := by decide +kernel
set_option maxHeartbeats 4000000 in
set_option maxRecDepth 100000 in
theorem ct_Wa_fits {l : Launch} (hfl : l.flags = flags0) (D : pq_D) {po : Option Value → Pic → Prop} {th : String → Pic → Prop} {P : Pic} {x0 : Int32} (h : wp_Wa_fits po th P x0) : CT l D y_Wa_fits (.code y_Wa_fits prog_1_method_3_code 1 none) rm_Wa_fits true [.int x0] P po th := by
  refine ct_of (hs := []) hfl (by decide +kernel) (Or.inl ⟨rfl, rfl⟩) (Nat.le_of_ble_eq_true rfl) ?_
  intro p e s m below meth c C hmg hr hin htab ls hl
  have hl : lv_has ls 1 [(0, .int x0)] := hl
  generalize hargs : ([.int x0] : List Value).toArray = args at C ⊢
  obtain ⟨hx, hb, hml, hown, hlocks, htr, hT, hK, hSt, hN, hP0⟩ := id C
  have hO : So s.heap s.heap := So.rf
  have hP : Pi D P s.heap := hP0
  unfold wp_Wa_fits at h
  refine lv_iload_n (pc := 0) hx hb d_Wa_fits_0 rfl (lv_at hl 0 rfl) ?_
  refine lv_if_ne (pc := 1) (tgt := 12) hx hb d_Wa_fits_1 (by decide) (fun c101 => ?_) (fun c101 => ?_)
  · replace h := h.1 c101
    exact wo_v (pc := 12) hx hb hlocks hr hP0 hO (show 0 + 0 ≤ 1 by omega) (show 0 + 0 ≤ 6 by omega) h d_Wa_fits_12
  · replace h := h.2 c101
    exact cq_throw C (by decide) (by decide +kernel) k_623 k_68 k_9 at_Wa_30 hl.1 d_Wa_fits_4 d_Wa_fits_7 d_Wa_fits_8 d_Wa_fits_11 (pq_nil htab rfl) ⟨Nat.le_of_ble_eq_true rfl, Nat.le_of_ble_eq_true rfl, (show 0 + 1 ≤ 1 by omega), (show 0 + 6 ≤ 6 by omega)⟩ (show 0 + 1 ≤ 1 by omega) (show 0 + 6 ≤ 6 by omega) hO h
/-! WaterWorks$Reading.<init>(IIIZ)V -/
abbrev y_Re_init : MethodName := ⟨"WaterWorks$Reading", "<init>", "(IIIZ)V"⟩
abbrev rm_Re_init : Room := { frames := 2, cells := 0, slots := 0, locals := 60 }
theorem h_Re_init : y_Re_init.cls ≠ "java/lang/invoke/MethodHandle" ∧ y_Re_init.cls ≠ "java/lang/invoke/VarHandle" := by decide +kernel
theorem n_Re_init : (parseMethodDescriptor y_Re_init.desc).map (fun d => d.parameters.length) = some 4 := by decide +kernel
theorem d_Re_init_0 : decode prog_11_method_1_code 0 = .ok (.aload_n 0, 1) := by decide +kernel
theorem d_Re_init_1 : decode prog_11_method_1_code 1 = .ok (.invokespecial 1, 3) := by decide +kernel
theorem d_Re_init_4 : decode prog_11_method_1_code 4 = .ok (.aload_n 0, 1) := by decide +kernel
theorem d_Re_init_5 : decode prog_11_method_1_code 5 = .ok (.iload_n 1, 1) := by decide +kernel
theorem d_Re_init_6 : decode prog_11_method_1_code 6 = .ok (.putfield 7, 3) := by decide +kernel
theorem d_Re_init_9 : decode prog_11_method_1_code 9 = .ok (.aload_n 0, 1) := by decide +kernel
theorem d_Re_init_10 : decode prog_11_method_1_code 10 = .ok (.iload_n 2, 1) := by decide +kernel
theorem d_Re_init_11 : decode prog_11_method_1_code 11 = .ok (.putfield 13, 3) := by decide +kernel
theorem d_Re_init_14 : decode prog_11_method_1_code 14 = .ok (.aload_n 0, 1) := by decide +kernel
theorem d_Re_init_15 : decode prog_11_method_1_code 15 = .ok (.iload_n 3, 1) := by decide +kernel
theorem d_Re_init_16 : decode prog_11_method_1_code 16 = .ok (.putfield 16, 3) := by decide +kernel
theorem d_Re_init_19 : decode prog_11_method_1_code 19 = .ok (.aload_n 0, 1) := by decide +kernel
theorem d_Re_init_20 : decode prog_11_method_1_code 20 = .ok (.iload 4, 2) := by decide +kernel
theorem d_Re_init_22 : decode prog_11_method_1_code 22 = .ok (.putfield 19, 3) := by decide +kernel
theorem d_Re_init_25 : decode prog_11_method_1_code 25 = .ok (.return_, 1) := by decide +kernel
def wp_Re_init (po : Option Value → Pic → Prop) (th : String → Pic → Prop) (P : Pic) (a0 : Nat) (x1 : Int32) (x2 : Int32) (x3 : Int32) (x4 : Int32) : Prop := wp_Rc_init (cp_v fun _ => p_k P a0 = 10 ∧ (x4 = 0 ∨ x4 = 1) ∧ po none (s_i (s_i (s_i (s_i P 360 a0 x1) 361 a0 x2) 362 a0 x3) 363 a0 x4)) th P a0
set_option maxHeartbeats 4000000 in
set_option maxRecDepth 100000 in
theorem ct_Re_init {l : Launch} (hfl : l.flags = flags0) (D : pq_D) {po : Option Value → Pic → Prop} {th : String → Pic → Prop} {P : Pic} {a0 : Nat} {x1 : Int32} {x2 : Int32} {x3 : Int32} {x4 : Int32} (h : wp_Re_init po th P a0 x1 x2 x3 x4) : CT l D y_Re_init (.code y_Re_init prog_11_method_1_code 5 none) rm_Re_init false [.ref a0, .int x1, .int x2, .int x3, .int x4] P po th := by
  refine ct_of (hs := []) hfl (by decide +kernel) (Or.inl ⟨rfl, rfl⟩) (Nat.le_of_ble_eq_true rfl) ?_
  intro p e s m below meth c C hmg hr hin htab ls hl
  have hl : lv_has ls 5 [(0, .ref a0), (1, .int x1), (2, .int x2), (3, .int x3), (4, .int x4)] := hl
  generalize hargs : ([.ref a0, .int x1, .int x2, .int x3, .int x4] : List Value).toArray = args at C ⊢
  obtain ⟨hx, hb, hml, hown, hlocks, htr, hT, hK, hSt, hN, hP0⟩ := id C
  have hP : Pi D P s.heap := hP0
  have hS : Sg (cq_A P s) s.heap s.heap P [] := Sg.start hP0
  unfold wp_Re_init at h
  refine lv_aload_n (pc := 0) hx hb d_Re_init_0 rfl (lv_at hl 0 rfl) ?_
  refine cr_v (pc := 1) C (rest := []) (mt_invI (As := []) hx hb hown rfl (hT _ k_910 _) (hT _ k_911 _) (hT _ k_912 _) h_Rc_init n_Rc_init rfl d_Re_init_1) (ct_Rc_init hfl D h) k_912 k_33 ⟨Nat.le_of_ble_eq_true rfl, Nat.le_of_ble_eq_true rfl⟩ ⟨(show 0 + 0 ≤ 0 by omega), (show 0 + 0 ≤ 0 by omega)⟩ hl.1 d_Re_init_1 (Nat.le_of_ble_eq_true rfl) hP hS (fun H locs h hP hS => ?_) (fun xx X H locs h hX hex hP hS => ?_)
  · refine lv_aload_n (pc := 4) hx hb d_Re_init_4 rfl (lv_at hl 0 rfl) ?_
    refine lv_iload_n (pc := 5) hx hb d_Re_init_5 rfl (lv_at hl 1 rfl) ?_
    obtain ⟨hk101, h⟩ := h
    refine pq_putFi (pc := 6) (f := 360) hx hb hT hK hP hS hown hin (k := 9) (j := 0) rfl (by decide) (by decide) (hT _ k_914 _) hk101 rfl rfl rfl rfl d_Re_init_6 (fun H locs hP hS => ?_)
    have hk101 : p_k (s_i P 360 a0 x1) a0 = 10 := by rw [pk_i]; exact hk101
    refine lv_aload_n (pc := 9) hx hb d_Re_init_9 rfl (lv_at hl 0 rfl) ?_
    refine lv_iload_n (pc := 10) hx hb d_Re_init_10 rfl (lv_at hl 2 rfl) ?_
    refine pq_putFi (pc := 11) (f := 361) hx hb hT hK hP hS hown hin (k := 9) (j := 1) rfl (by decide) (by decide) (hT _ k_915 _) hk101 rfl rfl rfl rfl d_Re_init_11 (fun H locs hP hS => ?_)
    have hk101 : p_k (s_i (s_i P 360 a0 x1) 361 a0 x2) a0 = 10 := by rw [pk_i]; exact hk101
    refine lv_aload_n (pc := 14) hx hb d_Re_init_14 rfl (lv_at hl 0 rfl) ?_
    refine lv_iload_n (pc := 15) hx hb d_Re_init_15 rfl (lv_at hl 3 rfl) ?_
    refine pq_putFi (pc := 16) (f := 362) hx hb hT hK hP hS hown hin (k := 9) (j := 2) rfl (by decide) (by decide) (hT _ k_916 _) hk101 rfl rfl rfl rfl d_Re_init_16 (fun H locs hP hS => ?_)
    have hk101 : p_k (s_i (s_i (s_i P 360 a0 x1) 361 a0 x2) 362 a0 x3) a0 = 10 := by rw [pk_i]; exact hk101
    refine lv_aload_n (pc := 19) hx hb d_Re_init_19 rfl (lv_at hl 0 rfl) ?_
    refine lv_iload (pc := 20) hx hb d_Re_init_20 (lv_at hl 4 rfl) ?_
    obtain ⟨hz102, h⟩ := h
    refine pq_putFi (pc := 22) (f := 363) hx hb hT hK hP hS hown hin (k := 9) (j := 3) rfl (by decide) (by decide) (hT _ k_917 _) hk101 rfl rfl (pq_nz hz102).1 (pq_nz hz102).2 d_Re_init_22 (fun H locs hP hS => ?_)
    have hk101 : p_k (s_i (s_i (s_i (s_i P 360 a0 x1) 361 a0 x2) 362 a0 x3) 363 a0 x4) a0 = 10 := by rw [pk_i]; exact hk101
    exact we_v (pc := 25) hx hb hlocks hr hP hS (show 0 + 0 + 0 ≤ 0 by omega) (show 0 + 0 + 0 ≤ 0 by omega) h d_Re_init_25
  · exact cq_out hlocks (pq_nil htab rfl) (show 0 + 0 + 0 ≤ 0 by omega) (show 0 + 0 + 0 ≤ 0 by omega) hX hex hP hS h
/-! WaterWorks$Reading.day()I -/
abbrev y_Re_day : MethodName := ⟨"WaterWorks$Reading", "day", "()I"⟩
abbrev rm_Re_day : Room := { frames := 1, cells := 0, slots := 0, locals := 40 }
theorem h_Re_day : y_Re_day.cls ≠ "java/lang/invoke/MethodHandle" ∧ y_Re_day.cls ≠ "java/lang/invoke/VarHandle" := by decide +kernel
theorem n_Re_day : (parseMethodDescriptor y_Re_day.desc).map (fun d => d.parameters.length) = some 0 := by decide +kernel
theorem d_Re_day_0 : decode prog_11_method_5_code 0 = .ok (.aload_n 0, 1) := by decide +kernel
theorem d_Re_day_1 : decode prog_11_method_5_code 1 = .ok (.getfield 7, 3) := by decide +kernel
theorem d_Re_day_4 : decode prog_11_method_5_code 4 = .ok (.ireturn, 1) := by decide +kernel
def wp_Re_day (po : Option Value → Pic → Prop) (th : String → Pic → Prop) (P : Pic) (a0 : Nat) : Prop := p_k P a0 = 10 ∧ po (some (.int (p_i P 360 a0))) P
set_option maxHeartbeats 4000000 in
set_option maxRecDepth 100000 in
theorem ct_Re_day {l : Launch} (hfl : l.flags = flags0) (D : pq_D) {po : Option Value → Pic → Prop} {th : String → Pic → Prop} {P : Pic} {a0 : Nat} (h : wp_Re_day po th P a0) : CT l D y_Re_day (.code y_Re_day prog_11_method_5_code 1 (some .int)) rm_Re_day true [.ref a0] P po th := by
  refine ct_of (hs := []) hfl (by decide +kernel) (Or.inl ⟨rfl, rfl⟩) (Nat.le_of_ble_eq_true rfl) ?_
  intro p e s m below meth c C hmg hr hin htab ls hl
  have hl : lv_has ls 1 [(0, .ref a0)] := hl
  generalize hargs : ([.ref a0] : List Value).toArray = args at C ⊢
  obtain ⟨hx, hb, hml, hown, hlocks, htr, hT, hK, hSt, hN, hP0⟩ := id C
  have L7_9 : pq_fl s m args 7 9 0 := ⟨_, "WaterWorks$Reading", "WaterWorks$Reading", rfl, by decide, hown, Or.inl (hT _ k_914 _), (fun _ z => z)⟩
  have hO : So s.heap s.heap := So.rf
  have hP : Pi D P s.heap := hP0
  unfold wp_Re_day at h
  refine lv_aload_n (pc := 0) hx hb d_Re_day_0 rfl (lv_at hl 0 rfl) ?_
  obtain ⟨hk101, h⟩ := h
  refine pq_geti (pc := 1) (f := 360) hx hb hT hK hP L7_9 hk101 rfl d_Re_day_1 ?_
  exact wo_i (pc := 4) hx hb hlocks hr hP0 hO (show 0 + 0 ≤ 0 by omega) (show 0 + 0 ≤ 0 by omega) h d_Re_day_4
/-! WaterWorks$Reading.shows()I -/
abbrev y_Re_shows : MethodName := ⟨"WaterWorks$Reading", "shows", "()I"⟩
abbrev rm_Re_shows : Room := { frames := 1, cells := 0, slots := 0, locals := 40 }
theorem h_Re_shows : y_Re_shows.cls ≠ "java/lang/invoke/MethodHandle" ∧ y_Re_shows.cls ≠ "java/lang/invoke/VarHandle" := by decide +kernel
theorem n_Re_shows : (parseMethodDescriptor y_Re_shows.desc).map (fun d => d.parameters.length) = some 0 := by decide +kernel
theorem d_Re_shows_0 : decode prog_11_method_6_code 0 = .ok (.aload_n 0, 1) := by decide +kernel
theorem d_Re_shows_1 : decode prog_11_method_6_code 1 = .ok (.getfield 13, 3) := by decide +kernel
theorem d_Re_shows_4 : decode prog_11_method_6_code 4 = .ok (.ireturn, 1) := by decide +kernel
def wp_Re_shows (po : Option Value → Pic → Prop) (th : String → Pic → Prop) (P : Pic) (a0 : Nat) : Prop := p_k P a0 = 10 ∧ po (some (.int (p_i P 361 a0))) P
set_option maxHeartbeats 4000000 in
set_option maxRecDepth 100000 in
theorem ct_Re_shows {l : Launch} (hfl : l.flags = flags0) (D : pq_D) {po : Option Value → Pic → Prop} {th : String → Pic → Prop} {P : Pic} {a0 : Nat} (h : wp_Re_shows po th P a0) : CT l D y_Re_shows (.code y_Re_shows prog_11_method_6_code 1 (some .int)) rm_Re_shows true [.ref a0] P po th := by
  refine ct_of (hs := []) hfl (by decide +kernel) (Or.inl ⟨rfl, rfl⟩) (Nat.le_of_ble_eq_true rfl) ?_
  intro p e s m below meth c C hmg hr hin htab ls hl
  have hl : lv_has ls 1 [(0, .ref a0)] := hl
  generalize hargs : ([.ref a0] : List Value).toArray = args at C ⊢
  obtain ⟨hx, hb, hml, hown, hlocks, htr, hT, hK, hSt, hN, hP0⟩ := id C
  have L13_9 : pq_fl s m args 13 9 1 := ⟨_, "WaterWorks$Reading", "WaterWorks$Reading", rfl, by decide, hown, Or.inl (hT _ k_915 _), (fun _ z => z)⟩
  have hO : So s.heap s.heap := So.rf
  have hP : Pi D P s.heap := hP0
  unfold wp_Re_shows at h
  refine lv_aload_n (pc := 0) hx hb d_Re_shows_0 rfl (lv_at hl 0 rfl) ?_
  obtain ⟨hk101, h⟩ := h
  refine pq_geti (pc := 1) (f := 361) hx hb hT hK hP L13_9 hk101 rfl d_Re_shows_1 ?_
  exact wo_i (pc := 4) hx hb hlocks hr hP0 hO (show 0 + 0 ≤ 0 by omega) (show 0 + 0 ≤ 0 by omega) h d_Re_shows_4
/-! WaterWorks$Reading.digits()I -/
abbrev y_Re_digits : MethodName := ⟨"WaterWorks$Reading", "digits", "()I"⟩
abbrev rm_Re_digits : Room := { frames := 1, cells := 0, slots := 0, locals := 40 }
theorem h_Re_digits : y_Re_digits.cls ≠ "java/lang/invoke/MethodHandle" ∧ y_Re_digits.cls ≠ "java/lang/invoke/VarHandle" := by decide +kernel
theorem n_Re_digits : (parseMethodDescriptor y_Re_digits.desc).map (fun d => d.parameters.length) = some 0 := by decide +kernel
theorem d_Re_digits_0 : decode prog_11_method_7_code 0 = .ok (.aload_n 0, 1) := by decide +kernel
theorem d_Re_digits_1 : decode prog_11_method_7_code 1 = .ok (.getfield 16, 3) := by decide +kernel
theorem d_Re_digits_4 : decode prog_11_method_7_code 4 = .ok (.ireturn, 1) := by decide +kernel
def wp_Re_digits (po : Option Value → Pic → Prop) (th : String → Pic → Prop) (P : Pic) (a0 : Nat) : Prop := p_k P a0 = 10 ∧ po (some (.int (p_i P 362 a0))) P
set_option maxHeartbeats 4000000 in
set_option maxRecDepth 100000 in
theorem ct_Re_digits {l : Launch} (hfl : l.flags = flags0) (D : pq_D) {po : Option Value → Pic → Prop} {th : String → Pic → Prop} {P : Pic} {a0 : Nat} (h : wp_Re_digits po th P a0) : CT l D y_Re_digits (.code y_Re_digits prog_11_method_7_code 1 (some .int)) rm_Re_digits true [.ref a0] P po th := by
  refine ct_of (hs := []) hfl (by decide +kernel) (Or.inl ⟨rfl, rfl⟩) (Nat.le_of_ble_eq_true rfl) ?_
  intro p e s m below meth c C hmg hr hin htab ls hl
  have hl : lv_has ls 1 [(0, .ref a0)] := hl
  generalize hargs : ([.ref a0] : List Value).toArray = args at C ⊢
  obtain ⟨hx, hb, hml, hown, hlocks, htr, hT, hK, hSt, hN, hP0⟩ := id C
  have L16_9 : pq_fl s m args 16 9 2 := ⟨_, "WaterWorks$Reading", "WaterWorks$Reading", rfl, by decide, hown, Or.inl (hT _ k_916 _), (fun _ z => z)⟩
  have hO : So s.heap s.heap := So.rf
  have hP : Pi D P s.heap := hP0
  unfold wp_Re_digits at h
  refine lv_aload_n (pc := 0) hx hb d_Re_digits_0 rfl (lv_at hl 0 rfl) ?_
  obtain ⟨hk101, h⟩ := h
  refine pq_geti (pc := 1) (f := 362) hx hb hT hK hP L16_9 hk101 rfl d_Re_digits_1 ?_
  exact wo_i (pc := 4) hx hb hlocks hr hP0 hO (show 0 + 0 ≤ 0 by omega) (show 0 + 0 ≤ 0 by omega) h d_Re_digits_4
/-! WaterWorks$Reading.first()Z -/
abbrev y_Re_first : MethodName := ⟨"WaterWorks$Reading", "first", "()Z"⟩
abbrev rm_Re_first : Room := { frames := 1, cells := 0, slots := 0, locals := 40 }
theorem h_Re_first : y_Re_first.cls ≠ "java/lang/invoke/MethodHandle" ∧ y_Re_first.cls ≠ "java/lang/invoke/VarHandle" := by decide +kernel
theorem n_Re_first : (parseMethodDescriptor y_Re_first.desc).map (fun d => d.parameters.length) = some 0 := by decide +kernel
theorem d_Re_first_0 : decode prog_11_method_8_code 0 = .ok (.aload_n 0, 1) := by decide +kernel
theorem d_Re_first_1 : decode prog_11_method_8_code 1 = .ok (.getfield 19, 3) := by decide +kernel
theorem d_Re_first_4 : decode prog_11_method_8_code 4 = .ok (.ireturn, 1) := by decide +kernel
def wp_Re_first (po : Option Value → Pic → Prop) (th : String → Pic → Prop) (P : Pic) (a0 : Nat) : Prop := p_k P a0 = 10 ∧ ((p_i P 363 a0) = 0 ∨ (p_i P 363 a0) = 1) ∧ po (some (.int (p_i P 363 a0))) P
set_option maxHeartbeats 4000000 in
set_option maxRecDepth 100000 in
theorem ct_Re_first {l : Launch} (hfl : l.flags = flags0) (D : pq_D) {po : Option Value → Pic → Prop} {th : String → Pic → Prop} {P : Pic} {a0 : Nat} (h : wp_Re_first po th P a0) : CT l D y_Re_first (.code y_Re_first prog_11_method_8_code 1 (some .boolean)) rm_Re_first true [.ref a0] P po th := by
  refine ct_of (hs := []) hfl (by decide +kernel) (Or.inl ⟨rfl, rfl⟩) (Nat.le_of_ble_eq_true rfl) ?_
  intro p e s m below meth c C hmg hr hin htab ls hl
  have hl : lv_has ls 1 [(0, .ref a0)] := hl
  generalize hargs : ([.ref a0] : List Value).toArray = args at C ⊢
  obtain ⟨hx, hb, hml, hown, hlocks, htr, hT, hK, hSt, hN, hP0⟩ := id C
  have L19_9 : pq_fl s m args 19 9 3 := ⟨_, "WaterWorks$Reading", "WaterWorks$Reading", rfl, by decide, hown, Or.inl (hT _ k_917 _), (fun _ z => z)⟩
  have hO : So s.heap s.heap := So.rf
  have hP : Pi D P s.heap := hP0
  unfold wp_Re_first at h
  refine lv_aload_n (pc := 0) hx hb d_Re_first_0 rfl (lv_at hl 0 rfl) ?_
  obtain ⟨hk101, h⟩ := h
  refine pq_geti (pc := 1) (f := 363) hx hb hT hK hP L19_9 hk101 rfl d_Re_first_1 ?_
  exact wo_z (pc := 4) hx hb hlocks hr hP0 hO (show 0 + 0 ≤ 0 by omega) (show 0 + 0 ≤ 0 by omega) h.1 h.2 d_Re_first_4
/-! WaterWorks$Tariff.<init>(IJ)V -/
abbrev y_Ta_init : MethodName := ⟨"WaterWorks$Tariff", "<init>", "(IJ)V"⟩
abbrev rm_Ta_init : Room := { frames := 2, cells := 0, slots := 0, locals := 60 }
theorem h_Ta_init : y_Ta_init.cls ≠ "java/lang/invoke/MethodHandle" ∧ y_Ta_init.cls ≠ "java/lang/invoke/VarHandle" := by decide +kernel
theorem n_Ta_init : (parseMethodDescriptor y_Ta_init.desc).map (fun d => d.parameters.length) = some 2 := by decide +kernel
theorem d_Ta_init_0 : decode prog_12_method_1_code 0 = .ok (.aload_n 0, 1) := by decide +kernel
theorem d_Ta_init_1 : decode prog_12_method_1_code 1 = .ok (.invokespecial 3, 3) := by decide +kernel
theorem d_Ta_init_4 : decode prog_12_method_1_code 4 = .ok (.aload_n 0, 1) := by decide +kernel
theorem d_Ta_init_5 : decode prog_12_method_1_code 5 = .ok (.iload_n 1, 1) := by decide +kernel
theorem d_Ta_init_6 : decode prog_12_method_1_code 6 = .ok (.putfield 9, 3) := by decide +kernel
theorem d_Ta_init_9 : decode prog_12_method_1_code 9 = .ok (.aload_n 0, 1) := by decide +kernel
theorem d_Ta_init_10 : decode prog_12_method_1_code 10 = .ok (.lload_n 2, 1) := by decide +kernel
theorem d_Ta_init_11 : decode prog_12_method_1_code 11 = .ok (.putfield 15, 3) := by decide +kernel
theorem d_Ta_init_14 : decode prog_12_method_1_code 14 = .ok (.return_, 1) := by decide +kernel
def wp_Ta_init (po : Option Value → Pic → Prop) (th : String → Pic → Prop) (P : Pic) (a0 : Nat) (x1 : Int32) (w2 : Int64) : Prop := wp_Rc_init (cp_v fun _ => p_k P a0 = 11 ∧ po none (s_l (s_i P 400 a0 x1) 401 a0 w2)) th P a0
set_option maxHeartbeats 4000000 in
set_option maxRecDepth 100000 in
theorem ct_Ta_init {l : Launch} (hfl : l.flags = flags0) (D : pq_D) {po : Option Value → Pic → Prop} {th : String → Pic → Prop} {P : Pic} {a0 : Nat} {x1 : Int32} {w2 : Int64} (h : wp_Ta_init po th P a0 x1 w2) : CT l D y_Ta_init (.code y_Ta_init prog_12_method_1_code 4 none) rm_Ta_init false [.ref a0, .int x1, .long w2] P po th := by
  refine ct_of (hs := []) hfl (by decide +kernel) (Or.inl ⟨rfl, rfl⟩) (Nat.le_of_ble_eq_true rfl) ?_
  intro p e s m below meth c C hmg hr hin htab ls hl
  have hl : lv_has ls 4 [(0, .ref a0), (1, .int x1), (2, .long w2)] := hl
  generalize hargs : ([.ref a0, .int x1, .long w2] : List Value).toArray = args at C ⊢
  obtain ⟨hx, hb, hml, hown, hlocks, htr, hT, hK, hSt, hN, hP0⟩ := id C
  have hP : Pi D P s.heap := hP0
  have hS : Sg (cq_A P s) s.heap s.heap P [] := Sg.start hP0
  unfold wp_Ta_init at h
  refine lv_aload_n (pc := 0) hx hb d_Ta_init_0 rfl (lv_at hl 0 rfl) ?_
  refine cr_v (pc := 1) C (rest := []) (mt_invI (As := []) hx hb hown rfl (hT _ k_987 _) (hT _ k_911 _) (hT _ k_912 _) h_Rc_init n_Rc_init rfl d_Ta_init_1) (ct_Rc_init hfl D h) k_912 k_33 ⟨Nat.le_of_ble_eq_true rfl, Nat.le_of_ble_eq_true rfl⟩ ⟨(show 0 + 0 ≤ 0 by omega), (show 0 + 0 ≤ 0 by omega)⟩ hl.1 d_Ta_init_1 (Nat.le_of_ble_eq_true rfl) hP hS (fun H locs h hP hS => ?_) (fun xx X H locs h hX hex hP hS => ?_)
  · refine lv_aload_n (pc := 4) hx hb d_Ta_init_4 rfl (lv_at hl 0 rfl) ?_
    refine lv_iload_n (pc := 5) hx hb d_Ta_init_5 rfl (lv_at hl 1 rfl) ?_
    obtain ⟨hk101, h⟩ := h
    refine pq_putFi (pc := 6) (f := 400) hx hb hT hK hP hS hown hin (k := 10) (j := 0) rfl (by decide) (by decide) (hT _ k_988 _) hk101 rfl rfl rfl rfl d_Ta_init_6 (fun H locs hP hS => ?_)
    have hk101 : p_k (s_i P 400 a0 x1) a0 = 11 := by rw [pk_i]; exact hk101
    refine lv_aload_n (pc := 9) hx hb d_Ta_init_9 rfl (lv_at hl 0 rfl) ?_
    refine lv_lload_n (pc := 10) hx hb d_Ta_init_10 rfl (lv_at hl 2 rfl) ?_
    refine pq_putFl (pc := 11) (f := 401) hx hb hT hK hP hS hown hin (k := 10) (j := 1) rfl (by decide) (by decide) (hT _ k_989 _) hk101 rfl rfl rfl rfl d_Ta_init_11 (fun H locs hP hS => ?_)
    have hk101 : p_k (s_l (s_i P 400 a0 x1) 401 a0 w2) a0 = 11 := by rw [pk_l]; exact hk101
    exact we_v (pc := 14) hx hb hlocks hr hP hS (show 0 + 0 + 0 ≤ 0 by omega) (show 0 + 0 + 0 ≤ 0 by omega) h d_Ta_init_14
  · exact cq_out hlocks (pq_nil htab rfl) (show 0 + 0 + 0 ≤ 0 by omega) (show 0 + 0 + 0 ≤ 0 by omega) hX hex hP hS h
/-! WaterWorks$Tariff.field(I)J -/
abbrev y_Ta_field : MethodName := ⟨"WaterWorks$Tariff", "field", "(I)J"⟩
abbrev rm_Ta_field : Room := { frames := 1, cells := 0, slots := 0, locals := 40 }
theorem h_Ta_field : y_Ta_field.cls ≠ "java/lang/invoke/MethodHandle" ∧ y_Ta_field.cls ≠ "java/lang/invoke/VarHandle" := by decide +kernel
theorem n_Ta_field : (parseMethodDescriptor y_Ta_field.desc).map (fun d => d.parameters.length) = some 1 := by decide +kernel
theorem d_Ta_field_0 : decode prog_12_method_2_code 0 = .ok (.aload_n 0, 1) := by decide +kernel
theorem d_Ta_field_1 : decode prog_12_method_2_code 1 = .ok (.getfield 15, 3) := by decide +kernel
theorem d_Ta_field_4 : decode prog_12_method_2_code 4 = .ok (.bipush 10, 2) := by decide +kernel
theorem d_Ta_field_6 : decode prog_12_method_2_code 6 = .ok (.iload_n 1, 1) := by decide +kernel
theorem d_Ta_field_7 : decode prog_12_method_2_code 7 = .ok (.imul, 1) := by decide +kernel
theorem d_Ta_field_8 : decode prog_12_method_2_code 8 = .ok (.lshr, 1) := by decide +kernel
theorem d_Ta_field_9 : decode prog_12_method_2_code 9 = .ok (.ldc2_w 19, 3) := by decide +kernel
theorem d_Ta_field_12 : decode prog_12_method_2_code 12 = .ok (.land, 1) := by decide +kernel
theorem d_Ta_field_13 : decode prog_12_method_2_code 13 = .ok (.lreturn, 1) := by decide +kernel
def wp_Ta_field (po : Option Value → Pic → Prop) (th : String → Pic → Prop) (P : Pic) (a0 : Nat) (x1 : Int32) : Prop := p_k P a0 = 11 ∧ po (some (.long (((p_l P 401 a0) >>> (Int32.toInt64 ((10 : Int32) * x1) &&& 63)) &&& (1023 : Int64)))) P
set_option maxHeartbeats 4000000 in
set_option maxRecDepth 100000 in
theorem ct_Ta_field {l : Launch} (hfl : l.flags = flags0) (D : pq_D) {po : Option Value → Pic → Prop} {th : String → Pic → Prop} {P : Pic} {a0 : Nat} {x1 : Int32} (h : wp_Ta_field po th P a0 x1) : CT l D y_Ta_field (.code y_Ta_field prog_12_method_2_code 2 (some .long)) rm_Ta_field true [.ref a0, .int x1] P po th := by
  refine ct_of (hs := []) hfl (by decide +kernel) (Or.inl ⟨rfl, rfl⟩) (Nat.le_of_ble_eq_true rfl) ?_
  intro p e s m below meth c C hmg hr hin htab ls hl
  have hl : lv_has ls 2 [(0, .ref a0), (1, .int x1)] := hl
  generalize hargs : ([.ref a0, .int x1] : List Value).toArray = args at C ⊢
  obtain ⟨hx, hb, hml, hown, hlocks, htr, hT, hK, hSt, hN, hP0⟩ := id C
  have L15_10 : pq_fl s m args 15 10 1 := ⟨_, "WaterWorks$Tariff", "WaterWorks$Tariff", rfl, by decide, hown, Or.inl (hT _ k_989 _), (fun _ z => z)⟩
  have hO : So s.heap s.heap := So.rf
  have hP : Pi D P s.heap := hP0
  unfold wp_Ta_field at h
  refine lv_aload_n (pc := 0) hx hb d_Ta_field_0 rfl (lv_at hl 0 rfl) ?_
  obtain ⟨hk101, h⟩ := h
  refine pq_getl (pc := 1) (f := 401) hx hb hT hK hP L15_10 hk101 rfl d_Ta_field_1 ?_
  refine lv_bipush (pc := 4) (v := 10) hx hb d_Ta_field_4 (by decide) ?_
  refine lv_iload_n (pc := 6) hx hb d_Ta_field_6 rfl (lv_at hl 1 rfl) ?_
  refine lv_imul (pc := 7) hx hb d_Ta_field_7 ?_
  refine lv_lshr (pc := 8) hx hb d_Ta_field_8 rfl ?_
  refine lv_ldc2 (pc := 9) hx hb hown (hT _ k_999 _) d_Ta_field_9 ?_
  refine lv_land (pc := 12) hx hb d_Ta_field_12 ?_
  exact wo_l (pc := 13) hx hb hlocks hr hP0 hO (show 0 + 0 ≤ 0 by omega) (show 0 + 0 ≤ 0 by omega) h d_Ta_field_13
/-! WaterWorks$Tariff.cost(JJ)J -/
abbrev y_Ta_cost : MethodName := ⟨"WaterWorks$Tariff", "cost", "(JJ)J"⟩
abbrev rm_Ta_cost : Room := { frames := 2, cells := 0, slots := 0, locals := 63 }
theorem h_Ta_cost : y_Ta_cost.cls ≠ "java/lang/invoke/MethodHandle" ∧ y_Ta_cost.cls ≠ "java/lang/invoke/VarHandle" := by decide +kernel
theorem n_Ta_cost : (parseMethodDescriptor y_Ta_cost.desc).map (fun d => d.parameters.length) = some 2 := by decide +kernel
theorem d_Ta_cost_0 : decode prog_12_method_3_code 0 = .ok (.lload_n 3, 1) := by decide +kernel
theorem d_Ta_cost_1 : decode prog_12_method_3_code 1 = .ok (.aload_n 0, 1) := by decide +kernel
theorem d_Ta_cost_2 : decode prog_12_method_3_code 2 = .ok (.iconst 0, 1) := by decide +kernel
theorem d_Ta_cost_3 : decode prog_12_method_3_code 3 = .ok (.invokevirtual 21, 3) := by decide +kernel
theorem d_Ta_cost_6 : decode prog_12_method_3_code 6 = .ok (.lload_n 1, 1) := by decide +kernel
theorem d_Ta_cost_7 : decode prog_12_method_3_code 7 = .ok (.lmul, 1) := by decide +kernel
theorem d_Ta_cost_8 : decode prog_12_method_3_code 8 = .ok (.ldc2_w 25, 3) := by decide +kernel
theorem d_Ta_cost_11 : decode prog_12_method_3_code 11 = .ok (.ldiv, 1) := by decide +kernel
theorem d_Ta_cost_12 : decode prog_12_method_3_code 12 = .ok (.invokestatic 27, 3) := by decide +kernel
theorem d_Ta_cost_15 : decode prog_12_method_3_code 15 = .ok (.lstore 5, 2) := by decide +kernel
theorem d_Ta_cost_17 : decode prog_12_method_3_code 17 = .ok (.lload 5, 2) := by decide +kernel
theorem d_Ta_cost_19 : decode prog_12_method_3_code 19 = .ok (.aload_n 0, 1) := by decide +kernel
theorem d_Ta_cost_20 : decode prog_12_method_3_code 20 = .ok (.iconst 1, 1) := by decide +kernel
theorem d_Ta_cost_21 : decode prog_12_method_3_code 21 = .ok (.invokevirtual 21, 3) := by decide +kernel
theorem d_Ta_cost_24 : decode prog_12_method_3_code 24 = .ok (.lmul, 1) := by decide +kernel
theorem d_Ta_cost_25 : decode prog_12_method_3_code 25 = .ok (.lload_n 3, 1) := by decide +kernel
theorem d_Ta_cost_26 : decode prog_12_method_3_code 26 = .ok (.lload 5, 2) := by decide +kernel
theorem d_Ta_cost_28 : decode prog_12_method_3_code 28 = .ok (.lsub, 1) := by decide +kernel
theorem d_Ta_cost_29 : decode prog_12_method_3_code 29 = .ok (.aload_n 0, 1) := by decide +kernel
theorem d_Ta_cost_30 : decode prog_12_method_3_code 30 = .ok (.iconst 2, 1) := by decide +kernel
theorem d_Ta_cost_31 : decode prog_12_method_3_code 31 = .ok (.invokevirtual 21, 3) := by decide +kernel
theorem d_Ta_cost_34 : decode prog_12_method_3_code 34 = .ok (.lmul, 1) := by decide +kernel
theorem d_Ta_cost_35 : decode prog_12_method_3_code 35 = .ok (.ladd, 1) := by decide +kernel
theorem d_Ta_cost_36 : decode prog_12_method_3_code 36 = .ok (.lstore 7, 2) := by decide +kernel
theorem d_Ta_cost_38 : decode prog_12_method_3_code 38 = .ok (.lload_n 1, 1) := by decide +kernel
theorem d_Ta_cost_39 : decode prog_12_method_3_code 39 = .ok (.aload_n 0, 1) := by decide +kernel
theorem d_Ta_cost_40 : decode prog_12_method_3_code 40 = .ok (.iconst 3, 1) := by decide +kernel
theorem d_Ta_cost_41 : decode prog_12_method_3_code 41 = .ok (.invokevirtual 21, 3) := by decide +kernel
theorem d_Ta_cost_44 : decode prog_12_method_3_code 44 = .ok (.lmul, 1) := by decide +kernel
theorem d_Ta_cost_45 : decode prog_12_method_3_code 45 = .ok (.lload 7, 2) := by decide +kernel
theorem d_Ta_cost_47 : decode prog_12_method_3_code 47 = .ok (.ladd, 1) := by decide +kernel
theorem d_Ta_cost_48 : decode prog_12_method_3_code 48 = .ok (.lload 7, 2) := by decide +kernel
theorem d_Ta_cost_50 : decode prog_12_method_3_code 50 = .ok (.aload_n 0, 1) := by decide +kernel
theorem d_Ta_cost_51 : decode prog_12_method_3_code 51 = .ok (.iconst 4, 1) := by decide +kernel
theorem d_Ta_cost_52 : decode prog_12_method_3_code 52 = .ok (.invokevirtual 21, 3) := by decide +kernel
theorem d_Ta_cost_55 : decode prog_12_method_3_code 55 = .ok (.lmul, 1) := by decide +kernel
theorem d_Ta_cost_56 : decode prog_12_method_3_code 56 = .ok (.ldc2_w 33, 3) := by decide +kernel
theorem d_Ta_cost_59 : decode prog_12_method_3_code 59 = .ok (.ladd, 1) := by decide +kernel
theorem d_Ta_cost_60 : decode prog_12_method_3_code 60 = .ok (.ldc2_w 35, 3) := by decide +kernel
theorem d_Ta_cost_63 : decode prog_12_method_3_code 63 = .ok (.ldiv, 1) := by decide +kernel
theorem d_Ta_cost_64 : decode prog_12_method_3_code 64 = .ok (.ladd, 1) := by decide +kernel
theorem d_Ta_cost_65 : decode prog_12_method_3_code 65 = .ok (.lreturn, 1) := by decide +kernel
def wp_Ta_cost (po : Option Value → Pic → Prop) (th : String → Pic → Prop) (P : Pic) (a0 : Nat) (w1 : Int64) (w3 : Int64) : Prop := p_k P a0 = 11 ∧ wp_Ta_field (cp_l fun w102 _ => wp_Ma_minL (cp_l fun w103 _ => wp_Ta_field (cp_l fun w104 _ => wp_Ta_field (cp_l fun w105 _ => ∀ (w106 : Int64), w106 = ((w103 * w104) + ((w3 - w103) * w105)) → wp_Ta_field (cp_l fun w107 _ => wp_Ta_field (cp_l fun w108 _ => po (some (.long (((w1 * w107) + w106) + (((w106 * w108) + (500 : Int64)) / (1000 : Int64))))) P) th P a0 (4 : Int32)) th P a0 (3 : Int32)) th P a0 (2 : Int32)) th P a0 (1 : Int32)) th P w3 ((w102 * w1) / (30 : Int64))) th P a0 (0 : Int32)
set_option maxHeartbeats 4000000 in
set_option maxRecDepth 100000 in
theorem ct_Ta_cost {l : Launch} (hfl : l.flags = flags0) (D : pq_D) {po : Option Value → Pic → Prop} {th : String → Pic → Prop} {P : Pic} {a0 : Nat} {w1 : Int64} {w3 : Int64} (h : wp_Ta_cost po th P a0 w1 w3) : CT l D y_Ta_cost (.code y_Ta_cost prog_12_method_3_code 9 (some .long)) rm_Ta_cost true [.ref a0, .long w1, .long w3] P po th := by
  refine ct_of (hs := []) hfl (by decide +kernel) (Or.inl ⟨rfl, rfl⟩) (Nat.le_of_ble_eq_true rfl) ?_
  intro p e s m below meth c C hmg hr hin htab ls hl
  have hl : lv_has ls 9 [(0, .ref a0), (1, .long w1), (3, .long w3)] := hl
  generalize hargs : ([.ref a0, .long w1, .long w3] : List Value).toArray = args at C ⊢
  obtain ⟨hx, hb, hml, hown, hlocks, htr, hT, hK, hSt, hN, hP0⟩ := id C
  have hO : So s.heap s.heap := So.rf
  have hP : Pi D P s.heap := hP0
  unfold wp_Ta_cost at h
  refine lv_lload_n (pc := 0) hx hb d_Ta_cost_0 rfl (lv_at hl 2 rfl) ?_
  refine lv_aload_n (pc := 1) hx hb d_Ta_cost_1 rfl (lv_at hl 0 rfl) ?_
  refine lv_iconst (pc := 2) (v := 0) hx hb d_Ta_cost_2 (by decide) ?_
  obtain ⟨hk101, h⟩ := h
  refine co_l (pc := 3) C (rest := [.long w3]) (mt_invV (As := [.int (0 : Int32)]) hx hb hown (hT _ k_1047 _) (hT _ k_996 _) (hT _ k_997 _) (mt_Cd.code (hT _ k_998 #[])) h_Ta_field (pq_recv hK hP hk101 rfl) n_Ta_field rfl d_Ta_cost_3) (ct_Ta_field hfl D h) k_998 k_35 ⟨Nat.le_of_ble_eq_true rfl, Nat.le_of_ble_eq_true rfl⟩ ⟨(show 0 + 0 ≤ 0 by omega), (show 0 + 0 ≤ 0 by omega)⟩ hl.1 d_Ta_cost_3 (Nat.le_of_ble_eq_true rfl) hO (fun w102 H h hO => ?_) (fun xx X H h hX hex hO => ?_)
  · have hP : Pi D P H := So.pi hP0 hO
    refine lv_lload_n (pc := 6) hx hb d_Ta_cost_6 rfl (lv_at hl 1 rfl) ?_
    refine lv_lmul (pc := 7) hx hb d_Ta_cost_7 ?_
    refine lv_ldc2 (pc := 8) hx hb hown (hT _ k_1048 _) d_Ta_cost_8 ?_
    refine lv_ldiv (pc := 11) hx hb d_Ta_cost_11 (by decide) ?_
    refine co_l (pc := 12) C (rest := []) (mt_invS (As := [.long w3, .long ((w102 * w1) / (30 : Int64))]) hx hb hown (hT _ k_1049 _) (hT _ k_1050 _) (hT _ k_15 _) (mt_Cd.code (hT _ k_1051 #[])) h_Ma_minL n_Ma_minL rfl d_Ta_cost_12) (ct_Ma_minL hfl D h) k_1051 k_15 ⟨Nat.le_of_ble_eq_true rfl, Nat.le_of_ble_eq_true rfl⟩ ⟨(show 0 + 0 + 0 ≤ 0 by omega), (show 0 + 0 + 0 ≤ 0 by omega)⟩ hl.1 d_Ta_cost_12 (Nat.le_of_ble_eq_true rfl) hO (fun w103 H h hO => ?_) (fun xx X H h hX hex hO => ?_)
    · have hP : Pi D P H := So.pi hP0 hO
      refine lv_lstore (pc := 15) (lv' := [(5, .long w103), (0, .ref a0), (1, .long w1), (3, .long w3)]) hx hb d_Ta_cost_15 hl (by decide) rfl (fun ls hl => ?_)
      refine lv_lload (pc := 17) hx hb d_Ta_cost_17 (lv_at hl 0 rfl) ?_
      refine lv_aload_n (pc := 19) hx hb d_Ta_cost_19 rfl (lv_at hl 1 rfl) ?_
      refine lv_iconst (pc := 20) (v := 1) hx hb d_Ta_cost_20 (by decide) ?_
      refine co_l (pc := 21) C (rest := [.long w103]) (mt_invV (As := [.int (1 : Int32)]) hx hb hown (hT _ k_1047 _) (hT _ k_996 _) (hT _ k_997 _) (mt_Cd.code (hT _ k_998 #[])) h_Ta_field (pq_recv hK hP hk101 rfl) n_Ta_field rfl d_Ta_cost_21) (ct_Ta_field hfl D h) k_998 k_35 ⟨Nat.le_of_ble_eq_true rfl, Nat.le_of_ble_eq_true rfl⟩ ⟨(show 0 + 0 + 0 + 0 ≤ 0 by omega), (show 0 + 0 + 0 + 0 ≤ 0 by omega)⟩ hl.1 d_Ta_cost_21 (Nat.le_of_ble_eq_true rfl) hO (fun w104 H h hO => ?_) (fun xx X H h hX hex hO => ?_)
      · have hP : Pi D P H := So.pi hP0 hO
        refine lv_lmul (pc := 24) hx hb d_Ta_cost_24 ?_
        refine lv_lload_n (pc := 25) hx hb d_Ta_cost_25 rfl (lv_at hl 3 rfl) ?_
        refine lv_lload (pc := 26) hx hb d_Ta_cost_26 (lv_at hl 0 rfl) ?_
        refine lv_lsub (pc := 28) hx hb d_Ta_cost_28 ?_
        refine lv_aload_n (pc := 29) hx hb d_Ta_cost_29 rfl (lv_at hl 1 rfl) ?_
        refine lv_iconst (pc := 30) (v := 2) hx hb d_Ta_cost_30 (by decide) ?_
        refine co_l (pc := 31) C (rest := [.long (w3 - w103), .long (w103 * w104)]) (mt_invV (As := [.int (2 : Int32)]) hx hb hown (hT _ k_1047 _) (hT _ k_996 _) (hT _ k_997 _) (mt_Cd.code (hT _ k_998 #[])) h_Ta_field (pq_recv hK hP hk101 rfl) n_Ta_field rfl d_Ta_cost_31) (ct_Ta_field hfl D h) k_998 k_35 ⟨Nat.le_of_ble_eq_true rfl, Nat.le_of_ble_eq_true rfl⟩ ⟨(show 0 + 0 + 0 + 0 + 0 ≤ 0 by omega), (show 0 + 0 + 0 + 0 + 0 ≤ 0 by omega)⟩ hl.1 d_Ta_cost_31 (Nat.le_of_ble_eq_true rfl) hO (fun w105 H h hO => ?_) (fun xx X H h hX hex hO => ?_)
        · have hP : Pi D P H := So.pi hP0 hO
          refine lv_lmul (pc := 34) hx hb d_Ta_cost_34 ?_
          refine lv_ladd (pc := 35) hx hb d_Ta_cost_35 ?_
          refine lv_topl (fun w106 ew106 => ?_)
          replace h := h w106 ew106
          refine lv_lstore (pc := 36) (lv' := [(7, .long w106), (5, .long w103), (0, .ref a0), (1, .long w1), (3, .long w3)]) hx hb d_Ta_cost_36 hl (by decide) rfl (fun ls hl => ?_)
          refine lv_lload_n (pc := 38) hx hb d_Ta_cost_38 rfl (lv_at hl 3 rfl) ?_
          refine lv_aload_n (pc := 39) hx hb d_Ta_cost_39 rfl (lv_at hl 2 rfl) ?_
          refine lv_iconst (pc := 40) (v := 3) hx hb d_Ta_cost_40 (by decide) ?_
          refine co_l (pc := 41) C (rest := [.long w1]) (mt_invV (As := [.int (3 : Int32)]) hx hb hown (hT _ k_1047 _) (hT _ k_996 _) (hT _ k_997 _) (mt_Cd.code (hT _ k_998 #[])) h_Ta_field (pq_recv hK hP hk101 rfl) n_Ta_field rfl d_Ta_cost_41) (ct_Ta_field hfl D h) k_998 k_35 ⟨Nat.le_of_ble_eq_true rfl, Nat.le_of_ble_eq_true rfl⟩ ⟨(show 0 + 0 + 0 + 0 + 0 + 0 ≤ 0 by omega), (show 0 + 0 + 0 + 0 + 0 + 0 ≤ 0 by omega)⟩ hl.1 d_Ta_cost_41 (Nat.le_of_ble_eq_true rfl) hO (fun w107 H h hO => ?_) (fun xx X H h hX hex hO => ?_)
          · have hP : Pi D P H := So.pi hP0 hO
            refine lv_lmul (pc := 44) hx hb d_Ta_cost_44 ?_
            refine lv_lload (pc := 45) hx hb d_Ta_cost_45 (lv_at hl 0 rfl) ?_
            refine lv_ladd (pc := 47) hx hb d_Ta_cost_47 ?_
            refine lv_lload (pc := 48) hx hb d_Ta_cost_48 (lv_at hl 0 rfl) ?_
            refine lv_aload_n (pc := 50) hx hb d_Ta_cost_50 rfl (lv_at hl 2 rfl) ?_
            refine lv_iconst (pc := 51) (v := 4) hx hb d_Ta_cost_51 (by decide) ?_
            refine co_l (pc := 52) C (rest := [.long w106, .long ((w1 * w107) + w106)]) (mt_invV (As := [.int (4 : Int32)]) hx hb hown (hT _ k_1047 _) (hT _ k_996 _) (hT _ k_997 _) (mt_Cd.code (hT _ k_998 #[])) h_Ta_field (pq_recv hK hP hk101 rfl) n_Ta_field rfl d_Ta_cost_52) (ct_Ta_field hfl D h) k_998 k_35 ⟨Nat.le_of_ble_eq_true rfl, Nat.le_of_ble_eq_true rfl⟩ ⟨(show 0 + 0 + 0 + 0 + 0 + 0 + 0 ≤ 0 by omega), (show 0 + 0 + 0 + 0 + 0 + 0 + 0 ≤ 0 by omega)⟩ hl.1 d_Ta_cost_52 (Nat.le_of_ble_eq_true rfl) hO (fun w108 H h hO => ?_) (fun xx X H h hX hex hO => ?_)
            · have hP : Pi D P H := So.pi hP0 hO
              refine lv_lmul (pc := 55) hx hb d_Ta_cost_55 ?_
              refine lv_ldc2 (pc := 56) hx hb hown (hT _ k_1052 _) d_Ta_cost_56 ?_
              refine lv_ladd (pc := 59) hx hb d_Ta_cost_59 ?_
              refine lv_ldc2 (pc := 60) hx hb hown (hT _ k_1053 _) d_Ta_cost_60 ?_
              refine lv_ldiv (pc := 63) hx hb d_Ta_cost_63 (by decide) ?_
              refine lv_ladd (pc := 64) hx hb d_Ta_cost_64 ?_
              exact wo_l (pc := 65) hx hb hlocks hr hP0 hO (show 0 + 0 + 0 + 0 + 0 + 0 + 0 + 0 ≤ 0 by omega) (show 0 + 0 + 0 + 0 + 0 + 0 + 0 + 0 ≤ 0 by omega) h d_Ta_cost_65
            · exact cq_outo hlocks (pq_nil htab rfl) (show 0 + 0 + 0 + 0 + 0 + 0 + 0 + 0 ≤ 0 by omega) (show 0 + 0 + 0 + 0 + 0 + 0 + 0 + 0 ≤ 0 by omega) hX hex hP0 hO h
          · exact cq_outo hlocks (pq_nil htab rfl) (show 0 + 0 + 0 + 0 + 0 + 0 + 0 ≤ 0 by omega) (show 0 + 0 + 0 + 0 + 0 + 0 + 0 ≤ 0 by omega) hX hex hP0 hO h
        · exact cq_outo hlocks (pq_nil htab rfl) (show 0 + 0 + 0 + 0 + 0 + 0 ≤ 0 by omega) (show 0 + 0 + 0 + 0 + 0 + 0 ≤ 0 by omega) hX hex hP0 hO h
      · exact cq_outo hlocks (pq_nil htab rfl) (show 0 + 0 + 0 + 0 + 0 ≤ 0 by omega) (show 0 + 0 + 0 + 0 + 0 ≤ 0 by omega) hX hex hP0 hO h
    · exact cq_outo hlocks (pq_nil htab rfl) (show 0 + 0 + 0 + 0 ≤ 0 by omega) (show 0 + 0 + 0 + 0 ≤ 0 by omega) hX hex hP0 hO h
  · exact cq_outo hlocks (pq_nil htab rfl) (show 0 + 0 + 0 ≤ 0 by omega) (show 0 + 0 + 0 ≤ 0 by omega) hX hex hP0 hO h
/-! WaterWorks$Tariff.day()I -/
abbrev y_Ta_day : MethodName := ⟨"WaterWorks$Tariff", "day", "()I"⟩
abbrev rm_Ta_day : Room := { frames := 1, cells := 0, slots := 0, locals := 40 }
theorem h_Ta_day : y_Ta_day.cls ≠ "java/lang/invoke/MethodHandle" ∧ y_Ta_day.cls ≠ "java/lang/invoke/VarHandle" := by decide +kernel
theorem n_Ta_day : (parseMethodDescriptor y_Ta_day.desc).map (fun d => d.parameters.length) = some 0 := by decide +kernel
theorem d_Ta_day_0 : decode prog_12_method_7_code 0 = .ok (.aload_n 0, 1) := by decide +kernel
theorem d_Ta_day_1 : decode prog_12_method_7_code 1 = .ok (.getfield 9, 3) := by decide +kernel
theorem d_Ta_day_4 : decode prog_12_method_7_code 4 = .ok (.ireturn, 1) := by decide +kernel
def wp_Ta_day (po : Option Value → Pic → Prop) (th : String → Pic → Prop) (P : Pic) (a0 : Nat) : Prop := p_k P a0 = 11 ∧ po (some (.int (p_i P 400 a0))) P
set_option maxHeartbeats 4000000 in
set_option maxRecDepth 100000 in
theorem ct_Ta_day {l : Launch} (hfl : l.flags = flags0) (D : pq_D) {po : Option Value → Pic → Prop} {th : String → Pic → Prop} {P : Pic} {a0 : Nat} (h : wp_Ta_day po th P a0) : CT l D y_Ta_day (.code y_Ta_day prog_12_method_7_code 1 (some .int)) rm_Ta_day true [.ref a0] P po th := by
  refine ct_of (hs := []) hfl (by decide +kernel) (Or.inl ⟨rfl, rfl⟩) (Nat.le_of_ble_eq_true rfl) ?_
  intro p e s m below meth c C hmg hr hin htab ls hl
  have hl : lv_has ls 1 [(0, .ref a0)] := hl
  generalize hargs : ([.ref a0] : List Value).toArray = args at C ⊢
  obtain ⟨hx, hb, hml, hown, hlocks, htr, hT, hK, hSt, hN, hP0⟩ := id C
  have L9_10 : pq_fl s m args 9 10 0 := ⟨_, "WaterWorks$Tariff", "WaterWorks$Tariff", rfl, by decide, hown, Or.inl (hT _ k_988 _), (fun _ z => z)⟩
  have hO : So s.heap s.heap := So.rf
  have hP : Pi D P s.heap := hP0
  unfold wp_Ta_day at h
  refine lv_aload_n (pc := 0) hx hb d_Ta_day_0 rfl (lv_at hl 0 rfl) ?_
  obtain ⟨hk101, h⟩ := h
  refine pq_geti (pc := 1) (f := 400) hx hb hT hK hP L9_10 hk101 rfl d_Ta_day_1 ?_
  exact wo_i (pc := 4) hx hb hlocks hr hP0 hO (show 0 + 0 ≤ 0 by omega) (show 0 + 0 ≤ 0 by omega) h d_Ta_day_4
/-! WaterWorks$Bill.<init>(IIJ)V -/
abbrev y_Bi_init : MethodName := ⟨"WaterWorks$Bill", "<init>", "(IIJ)V"⟩
abbrev rm_Bi_init : Room := { frames := 1, cells := 0, slots := 0, locals := 40 }
theorem h_Bi_init : y_Bi_init.cls ≠ "java/lang/invoke/MethodHandle" ∧ y_Bi_init.cls ≠ "java/lang/invoke/VarHandle" := by decide +kernel
theorem n_Bi_init : (parseMethodDescriptor y_Bi_init.desc).map (fun d => d.parameters.length) = some 3 := by decide +kernel
theorem d_Bi_init_0 : decode prog_3_method_1_code 0 = .ok (.aload_n 0, 1) := by decide +kernel
theorem d_Bi_init_1 : decode prog_3_method_1_code 1 = .ok (.invokespecial 1, 3) := by decide +kernel
theorem d_Bi_init_4 : decode prog_3_method_1_code 4 = .ok (.aload_n 0, 1) := by decide +kernel
theorem d_Bi_init_5 : decode prog_3_method_1_code 5 = .ok (.iload_n 1, 1) := by decide +kernel
theorem d_Bi_init_6 : decode prog_3_method_1_code 6 = .ok (.putfield 7, 3) := by decide +kernel
theorem d_Bi_init_9 : decode prog_3_method_1_code 9 = .ok (.aload_n 0, 1) := by decide +kernel
theorem d_Bi_init_10 : decode prog_3_method_1_code 10 = .ok (.iload_n 2, 1) := by decide +kernel
theorem d_Bi_init_11 : decode prog_3_method_1_code 11 = .ok (.putfield 13, 3) := by decide +kernel
theorem d_Bi_init_14 : decode prog_3_method_1_code 14 = .ok (.aload_n 0, 1) := by decide +kernel
theorem d_Bi_init_15 : decode prog_3_method_1_code 15 = .ok (.lload_n 3, 1) := by decide +kernel
theorem d_Bi_init_16 : decode prog_3_method_1_code 16 = .ok (.putfield 16, 3) := by decide +kernel
theorem d_Bi_init_19 : decode prog_3_method_1_code 19 = .ok (.return_, 1) := by decide +kernel
def wp_Bi_init (po : Option Value → Pic → Prop) (th : String → Pic → Prop) (P : Pic) (a0 : Nat) (x1 : Int32) (x2 : Int32) (w3 : Int64) : Prop := p_k P a0 = 3 ∧ po none (s_l (s_i (s_i P 80 a0 x1) 81 a0 x2) 82 a0 w3)
set_option maxHeartbeats 4000000 in
set_option maxRecDepth 100000 in
theorem ct_Bi_init {l : Launch} (hfl : l.flags = flags0) (D : pq_D) {po : Option Value → Pic → Prop} {th : String → Pic → Prop} {P : Pic} {a0 : Nat} {x1 : Int32} {x2 : Int32} {w3 : Int64} (h : wp_Bi_init po th P a0 x1 x2 w3) : CT l D y_Bi_init (.code y_Bi_init prog_3_method_1_code 5 none) rm_Bi_init false [.ref a0, .int x1, .int x2, .long w3] P po th := by
  refine ct_of (hs := []) hfl (by decide +kernel) (Or.inl ⟨rfl, rfl⟩) (Nat.le_of_ble_eq_true rfl) ?_
  intro p e s m below meth c C hmg hr hin htab ls hl
  have hl : lv_has ls 5 [(0, .ref a0), (1, .int x1), (2, .int x2), (3, .long w3)] := hl
  generalize hargs : ([.ref a0, .int x1, .int x2, .long w3] : List Value).toArray = args at C ⊢
  obtain ⟨hx, hb, hml, hown, hlocks, htr, hT, hK, hSt, hN, hP0⟩ := id C
  have L16_2 : pq_fl s m args 16 2 2 := ⟨_, "WaterWorks$Bill", "WaterWorks$Bill", rfl, by decide, hown, Or.inl (hT _ k_1065 _), (fun _ z => z)⟩
  have hP : Pi D P s.heap := hP0
  have hS : Sg (cq_A P s) s.heap s.heap P [] := Sg.start hP0
  unfold wp_Bi_init at h
  refine lv_aload_n (pc := 0) hx hb d_Bi_init_0 rfl (lv_at hl 0 rfl) ?_
  refine W.objInit hx hb hown (hT _ k_1059 _) (hT _ k_43 _) (hT _ k_44 _) rfl (by rw [hml]; exact hl.1) rfl d_Bi_init_1 (Nat.le_of_ble_eq_true rfl) (Nat.le_of_ble_eq_true rfl) ?_
  refine W.eq (g2 := F0 m 4 ls []) rfl ?_
  refine lv_aload_n (pc := 4) hx hb d_Bi_init_4 rfl (lv_at hl 0 rfl) ?_
  refine lv_iload_n (pc := 5) hx hb d_Bi_init_5 rfl (lv_at hl 1 rfl) ?_
  obtain ⟨hk101, h⟩ := h
  refine pq_putFi (pc := 6) (f := 80) hx hb hT hK hP hS hown hin (k := 2) (j := 0) rfl (by decide) (by decide) (hT _ k_1060 _) hk101 rfl rfl rfl rfl d_Bi_init_6 (fun H locs hP hS => ?_)
  have hk101 : p_k (s_i P 80 a0 x1) a0 = 3 := by rw [pk_i]; exact hk101
  refine lv_aload_n (pc := 9) hx hb d_Bi_init_9 rfl (lv_at hl 0 rfl) ?_
  refine lv_iload_n (pc := 10) hx hb d_Bi_init_10 rfl (lv_at hl 2 rfl) ?_
  refine pq_putFi (pc := 11) (f := 81) hx hb hT hK hP hS hown hin (k := 2) (j := 1) rfl (by decide) (by decide) (hT _ k_1062 _) hk101 rfl rfl rfl rfl d_Bi_init_11 (fun H locs hP hS => ?_)
  have hk101 : p_k (s_i (s_i P 80 a0 x1) 81 a0 x2) a0 = 3 := by rw [pk_i]; exact hk101
  refine lv_aload_n (pc := 14) hx hb d_Bi_init_14 rfl (lv_at hl 0 rfl) ?_
  refine lv_lload_n (pc := 15) hx hb d_Bi_init_15 rfl (lv_at hl 3 rfl) ?_
  refine pq_putl (pc := 16) (f := 82) hx hb hT hK hP hS L16_2 hk101 rfl rfl rfl rfl d_Bi_init_16 (fun H locs hP hS => ?_)
  have hk101 : p_k (s_l (s_i (s_i P 80 a0 x1) 81 a0 x2) 82 a0 w3) a0 = 3 := by rw [pk_l]; exact hk101
  exact we_v (pc := 19) hx hb hlocks hr hP hS (show 0 + 0 ≤ 0 by omega) (show 0 + 0 ≤ 0 by omega) h d_Bi_init_19
/-! WaterWorks$AsItIs.<init>()V -/
abbrev y_As_init : MethodName := ⟨"WaterWorks$AsItIs", "<init>", "()V"⟩
abbrev rm_As_init : Room := { frames := 1, cells := 0, slots := 0, locals := 40 }
theorem h_As_init : y_As_init.cls ≠ "java/lang/invoke/MethodHandle" ∧ y_As_init.cls ≠ "java/lang/invoke/VarHandle" := by decide +kernel
theorem n_As_init : (parseMethodDescriptor y_As_init.desc).map (fun d => d.parameters.length) = some 0 := by decide +kernel
theorem d_As_init_0 : decode prog_2_method_1_code 0 = .ok (.aload_n 0, 1) := by decide +kernel
theorem d_As_init_1 : decode prog_2_method_1_code 1 = .ok (.invokespecial 1, 3) := by decide +kernel
theorem d_As_init_4 : decode prog_2_method_1_code 4 = .ok (.return_, 1) := by decide +kernel
def wp_As_init (po : Option Value → Pic → Prop) (th : String → Pic → Prop) (P : Pic) (a0 : Nat) : Prop := po none P
set_option maxHeartbeats 4000000 in
set_option maxRecDepth 100000 in
theorem ct_As_init {l : Launch} (hfl : l.flags = flags0) (D : pq_D) {po : Option Value → Pic → Prop} {th : String → Pic → Prop} {P : Pic} {a0 : Nat} (h : wp_As_init po th P a0) : CT l D y_As_init (.code y_As_init prog_2_method_1_code 1 none) rm_As_init true [.ref a0] P po th := by
  refine ct_of (hs := []) hfl (by decide +kernel) (Or.inl ⟨rfl, rfl⟩) (Nat.le_of_ble_eq_true rfl) ?_
  intro p e s m below meth c C hmg hr hin htab ls hl
  have hl : lv_has ls 1 [(0, .ref a0)] := hl
  generalize hargs : ([.ref a0] : List Value).toArray = args at C ⊢
  obtain ⟨hx, hb, hml, hown, hlocks, htr, hT, hK, hSt, hN, hP0⟩ := id C
  have hO : So s.heap s.heap := So.rf
  have hP : Pi D P s.heap := hP0
  unfold wp_As_init at h
  refine lv_aload_n (pc := 0) hx hb d_As_init_0 rfl (lv_at hl 0 rfl) ?_
  refine W.objInit hx hb hown (hT _ k_397 _) (hT _ k_43 _) (hT _ k_44 _) rfl (by rw [hml]; exact hl.1) rfl d_As_init_1 (Nat.le_of_ble_eq_true rfl) (Nat.le_of_ble_eq_true rfl) ?_
  refine W.eq (g2 := F0 m 4 ls []) rfl ?_
  exact wo_v (pc := 4) hx hb hlocks hr hP0 hO (show 0 + 0 ≤ 0 by omega) (show 0 + 0 ≤ 0 by omega) h d_As_init_4
/-! WaterWorks$WithPlan.<init>()V -/
abbrev y_Wi_init : MethodName := ⟨"WaterWorks$WithPlan", "<init>", "()V"⟩
abbrev rm_Wi_init : Room := { frames := 1, cells := 0, slots := 0, locals := 40 }
theorem h_Wi_init : y_Wi_init.cls ≠ "java/lang/invoke/MethodHandle" ∧ y_Wi_init.cls ≠ "java/lang/invoke/VarHandle" := by decide +kernel
theorem n_Wi_init : (parseMethodDescriptor y_Wi_init.desc).map (fun d => d.parameters.length) = some 0 := by decide +kernel
theorem d_Wi_init_0 : decode prog_13_method_1_code 0 = .ok (.aload_n 0, 1) := by decide +kernel
theorem d_Wi_init_1 : decode prog_13_method_1_code 1 = .ok (.invokespecial 1, 3) := by decide +kernel
theorem d_Wi_init_4 : decode prog_13_method_1_code 4 = .ok (.return_, 1) := by decide +kernel
def wp_Wi_init (po : Option Value → Pic → Prop) (th : String → Pic → Prop) (P : Pic) (a0 : Nat) : Prop := po none P
set_option maxHeartbeats 4000000 in
set_option maxRecDepth 100000 in
theorem ct_Wi_init {l : Launch} (hfl : l.flags = flags0) (D : pq_D) {po : Option Value → Pic → Prop} {th : String → Pic → Prop} {P : Pic} {a0 : Nat} (h : wp_Wi_init po th P a0) : CT l D y_Wi_init (.code y_Wi_init prog_13_method_1_code 1 none) rm_Wi_init true [.ref a0] P po th := by
  refine ct_of (hs := []) hfl (by decide +kernel) (Or.inl ⟨rfl, rfl⟩) (Nat.le_of_ble_eq_true rfl) ?_
  intro p e s m below meth c C hmg hr hin htab ls hl
  have hl : lv_has ls 1 [(0, .ref a0)] := hl
  generalize hargs : ([.ref a0] : List Value).toArray = args at C ⊢
  obtain ⟨hx, hb, hml, hown, hlocks, htr, hT, hK, hSt, hN, hP0⟩ := id C
  have hO : So s.heap s.heap := So.rf
  have hP : Pi D P s.heap := hP0
  unfold wp_Wi_init at h
  refine lv_aload_n (pc := 0) hx hb d_Wi_init_0 rfl (lv_at hl 0 rfl) ?_
  refine W.objInit hx hb hown (hT _ k_404 _) (hT _ k_43 _) (hT _ k_44 _) rfl (by rw [hml]; exact hl.1) rfl d_Wi_init_1 (Nat.le_of_ble_eq_true rfl) (Nat.le_of_ble_eq_true rfl) ?_
  refine W.eq (g2 := F0 m 4 ls []) rfl ?_
  exact wo_v (pc := 4) hx hb hlocks hr hP0 hO (show 0 + 0 ≤ 0 by omega) (show 0 + 0 ≤ 0 by omega) h d_Wi_init_4
/-! WaterWorks$Fixed.<init>()V -/
abbrev y_Fx_init : MethodName := ⟨"WaterWorks$Fixed", "<init>", "()V"⟩
abbrev rm_Fx_init : Room := { frames := 1, cells := 0, slots := 0, locals := 40 }
theorem h_Fx_init : y_Fx_init.cls ≠ "java/lang/invoke/MethodHandle" ∧ y_Fx_init.cls ≠ "java/lang/invoke/VarHandle" := by decide +kernel
theorem n_Fx_init : (parseMethodDescriptor y_Fx_init.desc).map (fun d => d.parameters.length) = some 0 := by decide +kernel
theorem d_Fx_init_0 : decode prog_6_method_1_code 0 = .ok (.aload_n 0, 1) := by decide +kernel
theorem d_Fx_init_1 : decode prog_6_method_1_code 1 = .ok (.invokespecial 1, 3) := by decide +kernel
theorem d_Fx_init_4 : decode prog_6_method_1_code 4 = .ok (.return_, 1) := by decide +kernel
def wp_Fx_init (po : Option Value → Pic → Prop) (th : String → Pic → Prop) (P : Pic) (a0 : Nat) : Prop := po none P
set_option maxHeartbeats 4000000 in
set_option maxRecDepth 100000 in
theorem ct_Fx_init {l : Launch} (hfl : l.flags = flags0) (D : pq_D) {po : Option Value → Pic → Prop} {th : String → Pic → Prop} {P : Pic} {a0 : Nat} (h : wp_Fx_init po th P a0) : CT l D y_Fx_init (.code y_Fx_init prog_6_method_1_code 1 none) rm_Fx_init true [.ref a0] P po th := by
  refine ct_of (hs := []) hfl (by decide +kernel) (Or.inl ⟨rfl, rfl⟩) (Nat.le_of_ble_eq_true rfl) ?_
  intro p e s m below meth c C hmg hr hin htab ls hl
  have hl : lv_has ls 1 [(0, .ref a0)] := hl
  generalize hargs : ([.ref a0] : List Value).toArray = args at C ⊢
  obtain ⟨hx, hb, hml, hown, hlocks, htr, hT, hK, hSt, hN, hP0⟩ := id C
  have hO : So s.heap s.heap := So.rf
  have hP : Pi D P s.heap := hP0
  unfold wp_Fx_init at h
  refine lv_aload_n (pc := 0) hx hb d_Fx_init_0 rfl (lv_at hl 0 rfl) ?_
  refine W.objInit hx hb hown (hT _ k_411 _) (hT _ k_43 _) (hT _ k_44 _) rfl (by rw [hml]; exact hl.1) rfl d_Fx_init_1 (Nat.le_of_ble_eq_true rfl) (Nat.le_of_ble_eq_true rfl) ?_
  refine W.eq (g2 := F0 m 4 ls []) rfl ?_
  exact wo_v (pc := 4) hx hb hlocks hr hP0 hO (show 0 + 0 ≤ 0 by omega) (show 0 + 0 ≤ 0 by omega) h d_Fx_init_4
/-! WaterWorks$End.canBeShut()Z -/
abbrev y_En_canBeShut : MethodName := ⟨"WaterWorks$End", "canBeShut", "()Z"⟩
abbrev rm_En_canBeShut : Room := { frames := 1, cells := 0, slots := 0, locals := 40 }
theorem h_En_canBeShut : y_En_canBeShut.cls ≠ "java/lang/invoke/MethodHandle" ∧ y_En_canBeShut.cls ≠ "java/lang/invoke/VarHandle" := by decide +kernel
theorem n_En_canBeShut : (parseMethodDescriptor y_En_canBeShut.desc).map (fun d => d.parameters.length) = some 0 := by decide +kernel
theorem d_En_canBeShut_0 : decode prog_5_method_3_code 0 = .ok (.aload_n 0, 1) := by decide +kernel
theorem d_En_canBeShut_1 : decode prog_5_method_3_code 1 = .ok (.getfield 24, 3) := by decide +kernel
theorem d_En_canBeShut_4 : decode prog_5_method_3_code 4 = .ok (.ifCond .eq 21, 3) := by decide +kernel
theorem d_En_canBeShut_7 : decode prog_5_method_3_code 7 = .ok (.aload_n 0, 1) := by decide +kernel
theorem d_En_canBeShut_8 : decode prog_5_method_3_code 8 = .ok (.getfield 7, 3) := by decide +kernel
theorem d_En_canBeShut_11 : decode prog_5_method_3_code 11 = .ok (.ifCond .eq 14, 3) := by decide +kernel
theorem d_En_canBeShut_14 : decode prog_5_method_3_code 14 = .ok (.aload_n 0, 1) := by decide +kernel
theorem d_En_canBeShut_15 : decode prog_5_method_3_code 15 = .ok (.getfield 39, 3) := by decide +kernel
theorem d_En_canBeShut_18 : decode prog_5_method_3_code 18 = .ok (.ifCond .ne 7, 3) := by decide +kernel
theorem d_En_canBeShut_21 : decode prog_5_method_3_code 21 = .ok (.iconst 1, 1) := by decide +kernel
theorem d_En_canBeShut_22 : decode prog_5_method_3_code 22 = .ok (.goto 4, 3) := by decide +kernel
theorem d_En_canBeShut_25 : decode prog_5_method_3_code 25 = .ok (.iconst 0, 1) := by decide +kernel
theorem d_En_canBeShut_26 : decode prog_5_method_3_code 26 = .ok (.ireturn, 1) := by decide +kernel
def wp_En_canBeShut (po : Option Value → Pic → Prop) (th : String → Pic → Prop) (P : Pic) (a0 : Nat) : Prop := p_k P a0 = 5 ∧ (((p_i P 163 a0) = 0 → (po (some (.int (0 : Int32))) P)) ∧ (¬ (p_i P 163 a0) = 0 → ((((p_i P 164 a0) = 0 → (po (some (.int (0 : Int32))) P)) ∧ (¬ (p_i P 164 a0) = 0 → (((¬ (p_i P 165 a0) = 0 → (po (some (.int (0 : Int32))) P)) ∧ ((p_i P 165 a0) = 0 → (po (some (.int (1 : Int32))) P)))))))))
set_option maxHeartbeats 4000000 in
set_option maxRecDepth 100000 in
theorem ct_En_canBeShut {l : Launch} (hfl : l.flags = flags0) (D : pq_D) {po : Option Value → Pic → Prop} {th : String → Pic → Prop} {P : Pic} {a0 : Nat} (h : wp_En_canBeShut po th P a0) : CT l D y_En_canBeShut (.code y_En_canBeShut prog_5_method_3_code 1 (some .boolean)) rm_En_canBeShut true [.ref a0] P po th := by
  refine ct_of (hs := []) hfl (by decide +kernel) (Or.inl ⟨rfl, rfl⟩) (Nat.le_of_ble_eq_true rfl) ?_
  intro p e s m below meth c C hmg hr hin htab ls hl
  have hl : lv_has ls 1 [(0, .ref a0)] := hl
  generalize hargs : ([.ref a0] : List Value).toArray = args at C ⊢
  obtain ⟨hx, hb, hml, hown, hlocks, htr, hT, hK, hSt, hN, hP0⟩ := id C
  have L24_4 : pq_fl s m args 24 4 3 := ⟨_, "WaterWorks$End", "WaterWorks$End", rfl, by decide, hown, Or.inl (hT _ k_647 _), (fun _ z => z)⟩
  have L39_4 : pq_fl s m args 39 4 5 := ⟨_, "WaterWorks$End", "WaterWorks$End", rfl, by decide, hown, Or.inl (hT _ k_654 _), (fun _ z => z)⟩
  have L7_4 : pq_fl s m args 7 4 4 := ⟨_, "WaterWorks$End", "WaterWorks$End", rfl, by decide, hown, Or.inl (hT _ k_649 _), (fun _ z => z)⟩
  have hO : So s.heap s.heap := So.rf
  have hP : Pi D P s.heap := hP0
  unfold wp_En_canBeShut at h
  refine lv_aload_n (pc := 0) hx hb d_En_canBeShut_0 rfl (lv_at hl 0 rfl) ?_
  obtain ⟨hk101, h⟩ := h
  refine pq_geti (pc := 1) (f := 163) hx hb hT hK hP L24_4 hk101 rfl d_En_canBeShut_1 ?_
  refine lv_if_eq (pc := 4) (tgt := 25) hx hb d_En_canBeShut_4 (by decide) (fun c104 => ?_) (fun c104 => ?_)
  · replace h := h.1 c104
    refine lv_iconst (pc := 25) (v := 0) hx hb d_En_canBeShut_25 (by decide) ?_
    exact wo_z (pc := 26) hx hb hlocks hr hP0 hO (show 0 + 0 ≤ 0 by omega) (show 0 + 0 ≤ 0 by omega) (by decide) h d_En_canBeShut_26
  · replace h := h.2 c104
    refine lv_aload_n (pc := 7) hx hb d_En_canBeShut_7 rfl (lv_at hl 0 rfl) ?_
    refine pq_geti (pc := 8) (f := 164) hx hb hT hK hP L7_4 hk101 rfl d_En_canBeShut_8 ?_
    refine lv_if_eq (pc := 11) (tgt := 25) hx hb d_En_canBeShut_11 (by decide) (fun c103 => ?_) (fun c103 => ?_)
    · replace h := h.1 c103
      refine lv_iconst (pc := 25) (v := 0) hx hb d_En_canBeShut_25 (by decide) ?_
      exact wo_z (pc := 26) hx hb hlocks hr hP0 hO (show 0 + 0 ≤ 0 by omega) (show 0 + 0 ≤ 0 by omega) (by decide) h d_En_canBeShut_26
    · replace h := h.2 c103
      refine lv_aload_n (pc := 14) hx hb d_En_canBeShut_14 rfl (lv_at hl 0 rfl) ?_
      refine pq_geti (pc := 15) (f := 165) hx hb hT hK hP L39_4 hk101 rfl d_En_canBeShut_15 ?_
      refine lv_if_ne (pc := 18) (tgt := 25) hx hb d_En_canBeShut_18 (by decide) (fun c102 => ?_) (fun c102 => ?_)
      · replace h := h.1 c102
        refine lv_iconst (pc := 25) (v := 0) hx hb d_En_canBeShut_25 (by decide) ?_
        exact wo_z (pc := 26) hx hb hlocks hr hP0 hO (show 0 + 0 ≤ 0 by omega) (show 0 + 0 ≤ 0 by omega) (by decide) h d_En_canBeShut_26
      · replace h := h.2 c102
        refine lv_iconst (pc := 21) (v := 1) hx hb d_En_canBeShut_21 (by decide) ?_
        refine lv_goto (pc := 22) (tgt := 26) hx hb d_En_canBeShut_22 (by decide) ?_
        exact wo_z (pc := 26) hx hb hlocks hr hP0 hO (show 0 + 0 ≤ 0 by omega) (show 0 + 0 ≤ 0 by omega) (by decide) h d_En_canBeShut_26
/-! WaterWorks$End.beyond(LWaterWorks$Place;)LWaterWorks$Place; -/
abbrev y_En_beyond : MethodName := ⟨"WaterWorks$End", "beyond", "(LWaterWorks$Place;)LWaterWorks$Place;"⟩
abbrev rm_En_beyond : Room := { frames := 1, cells := 0, slots := 0, locals := 40 }
theorem h_En_beyond : y_En_beyond.cls ≠ "java/lang/invoke/MethodHandle" ∧ y_En_beyond.cls ≠ "java/lang/invoke/VarHandle" := by decide +kernel
theorem n_En_beyond : (parseMethodDescriptor y_En_beyond.desc).map (fun d => d.parameters.length) = some 1 := by decide +kernel
theorem d_En_beyond_0 : decode prog_5_method_2_code 0 = .ok (.aload_n 1, 1) := by decide +kernel
theorem d_En_beyond_1 : decode prog_5_method_2_code 1 = .ok (.aload_n 0, 1) := by decide +kernel
theorem d_En_beyond_2 : decode prog_5_method_2_code 2 = .ok (.getfield 13, 3) := by decide +kernel
theorem d_En_beyond_5 : decode prog_5_method_2_code 5 = .ok (.if_acmp .ne 10, 3) := by decide +kernel
theorem d_En_beyond_8 : decode prog_5_method_2_code 8 = .ok (.aload_n 0, 1) := by decide +kernel
theorem d_En_beyond_9 : decode prog_5_method_2_code 9 = .ok (.getfield 17, 3) := by decide +kernel
theorem d_En_beyond_12 : decode prog_5_method_2_code 12 = .ok (.goto 7, 3) := by decide +kernel
theorem d_En_beyond_15 : decode prog_5_method_2_code 15 = .ok (.aload_n 0, 1) := by decide +kernel
theorem d_En_beyond_16 : decode prog_5_method_2_code 16 = .ok (.getfield 13, 3) := by decide +kernel
theorem d_En_beyond_19 : decode prog_5_method_2_code 19 = .ok (.areturn, 1) := by decide +kernel
def wp_En_beyond (po : Option Value → Pic → Prop) (th : String → Pic → Prop) (P : Pic) (a0 : Nat) (a1 : Nat) : Prop := p_k P a0 = 5 ∧ ∃ a102, p_r P 160 a0 = some a102 ∧ ((¬ a1 = a102 → (∃ a103, p_r P 160 a0 = some a103 ∧ po (some (.ref a103)) P)) ∧ (a1 = a102 → (∃ a104, p_r P 161 a0 = some a104 ∧ po (some (.ref a104)) P)))
set_option maxHeartbeats 4000000 in
set_option maxRecDepth 100000 in
theorem ct_En_beyond {l : Launch} (hfl : l.flags = flags0) (D : pq_D) {po : Option Value → Pic → Prop} {th : String → Pic → Prop} {P : Pic} {a0 : Nat} {a1 : Nat} (h : wp_En_beyond po th P a0 a1) : CT l D y_En_beyond (.code y_En_beyond prog_5_method_2_code 2 (some (.object "WaterWorks$Place"))) rm_En_beyond true [.ref a0, .ref a1] P po th := by
  refine ct_of (hs := []) hfl (by decide +kernel) (Or.inl ⟨rfl, rfl⟩) (Nat.le_of_ble_eq_true rfl) ?_
  intro p e s m below meth c C hmg hr hin htab ls hl
  have hl : lv_has ls 2 [(0, .ref a0), (1, .ref a1)] := hl
  generalize hargs : ([.ref a0, .ref a1] : List Value).toArray = args at C ⊢
  obtain ⟨hx, hb, hml, hown, hlocks, htr, hT, hK, hSt, hN, hP0⟩ := id C
  have L13_4 : pq_fl s m args 13 4 0 := ⟨_, "WaterWorks$End", "WaterWorks$End", rfl, by decide, hown, Or.inl (hT _ k_641 _), (fun _ z => z)⟩
  have L17_4 : pq_fl s m args 17 4 1 := ⟨_, "WaterWorks$End", "WaterWorks$End", rfl, by decide, hown, Or.inl (hT _ k_643 _), (fun _ z => z)⟩
  have hO : So s.heap s.heap := So.rf
  have hP : Pi D P s.heap := hP0
  unfold wp_En_beyond at h
  refine lv_aload_n (pc := 0) hx hb d_En_beyond_0 rfl (lv_at hl 1 rfl) ?_
  refine lv_aload_n (pc := 1) hx hb d_En_beyond_1 rfl (lv_at hl 0 rfl) ?_
  obtain ⟨hk101, h⟩ := h
  obtain ⟨a102, ea102, h⟩ := h
  refine pq_geta (pc := 2) (f := 160) hx hb hT hK hP L13_4 hk101 rfl ea102 d_En_beyond_2 ?_
  refine lv_ane (pc := 5) (tgt := 15) hx hb d_En_beyond_5 (by decide) (fun c105 => ?_) (fun c105 => ?_)
  · replace h := h.1 c105
    refine lv_aload_n (pc := 15) hx hb d_En_beyond_15 rfl (lv_at hl 0 rfl) ?_
    obtain ⟨a103, ea103, h⟩ := h
    refine pq_geta (pc := 16) (f := 160) hx hb hT hK hP L13_4 hk101 rfl ea103 d_En_beyond_16 ?_
    exact wo_a (pc := 19) hx hb hlocks hr (Or.inl ⟨_, rfl⟩) (Or.inr ⟨_, rfl⟩) hP0 hO (show 0 + 0 ≤ 0 by omega) (show 0 + 0 ≤ 0 by omega) h d_En_beyond_19
  · replace h := h.2 c105
    refine lv_aload_n (pc := 8) hx hb d_En_beyond_8 rfl (lv_at hl 0 rfl) ?_
    obtain ⟨a104, ea104, h⟩ := h
    refine pq_geta (pc := 9) (f := 161) hx hb hT hK hP L17_4 hk101 rfl ea104 d_En_beyond_9 ?_
    refine lv_goto (pc := 12) (tgt := 19) hx hb d_En_beyond_12 (by decide) ?_
    exact wo_a (pc := 19) hx hb hlocks hr (Or.inl ⟨_, rfl⟩) (Or.inr ⟨_, rfl⟩) hP0 hO (show 0 + 0 ≤ 0 by omega) (show 0 + 0 ≤ 0 by omega) h d_En_beyond_19
/-! WaterWorks$AsItIs.passes(LWaterWorks$End;)Z -/
abbrev y_As_passes : MethodName := ⟨"WaterWorks$AsItIs", "passes", "(LWaterWorks$End;)Z"⟩
abbrev rm_As_passes : Room := { frames := 1, cells := 0, slots := 0, locals := 40 }
theorem h_As_passes : y_As_passes.cls ≠ "java/lang/invoke/MethodHandle" ∧ y_As_passes.cls ≠ "java/lang/invoke/VarHandle" := by decide +kernel
theorem n_As_passes : (parseMethodDescriptor y_As_passes.desc).map (fun d => d.parameters.length) = some 1 := by decide +kernel
theorem d_As_passes_0 : decode prog_2_method_2_code 0 = .ok (.aload_n 1, 1) := by decide +kernel
theorem d_As_passes_1 : decode prog_2_method_2_code 1 = .ok (.getfield 7, 3) := by decide +kernel
theorem d_As_passes_4 : decode prog_2_method_2_code 4 = .ok (.ireturn, 1) := by decide +kernel
def wp_As_passes (po : Option Value → Pic → Prop) (th : String → Pic → Prop) (P : Pic) (a0 : Nat) (a1 : Nat) : Prop := p_k P a1 = 5 ∧ ((p_i P 164 a1) = 0 ∨ (p_i P 164 a1) = 1) ∧ po (some (.int (p_i P 164 a1))) P
set_option maxHeartbeats 4000000 in
set_option maxRecDepth 100000 in
theorem ct_As_passes {l : Launch} (hfl : l.flags = flags0) (D : pq_D) {po : Option Value → Pic → Prop} {th : String → Pic → Prop} {P : Pic} {a0 : Nat} {a1 : Nat} (h : wp_As_passes po th P a0 a1) : CT l D y_As_passes (.code y_As_passes prog_2_method_2_code 2 (some .boolean)) rm_As_passes true [.ref a0, .ref a1] P po th := by
  refine ct_of (hs := []) hfl (by decide +kernel) (Or.inl ⟨rfl, rfl⟩) (Nat.le_of_ble_eq_true rfl) ?_
  intro p e s m below meth c C hmg hr hin htab ls hl
  have hl : lv_has ls 2 [(0, .ref a0), (1, .ref a1)] := hl
  generalize hargs : ([.ref a0, .ref a1] : List Value).toArray = args at C ⊢
  obtain ⟨hx, hb, hml, hown, hlocks, htr, hT, hK, hSt, hN, hP0⟩ := id C
  have L7_4 : pq_fl s m args 7 4 4 := ⟨_, "WaterWorks$AsItIs", "WaterWorks$End", rfl, by decide, hown, Or.inr ⟨_, hT _ k_650 _⟩, (fun _ z => z)⟩
  have hO : So s.heap s.heap := So.rf
  have hP : Pi D P s.heap := hP0
  unfold wp_As_passes at h
  refine lv_aload_n (pc := 0) hx hb d_As_passes_0 rfl (lv_at hl 1 rfl) ?_
  obtain ⟨hk101, h⟩ := h
  refine pq_geti (pc := 1) (f := 164) hx hb hT hK hP L7_4 hk101 rfl d_As_passes_1 ?_
  exact wo_z (pc := 4) hx hb hlocks hr hP0 hO (show 0 + 0 ≤ 0 by omega) (show 0 + 0 ≤ 0 by omega) h.1 h.2 d_As_passes_4
/-! WaterWorks$WithPlan.passes(LWaterWorks$End;)Z -/
abbrev y_Wi_passes : MethodName := ⟨"WaterWorks$WithPlan", "passes", "(LWaterWorks$End;)Z"⟩
abbrev rm_Wi_passes : Room := { frames := 1, cells := 0, slots := 0, locals := 40 }
theorem h_Wi_passes : y_Wi_passes.cls ≠ "java/lang/invoke/MethodHandle" ∧ y_Wi_passes.cls ≠ "java/lang/invoke/VarHandle" := by decide +kernel
theorem n_Wi_passes : (parseMethodDescriptor y_Wi_passes.desc).map (fun d => d.parameters.length) = some 1 := by decide +kernel
theorem d_Wi_passes_0 : decode prog_13_method_2_code 0 = .ok (.aload_n 1, 1) := by decide +kernel
theorem d_Wi_passes_1 : decode prog_13_method_2_code 1 = .ok (.getfield 7, 3) := by decide +kernel
theorem d_Wi_passes_4 : decode prog_13_method_2_code 4 = .ok (.ifCond .eq 14, 3) := by decide +kernel
theorem d_Wi_passes_7 : decode prog_13_method_2_code 7 = .ok (.aload_n 1, 1) := by decide +kernel
theorem d_Wi_passes_8 : decode prog_13_method_2_code 8 = .ok (.getfield 13, 3) := by decide +kernel
theorem d_Wi_passes_11 : decode prog_13_method_2_code 11 = .ok (.ifCond .ne 7, 3) := by decide +kernel
theorem d_Wi_passes_14 : decode prog_13_method_2_code 14 = .ok (.iconst 1, 1) := by decide +kernel
theorem d_Wi_passes_15 : decode prog_13_method_2_code 15 = .ok (.goto 4, 3) := by decide +kernel
theorem d_Wi_passes_18 : decode prog_13_method_2_code 18 = .ok (.iconst 0, 1) := by decide +kernel
theorem d_Wi_passes_19 : decode prog_13_method_2_code 19 = .ok (.ireturn, 1) := by decide +kernel
def wp_Wi_passes (po : Option Value → Pic → Prop) (th : String → Pic → Prop) (P : Pic) (a0 : Nat) (a1 : Nat) : Prop := p_k P a1 = 5 ∧ (((p_i P 164 a1) = 0 → (po (some (.int (0 : Int32))) P)) ∧ (¬ (p_i P 164 a1) = 0 → (((¬ (p_i P 166 a1) = 0 → (po (some (.int (0 : Int32))) P)) ∧ ((p_i P 166 a1) = 0 → (po (some (.int (1 : Int32))) P))))))
set_option maxHeartbeats 4000000 in
set_option maxRecDepth 100000 in
theorem ct_Wi_passes {l : Launch} (hfl : l.flags = flags0) (D : pq_D) {po : Option Value → Pic → Prop} {th : String → Pic → Prop} {P : Pic} {a0 : Nat} {a1 : Nat} (h : wp_Wi_passes po th P a0 a1) : CT l D y_Wi_passes (.code y_Wi_passes prog_13_method_2_code 2 (some .boolean)) rm_Wi_passes true [.ref a0, .ref a1] P po th := by
  refine ct_of (hs := []) hfl (by decide +kernel) (Or.inl ⟨rfl, rfl⟩) (Nat.le_of_ble_eq_true rfl) ?_
  intro p e s m below meth c C hmg hr hin htab ls hl
  have hl : lv_has ls 2 [(0, .ref a0), (1, .ref a1)] := hl
  generalize hargs : ([.ref a0, .ref a1] : List Value).toArray = args at C ⊢
  obtain ⟨hx, hb, hml, hown, hlocks, htr, hT, hK, hSt, hN, hP0⟩ := id C
  have L13_4 : pq_fl s m args 13 4 6 := ⟨_, "WaterWorks$WithPlan", "WaterWorks$End", rfl, by decide, hown, Or.inr ⟨_, hT _ k_656 _⟩, (fun _ z => z)⟩
  have L7_4 : pq_fl s m args 7 4 4 := ⟨_, "WaterWorks$WithPlan", "WaterWorks$End", rfl, by decide, hown, Or.inr ⟨_, hT _ k_652 _⟩, (fun _ z => z)⟩
  have hO : So s.heap s.heap := So.rf
  have hP : Pi D P s.heap := hP0
  unfold wp_Wi_passes at h
  refine lv_aload_n (pc := 0) hx hb d_Wi_passes_0 rfl (lv_at hl 1 rfl) ?_
  obtain ⟨hk101, h⟩ := h
  refine pq_geti (pc := 1) (f := 164) hx hb hT hK hP L7_4 hk101 rfl d_Wi_passes_1 ?_
  refine lv_if_eq (pc := 4) (tgt := 18) hx hb d_Wi_passes_4 (by decide) (fun c103 => ?_) (fun c103 => ?_)
  · replace h := h.1 c103
    refine lv_iconst (pc := 18) (v := 0) hx hb d_Wi_passes_18 (by decide) ?_
    exact wo_z (pc := 19) hx hb hlocks hr hP0 hO (show 0 + 0 ≤ 0 by omega) (show 0 + 0 ≤ 0 by omega) (by decide) h d_Wi_passes_19
  · replace h := h.2 c103
    refine lv_aload_n (pc := 7) hx hb d_Wi_passes_7 rfl (lv_at hl 1 rfl) ?_
    refine pq_geti (pc := 8) (f := 166) hx hb hT hK hP L13_4 hk101 rfl d_Wi_passes_8 ?_
    refine lv_if_ne (pc := 11) (tgt := 18) hx hb d_Wi_passes_11 (by decide) (fun c102 => ?_) (fun c102 => ?_)
    · replace h := h.1 c102
      refine lv_iconst (pc := 18) (v := 0) hx hb d_Wi_passes_18 (by decide) ?_
      exact wo_z (pc := 19) hx hb hlocks hr hP0 hO (show 0 + 0 ≤ 0 by omega) (show 0 + 0 ≤ 0 by omega) (by decide) h d_Wi_passes_19
    · replace h := h.2 c102
      refine lv_iconst (pc := 14) (v := 1) hx hb d_Wi_passes_14 (by decide) ?_
      refine lv_goto (pc := 15) (tgt := 19) hx hb d_Wi_passes_15 (by decide) ?_
      exact wo_z (pc := 19) hx hb hlocks hr hP0 hO (show 0 + 0 ≤ 0 by omega) (show 0 + 0 ≤ 0 by omega) (by decide) h d_Wi_passes_19
/-! WaterWorks$Fixed.passes(LWaterWorks$End;)Z -/
abbrev y_Fx_passes : MethodName := ⟨"WaterWorks$Fixed", "passes", "(LWaterWorks$End;)Z"⟩
abbrev rm_Fx_passes : Room := { frames := 2, cells := 0, slots := 0, locals := 60 }
theorem h_Fx_passes : y_Fx_passes.cls ≠ "java/lang/invoke/MethodHandle" ∧ y_Fx_passes.cls ≠ "java/lang/invoke/VarHandle" := by decide +kernel
theorem n_Fx_passes : (parseMethodDescriptor y_Fx_passes.desc).map (fun d => d.parameters.length) = some 1 := by decide +kernel
theorem d_Fx_passes_0 : decode prog_6_method_2_code 0 = .ok (.aload_n 1, 1) := by decide +kernel
theorem d_Fx_passes_1 : decode prog_6_method_2_code 1 = .ok (.getfield 7, 3) := by decide +kernel
theorem d_Fx_passes_4 : decode prog_6_method_2_code 4 = .ok (.ifCond .eq 14, 3) := by decide +kernel
theorem d_Fx_passes_7 : decode prog_6_method_2_code 7 = .ok (.aload_n 1, 1) := by decide +kernel
theorem d_Fx_passes_8 : decode prog_6_method_2_code 8 = .ok (.invokevirtual 13, 3) := by decide +kernel
theorem d_Fx_passes_11 : decode prog_6_method_2_code 11 = .ok (.ifCond .ne 7, 3) := by decide +kernel
theorem d_Fx_passes_14 : decode prog_6_method_2_code 14 = .ok (.iconst 1, 1) := by decide +kernel
theorem d_Fx_passes_15 : decode prog_6_method_2_code 15 = .ok (.goto 4, 3) := by decide +kernel
theorem d_Fx_passes_18 : decode prog_6_method_2_code 18 = .ok (.iconst 0, 1) := by decide +kernel
theorem d_Fx_passes_19 : decode prog_6_method_2_code 19 = .ok (.ireturn, 1) := by decide +kernel
def wp_Fx_passes (po : Option Value → Pic → Prop) (th : String → Pic → Prop) (P : Pic) (a0 : Nat) (a1 : Nat) : Prop := p_k P a1 = 5 ∧ (((p_i P 164 a1) = 0 → (po (some (.int (0 : Int32))) P)) ∧ (¬ (p_i P 164 a1) = 0 → (wp_En_canBeShut (cp_i fun x102 _ => ((¬ x102 = 0 → (po (some (.int (0 : Int32))) P)) ∧ (x102 = 0 → (po (some (.int (1 : Int32))) P)))) th P a1)))
set_option maxHeartbeats 4000000 in
set_option maxRecDepth 100000 in
theorem ct_Fx_passes {l : Launch} (hfl : l.flags = flags0) (D : pq_D) {po : Option Value → Pic → Prop} {th : String → Pic → Prop} {P : Pic} {a0 : Nat} {a1 : Nat} (h : wp_Fx_passes po th P a0 a1) : CT l D y_Fx_passes (.code y_Fx_passes prog_6_method_2_code 2 (some .boolean)) rm_Fx_passes true [.ref a0, .ref a1] P po th := by
  refine ct_of (hs := []) hfl (by decide +kernel) (Or.inl ⟨rfl, rfl⟩) (Nat.le_of_ble_eq_true rfl) ?_
  intro p e s m below meth c C hmg hr hin htab ls hl
  have hl : lv_has ls 2 [(0, .ref a0), (1, .ref a1)] := hl
  generalize hargs : ([.ref a0, .ref a1] : List Value).toArray = args at C ⊢
  obtain ⟨hx, hb, hml, hown, hlocks, htr, hT, hK, hSt, hN, hP0⟩ := id C
  have L7_4 : pq_fl s m args 7 4 4 := ⟨_, "WaterWorks$Fixed", "WaterWorks$End", rfl, by decide, hown, Or.inr ⟨_, hT _ k_651 _⟩, (fun _ z => z)⟩
  have hO : So s.heap s.heap := So.rf
  have hP : Pi D P s.heap := hP0
  unfold wp_Fx_passes at h
  refine lv_aload_n (pc := 0) hx hb d_Fx_passes_0 rfl (lv_at hl 1 rfl) ?_
  obtain ⟨hk101, h⟩ := h
  refine pq_geti (pc := 1) (f := 164) hx hb hT hK hP L7_4 hk101 rfl d_Fx_passes_1 ?_
  refine lv_if_eq (pc := 4) (tgt := 18) hx hb d_Fx_passes_4 (by decide) (fun c104 => ?_) (fun c104 => ?_)
  · replace h := h.1 c104
    refine lv_iconst (pc := 18) (v := 0) hx hb d_Fx_passes_18 (by decide) ?_
    exact wo_z (pc := 19) hx hb hlocks hr hP0 hO (show 0 + 0 ≤ 0 by omega) (show 0 + 0 ≤ 0 by omega) (by decide) h d_Fx_passes_19
  · replace h := h.2 c104
    refine lv_aload_n (pc := 7) hx hb d_Fx_passes_7 rfl (lv_at hl 1 rfl) ?_
    refine co_i (pc := 8) C (rest := []) (mt_invV (As := []) hx hb hown (hT _ k_793 _) (hT _ k_794 _) (hT _ k_795 _) (mt_Cd.code (hT _ k_796 #[])) h_En_canBeShut (pq_recv hK hP hk101 rfl) n_En_canBeShut rfl d_Fx_passes_8) (ct_En_canBeShut hfl D h) k_796 k_30 ⟨Nat.le_of_ble_eq_true rfl, Nat.le_of_ble_eq_true rfl⟩ ⟨(show 0 + 0 ≤ 0 by omega), (show 0 + 0 ≤ 0 by omega)⟩ hl.1 d_Fx_passes_8 (Nat.le_of_ble_eq_true rfl) hO (fun x102 H h hO => ?_) (fun xx X H h hX hex hO => ?_)
    · have hP : Pi D P H := So.pi hP0 hO
      refine lv_if_ne (pc := 11) (tgt := 18) hx hb d_Fx_passes_11 (by decide) (fun c103 => ?_) (fun c103 => ?_)
      · replace h := h.1 c103
        refine lv_iconst (pc := 18) (v := 0) hx hb d_Fx_passes_18 (by decide) ?_
        exact wo_z (pc := 19) hx hb hlocks hr hP0 hO (show 0 + 0 + 0 ≤ 0 by omega) (show 0 + 0 + 0 ≤ 0 by omega) (by decide) h d_Fx_passes_19
      · replace h := h.2 c103
        refine lv_iconst (pc := 14) (v := 1) hx hb d_Fx_passes_14 (by decide) ?_
        refine lv_goto (pc := 15) (tgt := 19) hx hb d_Fx_passes_15 (by decide) ?_
        exact wo_z (pc := 19) hx hb hlocks hr hP0 hO (show 0 + 0 + 0 ≤ 0 by omega) (show 0 + 0 + 0 ≤ 0 by omega) (by decide) h d_Fx_passes_19
    · exact cq_outo hlocks (pq_nil htab rfl) (show 0 + 0 + 0 ≤ 0 by omega) (show 0 + 0 + 0 ≤ 0 by omega) hX hex hP0 hO h
abbrev y_Gate : MethodName := ⟨"WaterWorks$Gate", "passes", "(LWaterWorks$End;)Z"⟩
theorem n_Gate : (parseMethodDescriptor y_Gate.desc).map (fun d => d.parameters.length) = some 1 := by decide +kernel
def wp_Gate_passes (po : Option Value → Pic → Prop) (th : String → Pic → Prop) (P : Pic) (a0 a1 : Nat) : Prop := (p_k P a0 = 2 ∧ wp_As_passes po th P a0 a1) ∨ (p_k P a0 = 12 ∧ wp_Wi_passes po th P a0 a1) ∨ (p_k P a0 = 6 ∧ wp_Fx_passes po th P a0 a1)
theorem cr_gate {p : Program} {l : Launch} {e : Env} {R : Room} {s : State} {m : MethodId} {args : Array Value} {below : List Frame} {meth : Method} {c : Code} {H : Heap} {locs : List Loc} {cells slots : Nat} {Q : State → Prop} {cc : ByteArray} {pc : Nat} {ls : Array Slot} {rest : List Value} {D : pq_D} {P P0 : Pic} {nL : Nat} {own : String} {K : Int32 → Pic → Prop} {Thr : String → Pic → Prop} {index count a0 a1 : Nat} (hfl : l.flags = flags0) (C : Cx p e s m args meth c cc nL own D P0) (hlink : (Cond.methodLink own index y_Gate).before args s = true)
    (h : wp_Gate_passes (cp_i K) Thr P a0 a1) (hf1 : 4 ≤ R.frames) (hf2 : 200 ≤ R.locals) (hroom : cells + 0 ≤ R.cells ∧ slots + 0 ≤ R.slots) (hsize : ls.size = nL) (hdg : decode cc pc = .ok (.invokeinterface index count, 5)) (hW : (rest.map fun v => v.category).sum ≤ 8) (hP : Pi D P H) (hS : Sg (cq_A P0 s) s.heap H P locs)
    (kr : ∀ (r : Int32) (H1 : Heap) (locs1 : List Loc), K r P → Pi D P H1 → Sg (cq_A P0 s) s.heap H1 P locs1 → W p l e R s m args below meth c H1 locs1 (cells + 0) (slots + 0) Q (F0 m (pc + 5) ls (.int r :: rest)))
    (kt : ∀ (x : Nat) (X : String) (H1 : Heap) (locs1 : List Loc), Thr X P → X ∈ pq_xs → (∃ cell : Cell, H1[x]? = some cell ∧ cell.vm.isStatics = false ∧ s.vm.findClass X = some cell.cls) → Pi D P H1 → Sg (cq_A P0 s) s.heap H1 P locs1 → WT p l e R s m args below meth c H1 locs1 (cells + 0) (slots + 0) Q x (F0 m pc ls rest)) :
    W p l e R s m args below meth c H locs cells slots Q (F0 m pc ls (.ref a1 :: .ref a0 :: rest)) := by
  obtain ⟨hx, hb, hml, hown, hlocks, htr, hT, hK, hSt, hN, hP0⟩ := id C
  rcases h with ⟨hg, h⟩ | ⟨hg, h⟩ | ⟨hg, h⟩
  · exact cr_i C (rest := rest) (mt_invF (As := [.ref a1]) hx hb hown hlink (hT _ k_780 _) (hT _ k_779 _) (hT _ k_782 _) (hT _ k_784 _) (hT _ k_785 _) (hT _ k_783 _) (hT _ k_781 _) (mt_Cd.code (hT _ k_786 #[])) (by decide) (pq_recv hK hP hg rfl) n_Gate rfl hdg) (ct_As_passes hfl D h) k_786 k_21 ⟨Nat.le_trans (by decide) hf1, Nat.le_trans (by decide) hf2⟩ hroom hsize hdg hW hP hS kr kt
  · exact cr_i C (rest := rest) (mt_invF (As := [.ref a1]) hx hb hown hlink (hT _ k_780 _) (hT _ k_779 _) (hT _ k_798 _) (hT _ k_800 _) (hT _ k_801 _) (hT _ k_799 _) (hT _ k_797 _) (mt_Cd.code (hT _ k_802 #[])) (by decide) (pq_recv hK hP hg rfl) n_Gate rfl hdg) (ct_Wi_passes hfl D h) k_802 k_22 ⟨Nat.le_trans (by decide) hf1, Nat.le_trans (by decide) hf2⟩ hroom hsize hdg hW hP hS kr kt
  · exact cr_i C (rest := rest) (mt_invF (As := [.ref a1]) hx hb hown hlink (hT _ k_780 _) (hT _ k_779 _) (hT _ k_788 _) (hT _ k_790 _) (hT _ k_791 _) (hT _ k_789 _) (hT _ k_787 _) (mt_Cd.code (hT _ k_792 #[])) (by decide) (pq_recv hK hP hg rfl) n_Gate rfl hdg) (ct_Fx_passes hfl D h) k_792 k_23 ⟨Nat.le_trans (by decide) hf1, Nat.le_trans (by decide) hf2⟩ hroom hsize hdg hW hP hS kr kt
/-! WaterWorks$Place.<init>()V -/
abbrev y_Pl_init : MethodName := ⟨"WaterWorks$Place", "<init>", "()V"⟩
abbrev rm_Pl_init : Room := { frames := 4, cells := 2, slots := 35, locals := 101 }
theorem h_Pl_init : y_Pl_init.cls ≠ "java/lang/invoke/MethodHandle" ∧ y_Pl_init.cls ≠ "java/lang/invoke/VarHandle" := by decide +kernel
theorem n_Pl_init : (parseMethodDescriptor y_Pl_init.desc).map (fun d => d.parameters.length) = some 0 := by decide +kernel
theorem d_Pl_init_0 : decode prog_10_method_1_code 0 = .ok (.aload_n 0, 1) := by decide +kernel
theorem d_Pl_init_1 : decode prog_10_method_1_code 1 = .ok (.invokespecial 1, 3) := by decide +kernel
theorem d_Pl_init_4 : decode prog_10_method_1_code 4 = .ok (.aload_n 0, 1) := by decide +kernel
theorem d_Pl_init_5 : decode prog_10_method_1_code 5 = .ok (.new 7, 3) := by decide +kernel
theorem d_Pl_init_8 : decode prog_10_method_1_code 8 = .ok (.dup, 1) := by decide +kernel
theorem d_Pl_init_9 : decode prog_10_method_1_code 9 = .ok (.iconst 2, 1) := by decide +kernel
theorem d_Pl_init_10 : decode prog_10_method_1_code 10 = .ok (.invokespecial 9, 3) := by decide +kernel
theorem d_Pl_init_13 : decode prog_10_method_1_code 13 = .ok (.putfield 12, 3) := by decide +kernel
theorem d_Pl_init_16 : decode prog_10_method_1_code 16 = .ok (.return_, 1) := by decide +kernel
def wp_Pl_init (po : Option Value → Pic → Prop) (th : String → Pic → Prop) (P : Pic) (a0 : Nat) : Prop := ∀ (q101 : Nat), p_z P ≤ q101 → wp_Ar_init (cp_v fun P102 => (p_k P102 a0 = 8 ∨ p_k P102 a0 = 9) ∧ po none (s_r P102 320 a0 (some q101))) th (s_new P q101 13) q101 (2 : Int32)
set_option maxHeartbeats 4000000 in
set_option maxRecDepth 100000 in
theorem ct_Pl_init {l : Launch} (hfl : l.flags = flags0) (D : pq_D) {po : Option Value → Pic → Prop} {th : String → Pic → Prop} {P : Pic} {a0 : Nat} (h : wp_Pl_init po th P a0) : CT l D y_Pl_init (.code y_Pl_init prog_10_method_1_code 1 none) rm_Pl_init false [.ref a0] P po th := by
  refine ct_of (hs := []) hfl (by decide +kernel) (Or.inl ⟨rfl, rfl⟩) (Nat.le_of_ble_eq_true rfl) ?_
  intro p e s m below meth c C hmg hr hin htab ls hl
  have hl : lv_has ls 1 [(0, .ref a0)] := hl
  generalize hargs : ([.ref a0] : List Value).toArray = args at C ⊢
  obtain ⟨hx, hb, hml, hown, hlocks, htr, hT, hK, hSt, hN, hP0⟩ := id C
  have hP : Pi D P s.heap := hP0
  have hS : Sg (cq_A P s) s.heap s.heap P [] := Sg.start hP0
  unfold wp_Pl_init at h
  refine lv_aload_n (pc := 0) hx hb d_Pl_init_0 rfl (lv_at hl 0 rfl) ?_
  refine W.objInit hx hb hown (hT _ k_507 _) (hT _ k_43 _) (hT _ k_44 _) rfl (by rw [hml]; exact hl.1) rfl d_Pl_init_1 (Nat.le_of_ble_eq_true rfl) (Nat.le_of_ble_eq_true rfl) ?_
  refine W.eq (g2 := F0 m 4 ls []) rfl ?_
  refine lv_aload_n (pc := 4) hx hb d_Pl_init_4 rfl (lv_at hl 0 rfl) ?_
  refine pq_new (pc := 5) hx hb hT hK hP hS (k := 13) rfl hown (hT _ k_508 _) (hT _ k_52 _) (hT _ k_5 _) (show 0 + 1 ≤ 2 by omega) (show 0 + 3 ≤ 35 by omega) d_Pl_init_5 (fun q101 H hq101 hP1 hS => ?_)
  replace h := h q101 hq101
  have hkq101 : p_k (s_new P q101 13) q101 = 14 := pk_newq _ _ _
  replace hP := hP1
  clear hP1
  refine lv_dup (pc := 8) hx hb d_Pl_init_8 rfl ?_
  refine lv_iconst (pc := 9) (v := 2) hx hb d_Pl_init_9 (by decide) ?_
  refine cc_v (pc := 10) C (rest := [.ref q101, .ref a0]) (mt_invI (As := [.int (2 : Int32)]) hx hb hown rfl (hT _ k_509 _) (hT _ k_54 _) (hT _ k_55 _) h_Ar_init n_Ar_init rfl d_Pl_init_10) (ct_Ar_init hfl D h) k_55 k_5 ⟨Nat.le_of_ble_eq_true rfl, Nat.le_of_ble_eq_true rfl⟩ ⟨(show 0 + 1 + 1 ≤ 2 by omega), (show 0 + 3 + 32 ≤ 35 by omega)⟩ hl.1 d_Pl_init_10 (Nat.le_of_ble_eq_true rfl) hP hS (fun P102 H locs h hP hS => ?_) (fun xx X P102 H locs h hX hex hP hS => ?_)
  · obtain ⟨hk103, h⟩ := h
    refine pq_putPl (pc := 13) hx hb hT hK hP hS hown hin (hT _ k_512 _) hk103 d_Pl_init_13 (fun H locs hP hS => ?_)
    have hk103 : p_k (s_r P102 320 a0 (some q101)) a0 = 8 ∨ p_k (s_r P102 320 a0 (some q101)) a0 = 9 := by rw [pk_r]; exact hk103
    exact we_v (pc := 16) hx hb hlocks hr hP hS (show 0 + 1 + 1 + 0 ≤ 2 by omega) (show 0 + 3 + 32 + 0 ≤ 35 by omega) h d_Pl_init_16
  · exact cq_out hlocks (pq_nil htab rfl) (show 0 + 1 + 1 + 0 ≤ 2 by omega) (show 0 + 3 + 32 + 0 ≤ 35 by omega) hX hex hP hS h
/-! WaterWorks$Node.<init>()V -/
abbrev y_No_init : MethodName := ⟨"WaterWorks$Node", "<init>", "()V"⟩
abbrev rm_No_init : Room := { frames := 5, cells := 2, slots := 35, locals := 121 }
theorem h_No_init : y_No_init.cls ≠ "java/lang/invoke/MethodHandle" ∧ y_No_init.cls ≠ "java/lang/invoke/VarHandle" := by decide +kernel
theorem n_No_init : (parseMethodDescriptor y_No_init.desc).map (fun d => d.parameters.length) = some 0 := by decide +kernel
theorem d_No_init_0 : decode prog_9_method_1_code 0 = .ok (.aload_n 0, 1) := by decide +kernel
theorem d_No_init_1 : decode prog_9_method_1_code 1 = .ok (.invokespecial 1, 3) := by decide +kernel
theorem d_No_init_4 : decode prog_9_method_1_code 4 = .ok (.return_, 1) := by decide +kernel
def wp_No_init (po : Option Value → Pic → Prop) (th : String → Pic → Prop) (P : Pic) (a0 : Nat) : Prop := wp_Pl_init (cp_v fun P101 => po none P101) th P a0
set_option maxHeartbeats 4000000 in
set_option maxRecDepth 100000 in
theorem ct_No_init {l : Launch} (hfl : l.flags = flags0) (D : pq_D) {po : Option Value → Pic → Prop} {th : String → Pic → Prop} {P : Pic} {a0 : Nat} (h : wp_No_init po th P a0) : CT l D y_No_init (.code y_No_init prog_9_method_1_code 1 none) rm_No_init false [.ref a0] P po th := by
  refine ct_of (hs := []) hfl (by decide +kernel) (Or.inl ⟨rfl, rfl⟩) (Nat.le_of_ble_eq_true rfl) ?_
  intro p e s m below meth c C hmg hr hin htab ls hl
  have hl : lv_has ls 1 [(0, .ref a0)] := hl
  generalize hargs : ([.ref a0] : List Value).toArray = args at C ⊢
  obtain ⟨hx, hb, hml, hown, hlocks, htr, hT, hK, hSt, hN, hP0⟩ := id C
  have hP : Pi D P s.heap := hP0
  have hS : Sg (cq_A P s) s.heap s.heap P [] := Sg.start hP0
  unfold wp_No_init at h
  refine lv_aload_n (pc := 0) hx hb d_No_init_0 rfl (lv_at hl 0 rfl) ?_
  refine cc_v (pc := 1) C (rest := []) (mt_invIN (As := []) hx hb hown rfl (hT _ k_504 _) (hT _ k_505 _) (hT _ k_506 _) h_Pl_init n_Pl_init rfl d_No_init_1) (ct_Pl_init hfl D h) k_506 k_26 ⟨Nat.le_of_ble_eq_true rfl, Nat.le_of_ble_eq_true rfl⟩ ⟨(show 0 + 2 ≤ 2 by omega), (show 0 + 35 ≤ 35 by omega)⟩ hl.1 d_No_init_1 (Nat.le_of_ble_eq_true rfl) hP hS (fun P101 H locs h hP hS => ?_) (fun xx X P101 H locs h hX hex hP hS => ?_)
  · exact we_v (pc := 4) hx hb hlocks hr hP hS (show 0 + 2 + 0 ≤ 2 by omega) (show 0 + 35 + 0 ≤ 35 by omega) h d_No_init_4
  · exact cq_out hlocks (pq_nil htab rfl) (show 0 + 2 + 0 ≤ 2 by omega) (show 0 + 35 + 0 ≤ 35 by omega) hX hex hP hS h
/-! WaterWorks$End.<init>(LWaterWorks$Place;LWaterWorks$Place;IZ)V -/
abbrev y_En_init : MethodName := ⟨"WaterWorks$End", "<init>", "(LWaterWorks$Place;LWaterWorks$Place;IZ)V"⟩
abbrev rm_En_init : Room := { frames := 8, cells := 2, slots := 128, locals := 192 }
theorem h_En_init : y_En_init.cls ≠ "java/lang/invoke/MethodHandle" ∧ y_En_init.cls ≠ "java/lang/invoke/VarHandle" := by decide +kernel
theorem n_En_init : (parseMethodDescriptor y_En_init.desc).map (fun d => d.parameters.length) = some 4 := by decide +kernel
theorem d_En_init_0 : decode prog_5_method_1_code 0 = .ok (.aload_n 0, 1) := by decide +kernel
theorem d_En_init_1 : decode prog_5_method_1_code 1 = .ok (.invokespecial 1, 3) := by decide +kernel
theorem d_En_init_4 : decode prog_5_method_1_code 4 = .ok (.aload_n 0, 1) := by decide +kernel
theorem d_En_init_5 : decode prog_5_method_1_code 5 = .ok (.iconst 1, 1) := by decide +kernel
theorem d_En_init_6 : decode prog_5_method_1_code 6 = .ok (.putfield 7, 3) := by decide +kernel
theorem d_En_init_9 : decode prog_5_method_1_code 9 = .ok (.aload_n 0, 1) := by decide +kernel
theorem d_En_init_10 : decode prog_5_method_1_code 10 = .ok (.aload_n 1, 1) := by decide +kernel
theorem d_En_init_11 : decode prog_5_method_1_code 11 = .ok (.putfield 13, 3) := by decide +kernel
theorem d_En_init_14 : decode prog_5_method_1_code 14 = .ok (.aload_n 0, 1) := by decide +kernel
theorem d_En_init_15 : decode prog_5_method_1_code 15 = .ok (.aload_n 2, 1) := by decide +kernel
theorem d_En_init_16 : decode prog_5_method_1_code 16 = .ok (.putfield 17, 3) := by decide +kernel
theorem d_En_init_19 : decode prog_5_method_1_code 19 = .ok (.aload_n 0, 1) := by decide +kernel
theorem d_En_init_20 : decode prog_5_method_1_code 20 = .ok (.iload_n 3, 1) := by decide +kernel
theorem d_En_init_21 : decode prog_5_method_1_code 21 = .ok (.putfield 20, 3) := by decide +kernel
theorem d_En_init_24 : decode prog_5_method_1_code 24 = .ok (.aload_n 0, 1) := by decide +kernel
theorem d_En_init_25 : decode prog_5_method_1_code 25 = .ok (.iload 4, 2) := by decide +kernel
theorem d_En_init_27 : decode prog_5_method_1_code 27 = .ok (.putfield 24, 3) := by decide +kernel
theorem d_En_init_30 : decode prog_5_method_1_code 30 = .ok (.aload_n 1, 1) := by decide +kernel
theorem d_En_init_31 : decode prog_5_method_1_code 31 = .ok (.getfield 27, 3) := by decide +kernel
theorem d_En_init_34 : decode prog_5_method_1_code 34 = .ok (.aload_n 0, 1) := by decide +kernel
theorem d_En_init_35 : decode prog_5_method_1_code 35 = .ok (.invokevirtual 33, 3) := by decide +kernel
theorem d_En_init_38 : decode prog_5_method_1_code 38 = .ok (.pop, 1) := by decide +kernel
theorem d_En_init_39 : decode prog_5_method_1_code 39 = .ok (.aload_n 2, 1) := by decide +kernel
theorem d_En_init_40 : decode prog_5_method_1_code 40 = .ok (.getfield 27, 3) := by decide +kernel
theorem d_En_init_43 : decode prog_5_method_1_code 43 = .ok (.aload_n 0, 1) := by decide +kernel
theorem d_En_init_44 : decode prog_5_method_1_code 44 = .ok (.invokevirtual 33, 3) := by decide +kernel
theorem d_En_init_47 : decode prog_5_method_1_code 47 = .ok (.pop, 1) := by decide +kernel
theorem d_En_init_48 : decode prog_5_method_1_code 48 = .ok (.return_, 1) := by decide +kernel
def wp_En_init (po : Option Value → Pic → Prop) (th : String → Pic → Prop) (P : Pic) (a0 : Nat) (a1 : Nat) (a2 : Nat) (x3 : Int32) (x4 : Int32) : Prop := p_k P a0 = 5 ∧ ∀ (P102 : Pic), P102 = s_i (s_r (s_r (s_i P 164 a0 (1 : Int32)) 160 a0 (some a1)) 161 a0 (some a2)) 162 a0 x3 → (x4 = 0 ∨ x4 = 1) ∧ (p_k (s_i P102 163 a0 x4) a1 = 8 ∨ p_k (s_i P102 163 a0 x4) a1 = 9) ∧ ∃ a105, p_r (s_i P102 163 a0 x4) 320 a1 = some a105 ∧ p_k (s_i P102 163 a0 x4) a105 = 14 ∧ wp_Ar_add (cp_i fun x107 P108 => (p_k P108 a2 = 8 ∨ p_k P108 a2 = 9) ∧ ∃ a110, p_r P108 320 a2 = some a110 ∧ p_k P108 a110 = 14 ∧ wp_Ar_add (cp_i fun x112 P113 => po none P113) th P108 a110 a0) th (s_i P102 163 a0 x4) a105 a0
set_option maxHeartbeats 4000000 in
set_option maxRecDepth 100000 in
theorem ct_En_init {l : Launch} (hfl : l.flags = flags0) (D : pq_D) {po : Option Value → Pic → Prop} {th : String → Pic → Prop} {P : Pic} {a0 : Nat} {a1 : Nat} {a2 : Nat} {x3 : Int32} {x4 : Int32} (h : wp_En_init po th P a0 a1 a2 x3 x4) : CT l D y_En_init (.code y_En_init prog_5_method_1_code 5 none) rm_En_init false [.ref a0, .ref a1, .ref a2, .int x3, .int x4] P po th := by
  refine ct_of (hs := []) hfl (by decide +kernel) (Or.inl ⟨rfl, rfl⟩) (Nat.le_of_ble_eq_true rfl) ?_
  intro p e s m below meth c C hmg hr hin htab ls hl
  have hl : lv_has ls 5 [(0, .ref a0), (1, .ref a1), (2, .ref a2), (3, .int x3), (4, .int x4)] := hl
  generalize hargs : ([.ref a0, .ref a1, .ref a2, .int x3, .int x4] : List Value).toArray = args at C ⊢
  obtain ⟨hx, hb, hml, hown, hlocks, htr, hT, hK, hSt, hN, hP0⟩ := id C
  have L27_7 : pq_fl s m args 27 7 0 := ⟨_, "WaterWorks$End", "WaterWorks$Place", rfl, by decide, hown, Or.inl (hT _ k_513 _), (fun _ z => z)⟩
  have L27_8 : pq_fl s m args 27 8 0 := ⟨_, "WaterWorks$End", "WaterWorks$Place", rfl, by decide, hown, Or.inl (hT _ k_513 _), (fun _ z => z)⟩
  have L7_4 : pq_fl s m args 7 4 4 := ⟨_, "WaterWorks$End", "WaterWorks$End", rfl, by decide, hown, Or.inl (hT _ k_649 _), (fun _ z => z)⟩
  have hP : Pi D P s.heap := hP0
  have hS : Sg (cq_A P s) s.heap s.heap P [] := Sg.start hP0
  unfold wp_En_init at h
  refine lv_aload_n (pc := 0) hx hb d_En_init_0 rfl (lv_at hl 0 rfl) ?_
  refine W.objInit hx hb hown (hT _ k_639 _) (hT _ k_43 _) (hT _ k_44 _) rfl (by rw [hml]; exact hl.1) rfl d_En_init_1 (Nat.le_of_ble_eq_true rfl) (Nat.le_of_ble_eq_true rfl) ?_
  refine W.eq (g2 := F0 m 4 ls []) rfl ?_
  refine lv_aload_n (pc := 4) hx hb d_En_init_4 rfl (lv_at hl 0 rfl) ?_
  refine lv_iconst (pc := 5) (v := 1) hx hb d_En_init_5 (by decide) ?_
  obtain ⟨hk101, h⟩ := h
  refine pq_puti (pc := 6) (f := 164) hx hb hT hK hP hS L7_4 hk101 rfl rfl rfl rfl d_En_init_6 (fun H locs hP hS => ?_)
  have hk101 : p_k (s_i P 164 a0 (1 : Int32)) a0 = 5 := by rw [pk_i]; exact hk101
  refine lv_aload_n (pc := 9) hx hb d_En_init_9 rfl (lv_at hl 0 rfl) ?_
  refine lv_aload_n (pc := 10) hx hb d_En_init_10 rfl (lv_at hl 1 rfl) ?_
  refine pq_putRa (pc := 11) (f := 160) hx hb hT hK hP hS hown hin (k := 4) (j := 0) rfl (by decide) (by decide) (hT _ k_641 _) hk101 rfl rfl rfl rfl d_En_init_11 (fun H locs hP hS => ?_)
  have hk101 : p_k (s_r (s_i P 164 a0 (1 : Int32)) 160 a0 (some a1)) a0 = 5 := by rw [pk_r]; exact hk101
  refine lv_aload_n (pc := 14) hx hb d_En_init_14 rfl (lv_at hl 0 rfl) ?_
  refine lv_aload_n (pc := 15) hx hb d_En_init_15 rfl (lv_at hl 2 rfl) ?_
  refine pq_putRa (pc := 16) (f := 161) hx hb hT hK hP hS hown hin (k := 4) (j := 1) rfl (by decide) (by decide) (hT _ k_643 _) hk101 rfl rfl rfl rfl d_En_init_16 (fun H locs hP hS => ?_)
  have hk101 : p_k (s_r (s_r (s_i P 164 a0 (1 : Int32)) 160 a0 (some a1)) 161 a0 (some a2)) a0 = 5 := by rw [pk_r]; exact hk101
  refine lv_aload_n (pc := 19) hx hb d_En_init_19 rfl (lv_at hl 0 rfl) ?_
  refine lv_iload_n (pc := 20) hx hb d_En_init_20 rfl (lv_at hl 3 rfl) ?_
  refine pq_putFi (pc := 21) (f := 162) hx hb hT hK hP hS hown hin (k := 4) (j := 2) rfl (by decide) (by decide) (hT _ k_645 _) hk101 rfl rfl rfl rfl d_En_init_21 (fun H locs hP hS => ?_)
  have hk101 : p_k (s_i (s_r (s_r (s_i P 164 a0 (1 : Int32)) 160 a0 (some a1)) 161 a0 (some a2)) 162 a0 x3) a0 = 5 := by rw [pk_i]; exact hk101
  obtain ⟨P102, eP102⟩ : ∃ z : Pic, z = s_i (s_r (s_r (s_i P 164 a0 (1 : Int32)) 160 a0 (some a1)) 161 a0 (some a2)) 162 a0 x3 := ⟨_, rfl⟩
  replace h := h P102 eP102
  rw [← eP102] at hP hS
  have hk101 : p_k P102 a0 = 5 := by rw [eP102]; exact hk101
  refine lv_aload_n (pc := 24) hx hb d_En_init_24 rfl (lv_at hl 0 rfl) ?_
  refine lv_iload (pc := 25) hx hb d_En_init_25 (lv_at hl 4 rfl) ?_
  obtain ⟨hz103, h⟩ := h
  refine pq_putFi (pc := 27) (f := 163) hx hb hT hK hP hS hown hin (k := 4) (j := 3) rfl (by decide) (by decide) (hT _ k_647 _) hk101 rfl rfl (pq_nz hz103).1 (pq_nz hz103).2 d_En_init_27 (fun H locs hP hS => ?_)
  have hk101 : p_k (s_i P102 163 a0 x4) a0 = 5 := by rw [pk_i]; exact hk101
  refine lv_aload_n (pc := 30) hx hb d_En_init_30 rfl (lv_at hl 1 rfl) ?_
  obtain ⟨hk104, h⟩ := h
  obtain ⟨a105, ea105, h⟩ := h
  refine pq_geta2 (pc := 31) hx hb hT hK hP L27_7 L27_8 hk104 ea105 d_En_init_31 ?_
  refine lv_aload_n (pc := 34) hx hb d_En_init_34 rfl (lv_at hl 0 rfl) ?_
  obtain ⟨hk106, h⟩ := h
  refine cc_i (pc := 35) C (rest := []) (mt_invV (As := [.ref a0]) hx hb hown (hT _ k_640 _) (hT _ k_524 _) (hT _ k_525 _) (mt_Cd.code (hT _ k_526 #[])) h_Ar_add (pq_recv hK hP hk106 rfl) n_Ar_add rfl d_En_init_35) (ct_Ar_add hfl D h) k_526 k_5 ⟨Nat.le_of_ble_eq_true rfl, Nat.le_of_ble_eq_true rfl⟩ ⟨(show 0 + 1 ≤ 2 by omega), (show 0 + 64 ≤ 128 by omega)⟩ hl.1 d_En_init_35 (Nat.le_of_ble_eq_true rfl) hP hS (fun x107 P108 H locs h hP hS => ?_) (fun xx X P108 H locs h hX hex hP hS => ?_)
  · refine lv_pop (pc := 38) hx hb d_En_init_38 rfl ?_
    refine lv_aload_n (pc := 39) hx hb d_En_init_39 rfl (lv_at hl 2 rfl) ?_
    obtain ⟨hk109, h⟩ := h
    obtain ⟨a110, ea110, h⟩ := h
    refine pq_geta2 (pc := 40) hx hb hT hK hP L27_7 L27_8 hk109 ea110 d_En_init_40 ?_
    refine lv_aload_n (pc := 43) hx hb d_En_init_43 rfl (lv_at hl 0 rfl) ?_
    obtain ⟨hk111, h⟩ := h
    refine cc_i (pc := 44) C (rest := []) (mt_invV (As := [.ref a0]) hx hb hown (hT _ k_640 _) (hT _ k_524 _) (hT _ k_525 _) (mt_Cd.code (hT _ k_526 #[])) h_Ar_add (pq_recv hK hP hk111 rfl) n_Ar_add rfl d_En_init_44) (ct_Ar_add hfl D h) k_526 k_5 ⟨Nat.le_of_ble_eq_true rfl, Nat.le_of_ble_eq_true rfl⟩ ⟨(show 0 + 1 + 1 ≤ 2 by omega), (show 0 + 64 + 64 ≤ 128 by omega)⟩ hl.1 d_En_init_44 (Nat.le_of_ble_eq_true rfl) hP hS (fun x112 P113 H locs h hP hS => ?_) (fun xx X P113 H locs h hX hex hP hS => ?_)
    · refine lv_pop (pc := 47) hx hb d_En_init_47 rfl ?_
      exact we_v (pc := 48) hx hb hlocks hr hP hS (show 0 + 1 + 1 + 0 ≤ 2 by omega) (show 0 + 64 + 64 + 0 ≤ 128 by omega) h d_En_init_48
    · exact cq_out hlocks (pq_nil htab rfl) (show 0 + 1 + 1 + 0 ≤ 2 by omega) (show 0 + 64 + 64 + 0 ≤ 128 by omega) hX hex hP hS h
  · exact cq_out hlocks (pq_nil htab rfl) (show 0 + 1 + 0 ≤ 2 by omega) (show 0 + 64 + 0 ≤ 128 by omega) hX hex hP hS h
