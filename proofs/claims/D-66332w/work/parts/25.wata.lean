/-! WaterWorks.<init>()V -/
abbrev y_Wa_init : MethodName := ⟨"WaterWorks", "<init>", "()V"⟩
abbrev rm_Wa_init : Room := { frames := 5, cells := 15, slots := 212, locals := 121 }
theorem h_Wa_init : y_Wa_init.cls ≠ "java/lang/invoke/MethodHandle" ∧ y_Wa_init.cls ≠ "java/lang/invoke/VarHandle" := by decide +kernel
theorem n_Wa_init : (parseMethodDescriptor y_Wa_init.desc).map (fun d => d.parameters.length) = some 0 := by decide +kernel
theorem d_Wa_init_0 : decode prog_1_method_2_code 0 = .ok (.aload_n 0, 1) := by decide +kernel
theorem d_Wa_init_1 : decode prog_1_method_2_code 1 = .ok (.invokespecial 1, 3) := by decide +kernel
theorem d_Wa_init_4 : decode prog_1_method_2_code 4 = .ok (.aload_n 0, 1) := by decide +kernel
theorem d_Wa_init_5 : decode prog_1_method_2_code 5 = .ok (.new 7, 3) := by decide +kernel
theorem d_Wa_init_8 : decode prog_1_method_2_code 8 = .ok (.dup, 1) := by decide +kernel
theorem d_Wa_init_9 : decode prog_1_method_2_code 9 = .ok (.invokespecial 9, 3) := by decide +kernel
theorem d_Wa_init_12 : decode prog_1_method_2_code 12 = .ok (.putfield 10, 3) := by decide +kernel
theorem d_Wa_init_15 : decode prog_1_method_2_code 15 = .ok (.aload_n 0, 1) := by decide +kernel
theorem d_Wa_init_16 : decode prog_1_method_2_code 16 = .ok (.new 16, 3) := by decide +kernel
theorem d_Wa_init_19 : decode prog_1_method_2_code 19 = .ok (.dup, 1) := by decide +kernel
theorem d_Wa_init_20 : decode prog_1_method_2_code 20 = .ok (.bipush 10, 2) := by decide +kernel
theorem d_Wa_init_22 : decode prog_1_method_2_code 22 = .ok (.invokespecial 18, 3) := by decide +kernel
theorem d_Wa_init_25 : decode prog_1_method_2_code 25 = .ok (.putfield 21, 3) := by decide +kernel
theorem d_Wa_init_28 : decode prog_1_method_2_code 28 = .ok (.aload_n 0, 1) := by decide +kernel
theorem d_Wa_init_29 : decode prog_1_method_2_code 29 = .ok (.new 16, 3) := by decide +kernel
theorem d_Wa_init_32 : decode prog_1_method_2_code 32 = .ok (.dup, 1) := by decide +kernel
theorem d_Wa_init_33 : decode prog_1_method_2_code 33 = .ok (.bipush 8, 2) := by decide +kernel
theorem d_Wa_init_35 : decode prog_1_method_2_code 35 = .ok (.invokespecial 18, 3) := by decide +kernel
theorem d_Wa_init_38 : decode prog_1_method_2_code 38 = .ok (.putfield 25, 3) := by decide +kernel
theorem d_Wa_init_41 : decode prog_1_method_2_code 41 = .ok (.return_, 1) := by decide +kernel
def wp_Wa_init (po : Option Value → Pic → Prop) (th : String → Pic → Prop) (P : Pic) (a0 : Nat) : Prop := ∀ (q101 : Nat), p_z P ≤ q101 → wp_Ne_init (cp_v fun P102 => p_k P102 a0 = 1 ∧ ∀ (q104 : Nat), p_z (s_r P102 0 a0 (some q101)) ≤ q104 → wp_Ar_init (cp_v fun P105 => p_k P105 a0 = 1 ∧ ∀ (q107 : Nat), p_z (s_r P105 1 a0 (some q104)) ≤ q107 → wp_Ar_init (cp_v fun P108 => p_k P108 a0 = 1 ∧ po none (s_r P108 2 a0 (some q107))) th (s_new (s_r P105 1 a0 (some q104)) q107 13) q107 (8 : Int32)) th (s_new (s_r P102 0 a0 (some q101)) q104 13) q104 (10 : Int32)) th (s_new P q101 6) q101
set_option maxHeartbeats 4000000 in
set_option maxRecDepth 100000 in
theorem ct_Wa_init {l : Launch} (hfl : l.flags = flags0) (D : pq_D) {po : Option Value → Pic → Prop} {th : String → Pic → Prop} {P : Pic} {a0 : Nat} (h : wp_Wa_init po th P a0) : CT l D y_Wa_init (.code y_Wa_init prog_1_method_2_code 1 none) rm_Wa_init false [.ref a0] P po th := by
  refine ct_of (hs := []) hfl (by decide +kernel) (Or.inl ⟨rfl, rfl⟩) (Nat.le_of_ble_eq_true rfl) ?_
  intro p e s m below meth c C hmg hr hin htab ls hl
  have hl : lv_has ls 1 [(0, .ref a0)] := hl
  generalize hargs : ([.ref a0] : List Value).toArray = args at C ⊢
  obtain ⟨hx, hb, hml, hown, hlocks, htr, hT, hK, hSt, hN, hP0⟩ := id C
  have hP : Pi D P s.heap := hP0
  have hS : Sg (cq_A P s) s.heap s.heap P [] := Sg.start hP0
  unfold wp_Wa_init at h
  refine lv_aload_n (pc := 0) hx hb d_Wa_init_0 rfl (lv_at hl 0 rfl) ?_
  refine W.objInit hx hb hown (hT _ k_42 _) (hT _ k_43 _) (hT _ k_44 _) rfl (by rw [hml]; exact hl.1) rfl d_Wa_init_1 (Nat.le_of_ble_eq_true rfl) (Nat.le_of_ble_eq_true rfl) ?_
  refine W.eq (g2 := F0 m 4 ls []) rfl ?_
  refine lv_aload_n (pc := 4) hx hb d_Wa_init_4 rfl (lv_at hl 0 rfl) ?_
  refine pq_new (pc := 5) hx hb hT hK hP hS (k := 6) rfl hown (hT _ k_45 _) (hT _ k_46 _) (hT _ k_2 _) (show 0 + 1 ≤ 15 by omega) (show 0 + 9 ≤ 212 by omega) d_Wa_init_5 (fun q101 H hq101 hP1 hS => ?_)
  replace h := h q101 hq101
  have hkq101 : p_k (s_new P q101 6) q101 = 7 := pk_newq _ _ _
  replace hP := hP1
  clear hP1
  refine lv_dup (pc := 8) hx hb d_Wa_init_8 rfl ?_
  refine cc_v (pc := 9) C (rest := [.ref q101, .ref a0]) (mt_invIN (As := []) hx hb hown rfl (hT _ k_47 _) (hT _ k_48 _) (hT _ k_49 _) h_Ne_init n_Ne_init rfl d_Wa_init_9) (ct_Ne_init hfl D h) k_49 k_2 ⟨Nat.le_of_ble_eq_true rfl, Nat.le_of_ble_eq_true rfl⟩ ⟨(show 0 + 1 + 10 ≤ 15 by omega), (show 0 + 9 + 133 ≤ 212 by omega)⟩ hl.1 d_Wa_init_9 (Nat.le_of_ble_eq_true rfl) hP hS (fun P102 H locs h hP hS => ?_) (fun xx X P102 H locs h hX hex hP hS => ?_)
  · obtain ⟨hk103, h⟩ := h
    refine pq_putRa (pc := 12) (f := 0) hx hb hT hK hP hS hown hin (k := 0) (j := 0) rfl (by decide) (by decide) (hT _ k_450 _) hk103 rfl rfl rfl rfl d_Wa_init_12 (fun H locs hP hS => ?_)
    have hk103 : p_k (s_r P102 0 a0 (some q101)) a0 = 1 := by rw [pk_r]; exact hk103
    refine lv_aload_n (pc := 15) hx hb d_Wa_init_15 rfl (lv_at hl 0 rfl) ?_
    refine pq_new (pc := 16) hx hb hT hK hP hS (k := 13) rfl hown (hT _ k_448 _) (hT _ k_52 _) (hT _ k_5 _) (show 0 + 1 + 10 + 1 ≤ 15 by omega) (show 0 + 9 + 133 + 3 ≤ 212 by omega) d_Wa_init_16 (fun q104 H hq104 hP1 hS => ?_)
    replace h := h q104 hq104
    have hk103 : p_k (s_new (s_r P102 0 a0 (some q101)) q104 13) a0 = 1 := pq_oldn (k := 0) hP hk103 hq104
    have hkq104 : p_k (s_new (s_r P102 0 a0 (some q101)) q104 13) q104 = 14 := pk_newq _ _ _
    replace hP := hP1
    clear hP1
    refine lv_dup (pc := 19) hx hb d_Wa_init_19 rfl ?_
    refine lv_bipush (pc := 20) (v := 10) hx hb d_Wa_init_20 (by decide) ?_
    refine cc_v (pc := 22) C (rest := [.ref q104, .ref a0]) (mt_invI (As := [.int (10 : Int32)]) hx hb hown rfl (hT _ k_449 _) (hT _ k_54 _) (hT _ k_55 _) h_Ar_init n_Ar_init rfl d_Wa_init_22) (ct_Ar_init hfl D h) k_55 k_5 ⟨Nat.le_of_ble_eq_true rfl, Nat.le_of_ble_eq_true rfl⟩ ⟨(show 0 + 1 + 10 + 1 + 1 ≤ 15 by omega), (show 0 + 9 + 133 + 3 + 32 ≤ 212 by omega)⟩ hl.1 d_Wa_init_22 (Nat.le_of_ble_eq_true rfl) hP hS (fun P105 H locs h hP hS => ?_) (fun xx X P105 H locs h hX hex hP hS => ?_)
    · obtain ⟨hk106, h⟩ := h
      refine pq_putRa (pc := 25) (f := 1) hx hb hT hK hP hS hown hin (k := 0) (j := 1) rfl (by decide) (by decide) (hT _ k_451 _) hk106 rfl rfl rfl rfl d_Wa_init_25 (fun H locs hP hS => ?_)
      have hk106 : p_k (s_r P105 1 a0 (some q104)) a0 = 1 := by rw [pk_r]; exact hk106
      refine lv_aload_n (pc := 28) hx hb d_Wa_init_28 rfl (lv_at hl 0 rfl) ?_
      refine pq_new (pc := 29) hx hb hT hK hP hS (k := 13) rfl hown (hT _ k_448 _) (hT _ k_52 _) (hT _ k_5 _) (show 0 + 1 + 10 + 1 + 1 + 1 ≤ 15 by omega) (show 0 + 9 + 133 + 3 + 32 + 3 ≤ 212 by omega) d_Wa_init_29 (fun q107 H hq107 hP1 hS => ?_)
      replace h := h q107 hq107
      have hk106 : p_k (s_new (s_r P105 1 a0 (some q104)) q107 13) a0 = 1 := pq_oldn (k := 0) hP hk106 hq107
      have hkq107 : p_k (s_new (s_r P105 1 a0 (some q104)) q107 13) q107 = 14 := pk_newq _ _ _
      replace hP := hP1
      clear hP1
      refine lv_dup (pc := 32) hx hb d_Wa_init_32 rfl ?_
      refine lv_bipush (pc := 33) (v := 8) hx hb d_Wa_init_33 (by decide) ?_
      refine cc_v (pc := 35) C (rest := [.ref q107, .ref a0]) (mt_invI (As := [.int (8 : Int32)]) hx hb hown rfl (hT _ k_449 _) (hT _ k_54 _) (hT _ k_55 _) h_Ar_init n_Ar_init rfl d_Wa_init_35) (ct_Ar_init hfl D h) k_55 k_5 ⟨Nat.le_of_ble_eq_true rfl, Nat.le_of_ble_eq_true rfl⟩ ⟨(show 0 + 1 + 10 + 1 + 1 + 1 + 1 ≤ 15 by omega), (show 0 + 9 + 133 + 3 + 32 + 3 + 32 ≤ 212 by omega)⟩ hl.1 d_Wa_init_35 (Nat.le_of_ble_eq_true rfl) hP hS (fun P108 H locs h hP hS => ?_) (fun xx X P108 H locs h hX hex hP hS => ?_)
      · obtain ⟨hk109, h⟩ := h
        refine pq_putRa (pc := 38) (f := 2) hx hb hT hK hP hS hown hin (k := 0) (j := 2) rfl (by decide) (by decide) (hT _ k_452 _) hk109 rfl rfl rfl rfl d_Wa_init_38 (fun H locs hP hS => ?_)
        have hk109 : p_k (s_r P108 2 a0 (some q107)) a0 = 1 := by rw [pk_r]; exact hk109
        exact we_v (pc := 41) hx hb hlocks hr hP hS (show 0 + 1 + 10 + 1 + 1 + 1 + 1 + 0 ≤ 15 by omega) (show 0 + 9 + 133 + 3 + 32 + 3 + 32 + 0 ≤ 212 by omega) h d_Wa_init_41
      · exact cq_out hlocks (pq_nil htab rfl) (show 0 + 1 + 10 + 1 + 1 + 1 + 1 + 0 ≤ 15 by omega) (show 0 + 9 + 133 + 3 + 32 + 3 + 32 + 0 ≤ 212 by omega) hX hex hP hS h
    · exact cq_out hlocks (pq_nil htab rfl) (show 0 + 1 + 10 + 1 + 1 + 0 ≤ 15 by omega) (show 0 + 9 + 133 + 3 + 32 + 0 ≤ 212 by omega) hX hex hP hS h
  · exact cq_out hlocks (pq_nil htab rfl) (show 0 + 1 + 10 + 0 ≤ 15 by omega) (show 0 + 9 + 133 + 0 ≤ 212 by omega) hX hex hP hS h
/-! WaterWorks.nodeAt(I)LWaterWorks$Node; -/
abbrev y_Wa_nodeAt : MethodName := ⟨"WaterWorks", "nodeAt", "(I)LWaterWorks$Node;"⟩
abbrev rm_Wa_nodeAt : Room := { frames := 7, cells := 1, slots := 6, locals := 141 }
theorem h_Wa_nodeAt : y_Wa_nodeAt.cls ≠ "java/lang/invoke/MethodHandle" ∧ y_Wa_nodeAt.cls ≠ "java/lang/invoke/VarHandle" := by decide +kernel
theorem n_Wa_nodeAt : (parseMethodDescriptor y_Wa_nodeAt.desc).map (fun d => d.parameters.length) = some 1 := by decide +kernel
theorem d_Wa_nodeAt_0 : decode prog_1_method_7_code 0 = .ok (.iload_n 1, 1) := by decide +kernel
theorem d_Wa_nodeAt_1 : decode prog_1_method_7_code 1 = .ok (.aload_n 0, 1) := by decide +kernel
theorem d_Wa_nodeAt_2 : decode prog_1_method_7_code 2 = .ok (.getfield 10, 3) := by decide +kernel
theorem d_Wa_nodeAt_5 : decode prog_1_method_7_code 5 = .ok (.getfield 40, 3) := by decide +kernel
theorem d_Wa_nodeAt_8 : decode prog_1_method_7_code 8 = .ok (.invokevirtual 43, 3) := by decide +kernel
theorem d_Wa_nodeAt_11 : decode prog_1_method_7_code 11 = .ok (.invokestatic 47, 3) := by decide +kernel
theorem d_Wa_nodeAt_14 : decode prog_1_method_7_code 14 = .ok (.aload_n 0, 1) := by decide +kernel
theorem d_Wa_nodeAt_15 : decode prog_1_method_7_code 15 = .ok (.getfield 10, 3) := by decide +kernel
theorem d_Wa_nodeAt_18 : decode prog_1_method_7_code 18 = .ok (.getfield 40, 3) := by decide +kernel
theorem d_Wa_nodeAt_21 : decode prog_1_method_7_code 21 = .ok (.iload_n 1, 1) := by decide +kernel
theorem d_Wa_nodeAt_22 : decode prog_1_method_7_code 22 = .ok (.invokevirtual 51, 3) := by decide +kernel
theorem d_Wa_nodeAt_25 : decode prog_1_method_7_code 25 = .ok (.checkcast 55, 3) := by decide +kernel
theorem d_Wa_nodeAt_28 : decode prog_1_method_7_code 28 = .ok (.areturn, 1) := by decide +kernel
def wp_Wa_nodeAt (po : Option Value → Pic → Prop) (th : String → Pic → Prop) (P : Pic) (a0 : Nat) (x1 : Int32) : Prop := p_k P a0 = 1 ∧ ∃ a102, p_r P 0 a0 = some a102 ∧ p_k P a102 = 7 ∧ ∃ a104, p_r P 240 a102 = some a104 ∧ p_k P a104 = 14 ∧ wp_Ar_size (cp_i fun x106 _ => wp_Wa_lies (cp_v fun _ => ∃ a107, p_r P 0 a0 = some a107 ∧ p_k P a107 = 7 ∧ ∃ a109, p_r P 240 a107 = some a109 ∧ p_k P a109 = 14 ∧ wp_Ar_get (cp_a fun a111 _ => p_k P a111 = 8 ∧ po (some (.ref a111)) P) th P a109 x1) th P x1 x106) th P a104
set_option maxHeartbeats 4000000 in
set_option maxRecDepth 100000 in
theorem ct_Wa_nodeAt {l : Launch} (hfl : l.flags = flags0) (D : pq_D) {po : Option Value → Pic → Prop} {th : String → Pic → Prop} {P : Pic} {a0 : Nat} {x1 : Int32} (h : wp_Wa_nodeAt po th P a0 x1) : CT l D y_Wa_nodeAt (.code y_Wa_nodeAt prog_1_method_7_code 2 (some (.object "WaterWorks$Node"))) rm_Wa_nodeAt true [.ref a0, .int x1] P po th := by
  refine ct_of (hs := []) hfl (by decide +kernel) (Or.inl ⟨rfl, rfl⟩) (Nat.le_of_ble_eq_true rfl) ?_
  intro p e s m below meth c C hmg hr hin htab ls hl
  have hl : lv_has ls 2 [(0, .ref a0), (1, .int x1)] := hl
  generalize hargs : ([.ref a0, .int x1] : List Value).toArray = args at C ⊢
  obtain ⟨hx, hb, hml, hown, hlocks, htr, hT, hK, hSt, hN, hP0⟩ := id C
  have L10_0 : pq_fl s m args 10 0 0 := ⟨_, "WaterWorks", "WaterWorks", rfl, by decide, hown, Or.inl (hT _ k_450 _), (fun _ z => z)⟩
  have L40_6 : pq_fl s m args 40 6 0 := ⟨_, "WaterWorks", "WaterWorks$Net", rfl, by decide, hown, Or.inr ⟨_, hT _ k_416 _⟩, (fun _ z => z)⟩
  have hO : So s.heap s.heap := So.rf
  have hP : Pi D P s.heap := hP0
  unfold wp_Wa_nodeAt at h
  refine lv_iload_n (pc := 0) hx hb d_Wa_nodeAt_0 rfl (lv_at hl 1 rfl) ?_
  refine lv_aload_n (pc := 1) hx hb d_Wa_nodeAt_1 rfl (lv_at hl 0 rfl) ?_
  obtain ⟨hk101, h⟩ := h
  obtain ⟨a102, ea102, h⟩ := h
  refine pq_geta (pc := 2) (f := 0) hx hb hT hK hP L10_0 hk101 rfl ea102 d_Wa_nodeAt_2 ?_
  obtain ⟨hk103, h⟩ := h
  obtain ⟨a104, ea104, h⟩ := h
  refine pq_geta (pc := 5) (f := 240) hx hb hT hK hP L40_6 hk103 rfl ea104 d_Wa_nodeAt_5 ?_
  obtain ⟨hk105, h⟩ := h
  refine co_i (pc := 8) C (rest := [.int x1]) (mt_invV (As := []) hx hb hown (hT _ k_471 _) (hT _ k_472 _) (hT _ k_473 _) (mt_Cd.code (hT _ k_474 #[])) h_Ar_size (pq_recv hK hP hk105 rfl) n_Ar_size rfl d_Wa_nodeAt_8) (ct_Ar_size hfl D h) k_474 k_5 ⟨Nat.le_of_ble_eq_true rfl, Nat.le_of_ble_eq_true rfl⟩ ⟨(show 0 + 0 ≤ 1 by omega), (show 0 + 0 ≤ 6 by omega)⟩ hl.1 d_Wa_nodeAt_8 (Nat.le_of_ble_eq_true rfl) hO (fun x106 H h hO => ?_) (fun xx X H h hX hex hO => ?_)
  · have hP : Pi D P H := So.pi hP0 hO
    refine co_v (pc := 11) C (rest := []) (mt_invS (As := [.int x1, .int x106]) hx hb hown (hT _ k_588 _) (hT _ k_589 _) (hT _ k_1 _) (mt_Cd.code (hT _ k_590 #[])) h_Wa_lies n_Wa_lies rfl d_Wa_nodeAt_11) (ct_Wa_lies hfl D h) k_590 k_1 ⟨Nat.le_of_ble_eq_true rfl, Nat.le_of_ble_eq_true rfl⟩ ⟨(show 0 + 0 + 1 ≤ 1 by omega), (show 0 + 0 + 6 ≤ 6 by omega)⟩ hl.1 d_Wa_nodeAt_11 (Nat.le_of_ble_eq_true rfl) hO (fun H h hO => ?_) (fun xx X H h hX hex hO => ?_)
    · have hP : Pi D P H := So.pi hP0 hO
      refine lv_aload_n (pc := 14) hx hb d_Wa_nodeAt_14 rfl (lv_at hl 0 rfl) ?_
      obtain ⟨a107, ea107, h⟩ := h
      refine pq_geta (pc := 15) (f := 0) hx hb hT hK hP L10_0 hk101 rfl ea107 d_Wa_nodeAt_15 ?_
      obtain ⟨hk108, h⟩ := h
      obtain ⟨a109, ea109, h⟩ := h
      refine pq_geta (pc := 18) (f := 240) hx hb hT hK hP L40_6 hk108 rfl ea109 d_Wa_nodeAt_18 ?_
      refine lv_iload_n (pc := 21) hx hb d_Wa_nodeAt_21 rfl (lv_at hl 1 rfl) ?_
      obtain ⟨hk110, h⟩ := h
      refine co_a (pc := 22) C (rest := []) (mt_invV (As := [.int x1]) hx hb hown (hT _ k_606 _) (hT _ k_607 _) (hT _ k_608 _) (mt_Cd.code (hT _ k_609 #[])) h_Ar_get (pq_recv hK hP hk110 rfl) n_Ar_get rfl d_Wa_nodeAt_22) (ct_Ar_get hfl D h) k_609 k_5 ⟨Nat.le_of_ble_eq_true rfl, Nat.le_of_ble_eq_true rfl⟩ ⟨(show 0 + 0 + 1 + 0 ≤ 1 by omega), (show 0 + 0 + 6 + 0 ≤ 6 by omega)⟩ hl.1 d_Wa_nodeAt_22 (Nat.le_of_ble_eq_true rfl) hO (fun a111 H h hO => ?_) (fun xx X H h hX hex hO => ?_)
      · have hP : Pi D P H := So.pi hP0 hO
        obtain ⟨hk112, h⟩ := h
        refine pq_cast (pc := 25) hx hb hT hK hP hown k_499 hk112 rfl k_1349 d_Wa_nodeAt_25 ?_
        exact wo_a (pc := 28) hx hb hlocks hr (Or.inl ⟨_, rfl⟩) (Or.inr ⟨_, rfl⟩) hP0 hO (show 0 + 0 + 1 + 0 + 0 ≤ 1 by omega) (show 0 + 0 + 6 + 0 + 0 ≤ 6 by omega) h d_Wa_nodeAt_28
      · exact cq_outo hlocks (pq_nil htab rfl) (show 0 + 0 + 1 + 0 + 0 ≤ 1 by omega) (show 0 + 0 + 6 + 0 + 0 ≤ 6 by omega) hX hex hP0 hO h
    · exact cq_outo hlocks (pq_nil htab rfl) (show 0 + 0 + 1 + 0 ≤ 1 by omega) (show 0 + 0 + 6 + 0 ≤ 6 by omega) hX hex hP0 hO h
  · exact cq_outo hlocks (pq_nil htab rfl) (show 0 + 0 + 0 ≤ 1 by omega) (show 0 + 0 + 0 ≤ 6 by omega) hX hex hP0 hO h
/-! WaterWorks.middleOf(I)LWaterWorks$Place; -/
abbrev y_Wa_middleOf : MethodName := ⟨"WaterWorks", "middleOf", "(I)LWaterWorks$Place;"⟩
abbrev rm_Wa_middleOf : Room := { frames := 7, cells := 1, slots := 6, locals := 141 }
theorem h_Wa_middleOf : y_Wa_middleOf.cls ≠ "java/lang/invoke/MethodHandle" ∧ y_Wa_middleOf.cls ≠ "java/lang/invoke/VarHandle" := by decide +kernel
theorem n_Wa_middleOf : (parseMethodDescriptor y_Wa_middleOf.desc).map (fun d => d.parameters.length) = some 1 := by decide +kernel
theorem d_Wa_middleOf_0 : decode prog_1_method_8_code 0 = .ok (.iload_n 1, 1) := by decide +kernel
theorem d_Wa_middleOf_1 : decode prog_1_method_8_code 1 = .ok (.aload_n 0, 1) := by decide +kernel
theorem d_Wa_middleOf_2 : decode prog_1_method_8_code 2 = .ok (.getfield 10, 3) := by decide +kernel
theorem d_Wa_middleOf_5 : decode prog_1_method_8_code 5 = .ok (.getfield 57, 3) := by decide +kernel
theorem d_Wa_middleOf_8 : decode prog_1_method_8_code 8 = .ok (.invokevirtual 43, 3) := by decide +kernel
theorem d_Wa_middleOf_11 : decode prog_1_method_8_code 11 = .ok (.invokestatic 47, 3) := by decide +kernel
theorem d_Wa_middleOf_14 : decode prog_1_method_8_code 14 = .ok (.aload_n 0, 1) := by decide +kernel
theorem d_Wa_middleOf_15 : decode prog_1_method_8_code 15 = .ok (.getfield 10, 3) := by decide +kernel
theorem d_Wa_middleOf_18 : decode prog_1_method_8_code 18 = .ok (.getfield 57, 3) := by decide +kernel
theorem d_Wa_middleOf_21 : decode prog_1_method_8_code 21 = .ok (.iload_n 1, 1) := by decide +kernel
theorem d_Wa_middleOf_22 : decode prog_1_method_8_code 22 = .ok (.invokevirtual 51, 3) := by decide +kernel
theorem d_Wa_middleOf_25 : decode prog_1_method_8_code 25 = .ok (.checkcast 60, 3) := by decide +kernel
theorem d_Wa_middleOf_28 : decode prog_1_method_8_code 28 = .ok (.areturn, 1) := by decide +kernel
def wp_Wa_middleOf (po : Option Value → Pic → Prop) (th : String → Pic → Prop) (P : Pic) (a0 : Nat) (x1 : Int32) : Prop := p_k P a0 = 1 ∧ ∃ a102, p_r P 0 a0 = some a102 ∧ p_k P a102 = 7 ∧ ∃ a104, p_r P 241 a102 = some a104 ∧ p_k P a104 = 14 ∧ wp_Ar_size (cp_i fun x106 _ => wp_Wa_lies (cp_v fun _ => ∃ a107, p_r P 0 a0 = some a107 ∧ p_k P a107 = 7 ∧ ∃ a109, p_r P 241 a107 = some a109 ∧ p_k P a109 = 14 ∧ wp_Ar_get (cp_a fun a111 _ => (p_k P a111 = 8 ∨ p_k P a111 = 9) ∧ po (some (.ref a111)) P) th P a109 x1) th P x1 x106) th P a104
set_option maxHeartbeats 4000000 in
set_option maxRecDepth 100000 in
theorem ct_Wa_middleOf {l : Launch} (hfl : l.flags = flags0) (D : pq_D) {po : Option Value → Pic → Prop} {th : String → Pic → Prop} {P : Pic} {a0 : Nat} {x1 : Int32} (h : wp_Wa_middleOf po th P a0 x1) : CT l D y_Wa_middleOf (.code y_Wa_middleOf prog_1_method_8_code 2 (some (.object "WaterWorks$Place"))) rm_Wa_middleOf true [.ref a0, .int x1] P po th := by
  refine ct_of (hs := []) hfl (by decide +kernel) (Or.inl ⟨rfl, rfl⟩) (Nat.le_of_ble_eq_true rfl) ?_
  intro p e s m below meth c C hmg hr hin htab ls hl
  have hl : lv_has ls 2 [(0, .ref a0), (1, .int x1)] := hl
  generalize hargs : ([.ref a0, .int x1] : List Value).toArray = args at C ⊢
  obtain ⟨hx, hb, hml, hown, hlocks, htr, hT, hK, hSt, hN, hP0⟩ := id C
  have L10_0 : pq_fl s m args 10 0 0 := ⟨_, "WaterWorks", "WaterWorks", rfl, by decide, hown, Or.inl (hT _ k_450 _), (fun _ z => z)⟩
  have L57_6 : pq_fl s m args 57 6 1 := ⟨_, "WaterWorks", "WaterWorks$Net", rfl, by decide, hown, Or.inr ⟨_, hT _ k_418 _⟩, (fun _ z => z)⟩
  have hO : So s.heap s.heap := So.rf
  have hP : Pi D P s.heap := hP0
  unfold wp_Wa_middleOf at h
  refine lv_iload_n (pc := 0) hx hb d_Wa_middleOf_0 rfl (lv_at hl 1 rfl) ?_
  refine lv_aload_n (pc := 1) hx hb d_Wa_middleOf_1 rfl (lv_at hl 0 rfl) ?_
  obtain ⟨hk101, h⟩ := h
  obtain ⟨a102, ea102, h⟩ := h
  refine pq_geta (pc := 2) (f := 0) hx hb hT hK hP L10_0 hk101 rfl ea102 d_Wa_middleOf_2 ?_
  obtain ⟨hk103, h⟩ := h
  obtain ⟨a104, ea104, h⟩ := h
  refine pq_geta (pc := 5) (f := 241) hx hb hT hK hP L57_6 hk103 rfl ea104 d_Wa_middleOf_5 ?_
  obtain ⟨hk105, h⟩ := h
  refine co_i (pc := 8) C (rest := [.int x1]) (mt_invV (As := []) hx hb hown (hT _ k_471 _) (hT _ k_472 _) (hT _ k_473 _) (mt_Cd.code (hT _ k_474 #[])) h_Ar_size (pq_recv hK hP hk105 rfl) n_Ar_size rfl d_Wa_middleOf_8) (ct_Ar_size hfl D h) k_474 k_5 ⟨Nat.le_of_ble_eq_true rfl, Nat.le_of_ble_eq_true rfl⟩ ⟨(show 0 + 0 ≤ 1 by omega), (show 0 + 0 ≤ 6 by omega)⟩ hl.1 d_Wa_middleOf_8 (Nat.le_of_ble_eq_true rfl) hO (fun x106 H h hO => ?_) (fun xx X H h hX hex hO => ?_)
  · have hP : Pi D P H := So.pi hP0 hO
    refine co_v (pc := 11) C (rest := []) (mt_invS (As := [.int x1, .int x106]) hx hb hown (hT _ k_588 _) (hT _ k_589 _) (hT _ k_1 _) (mt_Cd.code (hT _ k_590 #[])) h_Wa_lies n_Wa_lies rfl d_Wa_middleOf_11) (ct_Wa_lies hfl D h) k_590 k_1 ⟨Nat.le_of_ble_eq_true rfl, Nat.le_of_ble_eq_true rfl⟩ ⟨(show 0 + 0 + 1 ≤ 1 by omega), (show 0 + 0 + 6 ≤ 6 by omega)⟩ hl.1 d_Wa_middleOf_11 (Nat.le_of_ble_eq_true rfl) hO (fun H h hO => ?_) (fun xx X H h hX hex hO => ?_)
    · have hP : Pi D P H := So.pi hP0 hO
      refine lv_aload_n (pc := 14) hx hb d_Wa_middleOf_14 rfl (lv_at hl 0 rfl) ?_
      obtain ⟨a107, ea107, h⟩ := h
      refine pq_geta (pc := 15) (f := 0) hx hb hT hK hP L10_0 hk101 rfl ea107 d_Wa_middleOf_15 ?_
      obtain ⟨hk108, h⟩ := h
      obtain ⟨a109, ea109, h⟩ := h
      refine pq_geta (pc := 18) (f := 241) hx hb hT hK hP L57_6 hk108 rfl ea109 d_Wa_middleOf_18 ?_
      refine lv_iload_n (pc := 21) hx hb d_Wa_middleOf_21 rfl (lv_at hl 1 rfl) ?_
      obtain ⟨hk110, h⟩ := h
      refine co_a (pc := 22) C (rest := []) (mt_invV (As := [.int x1]) hx hb hown (hT _ k_606 _) (hT _ k_607 _) (hT _ k_608 _) (mt_Cd.code (hT _ k_609 #[])) h_Ar_get (pq_recv hK hP hk110 rfl) n_Ar_get rfl d_Wa_middleOf_22) (ct_Ar_get hfl D h) k_609 k_5 ⟨Nat.le_of_ble_eq_true rfl, Nat.le_of_ble_eq_true rfl⟩ ⟨(show 0 + 0 + 1 + 0 ≤ 1 by omega), (show 0 + 0 + 6 + 0 ≤ 6 by omega)⟩ hl.1 d_Wa_middleOf_22 (Nat.le_of_ble_eq_true rfl) hO (fun a111 H h hO => ?_) (fun xx X H h hX hex hO => ?_)
      · have hP : Pi D P H := So.pi hP0 hO
        obtain ⟨hk112, h⟩ := h
        refine pq_castP (pc := 25) hx hb hT hK hP hown k_628 hk112 d_Wa_middleOf_25 ?_
        exact wo_a (pc := 28) hx hb hlocks hr (Or.inl ⟨_, rfl⟩) (Or.inr ⟨_, rfl⟩) hP0 hO (show 0 + 0 + 1 + 0 + 0 ≤ 1 by omega) (show 0 + 0 + 6 + 0 + 0 ≤ 6 by omega) h d_Wa_middleOf_28
      · exact cq_outo hlocks (pq_nil htab rfl) (show 0 + 0 + 1 + 0 + 0 ≤ 1 by omega) (show 0 + 0 + 6 + 0 + 0 ≤ 6 by omega) hX hex hP0 hO h
    · exact cq_outo hlocks (pq_nil htab rfl) (show 0 + 0 + 1 + 0 ≤ 1 by omega) (show 0 + 0 + 6 + 0 ≤ 6 by omega) hX hex hP0 hO h
  · exact cq_outo hlocks (pq_nil htab rfl) (show 0 + 0 + 0 ≤ 1 by omega) (show 0 + 0 + 0 ≤ 6 by omega) hX hex hP0 hO h
/-! WaterWorks.customerAt(I)LWaterWorks$Customer; -/
abbrev y_Wa_customerAt : MethodName := ⟨"WaterWorks", "customerAt", "(I)LWaterWorks$Customer;"⟩
abbrev rm_Wa_customerAt : Room := { frames := 7, cells := 1, slots := 6, locals := 141 }
theorem h_Wa_customerAt : y_Wa_customerAt.cls ≠ "java/lang/invoke/MethodHandle" ∧ y_Wa_customerAt.cls ≠ "java/lang/invoke/VarHandle" := by decide +kernel
theorem n_Wa_customerAt : (parseMethodDescriptor y_Wa_customerAt.desc).map (fun d => d.parameters.length) = some 1 := by decide +kernel
theorem d_Wa_customerAt_0 : decode prog_1_method_9_code 0 = .ok (.iload_n 1, 1) := by decide +kernel
theorem d_Wa_customerAt_1 : decode prog_1_method_9_code 1 = .ok (.aload_n 0, 1) := by decide +kernel
theorem d_Wa_customerAt_2 : decode prog_1_method_9_code 2 = .ok (.getfield 21, 3) := by decide +kernel
theorem d_Wa_customerAt_5 : decode prog_1_method_9_code 5 = .ok (.invokevirtual 43, 3) := by decide +kernel
theorem d_Wa_customerAt_8 : decode prog_1_method_9_code 8 = .ok (.invokestatic 47, 3) := by decide +kernel
theorem d_Wa_customerAt_11 : decode prog_1_method_9_code 11 = .ok (.aload_n 0, 1) := by decide +kernel
theorem d_Wa_customerAt_12 : decode prog_1_method_9_code 12 = .ok (.getfield 21, 3) := by decide +kernel
theorem d_Wa_customerAt_15 : decode prog_1_method_9_code 15 = .ok (.iload_n 1, 1) := by decide +kernel
theorem d_Wa_customerAt_16 : decode prog_1_method_9_code 16 = .ok (.invokevirtual 51, 3) := by decide +kernel
theorem d_Wa_customerAt_19 : decode prog_1_method_9_code 19 = .ok (.checkcast 62, 3) := by decide +kernel
theorem d_Wa_customerAt_22 : decode prog_1_method_9_code 22 = .ok (.areturn, 1) := by decide +kernel
def wp_Wa_customerAt (po : Option Value → Pic → Prop) (th : String → Pic → Prop) (P : Pic) (a0 : Nat) (x1 : Int32) : Prop := p_k P a0 = 1 ∧ ∃ a102, p_r P 1 a0 = some a102 ∧ p_k P a102 = 14 ∧ wp_Ar_size (cp_i fun x104 _ => wp_Wa_lies (cp_v fun _ => ∃ a105, p_r P 1 a0 = some a105 ∧ p_k P a105 = 14 ∧ wp_Ar_get (cp_a fun a107 _ => p_k P a107 = 4 ∧ po (some (.ref a107)) P) th P a105 x1) th P x1 x104) th P a102
set_option maxHeartbeats 4000000 in
set_option maxRecDepth 100000 in
theorem ct_Wa_customerAt {l : Launch} (hfl : l.flags = flags0) (D : pq_D) {po : Option Value → Pic → Prop} {th : String → Pic → Prop} {P : Pic} {a0 : Nat} {x1 : Int32} (h : wp_Wa_customerAt po th P a0 x1) : CT l D y_Wa_customerAt (.code y_Wa_customerAt prog_1_method_9_code 2 (some (.object "WaterWorks$Customer"))) rm_Wa_customerAt true [.ref a0, .int x1] P po th := by
  refine ct_of (hs := []) hfl (by decide +kernel) (Or.inl ⟨rfl, rfl⟩) (Nat.le_of_ble_eq_true rfl) ?_
  intro p e s m below meth c C hmg hr hin htab ls hl
  have hl : lv_has ls 2 [(0, .ref a0), (1, .int x1)] := hl
  generalize hargs : ([.ref a0, .int x1] : List Value).toArray = args at C ⊢
  obtain ⟨hx, hb, hml, hown, hlocks, htr, hT, hK, hSt, hN, hP0⟩ := id C
  have L21_0 : pq_fl s m args 21 0 1 := ⟨_, "WaterWorks", "WaterWorks", rfl, by decide, hown, Or.inl (hT _ k_451 _), (fun _ z => z)⟩
  have hO : So s.heap s.heap := So.rf
  have hP : Pi D P s.heap := hP0
  unfold wp_Wa_customerAt at h
  refine lv_iload_n (pc := 0) hx hb d_Wa_customerAt_0 rfl (lv_at hl 1 rfl) ?_
  refine lv_aload_n (pc := 1) hx hb d_Wa_customerAt_1 rfl (lv_at hl 0 rfl) ?_
  obtain ⟨hk101, h⟩ := h
  obtain ⟨a102, ea102, h⟩ := h
  refine pq_geta (pc := 2) (f := 1) hx hb hT hK hP L21_0 hk101 rfl ea102 d_Wa_customerAt_2 ?_
  obtain ⟨hk103, h⟩ := h
  refine co_i (pc := 5) C (rest := [.int x1]) (mt_invV (As := []) hx hb hown (hT _ k_471 _) (hT _ k_472 _) (hT _ k_473 _) (mt_Cd.code (hT _ k_474 #[])) h_Ar_size (pq_recv hK hP hk103 rfl) n_Ar_size rfl d_Wa_customerAt_5) (ct_Ar_size hfl D h) k_474 k_5 ⟨Nat.le_of_ble_eq_true rfl, Nat.le_of_ble_eq_true rfl⟩ ⟨(show 0 + 0 ≤ 1 by omega), (show 0 + 0 ≤ 6 by omega)⟩ hl.1 d_Wa_customerAt_5 (Nat.le_of_ble_eq_true rfl) hO (fun x104 H h hO => ?_) (fun xx X H h hX hex hO => ?_)
  · have hP : Pi D P H := So.pi hP0 hO
    refine co_v (pc := 8) C (rest := []) (mt_invS (As := [.int x1, .int x104]) hx hb hown (hT _ k_588 _) (hT _ k_589 _) (hT _ k_1 _) (mt_Cd.code (hT _ k_590 #[])) h_Wa_lies n_Wa_lies rfl d_Wa_customerAt_8) (ct_Wa_lies hfl D h) k_590 k_1 ⟨Nat.le_of_ble_eq_true rfl, Nat.le_of_ble_eq_true rfl⟩ ⟨(show 0 + 0 + 1 ≤ 1 by omega), (show 0 + 0 + 6 ≤ 6 by omega)⟩ hl.1 d_Wa_customerAt_8 (Nat.le_of_ble_eq_true rfl) hO (fun H h hO => ?_) (fun xx X H h hX hex hO => ?_)
    · have hP : Pi D P H := So.pi hP0 hO
      refine lv_aload_n (pc := 11) hx hb d_Wa_customerAt_11 rfl (lv_at hl 0 rfl) ?_
      obtain ⟨a105, ea105, h⟩ := h
      refine pq_geta (pc := 12) (f := 1) hx hb hT hK hP L21_0 hk101 rfl ea105 d_Wa_customerAt_12 ?_
      refine lv_iload_n (pc := 15) hx hb d_Wa_customerAt_15 rfl (lv_at hl 1 rfl) ?_
      obtain ⟨hk106, h⟩ := h
      refine co_a (pc := 16) C (rest := []) (mt_invV (As := [.int x1]) hx hb hown (hT _ k_606 _) (hT _ k_607 _) (hT _ k_608 _) (mt_Cd.code (hT _ k_609 #[])) h_Ar_get (pq_recv hK hP hk106 rfl) n_Ar_get rfl d_Wa_customerAt_16) (ct_Ar_get hfl D h) k_609 k_5 ⟨Nat.le_of_ble_eq_true rfl, Nat.le_of_ble_eq_true rfl⟩ ⟨(show 0 + 0 + 1 + 0 ≤ 1 by omega), (show 0 + 0 + 6 + 0 ≤ 6 by omega)⟩ hl.1 d_Wa_customerAt_16 (Nat.le_of_ble_eq_true rfl) hO (fun a107 H h hO => ?_) (fun xx X H h hX hex hO => ?_)
      · have hP : Pi D P H := So.pi hP0 hO
        obtain ⟨hk108, h⟩ := h
        refine pq_cast (pc := 19) hx hb hT hK hP hown k_688 hk108 rfl k_1351 d_Wa_customerAt_19 ?_
        exact wo_a (pc := 22) hx hb hlocks hr (Or.inl ⟨_, rfl⟩) (Or.inr ⟨_, rfl⟩) hP0 hO (show 0 + 0 + 1 + 0 + 0 ≤ 1 by omega) (show 0 + 0 + 6 + 0 + 0 ≤ 6 by omega) h d_Wa_customerAt_22
      · exact cq_outo hlocks (pq_nil htab rfl) (show 0 + 0 + 1 + 0 + 0 ≤ 1 by omega) (show 0 + 0 + 6 + 0 + 0 ≤ 6 by omega) hX hex hP0 hO h
    · exact cq_outo hlocks (pq_nil htab rfl) (show 0 + 0 + 1 + 0 ≤ 1 by omega) (show 0 + 0 + 6 + 0 ≤ 6 by omega) hX hex hP0 hO h
  · exact cq_outo hlocks (pq_nil htab rfl) (show 0 + 0 + 0 ≤ 1 by omega) (show 0 + 0 + 0 ≤ 6 by omega) hX hex hP0 hO h
/-! WaterWorks.node()I -/
abbrev y_Wa_node : MethodName := ⟨"WaterWorks", "node", "()I"⟩
abbrev rm_Wa_node : Room := { frames := 8, cells := 5, slots := 108, locals := 192 }
theorem h_Wa_node : y_Wa_node.cls ≠ "java/lang/invoke/MethodHandle" ∧ y_Wa_node.cls ≠ "java/lang/invoke/VarHandle" := by decide +kernel
theorem n_Wa_node : (parseMethodDescriptor y_Wa_node.desc).map (fun d => d.parameters.length) = some 0 := by decide +kernel
theorem d_Wa_node_0 : decode prog_1_method_10_code 0 = .ok (.aload_n 0, 1) := by decide +kernel
theorem d_Wa_node_1 : decode prog_1_method_10_code 1 = .ok (.getfield 10, 3) := by decide +kernel
theorem d_Wa_node_4 : decode prog_1_method_10_code 4 = .ok (.getfield 40, 3) := by decide +kernel
theorem d_Wa_node_7 : decode prog_1_method_10_code 7 = .ok (.invokevirtual 43, 3) := by decide +kernel
theorem d_Wa_node_10 : decode prog_1_method_10_code 10 = .ok (.bipush 12, 2) := by decide +kernel
theorem d_Wa_node_12 : decode prog_1_method_10_code 12 = .ok (.if_icmp .ge 7, 3) := by decide +kernel
theorem d_Wa_node_15 : decode prog_1_method_10_code 15 = .ok (.iconst 1, 1) := by decide +kernel
theorem d_Wa_node_16 : decode prog_1_method_10_code 16 = .ok (.goto 4, 3) := by decide +kernel
theorem d_Wa_node_19 : decode prog_1_method_10_code 19 = .ok (.iconst 0, 1) := by decide +kernel
theorem d_Wa_node_20 : decode prog_1_method_10_code 20 = .ok (.invokestatic 64, 3) := by decide +kernel
theorem d_Wa_node_23 : decode prog_1_method_10_code 23 = .ok (.aload_n 0, 1) := by decide +kernel
theorem d_Wa_node_24 : decode prog_1_method_10_code 24 = .ok (.getfield 10, 3) := by decide +kernel
theorem d_Wa_node_27 : decode prog_1_method_10_code 27 = .ok (.getfield 40, 3) := by decide +kernel
theorem d_Wa_node_30 : decode prog_1_method_10_code 30 = .ok (.new 55, 3) := by decide +kernel
theorem d_Wa_node_33 : decode prog_1_method_10_code 33 = .ok (.dup, 1) := by decide +kernel
theorem d_Wa_node_34 : decode prog_1_method_10_code 34 = .ok (.invokespecial 68, 3) := by decide +kernel
theorem d_Wa_node_37 : decode prog_1_method_10_code 37 = .ok (.invokevirtual 69, 3) := by decide +kernel
theorem d_Wa_node_40 : decode prog_1_method_10_code 40 = .ok (.pop, 1) := by decide +kernel
theorem d_Wa_node_41 : decode prog_1_method_10_code 41 = .ok (.aload_n 0, 1) := by decide +kernel
theorem d_Wa_node_42 : decode prog_1_method_10_code 42 = .ok (.getfield 10, 3) := by decide +kernel
theorem d_Wa_node_45 : decode prog_1_method_10_code 45 = .ok (.getfield 40, 3) := by decide +kernel
theorem d_Wa_node_48 : decode prog_1_method_10_code 48 = .ok (.invokevirtual 43, 3) := by decide +kernel
theorem d_Wa_node_51 : decode prog_1_method_10_code 51 = .ok (.iconst 1, 1) := by decide +kernel
theorem d_Wa_node_52 : decode prog_1_method_10_code 52 = .ok (.isub, 1) := by decide +kernel
theorem d_Wa_node_53 : decode prog_1_method_10_code 53 = .ok (.ireturn, 1) := by decide +kernel
def wb_Wa_node_20 (po : Option Value → Pic → Prop) (th : String → Pic → Prop) (P : Pic) (a0 : Nat) (t0 : Int32) : Prop := wp_Wa_may (cp_v fun _ => p_k P a0 = 1 ∧ ∃ a109, p_r P 0 a0 = some a109 ∧ p_k P a109 = 7 ∧ ∃ a111, p_r P 240 a109 = some a111 ∧ ∀ (q112 : Nat), p_z P ≤ q112 → wp_No_init (cp_v fun P113 => p_k P113 a111 = 14 ∧ wp_Ar_add (cp_i fun x115 P116 => p_k P116 a0 = 1 ∧ ∃ a118, p_r P116 0 a0 = some a118 ∧ p_k P116 a118 = 7 ∧ ∃ a120, p_r P116 240 a118 = some a120 ∧ p_k P116 a120 = 14 ∧ wp_Ar_size (cp_i fun x122 _ => po (some (.int (x122 - (1 : Int32)))) P116) th P116 a120) th P113 a111 q112) th (s_new P q112 7) q112) th P t0
def wp_Wa_node (po : Option Value → Pic → Prop) (th : String → Pic → Prop) (P : Pic) (a0 : Nat) : Prop := p_k P a0 = 1 ∧ ∃ a102, p_r P 0 a0 = some a102 ∧ p_k P a102 = 7 ∧ ∃ a104, p_r P 240 a102 = some a104 ∧ p_k P a104 = 14 ∧ wp_Ar_size (cp_i fun x106 _ => (((12 : Int32) ≤ x106 → (wb_Wa_node_20 po th P a0 (0 : Int32))) ∧ (¬ (12 : Int32) ≤ x106 → (wb_Wa_node_20 po th P a0 (1 : Int32))))) th P a104
set_option maxHeartbeats 4000000 in
set_option maxRecDepth 100000 in
theorem wk_Wa_node_20 {p : Program} {l : Launch} {e : Env} {s : State} {m : MethodId} {args : Array Value} {below : List Frame} {meth : Method} {c : Code} {D : pq_D} {P0 : Pic} {po : Option Value → Pic → Prop} {th : String → Pic → Prop} (hfl : l.flags = flags0) (C : Cx p e s m args meth c prog_1_method_10_code 1 "WaterWorks" D P0) (hmg : e.platform.magicAccessors = ({} : Platform).magicAccessors) (hr : meth.sig.returnType = (some .int)) (hin : meth.name = "node") (htab : c.exceptionTable.toList = tableOf []) : ∀ (P : Pic) (a0 : Nat) (t0 : Int32) (H : Heap) (locs : List Loc) (cells slots : Nat) (ls : Array Slot), wb_Wa_node_20 po th P a0 t0 → Pi D P H → Sg (cq_A P0 s) s.heap H P locs → lv_has ls 1 [(0, .ref a0)] → cells + 5 ≤ 5 → slots + 108 ≤ 108 → W p l e rm_Wa_node s m args below meth c H locs cells slots (mt_MQ below (cq_Q D P0 false po th) args s 5 108 (cq_free P0 false)) (F0 m 20 ls [.int t0]) := by
  intro P a0 t0 H locs cells slots ls h hP hS hl hcc hss
  obtain ⟨hx, hb, hml, hown, hlocks, htr, hT, hK, hSt, hN, hP0⟩ := id C
  have L10_0 : pq_fl s m args 10 0 0 := ⟨_, "WaterWorks", "WaterWorks", rfl, by decide, hown, Or.inl (hT _ k_450 _), (fun _ z => z)⟩
  have L40_6 : pq_fl s m args 40 6 0 := ⟨_, "WaterWorks", "WaterWorks$Net", rfl, by decide, hown, Or.inr ⟨_, hT _ k_416 _⟩, (fun _ z => z)⟩
  unfold wb_Wa_node_20 at h
  refine cr_v (pc := 20) C (rest := []) (mt_invS (As := [.int t0]) hx hb hown (hT _ k_475 _) (hT _ k_476 _) (hT _ k_1 _) (mt_Cd.code (hT _ k_477 #[])) h_Wa_may n_Wa_may rfl d_Wa_node_20) (ct_Wa_may hfl D h) k_477 k_1 ⟨Nat.le_of_ble_eq_true rfl, Nat.le_of_ble_eq_true rfl⟩ ⟨(show cells + 1 ≤ 5 by omega), (show slots + 6 ≤ 108 by omega)⟩ hl.1 d_Wa_node_20 (Nat.le_of_ble_eq_true rfl) hP hS (fun H locs h hP hS => ?_) (fun xx X H locs h hX hex hP hS => ?_)
  · refine lv_aload_n (pc := 23) hx hb d_Wa_node_23 rfl (lv_at hl 0 rfl) ?_
    obtain ⟨hk108, h⟩ := h
    obtain ⟨a109, ea109, h⟩ := h
    refine pq_geta (pc := 24) (f := 0) hx hb hT hK hP L10_0 hk108 rfl ea109 d_Wa_node_24 ?_
    obtain ⟨hk110, h⟩ := h
    obtain ⟨a111, ea111, h⟩ := h
    refine pq_geta (pc := 27) (f := 240) hx hb hT hK hP L40_6 hk110 rfl ea111 d_Wa_node_27 ?_
    refine pq_new (pc := 30) hx hb hT hK hP hS (k := 7) rfl hown (hT _ k_499 _) (hT _ k_500 _) (hT _ k_27 _) (show cells + 1 + 1 ≤ 5 by omega) (show slots + 6 + 3 ≤ 108 by omega) d_Wa_node_30 (fun q112 H hq112 hP1 hS => ?_)
    replace h := h q112 hq112
    have hk108 : p_k (s_new P q112 7) a0 = 1 := pq_oldn (k := 0) hP hk108 hq112
    have hk110 : p_k (s_new P q112 7) a109 = 7 := pq_oldn (k := 6) hP hk110 hq112
    have hkq112 : p_k (s_new P q112 7) q112 = 8 := pk_newq _ _ _
    replace hP := hP1
    clear hP1
    refine lv_dup (pc := 33) hx hb d_Wa_node_33 rfl ?_
    refine cc_v (pc := 34) C (rest := [.ref q112, .ref a111]) (mt_invIN (As := []) hx hb hown rfl (hT _ k_501 _) (hT _ k_502 _) (hT _ k_503 _) h_No_init n_No_init rfl d_Wa_node_34) (ct_No_init hfl D h) k_503 k_27 ⟨Nat.le_of_ble_eq_true rfl, Nat.le_of_ble_eq_true rfl⟩ ⟨(show cells + 1 + 1 + 2 ≤ 5 by omega), (show slots + 6 + 3 + 35 ≤ 108 by omega)⟩ hl.1 d_Wa_node_34 (Nat.le_of_ble_eq_true rfl) hP hS (fun P113 H locs h hP hS => ?_) (fun xx X P113 H locs h hX hex hP hS => ?_)
    · obtain ⟨hk114, h⟩ := h
      refine cc_i (pc := 37) C (rest := []) (mt_invV (As := [.ref q112]) hx hb hown (hT _ k_523 _) (hT _ k_524 _) (hT _ k_525 _) (mt_Cd.code (hT _ k_526 #[])) h_Ar_add (pq_recv hK hP hk114 rfl) n_Ar_add rfl d_Wa_node_37) (ct_Ar_add hfl D h) k_526 k_5 ⟨Nat.le_of_ble_eq_true rfl, Nat.le_of_ble_eq_true rfl⟩ ⟨(show cells + 1 + 1 + 2 + 1 ≤ 5 by omega), (show slots + 6 + 3 + 35 + 64 ≤ 108 by omega)⟩ hl.1 d_Wa_node_37 (Nat.le_of_ble_eq_true rfl) hP hS (fun x115 P116 H locs h hP hS => ?_) (fun xx X P116 H locs h hX hex hP hS => ?_)
      · refine lv_pop (pc := 40) hx hb d_Wa_node_40 rfl ?_
        refine lv_aload_n (pc := 41) hx hb d_Wa_node_41 rfl (lv_at hl 0 rfl) ?_
        obtain ⟨hk117, h⟩ := h
        obtain ⟨a118, ea118, h⟩ := h
        refine pq_geta (pc := 42) (f := 0) hx hb hT hK hP L10_0 hk117 rfl ea118 d_Wa_node_42 ?_
        obtain ⟨hk119, h⟩ := h
        obtain ⟨a120, ea120, h⟩ := h
        refine pq_geta (pc := 45) (f := 240) hx hb hT hK hP L40_6 hk119 rfl ea120 d_Wa_node_45 ?_
        obtain ⟨hk121, h⟩ := h
        refine cr_i (pc := 48) C (rest := []) (mt_invV (As := []) hx hb hown (hT _ k_471 _) (hT _ k_472 _) (hT _ k_473 _) (mt_Cd.code (hT _ k_474 #[])) h_Ar_size (pq_recv hK hP hk121 rfl) n_Ar_size rfl d_Wa_node_48) (ct_Ar_size hfl D h) k_474 k_5 ⟨Nat.le_of_ble_eq_true rfl, Nat.le_of_ble_eq_true rfl⟩ ⟨(show cells + 1 + 1 + 2 + 1 + 0 ≤ 5 by omega), (show slots + 6 + 3 + 35 + 64 + 0 ≤ 108 by omega)⟩ hl.1 d_Wa_node_48 (Nat.le_of_ble_eq_true rfl) hP hS (fun x122 H locs h hP hS => ?_) (fun xx X H locs h hX hex hP hS => ?_)
        · refine lv_iconst (pc := 51) (v := 1) hx hb d_Wa_node_51 (by decide) ?_
          refine lv_isub (pc := 52) hx hb d_Wa_node_52 ?_
          exact we_i (pc := 53) hx hb hlocks hr hP hS (show cells + 1 + 1 + 2 + 1 + 0 + 0 ≤ 5 by omega) (show slots + 6 + 3 + 35 + 64 + 0 + 0 ≤ 108 by omega) h d_Wa_node_53
        · exact cq_out hlocks (pq_nil htab rfl) (show cells + 1 + 1 + 2 + 1 + 0 + 0 ≤ 5 by omega) (show slots + 6 + 3 + 35 + 64 + 0 + 0 ≤ 108 by omega) hX hex hP hS h
      · exact cq_out hlocks (pq_nil htab rfl) (show cells + 1 + 1 + 2 + 1 + 0 ≤ 5 by omega) (show slots + 6 + 3 + 35 + 64 + 0 ≤ 108 by omega) hX hex hP hS h
    · exact cq_out hlocks (pq_nil htab rfl) (show cells + 1 + 1 + 2 + 0 ≤ 5 by omega) (show slots + 6 + 3 + 35 + 0 ≤ 108 by omega) hX hex hP hS h
  · exact cq_out hlocks (pq_nil htab rfl) (show cells + 1 + 0 ≤ 5 by omega) (show slots + 6 + 0 ≤ 108 by omega) hX hex hP hS h
set_option maxHeartbeats 4000000 in
set_option maxRecDepth 100000 in
theorem ct_Wa_node {l : Launch} (hfl : l.flags = flags0) (D : pq_D) {po : Option Value → Pic → Prop} {th : String → Pic → Prop} {P : Pic} {a0 : Nat} (h : wp_Wa_node po th P a0) : CT l D y_Wa_node (.code y_Wa_node prog_1_method_10_code 1 (some .int)) rm_Wa_node false [.ref a0] P po th := by
  refine ct_of (hs := []) hfl (by decide +kernel) (Or.inl ⟨rfl, rfl⟩) (Nat.le_of_ble_eq_true rfl) ?_
  intro p e s m below meth c C hmg hr hin htab ls hl
  have hl : lv_has ls 1 [(0, .ref a0)] := hl
  generalize hargs : ([.ref a0] : List Value).toArray = args at C ⊢
  obtain ⟨hx, hb, hml, hown, hlocks, htr, hT, hK, hSt, hN, hP0⟩ := id C
  have L10_0 : pq_fl s m args 10 0 0 := ⟨_, "WaterWorks", "WaterWorks", rfl, by decide, hown, Or.inl (hT _ k_450 _), (fun _ z => z)⟩
  have L40_6 : pq_fl s m args 40 6 0 := ⟨_, "WaterWorks", "WaterWorks$Net", rfl, by decide, hown, Or.inr ⟨_, hT _ k_416 _⟩, (fun _ z => z)⟩
  have hP : Pi D P s.heap := hP0
  have hS : Sg (cq_A P s) s.heap s.heap P [] := Sg.start hP0
  unfold wp_Wa_node at h
  refine lv_aload_n (pc := 0) hx hb d_Wa_node_0 rfl (lv_at hl 0 rfl) ?_
  obtain ⟨hk101, h⟩ := h
  obtain ⟨a102, ea102, h⟩ := h
  refine pq_geta (pc := 1) (f := 0) hx hb hT hK hP L10_0 hk101 rfl ea102 d_Wa_node_1 ?_
  obtain ⟨hk103, h⟩ := h
  obtain ⟨a104, ea104, h⟩ := h
  refine pq_geta (pc := 4) (f := 240) hx hb hT hK hP L40_6 hk103 rfl ea104 d_Wa_node_4 ?_
  obtain ⟨hk105, h⟩ := h
  refine cr_i (pc := 7) C (rest := []) (mt_invV (As := []) hx hb hown (hT _ k_471 _) (hT _ k_472 _) (hT _ k_473 _) (mt_Cd.code (hT _ k_474 #[])) h_Ar_size (pq_recv hK hP hk105 rfl) n_Ar_size rfl d_Wa_node_7) (ct_Ar_size hfl D h) k_474 k_5 ⟨Nat.le_of_ble_eq_true rfl, Nat.le_of_ble_eq_true rfl⟩ ⟨(show 0 + 0 ≤ 5 by omega), (show 0 + 0 ≤ 108 by omega)⟩ hl.1 d_Wa_node_7 (Nat.le_of_ble_eq_true rfl) hP hS (fun x106 H locs h hP hS => ?_) (fun xx X H locs h hX hex hP hS => ?_)
  · refine lv_bipush (pc := 10) (v := 12) hx hb d_Wa_node_10 (by decide) ?_
    refine lv_icmp_ge (pc := 12) (tgt := 19) hx hb d_Wa_node_12 (by decide) (fun c107 => ?_) (fun c107 => ?_)
    · replace h := h.1 c107
      refine lv_iconst (pc := 19) (v := 0) hx hb d_Wa_node_19 (by decide) ?_
      exact wk_Wa_node_20 hfl C hmg hr hin htab _ a0 (0 : Int32) _ _ _ _ _ h hP hS (lv_sub hl [0] rfl) (show 0 + 0 + 5 ≤ 5 by omega) (show 0 + 0 + 108 ≤ 108 by omega)
    · replace h := h.2 c107
      refine lv_iconst (pc := 15) (v := 1) hx hb d_Wa_node_15 (by decide) ?_
      refine lv_goto (pc := 16) (tgt := 20) hx hb d_Wa_node_16 (by decide) ?_
      exact wk_Wa_node_20 hfl C hmg hr hin htab _ a0 (1 : Int32) _ _ _ _ _ h hP hS (lv_sub hl [0] rfl) (show 0 + 0 + 5 ≤ 5 by omega) (show 0 + 0 + 108 ≤ 108 by omega)
  · exact cq_out hlocks (pq_nil htab rfl) (show 0 + 0 + 0 ≤ 5 by omega) (show 0 + 0 + 0 ≤ 108 by omega) hX hex hP hS h
/-! WaterWorks.pipe(III)I -/
abbrev y_Wa_pipe : MethodName := ⟨"WaterWorks", "pipe", "(III)I"⟩
abbrev rm_Wa_pipe : Room := { frames := 9, cells := 16, slots := 523, locals := 216 }
theorem h_Wa_pipe : y_Wa_pipe.cls ≠ "java/lang/invoke/MethodHandle" ∧ y_Wa_pipe.cls ≠ "java/lang/invoke/VarHandle" := by decide +kernel
theorem n_Wa_pipe : (parseMethodDescriptor y_Wa_pipe.desc).map (fun d => d.parameters.length) = some 3 := by decide +kernel
theorem d_Wa_pipe_0 : decode prog_1_method_11_code 0 = .ok (.aload_n 0, 1) := by decide +kernel
theorem d_Wa_pipe_1 : decode prog_1_method_11_code 1 = .ok (.iload_n 1, 1) := by decide +kernel
theorem d_Wa_pipe_2 : decode prog_1_method_11_code 2 = .ok (.invokevirtual 73, 3) := by decide +kernel
theorem d_Wa_pipe_5 : decode prog_1_method_11_code 5 = .ok (.astore 4, 2) := by decide +kernel
theorem d_Wa_pipe_7 : decode prog_1_method_11_code 7 = .ok (.aload_n 0, 1) := by decide +kernel
theorem d_Wa_pipe_8 : decode prog_1_method_11_code 8 = .ok (.iload_n 2, 1) := by decide +kernel
theorem d_Wa_pipe_9 : decode prog_1_method_11_code 9 = .ok (.invokevirtual 73, 3) := by decide +kernel
theorem d_Wa_pipe_12 : decode prog_1_method_11_code 12 = .ok (.astore 5, 2) := by decide +kernel
theorem d_Wa_pipe_14 : decode prog_1_method_11_code 14 = .ok (.aload 4, 2) := by decide +kernel
theorem d_Wa_pipe_16 : decode prog_1_method_11_code 16 = .ok (.aload 5, 2) := by decide +kernel
theorem d_Wa_pipe_18 : decode prog_1_method_11_code 18 = .ok (.if_acmp .eq 16, 3) := by decide +kernel
theorem d_Wa_pipe_21 : decode prog_1_method_11_code 21 = .ok (.iload_n 3, 1) := by decide +kernel
theorem d_Wa_pipe_22 : decode prog_1_method_11_code 22 = .ok (.ifCond .lt 12, 3) := by decide +kernel
theorem d_Wa_pipe_25 : decode prog_1_method_11_code 25 = .ok (.iload_n 3, 1) := by decide +kernel
theorem d_Wa_pipe_26 : decode prog_1_method_11_code 26 = .ok (.iconst 3, 1) := by decide +kernel
theorem d_Wa_pipe_27 : decode prog_1_method_11_code 27 = .ok (.if_icmp .gt 7, 3) := by decide +kernel
theorem d_Wa_pipe_30 : decode prog_1_method_11_code 30 = .ok (.iconst 1, 1) := by decide +kernel
theorem d_Wa_pipe_31 : decode prog_1_method_11_code 31 = .ok (.goto 4, 3) := by decide +kernel
theorem d_Wa_pipe_34 : decode prog_1_method_11_code 34 = .ok (.iconst 0, 1) := by decide +kernel
theorem d_Wa_pipe_35 : decode prog_1_method_11_code 35 = .ok (.invokestatic 77, 3) := by decide +kernel
theorem d_Wa_pipe_38 : decode prog_1_method_11_code 38 = .ok (.aload_n 0, 1) := by decide +kernel
theorem d_Wa_pipe_39 : decode prog_1_method_11_code 39 = .ok (.getfield 10, 3) := by decide +kernel
theorem d_Wa_pipe_42 : decode prog_1_method_11_code 42 = .ok (.getfield 57, 3) := by decide +kernel
theorem d_Wa_pipe_45 : decode prog_1_method_11_code 45 = .ok (.invokevirtual 43, 3) := by decide +kernel
theorem d_Wa_pipe_48 : decode prog_1_method_11_code 48 = .ok (.istore 6, 2) := by decide +kernel
theorem d_Wa_pipe_50 : decode prog_1_method_11_code 50 = .ok (.iload 6, 2) := by decide +kernel
theorem d_Wa_pipe_52 : decode prog_1_method_11_code 52 = .ok (.bipush 16, 2) := by decide +kernel
theorem d_Wa_pipe_54 : decode prog_1_method_11_code 54 = .ok (.if_icmp .ge 7, 3) := by decide +kernel
theorem d_Wa_pipe_57 : decode prog_1_method_11_code 57 = .ok (.iconst 1, 1) := by decide +kernel
theorem d_Wa_pipe_58 : decode prog_1_method_11_code 58 = .ok (.goto 4, 3) := by decide +kernel
theorem d_Wa_pipe_61 : decode prog_1_method_11_code 61 = .ok (.iconst 0, 1) := by decide +kernel
theorem d_Wa_pipe_62 : decode prog_1_method_11_code 62 = .ok (.invokestatic 64, 3) := by decide +kernel
theorem d_Wa_pipe_65 : decode prog_1_method_11_code 65 = .ok (.new 60, 3) := by decide +kernel
theorem d_Wa_pipe_68 : decode prog_1_method_11_code 68 = .ok (.dup, 1) := by decide +kernel
theorem d_Wa_pipe_69 : decode prog_1_method_11_code 69 = .ok (.invokespecial 80, 3) := by decide +kernel
theorem d_Wa_pipe_72 : decode prog_1_method_11_code 72 = .ok (.astore 7, 2) := by decide +kernel
theorem d_Wa_pipe_74 : decode prog_1_method_11_code 74 = .ok (.aload_n 0, 1) := by decide +kernel
theorem d_Wa_pipe_75 : decode prog_1_method_11_code 75 = .ok (.getfield 10, 3) := by decide +kernel
theorem d_Wa_pipe_78 : decode prog_1_method_11_code 78 = .ok (.getfield 57, 3) := by decide +kernel
theorem d_Wa_pipe_81 : decode prog_1_method_11_code 81 = .ok (.aload 7, 2) := by decide +kernel
theorem d_Wa_pipe_83 : decode prog_1_method_11_code 83 = .ok (.invokevirtual 69, 3) := by decide +kernel
theorem d_Wa_pipe_86 : decode prog_1_method_11_code 86 = .ok (.pop, 1) := by decide +kernel
theorem d_Wa_pipe_87 : decode prog_1_method_11_code 87 = .ok (.aload_n 0, 1) := by decide +kernel
theorem d_Wa_pipe_88 : decode prog_1_method_11_code 88 = .ok (.getfield 10, 3) := by decide +kernel
theorem d_Wa_pipe_91 : decode prog_1_method_11_code 91 = .ok (.getfield 81, 3) := by decide +kernel
theorem d_Wa_pipe_94 : decode prog_1_method_11_code 94 = .ok (.new 84, 3) := by decide +kernel
theorem d_Wa_pipe_97 : decode prog_1_method_11_code 97 = .ok (.dup, 1) := by decide +kernel
theorem d_Wa_pipe_98 : decode prog_1_method_11_code 98 = .ok (.aload 7, 2) := by decide +kernel
theorem d_Wa_pipe_100 : decode prog_1_method_11_code 100 = .ok (.aload 4, 2) := by decide +kernel
theorem d_Wa_pipe_102 : decode prog_1_method_11_code 102 = .ok (.iconst 2, 1) := by decide +kernel
theorem d_Wa_pipe_103 : decode prog_1_method_11_code 103 = .ok (.iload 6, 2) := by decide +kernel
theorem d_Wa_pipe_105 : decode prog_1_method_11_code 105 = .ok (.imul, 1) := by decide +kernel
theorem d_Wa_pipe_106 : decode prog_1_method_11_code 106 = .ok (.iload_n 3, 1) := by decide +kernel
theorem d_Wa_pipe_107 : decode prog_1_method_11_code 107 = .ok (.iconst 1, 1) := by decide +kernel
theorem d_Wa_pipe_108 : decode prog_1_method_11_code 108 = .ok (.iand, 1) := by decide +kernel
theorem d_Wa_pipe_109 : decode prog_1_method_11_code 109 = .ok (.iconst 1, 1) := by decide +kernel
theorem d_Wa_pipe_110 : decode prog_1_method_11_code 110 = .ok (.if_icmp .ne 7, 3) := by decide +kernel
theorem d_Wa_pipe_113 : decode prog_1_method_11_code 113 = .ok (.iconst 1, 1) := by decide +kernel
theorem d_Wa_pipe_114 : decode prog_1_method_11_code 114 = .ok (.goto 4, 3) := by decide +kernel
theorem d_Wa_pipe_117 : decode prog_1_method_11_code 117 = .ok (.iconst 0, 1) := by decide +kernel
theorem d_Wa_pipe_118 : decode prog_1_method_11_code 118 = .ok (.invokespecial 86, 3) := by decide +kernel
theorem d_Wa_pipe_121 : decode prog_1_method_11_code 121 = .ok (.invokevirtual 69, 3) := by decide +kernel
theorem d_Wa_pipe_124 : decode prog_1_method_11_code 124 = .ok (.pop, 1) := by decide +kernel
theorem d_Wa_pipe_125 : decode prog_1_method_11_code 125 = .ok (.aload_n 0, 1) := by decide +kernel
theorem d_Wa_pipe_126 : decode prog_1_method_11_code 126 = .ok (.getfield 10, 3) := by decide +kernel
theorem d_Wa_pipe_129 : decode prog_1_method_11_code 129 = .ok (.getfield 81, 3) := by decide +kernel
theorem d_Wa_pipe_132 : decode prog_1_method_11_code 132 = .ok (.new 84, 3) := by decide +kernel
theorem d_Wa_pipe_135 : decode prog_1_method_11_code 135 = .ok (.dup, 1) := by decide +kernel
theorem d_Wa_pipe_136 : decode prog_1_method_11_code 136 = .ok (.aload 7, 2) := by decide +kernel
theorem d_Wa_pipe_138 : decode prog_1_method_11_code 138 = .ok (.aload 5, 2) := by decide +kernel
theorem d_Wa_pipe_140 : decode prog_1_method_11_code 140 = .ok (.iconst 2, 1) := by decide +kernel
theorem d_Wa_pipe_141 : decode prog_1_method_11_code 141 = .ok (.iload 6, 2) := by decide +kernel
theorem d_Wa_pipe_143 : decode prog_1_method_11_code 143 = .ok (.imul, 1) := by decide +kernel
theorem d_Wa_pipe_144 : decode prog_1_method_11_code 144 = .ok (.iconst 1, 1) := by decide +kernel
theorem d_Wa_pipe_145 : decode prog_1_method_11_code 145 = .ok (.iadd, 1) := by decide +kernel
theorem d_Wa_pipe_146 : decode prog_1_method_11_code 146 = .ok (.iload_n 3, 1) := by decide +kernel
theorem d_Wa_pipe_147 : decode prog_1_method_11_code 147 = .ok (.iconst 2, 1) := by decide +kernel
theorem d_Wa_pipe_148 : decode prog_1_method_11_code 148 = .ok (.iand, 1) := by decide +kernel
theorem d_Wa_pipe_149 : decode prog_1_method_11_code 149 = .ok (.iconst 2, 1) := by decide +kernel
theorem d_Wa_pipe_150 : decode prog_1_method_11_code 150 = .ok (.if_icmp .ne 7, 3) := by decide +kernel
theorem d_Wa_pipe_153 : decode prog_1_method_11_code 153 = .ok (.iconst 1, 1) := by decide +kernel
theorem d_Wa_pipe_154 : decode prog_1_method_11_code 154 = .ok (.goto 4, 3) := by decide +kernel
theorem d_Wa_pipe_157 : decode prog_1_method_11_code 157 = .ok (.iconst 0, 1) := by decide +kernel
theorem d_Wa_pipe_158 : decode prog_1_method_11_code 158 = .ok (.invokespecial 86, 3) := by decide +kernel
theorem d_Wa_pipe_161 : decode prog_1_method_11_code 161 = .ok (.invokevirtual 69, 3) := by decide +kernel
theorem d_Wa_pipe_164 : decode prog_1_method_11_code 164 = .ok (.pop, 1) := by decide +kernel
theorem d_Wa_pipe_165 : decode prog_1_method_11_code 165 = .ok (.iload 6, 2) := by decide +kernel
theorem d_Wa_pipe_167 : decode prog_1_method_11_code 167 = .ok (.ireturn, 1) := by decide +kernel
def wb_Wa_pipe_158 (po : Option Value → Pic → Prop) (th : String → Pic → Prop) (P : Pic) (x6 : Int32) (t0 : Int32) (t1 : Int32) (t2 : Nat) (t3 : Nat) (t4 : Nat) (t5 : Nat) (t6 : Nat) : Prop := wp_En_init (cp_v fun P139 => p_k P139 t6 = 14 ∧ wp_Ar_add (cp_i fun x141 P142 => po (some (.int x6)) P142) th P139 t6 t5) th P t4 t3 t2 t1 t0
def wb_Wa_pipe_118 (po : Option Value → Pic → Prop) (th : String → Pic → Prop) (P : Pic) (a0 : Nat) (x3 : Int32) (a5 : Nat) (x6 : Int32) (a7 : Nat) (t0 : Int32) (t1 : Int32) (t2 : Nat) (t3 : Nat) (t4 : Nat) (t5 : Nat) (t6 : Nat) : Prop := wp_En_init (cp_v fun P129 => p_k P129 t6 = 14 ∧ wp_Ar_add (cp_i fun x131 P132 => p_k P132 a0 = 1 ∧ ∃ a134, p_r P132 0 a0 = some a134 ∧ p_k P132 a134 = 7 ∧ ∃ a136, p_r P132 242 a134 = some a136 ∧ ∀ (q137 : Nat), p_z P132 ≤ q137 → ((¬ (x3 &&& (2 : Int32)) = (2 : Int32) → (wb_Wa_pipe_158 po th (s_new P132 q137 4) x6 (0 : Int32) (((2 : Int32) * x6) + (1 : Int32)) a5 a7 q137 q137 a136)) ∧ ((x3 &&& (2 : Int32)) = (2 : Int32) → (wb_Wa_pipe_158 po th (s_new P132 q137 4) x6 (1 : Int32) (((2 : Int32) * x6) + (1 : Int32)) a5 a7 q137 q137 a136)))) th P129 t6 t5) th P t4 t3 t2 t1 t0
def wb_Wa_pipe_62 (po : Option Value → Pic → Prop) (th : String → Pic → Prop) (P : Pic) (a0 : Nat) (x3 : Int32) (a4 : Nat) (a5 : Nat) (x6 : Int32) (t0 : Int32) : Prop := wp_Wa_may (cp_v fun _ => ∀ (q114 : Nat), p_z P ≤ q114 → wp_Pl_init (cp_v fun P115 => p_k P115 a0 = 1 ∧ ∃ a117, p_r P115 0 a0 = some a117 ∧ p_k P115 a117 = 7 ∧ ∃ a119, p_r P115 241 a117 = some a119 ∧ p_k P115 a119 = 14 ∧ wp_Ar_add (cp_i fun x121 P122 => p_k P122 a0 = 1 ∧ ∃ a124, p_r P122 0 a0 = some a124 ∧ p_k P122 a124 = 7 ∧ ∃ a126, p_r P122 242 a124 = some a126 ∧ ∀ (q127 : Nat), p_z P122 ≤ q127 → ((¬ (x3 &&& (1 : Int32)) = (1 : Int32) → (wb_Wa_pipe_118 po th (s_new P122 q127 4) a0 x3 a5 x6 q114 (0 : Int32) ((2 : Int32) * x6) a4 q114 q127 q127 a126)) ∧ ((x3 &&& (1 : Int32)) = (1 : Int32) → (wb_Wa_pipe_118 po th (s_new P122 q127 4) a0 x3 a5 x6 q114 (1 : Int32) ((2 : Int32) * x6) a4 q114 q127 q127 a126)))) th P115 a119 q114) th (s_new P q114 8) q114) th P t0
def wb_Wa_pipe_35 (po : Option Value → Pic → Prop) (th : String → Pic → Prop) (P : Pic) (a0 : Nat) (x3 : Int32) (a4 : Nat) (a5 : Nat) (t0 : Int32) : Prop := wp_Wa_fits (cp_v fun _ => p_k P a0 = 1 ∧ ∃ a108, p_r P 0 a0 = some a108 ∧ p_k P a108 = 7 ∧ ∃ a110, p_r P 241 a108 = some a110 ∧ p_k P a110 = 14 ∧ wp_Ar_size (cp_i fun x112 _ => (((16 : Int32) ≤ x112 → (wb_Wa_pipe_62 po th P a0 x3 a4 a5 x112 (0 : Int32))) ∧ (¬ (16 : Int32) ≤ x112 → (wb_Wa_pipe_62 po th P a0 x3 a4 a5 x112 (1 : Int32))))) th P a110) th P t0
def wb_Wa_pipe_34 (po : Option Value → Pic → Prop) (th : String → Pic → Prop) (P : Pic) (a0 : Nat) (x3 : Int32) (a4 : Nat) (a5 : Nat) : Prop := wb_Wa_pipe_35 po th P a0 x3 a4 a5 (0 : Int32)
def wp_Wa_pipe (po : Option Value → Pic → Prop) (th : String → Pic → Prop) (P : Pic) (a0 : Nat) (x1 : Int32) (x2 : Int32) (x3 : Int32) : Prop := p_k P a0 = 1 ∧ wp_Wa_nodeAt (cp_a fun a102 _ => wp_Wa_nodeAt (cp_a fun a103 _ => ((a102 = a103 → (wb_Wa_pipe_34 po th P a0 x3 a102 a103)) ∧ (¬ a102 = a103 → (((x3 < 0 → (wb_Wa_pipe_34 po th P a0 x3 a102 a103)) ∧ (¬ x3 < 0 → ((((3 : Int32) < x3 → (wb_Wa_pipe_34 po th P a0 x3 a102 a103)) ∧ (¬ (3 : Int32) < x3 → (wb_Wa_pipe_35 po th P a0 x3 a102 a103 (1 : Int32))))))))))) th P a0 x2) th P a0 x1
set_option maxHeartbeats 4000000 in
set_option maxRecDepth 100000 in
theorem wk_Wa_pipe_158 {p : Program} {l : Launch} {e : Env} {s : State} {m : MethodId} {args : Array Value} {below : List Frame} {meth : Method} {c : Code} {D : pq_D} {P0 : Pic} {po : Option Value → Pic → Prop} {th : String → Pic → Prop} (hfl : l.flags = flags0) (C : Cx p e s m args meth c prog_1_method_11_code 8 "WaterWorks" D P0) (hmg : e.platform.magicAccessors = ({} : Platform).magicAccessors) (hr : meth.sig.returnType = (some .int)) (hin : meth.name = "pipe") (htab : c.exceptionTable.toList = tableOf []) : ∀ (P : Pic) (x6 : Int32) (t0 : Int32) (t1 : Int32) (t2 : Nat) (t3 : Nat) (t4 : Nat) (t5 : Nat) (t6 : Nat) (H : Heap) (locs : List Loc) (cells slots : Nat) (ls : Array Slot), wb_Wa_pipe_158 po th P x6 t0 t1 t2 t3 t4 t5 t6 → Pi D P H → Sg (cq_A P0 s) s.heap H P locs → lv_has ls 8 [(6, .int x6)] → cells + 3 ≤ 16 → slots + 192 ≤ 523 → W p l e rm_Wa_pipe s m args below meth c H locs cells slots (mt_MQ below (cq_Q D P0 false po th) args s 16 523 (cq_free P0 false)) (F0 m 158 ls [.int t0, .int t1, .ref t2, .ref t3, .ref t4, .ref t5, .ref t6]) := by
  intro P x6 t0 t1 t2 t3 t4 t5 t6 H locs cells slots ls h hP hS hl hcc hss
  obtain ⟨hx, hb, hml, hown, hlocks, htr, hT, hK, hSt, hN, hP0⟩ := id C
  have L10_0 : pq_fl s m args 10 0 0 := ⟨_, "WaterWorks", "WaterWorks", rfl, by decide, hown, Or.inl (hT _ k_450 _), (fun _ z => z)⟩
  have L57_6 : pq_fl s m args 57 6 1 := ⟨_, "WaterWorks", "WaterWorks$Net", rfl, by decide, hown, Or.inr ⟨_, hT _ k_418 _⟩, (fun _ z => z)⟩
  have L81_6 : pq_fl s m args 81 6 2 := ⟨_, "WaterWorks", "WaterWorks$Net", rfl, by decide, hown, Or.inr ⟨_, hT _ k_420 _⟩, (fun _ z => z)⟩
  unfold wb_Wa_pipe_158 at h
  refine cc_v (pc := 158) C (rest := [.ref t5, .ref t6]) (mt_invI (As := [.ref t3, .ref t2, .int t1, .int t0]) hx hb hown rfl (hT _ k_636 _) (hT _ k_637 _) (hT _ k_638 _) h_En_init n_En_init rfl d_Wa_pipe_158) (ct_En_init hfl D h) k_638 k_30 ⟨Nat.le_of_ble_eq_true rfl, Nat.le_of_ble_eq_true rfl⟩ ⟨(show cells + 2 ≤ 16 by omega), (show slots + 128 ≤ 523 by omega)⟩ hl.1 d_Wa_pipe_158 (Nat.le_of_ble_eq_true rfl) hP hS (fun P139 H locs h hP hS => ?_) (fun xx X P139 H locs h hX hex hP hS => ?_)
  · obtain ⟨hk140, h⟩ := h
    refine cc_i (pc := 161) C (rest := []) (mt_invV (As := [.ref t5]) hx hb hown (hT _ k_523 _) (hT _ k_524 _) (hT _ k_525 _) (mt_Cd.code (hT _ k_526 #[])) h_Ar_add (pq_recv hK hP hk140 rfl) n_Ar_add rfl d_Wa_pipe_161) (ct_Ar_add hfl D h) k_526 k_5 ⟨Nat.le_of_ble_eq_true rfl, Nat.le_of_ble_eq_true rfl⟩ ⟨(show cells + 2 + 1 ≤ 16 by omega), (show slots + 128 + 64 ≤ 523 by omega)⟩ hl.1 d_Wa_pipe_161 (Nat.le_of_ble_eq_true rfl) hP hS (fun x141 P142 H locs h hP hS => ?_) (fun xx X P142 H locs h hX hex hP hS => ?_)
    · refine lv_pop (pc := 164) hx hb d_Wa_pipe_164 rfl ?_
      refine lv_iload (pc := 165) hx hb d_Wa_pipe_165 (lv_at hl 0 rfl) ?_
      exact we_i (pc := 167) hx hb hlocks hr hP hS (show cells + 2 + 1 + 0 ≤ 16 by omega) (show slots + 128 + 64 + 0 ≤ 523 by omega) h d_Wa_pipe_167
    · exact cq_out hlocks (pq_nil htab rfl) (show cells + 2 + 1 + 0 ≤ 16 by omega) (show slots + 128 + 64 + 0 ≤ 523 by omega) hX hex hP hS h
  · exact cq_out hlocks (pq_nil htab rfl) (show cells + 2 + 0 ≤ 16 by omega) (show slots + 128 + 0 ≤ 523 by omega) hX hex hP hS h
set_option maxHeartbeats 4000000 in
set_option maxRecDepth 100000 in
theorem wk_Wa_pipe_118 {p : Program} {l : Launch} {e : Env} {s : State} {m : MethodId} {args : Array Value} {below : List Frame} {meth : Method} {c : Code} {D : pq_D} {P0 : Pic} {po : Option Value → Pic → Prop} {th : String → Pic → Prop} (hfl : l.flags = flags0) (C : Cx p e s m args meth c prog_1_method_11_code 8 "WaterWorks" D P0) (hmg : e.platform.magicAccessors = ({} : Platform).magicAccessors) (hr : meth.sig.returnType = (some .int)) (hin : meth.name = "pipe") (htab : c.exceptionTable.toList = tableOf []) : ∀ (P : Pic) (a0 : Nat) (x3 : Int32) (a5 : Nat) (x6 : Int32) (a7 : Nat) (t0 : Int32) (t1 : Int32) (t2 : Nat) (t3 : Nat) (t4 : Nat) (t5 : Nat) (t6 : Nat) (H : Heap) (locs : List Loc) (cells slots : Nat) (ls : Array Slot), wb_Wa_pipe_118 po th P a0 x3 a5 x6 a7 t0 t1 t2 t3 t4 t5 t6 → Pi D P H → Sg (cq_A P0 s) s.heap H P locs → lv_has ls 8 [(0, .ref a0), (3, .int x3), (5, .ref a5), (6, .int x6), (7, .ref a7)] → cells + 7 ≤ 16 → slots + 391 ≤ 523 → W p l e rm_Wa_pipe s m args below meth c H locs cells slots (mt_MQ below (cq_Q D P0 false po th) args s 16 523 (cq_free P0 false)) (F0 m 118 ls [.int t0, .int t1, .ref t2, .ref t3, .ref t4, .ref t5, .ref t6]) := by
  intro P a0 x3 a5 x6 a7 t0 t1 t2 t3 t4 t5 t6 H locs cells slots ls h hP hS hl hcc hss
  obtain ⟨hx, hb, hml, hown, hlocks, htr, hT, hK, hSt, hN, hP0⟩ := id C
  have L10_0 : pq_fl s m args 10 0 0 := ⟨_, "WaterWorks", "WaterWorks", rfl, by decide, hown, Or.inl (hT _ k_450 _), (fun _ z => z)⟩
  have L57_6 : pq_fl s m args 57 6 1 := ⟨_, "WaterWorks", "WaterWorks$Net", rfl, by decide, hown, Or.inr ⟨_, hT _ k_418 _⟩, (fun _ z => z)⟩
  have L81_6 : pq_fl s m args 81 6 2 := ⟨_, "WaterWorks", "WaterWorks$Net", rfl, by decide, hown, Or.inr ⟨_, hT _ k_420 _⟩, (fun _ z => z)⟩
  unfold wb_Wa_pipe_118 at h
  refine cc_v (pc := 118) C (rest := [.ref t5, .ref t6]) (mt_invI (As := [.ref t3, .ref t2, .int t1, .int t0]) hx hb hown rfl (hT _ k_636 _) (hT _ k_637 _) (hT _ k_638 _) h_En_init n_En_init rfl d_Wa_pipe_118) (ct_En_init hfl D h) k_638 k_30 ⟨Nat.le_of_ble_eq_true rfl, Nat.le_of_ble_eq_true rfl⟩ ⟨(show cells + 2 ≤ 16 by omega), (show slots + 128 ≤ 523 by omega)⟩ hl.1 d_Wa_pipe_118 (Nat.le_of_ble_eq_true rfl) hP hS (fun P129 H locs h hP hS => ?_) (fun xx X P129 H locs h hX hex hP hS => ?_)
  · obtain ⟨hk130, h⟩ := h
    refine cc_i (pc := 121) C (rest := []) (mt_invV (As := [.ref t5]) hx hb hown (hT _ k_523 _) (hT _ k_524 _) (hT _ k_525 _) (mt_Cd.code (hT _ k_526 #[])) h_Ar_add (pq_recv hK hP hk130 rfl) n_Ar_add rfl d_Wa_pipe_121) (ct_Ar_add hfl D h) k_526 k_5 ⟨Nat.le_of_ble_eq_true rfl, Nat.le_of_ble_eq_true rfl⟩ ⟨(show cells + 2 + 1 ≤ 16 by omega), (show slots + 128 + 64 ≤ 523 by omega)⟩ hl.1 d_Wa_pipe_121 (Nat.le_of_ble_eq_true rfl) hP hS (fun x131 P132 H locs h hP hS => ?_) (fun xx X P132 H locs h hX hex hP hS => ?_)
    · refine lv_pop (pc := 124) hx hb d_Wa_pipe_124 rfl ?_
      refine lv_aload_n (pc := 125) hx hb d_Wa_pipe_125 rfl (lv_at hl 0 rfl) ?_
      obtain ⟨hk133, h⟩ := h
      obtain ⟨a134, ea134, h⟩ := h
      refine pq_geta (pc := 126) (f := 0) hx hb hT hK hP L10_0 hk133 rfl ea134 d_Wa_pipe_126 ?_
      obtain ⟨hk135, h⟩ := h
      obtain ⟨a136, ea136, h⟩ := h
      refine pq_geta (pc := 129) (f := 242) hx hb hT hK hP L81_6 hk135 rfl ea136 d_Wa_pipe_129 ?_
      refine pq_new (pc := 132) hx hb hT hK hP hS (k := 4) rfl hown (hT _ k_634 _) (hT _ k_635 _) (hT _ k_30 _) (show cells + 2 + 1 + 1 ≤ 16 by omega) (show slots + 128 + 64 + 7 ≤ 523 by omega) d_Wa_pipe_132 (fun q137 H hq137 hP1 hS => ?_)
      replace h := h q137 hq137
      have hk133 : p_k (s_new P132 q137 4) a0 = 1 := pq_oldn (k := 0) hP hk133 hq137
      have hk135 : p_k (s_new P132 q137 4) a134 = 7 := pq_oldn (k := 6) hP hk135 hq137
      have hkq137 : p_k (s_new P132 q137 4) q137 = 5 := pk_newq _ _ _
      replace hP := hP1
      clear hP1
      refine lv_dup (pc := 135) hx hb d_Wa_pipe_135 rfl ?_
      refine lv_aload (pc := 136) hx hb d_Wa_pipe_136 (lv_at hl 4 rfl) ?_
      refine lv_aload (pc := 138) hx hb d_Wa_pipe_138 (lv_at hl 2 rfl) ?_
      refine lv_iconst (pc := 140) (v := 2) hx hb d_Wa_pipe_140 (by decide) ?_
      refine lv_iload (pc := 141) hx hb d_Wa_pipe_141 (lv_at hl 3 rfl) ?_
      refine lv_imul (pc := 143) hx hb d_Wa_pipe_143 ?_
      refine lv_iconst (pc := 144) (v := 1) hx hb d_Wa_pipe_144 (by decide) ?_
      refine lv_iadd (pc := 145) hx hb d_Wa_pipe_145 ?_
      refine lv_iload_n (pc := 146) hx hb d_Wa_pipe_146 rfl (lv_at hl 1 rfl) ?_
      refine lv_iconst (pc := 147) (v := 2) hx hb d_Wa_pipe_147 (by decide) ?_
      refine lv_iand (pc := 148) hx hb d_Wa_pipe_148 ?_
      refine lv_iconst (pc := 149) (v := 2) hx hb d_Wa_pipe_149 (by decide) ?_
      refine lv_icmp_ne (pc := 150) (tgt := 157) hx hb d_Wa_pipe_150 (by decide) (fun c138 => ?_) (fun c138 => ?_)
      · replace h := h.1 c138
        refine lv_iconst (pc := 157) (v := 0) hx hb d_Wa_pipe_157 (by decide) ?_
        exact wk_Wa_pipe_158 hfl C hmg hr hin htab _ x6 (0 : Int32) (((2 : Int32) * x6) + (1 : Int32)) a5 a7 q137 q137 a136 _ _ _ _ _ h hP hS (lv_sub hl [3] rfl) (show cells + 2 + 1 + 1 + 3 ≤ 16 by omega) (show slots + 128 + 64 + 7 + 192 ≤ 523 by omega)
      · replace h := h.2 c138
        refine lv_iconst (pc := 153) (v := 1) hx hb d_Wa_pipe_153 (by decide) ?_
        refine lv_goto (pc := 154) (tgt := 158) hx hb d_Wa_pipe_154 (by decide) ?_
        exact wk_Wa_pipe_158 hfl C hmg hr hin htab _ x6 (1 : Int32) (((2 : Int32) * x6) + (1 : Int32)) a5 a7 q137 q137 a136 _ _ _ _ _ h hP hS (lv_sub hl [3] rfl) (show cells + 2 + 1 + 1 + 3 ≤ 16 by omega) (show slots + 128 + 64 + 7 + 192 ≤ 523 by omega)
    · exact cq_out hlocks (pq_nil htab rfl) (show cells + 2 + 1 + 0 ≤ 16 by omega) (show slots + 128 + 64 + 0 ≤ 523 by omega) hX hex hP hS h
  · exact cq_out hlocks (pq_nil htab rfl) (show cells + 2 + 0 ≤ 16 by omega) (show slots + 128 + 0 ≤ 523 by omega) hX hex hP hS h
set_option maxHeartbeats 4000000 in
set_option maxRecDepth 100000 in
theorem wk_Wa_pipe_62 {p : Program} {l : Launch} {e : Env} {s : State} {m : MethodId} {args : Array Value} {below : List Frame} {meth : Method} {c : Code} {D : pq_D} {P0 : Pic} {po : Option Value → Pic → Prop} {th : String → Pic → Prop} (hfl : l.flags = flags0) (C : Cx p e s m args meth c prog_1_method_11_code 8 "WaterWorks" D P0) (hmg : e.platform.magicAccessors = ({} : Platform).magicAccessors) (hr : meth.sig.returnType = (some .int)) (hin : meth.name = "pipe") (htab : c.exceptionTable.toList = tableOf []) : ∀ (P : Pic) (a0 : Nat) (x3 : Int32) (a4 : Nat) (a5 : Nat) (x6 : Int32) (t0 : Int32) (H : Heap) (locs : List Loc) (cells slots : Nat) (ls : Array Slot), wb_Wa_pipe_62 po th P a0 x3 a4 a5 x6 t0 → Pi D P H → Sg (cq_A P0 s) s.heap H P locs → lv_has ls 8 [(0, .ref a0), (3, .int x3), (4, .ref a4), (5, .ref a5), (6, .int x6)] → cells + 13 ≤ 16 → slots + 505 ≤ 523 → W p l e rm_Wa_pipe s m args below meth c H locs cells slots (mt_MQ below (cq_Q D P0 false po th) args s 16 523 (cq_free P0 false)) (F0 m 62 ls [.int t0]) := by
  intro P a0 x3 a4 a5 x6 t0 H locs cells slots ls h hP hS hl hcc hss
  obtain ⟨hx, hb, hml, hown, hlocks, htr, hT, hK, hSt, hN, hP0⟩ := id C
  have L10_0 : pq_fl s m args 10 0 0 := ⟨_, "WaterWorks", "WaterWorks", rfl, by decide, hown, Or.inl (hT _ k_450 _), (fun _ z => z)⟩
  have L57_6 : pq_fl s m args 57 6 1 := ⟨_, "WaterWorks", "WaterWorks$Net", rfl, by decide, hown, Or.inr ⟨_, hT _ k_418 _⟩, (fun _ z => z)⟩
  have L81_6 : pq_fl s m args 81 6 2 := ⟨_, "WaterWorks", "WaterWorks$Net", rfl, by decide, hown, Or.inr ⟨_, hT _ k_420 _⟩, (fun _ z => z)⟩
  unfold wb_Wa_pipe_62 at h
  refine cr_v (pc := 62) C (rest := []) (mt_invS (As := [.int t0]) hx hb hown (hT _ k_475 _) (hT _ k_476 _) (hT _ k_1 _) (mt_Cd.code (hT _ k_477 #[])) h_Wa_may n_Wa_may rfl d_Wa_pipe_62) (ct_Wa_may hfl D h) k_477 k_1 ⟨Nat.le_of_ble_eq_true rfl, Nat.le_of_ble_eq_true rfl⟩ ⟨(show cells + 1 ≤ 16 by omega), (show slots + 6 ≤ 523 by omega)⟩ hl.1 d_Wa_pipe_62 (Nat.le_of_ble_eq_true rfl) hP hS (fun H locs h hP hS => ?_) (fun xx X H locs h hX hex hP hS => ?_)
  · refine pq_new (pc := 65) hx hb hT hK hP hS (k := 8) rfl hown (hT _ k_628 _) (hT _ k_629 _) (hT _ k_26 _) (show cells + 1 + 1 ≤ 16 by omega) (show slots + 6 + 2 ≤ 523 by omega) d_Wa_pipe_65 (fun q114 H hq114 hP1 hS => ?_)
    replace h := h q114 hq114
    have hkq114 : p_k (s_new P q114 8) q114 = 9 := pk_newq _ _ _
    replace hP := hP1
    clear hP1
    refine lv_dup (pc := 68) hx hb d_Wa_pipe_68 rfl ?_
    refine cc_v (pc := 69) C (rest := [.ref q114]) (mt_invIN (As := []) hx hb hown rfl (hT _ k_630 _) (hT _ k_505 _) (hT _ k_506 _) h_Pl_init n_Pl_init rfl d_Wa_pipe_69) (ct_Pl_init hfl D h) k_506 k_26 ⟨Nat.le_of_ble_eq_true rfl, Nat.le_of_ble_eq_true rfl⟩ ⟨(show cells + 1 + 1 + 2 ≤ 16 by omega), (show slots + 6 + 2 + 35 ≤ 523 by omega)⟩ hl.1 d_Wa_pipe_69 (Nat.le_of_ble_eq_true rfl) hP hS (fun P115 H locs h hP hS => ?_) (fun xx X P115 H locs h hX hex hP hS => ?_)
    · refine lv_astore (pc := 72) (lv' := [(7, .ref q114), (0, .ref a0), (3, .int x3), (4, .ref a4), (5, .ref a5), (6, .int x6)]) hx hb d_Wa_pipe_72 hl (by decide) rfl (fun ls hl => ?_)
      refine lv_aload_n (pc := 74) hx hb d_Wa_pipe_74 rfl (lv_at hl 1 rfl) ?_
      obtain ⟨hk116, h⟩ := h
      obtain ⟨a117, ea117, h⟩ := h
      refine pq_geta (pc := 75) (f := 0) hx hb hT hK hP L10_0 hk116 rfl ea117 d_Wa_pipe_75 ?_
      obtain ⟨hk118, h⟩ := h
      obtain ⟨a119, ea119, h⟩ := h
      refine pq_geta (pc := 78) (f := 241) hx hb hT hK hP L57_6 hk118 rfl ea119 d_Wa_pipe_78 ?_
      refine lv_aload (pc := 81) hx hb d_Wa_pipe_81 (lv_at hl 0 rfl) ?_
      obtain ⟨hk120, h⟩ := h
      refine cc_i (pc := 83) C (rest := []) (mt_invV (As := [.ref q114]) hx hb hown (hT _ k_523 _) (hT _ k_524 _) (hT _ k_525 _) (mt_Cd.code (hT _ k_526 #[])) h_Ar_add (pq_recv hK hP hk120 rfl) n_Ar_add rfl d_Wa_pipe_83) (ct_Ar_add hfl D h) k_526 k_5 ⟨Nat.le_of_ble_eq_true rfl, Nat.le_of_ble_eq_true rfl⟩ ⟨(show cells + 1 + 1 + 2 + 1 ≤ 16 by omega), (show slots + 6 + 2 + 35 + 64 ≤ 523 by omega)⟩ hl.1 d_Wa_pipe_83 (Nat.le_of_ble_eq_true rfl) hP hS (fun x121 P122 H locs h hP hS => ?_) (fun xx X P122 H locs h hX hex hP hS => ?_)
      · refine lv_pop (pc := 86) hx hb d_Wa_pipe_86 rfl ?_
        refine lv_aload_n (pc := 87) hx hb d_Wa_pipe_87 rfl (lv_at hl 1 rfl) ?_
        obtain ⟨hk123, h⟩ := h
        obtain ⟨a124, ea124, h⟩ := h
        refine pq_geta (pc := 88) (f := 0) hx hb hT hK hP L10_0 hk123 rfl ea124 d_Wa_pipe_88 ?_
        obtain ⟨hk125, h⟩ := h
        obtain ⟨a126, ea126, h⟩ := h
        refine pq_geta (pc := 91) (f := 242) hx hb hT hK hP L81_6 hk125 rfl ea126 d_Wa_pipe_91 ?_
        refine pq_new (pc := 94) hx hb hT hK hP hS (k := 4) rfl hown (hT _ k_634 _) (hT _ k_635 _) (hT _ k_30 _) (show cells + 1 + 1 + 2 + 1 + 1 ≤ 16 by omega) (show slots + 6 + 2 + 35 + 64 + 7 ≤ 523 by omega) d_Wa_pipe_94 (fun q127 H hq127 hP1 hS => ?_)
        replace h := h q127 hq127
        have hk123 : p_k (s_new P122 q127 4) a0 = 1 := pq_oldn (k := 0) hP hk123 hq127
        have hk125 : p_k (s_new P122 q127 4) a124 = 7 := pq_oldn (k := 6) hP hk125 hq127
        have hkq127 : p_k (s_new P122 q127 4) q127 = 5 := pk_newq _ _ _
        replace hP := hP1
        clear hP1
        refine lv_dup (pc := 97) hx hb d_Wa_pipe_97 rfl ?_
        refine lv_aload (pc := 98) hx hb d_Wa_pipe_98 (lv_at hl 0 rfl) ?_
        refine lv_aload (pc := 100) hx hb d_Wa_pipe_100 (lv_at hl 3 rfl) ?_
        refine lv_iconst (pc := 102) (v := 2) hx hb d_Wa_pipe_102 (by decide) ?_
        refine lv_iload (pc := 103) hx hb d_Wa_pipe_103 (lv_at hl 5 rfl) ?_
        refine lv_imul (pc := 105) hx hb d_Wa_pipe_105 ?_
        refine lv_iload_n (pc := 106) hx hb d_Wa_pipe_106 rfl (lv_at hl 2 rfl) ?_
        refine lv_iconst (pc := 107) (v := 1) hx hb d_Wa_pipe_107 (by decide) ?_
        refine lv_iand (pc := 108) hx hb d_Wa_pipe_108 ?_
        refine lv_iconst (pc := 109) (v := 1) hx hb d_Wa_pipe_109 (by decide) ?_
        refine lv_icmp_ne (pc := 110) (tgt := 117) hx hb d_Wa_pipe_110 (by decide) (fun c128 => ?_) (fun c128 => ?_)
        · replace h := h.1 c128
          refine lv_iconst (pc := 117) (v := 0) hx hb d_Wa_pipe_117 (by decide) ?_
          exact wk_Wa_pipe_118 hfl C hmg hr hin htab _ a0 x3 a5 x6 q114 (0 : Int32) ((2 : Int32) * x6) a4 q114 q127 q127 a126 _ _ _ _ _ h hP hS (lv_sub hl [1, 2, 4, 5, 0] rfl) (show cells + 1 + 1 + 2 + 1 + 1 + 7 ≤ 16 by omega) (show slots + 6 + 2 + 35 + 64 + 7 + 391 ≤ 523 by omega)
        · replace h := h.2 c128
          refine lv_iconst (pc := 113) (v := 1) hx hb d_Wa_pipe_113 (by decide) ?_
          refine lv_goto (pc := 114) (tgt := 118) hx hb d_Wa_pipe_114 (by decide) ?_
          exact wk_Wa_pipe_118 hfl C hmg hr hin htab _ a0 x3 a5 x6 q114 (1 : Int32) ((2 : Int32) * x6) a4 q114 q127 q127 a126 _ _ _ _ _ h hP hS (lv_sub hl [1, 2, 4, 5, 0] rfl) (show cells + 1 + 1 + 2 + 1 + 1 + 7 ≤ 16 by omega) (show slots + 6 + 2 + 35 + 64 + 7 + 391 ≤ 523 by omega)
      · exact cq_out hlocks (pq_nil htab rfl) (show cells + 1 + 1 + 2 + 1 + 0 ≤ 16 by omega) (show slots + 6 + 2 + 35 + 64 + 0 ≤ 523 by omega) hX hex hP hS h
    · exact cq_out hlocks (pq_nil htab rfl) (show cells + 1 + 1 + 2 + 0 ≤ 16 by omega) (show slots + 6 + 2 + 35 + 0 ≤ 523 by omega) hX hex hP hS h
  · exact cq_out hlocks (pq_nil htab rfl) (show cells + 1 + 0 ≤ 16 by omega) (show slots + 6 + 0 ≤ 523 by omega) hX hex hP hS h
set_option maxHeartbeats 4000000 in
set_option maxRecDepth 100000 in
theorem wk_Wa_pipe_35 {p : Program} {l : Launch} {e : Env} {s : State} {m : MethodId} {args : Array Value} {below : List Frame} {meth : Method} {c : Code} {D : pq_D} {P0 : Pic} {po : Option Value → Pic → Prop} {th : String → Pic → Prop} (hfl : l.flags = flags0) (C : Cx p e s m args meth c prog_1_method_11_code 8 "WaterWorks" D P0) (hmg : e.platform.magicAccessors = ({} : Platform).magicAccessors) (hr : meth.sig.returnType = (some .int)) (hin : meth.name = "pipe") (htab : c.exceptionTable.toList = tableOf []) : ∀ (P : Pic) (a0 : Nat) (x3 : Int32) (a4 : Nat) (a5 : Nat) (t0 : Int32) (H : Heap) (locs : List Loc) (cells slots : Nat) (ls : Array Slot), wb_Wa_pipe_35 po th P a0 x3 a4 a5 t0 → Pi D P H → Sg (cq_A P0 s) s.heap H P locs → lv_has ls 8 [(0, .ref a0), (3, .int x3), (4, .ref a4), (5, .ref a5)] → cells + 14 ≤ 16 → slots + 511 ≤ 523 → W p l e rm_Wa_pipe s m args below meth c H locs cells slots (mt_MQ below (cq_Q D P0 false po th) args s 16 523 (cq_free P0 false)) (F0 m 35 ls [.int t0]) := by
  intro P a0 x3 a4 a5 t0 H locs cells slots ls h hP hS hl hcc hss
  obtain ⟨hx, hb, hml, hown, hlocks, htr, hT, hK, hSt, hN, hP0⟩ := id C
  have L10_0 : pq_fl s m args 10 0 0 := ⟨_, "WaterWorks", "WaterWorks", rfl, by decide, hown, Or.inl (hT _ k_450 _), (fun _ z => z)⟩
  have L57_6 : pq_fl s m args 57 6 1 := ⟨_, "WaterWorks", "WaterWorks$Net", rfl, by decide, hown, Or.inr ⟨_, hT _ k_418 _⟩, (fun _ z => z)⟩
  have L81_6 : pq_fl s m args 81 6 2 := ⟨_, "WaterWorks", "WaterWorks$Net", rfl, by decide, hown, Or.inr ⟨_, hT _ k_420 _⟩, (fun _ z => z)⟩
  unfold wb_Wa_pipe_35 at h
  refine cr_v (pc := 35) C (rest := []) (mt_invS (As := [.int t0]) hx hb hown (hT _ k_620 _) (hT _ k_621 _) (hT _ k_1 _) (mt_Cd.code (hT _ k_622 #[])) h_Wa_fits n_Wa_fits rfl d_Wa_pipe_35) (ct_Wa_fits hfl D h) k_622 k_1 ⟨Nat.le_of_ble_eq_true rfl, Nat.le_of_ble_eq_true rfl⟩ ⟨(show cells + 1 ≤ 16 by omega), (show slots + 6 ≤ 523 by omega)⟩ hl.1 d_Wa_pipe_35 (Nat.le_of_ble_eq_true rfl) hP hS (fun H locs h hP hS => ?_) (fun xx X H locs h hX hex hP hS => ?_)
  · refine lv_aload_n (pc := 38) hx hb d_Wa_pipe_38 rfl (lv_at hl 0 rfl) ?_
    obtain ⟨hk107, h⟩ := h
    obtain ⟨a108, ea108, h⟩ := h
    refine pq_geta (pc := 39) (f := 0) hx hb hT hK hP L10_0 hk107 rfl ea108 d_Wa_pipe_39 ?_
    obtain ⟨hk109, h⟩ := h
    obtain ⟨a110, ea110, h⟩ := h
    refine pq_geta (pc := 42) (f := 241) hx hb hT hK hP L57_6 hk109 rfl ea110 d_Wa_pipe_42 ?_
    obtain ⟨hk111, h⟩ := h
    refine cr_i (pc := 45) C (rest := []) (mt_invV (As := []) hx hb hown (hT _ k_471 _) (hT _ k_472 _) (hT _ k_473 _) (mt_Cd.code (hT _ k_474 #[])) h_Ar_size (pq_recv hK hP hk111 rfl) n_Ar_size rfl d_Wa_pipe_45) (ct_Ar_size hfl D h) k_474 k_5 ⟨Nat.le_of_ble_eq_true rfl, Nat.le_of_ble_eq_true rfl⟩ ⟨(show cells + 1 + 0 ≤ 16 by omega), (show slots + 6 + 0 ≤ 523 by omega)⟩ hl.1 d_Wa_pipe_45 (Nat.le_of_ble_eq_true rfl) hP hS (fun x112 H locs h hP hS => ?_) (fun xx X H locs h hX hex hP hS => ?_)
    · refine lv_istore (pc := 48) (lv' := [(6, .int x112), (0, .ref a0), (3, .int x3), (4, .ref a4), (5, .ref a5)]) hx hb d_Wa_pipe_48 hl (by decide) rfl (fun ls hl => ?_)
      refine lv_iload (pc := 50) hx hb d_Wa_pipe_50 (lv_at hl 0 rfl) ?_
      refine lv_bipush (pc := 52) (v := 16) hx hb d_Wa_pipe_52 (by decide) ?_
      refine lv_icmp_ge (pc := 54) (tgt := 61) hx hb d_Wa_pipe_54 (by decide) (fun c113 => ?_) (fun c113 => ?_)
      · replace h := h.1 c113
        refine lv_iconst (pc := 61) (v := 0) hx hb d_Wa_pipe_61 (by decide) ?_
        exact wk_Wa_pipe_62 hfl C hmg hr hin htab _ a0 x3 a4 a5 x112 (0 : Int32) _ _ _ _ _ h hP hS (lv_sub hl [1, 2, 3, 4, 0] rfl) (show cells + 1 + 0 + 13 ≤ 16 by omega) (show slots + 6 + 0 + 505 ≤ 523 by omega)
      · replace h := h.2 c113
        refine lv_iconst (pc := 57) (v := 1) hx hb d_Wa_pipe_57 (by decide) ?_
        refine lv_goto (pc := 58) (tgt := 62) hx hb d_Wa_pipe_58 (by decide) ?_
        exact wk_Wa_pipe_62 hfl C hmg hr hin htab _ a0 x3 a4 a5 x112 (1 : Int32) _ _ _ _ _ h hP hS (lv_sub hl [1, 2, 3, 4, 0] rfl) (show cells + 1 + 0 + 13 ≤ 16 by omega) (show slots + 6 + 0 + 505 ≤ 523 by omega)
    · exact cq_out hlocks (pq_nil htab rfl) (show cells + 1 + 0 + 0 ≤ 16 by omega) (show slots + 6 + 0 + 0 ≤ 523 by omega) hX hex hP hS h
  · exact cq_out hlocks (pq_nil htab rfl) (show cells + 1 + 0 ≤ 16 by omega) (show slots + 6 + 0 ≤ 523 by omega) hX hex hP hS h
set_option maxHeartbeats 4000000 in
set_option maxRecDepth 100000 in
theorem wk_Wa_pipe_34 {p : Program} {l : Launch} {e : Env} {s : State} {m : MethodId} {args : Array Value} {below : List Frame} {meth : Method} {c : Code} {D : pq_D} {P0 : Pic} {po : Option Value → Pic → Prop} {th : String → Pic → Prop} (hfl : l.flags = flags0) (C : Cx p e s m args meth c prog_1_method_11_code 8 "WaterWorks" D P0) (hmg : e.platform.magicAccessors = ({} : Platform).magicAccessors) (hr : meth.sig.returnType = (some .int)) (hin : meth.name = "pipe") (htab : c.exceptionTable.toList = tableOf []) : ∀ (P : Pic) (a0 : Nat) (x3 : Int32) (a4 : Nat) (a5 : Nat) (H : Heap) (locs : List Loc) (cells slots : Nat) (ls : Array Slot), wb_Wa_pipe_34 po th P a0 x3 a4 a5 → Pi D P H → Sg (cq_A P0 s) s.heap H P locs → lv_has ls 8 [(0, .ref a0), (3, .int x3), (4, .ref a4), (5, .ref a5)] → cells + 14 ≤ 16 → slots + 511 ≤ 523 → W p l e rm_Wa_pipe s m args below meth c H locs cells slots (mt_MQ below (cq_Q D P0 false po th) args s 16 523 (cq_free P0 false)) (F0 m 34 ls []) := by
  intro P a0 x3 a4 a5 H locs cells slots ls h hP hS hl hcc hss
  obtain ⟨hx, hb, hml, hown, hlocks, htr, hT, hK, hSt, hN, hP0⟩ := id C
  have L10_0 : pq_fl s m args 10 0 0 := ⟨_, "WaterWorks", "WaterWorks", rfl, by decide, hown, Or.inl (hT _ k_450 _), (fun _ z => z)⟩
  have L57_6 : pq_fl s m args 57 6 1 := ⟨_, "WaterWorks", "WaterWorks$Net", rfl, by decide, hown, Or.inr ⟨_, hT _ k_418 _⟩, (fun _ z => z)⟩
  have L81_6 : pq_fl s m args 81 6 2 := ⟨_, "WaterWorks", "WaterWorks$Net", rfl, by decide, hown, Or.inr ⟨_, hT _ k_420 _⟩, (fun _ z => z)⟩
  unfold wb_Wa_pipe_34 at h
  refine lv_iconst (pc := 34) (v := 0) hx hb d_Wa_pipe_34 (by decide) ?_
  exact wk_Wa_pipe_35 hfl C hmg hr hin htab _ a0 x3 a4 a5 (0 : Int32) _ _ _ _ _ h hP hS (lv_sub hl [0, 1, 2, 3] rfl) (show cells + 14 ≤ 16 by omega) (show slots + 511 ≤ 523 by omega)
set_option maxHeartbeats 4000000 in
set_option maxRecDepth 100000 in
theorem ct_Wa_pipe {l : Launch} (hfl : l.flags = flags0) (D : pq_D) {po : Option Value → Pic → Prop} {th : String → Pic → Prop} {P : Pic} {a0 : Nat} {x1 : Int32} {x2 : Int32} {x3 : Int32} (h : wp_Wa_pipe po th P a0 x1 x2 x3) : CT l D y_Wa_pipe (.code y_Wa_pipe prog_1_method_11_code 8 (some .int)) rm_Wa_pipe false [.ref a0, .int x1, .int x2, .int x3] P po th := by
  refine ct_of (hs := []) hfl (by decide +kernel) (Or.inl ⟨rfl, rfl⟩) (Nat.le_of_ble_eq_true rfl) ?_
  intro p e s m below meth c C hmg hr hin htab ls hl
  have hl : lv_has ls 8 [(0, .ref a0), (1, .int x1), (2, .int x2), (3, .int x3)] := hl
  generalize hargs : ([.ref a0, .int x1, .int x2, .int x3] : List Value).toArray = args at C ⊢
  obtain ⟨hx, hb, hml, hown, hlocks, htr, hT, hK, hSt, hN, hP0⟩ := id C
  have L10_0 : pq_fl s m args 10 0 0 := ⟨_, "WaterWorks", "WaterWorks", rfl, by decide, hown, Or.inl (hT _ k_450 _), (fun _ z => z)⟩
  have L57_6 : pq_fl s m args 57 6 1 := ⟨_, "WaterWorks", "WaterWorks$Net", rfl, by decide, hown, Or.inr ⟨_, hT _ k_418 _⟩, (fun _ z => z)⟩
  have L81_6 : pq_fl s m args 81 6 2 := ⟨_, "WaterWorks", "WaterWorks$Net", rfl, by decide, hown, Or.inr ⟨_, hT _ k_420 _⟩, (fun _ z => z)⟩
  have hP : Pi D P s.heap := hP0
  have hS : Sg (cq_A P s) s.heap s.heap P [] := Sg.start hP0
  unfold wp_Wa_pipe at h
  refine lv_aload_n (pc := 0) hx hb d_Wa_pipe_0 rfl (lv_at hl 0 rfl) ?_
  refine lv_iload_n (pc := 1) hx hb d_Wa_pipe_1 rfl (lv_at hl 1 rfl) ?_
  obtain ⟨hk101, h⟩ := h
  refine cr_a (pc := 2) C (rest := []) (mt_invV (As := [.int x1]) hx hb hown (hT _ k_584 _) (hT _ k_586 _) (hT _ ks_4 _) (mt_Cd.code (hT _ k_587 #[])) h_Wa_nodeAt (pq_recv hK hP hk101 rfl) n_Wa_nodeAt rfl d_Wa_pipe_2) (ct_Wa_nodeAt hfl D h) k_587 k_1 ⟨Nat.le_of_ble_eq_true rfl, Nat.le_of_ble_eq_true rfl⟩ ⟨(show 0 + 1 ≤ 16 by omega), (show 0 + 6 ≤ 523 by omega)⟩ hl.1 d_Wa_pipe_2 (Nat.le_of_ble_eq_true rfl) hP hS (fun a102 H locs h hP hS => ?_) (fun xx X H locs h hX hex hP hS => ?_)
  · refine lv_astore (pc := 5) (lv' := [(4, .ref a102), (0, .ref a0), (1, .int x1), (2, .int x2), (3, .int x3)]) hx hb d_Wa_pipe_5 hl (by decide) rfl (fun ls hl => ?_)
    refine lv_aload_n (pc := 7) hx hb d_Wa_pipe_7 rfl (lv_at hl 1 rfl) ?_
    refine lv_iload_n (pc := 8) hx hb d_Wa_pipe_8 rfl (lv_at hl 3 rfl) ?_
    refine cr_a (pc := 9) C (rest := []) (mt_invV (As := [.int x2]) hx hb hown (hT _ k_584 _) (hT _ k_586 _) (hT _ ks_4 _) (mt_Cd.code (hT _ k_587 #[])) h_Wa_nodeAt (pq_recv hK hP hk101 rfl) n_Wa_nodeAt rfl d_Wa_pipe_9) (ct_Wa_nodeAt hfl D h) k_587 k_1 ⟨Nat.le_of_ble_eq_true rfl, Nat.le_of_ble_eq_true rfl⟩ ⟨(show 0 + 1 + 1 ≤ 16 by omega), (show 0 + 6 + 6 ≤ 523 by omega)⟩ hl.1 d_Wa_pipe_9 (Nat.le_of_ble_eq_true rfl) hP hS (fun a103 H locs h hP hS => ?_) (fun xx X H locs h hX hex hP hS => ?_)
    · refine lv_astore (pc := 12) (lv' := [(5, .ref a103), (4, .ref a102), (0, .ref a0), (1, .int x1), (2, .int x2), (3, .int x3)]) hx hb d_Wa_pipe_12 hl (by decide) rfl (fun ls hl => ?_)
      refine lv_aload (pc := 14) hx hb d_Wa_pipe_14 (lv_at hl 1 rfl) ?_
      refine lv_aload (pc := 16) hx hb d_Wa_pipe_16 (lv_at hl 0 rfl) ?_
      refine lv_aeq (pc := 18) (tgt := 34) hx hb d_Wa_pipe_18 (by decide) (fun c106 => ?_) (fun c106 => ?_)
      · replace h := h.1 c106
        exact wk_Wa_pipe_34 hfl C hmg hr hin htab _ a0 x3 a102 a103 _ _ _ _ _ h hP hS (lv_sub hl [2, 5, 1, 0] rfl) (show 0 + 1 + 1 + 14 ≤ 16 by omega) (show 0 + 6 + 6 + 511 ≤ 523 by omega)
      · replace h := h.2 c106
        refine lv_iload_n (pc := 21) hx hb d_Wa_pipe_21 rfl (lv_at hl 5 rfl) ?_
        refine lv_if_lt (pc := 22) (tgt := 34) hx hb d_Wa_pipe_22 (by decide) (fun c105 => ?_) (fun c105 => ?_)
        · replace h := h.1 c105
          exact wk_Wa_pipe_34 hfl C hmg hr hin htab _ a0 x3 a102 a103 _ _ _ _ _ h hP hS (lv_sub hl [2, 5, 1, 0] rfl) (show 0 + 1 + 1 + 14 ≤ 16 by omega) (show 0 + 6 + 6 + 511 ≤ 523 by omega)
        · replace h := h.2 c105
          refine lv_iload_n (pc := 25) hx hb d_Wa_pipe_25 rfl (lv_at hl 5 rfl) ?_
          refine lv_iconst (pc := 26) (v := 3) hx hb d_Wa_pipe_26 (by decide) ?_
          refine lv_icmp_gt (pc := 27) (tgt := 34) hx hb d_Wa_pipe_27 (by decide) (fun c104 => ?_) (fun c104 => ?_)
          · replace h := h.1 c104
            exact wk_Wa_pipe_34 hfl C hmg hr hin htab _ a0 x3 a102 a103 _ _ _ _ _ h hP hS (lv_sub hl [2, 5, 1, 0] rfl) (show 0 + 1 + 1 + 14 ≤ 16 by omega) (show 0 + 6 + 6 + 511 ≤ 523 by omega)
          · replace h := h.2 c104
            refine lv_iconst (pc := 30) (v := 1) hx hb d_Wa_pipe_30 (by decide) ?_
            refine lv_goto (pc := 31) (tgt := 35) hx hb d_Wa_pipe_31 (by decide) ?_
            exact wk_Wa_pipe_35 hfl C hmg hr hin htab _ a0 x3 a102 a103 (1 : Int32) _ _ _ _ _ h hP hS (lv_sub hl [2, 5, 1, 0] rfl) (show 0 + 1 + 1 + 14 ≤ 16 by omega) (show 0 + 6 + 6 + 511 ≤ 523 by omega)
    · exact cq_out hlocks (pq_nil htab rfl) (show 0 + 1 + 1 + 0 ≤ 16 by omega) (show 0 + 6 + 6 + 0 ≤ 523 by omega) hX hex hP hS h
  · exact cq_out hlocks (pq_nil htab rfl) (show 0 + 1 + 0 ≤ 16 by omega) (show 0 + 6 + 0 ≤ 523 by omega) hX hex hP hS h
/-! WaterWorks.source(IZ)Z -/
abbrev y_Wa_source : MethodName := ⟨"WaterWorks", "source", "(IZ)Z"⟩
abbrev rm_Wa_source : Room := { frames := 8, cells := 1, slots := 6, locals := 162 }
theorem h_Wa_source : y_Wa_source.cls ≠ "java/lang/invoke/MethodHandle" ∧ y_Wa_source.cls ≠ "java/lang/invoke/VarHandle" := by decide +kernel
theorem n_Wa_source : (parseMethodDescriptor y_Wa_source.desc).map (fun d => d.parameters.length) = some 2 := by decide +kernel
theorem d_Wa_source_0 : decode prog_1_method_12_code 0 = .ok (.aload_n 0, 1) := by decide +kernel
theorem d_Wa_source_1 : decode prog_1_method_12_code 1 = .ok (.iload_n 1, 1) := by decide +kernel
theorem d_Wa_source_2 : decode prog_1_method_12_code 2 = .ok (.invokevirtual 73, 3) := by decide +kernel
theorem d_Wa_source_5 : decode prog_1_method_12_code 5 = .ok (.astore_n 3, 1) := by decide +kernel
theorem d_Wa_source_6 : decode prog_1_method_12_code 6 = .ok (.aload_n 3, 1) := by decide +kernel
theorem d_Wa_source_7 : decode prog_1_method_12_code 7 = .ok (.getfield 89, 3) := by decide +kernel
theorem d_Wa_source_10 : decode prog_1_method_12_code 10 = .ok (.istore 4, 2) := by decide +kernel
theorem d_Wa_source_12 : decode prog_1_method_12_code 12 = .ok (.aload_n 3, 1) := by decide +kernel
theorem d_Wa_source_13 : decode prog_1_method_12_code 13 = .ok (.iload_n 2, 1) := by decide +kernel
theorem d_Wa_source_14 : decode prog_1_method_12_code 14 = .ok (.putfield 89, 3) := by decide +kernel
theorem d_Wa_source_17 : decode prog_1_method_12_code 17 = .ok (.iload 4, 2) := by decide +kernel
theorem d_Wa_source_19 : decode prog_1_method_12_code 19 = .ok (.ireturn, 1) := by decide +kernel
def wp_Wa_source (po : Option Value → Pic → Prop) (th : String → Pic → Prop) (P : Pic) (a0 : Nat) (x1 : Int32) (x2 : Int32) : Prop := p_k P a0 = 1 ∧ wp_Wa_nodeAt (cp_a fun a102 _ => p_k P a102 = 8 ∧ ∀ (x104 : Int32), x104 = (p_i P 282 a102) → (x2 = 0 ∨ x2 = 1) ∧ (x104 = 0 ∨ x104 = 1) ∧ po (some (.int x104)) (s_i P 282 a102 x2)) th P a0 x1
set_option maxHeartbeats 4000000 in
set_option maxRecDepth 100000 in
theorem ct_Wa_source {l : Launch} (hfl : l.flags = flags0) (D : pq_D) {po : Option Value → Pic → Prop} {th : String → Pic → Prop} {P : Pic} {a0 : Nat} {x1 : Int32} {x2 : Int32} (h : wp_Wa_source po th P a0 x1 x2) : CT l D y_Wa_source (.code y_Wa_source prog_1_method_12_code 5 (some .boolean)) rm_Wa_source false [.ref a0, .int x1, .int x2] P po th := by
  refine ct_of (hs := []) hfl (by decide +kernel) (Or.inl ⟨rfl, rfl⟩) (Nat.le_of_ble_eq_true rfl) ?_
  intro p e s m below meth c C hmg hr hin htab ls hl
  have hl : lv_has ls 5 [(0, .ref a0), (1, .int x1), (2, .int x2)] := hl
  generalize hargs : ([.ref a0, .int x1, .int x2] : List Value).toArray = args at C ⊢
  obtain ⟨hx, hb, hml, hown, hlocks, htr, hT, hK, hSt, hN, hP0⟩ := id C
  have L89_7 : pq_fl s m args 89 7 2 := ⟨_, "WaterWorks", "WaterWorks$Node", rfl, by decide, hown, Or.inr ⟨_, hT _ k_511 _⟩, (fun _ z => z)⟩
  have hP : Pi D P s.heap := hP0
  have hS : Sg (cq_A P s) s.heap s.heap P [] := Sg.start hP0
  unfold wp_Wa_source at h
  refine lv_aload_n (pc := 0) hx hb d_Wa_source_0 rfl (lv_at hl 0 rfl) ?_
  refine lv_iload_n (pc := 1) hx hb d_Wa_source_1 rfl (lv_at hl 1 rfl) ?_
  obtain ⟨hk101, h⟩ := h
  refine cr_a (pc := 2) C (rest := []) (mt_invV (As := [.int x1]) hx hb hown (hT _ k_584 _) (hT _ k_586 _) (hT _ ks_4 _) (mt_Cd.code (hT _ k_587 #[])) h_Wa_nodeAt (pq_recv hK hP hk101 rfl) n_Wa_nodeAt rfl d_Wa_source_2) (ct_Wa_nodeAt hfl D h) k_587 k_1 ⟨Nat.le_of_ble_eq_true rfl, Nat.le_of_ble_eq_true rfl⟩ ⟨(show 0 + 1 ≤ 1 by omega), (show 0 + 6 ≤ 6 by omega)⟩ hl.1 d_Wa_source_2 (Nat.le_of_ble_eq_true rfl) hP hS (fun a102 H locs h hP hS => ?_) (fun xx X H locs h hX hex hP hS => ?_)
  · refine lv_astore_n (pc := 5) (lv' := [(3, .ref a102), (0, .ref a0), (1, .int x1), (2, .int x2)]) hx hb d_Wa_source_5 rfl hl (by decide) rfl (fun ls hl => ?_)
    refine lv_aload_n (pc := 6) hx hb d_Wa_source_6 rfl (lv_at hl 0 rfl) ?_
    obtain ⟨hk103, h⟩ := h
    refine pq_geti (pc := 7) (f := 282) hx hb hT hK hP L89_7 hk103 rfl d_Wa_source_7 ?_
    refine lv_topi (fun x104 ex104 => ?_)
    replace h := h x104 ex104
    refine lv_istore (pc := 10) (lv' := [(4, .int x104), (3, .ref a102), (0, .ref a0), (1, .int x1), (2, .int x2)]) hx hb d_Wa_source_10 hl (by decide) rfl (fun ls hl => ?_)
    refine lv_aload_n (pc := 12) hx hb d_Wa_source_12 rfl (lv_at hl 1 rfl) ?_
    refine lv_iload_n (pc := 13) hx hb d_Wa_source_13 rfl (lv_at hl 4 rfl) ?_
    obtain ⟨hz105, h⟩ := h
    refine pq_puti (pc := 14) (f := 282) hx hb hT hK hP hS L89_7 hk103 rfl rfl (pq_nz hz105).1 (pq_nz hz105).2 d_Wa_source_14 (fun H locs hP hS => ?_)
    have hk101 : p_k (s_i P 282 a102 x2) a0 = 1 := by rw [pk_i]; exact hk101
    have hk103 : p_k (s_i P 282 a102 x2) a102 = 8 := by rw [pk_i]; exact hk103
    refine lv_iload (pc := 17) hx hb d_Wa_source_17 (lv_at hl 0 rfl) ?_
    exact we_z (pc := 19) hx hb hlocks hr hP hS (show 0 + 1 + 0 ≤ 1 by omega) (show 0 + 6 + 0 ≤ 6 by omega) h.1 h.2 d_Wa_source_19
  · exact cq_out hlocks (pq_nil htab rfl) (show 0 + 1 + 0 ≤ 1 by omega) (show 0 + 6 + 0 ≤ 6 by omega) hX hex hP hS h
/-! WaterWorks.customer(I)I -/
abbrev y_Wa_customer : MethodName := ⟨"WaterWorks", "customer", "(I)I"⟩
abbrev rm_Wa_customer : Room := { frames := 8, cells := 8, slots := 150, locals := 192 }
theorem h_Wa_customer : y_Wa_customer.cls ≠ "java/lang/invoke/MethodHandle" ∧ y_Wa_customer.cls ≠ "java/lang/invoke/VarHandle" := by decide +kernel
theorem n_Wa_customer : (parseMethodDescriptor y_Wa_customer.desc).map (fun d => d.parameters.length) = some 1 := by decide +kernel
theorem d_Wa_customer_0 : decode prog_1_method_13_code 0 = .ok (.aload_n 0, 1) := by decide +kernel
theorem d_Wa_customer_1 : decode prog_1_method_13_code 1 = .ok (.iload_n 1, 1) := by decide +kernel
theorem d_Wa_customer_2 : decode prog_1_method_13_code 2 = .ok (.invokevirtual 73, 3) := by decide +kernel
theorem d_Wa_customer_5 : decode prog_1_method_13_code 5 = .ok (.astore_n 2, 1) := by decide +kernel
theorem d_Wa_customer_6 : decode prog_1_method_13_code 6 = .ok (.aload_n 0, 1) := by decide +kernel
theorem d_Wa_customer_7 : decode prog_1_method_13_code 7 = .ok (.getfield 21, 3) := by decide +kernel
theorem d_Wa_customer_10 : decode prog_1_method_13_code 10 = .ok (.invokevirtual 43, 3) := by decide +kernel
theorem d_Wa_customer_13 : decode prog_1_method_13_code 13 = .ok (.bipush 10, 2) := by decide +kernel
theorem d_Wa_customer_15 : decode prog_1_method_13_code 15 = .ok (.if_icmp .ge 7, 3) := by decide +kernel
theorem d_Wa_customer_18 : decode prog_1_method_13_code 18 = .ok (.iconst 1, 1) := by decide +kernel
theorem d_Wa_customer_19 : decode prog_1_method_13_code 19 = .ok (.goto 4, 3) := by decide +kernel
theorem d_Wa_customer_22 : decode prog_1_method_13_code 22 = .ok (.iconst 0, 1) := by decide +kernel
theorem d_Wa_customer_23 : decode prog_1_method_13_code 23 = .ok (.invokestatic 64, 3) := by decide +kernel
theorem d_Wa_customer_26 : decode prog_1_method_13_code 26 = .ok (.aload_n 0, 1) := by decide +kernel
theorem d_Wa_customer_27 : decode prog_1_method_13_code 27 = .ok (.getfield 21, 3) := by decide +kernel
theorem d_Wa_customer_30 : decode prog_1_method_13_code 30 = .ok (.new 62, 3) := by decide +kernel
theorem d_Wa_customer_33 : decode prog_1_method_13_code 33 = .ok (.dup, 1) := by decide +kernel
theorem d_Wa_customer_34 : decode prog_1_method_13_code 34 = .ok (.aload_n 2, 1) := by decide +kernel
theorem d_Wa_customer_35 : decode prog_1_method_13_code 35 = .ok (.invokespecial 93, 3) := by decide +kernel
theorem d_Wa_customer_38 : decode prog_1_method_13_code 38 = .ok (.invokevirtual 69, 3) := by decide +kernel
theorem d_Wa_customer_41 : decode prog_1_method_13_code 41 = .ok (.pop, 1) := by decide +kernel
theorem d_Wa_customer_42 : decode prog_1_method_13_code 42 = .ok (.aload_n 0, 1) := by decide +kernel
theorem d_Wa_customer_43 : decode prog_1_method_13_code 43 = .ok (.getfield 21, 3) := by decide +kernel
theorem d_Wa_customer_46 : decode prog_1_method_13_code 46 = .ok (.invokevirtual 43, 3) := by decide +kernel
theorem d_Wa_customer_49 : decode prog_1_method_13_code 49 = .ok (.iconst 1, 1) := by decide +kernel
theorem d_Wa_customer_50 : decode prog_1_method_13_code 50 = .ok (.isub, 1) := by decide +kernel
theorem d_Wa_customer_51 : decode prog_1_method_13_code 51 = .ok (.ireturn, 1) := by decide +kernel
def wb_Wa_customer_23 (po : Option Value → Pic → Prop) (th : String → Pic → Prop) (P : Pic) (a0 : Nat) (a2 : Nat) (t0 : Int32) : Prop := wp_Wa_may (cp_v fun _ => p_k P a0 = 1 ∧ ∃ a108, p_r P 1 a0 = some a108 ∧ ∀ (q109 : Nat), p_z P ≤ q109 → wp_Cu_init (cp_v fun P110 => p_k P110 a108 = 14 ∧ wp_Ar_add (cp_i fun x112 P113 => p_k P113 a0 = 1 ∧ ∃ a115, p_r P113 1 a0 = some a115 ∧ p_k P113 a115 = 14 ∧ wp_Ar_size (cp_i fun x117 _ => po (some (.int (x117 - (1 : Int32)))) P113) th P113 a115) th P110 a108 q109) th (s_new P q109 3) q109 a2) th P t0
def wp_Wa_customer (po : Option Value → Pic → Prop) (th : String → Pic → Prop) (P : Pic) (a0 : Nat) (x1 : Int32) : Prop := p_k P a0 = 1 ∧ wp_Wa_nodeAt (cp_a fun a102 _ => ∃ a103, p_r P 1 a0 = some a103 ∧ p_k P a103 = 14 ∧ wp_Ar_size (cp_i fun x105 _ => (((10 : Int32) ≤ x105 → (wb_Wa_customer_23 po th P a0 a102 (0 : Int32))) ∧ (¬ (10 : Int32) ≤ x105 → (wb_Wa_customer_23 po th P a0 a102 (1 : Int32))))) th P a103) th P a0 x1
set_option maxHeartbeats 4000000 in
set_option maxRecDepth 100000 in
theorem wk_Wa_customer_23 {p : Program} {l : Launch} {e : Env} {s : State} {m : MethodId} {args : Array Value} {below : List Frame} {meth : Method} {c : Code} {D : pq_D} {P0 : Pic} {po : Option Value → Pic → Prop} {th : String → Pic → Prop} (hfl : l.flags = flags0) (C : Cx p e s m args meth c prog_1_method_13_code 3 "WaterWorks" D P0) (hmg : e.platform.magicAccessors = ({} : Platform).magicAccessors) (hr : meth.sig.returnType = (some .int)) (hin : meth.name = "customer") (htab : c.exceptionTable.toList = tableOf []) : ∀ (P : Pic) (a0 : Nat) (a2 : Nat) (t0 : Int32) (H : Heap) (locs : List Loc) (cells slots : Nat) (ls : Array Slot), wb_Wa_customer_23 po th P a0 a2 t0 → Pi D P H → Sg (cq_A P0 s) s.heap H P locs → lv_has ls 3 [(0, .ref a0), (2, .ref a2)] → cells + 7 ≤ 8 → slots + 144 ≤ 150 → W p l e rm_Wa_customer s m args below meth c H locs cells slots (mt_MQ below (cq_Q D P0 false po th) args s 8 150 (cq_free P0 false)) (F0 m 23 ls [.int t0]) := by
  intro P a0 a2 t0 H locs cells slots ls h hP hS hl hcc hss
  obtain ⟨hx, hb, hml, hown, hlocks, htr, hT, hK, hSt, hN, hP0⟩ := id C
  have L21_0 : pq_fl s m args 21 0 1 := ⟨_, "WaterWorks", "WaterWorks", rfl, by decide, hown, Or.inl (hT _ k_451 _), (fun _ z => z)⟩
  unfold wb_Wa_customer_23 at h
  refine cr_v (pc := 23) C (rest := []) (mt_invS (As := [.int t0]) hx hb hown (hT _ k_475 _) (hT _ k_476 _) (hT _ k_1 _) (mt_Cd.code (hT _ k_477 #[])) h_Wa_may n_Wa_may rfl d_Wa_customer_23) (ct_Wa_may hfl D h) k_477 k_1 ⟨Nat.le_of_ble_eq_true rfl, Nat.le_of_ble_eq_true rfl⟩ ⟨(show cells + 1 ≤ 8 by omega), (show slots + 6 ≤ 150 by omega)⟩ hl.1 d_Wa_customer_23 (Nat.le_of_ble_eq_true rfl) hP hS (fun H locs h hP hS => ?_) (fun xx X H locs h hX hex hP hS => ?_)
  · refine lv_aload_n (pc := 26) hx hb d_Wa_customer_26 rfl (lv_at hl 0 rfl) ?_
    obtain ⟨hk107, h⟩ := h
    obtain ⟨a108, ea108, h⟩ := h
    refine pq_geta (pc := 27) (f := 1) hx hb hT hK hP L21_0 hk107 rfl ea108 d_Wa_customer_27 ?_
    refine pq_new (pc := 30) hx hb hT hK hP hS (k := 3) rfl hown (hT _ k_688 _) (hT _ k_689 _) (hT _ k_31 _) (show cells + 1 + 1 ≤ 8 by omega) (show slots + 6 + 4 ≤ 150 by omega) d_Wa_customer_30 (fun q109 H hq109 hP1 hS => ?_)
    replace h := h q109 hq109
    have hk107 : p_k (s_new P q109 3) a0 = 1 := pq_oldn (k := 0) hP hk107 hq109
    have hkq109 : p_k (s_new P q109 3) q109 = 4 := pk_newq _ _ _
    replace hP := hP1
    clear hP1
    refine lv_dup (pc := 33) hx hb d_Wa_customer_33 rfl ?_
    refine lv_aload_n (pc := 34) hx hb d_Wa_customer_34 rfl (lv_at hl 1 rfl) ?_
    refine cc_v (pc := 35) C (rest := [.ref q109, .ref a108]) (mt_invI (As := [.ref a2]) hx hb hown rfl (hT _ k_690 _) (hT _ k_691 _) (hT _ k_692 _) h_Cu_init n_Cu_init rfl d_Wa_customer_35) (ct_Cu_init hfl D h) k_692 k_31 ⟨Nat.le_of_ble_eq_true rfl, Nat.le_of_ble_eq_true rfl⟩ ⟨(show cells + 1 + 1 + 4 ≤ 8 by omega), (show slots + 6 + 4 + 70 ≤ 150 by omega)⟩ hl.1 d_Wa_customer_35 (Nat.le_of_ble_eq_true rfl) hP hS (fun P110 H locs h hP hS => ?_) (fun xx X P110 H locs h hX hex hP hS => ?_)
    · obtain ⟨hk111, h⟩ := h
      refine cc_i (pc := 38) C (rest := []) (mt_invV (As := [.ref q109]) hx hb hown (hT _ k_523 _) (hT _ k_524 _) (hT _ k_525 _) (mt_Cd.code (hT _ k_526 #[])) h_Ar_add (pq_recv hK hP hk111 rfl) n_Ar_add rfl d_Wa_customer_38) (ct_Ar_add hfl D h) k_526 k_5 ⟨Nat.le_of_ble_eq_true rfl, Nat.le_of_ble_eq_true rfl⟩ ⟨(show cells + 1 + 1 + 4 + 1 ≤ 8 by omega), (show slots + 6 + 4 + 70 + 64 ≤ 150 by omega)⟩ hl.1 d_Wa_customer_38 (Nat.le_of_ble_eq_true rfl) hP hS (fun x112 P113 H locs h hP hS => ?_) (fun xx X P113 H locs h hX hex hP hS => ?_)
      · refine lv_pop (pc := 41) hx hb d_Wa_customer_41 rfl ?_
        refine lv_aload_n (pc := 42) hx hb d_Wa_customer_42 rfl (lv_at hl 0 rfl) ?_
        obtain ⟨hk114, h⟩ := h
        obtain ⟨a115, ea115, h⟩ := h
        refine pq_geta (pc := 43) (f := 1) hx hb hT hK hP L21_0 hk114 rfl ea115 d_Wa_customer_43 ?_
        obtain ⟨hk116, h⟩ := h
        refine cr_i (pc := 46) C (rest := []) (mt_invV (As := []) hx hb hown (hT _ k_471 _) (hT _ k_472 _) (hT _ k_473 _) (mt_Cd.code (hT _ k_474 #[])) h_Ar_size (pq_recv hK hP hk116 rfl) n_Ar_size rfl d_Wa_customer_46) (ct_Ar_size hfl D h) k_474 k_5 ⟨Nat.le_of_ble_eq_true rfl, Nat.le_of_ble_eq_true rfl⟩ ⟨(show cells + 1 + 1 + 4 + 1 + 0 ≤ 8 by omega), (show slots + 6 + 4 + 70 + 64 + 0 ≤ 150 by omega)⟩ hl.1 d_Wa_customer_46 (Nat.le_of_ble_eq_true rfl) hP hS (fun x117 H locs h hP hS => ?_) (fun xx X H locs h hX hex hP hS => ?_)
        · refine lv_iconst (pc := 49) (v := 1) hx hb d_Wa_customer_49 (by decide) ?_
          refine lv_isub (pc := 50) hx hb d_Wa_customer_50 ?_
          exact we_i (pc := 51) hx hb hlocks hr hP hS (show cells + 1 + 1 + 4 + 1 + 0 + 0 ≤ 8 by omega) (show slots + 6 + 4 + 70 + 64 + 0 + 0 ≤ 150 by omega) h d_Wa_customer_51
        · exact cq_out hlocks (pq_nil htab rfl) (show cells + 1 + 1 + 4 + 1 + 0 + 0 ≤ 8 by omega) (show slots + 6 + 4 + 70 + 64 + 0 + 0 ≤ 150 by omega) hX hex hP hS h
      · exact cq_out hlocks (pq_nil htab rfl) (show cells + 1 + 1 + 4 + 1 + 0 ≤ 8 by omega) (show slots + 6 + 4 + 70 + 64 + 0 ≤ 150 by omega) hX hex hP hS h
    · exact cq_out hlocks (pq_nil htab rfl) (show cells + 1 + 1 + 4 + 0 ≤ 8 by omega) (show slots + 6 + 4 + 70 + 0 ≤ 150 by omega) hX hex hP hS h
  · exact cq_out hlocks (pq_nil htab rfl) (show cells + 1 + 0 ≤ 8 by omega) (show slots + 6 + 0 ≤ 150 by omega) hX hex hP hS h
set_option maxHeartbeats 4000000 in
set_option maxRecDepth 100000 in
theorem ct_Wa_customer {l : Launch} (hfl : l.flags = flags0) (D : pq_D) {po : Option Value → Pic → Prop} {th : String → Pic → Prop} {P : Pic} {a0 : Nat} {x1 : Int32} (h : wp_Wa_customer po th P a0 x1) : CT l D y_Wa_customer (.code y_Wa_customer prog_1_method_13_code 3 (some .int)) rm_Wa_customer false [.ref a0, .int x1] P po th := by
  refine ct_of (hs := []) hfl (by decide +kernel) (Or.inl ⟨rfl, rfl⟩) (Nat.le_of_ble_eq_true rfl) ?_
  intro p e s m below meth c C hmg hr hin htab ls hl
  have hl : lv_has ls 3 [(0, .ref a0), (1, .int x1)] := hl
  generalize hargs : ([.ref a0, .int x1] : List Value).toArray = args at C ⊢
  obtain ⟨hx, hb, hml, hown, hlocks, htr, hT, hK, hSt, hN, hP0⟩ := id C
  have L21_0 : pq_fl s m args 21 0 1 := ⟨_, "WaterWorks", "WaterWorks", rfl, by decide, hown, Or.inl (hT _ k_451 _), (fun _ z => z)⟩
  have hP : Pi D P s.heap := hP0
  have hS : Sg (cq_A P s) s.heap s.heap P [] := Sg.start hP0
  unfold wp_Wa_customer at h
  refine lv_aload_n (pc := 0) hx hb d_Wa_customer_0 rfl (lv_at hl 0 rfl) ?_
  refine lv_iload_n (pc := 1) hx hb d_Wa_customer_1 rfl (lv_at hl 1 rfl) ?_
  obtain ⟨hk101, h⟩ := h
  refine cr_a (pc := 2) C (rest := []) (mt_invV (As := [.int x1]) hx hb hown (hT _ k_584 _) (hT _ k_586 _) (hT _ ks_4 _) (mt_Cd.code (hT _ k_587 #[])) h_Wa_nodeAt (pq_recv hK hP hk101 rfl) n_Wa_nodeAt rfl d_Wa_customer_2) (ct_Wa_nodeAt hfl D h) k_587 k_1 ⟨Nat.le_of_ble_eq_true rfl, Nat.le_of_ble_eq_true rfl⟩ ⟨(show 0 + 1 ≤ 8 by omega), (show 0 + 6 ≤ 150 by omega)⟩ hl.1 d_Wa_customer_2 (Nat.le_of_ble_eq_true rfl) hP hS (fun a102 H locs h hP hS => ?_) (fun xx X H locs h hX hex hP hS => ?_)
  · refine lv_astore_n (pc := 5) (lv' := [(2, .ref a102), (0, .ref a0), (1, .int x1)]) hx hb d_Wa_customer_5 rfl hl (by decide) rfl (fun ls hl => ?_)
    refine lv_aload_n (pc := 6) hx hb d_Wa_customer_6 rfl (lv_at hl 1 rfl) ?_
    obtain ⟨a103, ea103, h⟩ := h
    refine pq_geta (pc := 7) (f := 1) hx hb hT hK hP L21_0 hk101 rfl ea103 d_Wa_customer_7 ?_
    obtain ⟨hk104, h⟩ := h
    refine cr_i (pc := 10) C (rest := []) (mt_invV (As := []) hx hb hown (hT _ k_471 _) (hT _ k_472 _) (hT _ k_473 _) (mt_Cd.code (hT _ k_474 #[])) h_Ar_size (pq_recv hK hP hk104 rfl) n_Ar_size rfl d_Wa_customer_10) (ct_Ar_size hfl D h) k_474 k_5 ⟨Nat.le_of_ble_eq_true rfl, Nat.le_of_ble_eq_true rfl⟩ ⟨(show 0 + 1 + 0 ≤ 8 by omega), (show 0 + 6 + 0 ≤ 150 by omega)⟩ hl.1 d_Wa_customer_10 (Nat.le_of_ble_eq_true rfl) hP hS (fun x105 H locs h hP hS => ?_) (fun xx X H locs h hX hex hP hS => ?_)
    · refine lv_bipush (pc := 13) (v := 10) hx hb d_Wa_customer_13 (by decide) ?_
      refine lv_icmp_ge (pc := 15) (tgt := 22) hx hb d_Wa_customer_15 (by decide) (fun c106 => ?_) (fun c106 => ?_)
      · replace h := h.1 c106
        refine lv_iconst (pc := 22) (v := 0) hx hb d_Wa_customer_22 (by decide) ?_
        exact wk_Wa_customer_23 hfl C hmg hr hin htab _ a0 a102 (0 : Int32) _ _ _ _ _ h hP hS (lv_sub hl [1, 0] rfl) (show 0 + 1 + 0 + 7 ≤ 8 by omega) (show 0 + 6 + 0 + 144 ≤ 150 by omega)
      · replace h := h.2 c106
        refine lv_iconst (pc := 18) (v := 1) hx hb d_Wa_customer_18 (by decide) ?_
        refine lv_goto (pc := 19) (tgt := 23) hx hb d_Wa_customer_19 (by decide) ?_
        exact wk_Wa_customer_23 hfl C hmg hr hin htab _ a0 a102 (1 : Int32) _ _ _ _ _ h hP hS (lv_sub hl [1, 0] rfl) (show 0 + 1 + 0 + 7 ≤ 8 by omega) (show 0 + 6 + 0 + 144 ≤ 150 by omega)
    · exact cq_out hlocks (pq_nil htab rfl) (show 0 + 1 + 0 + 0 ≤ 8 by omega) (show 0 + 6 + 0 + 0 ≤ 150 by omega) hX hex hP hS h
  · exact cq_out hlocks (pq_nil htab rfl) (show 0 + 1 + 0 ≤ 8 by omega) (show 0 + 6 + 0 ≤ 150 by omega) hX hex hP hS h
/-! WaterWorks.valveAt(II)LWaterWorks$End; -/
abbrev y_Wa_valveAt : MethodName := ⟨"WaterWorks", "valveAt", "(II)LWaterWorks$End;"⟩
abbrev rm_Wa_valveAt : Room := { frames := 7, cells := 3, slots := 18, locals := 141 }
theorem h_Wa_valveAt : y_Wa_valveAt.cls ≠ "java/lang/invoke/MethodHandle" ∧ y_Wa_valveAt.cls ≠ "java/lang/invoke/VarHandle" := by decide +kernel
theorem n_Wa_valveAt : (parseMethodDescriptor y_Wa_valveAt.desc).map (fun d => d.parameters.length) = some 2 := by decide +kernel
theorem d_Wa_valveAt_0 : decode prog_1_method_14_code 0 = .ok (.iload_n 1, 1) := by decide +kernel
theorem d_Wa_valveAt_1 : decode prog_1_method_14_code 1 = .ok (.aload_n 0, 1) := by decide +kernel
theorem d_Wa_valveAt_2 : decode prog_1_method_14_code 2 = .ok (.getfield 10, 3) := by decide +kernel
theorem d_Wa_valveAt_5 : decode prog_1_method_14_code 5 = .ok (.getfield 57, 3) := by decide +kernel
theorem d_Wa_valveAt_8 : decode prog_1_method_14_code 8 = .ok (.invokevirtual 43, 3) := by decide +kernel
theorem d_Wa_valveAt_11 : decode prog_1_method_14_code 11 = .ok (.invokestatic 47, 3) := by decide +kernel
theorem d_Wa_valveAt_14 : decode prog_1_method_14_code 14 = .ok (.iload_n 2, 1) := by decide +kernel
theorem d_Wa_valveAt_15 : decode prog_1_method_14_code 15 = .ok (.iconst 2, 1) := by decide +kernel
theorem d_Wa_valveAt_16 : decode prog_1_method_14_code 16 = .ok (.invokestatic 47, 3) := by decide +kernel
theorem d_Wa_valveAt_19 : decode prog_1_method_14_code 19 = .ok (.aload_n 0, 1) := by decide +kernel
theorem d_Wa_valveAt_20 : decode prog_1_method_14_code 20 = .ok (.getfield 10, 3) := by decide +kernel
theorem d_Wa_valveAt_23 : decode prog_1_method_14_code 23 = .ok (.getfield 81, 3) := by decide +kernel
theorem d_Wa_valveAt_26 : decode prog_1_method_14_code 26 = .ok (.iconst 2, 1) := by decide +kernel
theorem d_Wa_valveAt_27 : decode prog_1_method_14_code 27 = .ok (.iload_n 1, 1) := by decide +kernel
theorem d_Wa_valveAt_28 : decode prog_1_method_14_code 28 = .ok (.imul, 1) := by decide +kernel
theorem d_Wa_valveAt_29 : decode prog_1_method_14_code 29 = .ok (.iload_n 2, 1) := by decide +kernel
theorem d_Wa_valveAt_30 : decode prog_1_method_14_code 30 = .ok (.iadd, 1) := by decide +kernel
theorem d_Wa_valveAt_31 : decode prog_1_method_14_code 31 = .ok (.invokevirtual 51, 3) := by decide +kernel
theorem d_Wa_valveAt_34 : decode prog_1_method_14_code 34 = .ok (.checkcast 84, 3) := by decide +kernel
theorem d_Wa_valveAt_37 : decode prog_1_method_14_code 37 = .ok (.astore_n 3, 1) := by decide +kernel
theorem d_Wa_valveAt_38 : decode prog_1_method_14_code 38 = .ok (.aload_n 3, 1) := by decide +kernel
theorem d_Wa_valveAt_39 : decode prog_1_method_14_code 39 = .ok (.getfield 96, 3) := by decide +kernel
theorem d_Wa_valveAt_42 : decode prog_1_method_14_code 42 = .ok (.invokestatic 99, 3) := by decide +kernel
theorem d_Wa_valveAt_45 : decode prog_1_method_14_code 45 = .ok (.aload_n 3, 1) := by decide +kernel
theorem d_Wa_valveAt_46 : decode prog_1_method_14_code 46 = .ok (.areturn, 1) := by decide +kernel
def wp_Wa_valveAt (po : Option Value → Pic → Prop) (th : String → Pic → Prop) (P : Pic) (a0 : Nat) (x1 : Int32) (x2 : Int32) : Prop := p_k P a0 = 1 ∧ ∃ a102, p_r P 0 a0 = some a102 ∧ p_k P a102 = 7 ∧ ∃ a104, p_r P 241 a102 = some a104 ∧ p_k P a104 = 14 ∧ wp_Ar_size (cp_i fun x106 _ => wp_Wa_lies (cp_v fun _ => wp_Wa_lies (cp_v fun _ => ∃ a107, p_r P 0 a0 = some a107 ∧ p_k P a107 = 7 ∧ ∃ a109, p_r P 242 a107 = some a109 ∧ p_k P a109 = 14 ∧ wp_Ar_get (cp_a fun a111 _ => p_k P a111 = 5 ∧ wp_Wa_is (cp_v fun _ => po (some (.ref a111)) P) th P (p_i P 163 a111)) th P a109 (((2 : Int32) * x1) + x2)) th P x2 (2 : Int32)) th P x1 x106) th P a104
set_option maxHeartbeats 4000000 in
set_option maxRecDepth 100000 in
theorem ct_Wa_valveAt {l : Launch} (hfl : l.flags = flags0) (D : pq_D) {po : Option Value → Pic → Prop} {th : String → Pic → Prop} {P : Pic} {a0 : Nat} {x1 : Int32} {x2 : Int32} (h : wp_Wa_valveAt po th P a0 x1 x2) : CT l D y_Wa_valveAt (.code y_Wa_valveAt prog_1_method_14_code 4 (some (.object "WaterWorks$End"))) rm_Wa_valveAt true [.ref a0, .int x1, .int x2] P po th := by
  refine ct_of (hs := []) hfl (by decide +kernel) (Or.inl ⟨rfl, rfl⟩) (Nat.le_of_ble_eq_true rfl) ?_
  intro p e s m below meth c C hmg hr hin htab ls hl
  have hl : lv_has ls 4 [(0, .ref a0), (1, .int x1), (2, .int x2)] := hl
  generalize hargs : ([.ref a0, .int x1, .int x2] : List Value).toArray = args at C ⊢
  obtain ⟨hx, hb, hml, hown, hlocks, htr, hT, hK, hSt, hN, hP0⟩ := id C
  have L10_0 : pq_fl s m args 10 0 0 := ⟨_, "WaterWorks", "WaterWorks", rfl, by decide, hown, Or.inl (hT _ k_450 _), (fun _ z => z)⟩
  have L57_6 : pq_fl s m args 57 6 1 := ⟨_, "WaterWorks", "WaterWorks$Net", rfl, by decide, hown, Or.inr ⟨_, hT _ k_418 _⟩, (fun _ z => z)⟩
  have L81_6 : pq_fl s m args 81 6 2 := ⟨_, "WaterWorks", "WaterWorks$Net", rfl, by decide, hown, Or.inr ⟨_, hT _ k_420 _⟩, (fun _ z => z)⟩
  have L96_4 : pq_fl s m args 96 4 3 := ⟨_, "WaterWorks", "WaterWorks$End", rfl, by decide, hown, Or.inr ⟨_, hT _ k_648 _⟩, (fun _ z => z)⟩
  have hO : So s.heap s.heap := So.rf
  have hP : Pi D P s.heap := hP0
  unfold wp_Wa_valveAt at h
  refine lv_iload_n (pc := 0) hx hb d_Wa_valveAt_0 rfl (lv_at hl 1 rfl) ?_
  refine lv_aload_n (pc := 1) hx hb d_Wa_valveAt_1 rfl (lv_at hl 0 rfl) ?_
  obtain ⟨hk101, h⟩ := h
  obtain ⟨a102, ea102, h⟩ := h
  refine pq_geta (pc := 2) (f := 0) hx hb hT hK hP L10_0 hk101 rfl ea102 d_Wa_valveAt_2 ?_
  obtain ⟨hk103, h⟩ := h
  obtain ⟨a104, ea104, h⟩ := h
  refine pq_geta (pc := 5) (f := 241) hx hb hT hK hP L57_6 hk103 rfl ea104 d_Wa_valveAt_5 ?_
  obtain ⟨hk105, h⟩ := h
  refine co_i (pc := 8) C (rest := [.int x1]) (mt_invV (As := []) hx hb hown (hT _ k_471 _) (hT _ k_472 _) (hT _ k_473 _) (mt_Cd.code (hT _ k_474 #[])) h_Ar_size (pq_recv hK hP hk105 rfl) n_Ar_size rfl d_Wa_valveAt_8) (ct_Ar_size hfl D h) k_474 k_5 ⟨Nat.le_of_ble_eq_true rfl, Nat.le_of_ble_eq_true rfl⟩ ⟨(show 0 + 0 ≤ 3 by omega), (show 0 + 0 ≤ 18 by omega)⟩ hl.1 d_Wa_valveAt_8 (Nat.le_of_ble_eq_true rfl) hO (fun x106 H h hO => ?_) (fun xx X H h hX hex hO => ?_)
  · have hP : Pi D P H := So.pi hP0 hO
    refine co_v (pc := 11) C (rest := []) (mt_invS (As := [.int x1, .int x106]) hx hb hown (hT _ k_588 _) (hT _ k_589 _) (hT _ k_1 _) (mt_Cd.code (hT _ k_590 #[])) h_Wa_lies n_Wa_lies rfl d_Wa_valveAt_11) (ct_Wa_lies hfl D h) k_590 k_1 ⟨Nat.le_of_ble_eq_true rfl, Nat.le_of_ble_eq_true rfl⟩ ⟨(show 0 + 0 + 1 ≤ 3 by omega), (show 0 + 0 + 6 ≤ 18 by omega)⟩ hl.1 d_Wa_valveAt_11 (Nat.le_of_ble_eq_true rfl) hO (fun H h hO => ?_) (fun xx X H h hX hex hO => ?_)
    · have hP : Pi D P H := So.pi hP0 hO
      refine lv_iload_n (pc := 14) hx hb d_Wa_valveAt_14 rfl (lv_at hl 2 rfl) ?_
      refine lv_iconst (pc := 15) (v := 2) hx hb d_Wa_valveAt_15 (by decide) ?_
      refine co_v (pc := 16) C (rest := []) (mt_invS (As := [.int x2, .int (2 : Int32)]) hx hb hown (hT _ k_588 _) (hT _ k_589 _) (hT _ k_1 _) (mt_Cd.code (hT _ k_590 #[])) h_Wa_lies n_Wa_lies rfl d_Wa_valveAt_16) (ct_Wa_lies hfl D h) k_590 k_1 ⟨Nat.le_of_ble_eq_true rfl, Nat.le_of_ble_eq_true rfl⟩ ⟨(show 0 + 0 + 1 + 1 ≤ 3 by omega), (show 0 + 0 + 6 + 6 ≤ 18 by omega)⟩ hl.1 d_Wa_valveAt_16 (Nat.le_of_ble_eq_true rfl) hO (fun H h hO => ?_) (fun xx X H h hX hex hO => ?_)
      · have hP : Pi D P H := So.pi hP0 hO
        refine lv_aload_n (pc := 19) hx hb d_Wa_valveAt_19 rfl (lv_at hl 0 rfl) ?_
        obtain ⟨a107, ea107, h⟩ := h
        refine pq_geta (pc := 20) (f := 0) hx hb hT hK hP L10_0 hk101 rfl ea107 d_Wa_valveAt_20 ?_
        obtain ⟨hk108, h⟩ := h
        obtain ⟨a109, ea109, h⟩ := h
        refine pq_geta (pc := 23) (f := 242) hx hb hT hK hP L81_6 hk108 rfl ea109 d_Wa_valveAt_23 ?_
        refine lv_iconst (pc := 26) (v := 2) hx hb d_Wa_valveAt_26 (by decide) ?_
        refine lv_iload_n (pc := 27) hx hb d_Wa_valveAt_27 rfl (lv_at hl 1 rfl) ?_
        refine lv_imul (pc := 28) hx hb d_Wa_valveAt_28 ?_
        refine lv_iload_n (pc := 29) hx hb d_Wa_valveAt_29 rfl (lv_at hl 2 rfl) ?_
        refine lv_iadd (pc := 30) hx hb d_Wa_valveAt_30 ?_
        obtain ⟨hk110, h⟩ := h
        refine co_a (pc := 31) C (rest := []) (mt_invV (As := [.int (((2 : Int32) * x1) + x2)]) hx hb hown (hT _ k_606 _) (hT _ k_607 _) (hT _ k_608 _) (mt_Cd.code (hT _ k_609 #[])) h_Ar_get (pq_recv hK hP hk110 rfl) n_Ar_get rfl d_Wa_valveAt_31) (ct_Ar_get hfl D h) k_609 k_5 ⟨Nat.le_of_ble_eq_true rfl, Nat.le_of_ble_eq_true rfl⟩ ⟨(show 0 + 0 + 1 + 1 + 0 ≤ 3 by omega), (show 0 + 0 + 6 + 6 + 0 ≤ 18 by omega)⟩ hl.1 d_Wa_valveAt_31 (Nat.le_of_ble_eq_true rfl) hO (fun a111 H h hO => ?_) (fun xx X H h hX hex hO => ?_)
        · have hP : Pi D P H := So.pi hP0 hO
          obtain ⟨hk112, h⟩ := h
          refine pq_cast (pc := 34) hx hb hT hK hP hown k_634 hk112 rfl k_1350 d_Wa_valveAt_34 ?_
          refine lv_astore_n (pc := 37) (lv' := [(3, .ref a111), (0, .ref a0), (1, .int x1), (2, .int x2)]) hx hb d_Wa_valveAt_37 rfl hl (by decide) rfl (fun ls hl => ?_)
          refine lv_aload_n (pc := 38) hx hb d_Wa_valveAt_38 rfl (lv_at hl 0 rfl) ?_
          refine pq_geti (pc := 39) (f := 163) hx hb hT hK hP L96_4 hk112 rfl d_Wa_valveAt_39 ?_
          refine co_v (pc := 42) C (rest := []) (mt_invS (As := [.int (p_i P 163 a111)]) hx hb hown (hT _ k_725 _) (hT _ k_726 _) (hT _ k_1 _) (mt_Cd.code (hT _ k_727 #[])) h_Wa_is n_Wa_is rfl d_Wa_valveAt_42) (ct_Wa_is hfl D h) k_727 k_1 ⟨Nat.le_of_ble_eq_true rfl, Nat.le_of_ble_eq_true rfl⟩ ⟨(show 0 + 0 + 1 + 1 + 0 + 1 ≤ 3 by omega), (show 0 + 0 + 6 + 6 + 0 + 6 ≤ 18 by omega)⟩ hl.1 d_Wa_valveAt_42 (Nat.le_of_ble_eq_true rfl) hO (fun H h hO => ?_) (fun xx X H h hX hex hO => ?_)
          · have hP : Pi D P H := So.pi hP0 hO
            refine lv_aload_n (pc := 45) hx hb d_Wa_valveAt_45 rfl (lv_at hl 0 rfl) ?_
            exact wo_a (pc := 46) hx hb hlocks hr (Or.inl ⟨_, rfl⟩) (Or.inr ⟨_, rfl⟩) hP0 hO (show 0 + 0 + 1 + 1 + 0 + 1 + 0 ≤ 3 by omega) (show 0 + 0 + 6 + 6 + 0 + 6 + 0 ≤ 18 by omega) h d_Wa_valveAt_46
          · exact cq_outo hlocks (pq_nil htab rfl) (show 0 + 0 + 1 + 1 + 0 + 1 + 0 ≤ 3 by omega) (show 0 + 0 + 6 + 6 + 0 + 6 + 0 ≤ 18 by omega) hX hex hP0 hO h
        · exact cq_outo hlocks (pq_nil htab rfl) (show 0 + 0 + 1 + 1 + 0 + 0 ≤ 3 by omega) (show 0 + 0 + 6 + 6 + 0 + 0 ≤ 18 by omega) hX hex hP0 hO h
      · exact cq_outo hlocks (pq_nil htab rfl) (show 0 + 0 + 1 + 1 + 0 ≤ 3 by omega) (show 0 + 0 + 6 + 6 + 0 ≤ 18 by omega) hX hex hP0 hO h
    · exact cq_outo hlocks (pq_nil htab rfl) (show 0 + 0 + 1 + 0 ≤ 3 by omega) (show 0 + 0 + 6 + 0 ≤ 18 by omega) hX hex hP0 hO h
  · exact cq_outo hlocks (pq_nil htab rfl) (show 0 + 0 + 0 ≤ 3 by omega) (show 0 + 0 + 0 ≤ 18 by omega) hX hex hP0 hO h
/-! WaterWorks.turn(IIZ)Z -/
abbrev y_Wa_turn : MethodName := ⟨"WaterWorks", "turn", "(IIZ)Z"⟩
abbrev rm_Wa_turn : Room := { frames := 8, cells := 4, slots := 24, locals := 164 }
theorem h_Wa_turn : y_Wa_turn.cls ≠ "java/lang/invoke/MethodHandle" ∧ y_Wa_turn.cls ≠ "java/lang/invoke/VarHandle" := by decide +kernel
theorem n_Wa_turn : (parseMethodDescriptor y_Wa_turn.desc).map (fun d => d.parameters.length) = some 3 := by decide +kernel
theorem d_Wa_turn_0 : decode prog_1_method_15_code 0 = .ok (.aload_n 0, 1) := by decide +kernel
theorem d_Wa_turn_1 : decode prog_1_method_15_code 1 = .ok (.iload_n 1, 1) := by decide +kernel
theorem d_Wa_turn_2 : decode prog_1_method_15_code 2 = .ok (.iload_n 2, 1) := by decide +kernel
theorem d_Wa_turn_3 : decode prog_1_method_15_code 3 = .ok (.invokevirtual 102, 3) := by decide +kernel
theorem d_Wa_turn_6 : decode prog_1_method_15_code 6 = .ok (.astore 4, 2) := by decide +kernel
theorem d_Wa_turn_8 : decode prog_1_method_15_code 8 = .ok (.aload 4, 2) := by decide +kernel
theorem d_Wa_turn_10 : decode prog_1_method_15_code 10 = .ok (.getfield 106, 3) := by decide +kernel
theorem d_Wa_turn_13 : decode prog_1_method_15_code 13 = .ok (.ifCond .ne 7, 3) := by decide +kernel
theorem d_Wa_turn_16 : decode prog_1_method_15_code 16 = .ok (.iconst 1, 1) := by decide +kernel
theorem d_Wa_turn_17 : decode prog_1_method_15_code 17 = .ok (.goto 4, 3) := by decide +kernel
theorem d_Wa_turn_20 : decode prog_1_method_15_code 20 = .ok (.iconst 0, 1) := by decide +kernel
theorem d_Wa_turn_21 : decode prog_1_method_15_code 21 = .ok (.invokestatic 64, 3) := by decide +kernel
theorem d_Wa_turn_24 : decode prog_1_method_15_code 24 = .ok (.aload 4, 2) := by decide +kernel
theorem d_Wa_turn_26 : decode prog_1_method_15_code 26 = .ok (.getfield 109, 3) := by decide +kernel
theorem d_Wa_turn_29 : decode prog_1_method_15_code 29 = .ok (.istore 5, 2) := by decide +kernel
theorem d_Wa_turn_31 : decode prog_1_method_15_code 31 = .ok (.aload 4, 2) := by decide +kernel
theorem d_Wa_turn_33 : decode prog_1_method_15_code 33 = .ok (.iload_n 3, 1) := by decide +kernel
theorem d_Wa_turn_34 : decode prog_1_method_15_code 34 = .ok (.putfield 109, 3) := by decide +kernel
theorem d_Wa_turn_37 : decode prog_1_method_15_code 37 = .ok (.iload 5, 2) := by decide +kernel
theorem d_Wa_turn_39 : decode prog_1_method_15_code 39 = .ok (.iload_n 3, 1) := by decide +kernel
theorem d_Wa_turn_40 : decode prog_1_method_15_code 40 = .ok (.if_icmp .eq 7, 3) := by decide +kernel
theorem d_Wa_turn_43 : decode prog_1_method_15_code 43 = .ok (.iconst 1, 1) := by decide +kernel
theorem d_Wa_turn_44 : decode prog_1_method_15_code 44 = .ok (.goto 4, 3) := by decide +kernel
theorem d_Wa_turn_47 : decode prog_1_method_15_code 47 = .ok (.iconst 0, 1) := by decide +kernel
theorem d_Wa_turn_48 : decode prog_1_method_15_code 48 = .ok (.ireturn, 1) := by decide +kernel
def wb_Wa_turn_21 (po : Option Value → Pic → Prop) (th : String → Pic → Prop) (P : Pic) (x3 : Int32) (a4 : Nat) (t0 : Int32) : Prop := wp_Wa_may (cp_v fun _ => p_k P a4 = 5 ∧ ∀ (x106 : Int32), x106 = (p_i P 164 a4) → (x3 = 0 ∨ x3 = 1) ∧ ((x106 = x3 → (po (some (.int (0 : Int32))) (s_i P 164 a4 x3))) ∧ (¬ x106 = x3 → (po (some (.int (1 : Int32))) (s_i P 164 a4 x3))))) th P t0
def wp_Wa_turn (po : Option Value → Pic → Prop) (th : String → Pic → Prop) (P : Pic) (a0 : Nat) (x1 : Int32) (x2 : Int32) (x3 : Int32) : Prop := p_k P a0 = 1 ∧ wp_Wa_valveAt (cp_a fun a102 _ => p_k P a102 = 5 ∧ ((¬ (p_i P 165 a102) = 0 → (wb_Wa_turn_21 po th P x3 a102 (0 : Int32))) ∧ ((p_i P 165 a102) = 0 → (wb_Wa_turn_21 po th P x3 a102 (1 : Int32))))) th P a0 x1 x2
set_option maxHeartbeats 4000000 in
set_option maxRecDepth 100000 in
theorem wk_Wa_turn_21 {p : Program} {l : Launch} {e : Env} {s : State} {m : MethodId} {args : Array Value} {below : List Frame} {meth : Method} {c : Code} {D : pq_D} {P0 : Pic} {po : Option Value → Pic → Prop} {th : String → Pic → Prop} (hfl : l.flags = flags0) (C : Cx p e s m args meth c prog_1_method_15_code 6 "WaterWorks" D P0) (hmg : e.platform.magicAccessors = ({} : Platform).magicAccessors) (hr : meth.sig.returnType = (some .boolean)) (hin : meth.name = "turn") (htab : c.exceptionTable.toList = tableOf []) : ∀ (P : Pic) (x3 : Int32) (a4 : Nat) (t0 : Int32) (H : Heap) (locs : List Loc) (cells slots : Nat) (ls : Array Slot), wb_Wa_turn_21 po th P x3 a4 t0 → Pi D P H → Sg (cq_A P0 s) s.heap H P locs → lv_has ls 6 [(3, .int x3), (4, .ref a4)] → cells + 1 ≤ 4 → slots + 6 ≤ 24 → W p l e rm_Wa_turn s m args below meth c H locs cells slots (mt_MQ below (cq_Q D P0 false po th) args s 4 24 (cq_free P0 false)) (F0 m 21 ls [.int t0]) := by
  intro P x3 a4 t0 H locs cells slots ls h hP hS hl hcc hss
  obtain ⟨hx, hb, hml, hown, hlocks, htr, hT, hK, hSt, hN, hP0⟩ := id C
  have L106_4 : pq_fl s m args 106 4 5 := ⟨_, "WaterWorks", "WaterWorks$End", rfl, by decide, hown, Or.inr ⟨_, hT _ k_655 _⟩, (fun _ z => z)⟩
  have L109_4 : pq_fl s m args 109 4 4 := ⟨_, "WaterWorks", "WaterWorks$End", rfl, by decide, hown, Or.inr ⟨_, hT _ k_653 _⟩, (fun _ z => z)⟩
  unfold wb_Wa_turn_21 at h
  refine cr_v (pc := 21) C (rest := []) (mt_invS (As := [.int t0]) hx hb hown (hT _ k_475 _) (hT _ k_476 _) (hT _ k_1 _) (mt_Cd.code (hT _ k_477 #[])) h_Wa_may n_Wa_may rfl d_Wa_turn_21) (ct_Wa_may hfl D h) k_477 k_1 ⟨Nat.le_of_ble_eq_true rfl, Nat.le_of_ble_eq_true rfl⟩ ⟨(show cells + 1 ≤ 4 by omega), (show slots + 6 ≤ 24 by omega)⟩ hl.1 d_Wa_turn_21 (Nat.le_of_ble_eq_true rfl) hP hS (fun H locs h hP hS => ?_) (fun xx X H locs h hX hex hP hS => ?_)
  · refine lv_aload (pc := 24) hx hb d_Wa_turn_24 (lv_at hl 1 rfl) ?_
    obtain ⟨hk105, h⟩ := h
    refine pq_geti (pc := 26) (f := 164) hx hb hT hK hP L109_4 hk105 rfl d_Wa_turn_26 ?_
    refine lv_topi (fun x106 ex106 => ?_)
    replace h := h x106 ex106
    refine lv_istore (pc := 29) (lv' := [(5, .int x106), (3, .int x3), (4, .ref a4)]) hx hb d_Wa_turn_29 hl (by decide) rfl (fun ls hl => ?_)
    refine lv_aload (pc := 31) hx hb d_Wa_turn_31 (lv_at hl 2 rfl) ?_
    refine lv_iload_n (pc := 33) hx hb d_Wa_turn_33 rfl (lv_at hl 1 rfl) ?_
    obtain ⟨hz107, h⟩ := h
    refine pq_puti (pc := 34) (f := 164) hx hb hT hK hP hS L109_4 hk105 rfl rfl (pq_nz hz107).1 (pq_nz hz107).2 d_Wa_turn_34 (fun H locs hP hS => ?_)
    have hk105 : p_k (s_i P 164 a4 x3) a4 = 5 := by rw [pk_i]; exact hk105
    refine lv_iload (pc := 37) hx hb d_Wa_turn_37 (lv_at hl 0 rfl) ?_
    refine lv_iload_n (pc := 39) hx hb d_Wa_turn_39 rfl (lv_at hl 1 rfl) ?_
    refine lv_icmp_eq (pc := 40) (tgt := 47) hx hb d_Wa_turn_40 (by decide) (fun c108 => ?_) (fun c108 => ?_)
    · replace h := h.1 c108
      refine lv_iconst (pc := 47) (v := 0) hx hb d_Wa_turn_47 (by decide) ?_
      exact we_z (pc := 48) hx hb hlocks hr hP hS (show cells + 1 + 0 ≤ 4 by omega) (show slots + 6 + 0 ≤ 24 by omega) (by decide) h d_Wa_turn_48
    · replace h := h.2 c108
      refine lv_iconst (pc := 43) (v := 1) hx hb d_Wa_turn_43 (by decide) ?_
      refine lv_goto (pc := 44) (tgt := 48) hx hb d_Wa_turn_44 (by decide) ?_
      exact we_z (pc := 48) hx hb hlocks hr hP hS (show cells + 1 + 0 ≤ 4 by omega) (show slots + 6 + 0 ≤ 24 by omega) (by decide) h d_Wa_turn_48
  · exact cq_out hlocks (pq_nil htab rfl) (show cells + 1 + 0 ≤ 4 by omega) (show slots + 6 + 0 ≤ 24 by omega) hX hex hP hS h
set_option maxHeartbeats 4000000 in
set_option maxRecDepth 100000 in
theorem ct_Wa_turn {l : Launch} (hfl : l.flags = flags0) (D : pq_D) {po : Option Value → Pic → Prop} {th : String → Pic → Prop} {P : Pic} {a0 : Nat} {x1 : Int32} {x2 : Int32} {x3 : Int32} (h : wp_Wa_turn po th P a0 x1 x2 x3) : CT l D y_Wa_turn (.code y_Wa_turn prog_1_method_15_code 6 (some .boolean)) rm_Wa_turn false [.ref a0, .int x1, .int x2, .int x3] P po th := by
  refine ct_of (hs := []) hfl (by decide +kernel) (Or.inl ⟨rfl, rfl⟩) (Nat.le_of_ble_eq_true rfl) ?_
  intro p e s m below meth c C hmg hr hin htab ls hl
  have hl : lv_has ls 6 [(0, .ref a0), (1, .int x1), (2, .int x2), (3, .int x3)] := hl
  generalize hargs : ([.ref a0, .int x1, .int x2, .int x3] : List Value).toArray = args at C ⊢
  obtain ⟨hx, hb, hml, hown, hlocks, htr, hT, hK, hSt, hN, hP0⟩ := id C
  have L106_4 : pq_fl s m args 106 4 5 := ⟨_, "WaterWorks", "WaterWorks$End", rfl, by decide, hown, Or.inr ⟨_, hT _ k_655 _⟩, (fun _ z => z)⟩
  have L109_4 : pq_fl s m args 109 4 4 := ⟨_, "WaterWorks", "WaterWorks$End", rfl, by decide, hown, Or.inr ⟨_, hT _ k_653 _⟩, (fun _ z => z)⟩
  have hP : Pi D P s.heap := hP0
  have hS : Sg (cq_A P s) s.heap s.heap P [] := Sg.start hP0
  unfold wp_Wa_turn at h
  refine lv_aload_n (pc := 0) hx hb d_Wa_turn_0 rfl (lv_at hl 0 rfl) ?_
  refine lv_iload_n (pc := 1) hx hb d_Wa_turn_1 rfl (lv_at hl 1 rfl) ?_
  refine lv_iload_n (pc := 2) hx hb d_Wa_turn_2 rfl (lv_at hl 2 rfl) ?_
  obtain ⟨hk101, h⟩ := h
  refine cr_a (pc := 3) C (rest := []) (mt_invV (As := [.int x1, .int x2]) hx hb hown (hT _ k_721 _) (hT _ k_723 _) (hT _ ks_5 _) (mt_Cd.code (hT _ k_724 #[])) h_Wa_valveAt (pq_recv hK hP hk101 rfl) n_Wa_valveAt rfl d_Wa_turn_3) (ct_Wa_valveAt hfl D h) k_724 k_1 ⟨Nat.le_of_ble_eq_true rfl, Nat.le_of_ble_eq_true rfl⟩ ⟨(show 0 + 3 ≤ 4 by omega), (show 0 + 18 ≤ 24 by omega)⟩ hl.1 d_Wa_turn_3 (Nat.le_of_ble_eq_true rfl) hP hS (fun a102 H locs h hP hS => ?_) (fun xx X H locs h hX hex hP hS => ?_)
  · refine lv_astore (pc := 6) (lv' := [(4, .ref a102), (0, .ref a0), (1, .int x1), (2, .int x2), (3, .int x3)]) hx hb d_Wa_turn_6 hl (by decide) rfl (fun ls hl => ?_)
    refine lv_aload (pc := 8) hx hb d_Wa_turn_8 (lv_at hl 0 rfl) ?_
    obtain ⟨hk103, h⟩ := h
    refine pq_geti (pc := 10) (f := 165) hx hb hT hK hP L106_4 hk103 rfl d_Wa_turn_10 ?_
    refine lv_if_ne (pc := 13) (tgt := 20) hx hb d_Wa_turn_13 (by decide) (fun c104 => ?_) (fun c104 => ?_)
    · replace h := h.1 c104
      refine lv_iconst (pc := 20) (v := 0) hx hb d_Wa_turn_20 (by decide) ?_
      exact wk_Wa_turn_21 hfl C hmg hr hin htab _ x3 a102 (0 : Int32) _ _ _ _ _ h hP hS (lv_sub hl [4, 0] rfl) (show 0 + 3 + 1 ≤ 4 by omega) (show 0 + 18 + 6 ≤ 24 by omega)
    · replace h := h.2 c104
      refine lv_iconst (pc := 16) (v := 1) hx hb d_Wa_turn_16 (by decide) ?_
      refine lv_goto (pc := 17) (tgt := 21) hx hb d_Wa_turn_17 (by decide) ?_
      exact wk_Wa_turn_21 hfl C hmg hr hin htab _ x3 a102 (1 : Int32) _ _ _ _ _ h hP hS (lv_sub hl [4, 0] rfl) (show 0 + 3 + 1 ≤ 4 by omega) (show 0 + 18 + 6 ≤ 24 by omega)
  · exact cq_out hlocks (pq_nil htab rfl) (show 0 + 3 + 0 ≤ 4 by omega) (show 0 + 18 + 0 ≤ 24 by omega) hX hex hP hS h
/-! WaterWorks.stick(IIZ)Z -/
abbrev y_Wa_stick : MethodName := ⟨"WaterWorks", "stick", "(IIZ)Z"⟩
abbrev rm_Wa_stick : Room := { frames := 8, cells := 3, slots := 18, locals := 164 }
theorem h_Wa_stick : y_Wa_stick.cls ≠ "java/lang/invoke/MethodHandle" ∧ y_Wa_stick.cls ≠ "java/lang/invoke/VarHandle" := by decide +kernel
theorem n_Wa_stick : (parseMethodDescriptor y_Wa_stick.desc).map (fun d => d.parameters.length) = some 3 := by decide +kernel
theorem d_Wa_stick_0 : decode prog_1_method_16_code 0 = .ok (.aload_n 0, 1) := by decide +kernel
theorem d_Wa_stick_1 : decode prog_1_method_16_code 1 = .ok (.iload_n 1, 1) := by decide +kernel
theorem d_Wa_stick_2 : decode prog_1_method_16_code 2 = .ok (.iload_n 2, 1) := by decide +kernel
theorem d_Wa_stick_3 : decode prog_1_method_16_code 3 = .ok (.invokevirtual 102, 3) := by decide +kernel
theorem d_Wa_stick_6 : decode prog_1_method_16_code 6 = .ok (.astore 4, 2) := by decide +kernel
theorem d_Wa_stick_8 : decode prog_1_method_16_code 8 = .ok (.aload 4, 2) := by decide +kernel
theorem d_Wa_stick_10 : decode prog_1_method_16_code 10 = .ok (.getfield 106, 3) := by decide +kernel
theorem d_Wa_stick_13 : decode prog_1_method_16_code 13 = .ok (.istore 5, 2) := by decide +kernel
theorem d_Wa_stick_15 : decode prog_1_method_16_code 15 = .ok (.aload 4, 2) := by decide +kernel
theorem d_Wa_stick_17 : decode prog_1_method_16_code 17 = .ok (.iload_n 3, 1) := by decide +kernel
theorem d_Wa_stick_18 : decode prog_1_method_16_code 18 = .ok (.putfield 106, 3) := by decide +kernel
theorem d_Wa_stick_21 : decode prog_1_method_16_code 21 = .ok (.iload 5, 2) := by decide +kernel
theorem d_Wa_stick_23 : decode prog_1_method_16_code 23 = .ok (.iload_n 3, 1) := by decide +kernel
theorem d_Wa_stick_24 : decode prog_1_method_16_code 24 = .ok (.if_icmp .eq 7, 3) := by decide +kernel
theorem d_Wa_stick_27 : decode prog_1_method_16_code 27 = .ok (.iconst 1, 1) := by decide +kernel
theorem d_Wa_stick_28 : decode prog_1_method_16_code 28 = .ok (.goto 4, 3) := by decide +kernel
theorem d_Wa_stick_31 : decode prog_1_method_16_code 31 = .ok (.iconst 0, 1) := by decide +kernel
theorem d_Wa_stick_32 : decode prog_1_method_16_code 32 = .ok (.ireturn, 1) := by decide +kernel
def wp_Wa_stick (po : Option Value → Pic → Prop) (th : String → Pic → Prop) (P : Pic) (a0 : Nat) (x1 : Int32) (x2 : Int32) (x3 : Int32) : Prop := p_k P a0 = 1 ∧ wp_Wa_valveAt (cp_a fun a102 _ => p_k P a102 = 5 ∧ ∀ (x104 : Int32), x104 = (p_i P 165 a102) → (x3 = 0 ∨ x3 = 1) ∧ ((x104 = x3 → (po (some (.int (0 : Int32))) (s_i P 165 a102 x3))) ∧ (¬ x104 = x3 → (po (some (.int (1 : Int32))) (s_i P 165 a102 x3))))) th P a0 x1 x2
set_option maxHeartbeats 4000000 in
set_option maxRecDepth 100000 in
theorem ct_Wa_stick {l : Launch} (hfl : l.flags = flags0) (D : pq_D) {po : Option Value → Pic → Prop} {th : String → Pic → Prop} {P : Pic} {a0 : Nat} {x1 : Int32} {x2 : Int32} {x3 : Int32} (h : wp_Wa_stick po th P a0 x1 x2 x3) : CT l D y_Wa_stick (.code y_Wa_stick prog_1_method_16_code 6 (some .boolean)) rm_Wa_stick false [.ref a0, .int x1, .int x2, .int x3] P po th := by
  refine ct_of (hs := []) hfl (by decide +kernel) (Or.inl ⟨rfl, rfl⟩) (Nat.le_of_ble_eq_true rfl) ?_
  intro p e s m below meth c C hmg hr hin htab ls hl
  have hl : lv_has ls 6 [(0, .ref a0), (1, .int x1), (2, .int x2), (3, .int x3)] := hl
  generalize hargs : ([.ref a0, .int x1, .int x2, .int x3] : List Value).toArray = args at C ⊢
  obtain ⟨hx, hb, hml, hown, hlocks, htr, hT, hK, hSt, hN, hP0⟩ := id C
  have L106_4 : pq_fl s m args 106 4 5 := ⟨_, "WaterWorks", "WaterWorks$End", rfl, by decide, hown, Or.inr ⟨_, hT _ k_655 _⟩, (fun _ z => z)⟩
  have hP : Pi D P s.heap := hP0
  have hS : Sg (cq_A P s) s.heap s.heap P [] := Sg.start hP0
  unfold wp_Wa_stick at h
  refine lv_aload_n (pc := 0) hx hb d_Wa_stick_0 rfl (lv_at hl 0 rfl) ?_
  refine lv_iload_n (pc := 1) hx hb d_Wa_stick_1 rfl (lv_at hl 1 rfl) ?_
  refine lv_iload_n (pc := 2) hx hb d_Wa_stick_2 rfl (lv_at hl 2 rfl) ?_
  obtain ⟨hk101, h⟩ := h
  refine cr_a (pc := 3) C (rest := []) (mt_invV (As := [.int x1, .int x2]) hx hb hown (hT _ k_721 _) (hT _ k_723 _) (hT _ ks_5 _) (mt_Cd.code (hT _ k_724 #[])) h_Wa_valveAt (pq_recv hK hP hk101 rfl) n_Wa_valveAt rfl d_Wa_stick_3) (ct_Wa_valveAt hfl D h) k_724 k_1 ⟨Nat.le_of_ble_eq_true rfl, Nat.le_of_ble_eq_true rfl⟩ ⟨(show 0 + 3 ≤ 3 by omega), (show 0 + 18 ≤ 18 by omega)⟩ hl.1 d_Wa_stick_3 (Nat.le_of_ble_eq_true rfl) hP hS (fun a102 H locs h hP hS => ?_) (fun xx X H locs h hX hex hP hS => ?_)
  · refine lv_astore (pc := 6) (lv' := [(4, .ref a102), (0, .ref a0), (1, .int x1), (2, .int x2), (3, .int x3)]) hx hb d_Wa_stick_6 hl (by decide) rfl (fun ls hl => ?_)
    refine lv_aload (pc := 8) hx hb d_Wa_stick_8 (lv_at hl 0 rfl) ?_
    obtain ⟨hk103, h⟩ := h
    refine pq_geti (pc := 10) (f := 165) hx hb hT hK hP L106_4 hk103 rfl d_Wa_stick_10 ?_
    refine lv_topi (fun x104 ex104 => ?_)
    replace h := h x104 ex104
    refine lv_istore (pc := 13) (lv' := [(5, .int x104), (4, .ref a102), (0, .ref a0), (1, .int x1), (2, .int x2), (3, .int x3)]) hx hb d_Wa_stick_13 hl (by decide) rfl (fun ls hl => ?_)
    refine lv_aload (pc := 15) hx hb d_Wa_stick_15 (lv_at hl 1 rfl) ?_
    refine lv_iload_n (pc := 17) hx hb d_Wa_stick_17 rfl (lv_at hl 5 rfl) ?_
    obtain ⟨hz105, h⟩ := h
    refine pq_puti (pc := 18) (f := 165) hx hb hT hK hP hS L106_4 hk103 rfl rfl (pq_nz hz105).1 (pq_nz hz105).2 d_Wa_stick_18 (fun H locs hP hS => ?_)
    have hk101 : p_k (s_i P 165 a102 x3) a0 = 1 := by rw [pk_i]; exact hk101
    have hk103 : p_k (s_i P 165 a102 x3) a102 = 5 := by rw [pk_i]; exact hk103
    refine lv_iload (pc := 21) hx hb d_Wa_stick_21 (lv_at hl 0 rfl) ?_
    refine lv_iload_n (pc := 23) hx hb d_Wa_stick_23 rfl (lv_at hl 5 rfl) ?_
    refine lv_icmp_eq (pc := 24) (tgt := 31) hx hb d_Wa_stick_24 (by decide) (fun c106 => ?_) (fun c106 => ?_)
    · replace h := h.1 c106
      refine lv_iconst (pc := 31) (v := 0) hx hb d_Wa_stick_31 (by decide) ?_
      exact we_z (pc := 32) hx hb hlocks hr hP hS (show 0 + 3 + 0 ≤ 3 by omega) (show 0 + 18 + 0 ≤ 18 by omega) (by decide) h d_Wa_stick_32
    · replace h := h.2 c106
      refine lv_iconst (pc := 27) (v := 1) hx hb d_Wa_stick_27 (by decide) ?_
      refine lv_goto (pc := 28) (tgt := 32) hx hb d_Wa_stick_28 (by decide) ?_
      exact we_z (pc := 32) hx hb hlocks hr hP hS (show 0 + 3 + 0 ≤ 3 by omega) (show 0 + 18 + 0 ≤ 18 by omega) (by decide) h d_Wa_stick_32
  · exact cq_out hlocks (pq_nil htab rfl) (show 0 + 3 + 0 ≤ 3 by omega) (show 0 + 18 + 0 ≤ 18 by omega) hX hex hP hS h
/-! WaterWorks.fed(I)Z -/
abbrev y_Wa_fed : MethodName := ⟨"WaterWorks", "fed", "(I)Z"⟩
abbrev rm_Wa_fed : Room := { frames := 8, cells := 1, slots := 6, locals := 247 }
theorem h_Wa_fed : y_Wa_fed.cls ≠ "java/lang/invoke/MethodHandle" ∧ y_Wa_fed.cls ≠ "java/lang/invoke/VarHandle" := by decide +kernel
theorem n_Wa_fed : (parseMethodDescriptor y_Wa_fed.desc).map (fun d => d.parameters.length) = some 1 := by decide +kernel
theorem d_Wa_fed_0 : decode prog_1_method_17_code 0 = .ok (.aload_n 0, 1) := by decide +kernel
theorem d_Wa_fed_1 : decode prog_1_method_17_code 1 = .ok (.iload_n 1, 1) := by decide +kernel
theorem d_Wa_fed_2 : decode prog_1_method_17_code 2 = .ok (.invokevirtual 112, 3) := by decide +kernel
theorem d_Wa_fed_5 : decode prog_1_method_17_code 5 = .ok (.astore_n 2, 1) := by decide +kernel
theorem d_Wa_fed_6 : decode prog_1_method_17_code 6 = .ok (.aload_n 0, 1) := by decide +kernel
theorem d_Wa_fed_7 : decode prog_1_method_17_code 7 = .ok (.getfield 10, 3) := by decide +kernel
theorem d_Wa_fed_10 : decode prog_1_method_17_code 10 = .ok (.aload_n 0, 1) := by decide +kernel
theorem d_Wa_fed_11 : decode prog_1_method_17_code 11 = .ok (.getfield 10, 3) := by decide +kernel
theorem d_Wa_fed_14 : decode prog_1_method_17_code 14 = .ok (.getfield 116, 3) := by decide +kernel
theorem d_Wa_fed_17 : decode prog_1_method_17_code 17 = .ok (.invokevirtual 120, 3) := by decide +kernel
theorem d_Wa_fed_20 : decode prog_1_method_17_code 20 = .ok (.aload_n 0, 1) := by decide +kernel
theorem d_Wa_fed_21 : decode prog_1_method_17_code 21 = .ok (.getfield 10, 3) := by decide +kernel
theorem d_Wa_fed_24 : decode prog_1_method_17_code 24 = .ok (.aload_n 2, 1) := by decide +kernel
theorem d_Wa_fed_25 : decode prog_1_method_17_code 25 = .ok (.getfield 124, 3) := by decide +kernel
theorem d_Wa_fed_28 : decode prog_1_method_17_code 28 = .ok (.invokevirtual 128, 3) := by decide +kernel
theorem d_Wa_fed_31 : decode prog_1_method_17_code 31 = .ok (.ireturn, 1) := by decide +kernel
def wp_Wa_fed (po : Option Value → Pic → Prop) (th : String → Pic → Prop) (P : Pic) (a0 : Nat) (x1 : Int32) : Prop := p_k P a0 = 1 ∧ wp_Wa_customerAt (cp_a fun a102 _ => ∃ a103, p_r P 0 a0 = some a103 ∧ ∃ a104, p_r P 0 a0 = some a104 ∧ p_k P a104 = 7 ∧ ∃ a106, p_r P 243 a104 = some a106 ∧ p_k P a103 = 7 ∧ wp_Ne_fromSources (cp_v fun P108 => p_k P108 a0 = 1 ∧ ∃ a110, p_r P108 0 a0 = some a110 ∧ p_k P108 a102 = 4 ∧ ∃ a112, p_r P108 120 a102 = some a112 ∧ p_k P108 a110 = 7 ∧ wp_Ne_isReached (cp_i fun x114 _ => (x114 = 0 ∨ x114 = 1) ∧ po (some (.int x114)) P108) th P108 a110 a112) th P a103 a106) th P a0 x1
set_option maxHeartbeats 4000000 in
set_option maxRecDepth 100000 in
theorem ct_Wa_fed {l : Launch} (hfl : l.flags = flags0) (D : pq_D) {po : Option Value → Pic → Prop} {th : String → Pic → Prop} {P : Pic} {a0 : Nat} {x1 : Int32} (h : wp_Wa_fed po th P a0 x1) : CT l D y_Wa_fed (.code y_Wa_fed prog_1_method_17_code 3 (some .boolean)) rm_Wa_fed false [.ref a0, .int x1] P po th := by
  refine ct_of (hs := []) hfl (by decide +kernel) (Or.inl ⟨rfl, rfl⟩) (Nat.le_of_ble_eq_true rfl) ?_
  intro p e s m below meth c C hmg hr hin htab ls hl
  have hl : lv_has ls 3 [(0, .ref a0), (1, .int x1)] := hl
  generalize hargs : ([.ref a0, .int x1] : List Value).toArray = args at C ⊢
  obtain ⟨hx, hb, hml, hown, hlocks, htr, hT, hK, hSt, hN, hP0⟩ := id C
  have L10_0 : pq_fl s m args 10 0 0 := ⟨_, "WaterWorks", "WaterWorks", rfl, by decide, hown, Or.inl (hT _ k_450 _), (fun _ z => z)⟩
  have L116_6 : pq_fl s m args 116 6 3 := ⟨_, "WaterWorks", "WaterWorks$Net", rfl, by decide, hown, Or.inr ⟨_, hT _ k_422 _⟩, (fun _ z => z)⟩
  have L124_3 : pq_fl s m args 124 3 0 := ⟨_, "WaterWorks", "WaterWorks$Customer", rfl, by decide, hown, Or.inr ⟨_, hT _ k_697 _⟩, (fun _ z => z)⟩
  have hP : Pi D P s.heap := hP0
  have hS : Sg (cq_A P s) s.heap s.heap P [] := Sg.start hP0
  unfold wp_Wa_fed at h
  refine lv_aload_n (pc := 0) hx hb d_Wa_fed_0 rfl (lv_at hl 0 rfl) ?_
  refine lv_iload_n (pc := 1) hx hb d_Wa_fed_1 rfl (lv_at hl 1 rfl) ?_
  obtain ⟨hk101, h⟩ := h
  refine cr_a (pc := 2) C (rest := []) (mt_invV (As := [.int x1]) hx hb hown (hT _ k_757 _) (hT _ k_759 _) (hT _ ks_6 _) (mt_Cd.code (hT _ k_760 #[])) h_Wa_customerAt (pq_recv hK hP hk101 rfl) n_Wa_customerAt rfl d_Wa_fed_2) (ct_Wa_customerAt hfl D h) k_760 k_1 ⟨Nat.le_of_ble_eq_true rfl, Nat.le_of_ble_eq_true rfl⟩ ⟨(show 0 + 1 ≤ 1 by omega), (show 0 + 6 ≤ 6 by omega)⟩ hl.1 d_Wa_fed_2 (Nat.le_of_ble_eq_true rfl) hP hS (fun a102 H locs h hP hS => ?_) (fun xx X H locs h hX hex hP hS => ?_)
  · refine lv_astore_n (pc := 5) (lv' := [(2, .ref a102), (0, .ref a0), (1, .int x1)]) hx hb d_Wa_fed_5 rfl hl (by decide) rfl (fun ls hl => ?_)
    refine lv_aload_n (pc := 6) hx hb d_Wa_fed_6 rfl (lv_at hl 1 rfl) ?_
    obtain ⟨a103, ea103, h⟩ := h
    refine pq_geta (pc := 7) (f := 0) hx hb hT hK hP L10_0 hk101 rfl ea103 d_Wa_fed_7 ?_
    refine lv_aload_n (pc := 10) hx hb d_Wa_fed_10 rfl (lv_at hl 1 rfl) ?_
    obtain ⟨a104, ea104, h⟩ := h
    refine pq_geta (pc := 11) (f := 0) hx hb hT hK hP L10_0 hk101 rfl ea104 d_Wa_fed_11 ?_
    obtain ⟨hk105, h⟩ := h
    obtain ⟨a106, ea106, h⟩ := h
    refine pq_geta (pc := 14) (f := 243) hx hb hT hK hP L116_6 hk105 rfl ea106 d_Wa_fed_14 ?_
    obtain ⟨hk107, h⟩ := h
    refine cc_v (pc := 17) C (rest := []) (mt_invV (As := [.ref a106]) hx hb hown (hT _ k_761 _) (hT _ k_762 _) (hT _ k_763 _) (mt_Cd.code (hT _ k_764 #[])) h_Ne_fromSources (pq_recv hK hP hk107 rfl) n_Ne_fromSources rfl d_Wa_fed_17) (ct_Ne_fromSources hfl D h) k_764 k_2 ⟨Nat.le_of_ble_eq_true rfl, Nat.le_of_ble_eq_true rfl⟩ ⟨(show 0 + 1 + 0 ≤ 1 by omega), (show 0 + 6 + 0 ≤ 6 by omega)⟩ hl.1 d_Wa_fed_17 (Nat.le_of_ble_eq_true rfl) hP hS (fun P108 H locs h hP hS => ?_) (fun xx X P108 H locs h hX hex hP hS => ?_)
    · refine lv_aload_n (pc := 20) hx hb d_Wa_fed_20 rfl (lv_at hl 1 rfl) ?_
      obtain ⟨hk109, h⟩ := h
      obtain ⟨a110, ea110, h⟩ := h
      refine pq_geta (pc := 21) (f := 0) hx hb hT hK hP L10_0 hk109 rfl ea110 d_Wa_fed_21 ?_
      refine lv_aload_n (pc := 24) hx hb d_Wa_fed_24 rfl (lv_at hl 0 rfl) ?_
      obtain ⟨hk111, h⟩ := h
      obtain ⟨a112, ea112, h⟩ := h
      refine pq_geta (pc := 25) (f := 120) hx hb hT hK hP L124_3 hk111 rfl ea112 d_Wa_fed_25 ?_
      obtain ⟨hk113, h⟩ := h
      refine cr_i (pc := 28) C (rest := []) (mt_invV (As := [.ref a112]) hx hb hown (hT _ k_807 _) (hT _ k_808 _) (hT _ k_809 _) (mt_Cd.code (hT _ k_810 #[])) h_Ne_isReached (pq_recv hK hP hk113 rfl) n_Ne_isReached rfl d_Wa_fed_28) (ct_Ne_isReached hfl D h) k_810 k_2 ⟨Nat.le_of_ble_eq_true rfl, Nat.le_of_ble_eq_true rfl⟩ ⟨(show 0 + 1 + 0 + 0 ≤ 1 by omega), (show 0 + 6 + 0 + 0 ≤ 6 by omega)⟩ hl.1 d_Wa_fed_28 (Nat.le_of_ble_eq_true rfl) hP hS (fun x114 H locs h hP hS => ?_) (fun xx X H locs h hX hex hP hS => ?_)
      · exact we_z (pc := 31) hx hb hlocks hr hP hS (show 0 + 1 + 0 + 0 + 0 ≤ 1 by omega) (show 0 + 6 + 0 + 0 + 0 ≤ 6 by omega) h.1 h.2 d_Wa_fed_31
      · exact cq_out hlocks (pq_nil htab rfl) (show 0 + 1 + 0 + 0 + 0 ≤ 1 by omega) (show 0 + 6 + 0 + 0 + 0 ≤ 6 by omega) hX hex hP hS h
    · exact cq_out hlocks (pq_nil htab rfl) (show 0 + 1 + 0 + 0 ≤ 1 by omega) (show 0 + 6 + 0 + 0 ≤ 6 by omega) hX hex hP hS h
  · exact cq_out hlocks (pq_nil htab rfl) (show 0 + 1 + 0 ≤ 1 by omega) (show 0 + 6 + 0 ≤ 6 by omega) hX hex hP hS h
/-! WaterWorks.shutOff(I)I -/
abbrev y_Wa_shutOff : MethodName := ⟨"WaterWorks", "shutOff", "(I)I"⟩
abbrev rm_Wa_shutOff : Room := { frames := 8, cells := 1, slots := 6, locals := 270 }
theorem h_Wa_shutOff : y_Wa_shutOff.cls ≠ "java/lang/invoke/MethodHandle" ∧ y_Wa_shutOff.cls ≠ "java/lang/invoke/VarHandle" := by decide +kernel
theorem n_Wa_shutOff : (parseMethodDescriptor y_Wa_shutOff.desc).map (fun d => d.parameters.length) = some 1 := by decide +kernel
theorem d_Wa_shutOff_0 : decode prog_1_method_18_code 0 = .ok (.aload_n 0, 1) := by decide +kernel
theorem d_Wa_shutOff_1 : decode prog_1_method_18_code 1 = .ok (.getfield 10, 3) := by decide +kernel
theorem d_Wa_shutOff_4 : decode prog_1_method_18_code 4 = .ok (.aload_n 0, 1) := by decide +kernel
theorem d_Wa_shutOff_5 : decode prog_1_method_18_code 5 = .ok (.iload_n 1, 1) := by decide +kernel
theorem d_Wa_shutOff_6 : decode prog_1_method_18_code 6 = .ok (.invokevirtual 132, 3) := by decide +kernel
theorem d_Wa_shutOff_9 : decode prog_1_method_18_code 9 = .ok (.invokevirtual 136, 3) := by decide +kernel
theorem d_Wa_shutOff_12 : decode prog_1_method_18_code 12 = .ok (.ifCond .eq 13, 3) := by decide +kernel
theorem d_Wa_shutOff_15 : decode prog_1_method_18_code 15 = .ok (.aload_n 0, 1) := by decide +kernel
theorem d_Wa_shutOff_16 : decode prog_1_method_18_code 16 = .ok (.getfield 10, 3) := by decide +kernel
theorem d_Wa_shutOff_19 : decode prog_1_method_18_code 19 = .ok (.invokevirtual 139, 3) := by decide +kernel
theorem d_Wa_shutOff_22 : decode prog_1_method_18_code 22 = .ok (.goto 4, 3) := by decide +kernel
theorem d_Wa_shutOff_25 : decode prog_1_method_18_code 25 = .ok (.iconst (-1), 1) := by decide +kernel
theorem d_Wa_shutOff_26 : decode prog_1_method_18_code 26 = .ok (.ireturn, 1) := by decide +kernel
def wp_Wa_shutOff (po : Option Value → Pic → Prop) (th : String → Pic → Prop) (P : Pic) (a0 : Nat) (x1 : Int32) : Prop := p_k P a0 = 1 ∧ ∃ a102, p_r P 0 a0 = some a102 ∧ wp_Wa_middleOf (cp_a fun a103 _ => p_k P a102 = 7 ∧ wp_Ne_plan (cp_i fun x105 P106 => ((x105 = 0 → (po (some (.int (-1 : Int32))) P106)) ∧ (¬ x105 = 0 → (p_k P106 a0 = 1 ∧ ∃ a108, p_r P106 0 a0 = some a108 ∧ p_k P106 a108 = 7 ∧ wp_Ne_planned (cp_i fun x110 _ => po (some (.int x110)) P106) th P106 a108)))) th P a102 a103) th P a0 x1
set_option maxHeartbeats 4000000 in
set_option maxRecDepth 100000 in
theorem ct_Wa_shutOff {l : Launch} (hfl : l.flags = flags0) (D : pq_D) {po : Option Value → Pic → Prop} {th : String → Pic → Prop} {P : Pic} {a0 : Nat} {x1 : Int32} (h : wp_Wa_shutOff po th P a0 x1) : CT l D y_Wa_shutOff (.code y_Wa_shutOff prog_1_method_18_code 2 (some .int)) rm_Wa_shutOff false [.ref a0, .int x1] P po th := by
  refine ct_of (hs := []) hfl (by decide +kernel) (Or.inl ⟨rfl, rfl⟩) (Nat.le_of_ble_eq_true rfl) ?_
  intro p e s m below meth c C hmg hr hin htab ls hl
  have hl : lv_has ls 2 [(0, .ref a0), (1, .int x1)] := hl
  generalize hargs : ([.ref a0, .int x1] : List Value).toArray = args at C ⊢
  obtain ⟨hx, hb, hml, hown, hlocks, htr, hT, hK, hSt, hN, hP0⟩ := id C
  have L10_0 : pq_fl s m args 10 0 0 := ⟨_, "WaterWorks", "WaterWorks", rfl, by decide, hown, Or.inl (hT _ k_450 _), (fun _ z => z)⟩
  have hP : Pi D P s.heap := hP0
  have hS : Sg (cq_A P s) s.heap s.heap P [] := Sg.start hP0
  unfold wp_Wa_shutOff at h
  refine lv_aload_n (pc := 0) hx hb d_Wa_shutOff_0 rfl (lv_at hl 0 rfl) ?_
  obtain ⟨hk101, h⟩ := h
  obtain ⟨a102, ea102, h⟩ := h
  refine pq_geta (pc := 1) (f := 0) hx hb hT hK hP L10_0 hk101 rfl ea102 d_Wa_shutOff_1 ?_
  refine lv_aload_n (pc := 4) hx hb d_Wa_shutOff_4 rfl (lv_at hl 0 rfl) ?_
  refine lv_iload_n (pc := 5) hx hb d_Wa_shutOff_5 rfl (lv_at hl 1 rfl) ?_
  refine cr_a (pc := 6) C (rest := [.ref a102]) (mt_invV (As := [.int x1]) hx hb hown (hT _ k_818 _) (hT _ k_820 _) (hT _ ks_9 _) (mt_Cd.code (hT _ k_821 #[])) h_Wa_middleOf (pq_recv hK hP hk101 rfl) n_Wa_middleOf rfl d_Wa_shutOff_6) (ct_Wa_middleOf hfl D h) k_821 k_1 ⟨Nat.le_of_ble_eq_true rfl, Nat.le_of_ble_eq_true rfl⟩ ⟨(show 0 + 1 ≤ 1 by omega), (show 0 + 6 ≤ 6 by omega)⟩ hl.1 d_Wa_shutOff_6 (Nat.le_of_ble_eq_true rfl) hP hS (fun a103 H locs h hP hS => ?_) (fun xx X H locs h hX hex hP hS => ?_)
  · obtain ⟨hk104, h⟩ := h
    refine cc_i (pc := 9) C (rest := []) (mt_invV (As := [.ref a103]) hx hb hown (hT _ k_822 _) (hT _ k_823 _) (hT _ k_824 _) (mt_Cd.code (hT _ k_825 #[])) h_Ne_plan (pq_recv hK hP hk104 rfl) n_Ne_plan rfl d_Wa_shutOff_9) (ct_Ne_plan hfl D h) k_825 k_2 ⟨Nat.le_of_ble_eq_true rfl, Nat.le_of_ble_eq_true rfl⟩ ⟨(show 0 + 1 + 0 ≤ 1 by omega), (show 0 + 6 + 0 ≤ 6 by omega)⟩ hl.1 d_Wa_shutOff_9 (Nat.le_of_ble_eq_true rfl) hP hS (fun x105 P106 H locs h hP hS => ?_) (fun xx X P106 H locs h hX hex hP hS => ?_)
    · refine lv_if_eq (pc := 12) (tgt := 25) hx hb d_Wa_shutOff_12 (by decide) (fun c111 => ?_) (fun c111 => ?_)
      · replace h := h.1 c111
        refine lv_iconst (pc := 25) (v := (-1)) hx hb d_Wa_shutOff_25 (by decide) ?_
        exact we_i (pc := 26) hx hb hlocks hr hP hS (show 0 + 1 + 0 + 0 ≤ 1 by omega) (show 0 + 6 + 0 + 0 ≤ 6 by omega) h d_Wa_shutOff_26
      · replace h := h.2 c111
        refine lv_aload_n (pc := 15) hx hb d_Wa_shutOff_15 rfl (lv_at hl 0 rfl) ?_
        obtain ⟨hk107, h⟩ := h
        obtain ⟨a108, ea108, h⟩ := h
        refine pq_geta (pc := 16) (f := 0) hx hb hT hK hP L10_0 hk107 rfl ea108 d_Wa_shutOff_16 ?_
        obtain ⟨hk109, h⟩ := h
        refine cr_i (pc := 19) C (rest := []) (mt_invV (As := []) hx hb hown (hT _ k_837 _) (hT _ k_838 _) (hT _ k_839 _) (mt_Cd.code (hT _ k_840 #[])) h_Ne_planned (pq_recv hK hP hk109 rfl) n_Ne_planned rfl d_Wa_shutOff_19) (ct_Ne_planned hfl D h) k_840 k_2 ⟨Nat.le_of_ble_eq_true rfl, Nat.le_of_ble_eq_true rfl⟩ ⟨(show 0 + 1 + 0 + 0 ≤ 1 by omega), (show 0 + 6 + 0 + 0 ≤ 6 by omega)⟩ hl.1 d_Wa_shutOff_19 (Nat.le_of_ble_eq_true rfl) hP hS (fun x110 H locs h hP hS => ?_) (fun xx X H locs h hX hex hP hS => ?_)
        · refine lv_goto (pc := 22) (tgt := 26) hx hb d_Wa_shutOff_22 (by decide) ?_
          exact we_i (pc := 26) hx hb hlocks hr hP hS (show 0 + 1 + 0 + 0 + 0 ≤ 1 by omega) (show 0 + 6 + 0 + 0 + 0 ≤ 6 by omega) h d_Wa_shutOff_26
        · exact cq_out hlocks (pq_nil htab rfl) (show 0 + 1 + 0 + 0 + 0 ≤ 1 by omega) (show 0 + 6 + 0 + 0 + 0 ≤ 6 by omega) hX hex hP hS h
    · exact cq_out hlocks (pq_nil htab rfl) (show 0 + 1 + 0 + 0 ≤ 1 by omega) (show 0 + 6 + 0 + 0 ≤ 6 by omega) hX hex hP hS h
  · exact cq_out hlocks (pq_nil htab rfl) (show 0 + 1 + 0 ≤ 1 by omega) (show 0 + 6 + 0 ≤ 6 by omega) hX hex hP hS h
/-! WaterWorks.plan(II)I -/
abbrev y_Wa_plan : MethodName := ⟨"WaterWorks", "plan", "(II)I"⟩
abbrev rm_Wa_plan : Room := { frames := 8, cells := 1, slots := 6, locals := 270 }
theorem h_Wa_plan : y_Wa_plan.cls ≠ "java/lang/invoke/MethodHandle" ∧ y_Wa_plan.cls ≠ "java/lang/invoke/VarHandle" := by decide +kernel
theorem n_Wa_plan : (parseMethodDescriptor y_Wa_plan.desc).map (fun d => d.parameters.length) = some 2 := by decide +kernel
theorem d_Wa_plan_0 : decode prog_1_method_19_code 0 = .ok (.aload_n 0, 1) := by decide +kernel
theorem d_Wa_plan_1 : decode prog_1_method_19_code 1 = .ok (.getfield 10, 3) := by decide +kernel
theorem d_Wa_plan_4 : decode prog_1_method_19_code 4 = .ok (.aload_n 0, 1) := by decide +kernel
theorem d_Wa_plan_5 : decode prog_1_method_19_code 5 = .ok (.iload_n 1, 1) := by decide +kernel
theorem d_Wa_plan_6 : decode prog_1_method_19_code 6 = .ok (.invokevirtual 132, 3) := by decide +kernel
theorem d_Wa_plan_9 : decode prog_1_method_19_code 9 = .ok (.invokevirtual 136, 3) := by decide +kernel
theorem d_Wa_plan_12 : decode prog_1_method_19_code 12 = .ok (.istore_n 3, 1) := by decide +kernel
theorem d_Wa_plan_13 : decode prog_1_method_19_code 13 = .ok (.iload_n 2, 1) := by decide +kernel
theorem d_Wa_plan_14 : decode prog_1_method_19_code 14 = .ok (.istore 4, 2) := by decide +kernel
theorem d_Wa_plan_16 : decode prog_1_method_19_code 16 = .ok (.iconst 0, 1) := by decide +kernel
theorem d_Wa_plan_17 : decode prog_1_method_19_code 17 = .ok (.istore 5, 2) := by decide +kernel
theorem d_Wa_plan_19 : decode prog_1_method_19_code 19 = .ok (.iload 5, 2) := by decide +kernel
theorem d_Wa_plan_21 : decode prog_1_method_19_code 21 = .ok (.aload_n 0, 1) := by decide +kernel
theorem d_Wa_plan_22 : decode prog_1_method_19_code 22 = .ok (.getfield 10, 3) := by decide +kernel
theorem d_Wa_plan_25 : decode prog_1_method_19_code 25 = .ok (.getfield 81, 3) := by decide +kernel
theorem d_Wa_plan_28 : decode prog_1_method_19_code 28 = .ok (.invokevirtual 43, 3) := by decide +kernel
theorem d_Wa_plan_31 : decode prog_1_method_19_code 31 = .ok (.if_icmp .ge 61, 3) := by decide +kernel
theorem d_Wa_plan_34 : decode prog_1_method_19_code 34 = .ok (.iload_n 3, 1) := by decide +kernel
theorem d_Wa_plan_35 : decode prog_1_method_19_code 35 = .ok (.ifCond .eq 51, 3) := by decide +kernel
theorem d_Wa_plan_38 : decode prog_1_method_19_code 38 = .ok (.aload_n 0, 1) := by decide +kernel
theorem d_Wa_plan_39 : decode prog_1_method_19_code 39 = .ok (.getfield 10, 3) := by decide +kernel
theorem d_Wa_plan_42 : decode prog_1_method_19_code 42 = .ok (.getfield 81, 3) := by decide +kernel
theorem d_Wa_plan_45 : decode prog_1_method_19_code 45 = .ok (.iload 5, 2) := by decide +kernel
theorem d_Wa_plan_47 : decode prog_1_method_19_code 47 = .ok (.invokevirtual 51, 3) := by decide +kernel
theorem d_Wa_plan_50 : decode prog_1_method_19_code 50 = .ok (.checkcast 84, 3) := by decide +kernel
theorem d_Wa_plan_53 : decode prog_1_method_19_code 53 = .ok (.getfield 142, 3) := by decide +kernel
theorem d_Wa_plan_56 : decode prog_1_method_19_code 56 = .ok (.ifCond .eq 30, 3) := by decide +kernel
theorem d_Wa_plan_59 : decode prog_1_method_19_code 59 = .ok (.iload 4, 2) := by decide +kernel
theorem d_Wa_plan_61 : decode prog_1_method_19_code 61 = .ok (.ifCond .ne 22, 3) := by decide +kernel
theorem d_Wa_plan_64 : decode prog_1_method_19_code 64 = .ok (.aload_n 0, 1) := by decide +kernel
theorem d_Wa_plan_65 : decode prog_1_method_19_code 65 = .ok (.getfield 10, 3) := by decide +kernel
theorem d_Wa_plan_68 : decode prog_1_method_19_code 68 = .ok (.getfield 81, 3) := by decide +kernel
theorem d_Wa_plan_71 : decode prog_1_method_19_code 71 = .ok (.iload 5, 2) := by decide +kernel
theorem d_Wa_plan_73 : decode prog_1_method_19_code 73 = .ok (.invokevirtual 51, 3) := by decide +kernel
theorem d_Wa_plan_76 : decode prog_1_method_19_code 76 = .ok (.checkcast 84, 3) := by decide +kernel
theorem d_Wa_plan_79 : decode prog_1_method_19_code 79 = .ok (.getfield 144, 3) := by decide +kernel
theorem d_Wa_plan_82 : decode prog_1_method_19_code 82 = .ok (.ireturn, 1) := by decide +kernel
theorem d_Wa_plan_83 : decode prog_1_method_19_code 83 = .ok (.iinc 4 (-1), 3) := by decide +kernel
theorem d_Wa_plan_86 : decode prog_1_method_19_code 86 = .ok (.iinc 5 1, 3) := by decide +kernel
theorem d_Wa_plan_89 : decode prog_1_method_19_code 89 = .ok (.goto (-70), 3) := by decide +kernel
theorem d_Wa_plan_92 : decode prog_1_method_19_code 92 = .ok (.iconst (-1), 1) := by decide +kernel
theorem d_Wa_plan_93 : decode prog_1_method_19_code 93 = .ok (.ireturn, 1) := by decide +kernel
def wb_Wa_plan_86 (po : Option Value → Pic → Prop) (th : String → Pic → Prop) (K19 : Pic → Nat → Int32 → Int32 → Int32 → Prop) (P : Pic) (a0 : Nat) (x3 : Int32) (x4 : Int32) (x5 : Int32) : Prop := ∀ (x130 : Int32), x130 = x5 + 1 → K19 P a0 x3 x4 x130
def wb_Wa_plan_19 (po : Option Value → Pic → Prop) (th : String → Pic → Prop) (K19 : Pic → Nat → Int32 → Int32 → Int32 → Prop) (P : Pic) (a0 : Nat) (x3 : Int32) (x4 : Int32) (x5 : Int32) : Prop := p_k P a0 = 1 ∧ ∃ a108, p_r P 0 a0 = some a108 ∧ p_k P a108 = 7 ∧ ∃ a110, p_r P 242 a108 = some a110 ∧ p_k P a110 = 14 ∧ wp_Ar_size (cp_i fun x112 _ => ((x112 ≤ x5 → (po (some (.int (-1 : Int32))) P)) ∧ (¬ x112 ≤ x5 → (((x3 = 0 → (wb_Wa_plan_86 po th K19 P a0 x3 x4 x5)) ∧ (¬ x3 = 0 → (∃ a113, p_r P 0 a0 = some a113 ∧ p_k P a113 = 7 ∧ ∃ a115, p_r P 242 a113 = some a115 ∧ p_k P a115 = 14 ∧ wp_Ar_get (cp_a fun a117 _ => p_k P a117 = 5 ∧ (((p_i P 166 a117) = 0 → (wb_Wa_plan_86 po th K19 P a0 x3 x4 x5)) ∧ (¬ (p_i P 166 a117) = 0 → (((¬ x4 = 0 → (∀ (x119 : Int32), x119 = x4 + (-1) → wb_Wa_plan_86 po th K19 P a0 x3 x119 x5)) ∧ (x4 = 0 → (∃ a120, p_r P 0 a0 = some a120 ∧ p_k P a120 = 7 ∧ ∃ a122, p_r P 242 a120 = some a122 ∧ p_k P a122 = 14 ∧ wp_Ar_get (cp_a fun a124 _ => p_k P a124 = 5 ∧ po (some (.int (p_i P 162 a124))) P) th P a122 x5))))))) th P a115 x5))))))) th P a110
def wl_Wa_plan_19 (po : Option Value → Pic → Prop) (th : String → Pic → Prop) : Nat → Pic → Nat → Int32 → Int32 → Int32 → Prop
  | 0 => fun _ _ _ _ _ => False
  | n + 1 => wb_Wa_plan_19 po th (wl_Wa_plan_19 po th n)
def wp_Wa_plan (po : Option Value → Pic → Prop) (th : String → Pic → Prop) (P : Pic) (a0 : Nat) (x1 : Int32) (x2 : Int32) : Prop := p_k P a0 = 1 ∧ ∃ a102, p_r P 0 a0 = some a102 ∧ wp_Wa_middleOf (cp_a fun a103 _ => p_k P a102 = 7 ∧ wp_Ne_plan (cp_i fun x105 P106 => ∃ n, wl_Wa_plan_19 po th n P106 a0 x105 x2 (0 : Int32)) th P a102 a103) th P a0 x1
set_option maxHeartbeats 4000000 in
set_option maxRecDepth 100000 in
theorem wk_Wa_plan_86 {p : Program} {l : Launch} {e : Env} {s : State} {m : MethodId} {args : Array Value} {below : List Frame} {meth : Method} {c : Code} {D : pq_D} {P0 : Pic} {po : Option Value → Pic → Prop} {th : String → Pic → Prop} {K19 : Pic → Nat → Int32 → Int32 → Int32 → Prop} (hfl : l.flags = flags0) (C : Cx p e s m args meth c prog_1_method_19_code 6 "WaterWorks" D P0) (hmg : e.platform.magicAccessors = ({} : Platform).magicAccessors) (hr : meth.sig.returnType = (some .int)) (hin : meth.name = "plan") (htab : c.exceptionTable.toList = tableOf []) (HK19 : ∀ (P : Pic) (a0 : Nat) (x3 : Int32) (x4 : Int32) (x5 : Int32) (H : Heap) (locs : List Loc) (cells slots : Nat) (ls : Array Slot), K19 P a0 x3 x4 x5 → Pi D P H → Sg (cq_A P0 s) s.heap H P locs → lv_has ls 6 [(0, .ref a0), (3, .int x3), (4, .int x4), (5, .int x5)] → cells + 0 ≤ 1 → slots + 0 ≤ 6 → W p l e rm_Wa_plan s m args below meth c H locs cells slots (mt_MQ below (cq_Q D P0 false po th) args s 1 6 (cq_free P0 false)) (F0 m 19 ls [])) : ∀ (P : Pic) (a0 : Nat) (x3 : Int32) (x4 : Int32) (x5 : Int32) (H : Heap) (locs : List Loc) (cells slots : Nat) (ls : Array Slot), wb_Wa_plan_86 po th K19 P a0 x3 x4 x5 → Pi D P H → Sg (cq_A P0 s) s.heap H P locs → lv_has ls 6 [(0, .ref a0), (3, .int x3), (4, .int x4), (5, .int x5)] → cells + 0 ≤ 1 → slots + 0 ≤ 6 → W p l e rm_Wa_plan s m args below meth c H locs cells slots (mt_MQ below (cq_Q D P0 false po th) args s 1 6 (cq_free P0 false)) (F0 m 86 ls []) := by
  intro P a0 x3 x4 x5 H locs cells slots ls h hP hS hl hcc hss
  obtain ⟨hx, hb, hml, hown, hlocks, htr, hT, hK, hSt, hN, hP0⟩ := id C
  have L10_0 : pq_fl s m args 10 0 0 := ⟨_, "WaterWorks", "WaterWorks", rfl, by decide, hown, Or.inl (hT _ k_450 _), (fun _ z => z)⟩
  have L142_4 : pq_fl s m args 142 4 6 := ⟨_, "WaterWorks", "WaterWorks$End", rfl, by decide, hown, Or.inr ⟨_, hT _ k_658 _⟩, (fun _ z => z)⟩
  have L144_4 : pq_fl s m args 144 4 2 := ⟨_, "WaterWorks", "WaterWorks$End", rfl, by decide, hown, Or.inr ⟨_, hT _ k_646 _⟩, (fun _ z => z)⟩
  have L81_6 : pq_fl s m args 81 6 2 := ⟨_, "WaterWorks", "WaterWorks$Net", rfl, by decide, hown, Or.inr ⟨_, hT _ k_420 _⟩, (fun _ z => z)⟩
  unfold wb_Wa_plan_86 at h
  obtain ⟨x130, ex130⟩ : ∃ z : Int32, z = x5 + 1 := ⟨_, rfl⟩
  replace h := h x130 ex130
  refine lv_iinc (pc := 86) (v := x130) (lv' := [(5, .int x130), (0, .ref a0), (3, .int x3), (4, .int x4)]) hx hb d_Wa_plan_86 hl (k := 3) rfl (by rw [ex130]; rfl) (by decide) rfl (fun ls hl => ?_)
  refine lv_goto (pc := 89) (tgt := 19) hx hb d_Wa_plan_89 (by decide) ?_
  exact HK19 _ a0 x3 x4 x130 _ _ _ _ _ h hP hS (lv_sub hl [1, 2, 3, 0] rfl) (show cells + 0 ≤ 1 by omega) (show slots + 0 ≤ 6 by omega)
set_option maxHeartbeats 4000000 in
set_option maxRecDepth 100000 in
theorem wk_Wa_plan_19 {p : Program} {l : Launch} {e : Env} {s : State} {m : MethodId} {args : Array Value} {below : List Frame} {meth : Method} {c : Code} {D : pq_D} {P0 : Pic} {po : Option Value → Pic → Prop} {th : String → Pic → Prop} {K19 : Pic → Nat → Int32 → Int32 → Int32 → Prop} (hfl : l.flags = flags0) (C : Cx p e s m args meth c prog_1_method_19_code 6 "WaterWorks" D P0) (hmg : e.platform.magicAccessors = ({} : Platform).magicAccessors) (hr : meth.sig.returnType = (some .int)) (hin : meth.name = "plan") (htab : c.exceptionTable.toList = tableOf []) (HK19 : ∀ (P : Pic) (a0 : Nat) (x3 : Int32) (x4 : Int32) (x5 : Int32) (H : Heap) (locs : List Loc) (cells slots : Nat) (ls : Array Slot), K19 P a0 x3 x4 x5 → Pi D P H → Sg (cq_A P0 s) s.heap H P locs → lv_has ls 6 [(0, .ref a0), (3, .int x3), (4, .int x4), (5, .int x5)] → cells + 0 ≤ 1 → slots + 0 ≤ 6 → W p l e rm_Wa_plan s m args below meth c H locs cells slots (mt_MQ below (cq_Q D P0 false po th) args s 1 6 (cq_free P0 false)) (F0 m 19 ls [])) : ∀ (P : Pic) (a0 : Nat) (x3 : Int32) (x4 : Int32) (x5 : Int32) (H : Heap) (locs : List Loc) (cells slots : Nat) (ls : Array Slot), wb_Wa_plan_19 po th K19 P a0 x3 x4 x5 → Pi D P H → Sg (cq_A P0 s) s.heap H P locs → lv_has ls 6 [(0, .ref a0), (3, .int x3), (4, .int x4), (5, .int x5)] → cells + 0 ≤ 1 → slots + 0 ≤ 6 → W p l e rm_Wa_plan s m args below meth c H locs cells slots (mt_MQ below (cq_Q D P0 false po th) args s 1 6 (cq_free P0 false)) (F0 m 19 ls []) := by
  intro P a0 x3 x4 x5 H locs cells slots ls h hP hS hl hcc hss
  obtain ⟨hx, hb, hml, hown, hlocks, htr, hT, hK, hSt, hN, hP0⟩ := id C
  have L10_0 : pq_fl s m args 10 0 0 := ⟨_, "WaterWorks", "WaterWorks", rfl, by decide, hown, Or.inl (hT _ k_450 _), (fun _ z => z)⟩
  have L142_4 : pq_fl s m args 142 4 6 := ⟨_, "WaterWorks", "WaterWorks$End", rfl, by decide, hown, Or.inr ⟨_, hT _ k_658 _⟩, (fun _ z => z)⟩
  have L144_4 : pq_fl s m args 144 4 2 := ⟨_, "WaterWorks", "WaterWorks$End", rfl, by decide, hown, Or.inr ⟨_, hT _ k_646 _⟩, (fun _ z => z)⟩
  have L81_6 : pq_fl s m args 81 6 2 := ⟨_, "WaterWorks", "WaterWorks$Net", rfl, by decide, hown, Or.inr ⟨_, hT _ k_420 _⟩, (fun _ z => z)⟩
  unfold wb_Wa_plan_19 at h
  refine lv_iload (pc := 19) hx hb d_Wa_plan_19 (lv_at hl 3 rfl) ?_
  refine lv_aload_n (pc := 21) hx hb d_Wa_plan_21 rfl (lv_at hl 0 rfl) ?_
  obtain ⟨hk107, h⟩ := h
  obtain ⟨a108, ea108, h⟩ := h
  refine pq_geta (pc := 22) (f := 0) hx hb hT hK hP L10_0 hk107 rfl ea108 d_Wa_plan_22 ?_
  obtain ⟨hk109, h⟩ := h
  obtain ⟨a110, ea110, h⟩ := h
  refine pq_geta (pc := 25) (f := 242) hx hb hT hK hP L81_6 hk109 rfl ea110 d_Wa_plan_25 ?_
  obtain ⟨hk111, h⟩ := h
  refine cr_i (pc := 28) C (rest := [.int x5]) (mt_invV (As := []) hx hb hown (hT _ k_471 _) (hT _ k_472 _) (hT _ k_473 _) (mt_Cd.code (hT _ k_474 #[])) h_Ar_size (pq_recv hK hP hk111 rfl) n_Ar_size rfl d_Wa_plan_28) (ct_Ar_size hfl D h) k_474 k_5 ⟨Nat.le_of_ble_eq_true rfl, Nat.le_of_ble_eq_true rfl⟩ ⟨(show cells + 0 ≤ 1 by omega), (show slots + 0 ≤ 6 by omega)⟩ hl.1 d_Wa_plan_28 (Nat.le_of_ble_eq_true rfl) hP hS (fun x112 H locs h hP hS => ?_) (fun xx X H locs h hX hex hP hS => ?_)
  · refine lv_icmp_ge (pc := 31) (tgt := 92) hx hb d_Wa_plan_31 (by decide) (fun c129 => ?_) (fun c129 => ?_)
    · replace h := h.1 c129
      refine lv_iconst (pc := 92) (v := (-1)) hx hb d_Wa_plan_92 (by decide) ?_
      exact we_i (pc := 93) hx hb hlocks hr hP hS (show cells + 0 + 0 ≤ 1 by omega) (show slots + 0 + 0 ≤ 6 by omega) h d_Wa_plan_93
    · replace h := h.2 c129
      refine lv_iload_n (pc := 34) hx hb d_Wa_plan_34 rfl (lv_at hl 1 rfl) ?_
      refine lv_if_eq (pc := 35) (tgt := 86) hx hb d_Wa_plan_35 (by decide) (fun c128 => ?_) (fun c128 => ?_)
      · replace h := h.1 c128
        exact wk_Wa_plan_86 hfl C hmg hr hin htab HK19 _ a0 x3 x4 x5 _ _ _ _ _ h hP hS (lv_sub hl [0, 1, 2, 3] rfl) (show cells + 0 + 0 ≤ 1 by omega) (show slots + 0 + 0 ≤ 6 by omega)
      · replace h := h.2 c128
        refine lv_aload_n (pc := 38) hx hb d_Wa_plan_38 rfl (lv_at hl 0 rfl) ?_
        obtain ⟨a113, ea113, h⟩ := h
        refine pq_geta (pc := 39) (f := 0) hx hb hT hK hP L10_0 hk107 rfl ea113 d_Wa_plan_39 ?_
        obtain ⟨hk114, h⟩ := h
        obtain ⟨a115, ea115, h⟩ := h
        refine pq_geta (pc := 42) (f := 242) hx hb hT hK hP L81_6 hk114 rfl ea115 d_Wa_plan_42 ?_
        refine lv_iload (pc := 45) hx hb d_Wa_plan_45 (lv_at hl 3 rfl) ?_
        obtain ⟨hk116, h⟩ := h
        refine cr_a (pc := 47) C (rest := []) (mt_invV (As := [.int x5]) hx hb hown (hT _ k_606 _) (hT _ k_607 _) (hT _ k_608 _) (mt_Cd.code (hT _ k_609 #[])) h_Ar_get (pq_recv hK hP hk116 rfl) n_Ar_get rfl d_Wa_plan_47) (ct_Ar_get hfl D h) k_609 k_5 ⟨Nat.le_of_ble_eq_true rfl, Nat.le_of_ble_eq_true rfl⟩ ⟨(show cells + 0 + 0 ≤ 1 by omega), (show slots + 0 + 0 ≤ 6 by omega)⟩ hl.1 d_Wa_plan_47 (Nat.le_of_ble_eq_true rfl) hP hS (fun a117 H locs h hP hS => ?_) (fun xx X H locs h hX hex hP hS => ?_)
        · obtain ⟨hk118, h⟩ := h
          refine pq_cast (pc := 50) hx hb hT hK hP hown k_634 hk118 rfl k_1350 d_Wa_plan_50 ?_
          refine pq_geti (pc := 53) (f := 166) hx hb hT hK hP L142_4 hk118 rfl d_Wa_plan_53 ?_
          refine lv_if_eq (pc := 56) (tgt := 86) hx hb d_Wa_plan_56 (by decide) (fun c127 => ?_) (fun c127 => ?_)
          · replace h := h.1 c127
            exact wk_Wa_plan_86 hfl C hmg hr hin htab HK19 _ a0 x3 x4 x5 _ _ _ _ _ h hP hS (lv_sub hl [0, 1, 2, 3] rfl) (show cells + 0 + 0 + 0 ≤ 1 by omega) (show slots + 0 + 0 + 0 ≤ 6 by omega)
          · replace h := h.2 c127
            refine lv_iload (pc := 59) hx hb d_Wa_plan_59 (lv_at hl 2 rfl) ?_
            refine lv_if_ne (pc := 61) (tgt := 83) hx hb d_Wa_plan_61 (by decide) (fun c126 => ?_) (fun c126 => ?_)
            · replace h := h.1 c126
              obtain ⟨x119, ex119⟩ : ∃ z : Int32, z = x4 + (-1) := ⟨_, rfl⟩
              replace h := h x119 ex119
              refine lv_iinc (pc := 83) (v := x119) (lv' := [(4, .int x119), (0, .ref a0), (3, .int x3), (5, .int x5)]) hx hb d_Wa_plan_83 hl (k := 2) rfl (by rw [ex119]; rfl) (by decide) rfl (fun ls hl => ?_)
              exact wk_Wa_plan_86 hfl C hmg hr hin htab HK19 _ a0 x3 x119 x5 _ _ _ _ _ h hP hS (lv_sub hl [1, 2, 0, 3] rfl) (show cells + 0 + 0 + 0 ≤ 1 by omega) (show slots + 0 + 0 + 0 ≤ 6 by omega)
            · replace h := h.2 c126
              refine lv_aload_n (pc := 64) hx hb d_Wa_plan_64 rfl (lv_at hl 0 rfl) ?_
              obtain ⟨a120, ea120, h⟩ := h
              refine pq_geta (pc := 65) (f := 0) hx hb hT hK hP L10_0 hk107 rfl ea120 d_Wa_plan_65 ?_
              obtain ⟨hk121, h⟩ := h
              obtain ⟨a122, ea122, h⟩ := h
              refine pq_geta (pc := 68) (f := 242) hx hb hT hK hP L81_6 hk121 rfl ea122 d_Wa_plan_68 ?_
              refine lv_iload (pc := 71) hx hb d_Wa_plan_71 (lv_at hl 3 rfl) ?_
              obtain ⟨hk123, h⟩ := h
              refine cr_a (pc := 73) C (rest := []) (mt_invV (As := [.int x5]) hx hb hown (hT _ k_606 _) (hT _ k_607 _) (hT _ k_608 _) (mt_Cd.code (hT _ k_609 #[])) h_Ar_get (pq_recv hK hP hk123 rfl) n_Ar_get rfl d_Wa_plan_73) (ct_Ar_get hfl D h) k_609 k_5 ⟨Nat.le_of_ble_eq_true rfl, Nat.le_of_ble_eq_true rfl⟩ ⟨(show cells + 0 + 0 + 0 ≤ 1 by omega), (show slots + 0 + 0 + 0 ≤ 6 by omega)⟩ hl.1 d_Wa_plan_73 (Nat.le_of_ble_eq_true rfl) hP hS (fun a124 H locs h hP hS => ?_) (fun xx X H locs h hX hex hP hS => ?_)
              · obtain ⟨hk125, h⟩ := h
                refine pq_cast (pc := 76) hx hb hT hK hP hown k_634 hk125 rfl k_1350 d_Wa_plan_76 ?_
                refine pq_geti (pc := 79) (f := 162) hx hb hT hK hP L144_4 hk125 rfl d_Wa_plan_79 ?_
                exact we_i (pc := 82) hx hb hlocks hr hP hS (show cells + 0 + 0 + 0 + 0 ≤ 1 by omega) (show slots + 0 + 0 + 0 + 0 ≤ 6 by omega) h d_Wa_plan_82
              · exact cq_out hlocks (pq_nil htab rfl) (show cells + 0 + 0 + 0 + 0 ≤ 1 by omega) (show slots + 0 + 0 + 0 + 0 ≤ 6 by omega) hX hex hP hS h
        · exact cq_out hlocks (pq_nil htab rfl) (show cells + 0 + 0 + 0 ≤ 1 by omega) (show slots + 0 + 0 + 0 ≤ 6 by omega) hX hex hP hS h
  · exact cq_out hlocks (pq_nil htab rfl) (show cells + 0 + 0 ≤ 1 by omega) (show slots + 0 + 0 ≤ 6 by omega) hX hex hP hS h
theorem wm_Wa_plan_19 {p : Program} {l : Launch} {e : Env} {s : State} {m : MethodId} {args : Array Value} {below : List Frame} {meth : Method} {c : Code} {D : pq_D} {P0 : Pic} {po : Option Value → Pic → Prop} {th : String → Pic → Prop} (hfl : l.flags = flags0) (C : Cx p e s m args meth c prog_1_method_19_code 6 "WaterWorks" D P0) (hmg : e.platform.magicAccessors = ({} : Platform).magicAccessors) (hr : meth.sig.returnType = (some .int)) (hin : meth.name = "plan") (htab : c.exceptionTable.toList = tableOf []) : ∀ n : Nat, ∀ (P : Pic) (a0 : Nat) (x3 : Int32) (x4 : Int32) (x5 : Int32) (H : Heap) (locs : List Loc) (cells slots : Nat) (ls : Array Slot), wl_Wa_plan_19 po th n P a0 x3 x4 x5 → Pi D P H → Sg (cq_A P0 s) s.heap H P locs → lv_has ls 6 [(0, .ref a0), (3, .int x3), (4, .int x4), (5, .int x5)] → cells + 0 ≤ 1 → slots + 0 ≤ 6 → W p l e rm_Wa_plan s m args below meth c H locs cells slots (mt_MQ below (cq_Q D P0 false po th) args s 1 6 (cq_free P0 false)) (F0 m 19 ls []) := by
  intro n
  induction n with
  | zero => intro P a0 x3 x4 x5 H locs cells slots ls h; exact h.elim
  | succ n ih => exact wk_Wa_plan_19 hfl C hmg hr hin htab ih
set_option maxHeartbeats 4000000 in
set_option maxRecDepth 100000 in
theorem ct_Wa_plan {l : Launch} (hfl : l.flags = flags0) (D : pq_D) {po : Option Value → Pic → Prop} {th : String → Pic → Prop} {P : Pic} {a0 : Nat} {x1 : Int32} {x2 : Int32} (h : wp_Wa_plan po th P a0 x1 x2) : CT l D y_Wa_plan (.code y_Wa_plan prog_1_method_19_code 6 (some .int)) rm_Wa_plan false [.ref a0, .int x1, .int x2] P po th := by
  refine ct_of (hs := []) hfl (by decide +kernel) (Or.inl ⟨rfl, rfl⟩) (Nat.le_of_ble_eq_true rfl) ?_
  intro p e s m below meth c C hmg hr hin htab ls hl
  have hl : lv_has ls 6 [(0, .ref a0), (1, .int x1), (2, .int x2)] := hl
  generalize hargs : ([.ref a0, .int x1, .int x2] : List Value).toArray = args at C ⊢
  obtain ⟨hx, hb, hml, hown, hlocks, htr, hT, hK, hSt, hN, hP0⟩ := id C
  have L10_0 : pq_fl s m args 10 0 0 := ⟨_, "WaterWorks", "WaterWorks", rfl, by decide, hown, Or.inl (hT _ k_450 _), (fun _ z => z)⟩
  have L142_4 : pq_fl s m args 142 4 6 := ⟨_, "WaterWorks", "WaterWorks$End", rfl, by decide, hown, Or.inr ⟨_, hT _ k_658 _⟩, (fun _ z => z)⟩
  have L144_4 : pq_fl s m args 144 4 2 := ⟨_, "WaterWorks", "WaterWorks$End", rfl, by decide, hown, Or.inr ⟨_, hT _ k_646 _⟩, (fun _ z => z)⟩
  have L81_6 : pq_fl s m args 81 6 2 := ⟨_, "WaterWorks", "WaterWorks$Net", rfl, by decide, hown, Or.inr ⟨_, hT _ k_420 _⟩, (fun _ z => z)⟩
  have hP : Pi D P s.heap := hP0
  have hS : Sg (cq_A P s) s.heap s.heap P [] := Sg.start hP0
  unfold wp_Wa_plan at h
  refine lv_aload_n (pc := 0) hx hb d_Wa_plan_0 rfl (lv_at hl 0 rfl) ?_
  obtain ⟨hk101, h⟩ := h
  obtain ⟨a102, ea102, h⟩ := h
  refine pq_geta (pc := 1) (f := 0) hx hb hT hK hP L10_0 hk101 rfl ea102 d_Wa_plan_1 ?_
  refine lv_aload_n (pc := 4) hx hb d_Wa_plan_4 rfl (lv_at hl 0 rfl) ?_
  refine lv_iload_n (pc := 5) hx hb d_Wa_plan_5 rfl (lv_at hl 1 rfl) ?_
  refine cr_a (pc := 6) C (rest := [.ref a102]) (mt_invV (As := [.int x1]) hx hb hown (hT _ k_818 _) (hT _ k_820 _) (hT _ ks_9 _) (mt_Cd.code (hT _ k_821 #[])) h_Wa_middleOf (pq_recv hK hP hk101 rfl) n_Wa_middleOf rfl d_Wa_plan_6) (ct_Wa_middleOf hfl D h) k_821 k_1 ⟨Nat.le_of_ble_eq_true rfl, Nat.le_of_ble_eq_true rfl⟩ ⟨(show 0 + 1 ≤ 1 by omega), (show 0 + 6 ≤ 6 by omega)⟩ hl.1 d_Wa_plan_6 (Nat.le_of_ble_eq_true rfl) hP hS (fun a103 H locs h hP hS => ?_) (fun xx X H locs h hX hex hP hS => ?_)
  · obtain ⟨hk104, h⟩ := h
    refine cc_i (pc := 9) C (rest := []) (mt_invV (As := [.ref a103]) hx hb hown (hT _ k_822 _) (hT _ k_823 _) (hT _ k_824 _) (mt_Cd.code (hT _ k_825 #[])) h_Ne_plan (pq_recv hK hP hk104 rfl) n_Ne_plan rfl d_Wa_plan_9) (ct_Ne_plan hfl D h) k_825 k_2 ⟨Nat.le_of_ble_eq_true rfl, Nat.le_of_ble_eq_true rfl⟩ ⟨(show 0 + 1 + 0 ≤ 1 by omega), (show 0 + 6 + 0 ≤ 6 by omega)⟩ hl.1 d_Wa_plan_9 (Nat.le_of_ble_eq_true rfl) hP hS (fun x105 P106 H locs h hP hS => ?_) (fun xx X P106 H locs h hX hex hP hS => ?_)
    · refine lv_istore_n (pc := 12) (lv' := [(3, .int x105), (0, .ref a0), (1, .int x1), (2, .int x2)]) hx hb d_Wa_plan_12 rfl hl (by decide) rfl (fun ls hl => ?_)
      refine lv_iload_n (pc := 13) hx hb d_Wa_plan_13 rfl (lv_at hl 3 rfl) ?_
      refine lv_istore (pc := 14) (lv' := [(4, .int x2), (3, .int x105), (0, .ref a0), (1, .int x1), (2, .int x2)]) hx hb d_Wa_plan_14 hl (by decide) rfl (fun ls hl => ?_)
      refine lv_iconst (pc := 16) (v := 0) hx hb d_Wa_plan_16 (by decide) ?_
      refine lv_istore (pc := 17) (lv' := [(5, .int (0 : Int32)), (4, .int x2), (3, .int x105), (0, .ref a0), (1, .int x1), (2, .int x2)]) hx hb d_Wa_plan_17 hl (by decide) rfl (fun ls hl => ?_)
      obtain ⟨n, h⟩ := h
      exact wm_Wa_plan_19 hfl C hmg hr hin htab n _ a0 x105 x2 (0 : Int32) _ _ _ _ _ h hP hS (lv_sub hl [3, 2, 1, 0] rfl) (show 0 + 1 + 0 + 0 ≤ 1 by omega) (show 0 + 6 + 0 + 0 ≤ 6 by omega)
    · exact cq_out hlocks (pq_nil htab rfl) (show 0 + 1 + 0 + 0 ≤ 1 by omega) (show 0 + 6 + 0 + 0 ≤ 6 by omega) hX hex hP hS h
  · exact cq_out hlocks (pq_nil htab rfl) (show 0 + 1 + 0 ≤ 1 by omega) (show 0 + 6 + 0 ≤ 6 by omega) hX hex hP hS h
/-! WaterWorks.fedOnes(LWaterWorks$Gate;)I -/
abbrev y_Wa_fedOnes : MethodName := ⟨"WaterWorks", "fedOnes", "(LWaterWorks$Gate;)I"⟩
abbrev rm_Wa_fedOnes : Room := { frames := 6, cells := 0, slots := 0, locals := 247 }
theorem h_Wa_fedOnes : y_Wa_fedOnes.cls ≠ "java/lang/invoke/MethodHandle" ∧ y_Wa_fedOnes.cls ≠ "java/lang/invoke/VarHandle" := by decide +kernel
theorem n_Wa_fedOnes : (parseMethodDescriptor y_Wa_fedOnes.desc).map (fun d => d.parameters.length) = some 1 := by decide +kernel
theorem d_Wa_fedOnes_0 : decode prog_1_method_20_code 0 = .ok (.aload_n 0, 1) := by decide +kernel
theorem d_Wa_fedOnes_1 : decode prog_1_method_20_code 1 = .ok (.getfield 10, 3) := by decide +kernel
theorem d_Wa_fedOnes_4 : decode prog_1_method_20_code 4 = .ok (.aload_n 1, 1) := by decide +kernel
theorem d_Wa_fedOnes_5 : decode prog_1_method_20_code 5 = .ok (.invokevirtual 120, 3) := by decide +kernel
theorem d_Wa_fedOnes_8 : decode prog_1_method_20_code 8 = .ok (.iconst 0, 1) := by decide +kernel
theorem d_Wa_fedOnes_9 : decode prog_1_method_20_code 9 = .ok (.istore_n 2, 1) := by decide +kernel
theorem d_Wa_fedOnes_10 : decode prog_1_method_20_code 10 = .ok (.iconst 0, 1) := by decide +kernel
theorem d_Wa_fedOnes_11 : decode prog_1_method_20_code 11 = .ok (.istore_n 3, 1) := by decide +kernel
theorem d_Wa_fedOnes_12 : decode prog_1_method_20_code 12 = .ok (.iload_n 3, 1) := by decide +kernel
theorem d_Wa_fedOnes_13 : decode prog_1_method_20_code 13 = .ok (.aload_n 0, 1) := by decide +kernel
theorem d_Wa_fedOnes_14 : decode prog_1_method_20_code 14 = .ok (.getfield 21, 3) := by decide +kernel
theorem d_Wa_fedOnes_17 : decode prog_1_method_20_code 17 = .ok (.invokevirtual 43, 3) := by decide +kernel
theorem d_Wa_fedOnes_20 : decode prog_1_method_20_code 20 = .ok (.if_icmp .ge 43, 3) := by decide +kernel
theorem d_Wa_fedOnes_23 : decode prog_1_method_20_code 23 = .ok (.iload_n 2, 1) := by decide +kernel
theorem d_Wa_fedOnes_24 : decode prog_1_method_20_code 24 = .ok (.aload_n 0, 1) := by decide +kernel
theorem d_Wa_fedOnes_25 : decode prog_1_method_20_code 25 = .ok (.getfield 10, 3) := by decide +kernel
theorem d_Wa_fedOnes_28 : decode prog_1_method_20_code 28 = .ok (.aload_n 0, 1) := by decide +kernel
theorem d_Wa_fedOnes_29 : decode prog_1_method_20_code 29 = .ok (.getfield 21, 3) := by decide +kernel
theorem d_Wa_fedOnes_32 : decode prog_1_method_20_code 32 = .ok (.iload_n 3, 1) := by decide +kernel
theorem d_Wa_fedOnes_33 : decode prog_1_method_20_code 33 = .ok (.invokevirtual 51, 3) := by decide +kernel
theorem d_Wa_fedOnes_36 : decode prog_1_method_20_code 36 = .ok (.checkcast 62, 3) := by decide +kernel
theorem d_Wa_fedOnes_39 : decode prog_1_method_20_code 39 = .ok (.getfield 124, 3) := by decide +kernel
theorem d_Wa_fedOnes_42 : decode prog_1_method_20_code 42 = .ok (.invokevirtual 128, 3) := by decide +kernel
theorem d_Wa_fedOnes_45 : decode prog_1_method_20_code 45 = .ok (.ifCond .eq 9, 3) := by decide +kernel
theorem d_Wa_fedOnes_48 : decode prog_1_method_20_code 48 = .ok (.iconst 1, 1) := by decide +kernel
theorem d_Wa_fedOnes_49 : decode prog_1_method_20_code 49 = .ok (.iload_n 3, 1) := by decide +kernel
theorem d_Wa_fedOnes_50 : decode prog_1_method_20_code 50 = .ok (.ishl, 1) := by decide +kernel
theorem d_Wa_fedOnes_51 : decode prog_1_method_20_code 51 = .ok (.goto 4, 3) := by decide +kernel
theorem d_Wa_fedOnes_54 : decode prog_1_method_20_code 54 = .ok (.iconst 0, 1) := by decide +kernel
theorem d_Wa_fedOnes_55 : decode prog_1_method_20_code 55 = .ok (.ior, 1) := by decide +kernel
theorem d_Wa_fedOnes_56 : decode prog_1_method_20_code 56 = .ok (.istore_n 2, 1) := by decide +kernel
theorem d_Wa_fedOnes_57 : decode prog_1_method_20_code 57 = .ok (.iinc 3 1, 3) := by decide +kernel
theorem d_Wa_fedOnes_60 : decode prog_1_method_20_code 60 = .ok (.goto (-48), 3) := by decide +kernel
theorem d_Wa_fedOnes_63 : decode prog_1_method_20_code 63 = .ok (.iload_n 2, 1) := by decide +kernel
theorem d_Wa_fedOnes_64 : decode prog_1_method_20_code 64 = .ok (.ireturn, 1) := by decide +kernel
def wb_Wa_fedOnes_55 (po : Option Value → Pic → Prop) (th : String → Pic → Prop) (K12 : Pic → Nat → Int32 → Int32 → Prop) (P : Pic) (a0 : Nat) (x3 : Int32) (t0 : Int32) (t1 : Int32) : Prop := ∀ (x119 : Int32), x119 = (t1 ||| t0) → ∀ (x120 : Int32), x120 = x3 + 1 → K12 P a0 x119 x120
def wb_Wa_fedOnes_12 (po : Option Value → Pic → Prop) (th : String → Pic → Prop) (K12 : Pic → Nat → Int32 → Int32 → Prop) (P : Pic) (a0 : Nat) (x2 : Int32) (x3 : Int32) : Prop := p_k P a0 = 1 ∧ ∃ a106, p_r P 1 a0 = some a106 ∧ p_k P a106 = 14 ∧ wp_Ar_size (cp_i fun x108 _ => ((x108 ≤ x3 → (po (some (.int x2)) P)) ∧ (¬ x108 ≤ x3 → (∃ a109, p_r P 0 a0 = some a109 ∧ ∃ a110, p_r P 1 a0 = some a110 ∧ p_k P a110 = 14 ∧ wp_Ar_get (cp_a fun a112 _ => p_k P a112 = 4 ∧ ∃ a114, p_r P 120 a112 = some a114 ∧ p_k P a109 = 7 ∧ wp_Ne_isReached (cp_i fun x116 _ => ((x116 = 0 → (wb_Wa_fedOnes_55 po th K12 P a0 x3 (0 : Int32) x2)) ∧ (¬ x116 = 0 → (wb_Wa_fedOnes_55 po th K12 P a0 x3 ((1 : Int32) <<< (x3 &&& 31)) x2)))) th P a109 a114) th P a110 x3)))) th P a106
def wl_Wa_fedOnes_12 (po : Option Value → Pic → Prop) (th : String → Pic → Prop) : Nat → Pic → Nat → Int32 → Int32 → Prop
  | 0 => fun _ _ _ _ => False
  | n + 1 => wb_Wa_fedOnes_12 po th (wl_Wa_fedOnes_12 po th n)
def wp_Wa_fedOnes (po : Option Value → Pic → Prop) (th : String → Pic → Prop) (P : Pic) (a0 : Nat) (a1 : Nat) : Prop := p_k P a0 = 1 ∧ ∃ a102, p_r P 0 a0 = some a102 ∧ p_k P a102 = 7 ∧ wp_Ne_fromSources (cp_v fun P104 => ∃ n, wl_Wa_fedOnes_12 po th n P104 a0 (0 : Int32) (0 : Int32)) th P a102 a1
set_option maxHeartbeats 4000000 in
set_option maxRecDepth 100000 in
theorem wk_Wa_fedOnes_55 {p : Program} {l : Launch} {e : Env} {s : State} {m : MethodId} {args : Array Value} {below : List Frame} {meth : Method} {c : Code} {D : pq_D} {P0 : Pic} {po : Option Value → Pic → Prop} {th : String → Pic → Prop} {K12 : Pic → Nat → Int32 → Int32 → Prop} (hfl : l.flags = flags0) (C : Cx p e s m args meth c prog_1_method_20_code 4 "WaterWorks" D P0) (hmg : e.platform.magicAccessors = ({} : Platform).magicAccessors) (hr : meth.sig.returnType = (some .int)) (hin : meth.name = "fedOnes") (htab : c.exceptionTable.toList = tableOf []) (HK12 : ∀ (P : Pic) (a0 : Nat) (x2 : Int32) (x3 : Int32) (H : Heap) (locs : List Loc) (cells slots : Nat) (ls : Array Slot), K12 P a0 x2 x3 → Pi D P H → Sg (cq_A P0 s) s.heap H P locs → lv_has ls 4 [(0, .ref a0), (2, .int x2), (3, .int x3)] → cells + 0 ≤ 0 → slots + 0 ≤ 0 → W p l e rm_Wa_fedOnes s m args below meth c H locs cells slots (mt_MQ below (cq_Q D P0 false po th) args s 0 0 (cq_free P0 false)) (F0 m 12 ls [])) : ∀ (P : Pic) (a0 : Nat) (x3 : Int32) (t0 : Int32) (t1 : Int32) (H : Heap) (locs : List Loc) (cells slots : Nat) (ls : Array Slot), wb_Wa_fedOnes_55 po th K12 P a0 x3 t0 t1 → Pi D P H → Sg (cq_A P0 s) s.heap H P locs → lv_has ls 4 [(0, .ref a0), (3, .int x3)] → cells + 0 ≤ 0 → slots + 0 ≤ 0 → W p l e rm_Wa_fedOnes s m args below meth c H locs cells slots (mt_MQ below (cq_Q D P0 false po th) args s 0 0 (cq_free P0 false)) (F0 m 55 ls [.int t0, .int t1]) := by
  intro P a0 x3 t0 t1 H locs cells slots ls h hP hS hl hcc hss
  obtain ⟨hx, hb, hml, hown, hlocks, htr, hT, hK, hSt, hN, hP0⟩ := id C
  have L10_0 : pq_fl s m args 10 0 0 := ⟨_, "WaterWorks", "WaterWorks", rfl, by decide, hown, Or.inl (hT _ k_450 _), (fun _ z => z)⟩
  have L124_3 : pq_fl s m args 124 3 0 := ⟨_, "WaterWorks", "WaterWorks$Customer", rfl, by decide, hown, Or.inr ⟨_, hT _ k_697 _⟩, (fun _ z => z)⟩
  have L21_0 : pq_fl s m args 21 0 1 := ⟨_, "WaterWorks", "WaterWorks", rfl, by decide, hown, Or.inl (hT _ k_451 _), (fun _ z => z)⟩
  unfold wb_Wa_fedOnes_55 at h
  refine lv_ior (pc := 55) hx hb d_Wa_fedOnes_55 ?_
  refine lv_topi (fun x119 ex119 => ?_)
  replace h := h x119 ex119
  refine lv_istore_n (pc := 56) (lv' := [(2, .int x119), (0, .ref a0), (3, .int x3)]) hx hb d_Wa_fedOnes_56 rfl hl (by decide) rfl (fun ls hl => ?_)
  obtain ⟨x120, ex120⟩ : ∃ z : Int32, z = x3 + 1 := ⟨_, rfl⟩
  replace h := h x120 ex120
  refine lv_iinc (pc := 57) (v := x120) (lv' := [(3, .int x120), (2, .int x119), (0, .ref a0)]) hx hb d_Wa_fedOnes_57 hl (k := 2) rfl (by rw [ex120]; rfl) (by decide) rfl (fun ls hl => ?_)
  refine lv_goto (pc := 60) (tgt := 12) hx hb d_Wa_fedOnes_60 (by decide) ?_
  exact HK12 _ a0 x119 x120 _ _ _ _ _ h hP hS (lv_sub hl [2, 1, 0] rfl) (show cells + 0 ≤ 0 by omega) (show slots + 0 ≤ 0 by omega)
set_option maxHeartbeats 4000000 in
set_option maxRecDepth 100000 in
theorem wk_Wa_fedOnes_12 {p : Program} {l : Launch} {e : Env} {s : State} {m : MethodId} {args : Array Value} {below : List Frame} {meth : Method} {c : Code} {D : pq_D} {P0 : Pic} {po : Option Value → Pic → Prop} {th : String → Pic → Prop} {K12 : Pic → Nat → Int32 → Int32 → Prop} (hfl : l.flags = flags0) (C : Cx p e s m args meth c prog_1_method_20_code 4 "WaterWorks" D P0) (hmg : e.platform.magicAccessors = ({} : Platform).magicAccessors) (hr : meth.sig.returnType = (some .int)) (hin : meth.name = "fedOnes") (htab : c.exceptionTable.toList = tableOf []) (HK12 : ∀ (P : Pic) (a0 : Nat) (x2 : Int32) (x3 : Int32) (H : Heap) (locs : List Loc) (cells slots : Nat) (ls : Array Slot), K12 P a0 x2 x3 → Pi D P H → Sg (cq_A P0 s) s.heap H P locs → lv_has ls 4 [(0, .ref a0), (2, .int x2), (3, .int x3)] → cells + 0 ≤ 0 → slots + 0 ≤ 0 → W p l e rm_Wa_fedOnes s m args below meth c H locs cells slots (mt_MQ below (cq_Q D P0 false po th) args s 0 0 (cq_free P0 false)) (F0 m 12 ls [])) : ∀ (P : Pic) (a0 : Nat) (x2 : Int32) (x3 : Int32) (H : Heap) (locs : List Loc) (cells slots : Nat) (ls : Array Slot), wb_Wa_fedOnes_12 po th K12 P a0 x2 x3 → Pi D P H → Sg (cq_A P0 s) s.heap H P locs → lv_has ls 4 [(0, .ref a0), (2, .int x2), (3, .int x3)] → cells + 0 ≤ 0 → slots + 0 ≤ 0 → W p l e rm_Wa_fedOnes s m args below meth c H locs cells slots (mt_MQ below (cq_Q D P0 false po th) args s 0 0 (cq_free P0 false)) (F0 m 12 ls []) := by
  intro P a0 x2 x3 H locs cells slots ls h hP hS hl hcc hss
  obtain ⟨hx, hb, hml, hown, hlocks, htr, hT, hK, hSt, hN, hP0⟩ := id C
  have L10_0 : pq_fl s m args 10 0 0 := ⟨_, "WaterWorks", "WaterWorks", rfl, by decide, hown, Or.inl (hT _ k_450 _), (fun _ z => z)⟩
  have L124_3 : pq_fl s m args 124 3 0 := ⟨_, "WaterWorks", "WaterWorks$Customer", rfl, by decide, hown, Or.inr ⟨_, hT _ k_697 _⟩, (fun _ z => z)⟩
  have L21_0 : pq_fl s m args 21 0 1 := ⟨_, "WaterWorks", "WaterWorks", rfl, by decide, hown, Or.inl (hT _ k_451 _), (fun _ z => z)⟩
  unfold wb_Wa_fedOnes_12 at h
  refine lv_iload_n (pc := 12) hx hb d_Wa_fedOnes_12 rfl (lv_at hl 2 rfl) ?_
  refine lv_aload_n (pc := 13) hx hb d_Wa_fedOnes_13 rfl (lv_at hl 0 rfl) ?_
  obtain ⟨hk105, h⟩ := h
  obtain ⟨a106, ea106, h⟩ := h
  refine pq_geta (pc := 14) (f := 1) hx hb hT hK hP L21_0 hk105 rfl ea106 d_Wa_fedOnes_14 ?_
  obtain ⟨hk107, h⟩ := h
  refine cr_i (pc := 17) C (rest := [.int x3]) (mt_invV (As := []) hx hb hown (hT _ k_471 _) (hT _ k_472 _) (hT _ k_473 _) (mt_Cd.code (hT _ k_474 #[])) h_Ar_size (pq_recv hK hP hk107 rfl) n_Ar_size rfl d_Wa_fedOnes_17) (ct_Ar_size hfl D h) k_474 k_5 ⟨Nat.le_of_ble_eq_true rfl, Nat.le_of_ble_eq_true rfl⟩ ⟨(show cells + 0 ≤ 0 by omega), (show slots + 0 ≤ 0 by omega)⟩ hl.1 d_Wa_fedOnes_17 (Nat.le_of_ble_eq_true rfl) hP hS (fun x108 H locs h hP hS => ?_) (fun xx X H locs h hX hex hP hS => ?_)
  · refine lv_icmp_ge (pc := 20) (tgt := 63) hx hb d_Wa_fedOnes_20 (by decide) (fun c118 => ?_) (fun c118 => ?_)
    · replace h := h.1 c118
      refine lv_iload_n (pc := 63) hx hb d_Wa_fedOnes_63 rfl (lv_at hl 1 rfl) ?_
      exact we_i (pc := 64) hx hb hlocks hr hP hS (show cells + 0 + 0 ≤ 0 by omega) (show slots + 0 + 0 ≤ 0 by omega) h d_Wa_fedOnes_64
    · replace h := h.2 c118
      refine lv_iload_n (pc := 23) hx hb d_Wa_fedOnes_23 rfl (lv_at hl 1 rfl) ?_
      refine lv_aload_n (pc := 24) hx hb d_Wa_fedOnes_24 rfl (lv_at hl 0 rfl) ?_
      obtain ⟨a109, ea109, h⟩ := h
      refine pq_geta (pc := 25) (f := 0) hx hb hT hK hP L10_0 hk105 rfl ea109 d_Wa_fedOnes_25 ?_
      refine lv_aload_n (pc := 28) hx hb d_Wa_fedOnes_28 rfl (lv_at hl 0 rfl) ?_
      obtain ⟨a110, ea110, h⟩ := h
      refine pq_geta (pc := 29) (f := 1) hx hb hT hK hP L21_0 hk105 rfl ea110 d_Wa_fedOnes_29 ?_
      refine lv_iload_n (pc := 32) hx hb d_Wa_fedOnes_32 rfl (lv_at hl 2 rfl) ?_
      obtain ⟨hk111, h⟩ := h
      refine cr_a (pc := 33) C (rest := [.ref a109, .int x2]) (mt_invV (As := [.int x3]) hx hb hown (hT _ k_606 _) (hT _ k_607 _) (hT _ k_608 _) (mt_Cd.code (hT _ k_609 #[])) h_Ar_get (pq_recv hK hP hk111 rfl) n_Ar_get rfl d_Wa_fedOnes_33) (ct_Ar_get hfl D h) k_609 k_5 ⟨Nat.le_of_ble_eq_true rfl, Nat.le_of_ble_eq_true rfl⟩ ⟨(show cells + 0 + 0 ≤ 0 by omega), (show slots + 0 + 0 ≤ 0 by omega)⟩ hl.1 d_Wa_fedOnes_33 (Nat.le_of_ble_eq_true rfl) hP hS (fun a112 H locs h hP hS => ?_) (fun xx X H locs h hX hex hP hS => ?_)
      · obtain ⟨hk113, h⟩ := h
        refine pq_cast (pc := 36) hx hb hT hK hP hown k_688 hk113 rfl k_1351 d_Wa_fedOnes_36 ?_
        obtain ⟨a114, ea114, h⟩ := h
        refine pq_geta (pc := 39) (f := 120) hx hb hT hK hP L124_3 hk113 rfl ea114 d_Wa_fedOnes_39 ?_
        obtain ⟨hk115, h⟩ := h
        refine cr_i (pc := 42) C (rest := [.int x2]) (mt_invV (As := [.ref a114]) hx hb hown (hT _ k_807 _) (hT _ k_808 _) (hT _ k_809 _) (mt_Cd.code (hT _ k_810 #[])) h_Ne_isReached (pq_recv hK hP hk115 rfl) n_Ne_isReached rfl d_Wa_fedOnes_42) (ct_Ne_isReached hfl D h) k_810 k_2 ⟨Nat.le_of_ble_eq_true rfl, Nat.le_of_ble_eq_true rfl⟩ ⟨(show cells + 0 + 0 + 0 ≤ 0 by omega), (show slots + 0 + 0 + 0 ≤ 0 by omega)⟩ hl.1 d_Wa_fedOnes_42 (Nat.le_of_ble_eq_true rfl) hP hS (fun x116 H locs h hP hS => ?_) (fun xx X H locs h hX hex hP hS => ?_)
        · refine lv_if_eq (pc := 45) (tgt := 54) hx hb d_Wa_fedOnes_45 (by decide) (fun c117 => ?_) (fun c117 => ?_)
          · replace h := h.1 c117
            refine lv_iconst (pc := 54) (v := 0) hx hb d_Wa_fedOnes_54 (by decide) ?_
            exact wk_Wa_fedOnes_55 hfl C hmg hr hin htab HK12 _ a0 x3 (0 : Int32) x2 _ _ _ _ _ h hP hS (lv_sub hl [0, 2] rfl) (show cells + 0 + 0 + 0 + 0 ≤ 0 by omega) (show slots + 0 + 0 + 0 + 0 ≤ 0 by omega)
          · replace h := h.2 c117
            refine lv_iconst (pc := 48) (v := 1) hx hb d_Wa_fedOnes_48 (by decide) ?_
            refine lv_iload_n (pc := 49) hx hb d_Wa_fedOnes_49 rfl (lv_at hl 2 rfl) ?_
            refine lv_ishl (pc := 50) hx hb d_Wa_fedOnes_50 ?_
            refine lv_goto (pc := 51) (tgt := 55) hx hb d_Wa_fedOnes_51 (by decide) ?_
            exact wk_Wa_fedOnes_55 hfl C hmg hr hin htab HK12 _ a0 x3 ((1 : Int32) <<< (x3 &&& 31)) x2 _ _ _ _ _ h hP hS (lv_sub hl [0, 2] rfl) (show cells + 0 + 0 + 0 + 0 ≤ 0 by omega) (show slots + 0 + 0 + 0 + 0 ≤ 0 by omega)
        · exact cq_out hlocks (pq_nil htab rfl) (show cells + 0 + 0 + 0 + 0 ≤ 0 by omega) (show slots + 0 + 0 + 0 + 0 ≤ 0 by omega) hX hex hP hS h
      · exact cq_out hlocks (pq_nil htab rfl) (show cells + 0 + 0 + 0 ≤ 0 by omega) (show slots + 0 + 0 + 0 ≤ 0 by omega) hX hex hP hS h
  · exact cq_out hlocks (pq_nil htab rfl) (show cells + 0 + 0 ≤ 0 by omega) (show slots + 0 + 0 ≤ 0 by omega) hX hex hP hS h
theorem wm_Wa_fedOnes_12 {p : Program} {l : Launch} {e : Env} {s : State} {m : MethodId} {args : Array Value} {below : List Frame} {meth : Method} {c : Code} {D : pq_D} {P0 : Pic} {po : Option Value → Pic → Prop} {th : String → Pic → Prop} (hfl : l.flags = flags0) (C : Cx p e s m args meth c prog_1_method_20_code 4 "WaterWorks" D P0) (hmg : e.platform.magicAccessors = ({} : Platform).magicAccessors) (hr : meth.sig.returnType = (some .int)) (hin : meth.name = "fedOnes") (htab : c.exceptionTable.toList = tableOf []) : ∀ n : Nat, ∀ (P : Pic) (a0 : Nat) (x2 : Int32) (x3 : Int32) (H : Heap) (locs : List Loc) (cells slots : Nat) (ls : Array Slot), wl_Wa_fedOnes_12 po th n P a0 x2 x3 → Pi D P H → Sg (cq_A P0 s) s.heap H P locs → lv_has ls 4 [(0, .ref a0), (2, .int x2), (3, .int x3)] → cells + 0 ≤ 0 → slots + 0 ≤ 0 → W p l e rm_Wa_fedOnes s m args below meth c H locs cells slots (mt_MQ below (cq_Q D P0 false po th) args s 0 0 (cq_free P0 false)) (F0 m 12 ls []) := by
  intro n
  induction n with
  | zero => intro P a0 x2 x3 H locs cells slots ls h; exact h.elim
  | succ n ih => exact wk_Wa_fedOnes_12 hfl C hmg hr hin htab ih
set_option maxHeartbeats 4000000 in
set_option maxRecDepth 100000 in
theorem ct_Wa_fedOnes {l : Launch} (hfl : l.flags = flags0) (D : pq_D) {po : Option Value → Pic → Prop} {th : String → Pic → Prop} {P : Pic} {a0 : Nat} {a1 : Nat} (h : wp_Wa_fedOnes po th P a0 a1) : CT l D y_Wa_fedOnes (.code y_Wa_fedOnes prog_1_method_20_code 4 (some .int)) rm_Wa_fedOnes false [.ref a0, .ref a1] P po th := by
  refine ct_of (hs := []) hfl (by decide +kernel) (Or.inl ⟨rfl, rfl⟩) (Nat.le_of_ble_eq_true rfl) ?_
  intro p e s m below meth c C hmg hr hin htab ls hl
  have hl : lv_has ls 4 [(0, .ref a0), (1, .ref a1)] := hl
  generalize hargs : ([.ref a0, .ref a1] : List Value).toArray = args at C ⊢
  obtain ⟨hx, hb, hml, hown, hlocks, htr, hT, hK, hSt, hN, hP0⟩ := id C
  have L10_0 : pq_fl s m args 10 0 0 := ⟨_, "WaterWorks", "WaterWorks", rfl, by decide, hown, Or.inl (hT _ k_450 _), (fun _ z => z)⟩
  have L124_3 : pq_fl s m args 124 3 0 := ⟨_, "WaterWorks", "WaterWorks$Customer", rfl, by decide, hown, Or.inr ⟨_, hT _ k_697 _⟩, (fun _ z => z)⟩
  have L21_0 : pq_fl s m args 21 0 1 := ⟨_, "WaterWorks", "WaterWorks", rfl, by decide, hown, Or.inl (hT _ k_451 _), (fun _ z => z)⟩
  have hP : Pi D P s.heap := hP0
  have hS : Sg (cq_A P s) s.heap s.heap P [] := Sg.start hP0
  unfold wp_Wa_fedOnes at h
  refine lv_aload_n (pc := 0) hx hb d_Wa_fedOnes_0 rfl (lv_at hl 0 rfl) ?_
  obtain ⟨hk101, h⟩ := h
  obtain ⟨a102, ea102, h⟩ := h
  refine pq_geta (pc := 1) (f := 0) hx hb hT hK hP L10_0 hk101 rfl ea102 d_Wa_fedOnes_1 ?_
  refine lv_aload_n (pc := 4) hx hb d_Wa_fedOnes_4 rfl (lv_at hl 1 rfl) ?_
  obtain ⟨hk103, h⟩ := h
  refine cc_v (pc := 5) C (rest := []) (mt_invV (As := [.ref a1]) hx hb hown (hT _ k_761 _) (hT _ k_762 _) (hT _ k_763 _) (mt_Cd.code (hT _ k_764 #[])) h_Ne_fromSources (pq_recv hK hP hk103 rfl) n_Ne_fromSources rfl d_Wa_fedOnes_5) (ct_Ne_fromSources hfl D h) k_764 k_2 ⟨Nat.le_of_ble_eq_true rfl, Nat.le_of_ble_eq_true rfl⟩ ⟨(show 0 + 0 ≤ 0 by omega), (show 0 + 0 ≤ 0 by omega)⟩ hl.1 d_Wa_fedOnes_5 (Nat.le_of_ble_eq_true rfl) hP hS (fun P104 H locs h hP hS => ?_) (fun xx X P104 H locs h hX hex hP hS => ?_)
  · refine lv_iconst (pc := 8) (v := 0) hx hb d_Wa_fedOnes_8 (by decide) ?_
    refine lv_istore_n (pc := 9) (lv' := [(2, .int (0 : Int32)), (0, .ref a0), (1, .ref a1)]) hx hb d_Wa_fedOnes_9 rfl hl (by decide) rfl (fun ls hl => ?_)
    refine lv_iconst (pc := 10) (v := 0) hx hb d_Wa_fedOnes_10 (by decide) ?_
    refine lv_istore_n (pc := 11) (lv' := [(3, .int (0 : Int32)), (2, .int (0 : Int32)), (0, .ref a0), (1, .ref a1)]) hx hb d_Wa_fedOnes_11 rfl hl (by decide) rfl (fun ls hl => ?_)
    obtain ⟨n, h⟩ := h
    exact wm_Wa_fedOnes_12 hfl C hmg hr hin htab n _ a0 (0 : Int32) (0 : Int32) _ _ _ _ _ h hP hS (lv_sub hl [2, 1, 0] rfl) (show 0 + 0 + 0 ≤ 0 by omega) (show 0 + 0 + 0 ≤ 0 by omega)
  · exact cq_out hlocks (pq_nil htab rfl) (show 0 + 0 + 0 ≤ 0 by omega) (show 0 + 0 + 0 ≤ 0 by omega) hX hex hP hS h
/-! WaterWorks.dry(I)I -/
abbrev y_Wa_dry : MethodName := ⟨"WaterWorks", "dry", "(I)I"⟩
abbrev rm_Wa_dry : Room := { frames := 8, cells := 1, slots := 6, locals := 270 }
theorem h_Wa_dry : y_Wa_dry.cls ≠ "java/lang/invoke/MethodHandle" ∧ y_Wa_dry.cls ≠ "java/lang/invoke/VarHandle" := by decide +kernel
theorem n_Wa_dry : (parseMethodDescriptor y_Wa_dry.desc).map (fun d => d.parameters.length) = some 1 := by decide +kernel
theorem d_Wa_dry_0 : decode prog_1_method_21_code 0 = .ok (.aload_n 0, 1) := by decide +kernel
theorem d_Wa_dry_1 : decode prog_1_method_21_code 1 = .ok (.getfield 10, 3) := by decide +kernel
theorem d_Wa_dry_4 : decode prog_1_method_21_code 4 = .ok (.aload_n 0, 1) := by decide +kernel
theorem d_Wa_dry_5 : decode prog_1_method_21_code 5 = .ok (.iload_n 1, 1) := by decide +kernel
theorem d_Wa_dry_6 : decode prog_1_method_21_code 6 = .ok (.invokevirtual 132, 3) := by decide +kernel
theorem d_Wa_dry_9 : decode prog_1_method_21_code 9 = .ok (.invokevirtual 136, 3) := by decide +kernel
theorem d_Wa_dry_12 : decode prog_1_method_21_code 12 = .ok (.ifCond .eq 31, 3) := by decide +kernel
theorem d_Wa_dry_15 : decode prog_1_method_21_code 15 = .ok (.aload_n 0, 1) := by decide +kernel
theorem d_Wa_dry_16 : decode prog_1_method_21_code 16 = .ok (.aload_n 0, 1) := by decide +kernel
theorem d_Wa_dry_17 : decode prog_1_method_21_code 17 = .ok (.getfield 10, 3) := by decide +kernel
theorem d_Wa_dry_20 : decode prog_1_method_21_code 20 = .ok (.getfield 116, 3) := by decide +kernel
theorem d_Wa_dry_23 : decode prog_1_method_21_code 23 = .ok (.invokevirtual 148, 3) := by decide +kernel
theorem d_Wa_dry_26 : decode prog_1_method_21_code 26 = .ok (.aload_n 0, 1) := by decide +kernel
theorem d_Wa_dry_27 : decode prog_1_method_21_code 27 = .ok (.aload_n 0, 1) := by decide +kernel
theorem d_Wa_dry_28 : decode prog_1_method_21_code 28 = .ok (.getfield 10, 3) := by decide +kernel
theorem d_Wa_dry_31 : decode prog_1_method_21_code 31 = .ok (.getfield 152, 3) := by decide +kernel
theorem d_Wa_dry_34 : decode prog_1_method_21_code 34 = .ok (.invokevirtual 148, 3) := by decide +kernel
theorem d_Wa_dry_37 : decode prog_1_method_21_code 37 = .ok (.iconst (-1), 1) := by decide +kernel
theorem d_Wa_dry_38 : decode prog_1_method_21_code 38 = .ok (.ixor, 1) := by decide +kernel
theorem d_Wa_dry_39 : decode prog_1_method_21_code 39 = .ok (.iand, 1) := by decide +kernel
theorem d_Wa_dry_40 : decode prog_1_method_21_code 40 = .ok (.goto 4, 3) := by decide +kernel
theorem d_Wa_dry_43 : decode prog_1_method_21_code 43 = .ok (.iconst 0, 1) := by decide +kernel
theorem d_Wa_dry_44 : decode prog_1_method_21_code 44 = .ok (.ireturn, 1) := by decide +kernel
def wp_Wa_dry (po : Option Value → Pic → Prop) (th : String → Pic → Prop) (P : Pic) (a0 : Nat) (x1 : Int32) : Prop := p_k P a0 = 1 ∧ ∃ a102, p_r P 0 a0 = some a102 ∧ wp_Wa_middleOf (cp_a fun a103 _ => p_k P a102 = 7 ∧ wp_Ne_plan (cp_i fun x105 P106 => ((x105 = 0 → (po (some (.int (0 : Int32))) P106)) ∧ (¬ x105 = 0 → (p_k P106 a0 = 1 ∧ ∃ a108, p_r P106 0 a0 = some a108 ∧ p_k P106 a108 = 7 ∧ ∃ a110, p_r P106 243 a108 = some a110 ∧ wp_Wa_fedOnes (cp_i fun x111 P112 => p_k P112 a0 = 1 ∧ ∃ a114, p_r P112 0 a0 = some a114 ∧ p_k P112 a114 = 7 ∧ ∃ a116, p_r P112 244 a114 = some a116 ∧ wp_Wa_fedOnes (cp_i fun x117 P118 => po (some (.int (x111 &&& (x117 ^^^ (-1 : Int32))))) P118) th P112 a0 a116) th P106 a0 a110)))) th P a102 a103) th P a0 x1
set_option maxHeartbeats 4000000 in
set_option maxRecDepth 100000 in
theorem ct_Wa_dry {l : Launch} (hfl : l.flags = flags0) (D : pq_D) {po : Option Value → Pic → Prop} {th : String → Pic → Prop} {P : Pic} {a0 : Nat} {x1 : Int32} (h : wp_Wa_dry po th P a0 x1) : CT l D y_Wa_dry (.code y_Wa_dry prog_1_method_21_code 2 (some .int)) rm_Wa_dry false [.ref a0, .int x1] P po th := by
  refine ct_of (hs := []) hfl (by decide +kernel) (Or.inl ⟨rfl, rfl⟩) (Nat.le_of_ble_eq_true rfl) ?_
  intro p e s m below meth c C hmg hr hin htab ls hl
  have hl : lv_has ls 2 [(0, .ref a0), (1, .int x1)] := hl
  generalize hargs : ([.ref a0, .int x1] : List Value).toArray = args at C ⊢
  obtain ⟨hx, hb, hml, hown, hlocks, htr, hT, hK, hSt, hN, hP0⟩ := id C
  have L10_0 : pq_fl s m args 10 0 0 := ⟨_, "WaterWorks", "WaterWorks", rfl, by decide, hown, Or.inl (hT _ k_450 _), (fun _ z => z)⟩
  have L116_6 : pq_fl s m args 116 6 3 := ⟨_, "WaterWorks", "WaterWorks$Net", rfl, by decide, hown, Or.inr ⟨_, hT _ k_422 _⟩, (fun _ z => z)⟩
  have L152_6 : pq_fl s m args 152 6 4 := ⟨_, "WaterWorks", "WaterWorks$Net", rfl, by decide, hown, Or.inr ⟨_, hT _ k_424 _⟩, (fun _ z => z)⟩
  have hP : Pi D P s.heap := hP0
  have hS : Sg (cq_A P s) s.heap s.heap P [] := Sg.start hP0
  unfold wp_Wa_dry at h
  refine lv_aload_n (pc := 0) hx hb d_Wa_dry_0 rfl (lv_at hl 0 rfl) ?_
  obtain ⟨hk101, h⟩ := h
  obtain ⟨a102, ea102, h⟩ := h
  refine pq_geta (pc := 1) (f := 0) hx hb hT hK hP L10_0 hk101 rfl ea102 d_Wa_dry_1 ?_
  refine lv_aload_n (pc := 4) hx hb d_Wa_dry_4 rfl (lv_at hl 0 rfl) ?_
  refine lv_iload_n (pc := 5) hx hb d_Wa_dry_5 rfl (lv_at hl 1 rfl) ?_
  refine cr_a (pc := 6) C (rest := [.ref a102]) (mt_invV (As := [.int x1]) hx hb hown (hT _ k_818 _) (hT _ k_820 _) (hT _ ks_9 _) (mt_Cd.code (hT _ k_821 #[])) h_Wa_middleOf (pq_recv hK hP hk101 rfl) n_Wa_middleOf rfl d_Wa_dry_6) (ct_Wa_middleOf hfl D h) k_821 k_1 ⟨Nat.le_of_ble_eq_true rfl, Nat.le_of_ble_eq_true rfl⟩ ⟨(show 0 + 1 ≤ 1 by omega), (show 0 + 6 ≤ 6 by omega)⟩ hl.1 d_Wa_dry_6 (Nat.le_of_ble_eq_true rfl) hP hS (fun a103 H locs h hP hS => ?_) (fun xx X H locs h hX hex hP hS => ?_)
  · obtain ⟨hk104, h⟩ := h
    refine cc_i (pc := 9) C (rest := []) (mt_invV (As := [.ref a103]) hx hb hown (hT _ k_822 _) (hT _ k_823 _) (hT _ k_824 _) (mt_Cd.code (hT _ k_825 #[])) h_Ne_plan (pq_recv hK hP hk104 rfl) n_Ne_plan rfl d_Wa_dry_9) (ct_Ne_plan hfl D h) k_825 k_2 ⟨Nat.le_of_ble_eq_true rfl, Nat.le_of_ble_eq_true rfl⟩ ⟨(show 0 + 1 + 0 ≤ 1 by omega), (show 0 + 6 + 0 ≤ 6 by omega)⟩ hl.1 d_Wa_dry_9 (Nat.le_of_ble_eq_true rfl) hP hS (fun x105 P106 H locs h hP hS => ?_) (fun xx X P106 H locs h hX hex hP hS => ?_)
    · refine lv_if_eq (pc := 12) (tgt := 43) hx hb d_Wa_dry_12 (by decide) (fun c119 => ?_) (fun c119 => ?_)
      · replace h := h.1 c119
        refine lv_iconst (pc := 43) (v := 0) hx hb d_Wa_dry_43 (by decide) ?_
        exact we_i (pc := 44) hx hb hlocks hr hP hS (show 0 + 1 + 0 + 0 ≤ 1 by omega) (show 0 + 6 + 0 + 0 ≤ 6 by omega) h d_Wa_dry_44
      · replace h := h.2 c119
        refine lv_aload_n (pc := 15) hx hb d_Wa_dry_15 rfl (lv_at hl 0 rfl) ?_
        refine lv_aload_n (pc := 16) hx hb d_Wa_dry_16 rfl (lv_at hl 0 rfl) ?_
        obtain ⟨hk107, h⟩ := h
        obtain ⟨a108, ea108, h⟩ := h
        refine pq_geta (pc := 17) (f := 0) hx hb hT hK hP L10_0 hk107 rfl ea108 d_Wa_dry_17 ?_
        obtain ⟨hk109, h⟩ := h
        obtain ⟨a110, ea110, h⟩ := h
        refine pq_geta (pc := 20) (f := 243) hx hb hT hK hP L116_6 hk109 rfl ea110 d_Wa_dry_20 ?_
        refine cc_i (pc := 23) C (rest := []) (mt_invV (As := [.ref a110]) hx hb hown (hT _ k_855 _) (hT _ k_857 _) (hT _ ks_11 _) (mt_Cd.code (hT _ k_858 #[])) h_Wa_fedOnes (pq_recv hK hP hk107 rfl) n_Wa_fedOnes rfl d_Wa_dry_23) (ct_Wa_fedOnes hfl D h) k_858 k_1 ⟨Nat.le_of_ble_eq_true rfl, Nat.le_of_ble_eq_true rfl⟩ ⟨(show 0 + 1 + 0 + 0 ≤ 1 by omega), (show 0 + 6 + 0 + 0 ≤ 6 by omega)⟩ hl.1 d_Wa_dry_23 (Nat.le_of_ble_eq_true rfl) hP hS (fun x111 P112 H locs h hP hS => ?_) (fun xx X P112 H locs h hX hex hP hS => ?_)
        · refine lv_aload_n (pc := 26) hx hb d_Wa_dry_26 rfl (lv_at hl 0 rfl) ?_
          refine lv_aload_n (pc := 27) hx hb d_Wa_dry_27 rfl (lv_at hl 0 rfl) ?_
          obtain ⟨hk113, h⟩ := h
          obtain ⟨a114, ea114, h⟩ := h
          refine pq_geta (pc := 28) (f := 0) hx hb hT hK hP L10_0 hk113 rfl ea114 d_Wa_dry_28 ?_
          obtain ⟨hk115, h⟩ := h
          obtain ⟨a116, ea116, h⟩ := h
          refine pq_geta (pc := 31) (f := 244) hx hb hT hK hP L152_6 hk115 rfl ea116 d_Wa_dry_31 ?_
          refine cc_i (pc := 34) C (rest := [.int x111]) (mt_invV (As := [.ref a116]) hx hb hown (hT _ k_855 _) (hT _ k_857 _) (hT _ ks_11 _) (mt_Cd.code (hT _ k_858 #[])) h_Wa_fedOnes (pq_recv hK hP hk113 rfl) n_Wa_fedOnes rfl d_Wa_dry_34) (ct_Wa_fedOnes hfl D h) k_858 k_1 ⟨Nat.le_of_ble_eq_true rfl, Nat.le_of_ble_eq_true rfl⟩ ⟨(show 0 + 1 + 0 + 0 + 0 ≤ 1 by omega), (show 0 + 6 + 0 + 0 + 0 ≤ 6 by omega)⟩ hl.1 d_Wa_dry_34 (Nat.le_of_ble_eq_true rfl) hP hS (fun x117 P118 H locs h hP hS => ?_) (fun xx X P118 H locs h hX hex hP hS => ?_)
          · refine lv_iconst (pc := 37) (v := (-1)) hx hb d_Wa_dry_37 (by decide) ?_
            refine lv_ixor (pc := 38) hx hb d_Wa_dry_38 ?_
            refine lv_iand (pc := 39) hx hb d_Wa_dry_39 ?_
            refine lv_goto (pc := 40) (tgt := 44) hx hb d_Wa_dry_40 (by decide) ?_
            exact we_i (pc := 44) hx hb hlocks hr hP hS (show 0 + 1 + 0 + 0 + 0 + 0 ≤ 1 by omega) (show 0 + 6 + 0 + 0 + 0 + 0 ≤ 6 by omega) h d_Wa_dry_44
          · exact cq_out hlocks (pq_nil htab rfl) (show 0 + 1 + 0 + 0 + 0 + 0 ≤ 1 by omega) (show 0 + 6 + 0 + 0 + 0 + 0 ≤ 6 by omega) hX hex hP hS h
        · exact cq_out hlocks (pq_nil htab rfl) (show 0 + 1 + 0 + 0 + 0 ≤ 1 by omega) (show 0 + 6 + 0 + 0 + 0 ≤ 6 by omega) hX hex hP hS h
    · exact cq_out hlocks (pq_nil htab rfl) (show 0 + 1 + 0 + 0 ≤ 1 by omega) (show 0 + 6 + 0 + 0 ≤ 6 by omega) hX hex hP hS h
  · exact cq_out hlocks (pq_nil htab rfl) (show 0 + 1 + 0 ≤ 1 by omega) (show 0 + 6 + 0 ≤ 6 by omega) hX hex hP hS h
/-! WaterWorks.carryOut(I)I -/
abbrev y_Wa_carryOut : MethodName := ⟨"WaterWorks", "carryOut", "(I)I"⟩
abbrev rm_Wa_carryOut : Room := { frames := 8, cells := 1, slots := 6, locals := 270 }
theorem h_Wa_carryOut : y_Wa_carryOut.cls ≠ "java/lang/invoke/MethodHandle" ∧ y_Wa_carryOut.cls ≠ "java/lang/invoke/VarHandle" := by decide +kernel
theorem n_Wa_carryOut : (parseMethodDescriptor y_Wa_carryOut.desc).map (fun d => d.parameters.length) = some 1 := by decide +kernel
theorem d_Wa_carryOut_0 : decode prog_1_method_22_code 0 = .ok (.aload_n 0, 1) := by decide +kernel
theorem d_Wa_carryOut_1 : decode prog_1_method_22_code 1 = .ok (.getfield 10, 3) := by decide +kernel
theorem d_Wa_carryOut_4 : decode prog_1_method_22_code 4 = .ok (.aload_n 0, 1) := by decide +kernel
theorem d_Wa_carryOut_5 : decode prog_1_method_22_code 5 = .ok (.iload_n 1, 1) := by decide +kernel
theorem d_Wa_carryOut_6 : decode prog_1_method_22_code 6 = .ok (.invokevirtual 132, 3) := by decide +kernel
theorem d_Wa_carryOut_9 : decode prog_1_method_22_code 9 = .ok (.invokevirtual 136, 3) := by decide +kernel
theorem d_Wa_carryOut_12 : decode prog_1_method_22_code 12 = .ok (.ifCond .ne 5, 3) := by decide +kernel
theorem d_Wa_carryOut_15 : decode prog_1_method_22_code 15 = .ok (.iconst (-1), 1) := by decide +kernel
theorem d_Wa_carryOut_16 : decode prog_1_method_22_code 16 = .ok (.ireturn, 1) := by decide +kernel
theorem d_Wa_carryOut_17 : decode prog_1_method_22_code 17 = .ok (.iconst 0, 1) := by decide +kernel
theorem d_Wa_carryOut_18 : decode prog_1_method_22_code 18 = .ok (.istore_n 2, 1) := by decide +kernel
theorem d_Wa_carryOut_19 : decode prog_1_method_22_code 19 = .ok (.iload_n 2, 1) := by decide +kernel
theorem d_Wa_carryOut_20 : decode prog_1_method_22_code 20 = .ok (.aload_n 0, 1) := by decide +kernel
theorem d_Wa_carryOut_21 : decode prog_1_method_22_code 21 = .ok (.getfield 10, 3) := by decide +kernel
theorem d_Wa_carryOut_24 : decode prog_1_method_22_code 24 = .ok (.getfield 81, 3) := by decide +kernel
theorem d_Wa_carryOut_27 : decode prog_1_method_22_code 27 = .ok (.invokevirtual 43, 3) := by decide +kernel
theorem d_Wa_carryOut_30 : decode prog_1_method_22_code 30 = .ok (.if_icmp .ge 56, 3) := by decide +kernel
theorem d_Wa_carryOut_33 : decode prog_1_method_22_code 33 = .ok (.aload_n 0, 1) := by decide +kernel
theorem d_Wa_carryOut_34 : decode prog_1_method_22_code 34 = .ok (.getfield 10, 3) := by decide +kernel
theorem d_Wa_carryOut_37 : decode prog_1_method_22_code 37 = .ok (.getfield 81, 3) := by decide +kernel
theorem d_Wa_carryOut_40 : decode prog_1_method_22_code 40 = .ok (.iload_n 2, 1) := by decide +kernel
theorem d_Wa_carryOut_41 : decode prog_1_method_22_code 41 = .ok (.invokevirtual 51, 3) := by decide +kernel
theorem d_Wa_carryOut_44 : decode prog_1_method_22_code 44 = .ok (.checkcast 84, 3) := by decide +kernel
theorem d_Wa_carryOut_47 : decode prog_1_method_22_code 47 = .ok (.dup, 1) := by decide +kernel
theorem d_Wa_carryOut_48 : decode prog_1_method_22_code 48 = .ok (.getfield 109, 3) := by decide +kernel
theorem d_Wa_carryOut_51 : decode prog_1_method_22_code 51 = .ok (.aload_n 0, 1) := by decide +kernel
theorem d_Wa_carryOut_52 : decode prog_1_method_22_code 52 = .ok (.getfield 10, 3) := by decide +kernel
theorem d_Wa_carryOut_55 : decode prog_1_method_22_code 55 = .ok (.getfield 81, 3) := by decide +kernel
theorem d_Wa_carryOut_58 : decode prog_1_method_22_code 58 = .ok (.iload_n 2, 1) := by decide +kernel
theorem d_Wa_carryOut_59 : decode prog_1_method_22_code 59 = .ok (.invokevirtual 51, 3) := by decide +kernel
theorem d_Wa_carryOut_62 : decode prog_1_method_22_code 62 = .ok (.checkcast 84, 3) := by decide +kernel
theorem d_Wa_carryOut_65 : decode prog_1_method_22_code 65 = .ok (.getfield 142, 3) := by decide +kernel
theorem d_Wa_carryOut_68 : decode prog_1_method_22_code 68 = .ok (.ifCond .ne 7, 3) := by decide +kernel
theorem d_Wa_carryOut_71 : decode prog_1_method_22_code 71 = .ok (.iconst 1, 1) := by decide +kernel
theorem d_Wa_carryOut_72 : decode prog_1_method_22_code 72 = .ok (.goto 4, 3) := by decide +kernel
theorem d_Wa_carryOut_75 : decode prog_1_method_22_code 75 = .ok (.iconst 0, 1) := by decide +kernel
theorem d_Wa_carryOut_76 : decode prog_1_method_22_code 76 = .ok (.iand, 1) := by decide +kernel
theorem d_Wa_carryOut_77 : decode prog_1_method_22_code 77 = .ok (.putfield 109, 3) := by decide +kernel
theorem d_Wa_carryOut_80 : decode prog_1_method_22_code 80 = .ok (.iinc 2 1, 3) := by decide +kernel
theorem d_Wa_carryOut_83 : decode prog_1_method_22_code 83 = .ok (.goto (-64), 3) := by decide +kernel
theorem d_Wa_carryOut_86 : decode prog_1_method_22_code 86 = .ok (.aload_n 0, 1) := by decide +kernel
theorem d_Wa_carryOut_87 : decode prog_1_method_22_code 87 = .ok (.getfield 10, 3) := by decide +kernel
theorem d_Wa_carryOut_90 : decode prog_1_method_22_code 90 = .ok (.invokevirtual 139, 3) := by decide +kernel
theorem d_Wa_carryOut_93 : decode prog_1_method_22_code 93 = .ok (.ireturn, 1) := by decide +kernel
def wb_Wa_carryOut_76 (po : Option Value → Pic → Prop) (th : String → Pic → Prop) (K19 : Pic → Nat → Int32 → Prop) (P : Pic) (a0 : Nat) (x2 : Int32) (t0 : Int32) (t1 : Int32) (t2 : Nat) : Prop := p_k P t2 = 5 ∧ ((t1 &&& t0) = 0 ∨ (t1 &&& t0) = 1) ∧ ∀ (x133 : Int32), x133 = x2 + 1 → K19 (s_i P 164 t2 (t1 &&& t0)) a0 x133
def wb_Wa_carryOut_19 (po : Option Value → Pic → Prop) (th : String → Pic → Prop) (K19 : Pic → Nat → Int32 → Prop) (P : Pic) (a0 : Nat) (x2 : Int32) : Prop := p_k P a0 = 1 ∧ ∃ a109, p_r P 0 a0 = some a109 ∧ p_k P a109 = 7 ∧ ∃ a111, p_r P 242 a109 = some a111 ∧ p_k P a111 = 14 ∧ wp_Ar_size (cp_i fun x113 _ => ((x113 ≤ x2 → (∃ a114, p_r P 0 a0 = some a114 ∧ p_k P a114 = 7 ∧ wp_Ne_planned (cp_i fun x116 _ => po (some (.int x116)) P) th P a114)) ∧ (¬ x113 ≤ x2 → (∃ a117, p_r P 0 a0 = some a117 ∧ p_k P a117 = 7 ∧ ∃ a119, p_r P 242 a117 = some a119 ∧ p_k P a119 = 14 ∧ wp_Ar_get (cp_a fun a121 _ => p_k P a121 = 5 ∧ ∃ a123, p_r P 0 a0 = some a123 ∧ p_k P a123 = 7 ∧ ∃ a125, p_r P 242 a123 = some a125 ∧ p_k P a125 = 14 ∧ wp_Ar_get (cp_a fun a127 _ => p_k P a127 = 5 ∧ ((¬ (p_i P 166 a127) = 0 → (wb_Wa_carryOut_76 po th K19 P a0 x2 (0 : Int32) (p_i P 164 a121) a121)) ∧ ((p_i P 166 a127) = 0 → (wb_Wa_carryOut_76 po th K19 P a0 x2 (1 : Int32) (p_i P 164 a121) a121)))) th P a125 x2) th P a119 x2)))) th P a111
def wl_Wa_carryOut_19 (po : Option Value → Pic → Prop) (th : String → Pic → Prop) : Nat → Pic → Nat → Int32 → Prop
  | 0 => fun _ _ _ => False
  | n + 1 => wb_Wa_carryOut_19 po th (wl_Wa_carryOut_19 po th n)
def wp_Wa_carryOut (po : Option Value → Pic → Prop) (th : String → Pic → Prop) (P : Pic) (a0 : Nat) (x1 : Int32) : Prop := p_k P a0 = 1 ∧ ∃ a102, p_r P 0 a0 = some a102 ∧ wp_Wa_middleOf (cp_a fun a103 _ => p_k P a102 = 7 ∧ wp_Ne_plan (cp_i fun x105 P106 => ((¬ x105 = 0 → (∃ n, wl_Wa_carryOut_19 po th n P106 a0 (0 : Int32))) ∧ (x105 = 0 → (po (some (.int (-1 : Int32))) P106)))) th P a102 a103) th P a0 x1
set_option maxHeartbeats 4000000 in
set_option maxRecDepth 100000 in
theorem wk_Wa_carryOut_76 {p : Program} {l : Launch} {e : Env} {s : State} {m : MethodId} {args : Array Value} {below : List Frame} {meth : Method} {c : Code} {D : pq_D} {P0 : Pic} {po : Option Value → Pic → Prop} {th : String → Pic → Prop} {K19 : Pic → Nat → Int32 → Prop} (hfl : l.flags = flags0) (C : Cx p e s m args meth c prog_1_method_22_code 3 "WaterWorks" D P0) (hmg : e.platform.magicAccessors = ({} : Platform).magicAccessors) (hr : meth.sig.returnType = (some .int)) (hin : meth.name = "carryOut") (htab : c.exceptionTable.toList = tableOf []) (HK19 : ∀ (P : Pic) (a0 : Nat) (x2 : Int32) (H : Heap) (locs : List Loc) (cells slots : Nat) (ls : Array Slot), K19 P a0 x2 → Pi D P H → Sg (cq_A P0 s) s.heap H P locs → lv_has ls 3 [(0, .ref a0), (2, .int x2)] → cells + 0 ≤ 1 → slots + 0 ≤ 6 → W p l e rm_Wa_carryOut s m args below meth c H locs cells slots (mt_MQ below (cq_Q D P0 false po th) args s 1 6 (cq_free P0 false)) (F0 m 19 ls [])) : ∀ (P : Pic) (a0 : Nat) (x2 : Int32) (t0 : Int32) (t1 : Int32) (t2 : Nat) (H : Heap) (locs : List Loc) (cells slots : Nat) (ls : Array Slot), wb_Wa_carryOut_76 po th K19 P a0 x2 t0 t1 t2 → Pi D P H → Sg (cq_A P0 s) s.heap H P locs → lv_has ls 3 [(0, .ref a0), (2, .int x2)] → cells + 0 ≤ 1 → slots + 0 ≤ 6 → W p l e rm_Wa_carryOut s m args below meth c H locs cells slots (mt_MQ below (cq_Q D P0 false po th) args s 1 6 (cq_free P0 false)) (F0 m 76 ls [.int t0, .int t1, .ref t2]) := by
  intro P a0 x2 t0 t1 t2 H locs cells slots ls h hP hS hl hcc hss
  obtain ⟨hx, hb, hml, hown, hlocks, htr, hT, hK, hSt, hN, hP0⟩ := id C
  have L109_4 : pq_fl s m args 109 4 4 := ⟨_, "WaterWorks", "WaterWorks$End", rfl, by decide, hown, Or.inr ⟨_, hT _ k_653 _⟩, (fun _ z => z)⟩
  have L10_0 : pq_fl s m args 10 0 0 := ⟨_, "WaterWorks", "WaterWorks", rfl, by decide, hown, Or.inl (hT _ k_450 _), (fun _ z => z)⟩
  have L142_4 : pq_fl s m args 142 4 6 := ⟨_, "WaterWorks", "WaterWorks$End", rfl, by decide, hown, Or.inr ⟨_, hT _ k_658 _⟩, (fun _ z => z)⟩
  have L81_6 : pq_fl s m args 81 6 2 := ⟨_, "WaterWorks", "WaterWorks$Net", rfl, by decide, hown, Or.inr ⟨_, hT _ k_420 _⟩, (fun _ z => z)⟩
  unfold wb_Wa_carryOut_76 at h
  refine lv_iand (pc := 76) hx hb d_Wa_carryOut_76 ?_
  obtain ⟨hk131, h⟩ := h
  obtain ⟨hz132, h⟩ := h
  refine pq_puti (pc := 77) (f := 164) hx hb hT hK hP hS L109_4 hk131 rfl rfl (pq_nz hz132).1 (pq_nz hz132).2 d_Wa_carryOut_77 (fun H locs hP hS => ?_)
  have hk131 : p_k (s_i P 164 t2 (t1 &&& t0)) t2 = 5 := by rw [pk_i]; exact hk131
  obtain ⟨x133, ex133⟩ : ∃ z : Int32, z = x2 + 1 := ⟨_, rfl⟩
  replace h := h x133 ex133
  refine lv_iinc (pc := 80) (v := x133) (lv' := [(2, .int x133), (0, .ref a0)]) hx hb d_Wa_carryOut_80 hl (k := 1) rfl (by rw [ex133]; rfl) (by decide) rfl (fun ls hl => ?_)
  refine lv_goto (pc := 83) (tgt := 19) hx hb d_Wa_carryOut_83 (by decide) ?_
  exact HK19 _ a0 x133 _ _ _ _ _ h hP hS (lv_sub hl [1, 0] rfl) (show cells + 0 ≤ 1 by omega) (show slots + 0 ≤ 6 by omega)
set_option maxHeartbeats 4000000 in
set_option maxRecDepth 100000 in
theorem wk_Wa_carryOut_19 {p : Program} {l : Launch} {e : Env} {s : State} {m : MethodId} {args : Array Value} {below : List Frame} {meth : Method} {c : Code} {D : pq_D} {P0 : Pic} {po : Option Value → Pic → Prop} {th : String → Pic → Prop} {K19 : Pic → Nat → Int32 → Prop} (hfl : l.flags = flags0) (C : Cx p e s m args meth c prog_1_method_22_code 3 "WaterWorks" D P0) (hmg : e.platform.magicAccessors = ({} : Platform).magicAccessors) (hr : meth.sig.returnType = (some .int)) (hin : meth.name = "carryOut") (htab : c.exceptionTable.toList = tableOf []) (HK19 : ∀ (P : Pic) (a0 : Nat) (x2 : Int32) (H : Heap) (locs : List Loc) (cells slots : Nat) (ls : Array Slot), K19 P a0 x2 → Pi D P H → Sg (cq_A P0 s) s.heap H P locs → lv_has ls 3 [(0, .ref a0), (2, .int x2)] → cells + 0 ≤ 1 → slots + 0 ≤ 6 → W p l e rm_Wa_carryOut s m args below meth c H locs cells slots (mt_MQ below (cq_Q D P0 false po th) args s 1 6 (cq_free P0 false)) (F0 m 19 ls [])) : ∀ (P : Pic) (a0 : Nat) (x2 : Int32) (H : Heap) (locs : List Loc) (cells slots : Nat) (ls : Array Slot), wb_Wa_carryOut_19 po th K19 P a0 x2 → Pi D P H → Sg (cq_A P0 s) s.heap H P locs → lv_has ls 3 [(0, .ref a0), (2, .int x2)] → cells + 0 ≤ 1 → slots + 0 ≤ 6 → W p l e rm_Wa_carryOut s m args below meth c H locs cells slots (mt_MQ below (cq_Q D P0 false po th) args s 1 6 (cq_free P0 false)) (F0 m 19 ls []) := by
  intro P a0 x2 H locs cells slots ls h hP hS hl hcc hss
  obtain ⟨hx, hb, hml, hown, hlocks, htr, hT, hK, hSt, hN, hP0⟩ := id C
  have L109_4 : pq_fl s m args 109 4 4 := ⟨_, "WaterWorks", "WaterWorks$End", rfl, by decide, hown, Or.inr ⟨_, hT _ k_653 _⟩, (fun _ z => z)⟩
  have L10_0 : pq_fl s m args 10 0 0 := ⟨_, "WaterWorks", "WaterWorks", rfl, by decide, hown, Or.inl (hT _ k_450 _), (fun _ z => z)⟩
  have L142_4 : pq_fl s m args 142 4 6 := ⟨_, "WaterWorks", "WaterWorks$End", rfl, by decide, hown, Or.inr ⟨_, hT _ k_658 _⟩, (fun _ z => z)⟩
  have L81_6 : pq_fl s m args 81 6 2 := ⟨_, "WaterWorks", "WaterWorks$Net", rfl, by decide, hown, Or.inr ⟨_, hT _ k_420 _⟩, (fun _ z => z)⟩
  unfold wb_Wa_carryOut_19 at h
  refine lv_iload_n (pc := 19) hx hb d_Wa_carryOut_19 rfl (lv_at hl 1 rfl) ?_
  refine lv_aload_n (pc := 20) hx hb d_Wa_carryOut_20 rfl (lv_at hl 0 rfl) ?_
  obtain ⟨hk108, h⟩ := h
  obtain ⟨a109, ea109, h⟩ := h
  refine pq_geta (pc := 21) (f := 0) hx hb hT hK hP L10_0 hk108 rfl ea109 d_Wa_carryOut_21 ?_
  obtain ⟨hk110, h⟩ := h
  obtain ⟨a111, ea111, h⟩ := h
  refine pq_geta (pc := 24) (f := 242) hx hb hT hK hP L81_6 hk110 rfl ea111 d_Wa_carryOut_24 ?_
  obtain ⟨hk112, h⟩ := h
  refine cr_i (pc := 27) C (rest := [.int x2]) (mt_invV (As := []) hx hb hown (hT _ k_471 _) (hT _ k_472 _) (hT _ k_473 _) (mt_Cd.code (hT _ k_474 #[])) h_Ar_size (pq_recv hK hP hk112 rfl) n_Ar_size rfl d_Wa_carryOut_27) (ct_Ar_size hfl D h) k_474 k_5 ⟨Nat.le_of_ble_eq_true rfl, Nat.le_of_ble_eq_true rfl⟩ ⟨(show cells + 0 ≤ 1 by omega), (show slots + 0 ≤ 6 by omega)⟩ hl.1 d_Wa_carryOut_27 (Nat.le_of_ble_eq_true rfl) hP hS (fun x113 H locs h hP hS => ?_) (fun xx X H locs h hX hex hP hS => ?_)
  · refine lv_icmp_ge (pc := 30) (tgt := 86) hx hb d_Wa_carryOut_30 (by decide) (fun c130 => ?_) (fun c130 => ?_)
    · replace h := h.1 c130
      refine lv_aload_n (pc := 86) hx hb d_Wa_carryOut_86 rfl (lv_at hl 0 rfl) ?_
      obtain ⟨a114, ea114, h⟩ := h
      refine pq_geta (pc := 87) (f := 0) hx hb hT hK hP L10_0 hk108 rfl ea114 d_Wa_carryOut_87 ?_
      obtain ⟨hk115, h⟩ := h
      refine cr_i (pc := 90) C (rest := []) (mt_invV (As := []) hx hb hown (hT _ k_837 _) (hT _ k_838 _) (hT _ k_839 _) (mt_Cd.code (hT _ k_840 #[])) h_Ne_planned (pq_recv hK hP hk115 rfl) n_Ne_planned rfl d_Wa_carryOut_90) (ct_Ne_planned hfl D h) k_840 k_2 ⟨Nat.le_of_ble_eq_true rfl, Nat.le_of_ble_eq_true rfl⟩ ⟨(show cells + 0 + 0 ≤ 1 by omega), (show slots + 0 + 0 ≤ 6 by omega)⟩ hl.1 d_Wa_carryOut_90 (Nat.le_of_ble_eq_true rfl) hP hS (fun x116 H locs h hP hS => ?_) (fun xx X H locs h hX hex hP hS => ?_)
      · exact we_i (pc := 93) hx hb hlocks hr hP hS (show cells + 0 + 0 + 0 ≤ 1 by omega) (show slots + 0 + 0 + 0 ≤ 6 by omega) h d_Wa_carryOut_93
      · exact cq_out hlocks (pq_nil htab rfl) (show cells + 0 + 0 + 0 ≤ 1 by omega) (show slots + 0 + 0 + 0 ≤ 6 by omega) hX hex hP hS h
    · replace h := h.2 c130
      refine lv_aload_n (pc := 33) hx hb d_Wa_carryOut_33 rfl (lv_at hl 0 rfl) ?_
      obtain ⟨a117, ea117, h⟩ := h
      refine pq_geta (pc := 34) (f := 0) hx hb hT hK hP L10_0 hk108 rfl ea117 d_Wa_carryOut_34 ?_
      obtain ⟨hk118, h⟩ := h
      obtain ⟨a119, ea119, h⟩ := h
      refine pq_geta (pc := 37) (f := 242) hx hb hT hK hP L81_6 hk118 rfl ea119 d_Wa_carryOut_37 ?_
      refine lv_iload_n (pc := 40) hx hb d_Wa_carryOut_40 rfl (lv_at hl 1 rfl) ?_
      obtain ⟨hk120, h⟩ := h
      refine cr_a (pc := 41) C (rest := []) (mt_invV (As := [.int x2]) hx hb hown (hT _ k_606 _) (hT _ k_607 _) (hT _ k_608 _) (mt_Cd.code (hT _ k_609 #[])) h_Ar_get (pq_recv hK hP hk120 rfl) n_Ar_get rfl d_Wa_carryOut_41) (ct_Ar_get hfl D h) k_609 k_5 ⟨Nat.le_of_ble_eq_true rfl, Nat.le_of_ble_eq_true rfl⟩ ⟨(show cells + 0 + 0 ≤ 1 by omega), (show slots + 0 + 0 ≤ 6 by omega)⟩ hl.1 d_Wa_carryOut_41 (Nat.le_of_ble_eq_true rfl) hP hS (fun a121 H locs h hP hS => ?_) (fun xx X H locs h hX hex hP hS => ?_)
      · obtain ⟨hk122, h⟩ := h
        refine pq_cast (pc := 44) hx hb hT hK hP hown k_634 hk122 rfl k_1350 d_Wa_carryOut_44 ?_
        refine lv_dup (pc := 47) hx hb d_Wa_carryOut_47 rfl ?_
        refine pq_geti (pc := 48) (f := 164) hx hb hT hK hP L109_4 hk122 rfl d_Wa_carryOut_48 ?_
        refine lv_aload_n (pc := 51) hx hb d_Wa_carryOut_51 rfl (lv_at hl 0 rfl) ?_
        obtain ⟨a123, ea123, h⟩ := h
        refine pq_geta (pc := 52) (f := 0) hx hb hT hK hP L10_0 hk108 rfl ea123 d_Wa_carryOut_52 ?_
        obtain ⟨hk124, h⟩ := h
        obtain ⟨a125, ea125, h⟩ := h
        refine pq_geta (pc := 55) (f := 242) hx hb hT hK hP L81_6 hk124 rfl ea125 d_Wa_carryOut_55 ?_
        refine lv_iload_n (pc := 58) hx hb d_Wa_carryOut_58 rfl (lv_at hl 1 rfl) ?_
        obtain ⟨hk126, h⟩ := h
        refine cr_a (pc := 59) C (rest := [.int (p_i P 164 a121), .ref a121]) (mt_invV (As := [.int x2]) hx hb hown (hT _ k_606 _) (hT _ k_607 _) (hT _ k_608 _) (mt_Cd.code (hT _ k_609 #[])) h_Ar_get (pq_recv hK hP hk126 rfl) n_Ar_get rfl d_Wa_carryOut_59) (ct_Ar_get hfl D h) k_609 k_5 ⟨Nat.le_of_ble_eq_true rfl, Nat.le_of_ble_eq_true rfl⟩ ⟨(show cells + 0 + 0 + 0 ≤ 1 by omega), (show slots + 0 + 0 + 0 ≤ 6 by omega)⟩ hl.1 d_Wa_carryOut_59 (Nat.le_of_ble_eq_true rfl) hP hS (fun a127 H locs h hP hS => ?_) (fun xx X H locs h hX hex hP hS => ?_)
        · obtain ⟨hk128, h⟩ := h
          refine pq_cast (pc := 62) hx hb hT hK hP hown k_634 hk128 rfl k_1350 d_Wa_carryOut_62 ?_
          refine pq_geti (pc := 65) (f := 166) hx hb hT hK hP L142_4 hk128 rfl d_Wa_carryOut_65 ?_
          refine lv_if_ne (pc := 68) (tgt := 75) hx hb d_Wa_carryOut_68 (by decide) (fun c129 => ?_) (fun c129 => ?_)
          · replace h := h.1 c129
            refine lv_iconst (pc := 75) (v := 0) hx hb d_Wa_carryOut_75 (by decide) ?_
            exact wk_Wa_carryOut_76 hfl C hmg hr hin htab HK19 _ a0 x2 (0 : Int32) (p_i P 164 a121) a121 _ _ _ _ _ h hP hS (lv_sub hl [0, 1] rfl) (show cells + 0 + 0 + 0 + 0 ≤ 1 by omega) (show slots + 0 + 0 + 0 + 0 ≤ 6 by omega)
          · replace h := h.2 c129
            refine lv_iconst (pc := 71) (v := 1) hx hb d_Wa_carryOut_71 (by decide) ?_
            refine lv_goto (pc := 72) (tgt := 76) hx hb d_Wa_carryOut_72 (by decide) ?_
            exact wk_Wa_carryOut_76 hfl C hmg hr hin htab HK19 _ a0 x2 (1 : Int32) (p_i P 164 a121) a121 _ _ _ _ _ h hP hS (lv_sub hl [0, 1] rfl) (show cells + 0 + 0 + 0 + 0 ≤ 1 by omega) (show slots + 0 + 0 + 0 + 0 ≤ 6 by omega)
        · exact cq_out hlocks (pq_nil htab rfl) (show cells + 0 + 0 + 0 + 0 ≤ 1 by omega) (show slots + 0 + 0 + 0 + 0 ≤ 6 by omega) hX hex hP hS h
      · exact cq_out hlocks (pq_nil htab rfl) (show cells + 0 + 0 + 0 ≤ 1 by omega) (show slots + 0 + 0 + 0 ≤ 6 by omega) hX hex hP hS h
  · exact cq_out hlocks (pq_nil htab rfl) (show cells + 0 + 0 ≤ 1 by omega) (show slots + 0 + 0 ≤ 6 by omega) hX hex hP hS h
theorem wm_Wa_carryOut_19 {p : Program} {l : Launch} {e : Env} {s : State} {m : MethodId} {args : Array Value} {below : List Frame} {meth : Method} {c : Code} {D : pq_D} {P0 : Pic} {po : Option Value → Pic → Prop} {th : String → Pic → Prop} (hfl : l.flags = flags0) (C : Cx p e s m args meth c prog_1_method_22_code 3 "WaterWorks" D P0) (hmg : e.platform.magicAccessors = ({} : Platform).magicAccessors) (hr : meth.sig.returnType = (some .int)) (hin : meth.name = "carryOut") (htab : c.exceptionTable.toList = tableOf []) : ∀ n : Nat, ∀ (P : Pic) (a0 : Nat) (x2 : Int32) (H : Heap) (locs : List Loc) (cells slots : Nat) (ls : Array Slot), wl_Wa_carryOut_19 po th n P a0 x2 → Pi D P H → Sg (cq_A P0 s) s.heap H P locs → lv_has ls 3 [(0, .ref a0), (2, .int x2)] → cells + 0 ≤ 1 → slots + 0 ≤ 6 → W p l e rm_Wa_carryOut s m args below meth c H locs cells slots (mt_MQ below (cq_Q D P0 false po th) args s 1 6 (cq_free P0 false)) (F0 m 19 ls []) := by
  intro n
  induction n with
  | zero => intro P a0 x2 H locs cells slots ls h; exact h.elim
  | succ n ih => exact wk_Wa_carryOut_19 hfl C hmg hr hin htab ih
set_option maxHeartbeats 4000000 in
set_option maxRecDepth 100000 in
theorem ct_Wa_carryOut {l : Launch} (hfl : l.flags = flags0) (D : pq_D) {po : Option Value → Pic → Prop} {th : String → Pic → Prop} {P : Pic} {a0 : Nat} {x1 : Int32} (h : wp_Wa_carryOut po th P a0 x1) : CT l D y_Wa_carryOut (.code y_Wa_carryOut prog_1_method_22_code 3 (some .int)) rm_Wa_carryOut false [.ref a0, .int x1] P po th := by
  refine ct_of (hs := []) hfl (by decide +kernel) (Or.inl ⟨rfl, rfl⟩) (Nat.le_of_ble_eq_true rfl) ?_
  intro p e s m below meth c C hmg hr hin htab ls hl
  have hl : lv_has ls 3 [(0, .ref a0), (1, .int x1)] := hl
  generalize hargs : ([.ref a0, .int x1] : List Value).toArray = args at C ⊢
  obtain ⟨hx, hb, hml, hown, hlocks, htr, hT, hK, hSt, hN, hP0⟩ := id C
  have L109_4 : pq_fl s m args 109 4 4 := ⟨_, "WaterWorks", "WaterWorks$End", rfl, by decide, hown, Or.inr ⟨_, hT _ k_653 _⟩, (fun _ z => z)⟩
  have L10_0 : pq_fl s m args 10 0 0 := ⟨_, "WaterWorks", "WaterWorks", rfl, by decide, hown, Or.inl (hT _ k_450 _), (fun _ z => z)⟩
  have L142_4 : pq_fl s m args 142 4 6 := ⟨_, "WaterWorks", "WaterWorks$End", rfl, by decide, hown, Or.inr ⟨_, hT _ k_658 _⟩, (fun _ z => z)⟩
  have L81_6 : pq_fl s m args 81 6 2 := ⟨_, "WaterWorks", "WaterWorks$Net", rfl, by decide, hown, Or.inr ⟨_, hT _ k_420 _⟩, (fun _ z => z)⟩
  have hP : Pi D P s.heap := hP0
  have hS : Sg (cq_A P s) s.heap s.heap P [] := Sg.start hP0
  unfold wp_Wa_carryOut at h
  refine lv_aload_n (pc := 0) hx hb d_Wa_carryOut_0 rfl (lv_at hl 0 rfl) ?_
  obtain ⟨hk101, h⟩ := h
  obtain ⟨a102, ea102, h⟩ := h
  refine pq_geta (pc := 1) (f := 0) hx hb hT hK hP L10_0 hk101 rfl ea102 d_Wa_carryOut_1 ?_
  refine lv_aload_n (pc := 4) hx hb d_Wa_carryOut_4 rfl (lv_at hl 0 rfl) ?_
  refine lv_iload_n (pc := 5) hx hb d_Wa_carryOut_5 rfl (lv_at hl 1 rfl) ?_
  refine cr_a (pc := 6) C (rest := [.ref a102]) (mt_invV (As := [.int x1]) hx hb hown (hT _ k_818 _) (hT _ k_820 _) (hT _ ks_9 _) (mt_Cd.code (hT _ k_821 #[])) h_Wa_middleOf (pq_recv hK hP hk101 rfl) n_Wa_middleOf rfl d_Wa_carryOut_6) (ct_Wa_middleOf hfl D h) k_821 k_1 ⟨Nat.le_of_ble_eq_true rfl, Nat.le_of_ble_eq_true rfl⟩ ⟨(show 0 + 1 ≤ 1 by omega), (show 0 + 6 ≤ 6 by omega)⟩ hl.1 d_Wa_carryOut_6 (Nat.le_of_ble_eq_true rfl) hP hS (fun a103 H locs h hP hS => ?_) (fun xx X H locs h hX hex hP hS => ?_)
  · obtain ⟨hk104, h⟩ := h
    refine cc_i (pc := 9) C (rest := []) (mt_invV (As := [.ref a103]) hx hb hown (hT _ k_822 _) (hT _ k_823 _) (hT _ k_824 _) (mt_Cd.code (hT _ k_825 #[])) h_Ne_plan (pq_recv hK hP hk104 rfl) n_Ne_plan rfl d_Wa_carryOut_9) (ct_Ne_plan hfl D h) k_825 k_2 ⟨Nat.le_of_ble_eq_true rfl, Nat.le_of_ble_eq_true rfl⟩ ⟨(show 0 + 1 + 0 ≤ 1 by omega), (show 0 + 6 + 0 ≤ 6 by omega)⟩ hl.1 d_Wa_carryOut_9 (Nat.le_of_ble_eq_true rfl) hP hS (fun x105 P106 H locs h hP hS => ?_) (fun xx X P106 H locs h hX hex hP hS => ?_)
    · refine lv_if_ne (pc := 12) (tgt := 17) hx hb d_Wa_carryOut_12 (by decide) (fun c107 => ?_) (fun c107 => ?_)
      · replace h := h.1 c107
        refine lv_iconst (pc := 17) (v := 0) hx hb d_Wa_carryOut_17 (by decide) ?_
        refine lv_istore_n (pc := 18) (lv' := [(2, .int (0 : Int32)), (0, .ref a0), (1, .int x1)]) hx hb d_Wa_carryOut_18 rfl hl (by decide) rfl (fun ls hl => ?_)
        obtain ⟨n, h⟩ := h
        exact wm_Wa_carryOut_19 hfl C hmg hr hin htab n _ a0 (0 : Int32) _ _ _ _ _ h hP hS (lv_sub hl [1, 0] rfl) (show 0 + 1 + 0 + 0 ≤ 1 by omega) (show 0 + 6 + 0 + 0 ≤ 6 by omega)
      · replace h := h.2 c107
        refine lv_iconst (pc := 15) (v := (-1)) hx hb d_Wa_carryOut_15 (by decide) ?_
        exact we_i (pc := 16) hx hb hlocks hr hP hS (show 0 + 1 + 0 + 0 ≤ 1 by omega) (show 0 + 6 + 0 + 0 ≤ 6 by omega) h d_Wa_carryOut_16
    · exact cq_out hlocks (pq_nil htab rfl) (show 0 + 1 + 0 + 0 ≤ 1 by omega) (show 0 + 6 + 0 + 0 ≤ 6 by omega) hX hex hP hS h
  · exact cq_out hlocks (pq_nil htab rfl) (show 0 + 1 + 0 ≤ 1 by omega) (show 0 + 6 + 0 ≤ 6 by omega) hX hex hP hS h
