/-! WaterWorks$Customer.<init>(LWaterWorks$Place;)V -/
abbrev y_Cu_init : MethodName := ⟨"WaterWorks$Customer", "<init>", "(LWaterWorks$Place;)V"⟩
abbrev rm_Cu_init : Room := { frames := 4, cells := 4, slots := 70, locals := 101 }
theorem h_Cu_init : y_Cu_init.cls ≠ "java/lang/invoke/MethodHandle" ∧ y_Cu_init.cls ≠ "java/lang/invoke/VarHandle" := by decide +kernel
theorem n_Cu_init : (parseMethodDescriptor y_Cu_init.desc).map (fun d => d.parameters.length) = some 1 := by decide +kernel
theorem d_Cu_init_0 : decode prog_4_method_1_code 0 = .ok (.aload_n 0, 1) := by decide +kernel
theorem d_Cu_init_1 : decode prog_4_method_1_code 1 = .ok (.invokespecial 3, 3) := by decide +kernel
theorem d_Cu_init_4 : decode prog_4_method_1_code 4 = .ok (.aload_n 0, 1) := by decide +kernel
theorem d_Cu_init_5 : decode prog_4_method_1_code 5 = .ok (.new 9, 3) := by decide +kernel
theorem d_Cu_init_8 : decode prog_4_method_1_code 8 = .ok (.dup, 1) := by decide +kernel
theorem d_Cu_init_9 : decode prog_4_method_1_code 9 = .ok (.bipush 24, 2) := by decide +kernel
theorem d_Cu_init_11 : decode prog_4_method_1_code 11 = .ok (.invokespecial 11, 3) := by decide +kernel
theorem d_Cu_init_14 : decode prog_4_method_1_code 14 = .ok (.putfield 14, 3) := by decide +kernel
theorem d_Cu_init_17 : decode prog_4_method_1_code 17 = .ok (.aload_n 0, 1) := by decide +kernel
theorem d_Cu_init_18 : decode prog_4_method_1_code 18 = .ok (.new 9, 3) := by decide +kernel
theorem d_Cu_init_21 : decode prog_4_method_1_code 21 = .ok (.dup, 1) := by decide +kernel
theorem d_Cu_init_22 : decode prog_4_method_1_code 22 = .ok (.bipush 6, 2) := by decide +kernel
theorem d_Cu_init_24 : decode prog_4_method_1_code 24 = .ok (.invokespecial 11, 3) := by decide +kernel
theorem d_Cu_init_27 : decode prog_4_method_1_code 27 = .ok (.putfield 20, 3) := by decide +kernel
theorem d_Cu_init_30 : decode prog_4_method_1_code 30 = .ok (.aload_n 0, 1) := by decide +kernel
theorem d_Cu_init_31 : decode prog_4_method_1_code 31 = .ok (.aload_n 1, 1) := by decide +kernel
theorem d_Cu_init_32 : decode prog_4_method_1_code 32 = .ok (.putfield 23, 3) := by decide +kernel
theorem d_Cu_init_35 : decode prog_4_method_1_code 35 = .ok (.return_, 1) := by decide +kernel
def wp_Cu_init (po : Option Value → Pic → Prop) (th : String → Pic → Prop) (P : Pic) (a0 : Nat) (a1 : Nat) : Prop := ∀ (q101 : Nat), p_z P ≤ q101 → wp_Ar_init (cp_v fun P102 => p_k P102 a0 = 4 ∧ ∀ (q104 : Nat), p_z (s_r P102 121 a0 (some q101)) ≤ q104 → wp_Ar_init (cp_v fun P105 => p_k P105 a0 = 4 ∧ po none (s_r (s_r P105 122 a0 (some q104)) 120 a0 (some a1))) th (s_new (s_r P102 121 a0 (some q101)) q104 13) q104 (6 : Int32)) th (s_new P q101 13) q101 (24 : Int32)
set_option maxHeartbeats 4000000 in
set_option maxRecDepth 100000 in
theorem ct_Cu_init {l : Launch} (hfl : l.flags = flags0) (D : pq_D) {po : Option Value → Pic → Prop} {th : String → Pic → Prop} {P : Pic} {a0 : Nat} {a1 : Nat} (h : wp_Cu_init po th P a0 a1) : CT l D y_Cu_init (.code y_Cu_init prog_4_method_1_code 2 none) rm_Cu_init false [.ref a0, .ref a1] P po th := by
  refine ct_of (hs := []) hfl (by decide +kernel) (Or.inl ⟨rfl, rfl⟩) (Nat.le_of_ble_eq_true rfl) ?_
  intro p e s m below meth c C hmg hr hin htab ls hl
  have hl : lv_has ls 2 [(0, .ref a0), (1, .ref a1)] := hl
  generalize hargs : ([.ref a0, .ref a1] : List Value).toArray = args at C ⊢
  obtain ⟨hx, hb, hml, hown, hlocks, htr, hT, hK, hSt, hN, hP0⟩ := id C
  have hP : Pi D P s.heap := hP0
  have hS : Sg (cq_A P s) s.heap s.heap P [] := Sg.start hP0
  unfold wp_Cu_init at h
  refine lv_aload_n (pc := 0) hx hb d_Cu_init_0 rfl (lv_at hl 0 rfl) ?_
  refine W.objInit hx hb hown (hT _ k_693 _) (hT _ k_43 _) (hT _ k_44 _) rfl (by rw [hml]; exact hl.1) rfl d_Cu_init_1 (Nat.le_of_ble_eq_true rfl) (Nat.le_of_ble_eq_true rfl) ?_
  refine W.eq (g2 := F0 m 4 ls []) rfl ?_
  refine lv_aload_n (pc := 4) hx hb d_Cu_init_4 rfl (lv_at hl 0 rfl) ?_
  refine pq_new (pc := 5) hx hb hT hK hP hS (k := 13) rfl hown (hT _ k_694 _) (hT _ k_52 _) (hT _ k_5 _) (show 0 + 1 ≤ 4 by omega) (show 0 + 3 ≤ 70 by omega) d_Cu_init_5 (fun q101 H hq101 hP1 hS => ?_)
  replace h := h q101 hq101
  have hkq101 : p_k (s_new P q101 13) q101 = 14 := pk_newq _ _ _
  replace hP := hP1
  clear hP1
  refine lv_dup (pc := 8) hx hb d_Cu_init_8 rfl ?_
  refine lv_bipush (pc := 9) (v := 24) hx hb d_Cu_init_9 (by decide) ?_
  refine cc_v (pc := 11) C (rest := [.ref q101, .ref a0]) (mt_invI (As := [.int (24 : Int32)]) hx hb hown rfl (hT _ k_695 _) (hT _ k_54 _) (hT _ k_55 _) h_Ar_init n_Ar_init rfl d_Cu_init_11) (ct_Ar_init hfl D h) k_55 k_5 ⟨Nat.le_of_ble_eq_true rfl, Nat.le_of_ble_eq_true rfl⟩ ⟨(show 0 + 1 + 1 ≤ 4 by omega), (show 0 + 3 + 32 ≤ 70 by omega)⟩ hl.1 d_Cu_init_11 (Nat.le_of_ble_eq_true rfl) hP hS (fun P102 H locs h hP hS => ?_) (fun xx X P102 H locs h hX hex hP hS => ?_)
  · obtain ⟨hk103, h⟩ := h
    refine pq_putRa (pc := 14) (f := 121) hx hb hT hK hP hS hown hin (k := 3) (j := 1) rfl (by decide) (by decide) (hT _ k_698 _) hk103 rfl rfl rfl rfl d_Cu_init_14 (fun H locs hP hS => ?_)
    have hk103 : p_k (s_r P102 121 a0 (some q101)) a0 = 4 := by rw [pk_r]; exact hk103
    refine lv_aload_n (pc := 17) hx hb d_Cu_init_17 rfl (lv_at hl 0 rfl) ?_
    refine pq_new (pc := 18) hx hb hT hK hP hS (k := 13) rfl hown (hT _ k_694 _) (hT _ k_52 _) (hT _ k_5 _) (show 0 + 1 + 1 + 1 ≤ 4 by omega) (show 0 + 3 + 32 + 3 ≤ 70 by omega) d_Cu_init_18 (fun q104 H hq104 hP1 hS => ?_)
    replace h := h q104 hq104
    have hk103 : p_k (s_new (s_r P102 121 a0 (some q101)) q104 13) a0 = 4 := pq_oldn (k := 3) hP hk103 hq104
    have hkq104 : p_k (s_new (s_r P102 121 a0 (some q101)) q104 13) q104 = 14 := pk_newq _ _ _
    replace hP := hP1
    clear hP1
    refine lv_dup (pc := 21) hx hb d_Cu_init_21 rfl ?_
    refine lv_bipush (pc := 22) (v := 6) hx hb d_Cu_init_22 (by decide) ?_
    refine cc_v (pc := 24) C (rest := [.ref q104, .ref a0]) (mt_invI (As := [.int (6 : Int32)]) hx hb hown rfl (hT _ k_695 _) (hT _ k_54 _) (hT _ k_55 _) h_Ar_init n_Ar_init rfl d_Cu_init_24) (ct_Ar_init hfl D h) k_55 k_5 ⟨Nat.le_of_ble_eq_true rfl, Nat.le_of_ble_eq_true rfl⟩ ⟨(show 0 + 1 + 1 + 1 + 1 ≤ 4 by omega), (show 0 + 3 + 32 + 3 + 32 ≤ 70 by omega)⟩ hl.1 d_Cu_init_24 (Nat.le_of_ble_eq_true rfl) hP hS (fun P105 H locs h hP hS => ?_) (fun xx X P105 H locs h hX hex hP hS => ?_)
    · obtain ⟨hk106, h⟩ := h
      refine pq_putRa (pc := 27) (f := 122) hx hb hT hK hP hS hown hin (k := 3) (j := 2) rfl (by decide) (by decide) (hT _ k_700 _) hk106 rfl rfl rfl rfl d_Cu_init_27 (fun H locs hP hS => ?_)
      have hk106 : p_k (s_r P105 122 a0 (some q104)) a0 = 4 := by rw [pk_r]; exact hk106
      refine lv_aload_n (pc := 30) hx hb d_Cu_init_30 rfl (lv_at hl 0 rfl) ?_
      refine lv_aload_n (pc := 31) hx hb d_Cu_init_31 rfl (lv_at hl 1 rfl) ?_
      refine pq_putRa (pc := 32) (f := 120) hx hb hT hK hP hS hown hin (k := 3) (j := 0) rfl (by decide) (by decide) (hT _ k_696 _) hk106 rfl rfl rfl rfl d_Cu_init_32 (fun H locs hP hS => ?_)
      have hk106 : p_k (s_r (s_r P105 122 a0 (some q104)) 120 a0 (some a1)) a0 = 4 := by rw [pk_r]; exact hk106
      exact we_v (pc := 35) hx hb hlocks hr hP hS (show 0 + 1 + 1 + 1 + 1 + 0 ≤ 4 by omega) (show 0 + 3 + 32 + 3 + 32 + 0 ≤ 70 by omega) h d_Cu_init_35
    · exact cq_out hlocks (pq_nil htab rfl) (show 0 + 1 + 1 + 1 + 1 + 0 ≤ 4 by omega) (show 0 + 3 + 32 + 3 + 32 + 0 ≤ 70 by omega) hX hex hP hS h
  · exact cq_out hlocks (pq_nil htab rfl) (show 0 + 1 + 1 + 0 ≤ 4 by omega) (show 0 + 3 + 32 + 0 ≤ 70 by omega) hX hex hP hS h
/-! WaterWorks$Customer.last()LWaterWorks$Reading; -/
abbrev y_Cu_last : MethodName := ⟨"WaterWorks$Customer", "last", "()LWaterWorks$Reading;"⟩
abbrev rm_Cu_last : Room := { frames := 4, cells := 0, slots := 0, locals := 104 }
theorem h_Cu_last : y_Cu_last.cls ≠ "java/lang/invoke/MethodHandle" ∧ y_Cu_last.cls ≠ "java/lang/invoke/VarHandle" := by decide +kernel
theorem n_Cu_last : (parseMethodDescriptor y_Cu_last.desc).map (fun d => d.parameters.length) = some 0 := by decide +kernel
theorem d_Cu_last_0 : decode prog_4_method_2_code 0 = .ok (.aload_n 0, 1) := by decide +kernel
theorem d_Cu_last_1 : decode prog_4_method_2_code 1 = .ok (.getfield 14, 3) := by decide +kernel
theorem d_Cu_last_4 : decode prog_4_method_2_code 4 = .ok (.invokevirtual 27, 3) := by decide +kernel
theorem d_Cu_last_7 : decode prog_4_method_2_code 7 = .ok (.ifCond .eq 7, 3) := by decide +kernel
theorem d_Cu_last_10 : decode prog_4_method_2_code 10 = .ok (.aconst_null, 1) := by decide +kernel
theorem d_Cu_last_11 : decode prog_4_method_2_code 11 = .ok (.goto 22, 3) := by decide +kernel
theorem d_Cu_last_14 : decode prog_4_method_2_code 14 = .ok (.aload_n 0, 1) := by decide +kernel
theorem d_Cu_last_15 : decode prog_4_method_2_code 15 = .ok (.getfield 14, 3) := by decide +kernel
theorem d_Cu_last_18 : decode prog_4_method_2_code 18 = .ok (.aload_n 0, 1) := by decide +kernel
theorem d_Cu_last_19 : decode prog_4_method_2_code 19 = .ok (.getfield 14, 3) := by decide +kernel
theorem d_Cu_last_22 : decode prog_4_method_2_code 22 = .ok (.invokevirtual 31, 3) := by decide +kernel
theorem d_Cu_last_25 : decode prog_4_method_2_code 25 = .ok (.iconst 1, 1) := by decide +kernel
theorem d_Cu_last_26 : decode prog_4_method_2_code 26 = .ok (.isub, 1) := by decide +kernel
theorem d_Cu_last_27 : decode prog_4_method_2_code 27 = .ok (.invokevirtual 35, 3) := by decide +kernel
theorem d_Cu_last_30 : decode prog_4_method_2_code 30 = .ok (.checkcast 39, 3) := by decide +kernel
theorem d_Cu_last_33 : decode prog_4_method_2_code 33 = .ok (.areturn, 1) := by decide +kernel
def wp_Cu_last (po : Option Value → Pic → Prop) (th : String → Pic → Prop) (P : Pic) (a0 : Nat) : Prop := p_k P a0 = 4 ∧ ∃ a102, p_r P 121 a0 = some a102 ∧ p_k P a102 = 14 ∧ wp_Ar_isEmpty (cp_i fun x104 _ => ((x104 = 0 → (∃ a105, p_r P 121 a0 = some a105 ∧ ∃ a106, p_r P 121 a0 = some a106 ∧ p_k P a106 = 14 ∧ wp_Ar_size (cp_i fun x108 _ => p_k P a105 = 14 ∧ wp_Ar_get (cp_a fun a110 _ => p_k P a110 = 10 ∧ po (some (.ref a110)) P) th P a105 (x108 - (1 : Int32))) th P a106)) ∧ (¬ x104 = 0 → (po (some (va_rf none)) P)))) th P a102
set_option maxHeartbeats 4000000 in
set_option maxRecDepth 100000 in
theorem ct_Cu_last {l : Launch} (hfl : l.flags = flags0) (D : pq_D) {po : Option Value → Pic → Prop} {th : String → Pic → Prop} {P : Pic} {a0 : Nat} (h : wp_Cu_last po th P a0) : CT l D y_Cu_last (.code y_Cu_last prog_4_method_2_code 1 (some (.object "WaterWorks$Reading"))) rm_Cu_last true [.ref a0] P po th := by
  refine ct_of (hs := []) hfl (by decide +kernel) (Or.inl ⟨rfl, rfl⟩) (Nat.le_of_ble_eq_true rfl) ?_
  intro p e s m below meth c C hmg hr hin htab ls hl
  have hl : lv_has ls 1 [(0, .ref a0)] := hl
  generalize hargs : ([.ref a0] : List Value).toArray = args at C ⊢
  obtain ⟨hx, hb, hml, hown, hlocks, htr, hT, hK, hSt, hN, hP0⟩ := id C
  have L14_3 : pq_fl s m args 14 3 1 := ⟨_, "WaterWorks$Customer", "WaterWorks$Customer", rfl, by decide, hown, Or.inl (hT _ k_698 _), (fun _ z => z)⟩
  have hO : So s.heap s.heap := So.rf
  have hP : Pi D P s.heap := hP0
  unfold wp_Cu_last at h
  refine lv_aload_n (pc := 0) hx hb d_Cu_last_0 rfl (lv_at hl 0 rfl) ?_
  obtain ⟨hk101, h⟩ := h
  obtain ⟨a102, ea102, h⟩ := h
  refine pq_geta (pc := 1) (f := 121) hx hb hT hK hP L14_3 hk101 rfl ea102 d_Cu_last_1 ?_
  obtain ⟨hk103, h⟩ := h
  refine co_i (pc := 4) C (rest := []) (mt_invV (As := []) hx hb hown (hT _ k_890 _) (hT _ k_891 _) (hT _ k_892 _) (mt_Cd.code (hT _ k_893 #[])) h_Ar_isEmpty (pq_recv hK hP hk103 rfl) n_Ar_isEmpty rfl d_Cu_last_4) (ct_Ar_isEmpty hfl D h) k_893 k_5 ⟨Nat.le_of_ble_eq_true rfl, Nat.le_of_ble_eq_true rfl⟩ ⟨(show 0 + 0 ≤ 0 by omega), (show 0 + 0 ≤ 0 by omega)⟩ hl.1 d_Cu_last_4 (Nat.le_of_ble_eq_true rfl) hO (fun x104 H h hO => ?_) (fun xx X H h hX hex hO => ?_)
  · have hP : Pi D P H := So.pi hP0 hO
    refine lv_if_eq (pc := 7) (tgt := 14) hx hb d_Cu_last_7 (by decide) (fun c112 => ?_) (fun c112 => ?_)
    · replace h := h.1 c112
      refine lv_aload_n (pc := 14) hx hb d_Cu_last_14 rfl (lv_at hl 0 rfl) ?_
      obtain ⟨a105, ea105, h⟩ := h
      refine pq_geta (pc := 15) (f := 121) hx hb hT hK hP L14_3 hk101 rfl ea105 d_Cu_last_15 ?_
      refine lv_aload_n (pc := 18) hx hb d_Cu_last_18 rfl (lv_at hl 0 rfl) ?_
      obtain ⟨a106, ea106, h⟩ := h
      refine pq_geta (pc := 19) (f := 121) hx hb hT hK hP L14_3 hk101 rfl ea106 d_Cu_last_19 ?_
      obtain ⟨hk107, h⟩ := h
      refine co_i (pc := 22) C (rest := [.ref a105]) (mt_invV (As := []) hx hb hown (hT _ k_894 _) (hT _ k_472 _) (hT _ k_473 _) (mt_Cd.code (hT _ k_474 #[])) h_Ar_size (pq_recv hK hP hk107 rfl) n_Ar_size rfl d_Cu_last_22) (ct_Ar_size hfl D h) k_474 k_5 ⟨Nat.le_of_ble_eq_true rfl, Nat.le_of_ble_eq_true rfl⟩ ⟨(show 0 + 0 + 0 ≤ 0 by omega), (show 0 + 0 + 0 ≤ 0 by omega)⟩ hl.1 d_Cu_last_22 (Nat.le_of_ble_eq_true rfl) hO (fun x108 H h hO => ?_) (fun xx X H h hX hex hO => ?_)
      · have hP : Pi D P H := So.pi hP0 hO
        refine lv_iconst (pc := 25) (v := 1) hx hb d_Cu_last_25 (by decide) ?_
        refine lv_isub (pc := 26) hx hb d_Cu_last_26 ?_
        obtain ⟨hk109, h⟩ := h
        refine co_a (pc := 27) C (rest := []) (mt_invV (As := [.int (x108 - (1 : Int32))]) hx hb hown (hT _ k_895 _) (hT _ k_607 _) (hT _ k_608 _) (mt_Cd.code (hT _ k_609 #[])) h_Ar_get (pq_recv hK hP hk109 rfl) n_Ar_get rfl d_Cu_last_27) (ct_Ar_get hfl D h) k_609 k_5 ⟨Nat.le_of_ble_eq_true rfl, Nat.le_of_ble_eq_true rfl⟩ ⟨(show 0 + 0 + 0 + 0 ≤ 0 by omega), (show 0 + 0 + 0 + 0 ≤ 0 by omega)⟩ hl.1 d_Cu_last_27 (Nat.le_of_ble_eq_true rfl) hO (fun a110 H h hO => ?_) (fun xx X H h hX hex hO => ?_)
        · have hP : Pi D P H := So.pi hP0 hO
          obtain ⟨hk111, h⟩ := h
          refine pq_cast (pc := 30) hx hb hT hK hP hown k_896 hk111 rfl k_1354 d_Cu_last_30 ?_
          exact wo_a (pc := 33) hx hb hlocks hr (Or.inl ⟨_, rfl⟩) (Or.inr ⟨_, rfl⟩) hP0 hO (show 0 + 0 + 0 + 0 + 0 ≤ 0 by omega) (show 0 + 0 + 0 + 0 + 0 ≤ 0 by omega) h d_Cu_last_33
        · exact cq_outo hlocks (pq_nil htab rfl) (show 0 + 0 + 0 + 0 + 0 ≤ 0 by omega) (show 0 + 0 + 0 + 0 + 0 ≤ 0 by omega) hX hex hP0 hO h
      · exact cq_outo hlocks (pq_nil htab rfl) (show 0 + 0 + 0 + 0 ≤ 0 by omega) (show 0 + 0 + 0 + 0 ≤ 0 by omega) hX hex hP0 hO h
    · replace h := h.2 c112
      refine lv_null (pc := 10) hx hb d_Cu_last_10 ?_
      refine lv_goto (pc := 11) (tgt := 33) hx hb d_Cu_last_11 (by decide) ?_
      exact wo_a (pc := 33) hx hb hlocks hr (Or.inl ⟨_, rfl⟩) (Or.inl rfl) hP0 hO (show 0 + 0 + 0 ≤ 0 by omega) (show 0 + 0 + 0 ≤ 0 by omega) h d_Cu_last_33
  · exact cq_outo hlocks (pq_nil htab rfl) (show 0 + 0 + 0 ≤ 0 by omega) (show 0 + 0 + 0 ≤ 0 by omega) hX hex hP0 hO h
/-! WaterWorks$Customer.use(I)I -/
abbrev y_Cu_use : MethodName := ⟨"WaterWorks$Customer", "use", "(I)I"⟩
abbrev rm_Cu_use : Room := { frames := 4, cells := 0, slots := 0, locals := 104 }
theorem h_Cu_use : y_Cu_use.cls ≠ "java/lang/invoke/MethodHandle" ∧ y_Cu_use.cls ≠ "java/lang/invoke/VarHandle" := by decide +kernel
theorem n_Cu_use : (parseMethodDescriptor y_Cu_use.desc).map (fun d => d.parameters.length) = some 1 := by decide +kernel
theorem d_Cu_use_0 : decode prog_4_method_3_code 0 = .ok (.aload_n 0, 1) := by decide +kernel
theorem d_Cu_use_1 : decode prog_4_method_3_code 1 = .ok (.getfield 14, 3) := by decide +kernel
theorem d_Cu_use_4 : decode prog_4_method_3_code 4 = .ok (.iload_n 1, 1) := by decide +kernel
theorem d_Cu_use_5 : decode prog_4_method_3_code 5 = .ok (.invokevirtual 35, 3) := by decide +kernel
theorem d_Cu_use_8 : decode prog_4_method_3_code 8 = .ok (.checkcast 39, 3) := by decide +kernel
theorem d_Cu_use_11 : decode prog_4_method_3_code 11 = .ok (.astore_n 2, 1) := by decide +kernel
theorem d_Cu_use_12 : decode prog_4_method_3_code 12 = .ok (.iload_n 1, 1) := by decide +kernel
theorem d_Cu_use_13 : decode prog_4_method_3_code 13 = .ok (.ifCond .eq 10, 3) := by decide +kernel
theorem d_Cu_use_16 : decode prog_4_method_3_code 16 = .ok (.aload_n 2, 1) := by decide +kernel
theorem d_Cu_use_17 : decode prog_4_method_3_code 17 = .ok (.invokevirtual 41, 3) := by decide +kernel
theorem d_Cu_use_20 : decode prog_4_method_3_code 20 = .ok (.ifCond .eq 5, 3) := by decide +kernel
theorem d_Cu_use_23 : decode prog_4_method_3_code 23 = .ok (.iconst 0, 1) := by decide +kernel
theorem d_Cu_use_24 : decode prog_4_method_3_code 24 = .ok (.ireturn, 1) := by decide +kernel
theorem d_Cu_use_25 : decode prog_4_method_3_code 25 = .ok (.aload_n 2, 1) := by decide +kernel
theorem d_Cu_use_26 : decode prog_4_method_3_code 26 = .ok (.invokevirtual 44, 3) := by decide +kernel
theorem d_Cu_use_29 : decode prog_4_method_3_code 29 = .ok (.aload_n 0, 1) := by decide +kernel
theorem d_Cu_use_30 : decode prog_4_method_3_code 30 = .ok (.getfield 14, 3) := by decide +kernel
theorem d_Cu_use_33 : decode prog_4_method_3_code 33 = .ok (.iload_n 1, 1) := by decide +kernel
theorem d_Cu_use_34 : decode prog_4_method_3_code 34 = .ok (.iconst 1, 1) := by decide +kernel
theorem d_Cu_use_35 : decode prog_4_method_3_code 35 = .ok (.isub, 1) := by decide +kernel
theorem d_Cu_use_36 : decode prog_4_method_3_code 36 = .ok (.invokevirtual 35, 3) := by decide +kernel
theorem d_Cu_use_39 : decode prog_4_method_3_code 39 = .ok (.checkcast 39, 3) := by decide +kernel
theorem d_Cu_use_42 : decode prog_4_method_3_code 42 = .ok (.invokevirtual 44, 3) := by decide +kernel
theorem d_Cu_use_45 : decode prog_4_method_3_code 45 = .ok (.isub, 1) := by decide +kernel
theorem d_Cu_use_46 : decode prog_4_method_3_code 46 = .ok (.istore_n 3, 1) := by decide +kernel
theorem d_Cu_use_47 : decode prog_4_method_3_code 47 = .ok (.iload_n 3, 1) := by decide +kernel
theorem d_Cu_use_48 : decode prog_4_method_3_code 48 = .ok (.ifCond .ge 15, 3) := by decide +kernel
theorem d_Cu_use_51 : decode prog_4_method_3_code 51 = .ok (.iload_n 3, 1) := by decide +kernel
theorem d_Cu_use_52 : decode prog_4_method_3_code 52 = .ok (.aload_n 2, 1) := by decide +kernel
theorem d_Cu_use_53 : decode prog_4_method_3_code 53 = .ok (.invokevirtual 47, 3) := by decide +kernel
theorem d_Cu_use_56 : decode prog_4_method_3_code 56 = .ok (.invokestatic 50, 3) := by decide +kernel
theorem d_Cu_use_59 : decode prog_4_method_3_code 59 = .ok (.iadd, 1) := by decide +kernel
theorem d_Cu_use_60 : decode prog_4_method_3_code 60 = .ok (.goto 4, 3) := by decide +kernel
theorem d_Cu_use_63 : decode prog_4_method_3_code 63 = .ok (.iload_n 3, 1) := by decide +kernel
theorem d_Cu_use_64 : decode prog_4_method_3_code 64 = .ok (.ireturn, 1) := by decide +kernel
def wp_Cu_use (po : Option Value → Pic → Prop) (th : String → Pic → Prop) (P : Pic) (a0 : Nat) (x1 : Int32) : Prop := p_k P a0 = 4 ∧ ∃ a102, p_r P 121 a0 = some a102 ∧ p_k P a102 = 14 ∧ wp_Ar_get (cp_a fun a104 _ => p_k P a104 = 10 ∧ ((x1 = 0 → (po (some (.int (0 : Int32))) P)) ∧ (¬ x1 = 0 → (wp_Re_first (cp_i fun x106 _ => ((x106 = 0 → (wp_Re_shows (cp_i fun x107 _ => ∃ a108, p_r P 121 a0 = some a108 ∧ p_k P a108 = 14 ∧ wp_Ar_get (cp_a fun a110 _ => p_k P a110 = 10 ∧ wp_Re_shows (cp_i fun x112 _ => ∀ (x113 : Int32), x113 = (x107 - x112) → ((0 ≤ x113 → (po (some (.int x113)) P)) ∧ (¬ 0 ≤ x113 → (wp_Re_digits (cp_i fun x114 _ => wp_Wa_size (cp_i fun x115 _ => po (some (.int (x113 + x115))) P) th P x114) th P a104)))) th P a110) th P a108 (x1 - (1 : Int32))) th P a104)) ∧ (¬ x106 = 0 → (po (some (.int (0 : Int32))) P)))) th P a104)))) th P a102 x1
set_option maxHeartbeats 4000000 in
set_option maxRecDepth 100000 in
theorem ct_Cu_use {l : Launch} (hfl : l.flags = flags0) (D : pq_D) {po : Option Value → Pic → Prop} {th : String → Pic → Prop} {P : Pic} {a0 : Nat} {x1 : Int32} (h : wp_Cu_use po th P a0 x1) : CT l D y_Cu_use (.code y_Cu_use prog_4_method_3_code 4 (some .int)) rm_Cu_use true [.ref a0, .int x1] P po th := by
  refine ct_of (hs := []) hfl (by decide +kernel) (Or.inl ⟨rfl, rfl⟩) (Nat.le_of_ble_eq_true rfl) ?_
  intro p e s m below meth c C hmg hr hin htab ls hl
  have hl : lv_has ls 4 [(0, .ref a0), (1, .int x1)] := hl
  generalize hargs : ([.ref a0, .int x1] : List Value).toArray = args at C ⊢
  obtain ⟨hx, hb, hml, hown, hlocks, htr, hT, hK, hSt, hN, hP0⟩ := id C
  have L14_3 : pq_fl s m args 14 3 1 := ⟨_, "WaterWorks$Customer", "WaterWorks$Customer", rfl, by decide, hown, Or.inl (hT _ k_698 _), (fun _ z => z)⟩
  have hO : So s.heap s.heap := So.rf
  have hP : Pi D P s.heap := hP0
  unfold wp_Cu_use at h
  refine lv_aload_n (pc := 0) hx hb d_Cu_use_0 rfl (lv_at hl 0 rfl) ?_
  obtain ⟨hk101, h⟩ := h
  obtain ⟨a102, ea102, h⟩ := h
  refine pq_geta (pc := 1) (f := 121) hx hb hT hK hP L14_3 hk101 rfl ea102 d_Cu_use_1 ?_
  refine lv_iload_n (pc := 4) hx hb d_Cu_use_4 rfl (lv_at hl 1 rfl) ?_
  obtain ⟨hk103, h⟩ := h
  refine co_a (pc := 5) C (rest := []) (mt_invV (As := [.int x1]) hx hb hown (hT _ k_895 _) (hT _ k_607 _) (hT _ k_608 _) (mt_Cd.code (hT _ k_609 #[])) h_Ar_get (pq_recv hK hP hk103 rfl) n_Ar_get rfl d_Cu_use_5) (ct_Ar_get hfl D h) k_609 k_5 ⟨Nat.le_of_ble_eq_true rfl, Nat.le_of_ble_eq_true rfl⟩ ⟨(show 0 + 0 ≤ 0 by omega), (show 0 + 0 ≤ 0 by omega)⟩ hl.1 d_Cu_use_5 (Nat.le_of_ble_eq_true rfl) hO (fun a104 H h hO => ?_) (fun xx X H h hX hex hO => ?_)
  · have hP : Pi D P H := So.pi hP0 hO
    obtain ⟨hk105, h⟩ := h
    refine pq_cast (pc := 8) hx hb hT hK hP hown k_896 hk105 rfl k_1354 d_Cu_use_8 ?_
    refine lv_astore_n (pc := 11) (lv' := [(2, .ref a104), (0, .ref a0), (1, .int x1)]) hx hb d_Cu_use_11 rfl hl (by decide) rfl (fun ls hl => ?_)
    refine lv_iload_n (pc := 12) hx hb d_Cu_use_12 rfl (lv_at hl 2 rfl) ?_
    refine lv_if_eq (pc := 13) (tgt := 23) hx hb d_Cu_use_13 (by decide) (fun c118 => ?_) (fun c118 => ?_)
    · replace h := h.1 c118
      refine lv_iconst (pc := 23) (v := 0) hx hb d_Cu_use_23 (by decide) ?_
      exact wo_i (pc := 24) hx hb hlocks hr hP0 hO (show 0 + 0 + 0 ≤ 0 by omega) (show 0 + 0 + 0 ≤ 0 by omega) h d_Cu_use_24
    · replace h := h.2 c118
      refine lv_aload_n (pc := 16) hx hb d_Cu_use_16 rfl (lv_at hl 0 rfl) ?_
      refine co_i (pc := 17) C (rest := []) (mt_invV (As := []) hx hb hown (hT _ k_969 _) (hT _ k_902 _) (hT _ k_903 _) (mt_Cd.code (hT _ k_904 #[])) h_Re_first (pq_recv hK hP hk105 rfl) n_Re_first rfl d_Cu_use_17) (ct_Re_first hfl D h) k_904 k_34 ⟨Nat.le_of_ble_eq_true rfl, Nat.le_of_ble_eq_true rfl⟩ ⟨(show 0 + 0 + 0 ≤ 0 by omega), (show 0 + 0 + 0 ≤ 0 by omega)⟩ hl.1 d_Cu_use_17 (Nat.le_of_ble_eq_true rfl) hO (fun x106 H h hO => ?_) (fun xx X H h hX hex hO => ?_)
      · have hP : Pi D P H := So.pi hP0 hO
        refine lv_if_eq (pc := 20) (tgt := 25) hx hb d_Cu_use_20 (by decide) (fun c117 => ?_) (fun c117 => ?_)
        · replace h := h.1 c117
          refine lv_aload_n (pc := 25) hx hb d_Cu_use_25 rfl (lv_at hl 0 rfl) ?_
          refine co_i (pc := 26) C (rest := []) (mt_invV (As := []) hx hb hown (hT _ k_970 _) (hT _ k_950 _) (hT _ k_951 _) (mt_Cd.code (hT _ k_952 #[])) h_Re_shows (pq_recv hK hP hk105 rfl) n_Re_shows rfl d_Cu_use_26) (ct_Re_shows hfl D h) k_952 k_34 ⟨Nat.le_of_ble_eq_true rfl, Nat.le_of_ble_eq_true rfl⟩ ⟨(show 0 + 0 + 0 + 0 ≤ 0 by omega), (show 0 + 0 + 0 + 0 ≤ 0 by omega)⟩ hl.1 d_Cu_use_26 (Nat.le_of_ble_eq_true rfl) hO (fun x107 H h hO => ?_) (fun xx X H h hX hex hO => ?_)
          · have hP : Pi D P H := So.pi hP0 hO
            refine lv_aload_n (pc := 29) hx hb d_Cu_use_29 rfl (lv_at hl 1 rfl) ?_
            obtain ⟨a108, ea108, h⟩ := h
            refine pq_geta (pc := 30) (f := 121) hx hb hT hK hP L14_3 hk101 rfl ea108 d_Cu_use_30 ?_
            refine lv_iload_n (pc := 33) hx hb d_Cu_use_33 rfl (lv_at hl 2 rfl) ?_
            refine lv_iconst (pc := 34) (v := 1) hx hb d_Cu_use_34 (by decide) ?_
            refine lv_isub (pc := 35) hx hb d_Cu_use_35 ?_
            obtain ⟨hk109, h⟩ := h
            refine co_a (pc := 36) C (rest := [.int x107]) (mt_invV (As := [.int (x1 - (1 : Int32))]) hx hb hown (hT _ k_895 _) (hT _ k_607 _) (hT _ k_608 _) (mt_Cd.code (hT _ k_609 #[])) h_Ar_get (pq_recv hK hP hk109 rfl) n_Ar_get rfl d_Cu_use_36) (ct_Ar_get hfl D h) k_609 k_5 ⟨Nat.le_of_ble_eq_true rfl, Nat.le_of_ble_eq_true rfl⟩ ⟨(show 0 + 0 + 0 + 0 + 0 ≤ 0 by omega), (show 0 + 0 + 0 + 0 + 0 ≤ 0 by omega)⟩ hl.1 d_Cu_use_36 (Nat.le_of_ble_eq_true rfl) hO (fun a110 H h hO => ?_) (fun xx X H h hX hex hO => ?_)
            · have hP : Pi D P H := So.pi hP0 hO
              obtain ⟨hk111, h⟩ := h
              refine pq_cast (pc := 39) hx hb hT hK hP hown k_896 hk111 rfl k_1354 d_Cu_use_39 ?_
              refine co_i (pc := 42) C (rest := [.int x107]) (mt_invV (As := []) hx hb hown (hT _ k_970 _) (hT _ k_950 _) (hT _ k_951 _) (mt_Cd.code (hT _ k_952 #[])) h_Re_shows (pq_recv hK hP hk111 rfl) n_Re_shows rfl d_Cu_use_42) (ct_Re_shows hfl D h) k_952 k_34 ⟨Nat.le_of_ble_eq_true rfl, Nat.le_of_ble_eq_true rfl⟩ ⟨(show 0 + 0 + 0 + 0 + 0 + 0 ≤ 0 by omega), (show 0 + 0 + 0 + 0 + 0 + 0 ≤ 0 by omega)⟩ hl.1 d_Cu_use_42 (Nat.le_of_ble_eq_true rfl) hO (fun x112 H h hO => ?_) (fun xx X H h hX hex hO => ?_)
              · have hP : Pi D P H := So.pi hP0 hO
                refine lv_isub (pc := 45) hx hb d_Cu_use_45 ?_
                refine lv_topi (fun x113 ex113 => ?_)
                replace h := h x113 ex113
                refine lv_istore_n (pc := 46) (lv' := [(3, .int x113), (2, .ref a104), (0, .ref a0), (1, .int x1)]) hx hb d_Cu_use_46 rfl hl (by decide) rfl (fun ls hl => ?_)
                refine lv_iload_n (pc := 47) hx hb d_Cu_use_47 rfl (lv_at hl 0 rfl) ?_
                refine lv_if_ge (pc := 48) (tgt := 63) hx hb d_Cu_use_48 (by decide) (fun c116 => ?_) (fun c116 => ?_)
                · replace h := h.1 c116
                  refine lv_iload_n (pc := 63) hx hb d_Cu_use_63 rfl (lv_at hl 0 rfl) ?_
                  exact wo_i (pc := 64) hx hb hlocks hr hP0 hO (show 0 + 0 + 0 + 0 + 0 + 0 + 0 ≤ 0 by omega) (show 0 + 0 + 0 + 0 + 0 + 0 + 0 ≤ 0 by omega) h d_Cu_use_64
                · replace h := h.2 c116
                  refine lv_iload_n (pc := 51) hx hb d_Cu_use_51 rfl (lv_at hl 0 rfl) ?_
                  refine lv_aload_n (pc := 52) hx hb d_Cu_use_52 rfl (lv_at hl 1 rfl) ?_
                  refine co_i (pc := 53) C (rest := [.int x113]) (mt_invV (As := []) hx hb hown (hT _ k_971 _) (hT _ k_935 _) (hT _ k_936 _) (mt_Cd.code (hT _ k_937 #[])) h_Re_digits (pq_recv hK hP hk105 rfl) n_Re_digits rfl d_Cu_use_53) (ct_Re_digits hfl D h) k_937 k_34 ⟨Nat.le_of_ble_eq_true rfl, Nat.le_of_ble_eq_true rfl⟩ ⟨(show 0 + 0 + 0 + 0 + 0 + 0 + 0 ≤ 0 by omega), (show 0 + 0 + 0 + 0 + 0 + 0 + 0 ≤ 0 by omega)⟩ hl.1 d_Cu_use_53 (Nat.le_of_ble_eq_true rfl) hO (fun x114 H h hO => ?_) (fun xx X H h hX hex hO => ?_)
                  · have hP : Pi D P H := So.pi hP0 hO
                    refine co_i (pc := 56) C (rest := [.int x113]) (mt_invSN (As := [.int x114]) hx hb hown (hT _ k_972 _) (hT _ k_884 _) (hT _ k_1 _) (mt_Cd.code (hT _ k_885 #[])) h_Wa_size n_Wa_size rfl d_Cu_use_56) (ct_Wa_size hfl D h) k_885 k_1 ⟨Nat.le_of_ble_eq_true rfl, Nat.le_of_ble_eq_true rfl⟩ ⟨(show 0 + 0 + 0 + 0 + 0 + 0 + 0 + 0 ≤ 0 by omega), (show 0 + 0 + 0 + 0 + 0 + 0 + 0 + 0 ≤ 0 by omega)⟩ hl.1 d_Cu_use_56 (Nat.le_of_ble_eq_true rfl) hO (fun x115 H h hO => ?_) (fun xx X H h hX hex hO => ?_)
                    · have hP : Pi D P H := So.pi hP0 hO
                      refine lv_iadd (pc := 59) hx hb d_Cu_use_59 ?_
                      refine lv_goto (pc := 60) (tgt := 64) hx hb d_Cu_use_60 (by decide) ?_
                      exact wo_i (pc := 64) hx hb hlocks hr hP0 hO (show 0 + 0 + 0 + 0 + 0 + 0 + 0 + 0 + 0 ≤ 0 by omega) (show 0 + 0 + 0 + 0 + 0 + 0 + 0 + 0 + 0 ≤ 0 by omega) h d_Cu_use_64
                    · exact cq_outo hlocks (pq_nil htab rfl) (show 0 + 0 + 0 + 0 + 0 + 0 + 0 + 0 + 0 ≤ 0 by omega) (show 0 + 0 + 0 + 0 + 0 + 0 + 0 + 0 + 0 ≤ 0 by omega) hX hex hP0 hO h
                  · exact cq_outo hlocks (pq_nil htab rfl) (show 0 + 0 + 0 + 0 + 0 + 0 + 0 + 0 ≤ 0 by omega) (show 0 + 0 + 0 + 0 + 0 + 0 + 0 + 0 ≤ 0 by omega) hX hex hP0 hO h
              · exact cq_outo hlocks (pq_nil htab rfl) (show 0 + 0 + 0 + 0 + 0 + 0 + 0 ≤ 0 by omega) (show 0 + 0 + 0 + 0 + 0 + 0 + 0 ≤ 0 by omega) hX hex hP0 hO h
            · exact cq_outo hlocks (pq_nil htab rfl) (show 0 + 0 + 0 + 0 + 0 + 0 ≤ 0 by omega) (show 0 + 0 + 0 + 0 + 0 + 0 ≤ 0 by omega) hX hex hP0 hO h
          · exact cq_outo hlocks (pq_nil htab rfl) (show 0 + 0 + 0 + 0 + 0 ≤ 0 by omega) (show 0 + 0 + 0 + 0 + 0 ≤ 0 by omega) hX hex hP0 hO h
        · replace h := h.2 c117
          refine lv_iconst (pc := 23) (v := 0) hx hb d_Cu_use_23 (by decide) ?_
          exact wo_i (pc := 24) hx hb hlocks hr hP0 hO (show 0 + 0 + 0 + 0 ≤ 0 by omega) (show 0 + 0 + 0 + 0 ≤ 0 by omega) h d_Cu_use_24
      · exact cq_outo hlocks (pq_nil htab rfl) (show 0 + 0 + 0 + 0 ≤ 0 by omega) (show 0 + 0 + 0 + 0 ≤ 0 by omega) hX hex hP0 hO h
  · exact cq_outo hlocks (pq_nil htab rfl) (show 0 + 0 + 0 ≤ 0 by omega) (show 0 + 0 + 0 ≤ 0 by omega) hX hex hP0 hO h
/-! WaterWorks$Customer.count(I)I -/
abbrev y_Cu_count : MethodName := ⟨"WaterWorks$Customer", "count", "(I)I"⟩
abbrev rm_Cu_count : Room := { frames := 6, cells := 1, slots := 6, locals := 127 }
theorem h_Cu_count : y_Cu_count.cls ≠ "java/lang/invoke/MethodHandle" ∧ y_Cu_count.cls ≠ "java/lang/invoke/VarHandle" := by decide +kernel
theorem n_Cu_count : (parseMethodDescriptor y_Cu_count.desc).map (fun d => d.parameters.length) = some 1 := by decide +kernel
theorem d_Cu_count_0 : decode prog_4_method_4_code 0 = .ok (.iconst 0, 1) := by decide +kernel
theorem d_Cu_count_1 : decode prog_4_method_4_code 1 = .ok (.istore_n 2, 1) := by decide +kernel
theorem d_Cu_count_2 : decode prog_4_method_4_code 2 = .ok (.iconst 0, 1) := by decide +kernel
theorem d_Cu_count_3 : decode prog_4_method_4_code 3 = .ok (.istore_n 3, 1) := by decide +kernel
theorem d_Cu_count_4 : decode prog_4_method_4_code 4 = .ok (.iload_n 3, 1) := by decide +kernel
theorem d_Cu_count_5 : decode prog_4_method_4_code 5 = .ok (.aload_n 0, 1) := by decide +kernel
theorem d_Cu_count_6 : decode prog_4_method_4_code 6 = .ok (.getfield 14, 3) := by decide +kernel
theorem d_Cu_count_9 : decode prog_4_method_4_code 9 = .ok (.invokevirtual 31, 3) := by decide +kernel
theorem d_Cu_count_12 : decode prog_4_method_4_code 12 = .ok (.if_icmp .ge 131, 3) := by decide +kernel
theorem d_Cu_count_15 : decode prog_4_method_4_code 15 = .ok (.aload_n 0, 1) := by decide +kernel
theorem d_Cu_count_16 : decode prog_4_method_4_code 16 = .ok (.getfield 14, 3) := by decide +kernel
theorem d_Cu_count_19 : decode prog_4_method_4_code 19 = .ok (.iload_n 3, 1) := by decide +kernel
theorem d_Cu_count_20 : decode prog_4_method_4_code 20 = .ok (.invokevirtual 35, 3) := by decide +kernel
theorem d_Cu_count_23 : decode prog_4_method_4_code 23 = .ok (.checkcast 39, 3) := by decide +kernel
theorem d_Cu_count_26 : decode prog_4_method_4_code 26 = .ok (.invokevirtual 53, 3) := by decide +kernel
theorem d_Cu_count_29 : decode prog_4_method_4_code 29 = .ok (.istore 4, 2) := by decide +kernel
theorem d_Cu_count_31 : decode prog_4_method_4_code 31 = .ok (.aload_n 0, 1) := by decide +kernel
theorem d_Cu_count_32 : decode prog_4_method_4_code 32 = .ok (.iload_n 3, 1) := by decide +kernel
theorem d_Cu_count_33 : decode prog_4_method_4_code 33 = .ok (.invokevirtual 56, 3) := by decide +kernel
theorem d_Cu_count_36 : decode prog_4_method_4_code 36 = .ok (.istore 5, 2) := by decide +kernel
theorem d_Cu_count_38 : decode prog_4_method_4_code 38 = .ok (.iload 4, 2) := by decide +kernel
theorem d_Cu_count_40 : decode prog_4_method_4_code 40 = .ok (.iload_n 1, 1) := by decide +kernel
theorem d_Cu_count_41 : decode prog_4_method_4_code 41 = .ok (.if_icmp .le 41, 3) := by decide +kernel
theorem d_Cu_count_44 : decode prog_4_method_4_code 44 = .ok (.iload_n 3, 1) := by decide +kernel
theorem d_Cu_count_45 : decode prog_4_method_4_code 45 = .ok (.ifCond .le 37, 3) := by decide +kernel
theorem d_Cu_count_48 : decode prog_4_method_4_code 48 = .ok (.aload_n 0, 1) := by decide +kernel
theorem d_Cu_count_49 : decode prog_4_method_4_code 49 = .ok (.getfield 14, 3) := by decide +kernel
theorem d_Cu_count_52 : decode prog_4_method_4_code 52 = .ok (.iload_n 3, 1) := by decide +kernel
theorem d_Cu_count_53 : decode prog_4_method_4_code 53 = .ok (.iconst 1, 1) := by decide +kernel
theorem d_Cu_count_54 : decode prog_4_method_4_code 54 = .ok (.isub, 1) := by decide +kernel
theorem d_Cu_count_55 : decode prog_4_method_4_code 55 = .ok (.invokevirtual 35, 3) := by decide +kernel
theorem d_Cu_count_58 : decode prog_4_method_4_code 58 = .ok (.checkcast 39, 3) := by decide +kernel
theorem d_Cu_count_61 : decode prog_4_method_4_code 61 = .ok (.invokevirtual 53, 3) := by decide +kernel
theorem d_Cu_count_64 : decode prog_4_method_4_code 64 = .ok (.istore 6, 2) := by decide +kernel
theorem d_Cu_count_66 : decode prog_4_method_4_code 66 = .ok (.iload_n 2, 1) := by decide +kernel
theorem d_Cu_count_67 : decode prog_4_method_4_code 67 = .ok (.iload 5, 2) := by decide +kernel
theorem d_Cu_count_69 : decode prog_4_method_4_code 69 = .ok (.iload_n 1, 1) := by decide +kernel
theorem d_Cu_count_70 : decode prog_4_method_4_code 70 = .ok (.iload 6, 2) := by decide +kernel
theorem d_Cu_count_72 : decode prog_4_method_4_code 72 = .ok (.isub, 1) := by decide +kernel
theorem d_Cu_count_73 : decode prog_4_method_4_code 73 = .ok (.imul, 1) := by decide +kernel
theorem d_Cu_count_74 : decode prog_4_method_4_code 74 = .ok (.iload 4, 2) := by decide +kernel
theorem d_Cu_count_76 : decode prog_4_method_4_code 76 = .ok (.iload 6, 2) := by decide +kernel
theorem d_Cu_count_78 : decode prog_4_method_4_code 78 = .ok (.isub, 1) := by decide +kernel
theorem d_Cu_count_79 : decode prog_4_method_4_code 79 = .ok (.idiv, 1) := by decide +kernel
theorem d_Cu_count_80 : decode prog_4_method_4_code 80 = .ok (.iadd, 1) := by decide +kernel
theorem d_Cu_count_81 : decode prog_4_method_4_code 81 = .ok (.ireturn, 1) := by decide +kernel
theorem d_Cu_count_82 : decode prog_4_method_4_code 82 = .ok (.iload_n 2, 1) := by decide +kernel
theorem d_Cu_count_83 : decode prog_4_method_4_code 83 = .ok (.iload 5, 2) := by decide +kernel
theorem d_Cu_count_85 : decode prog_4_method_4_code 85 = .ok (.iadd, 1) := by decide +kernel
theorem d_Cu_count_86 : decode prog_4_method_4_code 86 = .ok (.istore_n 2, 1) := by decide +kernel
theorem d_Cu_count_87 : decode prog_4_method_4_code 87 = .ok (.iload 4, 2) := by decide +kernel
theorem d_Cu_count_89 : decode prog_4_method_4_code 89 = .ok (.iload_n 1, 1) := by decide +kernel
theorem d_Cu_count_90 : decode prog_4_method_4_code 90 = .ok (.if_icmp .ne 38, 3) := by decide +kernel
theorem d_Cu_count_93 : decode prog_4_method_4_code 93 = .ok (.iload_n 3, 1) := by decide +kernel
theorem d_Cu_count_94 : decode prog_4_method_4_code 94 = .ok (.iconst 1, 1) := by decide +kernel
theorem d_Cu_count_95 : decode prog_4_method_4_code 95 = .ok (.iadd, 1) := by decide +kernel
theorem d_Cu_count_96 : decode prog_4_method_4_code 96 = .ok (.aload_n 0, 1) := by decide +kernel
theorem d_Cu_count_97 : decode prog_4_method_4_code 97 = .ok (.getfield 14, 3) := by decide +kernel
theorem d_Cu_count_100 : decode prog_4_method_4_code 100 = .ok (.invokevirtual 31, 3) := by decide +kernel
theorem d_Cu_count_103 : decode prog_4_method_4_code 103 = .ok (.if_icmp .eq 23, 3) := by decide +kernel
theorem d_Cu_count_106 : decode prog_4_method_4_code 106 = .ok (.aload_n 0, 1) := by decide +kernel
theorem d_Cu_count_107 : decode prog_4_method_4_code 107 = .ok (.getfield 14, 3) := by decide +kernel
theorem d_Cu_count_110 : decode prog_4_method_4_code 110 = .ok (.iload_n 3, 1) := by decide +kernel
theorem d_Cu_count_111 : decode prog_4_method_4_code 111 = .ok (.iconst 1, 1) := by decide +kernel
theorem d_Cu_count_112 : decode prog_4_method_4_code 112 = .ok (.iadd, 1) := by decide +kernel
theorem d_Cu_count_113 : decode prog_4_method_4_code 113 = .ok (.invokevirtual 35, 3) := by decide +kernel
theorem d_Cu_count_116 : decode prog_4_method_4_code 116 = .ok (.checkcast 39, 3) := by decide +kernel
theorem d_Cu_count_119 : decode prog_4_method_4_code 119 = .ok (.invokevirtual 53, 3) := by decide +kernel
theorem d_Cu_count_122 : decode prog_4_method_4_code 122 = .ok (.iload_n 1, 1) := by decide +kernel
theorem d_Cu_count_123 : decode prog_4_method_4_code 123 = .ok (.if_icmp .le 5, 3) := by decide +kernel
theorem d_Cu_count_126 : decode prog_4_method_4_code 126 = .ok (.iload_n 2, 1) := by decide +kernel
theorem d_Cu_count_127 : decode prog_4_method_4_code 127 = .ok (.ireturn, 1) := by decide +kernel
theorem d_Cu_count_128 : decode prog_4_method_4_code 128 = .ok (.iload 4, 2) := by decide +kernel
theorem d_Cu_count_130 : decode prog_4_method_4_code 130 = .ok (.iload_n 1, 1) := by decide +kernel
theorem d_Cu_count_131 : decode prog_4_method_4_code 131 = .ok (.if_icmp .le 6, 3) := by decide +kernel
theorem d_Cu_count_134 : decode prog_4_method_4_code 134 = .ok (.goto 9, 3) := by decide +kernel
theorem d_Cu_count_137 : decode prog_4_method_4_code 137 = .ok (.iinc 3 1, 3) := by decide +kernel
theorem d_Cu_count_140 : decode prog_4_method_4_code 140 = .ok (.goto (-136), 3) := by decide +kernel
theorem d_Cu_count_143 : decode prog_4_method_4_code 143 = .ok (.new 59, 3) := by decide +kernel
theorem d_Cu_count_146 : decode prog_4_method_4_code 146 = .ok (.dup, 1) := by decide +kernel
theorem d_Cu_count_147 : decode prog_4_method_4_code 147 = .ok (.invokespecial 61, 3) := by decide +kernel
theorem d_Cu_count_150 : decode prog_4_method_4_code 150 = .ok (.athrow, 1) := by decide +kernel
def wb_Cu_count_143 (po : Option Value → Pic → Prop) (th : String → Pic → Prop) (P : Pic) : Prop := th "java/util/NoSuchElementException" P
def wb_Cu_count_128 (po : Option Value → Pic → Prop) (th : String → Pic → Prop) (K4 : Pic → Nat → Int32 → Int32 → Int32 → Prop) (P : Pic) (a0 : Nat) (x1 : Int32) (x2 : Int32) (x3 : Int32) (x4 : Int32) : Prop := ((x4 ≤ x1 → (∀ (x133 : Int32), x133 = x3 + 1 → K4 P a0 x1 x2 x133)) ∧ (¬ x4 ≤ x1 → (wb_Cu_count_143 po th P )))
def wb_Cu_count_82 (po : Option Value → Pic → Prop) (th : String → Pic → Prop) (K4 : Pic → Nat → Int32 → Int32 → Int32 → Prop) (P : Pic) (a0 : Nat) (x1 : Int32) (x2 : Int32) (x3 : Int32) (x4 : Int32) (x5 : Int32) : Prop := ∀ (x120 : Int32), x120 = (x2 + x5) → ((¬ x4 = x1 → (wb_Cu_count_128 po th K4 P a0 x1 x120 x3 x4)) ∧ (x4 = x1 → (p_k P a0 = 4 ∧ ∃ a122, p_r P 121 a0 = some a122 ∧ p_k P a122 = 14 ∧ wp_Ar_size (cp_i fun x124 _ => (((x3 + (1 : Int32)) = x124 → (po (some (.int x120)) P)) ∧ (¬ (x3 + (1 : Int32)) = x124 → (∃ a125, p_r P 121 a0 = some a125 ∧ p_k P a125 = 14 ∧ wp_Ar_get (cp_a fun a127 _ => p_k P a127 = 10 ∧ wp_Re_day (cp_i fun x129 _ => ((x129 ≤ x1 → (wb_Cu_count_128 po th K4 P a0 x1 x120 x3 x4)) ∧ (¬ x129 ≤ x1 → (po (some (.int x120)) P)))) th P a127) th P a125 (x3 + (1 : Int32)))))) th P a122)))
def wb_Cu_count_4 (po : Option Value → Pic → Prop) (th : String → Pic → Prop) (K4 : Pic → Nat → Int32 → Int32 → Int32 → Prop) (P : Pic) (a0 : Nat) (x1 : Int32) (x2 : Int32) (x3 : Int32) : Prop := p_k P a0 = 4 ∧ ∃ a102, p_r P 121 a0 = some a102 ∧ p_k P a102 = 14 ∧ wp_Ar_size (cp_i fun x104 _ => ((x104 ≤ x3 → (wb_Cu_count_143 po th P )) ∧ (¬ x104 ≤ x3 → (∃ a105, p_r P 121 a0 = some a105 ∧ p_k P a105 = 14 ∧ wp_Ar_get (cp_a fun a107 _ => p_k P a107 = 10 ∧ wp_Re_day (cp_i fun x109 _ => wp_Cu_use (cp_i fun x110 _ => ((x109 ≤ x1 → (wb_Cu_count_82 po th K4 P a0 x1 x2 x3 x109 x110)) ∧ (¬ x109 ≤ x1 → (((x3 ≤ 0 → (wb_Cu_count_82 po th K4 P a0 x1 x2 x3 x109 x110)) ∧ (¬ x3 ≤ 0 → (∃ a111, p_r P 121 a0 = some a111 ∧ p_k P a111 = 14 ∧ wp_Ar_get (cp_a fun a113 _ => p_k P a113 = 10 ∧ wp_Re_day (cp_i fun x115 _ => ¬ (x109 - x115) = 0 ∧ po (some (.int (x2 + ((x110 * (x1 - x115)) / (x109 - x115))))) P) th P a113) th P a111 (x3 - (1 : Int32))))))))) th P a0 x3) th P a107) th P a105 x3)))) th P a102
def wl_Cu_count_4 (po : Option Value → Pic → Prop) (th : String → Pic → Prop) : Nat → Pic → Nat → Int32 → Int32 → Int32 → Prop
  | 0 => fun _ _ _ _ _ => False
  | n + 1 => wb_Cu_count_4 po th (wl_Cu_count_4 po th n)
def wp_Cu_count (po : Option Value → Pic → Prop) (th : String → Pic → Prop) (P : Pic) (a0 : Nat) (x1 : Int32) : Prop := ∃ n, wl_Cu_count_4 po th n P a0 x1 (0 : Int32) (0 : Int32)
theorem at_Cu_61 : ∀ a ∈ Bundle.ownAtoms0 "WaterWorks$Customer" 61 "java/util/NoSuchElementException" ["java/lang/RuntimeException", "java/lang/Exception"], a ∈ pq_tbl ∨ a ∈ ([.laysStatic Bundle.tN "UNASSIGNED_STACK" Bundle.steD, .isRef (.static Bundle.tN "UNASSIGNED_STACK" Bundle.steD), .laysStatic Bundle.tN "SUPPRESSED_SENTINEL" Bundle.listD, .isRef (.static Bundle.tN "SUPPRESSED_SENTINEL" Bundle.listD)] : List Cond) := by decide +kernel
set_option maxHeartbeats 4000000 in
set_option maxRecDepth 100000 in
theorem wk_Cu_count_143 {p : Program} {l : Launch} {e : Env} {s : State} {m : MethodId} {args : Array Value} {below : List Frame} {meth : Method} {c : Code} {D : pq_D} {P : Pic} {po : Option Value → Pic → Prop} {th : String → Pic → Prop} (hfl : l.flags = flags0) (C : Cx p e s m args meth c prog_4_method_4_code 7 "WaterWorks$Customer" D P) (hmg : e.platform.magicAccessors = ({} : Platform).magicAccessors) (hr : meth.sig.returnType = (some .int)) (hin : meth.name = "count") (htab : c.exceptionTable.toList = tableOf []) : ∀ (H : Heap) (cells slots : Nat) (ls : Array Slot), wb_Cu_count_143 po th P  → So s.heap H → lv_has ls 7 [] → cells + 1 ≤ 1 → slots + 6 ≤ 6 → W p l e rm_Cu_count s m args below meth c H [] cells slots (mt_MQ below (cq_Q D P true po th) args s 1 6 (cq_free P true)) (F0 m 143 ls []) := by
  intro  H cells slots ls h hO hl hcc hss
  obtain ⟨hx, hb, hml, hown, hlocks, htr, hT, hK, hSt, hN, hP0⟩ := id C
  have L14_3 : pq_fl s m args 14 3 1 := ⟨_, "WaterWorks$Customer", "WaterWorks$Customer", rfl, by decide, hown, Or.inl (hT _ k_698 _), (fun _ z => z)⟩
  have hP : Pi D P H := So.pi hP0 hO
  unfold wb_Cu_count_143 at h
  exact cq_throw C (by decide) (by decide +kernel) k_973 k_729 k_32 at_Cu_61 hl.1 d_Cu_count_143 d_Cu_count_146 d_Cu_count_147 d_Cu_count_150 (pq_nil htab rfl) ⟨Nat.le_of_ble_eq_true rfl, Nat.le_of_ble_eq_true rfl, (show cells + 1 ≤ 1 by omega), (show slots + 6 ≤ 6 by omega)⟩ (show cells + 1 ≤ 1 by omega) (show slots + 6 ≤ 6 by omega) hO h
set_option maxHeartbeats 4000000 in
set_option maxRecDepth 100000 in
theorem wk_Cu_count_128 {p : Program} {l : Launch} {e : Env} {s : State} {m : MethodId} {args : Array Value} {below : List Frame} {meth : Method} {c : Code} {D : pq_D} {P : Pic} {po : Option Value → Pic → Prop} {th : String → Pic → Prop} {K4 : Pic → Nat → Int32 → Int32 → Int32 → Prop} (hfl : l.flags = flags0) (C : Cx p e s m args meth c prog_4_method_4_code 7 "WaterWorks$Customer" D P) (hmg : e.platform.magicAccessors = ({} : Platform).magicAccessors) (hr : meth.sig.returnType = (some .int)) (hin : meth.name = "count") (htab : c.exceptionTable.toList = tableOf []) (HK4 : ∀ (a0 : Nat) (x1 : Int32) (x2 : Int32) (x3 : Int32) (H : Heap) (cells slots : Nat) (ls : Array Slot), K4 P a0 x1 x2 x3 → So s.heap H → lv_has ls 7 [(0, .ref a0), (1, .int x1), (2, .int x2), (3, .int x3)] → cells + 1 ≤ 1 → slots + 6 ≤ 6 → W p l e rm_Cu_count s m args below meth c H [] cells slots (mt_MQ below (cq_Q D P true po th) args s 1 6 (cq_free P true)) (F0 m 4 ls [])) : ∀ (a0 : Nat) (x1 : Int32) (x2 : Int32) (x3 : Int32) (x4 : Int32) (H : Heap) (cells slots : Nat) (ls : Array Slot), wb_Cu_count_128 po th K4 P a0 x1 x2 x3 x4 → So s.heap H → lv_has ls 7 [(0, .ref a0), (1, .int x1), (2, .int x2), (3, .int x3), (4, .int x4)] → cells + 1 ≤ 1 → slots + 6 ≤ 6 → W p l e rm_Cu_count s m args below meth c H [] cells slots (mt_MQ below (cq_Q D P true po th) args s 1 6 (cq_free P true)) (F0 m 128 ls []) := by
  intro a0 x1 x2 x3 x4 H cells slots ls h hO hl hcc hss
  obtain ⟨hx, hb, hml, hown, hlocks, htr, hT, hK, hSt, hN, hP0⟩ := id C
  have L14_3 : pq_fl s m args 14 3 1 := ⟨_, "WaterWorks$Customer", "WaterWorks$Customer", rfl, by decide, hown, Or.inl (hT _ k_698 _), (fun _ z => z)⟩
  have hP : Pi D P H := So.pi hP0 hO
  unfold wb_Cu_count_128 at h
  refine lv_iload (pc := 128) hx hb d_Cu_count_128 (lv_at hl 4 rfl) ?_
  refine lv_iload_n (pc := 130) hx hb d_Cu_count_130 rfl (lv_at hl 1 rfl) ?_
  refine lv_icmp_le (pc := 131) (tgt := 137) hx hb d_Cu_count_131 (by decide) (fun c134 => ?_) (fun c134 => ?_)
  · replace h := h.1 c134
    obtain ⟨x133, ex133⟩ : ∃ z : Int32, z = x3 + 1 := ⟨_, rfl⟩
    replace h := h x133 ex133
    refine lv_iinc (pc := 137) (v := x133) (lv' := [(3, .int x133), (0, .ref a0), (1, .int x1), (2, .int x2), (4, .int x4)]) hx hb d_Cu_count_137 hl (k := 3) rfl (by rw [ex133]; rfl) (by decide) rfl (fun ls hl => ?_)
    refine lv_goto (pc := 140) (tgt := 4) hx hb d_Cu_count_140 (by decide) ?_
    exact HK4 a0 x1 x2 x133 _ _ _ _ h hO (lv_sub hl [1, 2, 3, 0] rfl) (show cells + 1 ≤ 1 by omega) (show slots + 6 ≤ 6 by omega)
  · replace h := h.2 c134
    refine lv_goto (pc := 134) (tgt := 143) hx hb d_Cu_count_134 (by decide) ?_
    exact wk_Cu_count_143 hfl C hmg hr hin htab  _ _ _ _ h hO (lv_sub hl [] rfl) (show cells + 1 ≤ 1 by omega) (show slots + 6 ≤ 6 by omega)
set_option maxHeartbeats 4000000 in
set_option maxRecDepth 100000 in
theorem wk_Cu_count_82 {p : Program} {l : Launch} {e : Env} {s : State} {m : MethodId} {args : Array Value} {below : List Frame} {meth : Method} {c : Code} {D : pq_D} {P : Pic} {po : Option Value → Pic → Prop} {th : String → Pic → Prop} {K4 : Pic → Nat → Int32 → Int32 → Int32 → Prop} (hfl : l.flags = flags0) (C : Cx p e s m args meth c prog_4_method_4_code 7 "WaterWorks$Customer" D P) (hmg : e.platform.magicAccessors = ({} : Platform).magicAccessors) (hr : meth.sig.returnType = (some .int)) (hin : meth.name = "count") (htab : c.exceptionTable.toList = tableOf []) (HK4 : ∀ (a0 : Nat) (x1 : Int32) (x2 : Int32) (x3 : Int32) (H : Heap) (cells slots : Nat) (ls : Array Slot), K4 P a0 x1 x2 x3 → So s.heap H → lv_has ls 7 [(0, .ref a0), (1, .int x1), (2, .int x2), (3, .int x3)] → cells + 1 ≤ 1 → slots + 6 ≤ 6 → W p l e rm_Cu_count s m args below meth c H [] cells slots (mt_MQ below (cq_Q D P true po th) args s 1 6 (cq_free P true)) (F0 m 4 ls [])) : ∀ (a0 : Nat) (x1 : Int32) (x2 : Int32) (x3 : Int32) (x4 : Int32) (x5 : Int32) (H : Heap) (cells slots : Nat) (ls : Array Slot), wb_Cu_count_82 po th K4 P a0 x1 x2 x3 x4 x5 → So s.heap H → lv_has ls 7 [(0, .ref a0), (1, .int x1), (2, .int x2), (3, .int x3), (4, .int x4), (5, .int x5)] → cells + 1 ≤ 1 → slots + 6 ≤ 6 → W p l e rm_Cu_count s m args below meth c H [] cells slots (mt_MQ below (cq_Q D P true po th) args s 1 6 (cq_free P true)) (F0 m 82 ls []) := by
  intro a0 x1 x2 x3 x4 x5 H cells slots ls h hO hl hcc hss
  obtain ⟨hx, hb, hml, hown, hlocks, htr, hT, hK, hSt, hN, hP0⟩ := id C
  have L14_3 : pq_fl s m args 14 3 1 := ⟨_, "WaterWorks$Customer", "WaterWorks$Customer", rfl, by decide, hown, Or.inl (hT _ k_698 _), (fun _ z => z)⟩
  have hP : Pi D P H := So.pi hP0 hO
  unfold wb_Cu_count_82 at h
  refine lv_iload_n (pc := 82) hx hb d_Cu_count_82 rfl (lv_at hl 2 rfl) ?_
  refine lv_iload (pc := 83) hx hb d_Cu_count_83 (lv_at hl 5 rfl) ?_
  refine lv_iadd (pc := 85) hx hb d_Cu_count_85 ?_
  refine lv_topi (fun x120 ex120 => ?_)
  replace h := h x120 ex120
  refine lv_istore_n (pc := 86) (lv' := [(2, .int x120), (0, .ref a0), (1, .int x1), (3, .int x3), (4, .int x4), (5, .int x5)]) hx hb d_Cu_count_86 rfl hl (by decide) rfl (fun ls hl => ?_)
  refine lv_iload (pc := 87) hx hb d_Cu_count_87 (lv_at hl 4 rfl) ?_
  refine lv_iload_n (pc := 89) hx hb d_Cu_count_89 rfl (lv_at hl 2 rfl) ?_
  refine lv_icmp_ne (pc := 90) (tgt := 128) hx hb d_Cu_count_90 (by decide) (fun c132 => ?_) (fun c132 => ?_)
  · replace h := h.1 c132
    exact wk_Cu_count_128 hfl C hmg hr hin htab HK4 a0 x1 x120 x3 x4 _ _ _ _ h hO (lv_sub hl [1, 2, 0, 3, 4] rfl) (show cells + 1 ≤ 1 by omega) (show slots + 6 ≤ 6 by omega)
  · replace h := h.2 c132
    refine lv_iload_n (pc := 93) hx hb d_Cu_count_93 rfl (lv_at hl 3 rfl) ?_
    refine lv_iconst (pc := 94) (v := 1) hx hb d_Cu_count_94 (by decide) ?_
    refine lv_iadd (pc := 95) hx hb d_Cu_count_95 ?_
    refine lv_aload_n (pc := 96) hx hb d_Cu_count_96 rfl (lv_at hl 1 rfl) ?_
    obtain ⟨hk121, h⟩ := h
    obtain ⟨a122, ea122, h⟩ := h
    refine pq_geta (pc := 97) (f := 121) hx hb hT hK hP L14_3 hk121 rfl ea122 d_Cu_count_97 ?_
    obtain ⟨hk123, h⟩ := h
    refine co_i (pc := 100) C (rest := [.int (x3 + (1 : Int32))]) (mt_invV (As := []) hx hb hown (hT _ k_894 _) (hT _ k_472 _) (hT _ k_473 _) (mt_Cd.code (hT _ k_474 #[])) h_Ar_size (pq_recv hK hP hk123 rfl) n_Ar_size rfl d_Cu_count_100) (ct_Ar_size hfl D h) k_474 k_5 ⟨Nat.le_of_ble_eq_true rfl, Nat.le_of_ble_eq_true rfl⟩ ⟨(show cells + 0 ≤ 1 by omega), (show slots + 0 ≤ 6 by omega)⟩ hl.1 d_Cu_count_100 (Nat.le_of_ble_eq_true rfl) hO (fun x124 H h hO => ?_) (fun xx X H h hX hex hO => ?_)
    · have hP : Pi D P H := So.pi hP0 hO
      refine lv_icmp_eq (pc := 103) (tgt := 126) hx hb d_Cu_count_103 (by decide) (fun c131 => ?_) (fun c131 => ?_)
      · replace h := h.1 c131
        refine lv_iload_n (pc := 126) hx hb d_Cu_count_126 rfl (lv_at hl 0 rfl) ?_
        exact wo_i (pc := 127) hx hb hlocks hr hP0 hO (show cells + 0 + 0 ≤ 1 by omega) (show slots + 0 + 0 ≤ 6 by omega) h d_Cu_count_127
      · replace h := h.2 c131
        refine lv_aload_n (pc := 106) hx hb d_Cu_count_106 rfl (lv_at hl 1 rfl) ?_
        obtain ⟨a125, ea125, h⟩ := h
        refine pq_geta (pc := 107) (f := 121) hx hb hT hK hP L14_3 hk121 rfl ea125 d_Cu_count_107 ?_
        refine lv_iload_n (pc := 110) hx hb d_Cu_count_110 rfl (lv_at hl 3 rfl) ?_
        refine lv_iconst (pc := 111) (v := 1) hx hb d_Cu_count_111 (by decide) ?_
        refine lv_iadd (pc := 112) hx hb d_Cu_count_112 ?_
        obtain ⟨hk126, h⟩ := h
        refine co_a (pc := 113) C (rest := []) (mt_invV (As := [.int (x3 + (1 : Int32))]) hx hb hown (hT _ k_895 _) (hT _ k_607 _) (hT _ k_608 _) (mt_Cd.code (hT _ k_609 #[])) h_Ar_get (pq_recv hK hP hk126 rfl) n_Ar_get rfl d_Cu_count_113) (ct_Ar_get hfl D h) k_609 k_5 ⟨Nat.le_of_ble_eq_true rfl, Nat.le_of_ble_eq_true rfl⟩ ⟨(show cells + 0 + 0 ≤ 1 by omega), (show slots + 0 + 0 ≤ 6 by omega)⟩ hl.1 d_Cu_count_113 (Nat.le_of_ble_eq_true rfl) hO (fun a127 H h hO => ?_) (fun xx X H h hX hex hO => ?_)
        · have hP : Pi D P H := So.pi hP0 hO
          obtain ⟨hk128, h⟩ := h
          refine pq_cast (pc := 116) hx hb hT hK hP hown k_896 hk128 rfl k_1354 d_Cu_count_116 ?_
          refine co_i (pc := 119) C (rest := []) (mt_invV (As := []) hx hb hown (hT _ k_964 _) (hT _ k_898 _) (hT _ k_899 _) (mt_Cd.code (hT _ k_900 #[])) h_Re_day (pq_recv hK hP hk128 rfl) n_Re_day rfl d_Cu_count_119) (ct_Re_day hfl D h) k_900 k_34 ⟨Nat.le_of_ble_eq_true rfl, Nat.le_of_ble_eq_true rfl⟩ ⟨(show cells + 0 + 0 + 0 ≤ 1 by omega), (show slots + 0 + 0 + 0 ≤ 6 by omega)⟩ hl.1 d_Cu_count_119 (Nat.le_of_ble_eq_true rfl) hO (fun x129 H h hO => ?_) (fun xx X H h hX hex hO => ?_)
          · have hP : Pi D P H := So.pi hP0 hO
            refine lv_iload_n (pc := 122) hx hb d_Cu_count_122 rfl (lv_at hl 2 rfl) ?_
            refine lv_icmp_le (pc := 123) (tgt := 128) hx hb d_Cu_count_123 (by decide) (fun c130 => ?_) (fun c130 => ?_)
            · replace h := h.1 c130
              exact wk_Cu_count_128 hfl C hmg hr hin htab HK4 a0 x1 x120 x3 x4 _ _ _ _ h hO (lv_sub hl [1, 2, 0, 3, 4] rfl) (show cells + 0 + 0 + 0 + 1 ≤ 1 by omega) (show slots + 0 + 0 + 0 + 6 ≤ 6 by omega)
            · replace h := h.2 c130
              refine lv_iload_n (pc := 126) hx hb d_Cu_count_126 rfl (lv_at hl 0 rfl) ?_
              exact wo_i (pc := 127) hx hb hlocks hr hP0 hO (show cells + 0 + 0 + 0 + 0 ≤ 1 by omega) (show slots + 0 + 0 + 0 + 0 ≤ 6 by omega) h d_Cu_count_127
          · exact cq_outo hlocks (pq_nil htab rfl) (show cells + 0 + 0 + 0 + 0 ≤ 1 by omega) (show slots + 0 + 0 + 0 + 0 ≤ 6 by omega) hX hex hP0 hO h
        · exact cq_outo hlocks (pq_nil htab rfl) (show cells + 0 + 0 + 0 ≤ 1 by omega) (show slots + 0 + 0 + 0 ≤ 6 by omega) hX hex hP0 hO h
    · exact cq_outo hlocks (pq_nil htab rfl) (show cells + 0 + 0 ≤ 1 by omega) (show slots + 0 + 0 ≤ 6 by omega) hX hex hP0 hO h
set_option maxHeartbeats 4000000 in
set_option maxRecDepth 100000 in
theorem wk_Cu_count_4 {p : Program} {l : Launch} {e : Env} {s : State} {m : MethodId} {args : Array Value} {below : List Frame} {meth : Method} {c : Code} {D : pq_D} {P : Pic} {po : Option Value → Pic → Prop} {th : String → Pic → Prop} {K4 : Pic → Nat → Int32 → Int32 → Int32 → Prop} (hfl : l.flags = flags0) (C : Cx p e s m args meth c prog_4_method_4_code 7 "WaterWorks$Customer" D P) (hmg : e.platform.magicAccessors = ({} : Platform).magicAccessors) (hr : meth.sig.returnType = (some .int)) (hin : meth.name = "count") (htab : c.exceptionTable.toList = tableOf []) (HK4 : ∀ (a0 : Nat) (x1 : Int32) (x2 : Int32) (x3 : Int32) (H : Heap) (cells slots : Nat) (ls : Array Slot), K4 P a0 x1 x2 x3 → So s.heap H → lv_has ls 7 [(0, .ref a0), (1, .int x1), (2, .int x2), (3, .int x3)] → cells + 1 ≤ 1 → slots + 6 ≤ 6 → W p l e rm_Cu_count s m args below meth c H [] cells slots (mt_MQ below (cq_Q D P true po th) args s 1 6 (cq_free P true)) (F0 m 4 ls [])) : ∀ (a0 : Nat) (x1 : Int32) (x2 : Int32) (x3 : Int32) (H : Heap) (cells slots : Nat) (ls : Array Slot), wb_Cu_count_4 po th K4 P a0 x1 x2 x3 → So s.heap H → lv_has ls 7 [(0, .ref a0), (1, .int x1), (2, .int x2), (3, .int x3)] → cells + 1 ≤ 1 → slots + 6 ≤ 6 → W p l e rm_Cu_count s m args below meth c H [] cells slots (mt_MQ below (cq_Q D P true po th) args s 1 6 (cq_free P true)) (F0 m 4 ls []) := by
  intro a0 x1 x2 x3 H cells slots ls h hO hl hcc hss
  obtain ⟨hx, hb, hml, hown, hlocks, htr, hT, hK, hSt, hN, hP0⟩ := id C
  have L14_3 : pq_fl s m args 14 3 1 := ⟨_, "WaterWorks$Customer", "WaterWorks$Customer", rfl, by decide, hown, Or.inl (hT _ k_698 _), (fun _ z => z)⟩
  have hP : Pi D P H := So.pi hP0 hO
  unfold wb_Cu_count_4 at h
  refine lv_iload_n (pc := 4) hx hb d_Cu_count_4 rfl (lv_at hl 3 rfl) ?_
  refine lv_aload_n (pc := 5) hx hb d_Cu_count_5 rfl (lv_at hl 0 rfl) ?_
  obtain ⟨hk101, h⟩ := h
  obtain ⟨a102, ea102, h⟩ := h
  refine pq_geta (pc := 6) (f := 121) hx hb hT hK hP L14_3 hk101 rfl ea102 d_Cu_count_6 ?_
  obtain ⟨hk103, h⟩ := h
  refine co_i (pc := 9) C (rest := [.int x3]) (mt_invV (As := []) hx hb hown (hT _ k_894 _) (hT _ k_472 _) (hT _ k_473 _) (mt_Cd.code (hT _ k_474 #[])) h_Ar_size (pq_recv hK hP hk103 rfl) n_Ar_size rfl d_Cu_count_9) (ct_Ar_size hfl D h) k_474 k_5 ⟨Nat.le_of_ble_eq_true rfl, Nat.le_of_ble_eq_true rfl⟩ ⟨(show cells + 0 ≤ 1 by omega), (show slots + 0 ≤ 6 by omega)⟩ hl.1 d_Cu_count_9 (Nat.le_of_ble_eq_true rfl) hO (fun x104 H h hO => ?_) (fun xx X H h hX hex hO => ?_)
  · have hP : Pi D P H := So.pi hP0 hO
    refine lv_icmp_ge (pc := 12) (tgt := 143) hx hb d_Cu_count_12 (by decide) (fun c119 => ?_) (fun c119 => ?_)
    · replace h := h.1 c119
      exact wk_Cu_count_143 hfl C hmg hr hin htab  _ _ _ _ h hO (lv_sub hl [] rfl) (show cells + 0 + 1 ≤ 1 by omega) (show slots + 0 + 6 ≤ 6 by omega)
    · replace h := h.2 c119
      refine lv_aload_n (pc := 15) hx hb d_Cu_count_15 rfl (lv_at hl 0 rfl) ?_
      obtain ⟨a105, ea105, h⟩ := h
      refine pq_geta (pc := 16) (f := 121) hx hb hT hK hP L14_3 hk101 rfl ea105 d_Cu_count_16 ?_
      refine lv_iload_n (pc := 19) hx hb d_Cu_count_19 rfl (lv_at hl 3 rfl) ?_
      obtain ⟨hk106, h⟩ := h
      refine co_a (pc := 20) C (rest := []) (mt_invV (As := [.int x3]) hx hb hown (hT _ k_895 _) (hT _ k_607 _) (hT _ k_608 _) (mt_Cd.code (hT _ k_609 #[])) h_Ar_get (pq_recv hK hP hk106 rfl) n_Ar_get rfl d_Cu_count_20) (ct_Ar_get hfl D h) k_609 k_5 ⟨Nat.le_of_ble_eq_true rfl, Nat.le_of_ble_eq_true rfl⟩ ⟨(show cells + 0 + 0 ≤ 1 by omega), (show slots + 0 + 0 ≤ 6 by omega)⟩ hl.1 d_Cu_count_20 (Nat.le_of_ble_eq_true rfl) hO (fun a107 H h hO => ?_) (fun xx X H h hX hex hO => ?_)
      · have hP : Pi D P H := So.pi hP0 hO
        obtain ⟨hk108, h⟩ := h
        refine pq_cast (pc := 23) hx hb hT hK hP hown k_896 hk108 rfl k_1354 d_Cu_count_23 ?_
        refine co_i (pc := 26) C (rest := []) (mt_invV (As := []) hx hb hown (hT _ k_964 _) (hT _ k_898 _) (hT _ k_899 _) (mt_Cd.code (hT _ k_900 #[])) h_Re_day (pq_recv hK hP hk108 rfl) n_Re_day rfl d_Cu_count_26) (ct_Re_day hfl D h) k_900 k_34 ⟨Nat.le_of_ble_eq_true rfl, Nat.le_of_ble_eq_true rfl⟩ ⟨(show cells + 0 + 0 + 0 ≤ 1 by omega), (show slots + 0 + 0 + 0 ≤ 6 by omega)⟩ hl.1 d_Cu_count_26 (Nat.le_of_ble_eq_true rfl) hO (fun x109 H h hO => ?_) (fun xx X H h hX hex hO => ?_)
        · have hP : Pi D P H := So.pi hP0 hO
          refine lv_istore (pc := 29) (lv' := [(4, .int x109), (0, .ref a0), (1, .int x1), (2, .int x2), (3, .int x3)]) hx hb d_Cu_count_29 hl (by decide) rfl (fun ls hl => ?_)
          refine lv_aload_n (pc := 31) hx hb d_Cu_count_31 rfl (lv_at hl 1 rfl) ?_
          refine lv_iload_n (pc := 32) hx hb d_Cu_count_32 rfl (lv_at hl 4 rfl) ?_
          refine co_i (pc := 33) C (rest := []) (mt_invV (As := [.int x3]) hx hb hown (hT _ k_965 _) (hT _ k_967 _) (hT _ ks_12 _) (mt_Cd.code (hT _ k_968 #[])) h_Cu_use (pq_recv hK hP hk101 rfl) n_Cu_use rfl d_Cu_count_33) (ct_Cu_use hfl D h) k_968 k_31 ⟨Nat.le_of_ble_eq_true rfl, Nat.le_of_ble_eq_true rfl⟩ ⟨(show cells + 0 + 0 + 0 + 0 ≤ 1 by omega), (show slots + 0 + 0 + 0 + 0 ≤ 6 by omega)⟩ hl.1 d_Cu_count_33 (Nat.le_of_ble_eq_true rfl) hO (fun x110 H h hO => ?_) (fun xx X H h hX hex hO => ?_)
          · have hP : Pi D P H := So.pi hP0 hO
            refine lv_istore (pc := 36) (lv' := [(5, .int x110), (4, .int x109), (0, .ref a0), (1, .int x1), (2, .int x2), (3, .int x3)]) hx hb d_Cu_count_36 hl (by decide) rfl (fun ls hl => ?_)
            refine lv_iload (pc := 38) hx hb d_Cu_count_38 (lv_at hl 1 rfl) ?_
            refine lv_iload_n (pc := 40) hx hb d_Cu_count_40 rfl (lv_at hl 3 rfl) ?_
            refine lv_icmp_le (pc := 41) (tgt := 82) hx hb d_Cu_count_41 (by decide) (fun c118 => ?_) (fun c118 => ?_)
            · replace h := h.1 c118
              exact wk_Cu_count_82 hfl C hmg hr hin htab HK4 a0 x1 x2 x3 x109 x110 _ _ _ _ h hO (lv_sub hl [2, 3, 4, 5, 1, 0] rfl) (show cells + 0 + 0 + 0 + 0 + 1 ≤ 1 by omega) (show slots + 0 + 0 + 0 + 0 + 6 ≤ 6 by omega)
            · replace h := h.2 c118
              refine lv_iload_n (pc := 44) hx hb d_Cu_count_44 rfl (lv_at hl 5 rfl) ?_
              refine lv_if_le (pc := 45) (tgt := 82) hx hb d_Cu_count_45 (by decide) (fun c117 => ?_) (fun c117 => ?_)
              · replace h := h.1 c117
                exact wk_Cu_count_82 hfl C hmg hr hin htab HK4 a0 x1 x2 x3 x109 x110 _ _ _ _ h hO (lv_sub hl [2, 3, 4, 5, 1, 0] rfl) (show cells + 0 + 0 + 0 + 0 + 1 ≤ 1 by omega) (show slots + 0 + 0 + 0 + 0 + 6 ≤ 6 by omega)
              · replace h := h.2 c117
                refine lv_aload_n (pc := 48) hx hb d_Cu_count_48 rfl (lv_at hl 2 rfl) ?_
                obtain ⟨a111, ea111, h⟩ := h
                refine pq_geta (pc := 49) (f := 121) hx hb hT hK hP L14_3 hk101 rfl ea111 d_Cu_count_49 ?_
                refine lv_iload_n (pc := 52) hx hb d_Cu_count_52 rfl (lv_at hl 5 rfl) ?_
                refine lv_iconst (pc := 53) (v := 1) hx hb d_Cu_count_53 (by decide) ?_
                refine lv_isub (pc := 54) hx hb d_Cu_count_54 ?_
                obtain ⟨hk112, h⟩ := h
                refine co_a (pc := 55) C (rest := []) (mt_invV (As := [.int (x3 - (1 : Int32))]) hx hb hown (hT _ k_895 _) (hT _ k_607 _) (hT _ k_608 _) (mt_Cd.code (hT _ k_609 #[])) h_Ar_get (pq_recv hK hP hk112 rfl) n_Ar_get rfl d_Cu_count_55) (ct_Ar_get hfl D h) k_609 k_5 ⟨Nat.le_of_ble_eq_true rfl, Nat.le_of_ble_eq_true rfl⟩ ⟨(show cells + 0 + 0 + 0 + 0 + 0 ≤ 1 by omega), (show slots + 0 + 0 + 0 + 0 + 0 ≤ 6 by omega)⟩ hl.1 d_Cu_count_55 (Nat.le_of_ble_eq_true rfl) hO (fun a113 H h hO => ?_) (fun xx X H h hX hex hO => ?_)
                · have hP : Pi D P H := So.pi hP0 hO
                  obtain ⟨hk114, h⟩ := h
                  refine pq_cast (pc := 58) hx hb hT hK hP hown k_896 hk114 rfl k_1354 d_Cu_count_58 ?_
                  refine co_i (pc := 61) C (rest := []) (mt_invV (As := []) hx hb hown (hT _ k_964 _) (hT _ k_898 _) (hT _ k_899 _) (mt_Cd.code (hT _ k_900 #[])) h_Re_day (pq_recv hK hP hk114 rfl) n_Re_day rfl d_Cu_count_61) (ct_Re_day hfl D h) k_900 k_34 ⟨Nat.le_of_ble_eq_true rfl, Nat.le_of_ble_eq_true rfl⟩ ⟨(show cells + 0 + 0 + 0 + 0 + 0 + 0 ≤ 1 by omega), (show slots + 0 + 0 + 0 + 0 + 0 + 0 ≤ 6 by omega)⟩ hl.1 d_Cu_count_61 (Nat.le_of_ble_eq_true rfl) hO (fun x115 H h hO => ?_) (fun xx X H h hX hex hO => ?_)
                  · have hP : Pi D P H := So.pi hP0 hO
                    refine lv_istore (pc := 64) (lv' := [(6, .int x115), (5, .int x110), (4, .int x109), (0, .ref a0), (1, .int x1), (2, .int x2), (3, .int x3)]) hx hb d_Cu_count_64 hl (by decide) rfl (fun ls hl => ?_)
                    refine lv_iload_n (pc := 66) hx hb d_Cu_count_66 rfl (lv_at hl 5 rfl) ?_
                    refine lv_iload (pc := 67) hx hb d_Cu_count_67 (lv_at hl 1 rfl) ?_
                    refine lv_iload_n (pc := 69) hx hb d_Cu_count_69 rfl (lv_at hl 4 rfl) ?_
                    refine lv_iload (pc := 70) hx hb d_Cu_count_70 (lv_at hl 0 rfl) ?_
                    refine lv_isub (pc := 72) hx hb d_Cu_count_72 ?_
                    refine lv_imul (pc := 73) hx hb d_Cu_count_73 ?_
                    refine lv_iload (pc := 74) hx hb d_Cu_count_74 (lv_at hl 2 rfl) ?_
                    refine lv_iload (pc := 76) hx hb d_Cu_count_76 (lv_at hl 0 rfl) ?_
                    refine lv_isub (pc := 78) hx hb d_Cu_count_78 ?_
                    obtain ⟨hd116, h⟩ := h
                    refine lv_idiv (pc := 79) hx hb d_Cu_count_79 hd116 ?_
                    refine lv_iadd (pc := 80) hx hb d_Cu_count_80 ?_
                    exact wo_i (pc := 81) hx hb hlocks hr hP0 hO (show cells + 0 + 0 + 0 + 0 + 0 + 0 + 0 ≤ 1 by omega) (show slots + 0 + 0 + 0 + 0 + 0 + 0 + 0 ≤ 6 by omega) h d_Cu_count_81
                  · exact cq_outo hlocks (pq_nil htab rfl) (show cells + 0 + 0 + 0 + 0 + 0 + 0 + 0 ≤ 1 by omega) (show slots + 0 + 0 + 0 + 0 + 0 + 0 + 0 ≤ 6 by omega) hX hex hP0 hO h
                · exact cq_outo hlocks (pq_nil htab rfl) (show cells + 0 + 0 + 0 + 0 + 0 + 0 ≤ 1 by omega) (show slots + 0 + 0 + 0 + 0 + 0 + 0 ≤ 6 by omega) hX hex hP0 hO h
          · exact cq_outo hlocks (pq_nil htab rfl) (show cells + 0 + 0 + 0 + 0 + 0 ≤ 1 by omega) (show slots + 0 + 0 + 0 + 0 + 0 ≤ 6 by omega) hX hex hP0 hO h
        · exact cq_outo hlocks (pq_nil htab rfl) (show cells + 0 + 0 + 0 + 0 ≤ 1 by omega) (show slots + 0 + 0 + 0 + 0 ≤ 6 by omega) hX hex hP0 hO h
      · exact cq_outo hlocks (pq_nil htab rfl) (show cells + 0 + 0 + 0 ≤ 1 by omega) (show slots + 0 + 0 + 0 ≤ 6 by omega) hX hex hP0 hO h
  · exact cq_outo hlocks (pq_nil htab rfl) (show cells + 0 + 0 ≤ 1 by omega) (show slots + 0 + 0 ≤ 6 by omega) hX hex hP0 hO h
theorem wm_Cu_count_4 {p : Program} {l : Launch} {e : Env} {s : State} {m : MethodId} {args : Array Value} {below : List Frame} {meth : Method} {c : Code} {D : pq_D} {P : Pic} {po : Option Value → Pic → Prop} {th : String → Pic → Prop} (hfl : l.flags = flags0) (C : Cx p e s m args meth c prog_4_method_4_code 7 "WaterWorks$Customer" D P) (hmg : e.platform.magicAccessors = ({} : Platform).magicAccessors) (hr : meth.sig.returnType = (some .int)) (hin : meth.name = "count") (htab : c.exceptionTable.toList = tableOf []) : ∀ n : Nat, ∀ (a0 : Nat) (x1 : Int32) (x2 : Int32) (x3 : Int32) (H : Heap) (cells slots : Nat) (ls : Array Slot), wl_Cu_count_4 po th n P a0 x1 x2 x3 → So s.heap H → lv_has ls 7 [(0, .ref a0), (1, .int x1), (2, .int x2), (3, .int x3)] → cells + 1 ≤ 1 → slots + 6 ≤ 6 → W p l e rm_Cu_count s m args below meth c H [] cells slots (mt_MQ below (cq_Q D P true po th) args s 1 6 (cq_free P true)) (F0 m 4 ls []) := by
  intro n
  induction n with
  | zero => intro a0 x1 x2 x3 H cells slots ls h; exact h.elim
  | succ n ih => exact wk_Cu_count_4 hfl C hmg hr hin htab ih
set_option maxHeartbeats 4000000 in
set_option maxRecDepth 100000 in
theorem ct_Cu_count {l : Launch} (hfl : l.flags = flags0) (D : pq_D) {po : Option Value → Pic → Prop} {th : String → Pic → Prop} {P : Pic} {a0 : Nat} {x1 : Int32} (h : wp_Cu_count po th P a0 x1) : CT l D y_Cu_count (.code y_Cu_count prog_4_method_4_code 7 (some .int)) rm_Cu_count true [.ref a0, .int x1] P po th := by
  refine ct_of (hs := []) hfl (by decide +kernel) (Or.inl ⟨rfl, rfl⟩) (Nat.le_of_ble_eq_true rfl) ?_
  intro p e s m below meth c C hmg hr hin htab ls hl
  have hl : lv_has ls 7 [(0, .ref a0), (1, .int x1)] := hl
  generalize hargs : ([.ref a0, .int x1] : List Value).toArray = args at C ⊢
  obtain ⟨hx, hb, hml, hown, hlocks, htr, hT, hK, hSt, hN, hP0⟩ := id C
  have L14_3 : pq_fl s m args 14 3 1 := ⟨_, "WaterWorks$Customer", "WaterWorks$Customer", rfl, by decide, hown, Or.inl (hT _ k_698 _), (fun _ z => z)⟩
  have hO : So s.heap s.heap := So.rf
  have hP : Pi D P s.heap := hP0
  unfold wp_Cu_count at h
  refine lv_iconst (pc := 0) (v := 0) hx hb d_Cu_count_0 (by decide) ?_
  refine lv_istore_n (pc := 1) (lv' := [(2, .int (0 : Int32)), (0, .ref a0), (1, .int x1)]) hx hb d_Cu_count_1 rfl hl (by decide) rfl (fun ls hl => ?_)
  refine lv_iconst (pc := 2) (v := 0) hx hb d_Cu_count_2 (by decide) ?_
  refine lv_istore_n (pc := 3) (lv' := [(3, .int (0 : Int32)), (2, .int (0 : Int32)), (0, .ref a0), (1, .int x1)]) hx hb d_Cu_count_3 rfl hl (by decide) rfl (fun ls hl => ?_)
  obtain ⟨n, h⟩ := h
  exact wm_Cu_count_4 hfl C hmg hr hin htab n a0 x1 (0 : Int32) (0 : Int32) _ _ _ _ h hO (lv_sub hl [2, 3, 1, 0] rfl) (show 0 + 1 ≤ 1 by omega) (show 0 + 6 ≤ 6 by omega)
/-! WaterWorks$Customer.billedUpTo()I -/
abbrev y_Cu_billedUpTo : MethodName := ⟨"WaterWorks$Customer", "billedUpTo", "()I"⟩
abbrev rm_Cu_billedUpTo : Room := { frames := 4, cells := 0, slots := 0, locals := 104 }
theorem h_Cu_billedUpTo : y_Cu_billedUpTo.cls ≠ "java/lang/invoke/MethodHandle" ∧ y_Cu_billedUpTo.cls ≠ "java/lang/invoke/VarHandle" := by decide +kernel
theorem n_Cu_billedUpTo : (parseMethodDescriptor y_Cu_billedUpTo.desc).map (fun d => d.parameters.length) = some 0 := by decide +kernel
theorem d_Cu_billedUpTo_0 : decode prog_4_method_5_code 0 = .ok (.aload_n 0, 1) := by decide +kernel
theorem d_Cu_billedUpTo_1 : decode prog_4_method_5_code 1 = .ok (.getfield 20, 3) := by decide +kernel
theorem d_Cu_billedUpTo_4 : decode prog_4_method_5_code 4 = .ok (.invokevirtual 27, 3) := by decide +kernel
theorem d_Cu_billedUpTo_7 : decode prog_4_method_5_code 7 = .ok (.ifCond .eq 20, 3) := by decide +kernel
theorem d_Cu_billedUpTo_10 : decode prog_4_method_5_code 10 = .ok (.aload_n 0, 1) := by decide +kernel
theorem d_Cu_billedUpTo_11 : decode prog_4_method_5_code 11 = .ok (.getfield 14, 3) := by decide +kernel
theorem d_Cu_billedUpTo_14 : decode prog_4_method_5_code 14 = .ok (.iconst 0, 1) := by decide +kernel
theorem d_Cu_billedUpTo_15 : decode prog_4_method_5_code 15 = .ok (.invokevirtual 35, 3) := by decide +kernel
theorem d_Cu_billedUpTo_18 : decode prog_4_method_5_code 18 = .ok (.checkcast 39, 3) := by decide +kernel
theorem d_Cu_billedUpTo_21 : decode prog_4_method_5_code 21 = .ok (.invokevirtual 53, 3) := by decide +kernel
theorem d_Cu_billedUpTo_24 : decode prog_4_method_5_code 24 = .ok (.goto 25, 3) := by decide +kernel
theorem d_Cu_billedUpTo_27 : decode prog_4_method_5_code 27 = .ok (.aload_n 0, 1) := by decide +kernel
theorem d_Cu_billedUpTo_28 : decode prog_4_method_5_code 28 = .ok (.getfield 20, 3) := by decide +kernel
theorem d_Cu_billedUpTo_31 : decode prog_4_method_5_code 31 = .ok (.aload_n 0, 1) := by decide +kernel
theorem d_Cu_billedUpTo_32 : decode prog_4_method_5_code 32 = .ok (.getfield 20, 3) := by decide +kernel
theorem d_Cu_billedUpTo_35 : decode prog_4_method_5_code 35 = .ok (.invokevirtual 31, 3) := by decide +kernel
theorem d_Cu_billedUpTo_38 : decode prog_4_method_5_code 38 = .ok (.iconst 1, 1) := by decide +kernel
theorem d_Cu_billedUpTo_39 : decode prog_4_method_5_code 39 = .ok (.isub, 1) := by decide +kernel
theorem d_Cu_billedUpTo_40 : decode prog_4_method_5_code 40 = .ok (.invokevirtual 35, 3) := by decide +kernel
theorem d_Cu_billedUpTo_43 : decode prog_4_method_5_code 43 = .ok (.checkcast 62, 3) := by decide +kernel
theorem d_Cu_billedUpTo_46 : decode prog_4_method_5_code 46 = .ok (.getfield 64, 3) := by decide +kernel
theorem d_Cu_billedUpTo_49 : decode prog_4_method_5_code 49 = .ok (.ireturn, 1) := by decide +kernel
def wp_Cu_billedUpTo (po : Option Value → Pic → Prop) (th : String → Pic → Prop) (P : Pic) (a0 : Nat) : Prop := p_k P a0 = 4 ∧ ∃ a102, p_r P 122 a0 = some a102 ∧ p_k P a102 = 14 ∧ wp_Ar_isEmpty (cp_i fun x104 _ => ((x104 = 0 → (∃ a105, p_r P 122 a0 = some a105 ∧ ∃ a106, p_r P 122 a0 = some a106 ∧ p_k P a106 = 14 ∧ wp_Ar_size (cp_i fun x108 _ => p_k P a105 = 14 ∧ wp_Ar_get (cp_a fun a110 _ => p_k P a110 = 3 ∧ po (some (.int (p_i P 81 a110))) P) th P a105 (x108 - (1 : Int32))) th P a106)) ∧ (¬ x104 = 0 → (∃ a112, p_r P 121 a0 = some a112 ∧ p_k P a112 = 14 ∧ wp_Ar_get (cp_a fun a114 _ => p_k P a114 = 10 ∧ wp_Re_day (cp_i fun x116 _ => po (some (.int x116)) P) th P a114) th P a112 (0 : Int32))))) th P a102
set_option maxHeartbeats 4000000 in
set_option maxRecDepth 100000 in
theorem ct_Cu_billedUpTo {l : Launch} (hfl : l.flags = flags0) (D : pq_D) {po : Option Value → Pic → Prop} {th : String → Pic → Prop} {P : Pic} {a0 : Nat} (h : wp_Cu_billedUpTo po th P a0) : CT l D y_Cu_billedUpTo (.code y_Cu_billedUpTo prog_4_method_5_code 1 (some .int)) rm_Cu_billedUpTo true [.ref a0] P po th := by
  refine ct_of (hs := []) hfl (by decide +kernel) (Or.inl ⟨rfl, rfl⟩) (Nat.le_of_ble_eq_true rfl) ?_
  intro p e s m below meth c C hmg hr hin htab ls hl
  have hl : lv_has ls 1 [(0, .ref a0)] := hl
  generalize hargs : ([.ref a0] : List Value).toArray = args at C ⊢
  obtain ⟨hx, hb, hml, hown, hlocks, htr, hT, hK, hSt, hN, hP0⟩ := id C
  have L14_3 : pq_fl s m args 14 3 1 := ⟨_, "WaterWorks$Customer", "WaterWorks$Customer", rfl, by decide, hown, Or.inl (hT _ k_698 _), (fun _ z => z)⟩
  have L20_3 : pq_fl s m args 20 3 2 := ⟨_, "WaterWorks$Customer", "WaterWorks$Customer", rfl, by decide, hown, Or.inl (hT _ k_700 _), (fun _ z => z)⟩
  have L64_2 : pq_fl s m args 64 2 1 := ⟨_, "WaterWorks$Customer", "WaterWorks$Bill", rfl, by decide, hown, Or.inr ⟨_, hT _ k_1063 _⟩, (fun _ z => z)⟩
  have hO : So s.heap s.heap := So.rf
  have hP : Pi D P s.heap := hP0
  unfold wp_Cu_billedUpTo at h
  refine lv_aload_n (pc := 0) hx hb d_Cu_billedUpTo_0 rfl (lv_at hl 0 rfl) ?_
  obtain ⟨hk101, h⟩ := h
  obtain ⟨a102, ea102, h⟩ := h
  refine pq_geta (pc := 1) (f := 122) hx hb hT hK hP L20_3 hk101 rfl ea102 d_Cu_billedUpTo_1 ?_
  obtain ⟨hk103, h⟩ := h
  refine co_i (pc := 4) C (rest := []) (mt_invV (As := []) hx hb hown (hT _ k_890 _) (hT _ k_891 _) (hT _ k_892 _) (mt_Cd.code (hT _ k_893 #[])) h_Ar_isEmpty (pq_recv hK hP hk103 rfl) n_Ar_isEmpty rfl d_Cu_billedUpTo_4) (ct_Ar_isEmpty hfl D h) k_893 k_5 ⟨Nat.le_of_ble_eq_true rfl, Nat.le_of_ble_eq_true rfl⟩ ⟨(show 0 + 0 ≤ 0 by omega), (show 0 + 0 ≤ 0 by omega)⟩ hl.1 d_Cu_billedUpTo_4 (Nat.le_of_ble_eq_true rfl) hO (fun x104 H h hO => ?_) (fun xx X H h hX hex hO => ?_)
  · have hP : Pi D P H := So.pi hP0 hO
    refine lv_if_eq (pc := 7) (tgt := 27) hx hb d_Cu_billedUpTo_7 (by decide) (fun c117 => ?_) (fun c117 => ?_)
    · replace h := h.1 c117
      refine lv_aload_n (pc := 27) hx hb d_Cu_billedUpTo_27 rfl (lv_at hl 0 rfl) ?_
      obtain ⟨a105, ea105, h⟩ := h
      refine pq_geta (pc := 28) (f := 122) hx hb hT hK hP L20_3 hk101 rfl ea105 d_Cu_billedUpTo_28 ?_
      refine lv_aload_n (pc := 31) hx hb d_Cu_billedUpTo_31 rfl (lv_at hl 0 rfl) ?_
      obtain ⟨a106, ea106, h⟩ := h
      refine pq_geta (pc := 32) (f := 122) hx hb hT hK hP L20_3 hk101 rfl ea106 d_Cu_billedUpTo_32 ?_
      obtain ⟨hk107, h⟩ := h
      refine co_i (pc := 35) C (rest := [.ref a105]) (mt_invV (As := []) hx hb hown (hT _ k_894 _) (hT _ k_472 _) (hT _ k_473 _) (mt_Cd.code (hT _ k_474 #[])) h_Ar_size (pq_recv hK hP hk107 rfl) n_Ar_size rfl d_Cu_billedUpTo_35) (ct_Ar_size hfl D h) k_474 k_5 ⟨Nat.le_of_ble_eq_true rfl, Nat.le_of_ble_eq_true rfl⟩ ⟨(show 0 + 0 + 0 ≤ 0 by omega), (show 0 + 0 + 0 ≤ 0 by omega)⟩ hl.1 d_Cu_billedUpTo_35 (Nat.le_of_ble_eq_true rfl) hO (fun x108 H h hO => ?_) (fun xx X H h hX hex hO => ?_)
      · have hP : Pi D P H := So.pi hP0 hO
        refine lv_iconst (pc := 38) (v := 1) hx hb d_Cu_billedUpTo_38 (by decide) ?_
        refine lv_isub (pc := 39) hx hb d_Cu_billedUpTo_39 ?_
        obtain ⟨hk109, h⟩ := h
        refine co_a (pc := 40) C (rest := []) (mt_invV (As := [.int (x108 - (1 : Int32))]) hx hb hown (hT _ k_895 _) (hT _ k_607 _) (hT _ k_608 _) (mt_Cd.code (hT _ k_609 #[])) h_Ar_get (pq_recv hK hP hk109 rfl) n_Ar_get rfl d_Cu_billedUpTo_40) (ct_Ar_get hfl D h) k_609 k_5 ⟨Nat.le_of_ble_eq_true rfl, Nat.le_of_ble_eq_true rfl⟩ ⟨(show 0 + 0 + 0 + 0 ≤ 0 by omega), (show 0 + 0 + 0 + 0 ≤ 0 by omega)⟩ hl.1 d_Cu_billedUpTo_40 (Nat.le_of_ble_eq_true rfl) hO (fun a110 H h hO => ?_) (fun xx X H h hX hex hO => ?_)
        · have hP : Pi D P H := So.pi hP0 hO
          obtain ⟨hk111, h⟩ := h
          refine pq_cast (pc := 43) hx hb hT hK hP hown k_1037 hk111 rfl k_1356 d_Cu_billedUpTo_43 ?_
          refine pq_geti (pc := 46) (f := 81) hx hb hT hK hP L64_2 hk111 rfl d_Cu_billedUpTo_46 ?_
          exact wo_i (pc := 49) hx hb hlocks hr hP0 hO (show 0 + 0 + 0 + 0 + 0 ≤ 0 by omega) (show 0 + 0 + 0 + 0 + 0 ≤ 0 by omega) h d_Cu_billedUpTo_49
        · exact cq_outo hlocks (pq_nil htab rfl) (show 0 + 0 + 0 + 0 + 0 ≤ 0 by omega) (show 0 + 0 + 0 + 0 + 0 ≤ 0 by omega) hX hex hP0 hO h
      · exact cq_outo hlocks (pq_nil htab rfl) (show 0 + 0 + 0 + 0 ≤ 0 by omega) (show 0 + 0 + 0 + 0 ≤ 0 by omega) hX hex hP0 hO h
    · replace h := h.2 c117
      refine lv_aload_n (pc := 10) hx hb d_Cu_billedUpTo_10 rfl (lv_at hl 0 rfl) ?_
      obtain ⟨a112, ea112, h⟩ := h
      refine pq_geta (pc := 11) (f := 121) hx hb hT hK hP L14_3 hk101 rfl ea112 d_Cu_billedUpTo_11 ?_
      refine lv_iconst (pc := 14) (v := 0) hx hb d_Cu_billedUpTo_14 (by decide) ?_
      obtain ⟨hk113, h⟩ := h
      refine co_a (pc := 15) C (rest := []) (mt_invV (As := [.int (0 : Int32)]) hx hb hown (hT _ k_895 _) (hT _ k_607 _) (hT _ k_608 _) (mt_Cd.code (hT _ k_609 #[])) h_Ar_get (pq_recv hK hP hk113 rfl) n_Ar_get rfl d_Cu_billedUpTo_15) (ct_Ar_get hfl D h) k_609 k_5 ⟨Nat.le_of_ble_eq_true rfl, Nat.le_of_ble_eq_true rfl⟩ ⟨(show 0 + 0 + 0 ≤ 0 by omega), (show 0 + 0 + 0 ≤ 0 by omega)⟩ hl.1 d_Cu_billedUpTo_15 (Nat.le_of_ble_eq_true rfl) hO (fun a114 H h hO => ?_) (fun xx X H h hX hex hO => ?_)
      · have hP : Pi D P H := So.pi hP0 hO
        obtain ⟨hk115, h⟩ := h
        refine pq_cast (pc := 18) hx hb hT hK hP hown k_896 hk115 rfl k_1354 d_Cu_billedUpTo_18 ?_
        refine co_i (pc := 21) C (rest := []) (mt_invV (As := []) hx hb hown (hT _ k_964 _) (hT _ k_898 _) (hT _ k_899 _) (mt_Cd.code (hT _ k_900 #[])) h_Re_day (pq_recv hK hP hk115 rfl) n_Re_day rfl d_Cu_billedUpTo_21) (ct_Re_day hfl D h) k_900 k_34 ⟨Nat.le_of_ble_eq_true rfl, Nat.le_of_ble_eq_true rfl⟩ ⟨(show 0 + 0 + 0 + 0 ≤ 0 by omega), (show 0 + 0 + 0 + 0 ≤ 0 by omega)⟩ hl.1 d_Cu_billedUpTo_21 (Nat.le_of_ble_eq_true rfl) hO (fun x116 H h hO => ?_) (fun xx X H h hX hex hO => ?_)
        · have hP : Pi D P H := So.pi hP0 hO
          refine lv_goto (pc := 24) (tgt := 49) hx hb d_Cu_billedUpTo_24 (by decide) ?_
          exact wo_i (pc := 49) hx hb hlocks hr hP0 hO (show 0 + 0 + 0 + 0 + 0 ≤ 0 by omega) (show 0 + 0 + 0 + 0 + 0 ≤ 0 by omega) h d_Cu_billedUpTo_49
        · exact cq_outo hlocks (pq_nil htab rfl) (show 0 + 0 + 0 + 0 + 0 ≤ 0 by omega) (show 0 + 0 + 0 + 0 + 0 ≤ 0 by omega) hX hex hP0 hO h
      · exact cq_outo hlocks (pq_nil htab rfl) (show 0 + 0 + 0 + 0 ≤ 0 by omega) (show 0 + 0 + 0 + 0 ≤ 0 by omega) hX hex hP0 hO h
  · exact cq_outo hlocks (pq_nil htab rfl) (show 0 + 0 + 0 ≤ 0 by omega) (show 0 + 0 + 0 ≤ 0 by omega) hX hex hP0 hO h
/-! WaterWorks$Customer.owes()J -/
abbrev y_Cu_owes : MethodName := ⟨"WaterWorks$Customer", "owes", "()J"⟩
abbrev rm_Cu_owes : Room := { frames := 4, cells := 0, slots := 0, locals := 104 }
theorem h_Cu_owes : y_Cu_owes.cls ≠ "java/lang/invoke/MethodHandle" ∧ y_Cu_owes.cls ≠ "java/lang/invoke/VarHandle" := by decide +kernel
theorem n_Cu_owes : (parseMethodDescriptor y_Cu_owes.desc).map (fun d => d.parameters.length) = some 0 := by decide +kernel
theorem d_Cu_owes_0 : decode prog_4_method_6_code 0 = .ok (.aload_n 0, 1) := by decide +kernel
theorem d_Cu_owes_1 : decode prog_4_method_6_code 1 = .ok (.getfield 68, 3) := by decide +kernel
theorem d_Cu_owes_4 : decode prog_4_method_6_code 4 = .ok (.lneg, 1) := by decide +kernel
theorem d_Cu_owes_5 : decode prog_4_method_6_code 5 = .ok (.lstore_n 1, 1) := by decide +kernel
theorem d_Cu_owes_6 : decode prog_4_method_6_code 6 = .ok (.iconst 0, 1) := by decide +kernel
theorem d_Cu_owes_7 : decode prog_4_method_6_code 7 = .ok (.istore_n 3, 1) := by decide +kernel
theorem d_Cu_owes_8 : decode prog_4_method_6_code 8 = .ok (.iload_n 3, 1) := by decide +kernel
theorem d_Cu_owes_9 : decode prog_4_method_6_code 9 = .ok (.aload_n 0, 1) := by decide +kernel
theorem d_Cu_owes_10 : decode prog_4_method_6_code 10 = .ok (.getfield 20, 3) := by decide +kernel
theorem d_Cu_owes_13 : decode prog_4_method_6_code 13 = .ok (.invokevirtual 31, 3) := by decide +kernel
theorem d_Cu_owes_16 : decode prog_4_method_6_code 16 = .ok (.if_icmp .ge 26, 3) := by decide +kernel
theorem d_Cu_owes_19 : decode prog_4_method_6_code 19 = .ok (.lload_n 1, 1) := by decide +kernel
theorem d_Cu_owes_20 : decode prog_4_method_6_code 20 = .ok (.aload_n 0, 1) := by decide +kernel
theorem d_Cu_owes_21 : decode prog_4_method_6_code 21 = .ok (.getfield 20, 3) := by decide +kernel
theorem d_Cu_owes_24 : decode prog_4_method_6_code 24 = .ok (.iload_n 3, 1) := by decide +kernel
theorem d_Cu_owes_25 : decode prog_4_method_6_code 25 = .ok (.invokevirtual 35, 3) := by decide +kernel
theorem d_Cu_owes_28 : decode prog_4_method_6_code 28 = .ok (.checkcast 62, 3) := by decide +kernel
theorem d_Cu_owes_31 : decode prog_4_method_6_code 31 = .ok (.getfield 72, 3) := by decide +kernel
theorem d_Cu_owes_34 : decode prog_4_method_6_code 34 = .ok (.ladd, 1) := by decide +kernel
theorem d_Cu_owes_35 : decode prog_4_method_6_code 35 = .ok (.lstore_n 1, 1) := by decide +kernel
theorem d_Cu_owes_36 : decode prog_4_method_6_code 36 = .ok (.iinc 3 1, 3) := by decide +kernel
theorem d_Cu_owes_39 : decode prog_4_method_6_code 39 = .ok (.goto (-31), 3) := by decide +kernel
theorem d_Cu_owes_42 : decode prog_4_method_6_code 42 = .ok (.lload_n 1, 1) := by decide +kernel
theorem d_Cu_owes_43 : decode prog_4_method_6_code 43 = .ok (.lreturn, 1) := by decide +kernel
def wb_Cu_owes_8 (po : Option Value → Pic → Prop) (th : String → Pic → Prop) (K8 : Pic → Nat → Int64 → Int32 → Prop) (P : Pic) (a0 : Nat) (w1 : Int64) (x3 : Int32) : Prop := p_k P a0 = 4 ∧ ∃ a104, p_r P 122 a0 = some a104 ∧ p_k P a104 = 14 ∧ wp_Ar_size (cp_i fun x106 _ => ((x106 ≤ x3 → (po (some (.long w1)) P)) ∧ (¬ x106 ≤ x3 → (∃ a107, p_r P 122 a0 = some a107 ∧ p_k P a107 = 14 ∧ wp_Ar_get (cp_a fun a109 _ => p_k P a109 = 3 ∧ ∀ (w111 : Int64), w111 = (w1 + (p_l P 82 a109)) → ∀ (x112 : Int32), x112 = x3 + 1 → K8 P a0 w111 x112) th P a107 x3)))) th P a104
def wl_Cu_owes_8 (po : Option Value → Pic → Prop) (th : String → Pic → Prop) : Nat → Pic → Nat → Int64 → Int32 → Prop
  | 0 => fun _ _ _ _ => False
  | n + 1 => wb_Cu_owes_8 po th (wl_Cu_owes_8 po th n)
def wp_Cu_owes (po : Option Value → Pic → Prop) (th : String → Pic → Prop) (P : Pic) (a0 : Nat) : Prop := p_k P a0 = 4 ∧ ∀ (w102 : Int64), w102 = (-(p_l P 123 a0)) → ∃ n, wl_Cu_owes_8 po th n P a0 w102 (0 : Int32)
set_option maxHeartbeats 4000000 in
set_option maxRecDepth 100000 in
theorem wk_Cu_owes_8 {p : Program} {l : Launch} {e : Env} {s : State} {m : MethodId} {args : Array Value} {below : List Frame} {meth : Method} {c : Code} {D : pq_D} {P : Pic} {po : Option Value → Pic → Prop} {th : String → Pic → Prop} {K8 : Pic → Nat → Int64 → Int32 → Prop} (hfl : l.flags = flags0) (C : Cx p e s m args meth c prog_4_method_6_code 4 "WaterWorks$Customer" D P) (hmg : e.platform.magicAccessors = ({} : Platform).magicAccessors) (hr : meth.sig.returnType = (some .long)) (hin : meth.name = "owes") (htab : c.exceptionTable.toList = tableOf []) (HK8 : ∀ (a0 : Nat) (w1 : Int64) (x3 : Int32) (H : Heap) (cells slots : Nat) (ls : Array Slot), K8 P a0 w1 x3 → So s.heap H → lv_has ls 4 [(0, .ref a0), (1, .long w1), (3, .int x3)] → cells + 0 ≤ 0 → slots + 0 ≤ 0 → W p l e rm_Cu_owes s m args below meth c H [] cells slots (mt_MQ below (cq_Q D P true po th) args s 0 0 (cq_free P true)) (F0 m 8 ls [])) : ∀ (a0 : Nat) (w1 : Int64) (x3 : Int32) (H : Heap) (cells slots : Nat) (ls : Array Slot), wb_Cu_owes_8 po th K8 P a0 w1 x3 → So s.heap H → lv_has ls 4 [(0, .ref a0), (1, .long w1), (3, .int x3)] → cells + 0 ≤ 0 → slots + 0 ≤ 0 → W p l e rm_Cu_owes s m args below meth c H [] cells slots (mt_MQ below (cq_Q D P true po th) args s 0 0 (cq_free P true)) (F0 m 8 ls []) := by
  intro a0 w1 x3 H cells slots ls h hO hl hcc hss
  obtain ⟨hx, hb, hml, hown, hlocks, htr, hT, hK, hSt, hN, hP0⟩ := id C
  have L20_3 : pq_fl s m args 20 3 2 := ⟨_, "WaterWorks$Customer", "WaterWorks$Customer", rfl, by decide, hown, Or.inl (hT _ k_700 _), (fun _ z => z)⟩
  have L68_3 : pq_fl s m args 68 3 3 := ⟨_, "WaterWorks$Customer", "WaterWorks$Customer", rfl, by decide, hown, Or.inl (hT _ k_702 _), (fun _ z => z)⟩
  have L72_2 : pq_fl s m args 72 2 2 := ⟨_, "WaterWorks$Customer", "WaterWorks$Bill", rfl, by decide, hown, Or.inr ⟨_, hT _ k_1066 _⟩, (fun _ z => z)⟩
  have hP : Pi D P H := So.pi hP0 hO
  unfold wb_Cu_owes_8 at h
  refine lv_iload_n (pc := 8) hx hb d_Cu_owes_8 rfl (lv_at hl 2 rfl) ?_
  refine lv_aload_n (pc := 9) hx hb d_Cu_owes_9 rfl (lv_at hl 0 rfl) ?_
  obtain ⟨hk103, h⟩ := h
  obtain ⟨a104, ea104, h⟩ := h
  refine pq_geta (pc := 10) (f := 122) hx hb hT hK hP L20_3 hk103 rfl ea104 d_Cu_owes_10 ?_
  obtain ⟨hk105, h⟩ := h
  refine co_i (pc := 13) C (rest := [.int x3]) (mt_invV (As := []) hx hb hown (hT _ k_894 _) (hT _ k_472 _) (hT _ k_473 _) (mt_Cd.code (hT _ k_474 #[])) h_Ar_size (pq_recv hK hP hk105 rfl) n_Ar_size rfl d_Cu_owes_13) (ct_Ar_size hfl D h) k_474 k_5 ⟨Nat.le_of_ble_eq_true rfl, Nat.le_of_ble_eq_true rfl⟩ ⟨(show cells + 0 ≤ 0 by omega), (show slots + 0 ≤ 0 by omega)⟩ hl.1 d_Cu_owes_13 (Nat.le_of_ble_eq_true rfl) hO (fun x106 H h hO => ?_) (fun xx X H h hX hex hO => ?_)
  · have hP : Pi D P H := So.pi hP0 hO
    refine lv_icmp_ge (pc := 16) (tgt := 42) hx hb d_Cu_owes_16 (by decide) (fun c113 => ?_) (fun c113 => ?_)
    · replace h := h.1 c113
      refine lv_lload_n (pc := 42) hx hb d_Cu_owes_42 rfl (lv_at hl 1 rfl) ?_
      exact wo_l (pc := 43) hx hb hlocks hr hP0 hO (show cells + 0 + 0 ≤ 0 by omega) (show slots + 0 + 0 ≤ 0 by omega) h d_Cu_owes_43
    · replace h := h.2 c113
      refine lv_lload_n (pc := 19) hx hb d_Cu_owes_19 rfl (lv_at hl 1 rfl) ?_
      refine lv_aload_n (pc := 20) hx hb d_Cu_owes_20 rfl (lv_at hl 0 rfl) ?_
      obtain ⟨a107, ea107, h⟩ := h
      refine pq_geta (pc := 21) (f := 122) hx hb hT hK hP L20_3 hk103 rfl ea107 d_Cu_owes_21 ?_
      refine lv_iload_n (pc := 24) hx hb d_Cu_owes_24 rfl (lv_at hl 2 rfl) ?_
      obtain ⟨hk108, h⟩ := h
      refine co_a (pc := 25) C (rest := [.long w1]) (mt_invV (As := [.int x3]) hx hb hown (hT _ k_895 _) (hT _ k_607 _) (hT _ k_608 _) (mt_Cd.code (hT _ k_609 #[])) h_Ar_get (pq_recv hK hP hk108 rfl) n_Ar_get rfl d_Cu_owes_25) (ct_Ar_get hfl D h) k_609 k_5 ⟨Nat.le_of_ble_eq_true rfl, Nat.le_of_ble_eq_true rfl⟩ ⟨(show cells + 0 + 0 ≤ 0 by omega), (show slots + 0 + 0 ≤ 0 by omega)⟩ hl.1 d_Cu_owes_25 (Nat.le_of_ble_eq_true rfl) hO (fun a109 H h hO => ?_) (fun xx X H h hX hex hO => ?_)
      · have hP : Pi D P H := So.pi hP0 hO
        obtain ⟨hk110, h⟩ := h
        refine pq_cast (pc := 28) hx hb hT hK hP hown k_1037 hk110 rfl k_1356 d_Cu_owes_28 ?_
        refine pq_getl (pc := 31) (f := 82) hx hb hT hK hP L72_2 hk110 rfl d_Cu_owes_31 ?_
        refine lv_ladd (pc := 34) hx hb d_Cu_owes_34 ?_
        refine lv_topl (fun w111 ew111 => ?_)
        replace h := h w111 ew111
        refine lv_lstore_n (pc := 35) (lv' := [(1, .long w111), (0, .ref a0), (3, .int x3)]) hx hb d_Cu_owes_35 rfl hl (by decide) rfl (fun ls hl => ?_)
        obtain ⟨x112, ex112⟩ : ∃ z : Int32, z = x3 + 1 := ⟨_, rfl⟩
        replace h := h x112 ex112
        refine lv_iinc (pc := 36) (v := x112) (lv' := [(3, .int x112), (1, .long w111), (0, .ref a0)]) hx hb d_Cu_owes_36 hl (k := 2) rfl (by rw [ex112]; rfl) (by decide) rfl (fun ls hl => ?_)
        refine lv_goto (pc := 39) (tgt := 8) hx hb d_Cu_owes_39 (by decide) ?_
        exact HK8 a0 w111 x112 _ _ _ _ h hO (lv_sub hl [2, 1, 0] rfl) (show cells + 0 + 0 + 0 ≤ 0 by omega) (show slots + 0 + 0 + 0 ≤ 0 by omega)
      · exact cq_outo hlocks (pq_nil htab rfl) (show cells + 0 + 0 + 0 ≤ 0 by omega) (show slots + 0 + 0 + 0 ≤ 0 by omega) hX hex hP0 hO h
  · exact cq_outo hlocks (pq_nil htab rfl) (show cells + 0 + 0 ≤ 0 by omega) (show slots + 0 + 0 ≤ 0 by omega) hX hex hP0 hO h
theorem wm_Cu_owes_8 {p : Program} {l : Launch} {e : Env} {s : State} {m : MethodId} {args : Array Value} {below : List Frame} {meth : Method} {c : Code} {D : pq_D} {P : Pic} {po : Option Value → Pic → Prop} {th : String → Pic → Prop} (hfl : l.flags = flags0) (C : Cx p e s m args meth c prog_4_method_6_code 4 "WaterWorks$Customer" D P) (hmg : e.platform.magicAccessors = ({} : Platform).magicAccessors) (hr : meth.sig.returnType = (some .long)) (hin : meth.name = "owes") (htab : c.exceptionTable.toList = tableOf []) : ∀ n : Nat, ∀ (a0 : Nat) (w1 : Int64) (x3 : Int32) (H : Heap) (cells slots : Nat) (ls : Array Slot), wl_Cu_owes_8 po th n P a0 w1 x3 → So s.heap H → lv_has ls 4 [(0, .ref a0), (1, .long w1), (3, .int x3)] → cells + 0 ≤ 0 → slots + 0 ≤ 0 → W p l e rm_Cu_owes s m args below meth c H [] cells slots (mt_MQ below (cq_Q D P true po th) args s 0 0 (cq_free P true)) (F0 m 8 ls []) := by
  intro n
  induction n with
  | zero => intro a0 w1 x3 H cells slots ls h; exact h.elim
  | succ n ih => exact wk_Cu_owes_8 hfl C hmg hr hin htab ih
set_option maxHeartbeats 4000000 in
set_option maxRecDepth 100000 in
theorem ct_Cu_owes {l : Launch} (hfl : l.flags = flags0) (D : pq_D) {po : Option Value → Pic → Prop} {th : String → Pic → Prop} {P : Pic} {a0 : Nat} (h : wp_Cu_owes po th P a0) : CT l D y_Cu_owes (.code y_Cu_owes prog_4_method_6_code 4 (some .long)) rm_Cu_owes true [.ref a0] P po th := by
  refine ct_of (hs := []) hfl (by decide +kernel) (Or.inl ⟨rfl, rfl⟩) (Nat.le_of_ble_eq_true rfl) ?_
  intro p e s m below meth c C hmg hr hin htab ls hl
  have hl : lv_has ls 4 [(0, .ref a0)] := hl
  generalize hargs : ([.ref a0] : List Value).toArray = args at C ⊢
  obtain ⟨hx, hb, hml, hown, hlocks, htr, hT, hK, hSt, hN, hP0⟩ := id C
  have L20_3 : pq_fl s m args 20 3 2 := ⟨_, "WaterWorks$Customer", "WaterWorks$Customer", rfl, by decide, hown, Or.inl (hT _ k_700 _), (fun _ z => z)⟩
  have L68_3 : pq_fl s m args 68 3 3 := ⟨_, "WaterWorks$Customer", "WaterWorks$Customer", rfl, by decide, hown, Or.inl (hT _ k_702 _), (fun _ z => z)⟩
  have L72_2 : pq_fl s m args 72 2 2 := ⟨_, "WaterWorks$Customer", "WaterWorks$Bill", rfl, by decide, hown, Or.inr ⟨_, hT _ k_1066 _⟩, (fun _ z => z)⟩
  have hO : So s.heap s.heap := So.rf
  have hP : Pi D P s.heap := hP0
  unfold wp_Cu_owes at h
  refine lv_aload_n (pc := 0) hx hb d_Cu_owes_0 rfl (lv_at hl 0 rfl) ?_
  obtain ⟨hk101, h⟩ := h
  refine pq_getl (pc := 1) (f := 123) hx hb hT hK hP L68_3 hk101 rfl d_Cu_owes_1 ?_
  refine lv_lneg (pc := 4) hx hb d_Cu_owes_4 ?_
  refine lv_topl (fun w102 ew102 => ?_)
  replace h := h w102 ew102
  refine lv_lstore_n (pc := 5) (lv' := [(1, .long w102), (0, .ref a0)]) hx hb d_Cu_owes_5 rfl hl (by decide) rfl (fun ls hl => ?_)
  refine lv_iconst (pc := 6) (v := 0) hx hb d_Cu_owes_6 (by decide) ?_
  refine lv_istore_n (pc := 7) (lv' := [(3, .int (0 : Int32)), (1, .long w102), (0, .ref a0)]) hx hb d_Cu_owes_7 rfl hl (by decide) rfl (fun ls hl => ?_)
  obtain ⟨n, h⟩ := h
  exact wm_Cu_owes_8 hfl C hmg hr hin htab n a0 w102 (0 : Int32) _ _ _ _ h hO (lv_sub hl [2, 1, 0] rfl) (show 0 + 0 ≤ 0 by omega) (show 0 + 0 ≤ 0 by omega)
