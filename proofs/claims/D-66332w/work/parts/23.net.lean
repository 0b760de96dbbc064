/-! WaterWorks$Net.<init>()V -/
abbrev y_Ne_init : MethodName := ⟨"WaterWorks$Net", "<init>", "()V"⟩
abbrev rm_Ne_init : Room := { frames := 4, cells := 10, slots := 133, locals := 101 }
theorem h_Ne_init : y_Ne_init.cls ≠ "java/lang/invoke/MethodHandle" ∧ y_Ne_init.cls ≠ "java/lang/invoke/VarHandle" := by decide +kernel
theorem n_Ne_init : (parseMethodDescriptor y_Ne_init.desc).map (fun d => d.parameters.length) = some 0 := by decide +kernel
theorem d_Ne_init_0 : decode prog_8_method_1_code 0 = .ok (.aload_n 0, 1) := by decide +kernel
theorem d_Ne_init_1 : decode prog_8_method_1_code 1 = .ok (.invokespecial 3, 3) := by decide +kernel
theorem d_Ne_init_4 : decode prog_8_method_1_code 4 = .ok (.aload_n 0, 1) := by decide +kernel
theorem d_Ne_init_5 : decode prog_8_method_1_code 5 = .ok (.new 9, 3) := by decide +kernel
theorem d_Ne_init_8 : decode prog_8_method_1_code 8 = .ok (.dup, 1) := by decide +kernel
theorem d_Ne_init_9 : decode prog_8_method_1_code 9 = .ok (.bipush 12, 2) := by decide +kernel
theorem d_Ne_init_11 : decode prog_8_method_1_code 11 = .ok (.invokespecial 11, 3) := by decide +kernel
theorem d_Ne_init_14 : decode prog_8_method_1_code 14 = .ok (.putfield 14, 3) := by decide +kernel
theorem d_Ne_init_17 : decode prog_8_method_1_code 17 = .ok (.aload_n 0, 1) := by decide +kernel
theorem d_Ne_init_18 : decode prog_8_method_1_code 18 = .ok (.new 9, 3) := by decide +kernel
theorem d_Ne_init_21 : decode prog_8_method_1_code 21 = .ok (.dup, 1) := by decide +kernel
theorem d_Ne_init_22 : decode prog_8_method_1_code 22 = .ok (.bipush 16, 2) := by decide +kernel
theorem d_Ne_init_24 : decode prog_8_method_1_code 24 = .ok (.invokespecial 11, 3) := by decide +kernel
theorem d_Ne_init_27 : decode prog_8_method_1_code 27 = .ok (.putfield 20, 3) := by decide +kernel
theorem d_Ne_init_30 : decode prog_8_method_1_code 30 = .ok (.aload_n 0, 1) := by decide +kernel
theorem d_Ne_init_31 : decode prog_8_method_1_code 31 = .ok (.new 9, 3) := by decide +kernel
theorem d_Ne_init_34 : decode prog_8_method_1_code 34 = .ok (.dup, 1) := by decide +kernel
theorem d_Ne_init_35 : decode prog_8_method_1_code 35 = .ok (.bipush 32, 2) := by decide +kernel
theorem d_Ne_init_37 : decode prog_8_method_1_code 37 = .ok (.invokespecial 11, 3) := by decide +kernel
theorem d_Ne_init_40 : decode prog_8_method_1_code 40 = .ok (.putfield 23, 3) := by decide +kernel
theorem d_Ne_init_43 : decode prog_8_method_1_code 43 = .ok (.aload_n 0, 1) := by decide +kernel
theorem d_Ne_init_44 : decode prog_8_method_1_code 44 = .ok (.new 26, 3) := by decide +kernel
theorem d_Ne_init_47 : decode prog_8_method_1_code 47 = .ok (.dup, 1) := by decide +kernel
theorem d_Ne_init_48 : decode prog_8_method_1_code 48 = .ok (.invokespecial 28, 3) := by decide +kernel
theorem d_Ne_init_51 : decode prog_8_method_1_code 51 = .ok (.putfield 29, 3) := by decide +kernel
theorem d_Ne_init_54 : decode prog_8_method_1_code 54 = .ok (.aload_n 0, 1) := by decide +kernel
theorem d_Ne_init_55 : decode prog_8_method_1_code 55 = .ok (.new 33, 3) := by decide +kernel
theorem d_Ne_init_58 : decode prog_8_method_1_code 58 = .ok (.dup, 1) := by decide +kernel
theorem d_Ne_init_59 : decode prog_8_method_1_code 59 = .ok (.invokespecial 35, 3) := by decide +kernel
theorem d_Ne_init_62 : decode prog_8_method_1_code 62 = .ok (.putfield 36, 3) := by decide +kernel
theorem d_Ne_init_65 : decode prog_8_method_1_code 65 = .ok (.aload_n 0, 1) := by decide +kernel
theorem d_Ne_init_66 : decode prog_8_method_1_code 66 = .ok (.new 39, 3) := by decide +kernel
theorem d_Ne_init_69 : decode prog_8_method_1_code 69 = .ok (.dup, 1) := by decide +kernel
theorem d_Ne_init_70 : decode prog_8_method_1_code 70 = .ok (.invokespecial 41, 3) := by decide +kernel
theorem d_Ne_init_73 : decode prog_8_method_1_code 73 = .ok (.putfield 42, 3) := by decide +kernel
theorem d_Ne_init_76 : decode prog_8_method_1_code 76 = .ok (.aload_n 0, 1) := by decide +kernel
theorem d_Ne_init_77 : decode prog_8_method_1_code 77 = .ok (.bipush 28, 2) := by decide +kernel
theorem d_Ne_init_79 : decode prog_8_method_1_code 79 = .ok (.anewarray 45, 3) := by decide +kernel
theorem d_Ne_init_82 : decode prog_8_method_1_code 82 = .ok (.putfield 47, 3) := by decide +kernel
theorem d_Ne_init_85 : decode prog_8_method_1_code 85 = .ok (.return_, 1) := by decide +kernel
def wp_Ne_init (po : Option Value → Pic → Prop) (th : String → Pic → Prop) (P : Pic) (a0 : Nat) : Prop := ∀ (q101 : Nat), p_z P ≤ q101 → wp_Ar_init (cp_v fun P102 => p_k P102 a0 = 7 ∧ ∀ (q104 : Nat), p_z (s_r P102 240 a0 (some q101)) ≤ q104 → wp_Ar_init (cp_v fun P105 => p_k P105 a0 = 7 ∧ ∀ (q107 : Nat), p_z (s_r P105 241 a0 (some q104)) ≤ q107 → wp_Ar_init (cp_v fun P108 => p_k P108 a0 = 7 ∧ ∀ (q110 : Nat), p_z (s_r P108 242 a0 (some q107)) ≤ q110 → wp_As_init (cp_v fun _ => ∀ (q111 : Nat), p_z (s_r (s_new (s_r P108 242 a0 (some q107)) q110 1) 243 a0 (some q110)) ≤ q111 → ∀ (P112 : Pic), P112 = s_new (s_r (s_new (s_r P108 242 a0 (some q107)) q110 1) 243 a0 (some q110)) q111 11 → wp_Wi_init (cp_v fun _ => ∀ (q113 : Nat), p_z (s_r P112 244 a0 (some q111)) ≤ q113 → wp_Fx_init (cp_v fun _ => ∀ (q114 : Nat), p_z (s_r (s_new (s_r P112 244 a0 (some q111)) q113 5) 245 a0 (some q113)) ≤ q114 → ∀ (P116 : Pic), P116 = s_arr (s_r (s_new (s_r P112 244 a0 (some q111)) q113 5) 245 a0 (some q113)) q114 4 (Int32.toNatClampNeg (28 : Int32)) → po none (s_r P116 246 a0 (some q114))) th (s_new (s_r P112 244 a0 (some q111)) q113 5) q113) th P112 q111) th (s_new (s_r P108 242 a0 (some q107)) q110 1) q110) th (s_new (s_r P105 241 a0 (some q104)) q107 13) q107 (32 : Int32)) th (s_new (s_r P102 240 a0 (some q101)) q104 13) q104 (16 : Int32)) th (s_new P q101 13) q101 (12 : Int32)
set_option maxHeartbeats 4000000 in
set_option maxRecDepth 100000 in
theorem ct_Ne_init {l : Launch} (hfl : l.flags = flags0) (D : pq_D) {po : Option Value → Pic → Prop} {th : String → Pic → Prop} {P : Pic} {a0 : Nat} (h : wp_Ne_init po th P a0) : CT l D y_Ne_init (.code y_Ne_init prog_8_method_1_code 1 none) rm_Ne_init false [.ref a0] P po th := by
  refine ct_of (hs := []) hfl (by decide +kernel) (Or.inl ⟨rfl, rfl⟩) (Nat.le_of_ble_eq_true rfl) ?_
  intro p e s m below meth c C hmg hr hin htab ls hl
  have hl : lv_has ls 1 [(0, .ref a0)] := hl
  generalize hargs : ([.ref a0] : List Value).toArray = args at C ⊢
  obtain ⟨hx, hb, hml, hown, hlocks, htr, hT, hK, hSt, hN, hP0⟩ := id C
  have hP : Pi D P s.heap := hP0
  have hS : Sg (cq_A P s) s.heap s.heap P [] := Sg.start hP0
  unfold wp_Ne_init at h
  refine lv_aload_n (pc := 0) hx hb d_Ne_init_0 rfl (lv_at hl 0 rfl) ?_
  refine W.objInit hx hb hown (hT _ k_50 _) (hT _ k_43 _) (hT _ k_44 _) rfl (by rw [hml]; exact hl.1) rfl d_Ne_init_1 (Nat.le_of_ble_eq_true rfl) (Nat.le_of_ble_eq_true rfl) ?_
  refine W.eq (g2 := F0 m 4 ls []) rfl ?_
  refine lv_aload_n (pc := 4) hx hb d_Ne_init_4 rfl (lv_at hl 0 rfl) ?_
  refine pq_new (pc := 5) hx hb hT hK hP hS (k := 13) rfl hown (hT _ k_51 _) (hT _ k_52 _) (hT _ k_5 _) (show 0 + 1 ≤ 10 by omega) (show 0 + 3 ≤ 133 by omega) d_Ne_init_5 (fun q101 H hq101 hP1 hS => ?_)
  replace h := h q101 hq101
  have hkq101 : p_k (s_new P q101 13) q101 = 14 := pk_newq _ _ _
  replace hP := hP1
  clear hP1
  refine lv_dup (pc := 8) hx hb d_Ne_init_8 rfl ?_
  refine lv_bipush (pc := 9) (v := 12) hx hb d_Ne_init_9 (by decide) ?_
  refine cc_v (pc := 11) C (rest := [.ref q101, .ref a0]) (mt_invI (As := [.int (12 : Int32)]) hx hb hown rfl (hT _ k_53 _) (hT _ k_54 _) (hT _ k_55 _) h_Ar_init n_Ar_init rfl d_Ne_init_11) (ct_Ar_init hfl D h) k_55 k_5 ⟨Nat.le_of_ble_eq_true rfl, Nat.le_of_ble_eq_true rfl⟩ ⟨(show 0 + 1 + 1 ≤ 10 by omega), (show 0 + 3 + 32 ≤ 133 by omega)⟩ hl.1 d_Ne_init_11 (Nat.le_of_ble_eq_true rfl) hP hS (fun P102 H locs h hP hS => ?_) (fun xx X P102 H locs h hX hex hP hS => ?_)
  · obtain ⟨hk103, h⟩ := h
    refine pq_putRa (pc := 14) (f := 240) hx hb hT hK hP hS hown hin (k := 6) (j := 0) rfl (by decide) (by decide) (hT _ k_415 _) hk103 rfl rfl rfl rfl d_Ne_init_14 (fun H locs hP hS => ?_)
    have hk103 : p_k (s_r P102 240 a0 (some q101)) a0 = 7 := by rw [pk_r]; exact hk103
    refine lv_aload_n (pc := 17) hx hb d_Ne_init_17 rfl (lv_at hl 0 rfl) ?_
    refine pq_new (pc := 18) hx hb hT hK hP hS (k := 13) rfl hown (hT _ k_51 _) (hT _ k_52 _) (hT _ k_5 _) (show 0 + 1 + 1 + 1 ≤ 10 by omega) (show 0 + 3 + 32 + 3 ≤ 133 by omega) d_Ne_init_18 (fun q104 H hq104 hP1 hS => ?_)
    replace h := h q104 hq104
    have hk103 : p_k (s_new (s_r P102 240 a0 (some q101)) q104 13) a0 = 7 := pq_oldn (k := 6) hP hk103 hq104
    have hkq104 : p_k (s_new (s_r P102 240 a0 (some q101)) q104 13) q104 = 14 := pk_newq _ _ _
    replace hP := hP1
    clear hP1
    refine lv_dup (pc := 21) hx hb d_Ne_init_21 rfl ?_
    refine lv_bipush (pc := 22) (v := 16) hx hb d_Ne_init_22 (by decide) ?_
    refine cc_v (pc := 24) C (rest := [.ref q104, .ref a0]) (mt_invI (As := [.int (16 : Int32)]) hx hb hown rfl (hT _ k_53 _) (hT _ k_54 _) (hT _ k_55 _) h_Ar_init n_Ar_init rfl d_Ne_init_24) (ct_Ar_init hfl D h) k_55 k_5 ⟨Nat.le_of_ble_eq_true rfl, Nat.le_of_ble_eq_true rfl⟩ ⟨(show 0 + 1 + 1 + 1 + 1 ≤ 10 by omega), (show 0 + 3 + 32 + 3 + 32 ≤ 133 by omega)⟩ hl.1 d_Ne_init_24 (Nat.le_of_ble_eq_true rfl) hP hS (fun P105 H locs h hP hS => ?_) (fun xx X P105 H locs h hX hex hP hS => ?_)
    · obtain ⟨hk106, h⟩ := h
      refine pq_putRa (pc := 27) (f := 241) hx hb hT hK hP hS hown hin (k := 6) (j := 1) rfl (by decide) (by decide) (hT _ k_417 _) hk106 rfl rfl rfl rfl d_Ne_init_27 (fun H locs hP hS => ?_)
      have hk106 : p_k (s_r P105 241 a0 (some q104)) a0 = 7 := by rw [pk_r]; exact hk106
      refine lv_aload_n (pc := 30) hx hb d_Ne_init_30 rfl (lv_at hl 0 rfl) ?_
      refine pq_new (pc := 31) hx hb hT hK hP hS (k := 13) rfl hown (hT _ k_51 _) (hT _ k_52 _) (hT _ k_5 _) (show 0 + 1 + 1 + 1 + 1 + 1 ≤ 10 by omega) (show 0 + 3 + 32 + 3 + 32 + 3 ≤ 133 by omega) d_Ne_init_31 (fun q107 H hq107 hP1 hS => ?_)
      replace h := h q107 hq107
      have hk106 : p_k (s_new (s_r P105 241 a0 (some q104)) q107 13) a0 = 7 := pq_oldn (k := 6) hP hk106 hq107
      have hkq107 : p_k (s_new (s_r P105 241 a0 (some q104)) q107 13) q107 = 14 := pk_newq _ _ _
      replace hP := hP1
      clear hP1
      refine lv_dup (pc := 34) hx hb d_Ne_init_34 rfl ?_
      refine lv_bipush (pc := 35) (v := 32) hx hb d_Ne_init_35 (by decide) ?_
      refine cc_v (pc := 37) C (rest := [.ref q107, .ref a0]) (mt_invI (As := [.int (32 : Int32)]) hx hb hown rfl (hT _ k_53 _) (hT _ k_54 _) (hT _ k_55 _) h_Ar_init n_Ar_init rfl d_Ne_init_37) (ct_Ar_init hfl D h) k_55 k_5 ⟨Nat.le_of_ble_eq_true rfl, Nat.le_of_ble_eq_true rfl⟩ ⟨(show 0 + 1 + 1 + 1 + 1 + 1 + 1 ≤ 10 by omega), (show 0 + 3 + 32 + 3 + 32 + 3 + 32 ≤ 133 by omega)⟩ hl.1 d_Ne_init_37 (Nat.le_of_ble_eq_true rfl) hP hS (fun P108 H locs h hP hS => ?_) (fun xx X P108 H locs h hX hex hP hS => ?_)
      · obtain ⟨hk109, h⟩ := h
        refine pq_putRa (pc := 40) (f := 242) hx hb hT hK hP hS hown hin (k := 6) (j := 2) rfl (by decide) (by decide) (hT _ k_419 _) hk109 rfl rfl rfl rfl d_Ne_init_40 (fun H locs hP hS => ?_)
        have hk109 : p_k (s_r P108 242 a0 (some q107)) a0 = 7 := by rw [pk_r]; exact hk109
        refine lv_aload_n (pc := 43) hx hb d_Ne_init_43 rfl (lv_at hl 0 rfl) ?_
        refine pq_new (pc := 44) hx hb hT hK hP hS (k := 1) rfl hown (hT _ k_392 _) (hT _ k_393 _) (hT _ k_21 _) (show 0 + 1 + 1 + 1 + 1 + 1 + 1 + 1 ≤ 10 by omega) (show 0 + 3 + 32 + 3 + 32 + 3 + 32 + 0 ≤ 133 by omega) d_Ne_init_44 (fun q110 H hq110 hP1 hS => ?_)
        replace h := h q110 hq110
        have hk109 : p_k (s_new (s_r P108 242 a0 (some q107)) q110 1) a0 = 7 := pq_oldn (k := 6) hP hk109 hq110
        have hkq110 : p_k (s_new (s_r P108 242 a0 (some q107)) q110 1) q110 = 2 := pk_newq _ _ _
        replace hP := hP1
        clear hP1
        refine lv_dup (pc := 47) hx hb d_Ne_init_47 rfl ?_
        refine cr_v (pc := 48) C (rest := [.ref q110, .ref a0]) (mt_invIN (As := []) hx hb hown rfl (hT _ k_394 _) (hT _ k_395 _) (hT _ k_396 _) h_As_init n_As_init rfl d_Ne_init_48) (ct_As_init hfl D h) k_396 k_21 ⟨Nat.le_of_ble_eq_true rfl, Nat.le_of_ble_eq_true rfl⟩ ⟨(show 0 + 1 + 1 + 1 + 1 + 1 + 1 + 1 + 0 ≤ 10 by omega), (show 0 + 3 + 32 + 3 + 32 + 3 + 32 + 0 + 0 ≤ 133 by omega)⟩ hl.1 d_Ne_init_48 (Nat.le_of_ble_eq_true rfl) hP hS (fun H locs h hP hS => ?_) (fun xx X H locs h hX hex hP hS => ?_)
        · refine pq_putRa (pc := 51) (f := 243) hx hb hT hK hP hS hown hin (k := 6) (j := 3) rfl (by decide) (by decide) (hT _ k_421 _) hk109 rfl rfl rfl rfl d_Ne_init_51 (fun H locs hP hS => ?_)
          have hk109 : p_k (s_r (s_new (s_r P108 242 a0 (some q107)) q110 1) 243 a0 (some q110)) a0 = 7 := by rw [pk_r]; exact hk109
          have hkq110 : p_k (s_r (s_new (s_r P108 242 a0 (some q107)) q110 1) 243 a0 (some q110)) q110 = 2 := by rw [pk_r]; exact hkq110
          refine lv_aload_n (pc := 54) hx hb d_Ne_init_54 rfl (lv_at hl 0 rfl) ?_
          refine pq_new (pc := 55) hx hb hT hK hP hS (k := 11) rfl hown (hT _ k_399 _) (hT _ k_400 _) (hT _ k_22 _) (show 0 + 1 + 1 + 1 + 1 + 1 + 1 + 1 + 0 + 1 ≤ 10 by omega) (show 0 + 3 + 32 + 3 + 32 + 3 + 32 + 0 + 0 + 0 ≤ 133 by omega) d_Ne_init_55 (fun q111 H hq111 hP1 hS => ?_)
          replace h := h q111 hq111
          have hk109 : p_k (s_new (s_r (s_new (s_r P108 242 a0 (some q107)) q110 1) 243 a0 (some q110)) q111 11) a0 = 7 := pq_oldn (k := 6) hP hk109 hq111
          have hkq110 : p_k (s_new (s_r (s_new (s_r P108 242 a0 (some q107)) q110 1) 243 a0 (some q110)) q111 11) q110 = 2 := pq_oldn (k := 1) hP hkq110 hq111
          have hkq111 : p_k (s_new (s_r (s_new (s_r P108 242 a0 (some q107)) q110 1) 243 a0 (some q110)) q111 11) q111 = 12 := pk_newq _ _ _
          replace hP := hP1
          clear hP1
          obtain ⟨P112, eP112⟩ : ∃ z : Pic, z = s_new (s_r (s_new (s_r P108 242 a0 (some q107)) q110 1) 243 a0 (some q110)) q111 11 := ⟨_, rfl⟩
          replace h := h P112 eP112
          rw [← eP112] at hP hS
          have hk109 : p_k P112 a0 = 7 := by rw [eP112]; exact hk109
          have hkq110 : p_k P112 q110 = 2 := by rw [eP112]; exact hkq110
          have hkq111 : p_k P112 q111 = 12 := by rw [eP112]; exact hkq111
          refine lv_dup (pc := 58) hx hb d_Ne_init_58 rfl ?_
          refine cr_v (pc := 59) C (rest := [.ref q111, .ref a0]) (mt_invIN (As := []) hx hb hown rfl (hT _ k_401 _) (hT _ k_402 _) (hT _ k_403 _) h_Wi_init n_Wi_init rfl d_Ne_init_59) (ct_Wi_init hfl D h) k_403 k_22 ⟨Nat.le_of_ble_eq_true rfl, Nat.le_of_ble_eq_true rfl⟩ ⟨(show 0 + 1 + 1 + 1 + 1 + 1 + 1 + 1 + 0 + 1 + 0 ≤ 10 by omega), (show 0 + 3 + 32 + 3 + 32 + 3 + 32 + 0 + 0 + 0 + 0 ≤ 133 by omega)⟩ hl.1 d_Ne_init_59 (Nat.le_of_ble_eq_true rfl) hP hS (fun H locs h hP hS => ?_) (fun xx X H locs h hX hex hP hS => ?_)
          · refine pq_putRa (pc := 62) (f := 244) hx hb hT hK hP hS hown hin (k := 6) (j := 4) rfl (by decide) (by decide) (hT _ k_423 _) hk109 rfl rfl rfl rfl d_Ne_init_62 (fun H locs hP hS => ?_)
            have hk109 : p_k (s_r P112 244 a0 (some q111)) a0 = 7 := by rw [pk_r]; exact hk109
            have hkq110 : p_k (s_r P112 244 a0 (some q111)) q110 = 2 := by rw [pk_r]; exact hkq110
            have hkq111 : p_k (s_r P112 244 a0 (some q111)) q111 = 12 := by rw [pk_r]; exact hkq111
            refine lv_aload_n (pc := 65) hx hb d_Ne_init_65 rfl (lv_at hl 0 rfl) ?_
            refine pq_new (pc := 66) hx hb hT hK hP hS (k := 5) rfl hown (hT _ k_406 _) (hT _ k_407 _) (hT _ k_23 _) (show 0 + 1 + 1 + 1 + 1 + 1 + 1 + 1 + 0 + 1 + 0 + 1 ≤ 10 by omega) (show 0 + 3 + 32 + 3 + 32 + 3 + 32 + 0 + 0 + 0 + 0 + 0 ≤ 133 by omega) d_Ne_init_66 (fun q113 H hq113 hP1 hS => ?_)
            replace h := h q113 hq113
            have hk109 : p_k (s_new (s_r P112 244 a0 (some q111)) q113 5) a0 = 7 := pq_oldn (k := 6) hP hk109 hq113
            have hkq110 : p_k (s_new (s_r P112 244 a0 (some q111)) q113 5) q110 = 2 := pq_oldn (k := 1) hP hkq110 hq113
            have hkq111 : p_k (s_new (s_r P112 244 a0 (some q111)) q113 5) q111 = 12 := pq_oldn (k := 11) hP hkq111 hq113
            have hkq113 : p_k (s_new (s_r P112 244 a0 (some q111)) q113 5) q113 = 6 := pk_newq _ _ _
            replace hP := hP1
            clear hP1
            refine lv_dup (pc := 69) hx hb d_Ne_init_69 rfl ?_
            refine cr_v (pc := 70) C (rest := [.ref q113, .ref a0]) (mt_invIN (As := []) hx hb hown rfl (hT _ k_408 _) (hT _ k_409 _) (hT _ k_410 _) h_Fx_init n_Fx_init rfl d_Ne_init_70) (ct_Fx_init hfl D h) k_410 k_23 ⟨Nat.le_of_ble_eq_true rfl, Nat.le_of_ble_eq_true rfl⟩ ⟨(show 0 + 1 + 1 + 1 + 1 + 1 + 1 + 1 + 0 + 1 + 0 + 1 + 0 ≤ 10 by omega), (show 0 + 3 + 32 + 3 + 32 + 3 + 32 + 0 + 0 + 0 + 0 + 0 + 0 ≤ 133 by omega)⟩ hl.1 d_Ne_init_70 (Nat.le_of_ble_eq_true rfl) hP hS (fun H locs h hP hS => ?_) (fun xx X H locs h hX hex hP hS => ?_)
            · refine pq_putRa (pc := 73) (f := 245) hx hb hT hK hP hS hown hin (k := 6) (j := 5) rfl (by decide) (by decide) (hT _ k_425 _) hk109 rfl rfl rfl rfl d_Ne_init_73 (fun H locs hP hS => ?_)
              have hk109 : p_k (s_r (s_new (s_r P112 244 a0 (some q111)) q113 5) 245 a0 (some q113)) a0 = 7 := by rw [pk_r]; exact hk109
              have hkq110 : p_k (s_r (s_new (s_r P112 244 a0 (some q111)) q113 5) 245 a0 (some q113)) q110 = 2 := by rw [pk_r]; exact hkq110
              have hkq111 : p_k (s_r (s_new (s_r P112 244 a0 (some q111)) q113 5) 245 a0 (some q113)) q111 = 12 := by rw [pk_r]; exact hkq111
              have hkq113 : p_k (s_r (s_new (s_r P112 244 a0 (some q111)) q113 5) 245 a0 (some q113)) q113 = 6 := by rw [pk_r]; exact hkq113
              refine lv_aload_n (pc := 76) hx hb d_Ne_init_76 rfl (lv_at hl 0 rfl) ?_
              refine lv_bipush (pc := 77) (v := 28) hx hb d_Ne_init_77 (by decide) ?_
              refine pq_newq (pc := 79) (t := 4) (N := 28) hx hb hK hP hS hown (hT _ k_413 _) (hT _ k_414 _) (by simp) (by decide) (by decide) (by decide) (show 0 + 1 + 1 + 1 + 1 + 1 + 1 + 1 + 0 + 1 + 0 + 1 + 0 + 1 ≤ 10 by omega) (show 0 + 3 + 32 + 3 + 32 + 3 + 32 + 0 + 0 + 0 + 0 + 0 + 0 + 28 ≤ 133 by omega) d_Ne_init_79 (fun q114 H hq114 hP1 hS => ?_)
              replace h := h q114 hq114
              have hk109 : p_k (s_arr (s_r (s_new (s_r P112 244 a0 (some q111)) q113 5) 245 a0 (some q113)) q114 4 (Int32.toNatClampNeg (28 : Int32))) a0 = 7 := pq_olda (k := 6) hP hk109 hq114
              have hkq110 : p_k (s_arr (s_r (s_new (s_r P112 244 a0 (some q111)) q113 5) 245 a0 (some q113)) q114 4 (Int32.toNatClampNeg (28 : Int32))) q110 = 2 := pq_olda (k := 1) hP hkq110 hq114
              have hkq111 : p_k (s_arr (s_r (s_new (s_r P112 244 a0 (some q111)) q113 5) 245 a0 (some q113)) q114 4 (Int32.toNatClampNeg (28 : Int32))) q111 = 12 := pq_olda (k := 11) hP hkq111 hq114
              have hkq113 : p_k (s_arr (s_r (s_new (s_r P112 244 a0 (some q111)) q113 5) 245 a0 (some q113)) q114 4 (Int32.toNatClampNeg (28 : Int32))) q113 = 6 := pq_olda (k := 5) hP hkq113 hq114
              have hkq114 : p_k (s_arr (s_r (s_new (s_r P112 244 a0 (some q111)) q113 5) 245 a0 (some q113)) q114 4 (Int32.toNatClampNeg (28 : Int32))) q114 = 105 := pk_arrq _ _ _ _
              replace hP := hP1
              clear hP1
              obtain ⟨P116, eP116⟩ : ∃ z : Pic, z = s_arr (s_r (s_new (s_r P112 244 a0 (some q111)) q113 5) 245 a0 (some q113)) q114 4 (Int32.toNatClampNeg (28 : Int32)) := ⟨_, rfl⟩
              replace h := h P116 eP116
              rw [← eP116] at hP hS
              have hk109 : p_k P116 a0 = 7 := by rw [eP116]; exact hk109
              have hkq110 : p_k P116 q110 = 2 := by rw [eP116]; exact hkq110
              have hkq111 : p_k P116 q111 = 12 := by rw [eP116]; exact hkq111
              have hkq113 : p_k P116 q113 = 6 := by rw [eP116]; exact hkq113
              have hkq114 : p_k P116 q114 = 105 := by rw [eP116]; exact hkq114
              refine pq_putRa (pc := 82) (f := 246) hx hb hT hK hP hS hown hin (k := 6) (j := 6) rfl (by decide) (by decide) (hT _ k_426 _) hk109 rfl rfl rfl rfl d_Ne_init_82 (fun H locs hP hS => ?_)
              have hk109 : p_k (s_r P116 246 a0 (some q114)) a0 = 7 := by rw [pk_r]; exact hk109
              have hkq110 : p_k (s_r P116 246 a0 (some q114)) q110 = 2 := by rw [pk_r]; exact hkq110
              have hkq111 : p_k (s_r P116 246 a0 (some q114)) q111 = 12 := by rw [pk_r]; exact hkq111
              have hkq113 : p_k (s_r P116 246 a0 (some q114)) q113 = 6 := by rw [pk_r]; exact hkq113
              have hkq114 : p_k (s_r P116 246 a0 (some q114)) q114 = 105 := by rw [pk_r]; exact hkq114
              exact we_v (pc := 85) hx hb hlocks hr hP hS (show 0 + 1 + 1 + 1 + 1 + 1 + 1 + 1 + 0 + 1 + 0 + 1 + 0 + 1 + 0 ≤ 10 by omega) (show 0 + 3 + 32 + 3 + 32 + 3 + 32 + 0 + 0 + 0 + 0 + 0 + 0 + 28 + 0 ≤ 133 by omega) h d_Ne_init_85
            · exact cq_out hlocks (pq_nil htab rfl) (show 0 + 1 + 1 + 1 + 1 + 1 + 1 + 1 + 0 + 1 + 0 + 1 + 0 + 0 ≤ 10 by omega) (show 0 + 3 + 32 + 3 + 32 + 3 + 32 + 0 + 0 + 0 + 0 + 0 + 0 + 0 ≤ 133 by omega) hX hex hP hS h
          · exact cq_out hlocks (pq_nil htab rfl) (show 0 + 1 + 1 + 1 + 1 + 1 + 1 + 1 + 0 + 1 + 0 + 0 ≤ 10 by omega) (show 0 + 3 + 32 + 3 + 32 + 3 + 32 + 0 + 0 + 0 + 0 + 0 ≤ 133 by omega) hX hex hP hS h
        · exact cq_out hlocks (pq_nil htab rfl) (show 0 + 1 + 1 + 1 + 1 + 1 + 1 + 1 + 0 + 0 ≤ 10 by omega) (show 0 + 3 + 32 + 3 + 32 + 3 + 32 + 0 + 0 + 0 ≤ 133 by omega) hX hex hP hS h
      · exact cq_out hlocks (pq_nil htab rfl) (show 0 + 1 + 1 + 1 + 1 + 1 + 1 + 0 ≤ 10 by omega) (show 0 + 3 + 32 + 3 + 32 + 3 + 32 + 0 ≤ 133 by omega) hX hex hP hS h
    · exact cq_out hlocks (pq_nil htab rfl) (show 0 + 1 + 1 + 1 + 1 + 0 ≤ 10 by omega) (show 0 + 3 + 32 + 3 + 32 + 0 ≤ 133 by omega) hX hex hP hS h
  · exact cq_out hlocks (pq_nil htab rfl) (show 0 + 1 + 1 + 0 ≤ 10 by omega) (show 0 + 3 + 32 + 0 ≤ 133 by omega) hX hex hP hS h
/-! WaterWorks$Net.reach(LWaterWorks$Place;)V -/
abbrev y_Ne_reach : MethodName := ⟨"WaterWorks$Net", "reach", "(LWaterWorks$Place;)V"⟩
abbrev rm_Ne_reach : Room := { frames := 1, cells := 0, slots := 0, locals := 40 }
theorem h_Ne_reach : y_Ne_reach.cls ≠ "java/lang/invoke/MethodHandle" ∧ y_Ne_reach.cls ≠ "java/lang/invoke/VarHandle" := by decide +kernel
theorem n_Ne_reach : (parseMethodDescriptor y_Ne_reach.desc).map (fun d => d.parameters.length) = some 1 := by decide +kernel
theorem d_Ne_reach_0 : decode prog_8_method_2_code 0 = .ok (.aload_n 1, 1) := by decide +kernel
theorem d_Ne_reach_1 : decode prog_8_method_2_code 1 = .ok (.getfield 51, 3) := by decide +kernel
theorem d_Ne_reach_4 : decode prog_8_method_2_code 4 = .ok (.aload_n 0, 1) := by decide +kernel
theorem d_Ne_reach_5 : decode prog_8_method_2_code 5 = .ok (.getfield 55, 3) := by decide +kernel
theorem d_Ne_reach_8 : decode prog_8_method_2_code 8 = .ok (.if_icmp .eq 31, 3) := by decide +kernel
theorem d_Ne_reach_11 : decode prog_8_method_2_code 11 = .ok (.aload_n 1, 1) := by decide +kernel
theorem d_Ne_reach_12 : decode prog_8_method_2_code 12 = .ok (.aload_n 0, 1) := by decide +kernel
theorem d_Ne_reach_13 : decode prog_8_method_2_code 13 = .ok (.getfield 55, 3) := by decide +kernel
theorem d_Ne_reach_16 : decode prog_8_method_2_code 16 = .ok (.putfield 51, 3) := by decide +kernel
theorem d_Ne_reach_19 : decode prog_8_method_2_code 19 = .ok (.aload_n 0, 1) := by decide +kernel
theorem d_Ne_reach_20 : decode prog_8_method_2_code 20 = .ok (.getfield 47, 3) := by decide +kernel
theorem d_Ne_reach_23 : decode prog_8_method_2_code 23 = .ok (.aload_n 0, 1) := by decide +kernel
theorem d_Ne_reach_24 : decode prog_8_method_2_code 24 = .ok (.getfield 58, 3) := by decide +kernel
theorem d_Ne_reach_27 : decode prog_8_method_2_code 27 = .ok (.aload_n 1, 1) := by decide +kernel
theorem d_Ne_reach_28 : decode prog_8_method_2_code 28 = .ok (.aastore, 1) := by decide +kernel
theorem d_Ne_reach_29 : decode prog_8_method_2_code 29 = .ok (.aload_n 0, 1) := by decide +kernel
theorem d_Ne_reach_30 : decode prog_8_method_2_code 30 = .ok (.dup, 1) := by decide +kernel
theorem d_Ne_reach_31 : decode prog_8_method_2_code 31 = .ok (.getfield 58, 3) := by decide +kernel
theorem d_Ne_reach_34 : decode prog_8_method_2_code 34 = .ok (.iconst 1, 1) := by decide +kernel
theorem d_Ne_reach_35 : decode prog_8_method_2_code 35 = .ok (.iadd, 1) := by decide +kernel
theorem d_Ne_reach_36 : decode prog_8_method_2_code 36 = .ok (.putfield 58, 3) := by decide +kernel
theorem d_Ne_reach_39 : decode prog_8_method_2_code 39 = .ok (.return_, 1) := by decide +kernel
def wp_Ne_reach (po : Option Value → Pic → Prop) (th : String → Pic → Prop) (P : Pic) (a0 : Nat) (a1 : Nat) : Prop := (p_k P a1 = 8 ∨ p_k P a1 = 9) ∧ p_k P a0 = 7 ∧ (((p_i P 321 a1) = (p_i P 248 a0) → (po none P)) ∧ (¬ (p_i P 321 a1) = (p_i P 248 a0) → (∃ a103, p_r (s_i P 321 a1 (p_i P 248 a0)) 246 a0 = some a103 ∧ p_k (s_i P 321 a1 (p_i P 248 a0)) a103 = 105 ∧ vp_in (p_i (s_i P 321 a1 (p_i P 248 a0)) 247 a0) (p_n (s_i P 321 a1 (p_i P 248 a0)) a103) ∧ ∀ (P106 : Pic), P106 = s_aq (s_i P 321 a1 (p_i P 248 a0)) a103 (Int32.toNatClampNeg (p_i (s_i P 321 a1 (p_i P 248 a0)) 247 a0)) (some a1) → po none (s_i P106 247 a0 ((p_i P106 247 a0) + (1 : Int32))))))
set_option maxHeartbeats 4000000 in
set_option maxRecDepth 100000 in
theorem ct_Ne_reach {l : Launch} (hfl : l.flags = flags0) (D : pq_D) {po : Option Value → Pic → Prop} {th : String → Pic → Prop} {P : Pic} {a0 : Nat} {a1 : Nat} (h : wp_Ne_reach po th P a0 a1) : CT l D y_Ne_reach (.code y_Ne_reach prog_8_method_2_code 2 none) rm_Ne_reach false [.ref a0, .ref a1] P po th := by
  refine ct_of (hs := []) hfl (by decide +kernel) (Or.inl ⟨rfl, rfl⟩) (Nat.le_of_ble_eq_true rfl) ?_
  intro p e s m below meth c C hmg hr hin htab ls hl
  have hl : lv_has ls 2 [(0, .ref a0), (1, .ref a1)] := hl
  generalize hargs : ([.ref a0, .ref a1] : List Value).toArray = args at C ⊢
  obtain ⟨hx, hb, hml, hown, hlocks, htr, hT, hK, hSt, hN, hP0⟩ := id C
  have L47_6 : pq_fl s m args 47 6 6 := ⟨_, "WaterWorks$Net", "WaterWorks$Net", rfl, by decide, hown, Or.inl (hT _ k_426 _), (fun _ z => z)⟩
  have L51_7 : pq_fl s m args 51 7 1 := ⟨_, "WaterWorks$Net", "WaterWorks$Place", rfl, by decide, hown, Or.inr ⟨_, hT _ k_515 _⟩, (fun _ z => z)⟩
  have L51_8 : pq_fl s m args 51 8 1 := ⟨_, "WaterWorks$Net", "WaterWorks$Place", rfl, by decide, hown, Or.inr ⟨_, hT _ k_515 _⟩, (fun _ z => z)⟩
  have L55_6 : pq_fl s m args 55 6 8 := ⟨_, "WaterWorks$Net", "WaterWorks$Net", rfl, by decide, hown, Or.inl (hT _ k_428 _), (fun _ z => z)⟩
  have L58_6 : pq_fl s m args 58 6 7 := ⟨_, "WaterWorks$Net", "WaterWorks$Net", rfl, by decide, hown, Or.inl (hT _ k_427 _), (fun _ z => z)⟩
  have hP : Pi D P s.heap := hP0
  have hS : Sg (cq_A P s) s.heap s.heap P [] := Sg.start hP0
  unfold wp_Ne_reach at h
  refine lv_aload_n (pc := 0) hx hb d_Ne_reach_0 rfl (lv_at hl 1 rfl) ?_
  obtain ⟨hk101, h⟩ := h
  refine pq_geti2 (pc := 1) hx hb hT hK hP L51_7 L51_8 hk101 d_Ne_reach_1 ?_
  refine lv_aload_n (pc := 4) hx hb d_Ne_reach_4 rfl (lv_at hl 0 rfl) ?_
  obtain ⟨hk102, h⟩ := h
  refine pq_geti (pc := 5) (f := 248) hx hb hT hK hP L55_6 hk102 rfl d_Ne_reach_5 ?_
  refine lv_icmp_eq (pc := 8) (tgt := 39) hx hb d_Ne_reach_8 (by decide) (fun c107 => ?_) (fun c107 => ?_)
  · replace h := h.1 c107
    exact we_v (pc := 39) hx hb hlocks hr hP hS (show 0 + 0 ≤ 0 by omega) (show 0 + 0 ≤ 0 by omega) h d_Ne_reach_39
  · replace h := h.2 c107
    refine lv_aload_n (pc := 11) hx hb d_Ne_reach_11 rfl (lv_at hl 1 rfl) ?_
    refine lv_aload_n (pc := 12) hx hb d_Ne_reach_12 rfl (lv_at hl 0 rfl) ?_
    refine pq_geti (pc := 13) (f := 248) hx hb hT hK hP L55_6 hk102 rfl d_Ne_reach_13 ?_
    refine pq_puti2 (pc := 16) hx hb hT hK hP hS L51_7 L51_8 hk101 d_Ne_reach_16 (fun H locs hP hS => ?_)
    have hk101 : p_k (s_i P 321 a1 (p_i P 248 a0)) a1 = 8 ∨ p_k (s_i P 321 a1 (p_i P 248 a0)) a1 = 9 := by rw [pk_i]; exact hk101
    have hk102 : p_k (s_i P 321 a1 (p_i P 248 a0)) a0 = 7 := by rw [pk_i]; exact hk102
    refine lv_aload_n (pc := 19) hx hb d_Ne_reach_19 rfl (lv_at hl 0 rfl) ?_
    obtain ⟨a103, ea103, h⟩ := h
    refine pq_geta (pc := 20) (f := 246) hx hb hT hK hP L47_6 hk102 rfl ea103 d_Ne_reach_20 ?_
    refine lv_aload_n (pc := 23) hx hb d_Ne_reach_23 rfl (lv_at hl 0 rfl) ?_
    refine pq_geti (pc := 24) (f := 247) hx hb hT hK hP L58_6 hk102 rfl d_Ne_reach_24 ?_
    refine lv_aload_n (pc := 27) hx hb d_Ne_reach_27 rfl (lv_at hl 1 rfl) ?_
    obtain ⟨hk105, h⟩ := h
    obtain ⟨hi104, h⟩ := h
    refine pq_aastP (pc := 28) hx hb hT hK hP hS hk105 hk101 hi104 d_Ne_reach_28 (fun H locs hP hS => ?_)
    have hk101 : p_k (s_aq (s_i P 321 a1 (p_i P 248 a0)) a103 (Int32.toNatClampNeg (p_i (s_i P 321 a1 (p_i P 248 a0)) 247 a0)) (some a1)) a1 = 8 ∨ p_k (s_aq (s_i P 321 a1 (p_i P 248 a0)) a103 (Int32.toNatClampNeg (p_i (s_i P 321 a1 (p_i P 248 a0)) 247 a0)) (some a1)) a1 = 9 := by rw [pk_aq]; exact hk101
    have hk102 : p_k (s_aq (s_i P 321 a1 (p_i P 248 a0)) a103 (Int32.toNatClampNeg (p_i (s_i P 321 a1 (p_i P 248 a0)) 247 a0)) (some a1)) a0 = 7 := by rw [pk_aq]; exact hk102
    have hk105 : p_k (s_aq (s_i P 321 a1 (p_i P 248 a0)) a103 (Int32.toNatClampNeg (p_i (s_i P 321 a1 (p_i P 248 a0)) 247 a0)) (some a1)) a103 = 105 := by rw [pk_aq]; exact hk105
    obtain ⟨P106, eP106⟩ : ∃ z : Pic, z = s_aq (s_i P 321 a1 (p_i P 248 a0)) a103 (Int32.toNatClampNeg (p_i (s_i P 321 a1 (p_i P 248 a0)) 247 a0)) (some a1) := ⟨_, rfl⟩
    replace h := h P106 eP106
    rw [← eP106] at hP hS
    have hk101 : p_k P106 a1 = 8 ∨ p_k P106 a1 = 9 := by rw [eP106]; exact hk101
    have hk102 : p_k P106 a0 = 7 := by rw [eP106]; exact hk102
    have hk105 : p_k P106 a103 = 105 := by rw [eP106]; exact hk105
    refine lv_aload_n (pc := 29) hx hb d_Ne_reach_29 rfl (lv_at hl 0 rfl) ?_
    refine lv_dup (pc := 30) hx hb d_Ne_reach_30 rfl ?_
    refine pq_geti (pc := 31) (f := 247) hx hb hT hK hP L58_6 hk102 rfl d_Ne_reach_31 ?_
    refine lv_iconst (pc := 34) (v := 1) hx hb d_Ne_reach_34 (by decide) ?_
    refine lv_iadd (pc := 35) hx hb d_Ne_reach_35 ?_
    refine pq_puti (pc := 36) (f := 247) hx hb hT hK hP hS L58_6 hk102 rfl rfl rfl rfl d_Ne_reach_36 (fun H locs hP hS => ?_)
    have hk101 : p_k (s_i P106 247 a0 ((p_i P106 247 a0) + (1 : Int32))) a1 = 8 ∨ p_k (s_i P106 247 a0 ((p_i P106 247 a0) + (1 : Int32))) a1 = 9 := by rw [pk_i]; exact hk101
    have hk102 : p_k (s_i P106 247 a0 ((p_i P106 247 a0) + (1 : Int32))) a0 = 7 := by rw [pk_i]; exact hk102
    have hk105 : p_k (s_i P106 247 a0 ((p_i P106 247 a0) + (1 : Int32))) a103 = 105 := by rw [pk_i]; exact hk105
    exact we_v (pc := 39) hx hb hlocks hr hP hS (show 0 + 0 ≤ 0 by omega) (show 0 + 0 ≤ 0 by omega) h d_Ne_reach_39
/-! WaterWorks$Net.spread(LWaterWorks$Gate;)V -/
abbrev y_Ne_spread : MethodName := ⟨"WaterWorks$Net", "spread", "(LWaterWorks$Gate;)V"⟩
abbrev rm_Ne_spread : Room := { frames := 4, cells := 0, slots := 0, locals := 200 }
theorem h_Ne_spread : y_Ne_spread.cls ≠ "java/lang/invoke/MethodHandle" ∧ y_Ne_spread.cls ≠ "java/lang/invoke/VarHandle" := by decide +kernel
theorem n_Ne_spread : (parseMethodDescriptor y_Ne_spread.desc).map (fun d => d.parameters.length) = some 1 := by decide +kernel
theorem d_Ne_spread_0 : decode prog_8_method_3_code 0 = .ok (.iconst 0, 1) := by decide +kernel
theorem d_Ne_spread_1 : decode prog_8_method_3_code 1 = .ok (.istore_n 2, 1) := by decide +kernel
theorem d_Ne_spread_2 : decode prog_8_method_3_code 2 = .ok (.iload_n 2, 1) := by decide +kernel
theorem d_Ne_spread_3 : decode prog_8_method_3_code 3 = .ok (.aload_n 0, 1) := by decide +kernel
theorem d_Ne_spread_4 : decode prog_8_method_3_code 4 = .ok (.getfield 58, 3) := by decide +kernel
theorem d_Ne_spread_7 : decode prog_8_method_3_code 7 = .ok (.if_icmp .ge 72, 3) := by decide +kernel
theorem d_Ne_spread_10 : decode prog_8_method_3_code 10 = .ok (.aload_n 0, 1) := by decide +kernel
theorem d_Ne_spread_11 : decode prog_8_method_3_code 11 = .ok (.getfield 47, 3) := by decide +kernel
theorem d_Ne_spread_14 : decode prog_8_method_3_code 14 = .ok (.iload_n 2, 1) := by decide +kernel
theorem d_Ne_spread_15 : decode prog_8_method_3_code 15 = .ok (.aaload, 1) := by decide +kernel
theorem d_Ne_spread_16 : decode prog_8_method_3_code 16 = .ok (.astore_n 3, 1) := by decide +kernel
theorem d_Ne_spread_17 : decode prog_8_method_3_code 17 = .ok (.iconst 0, 1) := by decide +kernel
theorem d_Ne_spread_18 : decode prog_8_method_3_code 18 = .ok (.istore 4, 2) := by decide +kernel
theorem d_Ne_spread_20 : decode prog_8_method_3_code 20 = .ok (.iload 4, 2) := by decide +kernel
theorem d_Ne_spread_22 : decode prog_8_method_3_code 22 = .ok (.aload_n 3, 1) := by decide +kernel
theorem d_Ne_spread_23 : decode prog_8_method_3_code 23 = .ok (.getfield 61, 3) := by decide +kernel
theorem d_Ne_spread_26 : decode prog_8_method_3_code 26 = .ok (.invokevirtual 64, 3) := by decide +kernel
theorem d_Ne_spread_29 : decode prog_8_method_3_code 29 = .ok (.if_icmp .ge 44, 3) := by decide +kernel
theorem d_Ne_spread_32 : decode prog_8_method_3_code 32 = .ok (.aload_n 3, 1) := by decide +kernel
theorem d_Ne_spread_33 : decode prog_8_method_3_code 33 = .ok (.getfield 61, 3) := by decide +kernel
theorem d_Ne_spread_36 : decode prog_8_method_3_code 36 = .ok (.iload 4, 2) := by decide +kernel
theorem d_Ne_spread_38 : decode prog_8_method_3_code 38 = .ok (.invokevirtual 68, 3) := by decide +kernel
theorem d_Ne_spread_41 : decode prog_8_method_3_code 41 = .ok (.checkcast 72, 3) := by decide +kernel
theorem d_Ne_spread_44 : decode prog_8_method_3_code 44 = .ok (.astore 5, 2) := by decide +kernel
theorem d_Ne_spread_46 : decode prog_8_method_3_code 46 = .ok (.aload_n 1, 1) := by decide +kernel
theorem d_Ne_spread_47 : decode prog_8_method_3_code 47 = .ok (.aload 5, 2) := by decide +kernel
theorem d_Ne_spread_49 : decode prog_8_method_3_code 49 = .ok (.invokeinterface 74 2, 5) := by decide +kernel
theorem d_Ne_spread_54 : decode prog_8_method_3_code 54 = .ok (.ifCond .eq 13, 3) := by decide +kernel
theorem d_Ne_spread_57 : decode prog_8_method_3_code 57 = .ok (.aload_n 0, 1) := by decide +kernel
theorem d_Ne_spread_58 : decode prog_8_method_3_code 58 = .ok (.aload 5, 2) := by decide +kernel
theorem d_Ne_spread_60 : decode prog_8_method_3_code 60 = .ok (.aload_n 3, 1) := by decide +kernel
theorem d_Ne_spread_61 : decode prog_8_method_3_code 61 = .ok (.invokevirtual 80, 3) := by decide +kernel
theorem d_Ne_spread_64 : decode prog_8_method_3_code 64 = .ok (.invokevirtual 84, 3) := by decide +kernel
theorem d_Ne_spread_67 : decode prog_8_method_3_code 67 = .ok (.iinc 4 1, 3) := by decide +kernel
theorem d_Ne_spread_70 : decode prog_8_method_3_code 70 = .ok (.goto (-50), 3) := by decide +kernel
theorem d_Ne_spread_73 : decode prog_8_method_3_code 73 = .ok (.iinc 2 1, 3) := by decide +kernel
theorem d_Ne_spread_76 : decode prog_8_method_3_code 76 = .ok (.goto (-74), 3) := by decide +kernel
theorem d_Ne_spread_79 : decode prog_8_method_3_code 79 = .ok (.return_, 1) := by decide +kernel
def wb_Ne_spread_67 (po : Option Value → Pic → Prop) (th : String → Pic → Prop) (K2 : Pic → Nat → Nat → Int32 → Prop) (K20 : Pic → Nat → Nat → Int32 → Nat → Int32 → Prop) (P : Pic) (a0 : Nat) (a1 : Nat) (x2 : Int32) (a3 : Nat) (x4 : Int32) : Prop := ∀ (x122 : Int32), x122 = x4 + 1 → K20 P a0 a1 x2 a3 x122
def wb_Ne_spread_20 (po : Option Value → Pic → Prop) (th : String → Pic → Prop) (K2 : Pic → Nat → Nat → Int32 → Prop) (K20 : Pic → Nat → Nat → Int32 → Nat → Int32 → Prop) (P : Pic) (a0 : Nat) (a1 : Nat) (x2 : Int32) (a3 : Nat) (x4 : Int32) : Prop := (p_k P a3 = 8 ∨ p_k P a3 = 9) ∧ ∃ a108, p_r P 320 a3 = some a108 ∧ p_k P a108 = 14 ∧ wp_Ar_size (cp_i fun x110 _ => ((x110 ≤ x4 → (∀ (x111 : Int32), x111 = x2 + 1 → K2 P a0 a1 x111)) ∧ (¬ x110 ≤ x4 → (∃ a112, p_r P 320 a3 = some a112 ∧ p_k P a112 = 14 ∧ wp_Ar_get (cp_a fun a114 _ => p_k P a114 = 5 ∧ wp_Gate_passes (cp_i fun x116 _ => ((x116 = 0 → (wb_Ne_spread_67 po th K2 K20 P a0 a1 x2 a3 x4)) ∧ (¬ x116 = 0 → (wp_En_beyond (cp_a fun a117 _ => p_k P a0 = 7 ∧ wp_Ne_reach (cp_v fun P119 => wb_Ne_spread_67 po th K2 K20 P119 a0 a1 x2 a3 x4) th P a0 a117) th P a114 a3)))) th P a1 a114) th P a112 x4)))) th P a108
def wl_Ne_spread_20 (po : Option Value → Pic → Prop) (th : String → Pic → Prop) (K2 : Pic → Nat → Nat → Int32 → Prop) : Nat → Pic → Nat → Nat → Int32 → Nat → Int32 → Prop
  | 0 => fun _ _ _ _ _ _ => False
  | n + 1 => wb_Ne_spread_20 po th K2 (wl_Ne_spread_20 po th K2 n)
def wb_Ne_spread_2 (po : Option Value → Pic → Prop) (th : String → Pic → Prop) (K2 : Pic → Nat → Nat → Int32 → Prop) (P : Pic) (a0 : Nat) (a1 : Nat) (x2 : Int32) : Prop := p_k P a0 = 7 ∧ (((p_i P 247 a0) ≤ x2 → (po none P)) ∧ (¬ (p_i P 247 a0) ≤ x2 → (∃ a102, p_r P 246 a0 = some a102 ∧ (p_k P a102 = 104 ∨ p_k P a102 = 105) ∧ vp_in x2 (p_n P a102) ∧ ∃ a105, p_aq P a102 (Int32.toNatClampNeg x2) = some a105 ∧ ∃ n, wl_Ne_spread_20 po th K2 n P a0 a1 x2 a105 (0 : Int32))))
def wl_Ne_spread_2 (po : Option Value → Pic → Prop) (th : String → Pic → Prop) : Nat → Pic → Nat → Nat → Int32 → Prop
  | 0 => fun _ _ _ _ => False
  | n + 1 => wb_Ne_spread_2 po th (wl_Ne_spread_2 po th n)
def wp_Ne_spread (po : Option Value → Pic → Prop) (th : String → Pic → Prop) (P : Pic) (a0 : Nat) (a1 : Nat) : Prop := ∃ n, wl_Ne_spread_2 po th n P a0 a1 (0 : Int32)
set_option maxHeartbeats 4000000 in
set_option maxRecDepth 100000 in
theorem wk_Ne_spread_67 {p : Program} {l : Launch} {e : Env} {s : State} {m : MethodId} {args : Array Value} {below : List Frame} {meth : Method} {c : Code} {D : pq_D} {P0 : Pic} {po : Option Value → Pic → Prop} {th : String → Pic → Prop} {K2 : Pic → Nat → Nat → Int32 → Prop} {K20 : Pic → Nat → Nat → Int32 → Nat → Int32 → Prop} (hfl : l.flags = flags0) (C : Cx p e s m args meth c prog_8_method_3_code 6 "WaterWorks$Net" D P0) (hmg : e.platform.magicAccessors = ({} : Platform).magicAccessors) (hr : meth.sig.returnType = none) (hin : meth.name = "spread") (htab : c.exceptionTable.toList = tableOf []) (HK2 : ∀ (P : Pic) (a0 : Nat) (a1 : Nat) (x2 : Int32) (H : Heap) (locs : List Loc) (cells slots : Nat) (ls : Array Slot), K2 P a0 a1 x2 → Pi D P H → Sg (cq_A P0 s) s.heap H P locs → lv_has ls 6 [(0, .ref a0), (1, .ref a1), (2, .int x2)] → cells + 0 ≤ 0 → slots + 0 ≤ 0 → W p l e rm_Ne_spread s m args below meth c H locs cells slots (mt_MQ below (cq_Q D P0 false po th) args s 0 0 (cq_free P0 false)) (F0 m 2 ls [])) (HK20 : ∀ (P : Pic) (a0 : Nat) (a1 : Nat) (x2 : Int32) (a3 : Nat) (x4 : Int32) (H : Heap) (locs : List Loc) (cells slots : Nat) (ls : Array Slot), K20 P a0 a1 x2 a3 x4 → Pi D P H → Sg (cq_A P0 s) s.heap H P locs → lv_has ls 6 [(0, .ref a0), (1, .ref a1), (2, .int x2), (3, .ref a3), (4, .int x4)] → cells + 0 ≤ 0 → slots + 0 ≤ 0 → W p l e rm_Ne_spread s m args below meth c H locs cells slots (mt_MQ below (cq_Q D P0 false po th) args s 0 0 (cq_free P0 false)) (F0 m 20 ls [])) : ∀ (P : Pic) (a0 : Nat) (a1 : Nat) (x2 : Int32) (a3 : Nat) (x4 : Int32) (H : Heap) (locs : List Loc) (cells slots : Nat) (ls : Array Slot), wb_Ne_spread_67 po th K2 K20 P a0 a1 x2 a3 x4 → Pi D P H → Sg (cq_A P0 s) s.heap H P locs → lv_has ls 6 [(0, .ref a0), (1, .ref a1), (2, .int x2), (3, .ref a3), (4, .int x4)] → cells + 0 ≤ 0 → slots + 0 ≤ 0 → W p l e rm_Ne_spread s m args below meth c H locs cells slots (mt_MQ below (cq_Q D P0 false po th) args s 0 0 (cq_free P0 false)) (F0 m 67 ls []) := by
  intro P a0 a1 x2 a3 x4 H locs cells slots ls h hP hS hl hcc hss
  obtain ⟨hx, hb, hml, hown, hlocks, htr, hT, hK, hSt, hN, hP0⟩ := id C
  have L47_6 : pq_fl s m args 47 6 6 := ⟨_, "WaterWorks$Net", "WaterWorks$Net", rfl, by decide, hown, Or.inl (hT _ k_426 _), (fun _ z => z)⟩
  have L58_6 : pq_fl s m args 58 6 7 := ⟨_, "WaterWorks$Net", "WaterWorks$Net", rfl, by decide, hown, Or.inl (hT _ k_427 _), (fun _ z => z)⟩
  have L61_7 : pq_fl s m args 61 7 0 := ⟨_, "WaterWorks$Net", "WaterWorks$Place", rfl, by decide, hown, Or.inl (hT _ k_514 _), (fun _ z => z)⟩
  have L61_8 : pq_fl s m args 61 8 0 := ⟨_, "WaterWorks$Net", "WaterWorks$Place", rfl, by decide, hown, Or.inl (hT _ k_514 _), (fun _ z => z)⟩
  unfold wb_Ne_spread_67 at h
  obtain ⟨x122, ex122⟩ : ∃ z : Int32, z = x4 + 1 := ⟨_, rfl⟩
  replace h := h x122 ex122
  refine lv_iinc (pc := 67) (v := x122) (lv' := [(4, .int x122), (0, .ref a0), (1, .ref a1), (2, .int x2), (3, .ref a3)]) hx hb d_Ne_spread_67 hl (k := 4) rfl (by rw [ex122]; rfl) (by decide) rfl (fun ls hl => ?_)
  refine lv_goto (pc := 70) (tgt := 20) hx hb d_Ne_spread_70 (by decide) ?_
  exact HK20 _ a0 a1 x2 a3 x122 _ _ _ _ _ h hP hS (lv_sub hl [1, 2, 3, 4, 0] rfl) (show cells + 0 ≤ 0 by omega) (show slots + 0 ≤ 0 by omega)
set_option maxHeartbeats 4000000 in
set_option maxRecDepth 100000 in
theorem wk_Ne_spread_20 {p : Program} {l : Launch} {e : Env} {s : State} {m : MethodId} {args : Array Value} {below : List Frame} {meth : Method} {c : Code} {D : pq_D} {P0 : Pic} {po : Option Value → Pic → Prop} {th : String → Pic → Prop} {K2 : Pic → Nat → Nat → Int32 → Prop} {K20 : Pic → Nat → Nat → Int32 → Nat → Int32 → Prop} (hfl : l.flags = flags0) (C : Cx p e s m args meth c prog_8_method_3_code 6 "WaterWorks$Net" D P0) (hmg : e.platform.magicAccessors = ({} : Platform).magicAccessors) (hr : meth.sig.returnType = none) (hin : meth.name = "spread") (htab : c.exceptionTable.toList = tableOf []) (HK2 : ∀ (P : Pic) (a0 : Nat) (a1 : Nat) (x2 : Int32) (H : Heap) (locs : List Loc) (cells slots : Nat) (ls : Array Slot), K2 P a0 a1 x2 → Pi D P H → Sg (cq_A P0 s) s.heap H P locs → lv_has ls 6 [(0, .ref a0), (1, .ref a1), (2, .int x2)] → cells + 0 ≤ 0 → slots + 0 ≤ 0 → W p l e rm_Ne_spread s m args below meth c H locs cells slots (mt_MQ below (cq_Q D P0 false po th) args s 0 0 (cq_free P0 false)) (F0 m 2 ls [])) (HK20 : ∀ (P : Pic) (a0 : Nat) (a1 : Nat) (x2 : Int32) (a3 : Nat) (x4 : Int32) (H : Heap) (locs : List Loc) (cells slots : Nat) (ls : Array Slot), K20 P a0 a1 x2 a3 x4 → Pi D P H → Sg (cq_A P0 s) s.heap H P locs → lv_has ls 6 [(0, .ref a0), (1, .ref a1), (2, .int x2), (3, .ref a3), (4, .int x4)] → cells + 0 ≤ 0 → slots + 0 ≤ 0 → W p l e rm_Ne_spread s m args below meth c H locs cells slots (mt_MQ below (cq_Q D P0 false po th) args s 0 0 (cq_free P0 false)) (F0 m 20 ls [])) : ∀ (P : Pic) (a0 : Nat) (a1 : Nat) (x2 : Int32) (a3 : Nat) (x4 : Int32) (H : Heap) (locs : List Loc) (cells slots : Nat) (ls : Array Slot), wb_Ne_spread_20 po th K2 K20 P a0 a1 x2 a3 x4 → Pi D P H → Sg (cq_A P0 s) s.heap H P locs → lv_has ls 6 [(0, .ref a0), (1, .ref a1), (2, .int x2), (3, .ref a3), (4, .int x4)] → cells + 0 ≤ 0 → slots + 0 ≤ 0 → W p l e rm_Ne_spread s m args below meth c H locs cells slots (mt_MQ below (cq_Q D P0 false po th) args s 0 0 (cq_free P0 false)) (F0 m 20 ls []) := by
  intro P a0 a1 x2 a3 x4 H locs cells slots ls h hP hS hl hcc hss
  obtain ⟨hx, hb, hml, hown, hlocks, htr, hT, hK, hSt, hN, hP0⟩ := id C
  have L47_6 : pq_fl s m args 47 6 6 := ⟨_, "WaterWorks$Net", "WaterWorks$Net", rfl, by decide, hown, Or.inl (hT _ k_426 _), (fun _ z => z)⟩
  have L58_6 : pq_fl s m args 58 6 7 := ⟨_, "WaterWorks$Net", "WaterWorks$Net", rfl, by decide, hown, Or.inl (hT _ k_427 _), (fun _ z => z)⟩
  have L61_7 : pq_fl s m args 61 7 0 := ⟨_, "WaterWorks$Net", "WaterWorks$Place", rfl, by decide, hown, Or.inl (hT _ k_514 _), (fun _ z => z)⟩
  have L61_8 : pq_fl s m args 61 8 0 := ⟨_, "WaterWorks$Net", "WaterWorks$Place", rfl, by decide, hown, Or.inl (hT _ k_514 _), (fun _ z => z)⟩
  unfold wb_Ne_spread_20 at h
  refine lv_iload (pc := 20) hx hb d_Ne_spread_20 (lv_at hl 4 rfl) ?_
  refine lv_aload_n (pc := 22) hx hb d_Ne_spread_22 rfl (lv_at hl 3 rfl) ?_
  obtain ⟨hk107, h⟩ := h
  obtain ⟨a108, ea108, h⟩ := h
  refine pq_geta2 (pc := 23) hx hb hT hK hP L61_7 L61_8 hk107 ea108 d_Ne_spread_23 ?_
  obtain ⟨hk109, h⟩ := h
  refine cr_i (pc := 26) C (rest := [.int x4]) (mt_invV (As := []) hx hb hown (hT _ k_765 _) (hT _ k_472 _) (hT _ k_473 _) (mt_Cd.code (hT _ k_474 #[])) h_Ar_size (pq_recv hK hP hk109 rfl) n_Ar_size rfl d_Ne_spread_26) (ct_Ar_size hfl D h) k_474 k_5 ⟨Nat.le_of_ble_eq_true rfl, Nat.le_of_ble_eq_true rfl⟩ ⟨(show cells + 0 ≤ 0 by omega), (show slots + 0 ≤ 0 by omega)⟩ hl.1 d_Ne_spread_26 (Nat.le_of_ble_eq_true rfl) hP hS (fun x110 H locs h hP hS => ?_) (fun xx X H locs h hX hex hP hS => ?_)
  · refine lv_icmp_ge (pc := 29) (tgt := 73) hx hb d_Ne_spread_29 (by decide) (fun c121 => ?_) (fun c121 => ?_)
    · replace h := h.1 c121
      obtain ⟨x111, ex111⟩ : ∃ z : Int32, z = x2 + 1 := ⟨_, rfl⟩
      replace h := h x111 ex111
      refine lv_iinc (pc := 73) (v := x111) (lv' := [(2, .int x111), (0, .ref a0), (1, .ref a1), (3, .ref a3), (4, .int x4)]) hx hb d_Ne_spread_73 hl (k := 2) rfl (by rw [ex111]; rfl) (by decide) rfl (fun ls hl => ?_)
      refine lv_goto (pc := 76) (tgt := 2) hx hb d_Ne_spread_76 (by decide) ?_
      exact HK2 _ a0 a1 x111 _ _ _ _ _ h hP hS (lv_sub hl [1, 2, 0] rfl) (show cells + 0 + 0 ≤ 0 by omega) (show slots + 0 + 0 ≤ 0 by omega)
    · replace h := h.2 c121
      refine lv_aload_n (pc := 32) hx hb d_Ne_spread_32 rfl (lv_at hl 3 rfl) ?_
      obtain ⟨a112, ea112, h⟩ := h
      refine pq_geta2 (pc := 33) hx hb hT hK hP L61_7 L61_8 hk107 ea112 d_Ne_spread_33 ?_
      refine lv_iload (pc := 36) hx hb d_Ne_spread_36 (lv_at hl 4 rfl) ?_
      obtain ⟨hk113, h⟩ := h
      refine cr_a (pc := 38) C (rest := []) (mt_invV (As := [.int x4]) hx hb hown (hT _ k_766 _) (hT _ k_607 _) (hT _ k_608 _) (mt_Cd.code (hT _ k_609 #[])) h_Ar_get (pq_recv hK hP hk113 rfl) n_Ar_get rfl d_Ne_spread_38) (ct_Ar_get hfl D h) k_609 k_5 ⟨Nat.le_of_ble_eq_true rfl, Nat.le_of_ble_eq_true rfl⟩ ⟨(show cells + 0 + 0 ≤ 0 by omega), (show slots + 0 + 0 ≤ 0 by omega)⟩ hl.1 d_Ne_spread_38 (Nat.le_of_ble_eq_true rfl) hP hS (fun a114 H locs h hP hS => ?_) (fun xx X H locs h hX hex hP hS => ?_)
      · obtain ⟨hk115, h⟩ := h
        refine pq_cast (pc := 41) hx hb hT hK hP hown k_776 hk115 rfl k_1350 d_Ne_spread_41 ?_
        refine lv_astore (pc := 44) (lv' := [(5, .ref a114), (0, .ref a0), (1, .ref a1), (2, .int x2), (3, .ref a3), (4, .int x4)]) hx hb d_Ne_spread_44 hl (by decide) rfl (fun ls hl => ?_)
        refine lv_aload_n (pc := 46) hx hb d_Ne_spread_46 rfl (lv_at hl 2 rfl) ?_
        refine lv_aload (pc := 47) hx hb d_Ne_spread_47 (lv_at hl 0 rfl) ?_
        refine cr_gate (pc := 49) hfl C (rest := []) (hT _ k_778 _) h (Nat.le_of_ble_eq_true rfl) (Nat.le_of_ble_eq_true rfl) ⟨(show cells + 0 + 0 + 0 ≤ 0 by omega), (show slots + 0 + 0 + 0 ≤ 0 by omega)⟩ hl.1 d_Ne_spread_49 (Nat.le_of_ble_eq_true rfl) hP hS (fun x116 H locs h hP hS => ?_) (fun xx X H locs h hX hex hP hS => ?_)
        · refine lv_if_eq (pc := 54) (tgt := 67) hx hb d_Ne_spread_54 (by decide) (fun c120 => ?_) (fun c120 => ?_)
          · replace h := h.1 c120
            exact wk_Ne_spread_67 hfl C hmg hr hin htab HK2 HK20 _ a0 a1 x2 a3 x4 _ _ _ _ _ h hP hS (lv_sub hl [1, 2, 3, 4, 5] rfl) (show cells + 0 + 0 + 0 + 0 ≤ 0 by omega) (show slots + 0 + 0 + 0 + 0 ≤ 0 by omega)
          · replace h := h.2 c120
            refine lv_aload_n (pc := 57) hx hb d_Ne_spread_57 rfl (lv_at hl 1 rfl) ?_
            refine lv_aload (pc := 58) hx hb d_Ne_spread_58 (lv_at hl 0 rfl) ?_
            refine lv_aload_n (pc := 60) hx hb d_Ne_spread_60 rfl (lv_at hl 4 rfl) ?_
            refine cr_a (pc := 61) C (rest := [.ref a0]) (mt_invV (As := [.ref a3]) hx hb hown (hT _ k_803 _) (hT _ k_804 _) (hT _ k_805 _) (mt_Cd.code (hT _ k_806 #[])) h_En_beyond (pq_recv hK hP hk115 rfl) n_En_beyond rfl d_Ne_spread_61) (ct_En_beyond hfl D h) k_806 k_30 ⟨Nat.le_of_ble_eq_true rfl, Nat.le_of_ble_eq_true rfl⟩ ⟨(show cells + 0 + 0 + 0 + 0 ≤ 0 by omega), (show slots + 0 + 0 + 0 + 0 ≤ 0 by omega)⟩ hl.1 d_Ne_spread_61 (Nat.le_of_ble_eq_true rfl) hP hS (fun a117 H locs h hP hS => ?_) (fun xx X H locs h hX hex hP hS => ?_)
            · obtain ⟨hk118, h⟩ := h
              refine cc_v (pc := 64) C (rest := []) (mt_invV (As := [.ref a117]) hx hb hown (hT _ k_768 _) (hT _ k_770 _) (hT _ ks_7 _) (mt_Cd.code (hT _ k_771 #[])) h_Ne_reach (pq_recv hK hP hk118 rfl) n_Ne_reach rfl d_Ne_spread_64) (ct_Ne_reach hfl D h) k_771 k_2 ⟨Nat.le_of_ble_eq_true rfl, Nat.le_of_ble_eq_true rfl⟩ ⟨(show cells + 0 + 0 + 0 + 0 + 0 ≤ 0 by omega), (show slots + 0 + 0 + 0 + 0 + 0 ≤ 0 by omega)⟩ hl.1 d_Ne_spread_64 (Nat.le_of_ble_eq_true rfl) hP hS (fun P119 H locs h hP hS => ?_) (fun xx X P119 H locs h hX hex hP hS => ?_)
              · exact wk_Ne_spread_67 hfl C hmg hr hin htab HK2 HK20 _ a0 a1 x2 a3 x4 _ _ _ _ _ h hP hS (lv_sub hl [1, 2, 3, 4, 5] rfl) (show cells + 0 + 0 + 0 + 0 + 0 + 0 ≤ 0 by omega) (show slots + 0 + 0 + 0 + 0 + 0 + 0 ≤ 0 by omega)
              · exact cq_out hlocks (pq_nil htab rfl) (show cells + 0 + 0 + 0 + 0 + 0 + 0 ≤ 0 by omega) (show slots + 0 + 0 + 0 + 0 + 0 + 0 ≤ 0 by omega) hX hex hP hS h
            · exact cq_out hlocks (pq_nil htab rfl) (show cells + 0 + 0 + 0 + 0 + 0 ≤ 0 by omega) (show slots + 0 + 0 + 0 + 0 + 0 ≤ 0 by omega) hX hex hP hS h
        · exact cq_out hlocks (pq_nil htab rfl) (show cells + 0 + 0 + 0 + 0 ≤ 0 by omega) (show slots + 0 + 0 + 0 + 0 ≤ 0 by omega) hX hex hP hS h
      · exact cq_out hlocks (pq_nil htab rfl) (show cells + 0 + 0 + 0 ≤ 0 by omega) (show slots + 0 + 0 + 0 ≤ 0 by omega) hX hex hP hS h
  · exact cq_out hlocks (pq_nil htab rfl) (show cells + 0 + 0 ≤ 0 by omega) (show slots + 0 + 0 ≤ 0 by omega) hX hex hP hS h
theorem wm_Ne_spread_20 {p : Program} {l : Launch} {e : Env} {s : State} {m : MethodId} {args : Array Value} {below : List Frame} {meth : Method} {c : Code} {D : pq_D} {P0 : Pic} {po : Option Value → Pic → Prop} {th : String → Pic → Prop} {K2 : Pic → Nat → Nat → Int32 → Prop} (hfl : l.flags = flags0) (C : Cx p e s m args meth c prog_8_method_3_code 6 "WaterWorks$Net" D P0) (hmg : e.platform.magicAccessors = ({} : Platform).magicAccessors) (hr : meth.sig.returnType = none) (hin : meth.name = "spread") (htab : c.exceptionTable.toList = tableOf []) (HK2 : ∀ (P : Pic) (a0 : Nat) (a1 : Nat) (x2 : Int32) (H : Heap) (locs : List Loc) (cells slots : Nat) (ls : Array Slot), K2 P a0 a1 x2 → Pi D P H → Sg (cq_A P0 s) s.heap H P locs → lv_has ls 6 [(0, .ref a0), (1, .ref a1), (2, .int x2)] → cells + 0 ≤ 0 → slots + 0 ≤ 0 → W p l e rm_Ne_spread s m args below meth c H locs cells slots (mt_MQ below (cq_Q D P0 false po th) args s 0 0 (cq_free P0 false)) (F0 m 2 ls [])) : ∀ n : Nat, ∀ (P : Pic) (a0 : Nat) (a1 : Nat) (x2 : Int32) (a3 : Nat) (x4 : Int32) (H : Heap) (locs : List Loc) (cells slots : Nat) (ls : Array Slot), wl_Ne_spread_20 po th K2 n P a0 a1 x2 a3 x4 → Pi D P H → Sg (cq_A P0 s) s.heap H P locs → lv_has ls 6 [(0, .ref a0), (1, .ref a1), (2, .int x2), (3, .ref a3), (4, .int x4)] → cells + 0 ≤ 0 → slots + 0 ≤ 0 → W p l e rm_Ne_spread s m args below meth c H locs cells slots (mt_MQ below (cq_Q D P0 false po th) args s 0 0 (cq_free P0 false)) (F0 m 20 ls []) := by
  intro n
  induction n with
  | zero => intro P a0 a1 x2 a3 x4 H locs cells slots ls h; exact h.elim
  | succ n ih => exact wk_Ne_spread_20 hfl C hmg hr hin htab HK2 ih
set_option maxHeartbeats 4000000 in
set_option maxRecDepth 100000 in
theorem wk_Ne_spread_2 {p : Program} {l : Launch} {e : Env} {s : State} {m : MethodId} {args : Array Value} {below : List Frame} {meth : Method} {c : Code} {D : pq_D} {P0 : Pic} {po : Option Value → Pic → Prop} {th : String → Pic → Prop} {K2 : Pic → Nat → Nat → Int32 → Prop} (hfl : l.flags = flags0) (C : Cx p e s m args meth c prog_8_method_3_code 6 "WaterWorks$Net" D P0) (hmg : e.platform.magicAccessors = ({} : Platform).magicAccessors) (hr : meth.sig.returnType = none) (hin : meth.name = "spread") (htab : c.exceptionTable.toList = tableOf []) (HK2 : ∀ (P : Pic) (a0 : Nat) (a1 : Nat) (x2 : Int32) (H : Heap) (locs : List Loc) (cells slots : Nat) (ls : Array Slot), K2 P a0 a1 x2 → Pi D P H → Sg (cq_A P0 s) s.heap H P locs → lv_has ls 6 [(0, .ref a0), (1, .ref a1), (2, .int x2)] → cells + 0 ≤ 0 → slots + 0 ≤ 0 → W p l e rm_Ne_spread s m args below meth c H locs cells slots (mt_MQ below (cq_Q D P0 false po th) args s 0 0 (cq_free P0 false)) (F0 m 2 ls [])) : ∀ (P : Pic) (a0 : Nat) (a1 : Nat) (x2 : Int32) (H : Heap) (locs : List Loc) (cells slots : Nat) (ls : Array Slot), wb_Ne_spread_2 po th K2 P a0 a1 x2 → Pi D P H → Sg (cq_A P0 s) s.heap H P locs → lv_has ls 6 [(0, .ref a0), (1, .ref a1), (2, .int x2)] → cells + 0 ≤ 0 → slots + 0 ≤ 0 → W p l e rm_Ne_spread s m args below meth c H locs cells slots (mt_MQ below (cq_Q D P0 false po th) args s 0 0 (cq_free P0 false)) (F0 m 2 ls []) := by
  intro P a0 a1 x2 H locs cells slots ls h hP hS hl hcc hss
  obtain ⟨hx, hb, hml, hown, hlocks, htr, hT, hK, hSt, hN, hP0⟩ := id C
  have L47_6 : pq_fl s m args 47 6 6 := ⟨_, "WaterWorks$Net", "WaterWorks$Net", rfl, by decide, hown, Or.inl (hT _ k_426 _), (fun _ z => z)⟩
  have L58_6 : pq_fl s m args 58 6 7 := ⟨_, "WaterWorks$Net", "WaterWorks$Net", rfl, by decide, hown, Or.inl (hT _ k_427 _), (fun _ z => z)⟩
  have L61_7 : pq_fl s m args 61 7 0 := ⟨_, "WaterWorks$Net", "WaterWorks$Place", rfl, by decide, hown, Or.inl (hT _ k_514 _), (fun _ z => z)⟩
  have L61_8 : pq_fl s m args 61 8 0 := ⟨_, "WaterWorks$Net", "WaterWorks$Place", rfl, by decide, hown, Or.inl (hT _ k_514 _), (fun _ z => z)⟩
  unfold wb_Ne_spread_2 at h
  refine lv_iload_n (pc := 2) hx hb d_Ne_spread_2 rfl (lv_at hl 2 rfl) ?_
  refine lv_aload_n (pc := 3) hx hb d_Ne_spread_3 rfl (lv_at hl 0 rfl) ?_
  obtain ⟨hk101, h⟩ := h
  refine pq_geti (pc := 4) (f := 247) hx hb hT hK hP L58_6 hk101 rfl d_Ne_spread_4 ?_
  refine lv_icmp_ge (pc := 7) (tgt := 79) hx hb d_Ne_spread_7 (by decide) (fun c106 => ?_) (fun c106 => ?_)
  · replace h := h.1 c106
    exact we_v (pc := 79) hx hb hlocks hr hP hS (show cells + 0 ≤ 0 by omega) (show slots + 0 ≤ 0 by omega) h d_Ne_spread_79
  · replace h := h.2 c106
    refine lv_aload_n (pc := 10) hx hb d_Ne_spread_10 rfl (lv_at hl 0 rfl) ?_
    obtain ⟨a102, ea102, h⟩ := h
    refine pq_geta (pc := 11) (f := 246) hx hb hT hK hP L47_6 hk101 rfl ea102 d_Ne_spread_11 ?_
    refine lv_iload_n (pc := 14) hx hb d_Ne_spread_14 rfl (lv_at hl 2 rfl) ?_
    obtain ⟨hk103, h⟩ := h
    obtain ⟨hi104, h⟩ := h
    obtain ⟨a105, ea105, h⟩ := h
    refine pq_aalda (pc := 15) hx hb hK hP hk103 hi104 ea105 d_Ne_spread_15 ?_
    refine lv_astore_n (pc := 16) (lv' := [(3, .ref a105), (0, .ref a0), (1, .ref a1), (2, .int x2)]) hx hb d_Ne_spread_16 rfl hl (by decide) rfl (fun ls hl => ?_)
    refine lv_iconst (pc := 17) (v := 0) hx hb d_Ne_spread_17 (by decide) ?_
    refine lv_istore (pc := 18) (lv' := [(4, .int (0 : Int32)), (3, .ref a105), (0, .ref a0), (1, .ref a1), (2, .int x2)]) hx hb d_Ne_spread_18 hl (by decide) rfl (fun ls hl => ?_)
    obtain ⟨n, h⟩ := h
    exact wm_Ne_spread_20 hfl C hmg hr hin htab HK2 n _ a0 a1 x2 a105 (0 : Int32) _ _ _ _ _ h hP hS (lv_sub hl [2, 3, 4, 1, 0] rfl) (show cells + 0 ≤ 0 by omega) (show slots + 0 ≤ 0 by omega)
theorem wm_Ne_spread_2 {p : Program} {l : Launch} {e : Env} {s : State} {m : MethodId} {args : Array Value} {below : List Frame} {meth : Method} {c : Code} {D : pq_D} {P0 : Pic} {po : Option Value → Pic → Prop} {th : String → Pic → Prop} (hfl : l.flags = flags0) (C : Cx p e s m args meth c prog_8_method_3_code 6 "WaterWorks$Net" D P0) (hmg : e.platform.magicAccessors = ({} : Platform).magicAccessors) (hr : meth.sig.returnType = none) (hin : meth.name = "spread") (htab : c.exceptionTable.toList = tableOf []) : ∀ n : Nat, ∀ (P : Pic) (a0 : Nat) (a1 : Nat) (x2 : Int32) (H : Heap) (locs : List Loc) (cells slots : Nat) (ls : Array Slot), wl_Ne_spread_2 po th n P a0 a1 x2 → Pi D P H → Sg (cq_A P0 s) s.heap H P locs → lv_has ls 6 [(0, .ref a0), (1, .ref a1), (2, .int x2)] → cells + 0 ≤ 0 → slots + 0 ≤ 0 → W p l e rm_Ne_spread s m args below meth c H locs cells slots (mt_MQ below (cq_Q D P0 false po th) args s 0 0 (cq_free P0 false)) (F0 m 2 ls []) := by
  intro n
  induction n with
  | zero => intro P a0 a1 x2 H locs cells slots ls h; exact h.elim
  | succ n ih => exact wk_Ne_spread_2 hfl C hmg hr hin htab ih
set_option maxHeartbeats 4000000 in
set_option maxRecDepth 100000 in
theorem ct_Ne_spread {l : Launch} (hfl : l.flags = flags0) (D : pq_D) {po : Option Value → Pic → Prop} {th : String → Pic → Prop} {P : Pic} {a0 : Nat} {a1 : Nat} (h : wp_Ne_spread po th P a0 a1) : CT l D y_Ne_spread (.code y_Ne_spread prog_8_method_3_code 6 none) rm_Ne_spread false [.ref a0, .ref a1] P po th := by
  refine ct_of (hs := []) hfl (by decide +kernel) (Or.inl ⟨rfl, rfl⟩) (Nat.le_of_ble_eq_true rfl) ?_
  intro p e s m below meth c C hmg hr hin htab ls hl
  have hl : lv_has ls 6 [(0, .ref a0), (1, .ref a1)] := hl
  generalize hargs : ([.ref a0, .ref a1] : List Value).toArray = args at C ⊢
  obtain ⟨hx, hb, hml, hown, hlocks, htr, hT, hK, hSt, hN, hP0⟩ := id C
  have L47_6 : pq_fl s m args 47 6 6 := ⟨_, "WaterWorks$Net", "WaterWorks$Net", rfl, by decide, hown, Or.inl (hT _ k_426 _), (fun _ z => z)⟩
  have L58_6 : pq_fl s m args 58 6 7 := ⟨_, "WaterWorks$Net", "WaterWorks$Net", rfl, by decide, hown, Or.inl (hT _ k_427 _), (fun _ z => z)⟩
  have L61_7 : pq_fl s m args 61 7 0 := ⟨_, "WaterWorks$Net", "WaterWorks$Place", rfl, by decide, hown, Or.inl (hT _ k_514 _), (fun _ z => z)⟩
  have L61_8 : pq_fl s m args 61 8 0 := ⟨_, "WaterWorks$Net", "WaterWorks$Place", rfl, by decide, hown, Or.inl (hT _ k_514 _), (fun _ z => z)⟩
  have hP : Pi D P s.heap := hP0
  have hS : Sg (cq_A P s) s.heap s.heap P [] := Sg.start hP0
  unfold wp_Ne_spread at h
  refine lv_iconst (pc := 0) (v := 0) hx hb d_Ne_spread_0 (by decide) ?_
  refine lv_istore_n (pc := 1) (lv' := [(2, .int (0 : Int32)), (0, .ref a0), (1, .ref a1)]) hx hb d_Ne_spread_1 rfl hl (by decide) rfl (fun ls hl => ?_)
  obtain ⟨n, h⟩ := h
  exact wm_Ne_spread_2 hfl C hmg hr hin htab n _ a0 a1 (0 : Int32) _ _ _ _ _ h hP hS (lv_sub hl [1, 2, 0] rfl) (show 0 + 0 ≤ 0 by omega) (show 0 + 0 ≤ 0 by omega)
/-! WaterWorks$Net.from(LWaterWorks$Place;LWaterWorks$Gate;)V -/
abbrev y_Ne_from : MethodName := ⟨"WaterWorks$Net", "from", "(LWaterWorks$Place;LWaterWorks$Gate;)V"⟩
abbrev rm_Ne_from : Room := { frames := 5, cells := 0, slots := 0, locals := 225 }
theorem h_Ne_from : y_Ne_from.cls ≠ "java/lang/invoke/MethodHandle" ∧ y_Ne_from.cls ≠ "java/lang/invoke/VarHandle" := by decide +kernel
theorem n_Ne_from : (parseMethodDescriptor y_Ne_from.desc).map (fun d => d.parameters.length) = some 2 := by decide +kernel
theorem d_Ne_from_0 : decode prog_8_method_4_code 0 = .ok (.aload_n 0, 1) := by decide +kernel
theorem d_Ne_from_1 : decode prog_8_method_4_code 1 = .ok (.dup, 1) := by decide +kernel
theorem d_Ne_from_2 : decode prog_8_method_4_code 2 = .ok (.getfield 55, 3) := by decide +kernel
theorem d_Ne_from_5 : decode prog_8_method_4_code 5 = .ok (.iconst 1, 1) := by decide +kernel
theorem d_Ne_from_6 : decode prog_8_method_4_code 6 = .ok (.iadd, 1) := by decide +kernel
theorem d_Ne_from_7 : decode prog_8_method_4_code 7 = .ok (.putfield 55, 3) := by decide +kernel
theorem d_Ne_from_10 : decode prog_8_method_4_code 10 = .ok (.aload_n 0, 1) := by decide +kernel
theorem d_Ne_from_11 : decode prog_8_method_4_code 11 = .ok (.iconst 0, 1) := by decide +kernel
theorem d_Ne_from_12 : decode prog_8_method_4_code 12 = .ok (.putfield 58, 3) := by decide +kernel
theorem d_Ne_from_15 : decode prog_8_method_4_code 15 = .ok (.aload_n 0, 1) := by decide +kernel
theorem d_Ne_from_16 : decode prog_8_method_4_code 16 = .ok (.aload_n 1, 1) := by decide +kernel
theorem d_Ne_from_17 : decode prog_8_method_4_code 17 = .ok (.invokevirtual 84, 3) := by decide +kernel
theorem d_Ne_from_20 : decode prog_8_method_4_code 20 = .ok (.aload_n 0, 1) := by decide +kernel
theorem d_Ne_from_21 : decode prog_8_method_4_code 21 = .ok (.aload_n 2, 1) := by decide +kernel
theorem d_Ne_from_22 : decode prog_8_method_4_code 22 = .ok (.invokevirtual 88, 3) := by decide +kernel
theorem d_Ne_from_25 : decode prog_8_method_4_code 25 = .ok (.return_, 1) := by decide +kernel
def wp_Ne_from (po : Option Value → Pic → Prop) (th : String → Pic → Prop) (P : Pic) (a0 : Nat) (a1 : Nat) (a2 : Nat) : Prop := p_k P a0 = 7 ∧ wp_Ne_reach (cp_v fun P102 => p_k P102 a0 = 7 ∧ wp_Ne_spread (cp_v fun P104 => po none P104) th P102 a0 a2) th (s_i (s_i P 248 a0 ((p_i P 248 a0) + (1 : Int32))) 247 a0 (0 : Int32)) a0 a1
set_option maxHeartbeats 4000000 in
set_option maxRecDepth 100000 in
theorem ct_Ne_from {l : Launch} (hfl : l.flags = flags0) (D : pq_D) {po : Option Value → Pic → Prop} {th : String → Pic → Prop} {P : Pic} {a0 : Nat} {a1 : Nat} {a2 : Nat} (h : wp_Ne_from po th P a0 a1 a2) : CT l D y_Ne_from (.code y_Ne_from prog_8_method_4_code 3 none) rm_Ne_from false [.ref a0, .ref a1, .ref a2] P po th := by
  refine ct_of (hs := []) hfl (by decide +kernel) (Or.inl ⟨rfl, rfl⟩) (Nat.le_of_ble_eq_true rfl) ?_
  intro p e s m below meth c C hmg hr hin htab ls hl
  have hl : lv_has ls 3 [(0, .ref a0), (1, .ref a1), (2, .ref a2)] := hl
  generalize hargs : ([.ref a0, .ref a1, .ref a2] : List Value).toArray = args at C ⊢
  obtain ⟨hx, hb, hml, hown, hlocks, htr, hT, hK, hSt, hN, hP0⟩ := id C
  have L55_6 : pq_fl s m args 55 6 8 := ⟨_, "WaterWorks$Net", "WaterWorks$Net", rfl, by decide, hown, Or.inl (hT _ k_428 _), (fun _ z => z)⟩
  have L58_6 : pq_fl s m args 58 6 7 := ⟨_, "WaterWorks$Net", "WaterWorks$Net", rfl, by decide, hown, Or.inl (hT _ k_427 _), (fun _ z => z)⟩
  have hP : Pi D P s.heap := hP0
  have hS : Sg (cq_A P s) s.heap s.heap P [] := Sg.start hP0
  unfold wp_Ne_from at h
  refine lv_aload_n (pc := 0) hx hb d_Ne_from_0 rfl (lv_at hl 0 rfl) ?_
  refine lv_dup (pc := 1) hx hb d_Ne_from_1 rfl ?_
  obtain ⟨hk101, h⟩ := h
  refine pq_geti (pc := 2) (f := 248) hx hb hT hK hP L55_6 hk101 rfl d_Ne_from_2 ?_
  refine lv_iconst (pc := 5) (v := 1) hx hb d_Ne_from_5 (by decide) ?_
  refine lv_iadd (pc := 6) hx hb d_Ne_from_6 ?_
  refine pq_puti (pc := 7) (f := 248) hx hb hT hK hP hS L55_6 hk101 rfl rfl rfl rfl d_Ne_from_7 (fun H locs hP hS => ?_)
  have hk101 : p_k (s_i P 248 a0 ((p_i P 248 a0) + (1 : Int32))) a0 = 7 := by rw [pk_i]; exact hk101
  refine lv_aload_n (pc := 10) hx hb d_Ne_from_10 rfl (lv_at hl 0 rfl) ?_
  refine lv_iconst (pc := 11) (v := 0) hx hb d_Ne_from_11 (by decide) ?_
  refine pq_puti (pc := 12) (f := 247) hx hb hT hK hP hS L58_6 hk101 rfl rfl rfl rfl d_Ne_from_12 (fun H locs hP hS => ?_)
  have hk101 : p_k (s_i (s_i P 248 a0 ((p_i P 248 a0) + (1 : Int32))) 247 a0 (0 : Int32)) a0 = 7 := by rw [pk_i]; exact hk101
  refine lv_aload_n (pc := 15) hx hb d_Ne_from_15 rfl (lv_at hl 0 rfl) ?_
  refine lv_aload_n (pc := 16) hx hb d_Ne_from_16 rfl (lv_at hl 1 rfl) ?_
  refine cc_v (pc := 17) C (rest := []) (mt_invV (As := [.ref a1]) hx hb hown (hT _ k_768 _) (hT _ k_770 _) (hT _ ks_7 _) (mt_Cd.code (hT _ k_771 #[])) h_Ne_reach (pq_recv hK hP hk101 rfl) n_Ne_reach rfl d_Ne_from_17) (ct_Ne_reach hfl D h) k_771 k_2 ⟨Nat.le_of_ble_eq_true rfl, Nat.le_of_ble_eq_true rfl⟩ ⟨(show 0 + 0 ≤ 0 by omega), (show 0 + 0 ≤ 0 by omega)⟩ hl.1 d_Ne_from_17 (Nat.le_of_ble_eq_true rfl) hP hS (fun P102 H locs h hP hS => ?_) (fun xx X P102 H locs h hX hex hP hS => ?_)
  · refine lv_aload_n (pc := 20) hx hb d_Ne_from_20 rfl (lv_at hl 0 rfl) ?_
    refine lv_aload_n (pc := 21) hx hb d_Ne_from_21 rfl (lv_at hl 2 rfl) ?_
    obtain ⟨hk103, h⟩ := h
    refine cc_v (pc := 22) C (rest := []) (mt_invV (As := [.ref a2]) hx hb hown (hT _ k_772 _) (hT _ k_774 _) (hT _ ks_8 _) (mt_Cd.code (hT _ k_775 #[])) h_Ne_spread (pq_recv hK hP hk103 rfl) n_Ne_spread rfl d_Ne_from_22) (ct_Ne_spread hfl D h) k_775 k_2 ⟨Nat.le_of_ble_eq_true rfl, Nat.le_of_ble_eq_true rfl⟩ ⟨(show 0 + 0 + 0 ≤ 0 by omega), (show 0 + 0 + 0 ≤ 0 by omega)⟩ hl.1 d_Ne_from_22 (Nat.le_of_ble_eq_true rfl) hP hS (fun P104 H locs h hP hS => ?_) (fun xx X P104 H locs h hX hex hP hS => ?_)
    · exact we_v (pc := 25) hx hb hlocks hr hP hS (show 0 + 0 + 0 + 0 ≤ 0 by omega) (show 0 + 0 + 0 + 0 ≤ 0 by omega) h d_Ne_from_25
    · exact cq_out hlocks (pq_nil htab rfl) (show 0 + 0 + 0 + 0 ≤ 0 by omega) (show 0 + 0 + 0 + 0 ≤ 0 by omega) hX hex hP hS h
  · exact cq_out hlocks (pq_nil htab rfl) (show 0 + 0 + 0 ≤ 0 by omega) (show 0 + 0 + 0 ≤ 0 by omega) hX hex hP hS h
/-! WaterWorks$Net.fromSources(LWaterWorks$Gate;)V -/
abbrev y_Ne_fromSources : MethodName := ⟨"WaterWorks$Net", "fromSources", "(LWaterWorks$Gate;)V"⟩
abbrev rm_Ne_fromSources : Room := { frames := 5, cells := 0, slots := 0, locals := 225 }
theorem h_Ne_fromSources : y_Ne_fromSources.cls ≠ "java/lang/invoke/MethodHandle" ∧ y_Ne_fromSources.cls ≠ "java/lang/invoke/VarHandle" := by decide +kernel
theorem n_Ne_fromSources : (parseMethodDescriptor y_Ne_fromSources.desc).map (fun d => d.parameters.length) = some 1 := by decide +kernel
theorem d_Ne_fromSources_0 : decode prog_8_method_5_code 0 = .ok (.aload_n 0, 1) := by decide +kernel
theorem d_Ne_fromSources_1 : decode prog_8_method_5_code 1 = .ok (.dup, 1) := by decide +kernel
theorem d_Ne_fromSources_2 : decode prog_8_method_5_code 2 = .ok (.getfield 55, 3) := by decide +kernel
theorem d_Ne_fromSources_5 : decode prog_8_method_5_code 5 = .ok (.iconst 1, 1) := by decide +kernel
theorem d_Ne_fromSources_6 : decode prog_8_method_5_code 6 = .ok (.iadd, 1) := by decide +kernel
theorem d_Ne_fromSources_7 : decode prog_8_method_5_code 7 = .ok (.putfield 55, 3) := by decide +kernel
theorem d_Ne_fromSources_10 : decode prog_8_method_5_code 10 = .ok (.aload_n 0, 1) := by decide +kernel
theorem d_Ne_fromSources_11 : decode prog_8_method_5_code 11 = .ok (.iconst 0, 1) := by decide +kernel
theorem d_Ne_fromSources_12 : decode prog_8_method_5_code 12 = .ok (.putfield 58, 3) := by decide +kernel
theorem d_Ne_fromSources_15 : decode prog_8_method_5_code 15 = .ok (.iconst 0, 1) := by decide +kernel
theorem d_Ne_fromSources_16 : decode prog_8_method_5_code 16 = .ok (.istore_n 2, 1) := by decide +kernel
theorem d_Ne_fromSources_17 : decode prog_8_method_5_code 17 = .ok (.iload_n 2, 1) := by decide +kernel
theorem d_Ne_fromSources_18 : decode prog_8_method_5_code 18 = .ok (.aload_n 0, 1) := by decide +kernel
theorem d_Ne_fromSources_19 : decode prog_8_method_5_code 19 = .ok (.getfield 14, 3) := by decide +kernel
theorem d_Ne_fromSources_22 : decode prog_8_method_5_code 22 = .ok (.invokevirtual 64, 3) := by decide +kernel
theorem d_Ne_fromSources_25 : decode prog_8_method_5_code 25 = .ok (.if_icmp .ge 41, 3) := by decide +kernel
theorem d_Ne_fromSources_28 : decode prog_8_method_5_code 28 = .ok (.aload_n 0, 1) := by decide +kernel
theorem d_Ne_fromSources_29 : decode prog_8_method_5_code 29 = .ok (.getfield 14, 3) := by decide +kernel
theorem d_Ne_fromSources_32 : decode prog_8_method_5_code 32 = .ok (.iload_n 2, 1) := by decide +kernel
theorem d_Ne_fromSources_33 : decode prog_8_method_5_code 33 = .ok (.invokevirtual 68, 3) := by decide +kernel
theorem d_Ne_fromSources_36 : decode prog_8_method_5_code 36 = .ok (.checkcast 92, 3) := by decide +kernel
theorem d_Ne_fromSources_39 : decode prog_8_method_5_code 39 = .ok (.getfield 94, 3) := by decide +kernel
theorem d_Ne_fromSources_42 : decode prog_8_method_5_code 42 = .ok (.ifCond .eq 18, 3) := by decide +kernel
theorem d_Ne_fromSources_45 : decode prog_8_method_5_code 45 = .ok (.aload_n 0, 1) := by decide +kernel
theorem d_Ne_fromSources_46 : decode prog_8_method_5_code 46 = .ok (.aload_n 0, 1) := by decide +kernel
theorem d_Ne_fromSources_47 : decode prog_8_method_5_code 47 = .ok (.getfield 14, 3) := by decide +kernel
theorem d_Ne_fromSources_50 : decode prog_8_method_5_code 50 = .ok (.iload_n 2, 1) := by decide +kernel
theorem d_Ne_fromSources_51 : decode prog_8_method_5_code 51 = .ok (.invokevirtual 68, 3) := by decide +kernel
theorem d_Ne_fromSources_54 : decode prog_8_method_5_code 54 = .ok (.checkcast 45, 3) := by decide +kernel
theorem d_Ne_fromSources_57 : decode prog_8_method_5_code 57 = .ok (.invokevirtual 84, 3) := by decide +kernel
theorem d_Ne_fromSources_60 : decode prog_8_method_5_code 60 = .ok (.iinc 2 1, 3) := by decide +kernel
theorem d_Ne_fromSources_63 : decode prog_8_method_5_code 63 = .ok (.goto (-46), 3) := by decide +kernel
theorem d_Ne_fromSources_66 : decode prog_8_method_5_code 66 = .ok (.aload_n 0, 1) := by decide +kernel
theorem d_Ne_fromSources_67 : decode prog_8_method_5_code 67 = .ok (.aload_n 1, 1) := by decide +kernel
theorem d_Ne_fromSources_68 : decode prog_8_method_5_code 68 = .ok (.invokevirtual 88, 3) := by decide +kernel
theorem d_Ne_fromSources_71 : decode prog_8_method_5_code 71 = .ok (.return_, 1) := by decide +kernel
def wb_Ne_fromSources_60 (po : Option Value → Pic → Prop) (th : String → Pic → Prop) (K17 : Pic → Nat → Nat → Int32 → Prop) (P : Pic) (a0 : Nat) (a1 : Nat) (x2 : Int32) : Prop := ∀ (x118 : Int32), x118 = x2 + 1 → K17 P a0 a1 x118
def wb_Ne_fromSources_17 (po : Option Value → Pic → Prop) (th : String → Pic → Prop) (K17 : Pic → Nat → Nat → Int32 → Prop) (P : Pic) (a0 : Nat) (a1 : Nat) (x2 : Int32) : Prop := p_k P a0 = 7 ∧ ∃ a103, p_r P 240 a0 = some a103 ∧ p_k P a103 = 14 ∧ wp_Ar_size (cp_i fun x105 _ => ((x105 ≤ x2 → (wp_Ne_spread (cp_v fun P106 => po none P106) th P a0 a1)) ∧ (¬ x105 ≤ x2 → (∃ a107, p_r P 240 a0 = some a107 ∧ p_k P a107 = 14 ∧ wp_Ar_get (cp_a fun a109 _ => p_k P a109 = 8 ∧ (((p_i P 282 a109) = 0 → (wb_Ne_fromSources_60 po th K17 P a0 a1 x2)) ∧ (¬ (p_i P 282 a109) = 0 → (∃ a111, p_r P 240 a0 = some a111 ∧ p_k P a111 = 14 ∧ wp_Ar_get (cp_a fun a113 _ => (p_k P a113 = 8 ∨ p_k P a113 = 9) ∧ wp_Ne_reach (cp_v fun P115 => wb_Ne_fromSources_60 po th K17 P115 a0 a1 x2) th P a0 a113) th P a111 x2)))) th P a107 x2)))) th P a103
def wl_Ne_fromSources_17 (po : Option Value → Pic → Prop) (th : String → Pic → Prop) : Nat → Pic → Nat → Nat → Int32 → Prop
  | 0 => fun _ _ _ _ => False
  | n + 1 => wb_Ne_fromSources_17 po th (wl_Ne_fromSources_17 po th n)
def wp_Ne_fromSources (po : Option Value → Pic → Prop) (th : String → Pic → Prop) (P : Pic) (a0 : Nat) (a1 : Nat) : Prop := p_k P a0 = 7 ∧ ∃ n, wl_Ne_fromSources_17 po th n (s_i (s_i P 248 a0 ((p_i P 248 a0) + (1 : Int32))) 247 a0 (0 : Int32)) a0 a1 (0 : Int32)
set_option maxHeartbeats 4000000 in
set_option maxRecDepth 100000 in
theorem wk_Ne_fromSources_60 {p : Program} {l : Launch} {e : Env} {s : State} {m : MethodId} {args : Array Value} {below : List Frame} {meth : Method} {c : Code} {D : pq_D} {P0 : Pic} {po : Option Value → Pic → Prop} {th : String → Pic → Prop} {K17 : Pic → Nat → Nat → Int32 → Prop} (hfl : l.flags = flags0) (C : Cx p e s m args meth c prog_8_method_5_code 3 "WaterWorks$Net" D P0) (hmg : e.platform.magicAccessors = ({} : Platform).magicAccessors) (hr : meth.sig.returnType = none) (hin : meth.name = "fromSources") (htab : c.exceptionTable.toList = tableOf []) (HK17 : ∀ (P : Pic) (a0 : Nat) (a1 : Nat) (x2 : Int32) (H : Heap) (locs : List Loc) (cells slots : Nat) (ls : Array Slot), K17 P a0 a1 x2 → Pi D P H → Sg (cq_A P0 s) s.heap H P locs → lv_has ls 3 [(0, .ref a0), (1, .ref a1), (2, .int x2)] → cells + 0 ≤ 0 → slots + 0 ≤ 0 → W p l e rm_Ne_fromSources s m args below meth c H locs cells slots (mt_MQ below (cq_Q D P0 false po th) args s 0 0 (cq_free P0 false)) (F0 m 17 ls [])) : ∀ (P : Pic) (a0 : Nat) (a1 : Nat) (x2 : Int32) (H : Heap) (locs : List Loc) (cells slots : Nat) (ls : Array Slot), wb_Ne_fromSources_60 po th K17 P a0 a1 x2 → Pi D P H → Sg (cq_A P0 s) s.heap H P locs → lv_has ls 3 [(0, .ref a0), (1, .ref a1), (2, .int x2)] → cells + 0 ≤ 0 → slots + 0 ≤ 0 → W p l e rm_Ne_fromSources s m args below meth c H locs cells slots (mt_MQ below (cq_Q D P0 false po th) args s 0 0 (cq_free P0 false)) (F0 m 60 ls []) := by
  intro P a0 a1 x2 H locs cells slots ls h hP hS hl hcc hss
  obtain ⟨hx, hb, hml, hown, hlocks, htr, hT, hK, hSt, hN, hP0⟩ := id C
  have L14_6 : pq_fl s m args 14 6 0 := ⟨_, "WaterWorks$Net", "WaterWorks$Net", rfl, by decide, hown, Or.inl (hT _ k_415 _), (fun _ z => z)⟩
  have L55_6 : pq_fl s m args 55 6 8 := ⟨_, "WaterWorks$Net", "WaterWorks$Net", rfl, by decide, hown, Or.inl (hT _ k_428 _), (fun _ z => z)⟩
  have L58_6 : pq_fl s m args 58 6 7 := ⟨_, "WaterWorks$Net", "WaterWorks$Net", rfl, by decide, hown, Or.inl (hT _ k_427 _), (fun _ z => z)⟩
  have L94_7 : pq_fl s m args 94 7 2 := ⟨_, "WaterWorks$Net", "WaterWorks$Node", rfl, by decide, hown, Or.inr ⟨_, hT _ k_510 _⟩, (fun _ z => z)⟩
  unfold wb_Ne_fromSources_60 at h
  obtain ⟨x118, ex118⟩ : ∃ z : Int32, z = x2 + 1 := ⟨_, rfl⟩
  replace h := h x118 ex118
  refine lv_iinc (pc := 60) (v := x118) (lv' := [(2, .int x118), (0, .ref a0), (1, .ref a1)]) hx hb d_Ne_fromSources_60 hl (k := 2) rfl (by rw [ex118]; rfl) (by decide) rfl (fun ls hl => ?_)
  refine lv_goto (pc := 63) (tgt := 17) hx hb d_Ne_fromSources_63 (by decide) ?_
  exact HK17 _ a0 a1 x118 _ _ _ _ _ h hP hS (lv_sub hl [1, 2, 0] rfl) (show cells + 0 ≤ 0 by omega) (show slots + 0 ≤ 0 by omega)
set_option maxHeartbeats 4000000 in
set_option maxRecDepth 100000 in
theorem wk_Ne_fromSources_17 {p : Program} {l : Launch} {e : Env} {s : State} {m : MethodId} {args : Array Value} {below : List Frame} {meth : Method} {c : Code} {D : pq_D} {P0 : Pic} {po : Option Value → Pic → Prop} {th : String → Pic → Prop} {K17 : Pic → Nat → Nat → Int32 → Prop} (hfl : l.flags = flags0) (C : Cx p e s m args meth c prog_8_method_5_code 3 "WaterWorks$Net" D P0) (hmg : e.platform.magicAccessors = ({} : Platform).magicAccessors) (hr : meth.sig.returnType = none) (hin : meth.name = "fromSources") (htab : c.exceptionTable.toList = tableOf []) (HK17 : ∀ (P : Pic) (a0 : Nat) (a1 : Nat) (x2 : Int32) (H : Heap) (locs : List Loc) (cells slots : Nat) (ls : Array Slot), K17 P a0 a1 x2 → Pi D P H → Sg (cq_A P0 s) s.heap H P locs → lv_has ls 3 [(0, .ref a0), (1, .ref a1), (2, .int x2)] → cells + 0 ≤ 0 → slots + 0 ≤ 0 → W p l e rm_Ne_fromSources s m args below meth c H locs cells slots (mt_MQ below (cq_Q D P0 false po th) args s 0 0 (cq_free P0 false)) (F0 m 17 ls [])) : ∀ (P : Pic) (a0 : Nat) (a1 : Nat) (x2 : Int32) (H : Heap) (locs : List Loc) (cells slots : Nat) (ls : Array Slot), wb_Ne_fromSources_17 po th K17 P a0 a1 x2 → Pi D P H → Sg (cq_A P0 s) s.heap H P locs → lv_has ls 3 [(0, .ref a0), (1, .ref a1), (2, .int x2)] → cells + 0 ≤ 0 → slots + 0 ≤ 0 → W p l e rm_Ne_fromSources s m args below meth c H locs cells slots (mt_MQ below (cq_Q D P0 false po th) args s 0 0 (cq_free P0 false)) (F0 m 17 ls []) := by
  intro P a0 a1 x2 H locs cells slots ls h hP hS hl hcc hss
  obtain ⟨hx, hb, hml, hown, hlocks, htr, hT, hK, hSt, hN, hP0⟩ := id C
  have L14_6 : pq_fl s m args 14 6 0 := ⟨_, "WaterWorks$Net", "WaterWorks$Net", rfl, by decide, hown, Or.inl (hT _ k_415 _), (fun _ z => z)⟩
  have L55_6 : pq_fl s m args 55 6 8 := ⟨_, "WaterWorks$Net", "WaterWorks$Net", rfl, by decide, hown, Or.inl (hT _ k_428 _), (fun _ z => z)⟩
  have L58_6 : pq_fl s m args 58 6 7 := ⟨_, "WaterWorks$Net", "WaterWorks$Net", rfl, by decide, hown, Or.inl (hT _ k_427 _), (fun _ z => z)⟩
  have L94_7 : pq_fl s m args 94 7 2 := ⟨_, "WaterWorks$Net", "WaterWorks$Node", rfl, by decide, hown, Or.inr ⟨_, hT _ k_510 _⟩, (fun _ z => z)⟩
  unfold wb_Ne_fromSources_17 at h
  refine lv_iload_n (pc := 17) hx hb d_Ne_fromSources_17 rfl (lv_at hl 2 rfl) ?_
  refine lv_aload_n (pc := 18) hx hb d_Ne_fromSources_18 rfl (lv_at hl 0 rfl) ?_
  obtain ⟨hk102, h⟩ := h
  obtain ⟨a103, ea103, h⟩ := h
  refine pq_geta (pc := 19) (f := 240) hx hb hT hK hP L14_6 hk102 rfl ea103 d_Ne_fromSources_19 ?_
  obtain ⟨hk104, h⟩ := h
  refine cr_i (pc := 22) C (rest := [.int x2]) (mt_invV (As := []) hx hb hown (hT _ k_765 _) (hT _ k_472 _) (hT _ k_473 _) (mt_Cd.code (hT _ k_474 #[])) h_Ar_size (pq_recv hK hP hk104 rfl) n_Ar_size rfl d_Ne_fromSources_22) (ct_Ar_size hfl D h) k_474 k_5 ⟨Nat.le_of_ble_eq_true rfl, Nat.le_of_ble_eq_true rfl⟩ ⟨(show cells + 0 ≤ 0 by omega), (show slots + 0 ≤ 0 by omega)⟩ hl.1 d_Ne_fromSources_22 (Nat.le_of_ble_eq_true rfl) hP hS (fun x105 H locs h hP hS => ?_) (fun xx X H locs h hX hex hP hS => ?_)
  · refine lv_icmp_ge (pc := 25) (tgt := 66) hx hb d_Ne_fromSources_25 (by decide) (fun c117 => ?_) (fun c117 => ?_)
    · replace h := h.1 c117
      refine lv_aload_n (pc := 66) hx hb d_Ne_fromSources_66 rfl (lv_at hl 0 rfl) ?_
      refine lv_aload_n (pc := 67) hx hb d_Ne_fromSources_67 rfl (lv_at hl 1 rfl) ?_
      refine cc_v (pc := 68) C (rest := []) (mt_invV (As := [.ref a1]) hx hb hown (hT _ k_772 _) (hT _ k_774 _) (hT _ ks_8 _) (mt_Cd.code (hT _ k_775 #[])) h_Ne_spread (pq_recv hK hP hk102 rfl) n_Ne_spread rfl d_Ne_fromSources_68) (ct_Ne_spread hfl D h) k_775 k_2 ⟨Nat.le_of_ble_eq_true rfl, Nat.le_of_ble_eq_true rfl⟩ ⟨(show cells + 0 + 0 ≤ 0 by omega), (show slots + 0 + 0 ≤ 0 by omega)⟩ hl.1 d_Ne_fromSources_68 (Nat.le_of_ble_eq_true rfl) hP hS (fun P106 H locs h hP hS => ?_) (fun xx X P106 H locs h hX hex hP hS => ?_)
      · exact we_v (pc := 71) hx hb hlocks hr hP hS (show cells + 0 + 0 + 0 ≤ 0 by omega) (show slots + 0 + 0 + 0 ≤ 0 by omega) h d_Ne_fromSources_71
      · exact cq_out hlocks (pq_nil htab rfl) (show cells + 0 + 0 + 0 ≤ 0 by omega) (show slots + 0 + 0 + 0 ≤ 0 by omega) hX hex hP hS h
    · replace h := h.2 c117
      refine lv_aload_n (pc := 28) hx hb d_Ne_fromSources_28 rfl (lv_at hl 0 rfl) ?_
      obtain ⟨a107, ea107, h⟩ := h
      refine pq_geta (pc := 29) (f := 240) hx hb hT hK hP L14_6 hk102 rfl ea107 d_Ne_fromSources_29 ?_
      refine lv_iload_n (pc := 32) hx hb d_Ne_fromSources_32 rfl (lv_at hl 2 rfl) ?_
      obtain ⟨hk108, h⟩ := h
      refine cr_a (pc := 33) C (rest := []) (mt_invV (As := [.int x2]) hx hb hown (hT _ k_766 _) (hT _ k_607 _) (hT _ k_608 _) (mt_Cd.code (hT _ k_609 #[])) h_Ar_get (pq_recv hK hP hk108 rfl) n_Ar_get rfl d_Ne_fromSources_33) (ct_Ar_get hfl D h) k_609 k_5 ⟨Nat.le_of_ble_eq_true rfl, Nat.le_of_ble_eq_true rfl⟩ ⟨(show cells + 0 + 0 ≤ 0 by omega), (show slots + 0 + 0 ≤ 0 by omega)⟩ hl.1 d_Ne_fromSources_33 (Nat.le_of_ble_eq_true rfl) hP hS (fun a109 H locs h hP hS => ?_) (fun xx X H locs h hX hex hP hS => ?_)
      · obtain ⟨hk110, h⟩ := h
        refine pq_cast (pc := 36) hx hb hT hK hP hown k_767 hk110 rfl k_1349 d_Ne_fromSources_36 ?_
        refine pq_geti (pc := 39) (f := 282) hx hb hT hK hP L94_7 hk110 rfl d_Ne_fromSources_39 ?_
        refine lv_if_eq (pc := 42) (tgt := 60) hx hb d_Ne_fromSources_42 (by decide) (fun c116 => ?_) (fun c116 => ?_)
        · replace h := h.1 c116
          exact wk_Ne_fromSources_60 hfl C hmg hr hin htab HK17 _ a0 a1 x2 _ _ _ _ _ h hP hS (lv_sub hl [0, 1, 2] rfl) (show cells + 0 + 0 + 0 ≤ 0 by omega) (show slots + 0 + 0 + 0 ≤ 0 by omega)
        · replace h := h.2 c116
          refine lv_aload_n (pc := 45) hx hb d_Ne_fromSources_45 rfl (lv_at hl 0 rfl) ?_
          refine lv_aload_n (pc := 46) hx hb d_Ne_fromSources_46 rfl (lv_at hl 0 rfl) ?_
          obtain ⟨a111, ea111, h⟩ := h
          refine pq_geta (pc := 47) (f := 240) hx hb hT hK hP L14_6 hk102 rfl ea111 d_Ne_fromSources_47 ?_
          refine lv_iload_n (pc := 50) hx hb d_Ne_fromSources_50 rfl (lv_at hl 2 rfl) ?_
          obtain ⟨hk112, h⟩ := h
          refine cr_a (pc := 51) C (rest := [.ref a0]) (mt_invV (As := [.int x2]) hx hb hown (hT _ k_766 _) (hT _ k_607 _) (hT _ k_608 _) (mt_Cd.code (hT _ k_609 #[])) h_Ar_get (pq_recv hK hP hk112 rfl) n_Ar_get rfl d_Ne_fromSources_51) (ct_Ar_get hfl D h) k_609 k_5 ⟨Nat.le_of_ble_eq_true rfl, Nat.le_of_ble_eq_true rfl⟩ ⟨(show cells + 0 + 0 + 0 ≤ 0 by omega), (show slots + 0 + 0 + 0 ≤ 0 by omega)⟩ hl.1 d_Ne_fromSources_51 (Nat.le_of_ble_eq_true rfl) hP hS (fun a113 H locs h hP hS => ?_) (fun xx X H locs h hX hex hP hS => ?_)
          · obtain ⟨hk114, h⟩ := h
            refine pq_castP (pc := 54) hx hb hT hK hP hown k_413 hk114 d_Ne_fromSources_54 ?_
            refine cc_v (pc := 57) C (rest := []) (mt_invV (As := [.ref a113]) hx hb hown (hT _ k_768 _) (hT _ k_770 _) (hT _ ks_7 _) (mt_Cd.code (hT _ k_771 #[])) h_Ne_reach (pq_recv hK hP hk102 rfl) n_Ne_reach rfl d_Ne_fromSources_57) (ct_Ne_reach hfl D h) k_771 k_2 ⟨Nat.le_of_ble_eq_true rfl, Nat.le_of_ble_eq_true rfl⟩ ⟨(show cells + 0 + 0 + 0 + 0 ≤ 0 by omega), (show slots + 0 + 0 + 0 + 0 ≤ 0 by omega)⟩ hl.1 d_Ne_fromSources_57 (Nat.le_of_ble_eq_true rfl) hP hS (fun P115 H locs h hP hS => ?_) (fun xx X P115 H locs h hX hex hP hS => ?_)
            · exact wk_Ne_fromSources_60 hfl C hmg hr hin htab HK17 _ a0 a1 x2 _ _ _ _ _ h hP hS (lv_sub hl [0, 1, 2] rfl) (show cells + 0 + 0 + 0 + 0 + 0 ≤ 0 by omega) (show slots + 0 + 0 + 0 + 0 + 0 ≤ 0 by omega)
            · exact cq_out hlocks (pq_nil htab rfl) (show cells + 0 + 0 + 0 + 0 + 0 ≤ 0 by omega) (show slots + 0 + 0 + 0 + 0 + 0 ≤ 0 by omega) hX hex hP hS h
          · exact cq_out hlocks (pq_nil htab rfl) (show cells + 0 + 0 + 0 + 0 ≤ 0 by omega) (show slots + 0 + 0 + 0 + 0 ≤ 0 by omega) hX hex hP hS h
      · exact cq_out hlocks (pq_nil htab rfl) (show cells + 0 + 0 + 0 ≤ 0 by omega) (show slots + 0 + 0 + 0 ≤ 0 by omega) hX hex hP hS h
  · exact cq_out hlocks (pq_nil htab rfl) (show cells + 0 + 0 ≤ 0 by omega) (show slots + 0 + 0 ≤ 0 by omega) hX hex hP hS h
theorem wm_Ne_fromSources_17 {p : Program} {l : Launch} {e : Env} {s : State} {m : MethodId} {args : Array Value} {below : List Frame} {meth : Method} {c : Code} {D : pq_D} {P0 : Pic} {po : Option Value → Pic → Prop} {th : String → Pic → Prop} (hfl : l.flags = flags0) (C : Cx p e s m args meth c prog_8_method_5_code 3 "WaterWorks$Net" D P0) (hmg : e.platform.magicAccessors = ({} : Platform).magicAccessors) (hr : meth.sig.returnType = none) (hin : meth.name = "fromSources") (htab : c.exceptionTable.toList = tableOf []) : ∀ n : Nat, ∀ (P : Pic) (a0 : Nat) (a1 : Nat) (x2 : Int32) (H : Heap) (locs : List Loc) (cells slots : Nat) (ls : Array Slot), wl_Ne_fromSources_17 po th n P a0 a1 x2 → Pi D P H → Sg (cq_A P0 s) s.heap H P locs → lv_has ls 3 [(0, .ref a0), (1, .ref a1), (2, .int x2)] → cells + 0 ≤ 0 → slots + 0 ≤ 0 → W p l e rm_Ne_fromSources s m args below meth c H locs cells slots (mt_MQ below (cq_Q D P0 false po th) args s 0 0 (cq_free P0 false)) (F0 m 17 ls []) := by
  intro n
  induction n with
  | zero => intro P a0 a1 x2 H locs cells slots ls h; exact h.elim
  | succ n ih => exact wk_Ne_fromSources_17 hfl C hmg hr hin htab ih
set_option maxHeartbeats 4000000 in
set_option maxRecDepth 100000 in
theorem ct_Ne_fromSources {l : Launch} (hfl : l.flags = flags0) (D : pq_D) {po : Option Value → Pic → Prop} {th : String → Pic → Prop} {P : Pic} {a0 : Nat} {a1 : Nat} (h : wp_Ne_fromSources po th P a0 a1) : CT l D y_Ne_fromSources (.code y_Ne_fromSources prog_8_method_5_code 3 none) rm_Ne_fromSources false [.ref a0, .ref a1] P po th := by
  refine ct_of (hs := []) hfl (by decide +kernel) (Or.inl ⟨rfl, rfl⟩) (Nat.le_of_ble_eq_true rfl) ?_
  intro p e s m below meth c C hmg hr hin htab ls hl
  have hl : lv_has ls 3 [(0, .ref a0), (1, .ref a1)] := hl
  generalize hargs : ([.ref a0, .ref a1] : List Value).toArray = args at C ⊢
  obtain ⟨hx, hb, hml, hown, hlocks, htr, hT, hK, hSt, hN, hP0⟩ := id C
  have L14_6 : pq_fl s m args 14 6 0 := ⟨_, "WaterWorks$Net", "WaterWorks$Net", rfl, by decide, hown, Or.inl (hT _ k_415 _), (fun _ z => z)⟩
  have L55_6 : pq_fl s m args 55 6 8 := ⟨_, "WaterWorks$Net", "WaterWorks$Net", rfl, by decide, hown, Or.inl (hT _ k_428 _), (fun _ z => z)⟩
  have L58_6 : pq_fl s m args 58 6 7 := ⟨_, "WaterWorks$Net", "WaterWorks$Net", rfl, by decide, hown, Or.inl (hT _ k_427 _), (fun _ z => z)⟩
  have L94_7 : pq_fl s m args 94 7 2 := ⟨_, "WaterWorks$Net", "WaterWorks$Node", rfl, by decide, hown, Or.inr ⟨_, hT _ k_510 _⟩, (fun _ z => z)⟩
  have hP : Pi D P s.heap := hP0
  have hS : Sg (cq_A P s) s.heap s.heap P [] := Sg.start hP0
  unfold wp_Ne_fromSources at h
  refine lv_aload_n (pc := 0) hx hb d_Ne_fromSources_0 rfl (lv_at hl 0 rfl) ?_
  refine lv_dup (pc := 1) hx hb d_Ne_fromSources_1 rfl ?_
  obtain ⟨hk101, h⟩ := h
  refine pq_geti (pc := 2) (f := 248) hx hb hT hK hP L55_6 hk101 rfl d_Ne_fromSources_2 ?_
  refine lv_iconst (pc := 5) (v := 1) hx hb d_Ne_fromSources_5 (by decide) ?_
  refine lv_iadd (pc := 6) hx hb d_Ne_fromSources_6 ?_
  refine pq_puti (pc := 7) (f := 248) hx hb hT hK hP hS L55_6 hk101 rfl rfl rfl rfl d_Ne_fromSources_7 (fun H locs hP hS => ?_)
  have hk101 : p_k (s_i P 248 a0 ((p_i P 248 a0) + (1 : Int32))) a0 = 7 := by rw [pk_i]; exact hk101
  refine lv_aload_n (pc := 10) hx hb d_Ne_fromSources_10 rfl (lv_at hl 0 rfl) ?_
  refine lv_iconst (pc := 11) (v := 0) hx hb d_Ne_fromSources_11 (by decide) ?_
  refine pq_puti (pc := 12) (f := 247) hx hb hT hK hP hS L58_6 hk101 rfl rfl rfl rfl d_Ne_fromSources_12 (fun H locs hP hS => ?_)
  have hk101 : p_k (s_i (s_i P 248 a0 ((p_i P 248 a0) + (1 : Int32))) 247 a0 (0 : Int32)) a0 = 7 := by rw [pk_i]; exact hk101
  refine lv_iconst (pc := 15) (v := 0) hx hb d_Ne_fromSources_15 (by decide) ?_
  refine lv_istore_n (pc := 16) (lv' := [(2, .int (0 : Int32)), (0, .ref a0), (1, .ref a1)]) hx hb d_Ne_fromSources_16 rfl hl (by decide) rfl (fun ls hl => ?_)
  obtain ⟨n, h⟩ := h
  exact wm_Ne_fromSources_17 hfl C hmg hr hin htab n _ a0 a1 (0 : Int32) _ _ _ _ _ h hP hS (lv_sub hl [1, 2, 0] rfl) (show 0 + 0 ≤ 0 by omega) (show 0 + 0 ≤ 0 by omega)
/-! WaterWorks$Net.isReached(LWaterWorks$Place;)Z -/
abbrev y_Ne_isReached : MethodName := ⟨"WaterWorks$Net", "isReached", "(LWaterWorks$Place;)Z"⟩
abbrev rm_Ne_isReached : Room := { frames := 1, cells := 0, slots := 0, locals := 40 }
theorem h_Ne_isReached : y_Ne_isReached.cls ≠ "java/lang/invoke/MethodHandle" ∧ y_Ne_isReached.cls ≠ "java/lang/invoke/VarHandle" := by decide +kernel
theorem n_Ne_isReached : (parseMethodDescriptor y_Ne_isReached.desc).map (fun d => d.parameters.length) = some 1 := by decide +kernel
theorem d_Ne_isReached_0 : decode prog_8_method_6_code 0 = .ok (.aload_n 1, 1) := by decide +kernel
theorem d_Ne_isReached_1 : decode prog_8_method_6_code 1 = .ok (.getfield 51, 3) := by decide +kernel
theorem d_Ne_isReached_4 : decode prog_8_method_6_code 4 = .ok (.aload_n 0, 1) := by decide +kernel
theorem d_Ne_isReached_5 : decode prog_8_method_6_code 5 = .ok (.getfield 55, 3) := by decide +kernel
theorem d_Ne_isReached_8 : decode prog_8_method_6_code 8 = .ok (.if_icmp .ne 7, 3) := by decide +kernel
theorem d_Ne_isReached_11 : decode prog_8_method_6_code 11 = .ok (.iconst 1, 1) := by decide +kernel
theorem d_Ne_isReached_12 : decode prog_8_method_6_code 12 = .ok (.goto 4, 3) := by decide +kernel
theorem d_Ne_isReached_15 : decode prog_8_method_6_code 15 = .ok (.iconst 0, 1) := by decide +kernel
theorem d_Ne_isReached_16 : decode prog_8_method_6_code 16 = .ok (.ireturn, 1) := by decide +kernel
def wp_Ne_isReached (po : Option Value → Pic → Prop) (th : String → Pic → Prop) (P : Pic) (a0 : Nat) (a1 : Nat) : Prop := (p_k P a1 = 8 ∨ p_k P a1 = 9) ∧ p_k P a0 = 7 ∧ ((¬ (p_i P 321 a1) = (p_i P 248 a0) → (po (some (.int (0 : Int32))) P)) ∧ ((p_i P 321 a1) = (p_i P 248 a0) → (po (some (.int (1 : Int32))) P)))
set_option maxHeartbeats 4000000 in
set_option maxRecDepth 100000 in
theorem ct_Ne_isReached {l : Launch} (hfl : l.flags = flags0) (D : pq_D) {po : Option Value → Pic → Prop} {th : String → Pic → Prop} {P : Pic} {a0 : Nat} {a1 : Nat} (h : wp_Ne_isReached po th P a0 a1) : CT l D y_Ne_isReached (.code y_Ne_isReached prog_8_method_6_code 2 (some .boolean)) rm_Ne_isReached true [.ref a0, .ref a1] P po th := by
  refine ct_of (hs := []) hfl (by decide +kernel) (Or.inl ⟨rfl, rfl⟩) (Nat.le_of_ble_eq_true rfl) ?_
  intro p e s m below meth c C hmg hr hin htab ls hl
  have hl : lv_has ls 2 [(0, .ref a0), (1, .ref a1)] := hl
  generalize hargs : ([.ref a0, .ref a1] : List Value).toArray = args at C ⊢
  obtain ⟨hx, hb, hml, hown, hlocks, htr, hT, hK, hSt, hN, hP0⟩ := id C
  have L51_7 : pq_fl s m args 51 7 1 := ⟨_, "WaterWorks$Net", "WaterWorks$Place", rfl, by decide, hown, Or.inr ⟨_, hT _ k_515 _⟩, (fun _ z => z)⟩
  have L51_8 : pq_fl s m args 51 8 1 := ⟨_, "WaterWorks$Net", "WaterWorks$Place", rfl, by decide, hown, Or.inr ⟨_, hT _ k_515 _⟩, (fun _ z => z)⟩
  have L55_6 : pq_fl s m args 55 6 8 := ⟨_, "WaterWorks$Net", "WaterWorks$Net", rfl, by decide, hown, Or.inl (hT _ k_428 _), (fun _ z => z)⟩
  have hO : So s.heap s.heap := So.rf
  have hP : Pi D P s.heap := hP0
  unfold wp_Ne_isReached at h
  refine lv_aload_n (pc := 0) hx hb d_Ne_isReached_0 rfl (lv_at hl 1 rfl) ?_
  obtain ⟨hk101, h⟩ := h
  refine pq_geti2 (pc := 1) hx hb hT hK hP L51_7 L51_8 hk101 d_Ne_isReached_1 ?_
  refine lv_aload_n (pc := 4) hx hb d_Ne_isReached_4 rfl (lv_at hl 0 rfl) ?_
  obtain ⟨hk102, h⟩ := h
  refine pq_geti (pc := 5) (f := 248) hx hb hT hK hP L55_6 hk102 rfl d_Ne_isReached_5 ?_
  refine lv_icmp_ne (pc := 8) (tgt := 15) hx hb d_Ne_isReached_8 (by decide) (fun c103 => ?_) (fun c103 => ?_)
  · replace h := h.1 c103
    refine lv_iconst (pc := 15) (v := 0) hx hb d_Ne_isReached_15 (by decide) ?_
    exact wo_z (pc := 16) hx hb hlocks hr hP0 hO (show 0 + 0 ≤ 0 by omega) (show 0 + 0 ≤ 0 by omega) (by decide) h d_Ne_isReached_16
  · replace h := h.2 c103
    refine lv_iconst (pc := 11) (v := 1) hx hb d_Ne_isReached_11 (by decide) ?_
    refine lv_goto (pc := 12) (tgt := 16) hx hb d_Ne_isReached_12 (by decide) ?_
    exact wo_z (pc := 16) hx hb hlocks hr hP0 hO (show 0 + 0 ≤ 0 by omega) (show 0 + 0 ≤ 0 by omega) (by decide) h d_Ne_isReached_16
/-! WaterWorks$Net.forgetPlan()V -/
abbrev y_Ne_forgetPlan : MethodName := ⟨"WaterWorks$Net", "forgetPlan", "()V"⟩
abbrev rm_Ne_forgetPlan : Room := { frames := 4, cells := 0, slots := 0, locals := 104 }
theorem h_Ne_forgetPlan : y_Ne_forgetPlan.cls ≠ "java/lang/invoke/MethodHandle" ∧ y_Ne_forgetPlan.cls ≠ "java/lang/invoke/VarHandle" := by decide +kernel
theorem n_Ne_forgetPlan : (parseMethodDescriptor y_Ne_forgetPlan.desc).map (fun d => d.parameters.length) = some 0 := by decide +kernel
theorem d_Ne_forgetPlan_0 : decode prog_8_method_7_code 0 = .ok (.iconst 0, 1) := by decide +kernel
theorem d_Ne_forgetPlan_1 : decode prog_8_method_7_code 1 = .ok (.istore_n 1, 1) := by decide +kernel
theorem d_Ne_forgetPlan_2 : decode prog_8_method_7_code 2 = .ok (.iload_n 1, 1) := by decide +kernel
theorem d_Ne_forgetPlan_3 : decode prog_8_method_7_code 3 = .ok (.aload_n 0, 1) := by decide +kernel
theorem d_Ne_forgetPlan_4 : decode prog_8_method_7_code 4 = .ok (.getfield 23, 3) := by decide +kernel
theorem d_Ne_forgetPlan_7 : decode prog_8_method_7_code 7 = .ok (.invokevirtual 64, 3) := by decide +kernel
theorem d_Ne_forgetPlan_10 : decode prog_8_method_7_code 10 = .ok (.if_icmp .ge 24, 3) := by decide +kernel
theorem d_Ne_forgetPlan_13 : decode prog_8_method_7_code 13 = .ok (.aload_n 0, 1) := by decide +kernel
theorem d_Ne_forgetPlan_14 : decode prog_8_method_7_code 14 = .ok (.getfield 23, 3) := by decide +kernel
theorem d_Ne_forgetPlan_17 : decode prog_8_method_7_code 17 = .ok (.iload_n 1, 1) := by decide +kernel
theorem d_Ne_forgetPlan_18 : decode prog_8_method_7_code 18 = .ok (.invokevirtual 68, 3) := by decide +kernel
theorem d_Ne_forgetPlan_21 : decode prog_8_method_7_code 21 = .ok (.checkcast 72, 3) := by decide +kernel
theorem d_Ne_forgetPlan_24 : decode prog_8_method_7_code 24 = .ok (.iconst 0, 1) := by decide +kernel
theorem d_Ne_forgetPlan_25 : decode prog_8_method_7_code 25 = .ok (.putfield 98, 3) := by decide +kernel
theorem d_Ne_forgetPlan_28 : decode prog_8_method_7_code 28 = .ok (.iinc 1 1, 3) := by decide +kernel
theorem d_Ne_forgetPlan_31 : decode prog_8_method_7_code 31 = .ok (.goto (-29), 3) := by decide +kernel
theorem d_Ne_forgetPlan_34 : decode prog_8_method_7_code 34 = .ok (.return_, 1) := by decide +kernel
def wb_Ne_forgetPlan_2 (po : Option Value → Pic → Prop) (th : String → Pic → Prop) (K2 : Pic → Nat → Int32 → Prop) (P : Pic) (a0 : Nat) (x1 : Int32) : Prop := p_k P a0 = 7 ∧ ∃ a102, p_r P 242 a0 = some a102 ∧ p_k P a102 = 14 ∧ wp_Ar_size (cp_i fun x104 _ => ((x104 ≤ x1 → (po none P)) ∧ (¬ x104 ≤ x1 → (∃ a105, p_r P 242 a0 = some a105 ∧ p_k P a105 = 14 ∧ wp_Ar_get (cp_a fun a107 _ => p_k P a107 = 5 ∧ ∀ (x109 : Int32), x109 = x1 + 1 → K2 (s_i P 166 a107 (0 : Int32)) a0 x109) th P a105 x1)))) th P a102
def wl_Ne_forgetPlan_2 (po : Option Value → Pic → Prop) (th : String → Pic → Prop) : Nat → Pic → Nat → Int32 → Prop
  | 0 => fun _ _ _ => False
  | n + 1 => wb_Ne_forgetPlan_2 po th (wl_Ne_forgetPlan_2 po th n)
def wp_Ne_forgetPlan (po : Option Value → Pic → Prop) (th : String → Pic → Prop) (P : Pic) (a0 : Nat) : Prop := ∃ n, wl_Ne_forgetPlan_2 po th n P a0 (0 : Int32)
set_option maxHeartbeats 4000000 in
set_option maxRecDepth 100000 in
theorem wk_Ne_forgetPlan_2 {p : Program} {l : Launch} {e : Env} {s : State} {m : MethodId} {args : Array Value} {below : List Frame} {meth : Method} {c : Code} {D : pq_D} {P0 : Pic} {po : Option Value → Pic → Prop} {th : String → Pic → Prop} {K2 : Pic → Nat → Int32 → Prop} (hfl : l.flags = flags0) (C : Cx p e s m args meth c prog_8_method_7_code 2 "WaterWorks$Net" D P0) (hmg : e.platform.magicAccessors = ({} : Platform).magicAccessors) (hr : meth.sig.returnType = none) (hin : meth.name = "forgetPlan") (htab : c.exceptionTable.toList = tableOf []) (HK2 : ∀ (P : Pic) (a0 : Nat) (x1 : Int32) (H : Heap) (locs : List Loc) (cells slots : Nat) (ls : Array Slot), K2 P a0 x1 → Pi D P H → Sg (cq_A P0 s) s.heap H P locs → lv_has ls 2 [(0, .ref a0), (1, .int x1)] → cells + 0 ≤ 0 → slots + 0 ≤ 0 → W p l e rm_Ne_forgetPlan s m args below meth c H locs cells slots (mt_MQ below (cq_Q D P0 false po th) args s 0 0 (cq_free P0 false)) (F0 m 2 ls [])) : ∀ (P : Pic) (a0 : Nat) (x1 : Int32) (H : Heap) (locs : List Loc) (cells slots : Nat) (ls : Array Slot), wb_Ne_forgetPlan_2 po th K2 P a0 x1 → Pi D P H → Sg (cq_A P0 s) s.heap H P locs → lv_has ls 2 [(0, .ref a0), (1, .int x1)] → cells + 0 ≤ 0 → slots + 0 ≤ 0 → W p l e rm_Ne_forgetPlan s m args below meth c H locs cells slots (mt_MQ below (cq_Q D P0 false po th) args s 0 0 (cq_free P0 false)) (F0 m 2 ls []) := by
  intro P a0 x1 H locs cells slots ls h hP hS hl hcc hss
  obtain ⟨hx, hb, hml, hown, hlocks, htr, hT, hK, hSt, hN, hP0⟩ := id C
  have L23_6 : pq_fl s m args 23 6 2 := ⟨_, "WaterWorks$Net", "WaterWorks$Net", rfl, by decide, hown, Or.inl (hT _ k_419 _), (fun _ z => z)⟩
  have L98_4 : pq_fl s m args 98 4 6 := ⟨_, "WaterWorks$Net", "WaterWorks$End", rfl, by decide, hown, Or.inr ⟨_, hT _ k_657 _⟩, (fun _ z => z)⟩
  unfold wb_Ne_forgetPlan_2 at h
  refine lv_iload_n (pc := 2) hx hb d_Ne_forgetPlan_2 rfl (lv_at hl 1 rfl) ?_
  refine lv_aload_n (pc := 3) hx hb d_Ne_forgetPlan_3 rfl (lv_at hl 0 rfl) ?_
  obtain ⟨hk101, h⟩ := h
  obtain ⟨a102, ea102, h⟩ := h
  refine pq_geta (pc := 4) (f := 242) hx hb hT hK hP L23_6 hk101 rfl ea102 d_Ne_forgetPlan_4 ?_
  obtain ⟨hk103, h⟩ := h
  refine cr_i (pc := 7) C (rest := [.int x1]) (mt_invV (As := []) hx hb hown (hT _ k_765 _) (hT _ k_472 _) (hT _ k_473 _) (mt_Cd.code (hT _ k_474 #[])) h_Ar_size (pq_recv hK hP hk103 rfl) n_Ar_size rfl d_Ne_forgetPlan_7) (ct_Ar_size hfl D h) k_474 k_5 ⟨Nat.le_of_ble_eq_true rfl, Nat.le_of_ble_eq_true rfl⟩ ⟨(show cells + 0 ≤ 0 by omega), (show slots + 0 ≤ 0 by omega)⟩ hl.1 d_Ne_forgetPlan_7 (Nat.le_of_ble_eq_true rfl) hP hS (fun x104 H locs h hP hS => ?_) (fun xx X H locs h hX hex hP hS => ?_)
  · refine lv_icmp_ge (pc := 10) (tgt := 34) hx hb d_Ne_forgetPlan_10 (by decide) (fun c110 => ?_) (fun c110 => ?_)
    · replace h := h.1 c110
      exact we_v (pc := 34) hx hb hlocks hr hP hS (show cells + 0 + 0 ≤ 0 by omega) (show slots + 0 + 0 ≤ 0 by omega) h d_Ne_forgetPlan_34
    · replace h := h.2 c110
      refine lv_aload_n (pc := 13) hx hb d_Ne_forgetPlan_13 rfl (lv_at hl 0 rfl) ?_
      obtain ⟨a105, ea105, h⟩ := h
      refine pq_geta (pc := 14) (f := 242) hx hb hT hK hP L23_6 hk101 rfl ea105 d_Ne_forgetPlan_14 ?_
      refine lv_iload_n (pc := 17) hx hb d_Ne_forgetPlan_17 rfl (lv_at hl 1 rfl) ?_
      obtain ⟨hk106, h⟩ := h
      refine cr_a (pc := 18) C (rest := []) (mt_invV (As := [.int x1]) hx hb hown (hT _ k_766 _) (hT _ k_607 _) (hT _ k_608 _) (mt_Cd.code (hT _ k_609 #[])) h_Ar_get (pq_recv hK hP hk106 rfl) n_Ar_get rfl d_Ne_forgetPlan_18) (ct_Ar_get hfl D h) k_609 k_5 ⟨Nat.le_of_ble_eq_true rfl, Nat.le_of_ble_eq_true rfl⟩ ⟨(show cells + 0 + 0 ≤ 0 by omega), (show slots + 0 + 0 ≤ 0 by omega)⟩ hl.1 d_Ne_forgetPlan_18 (Nat.le_of_ble_eq_true rfl) hP hS (fun a107 H locs h hP hS => ?_) (fun xx X H locs h hX hex hP hS => ?_)
      · obtain ⟨hk108, h⟩ := h
        refine pq_cast (pc := 21) hx hb hT hK hP hown k_776 hk108 rfl k_1350 d_Ne_forgetPlan_21 ?_
        refine lv_iconst (pc := 24) (v := 0) hx hb d_Ne_forgetPlan_24 (by decide) ?_
        refine pq_puti (pc := 25) (f := 166) hx hb hT hK hP hS L98_4 hk108 rfl rfl rfl rfl d_Ne_forgetPlan_25 (fun H locs hP hS => ?_)
        have hk101 : p_k (s_i P 166 a107 (0 : Int32)) a0 = 7 := by rw [pk_i]; exact hk101
        have hk103 : p_k (s_i P 166 a107 (0 : Int32)) a102 = 14 := by rw [pk_i]; exact hk103
        have hk106 : p_k (s_i P 166 a107 (0 : Int32)) a105 = 14 := by rw [pk_i]; exact hk106
        have hk108 : p_k (s_i P 166 a107 (0 : Int32)) a107 = 5 := by rw [pk_i]; exact hk108
        obtain ⟨x109, ex109⟩ : ∃ z : Int32, z = x1 + 1 := ⟨_, rfl⟩
        replace h := h x109 ex109
        refine lv_iinc (pc := 28) (v := x109) (lv' := [(1, .int x109), (0, .ref a0)]) hx hb d_Ne_forgetPlan_28 hl (k := 1) rfl (by rw [ex109]; rfl) (by decide) rfl (fun ls hl => ?_)
        refine lv_goto (pc := 31) (tgt := 2) hx hb d_Ne_forgetPlan_31 (by decide) ?_
        exact HK2 _ a0 x109 _ _ _ _ _ h hP hS (lv_sub hl [1, 0] rfl) (show cells + 0 + 0 + 0 ≤ 0 by omega) (show slots + 0 + 0 + 0 ≤ 0 by omega)
      · exact cq_out hlocks (pq_nil htab rfl) (show cells + 0 + 0 + 0 ≤ 0 by omega) (show slots + 0 + 0 + 0 ≤ 0 by omega) hX hex hP hS h
  · exact cq_out hlocks (pq_nil htab rfl) (show cells + 0 + 0 ≤ 0 by omega) (show slots + 0 + 0 ≤ 0 by omega) hX hex hP hS h
theorem wm_Ne_forgetPlan_2 {p : Program} {l : Launch} {e : Env} {s : State} {m : MethodId} {args : Array Value} {below : List Frame} {meth : Method} {c : Code} {D : pq_D} {P0 : Pic} {po : Option Value → Pic → Prop} {th : String → Pic → Prop} (hfl : l.flags = flags0) (C : Cx p e s m args meth c prog_8_method_7_code 2 "WaterWorks$Net" D P0) (hmg : e.platform.magicAccessors = ({} : Platform).magicAccessors) (hr : meth.sig.returnType = none) (hin : meth.name = "forgetPlan") (htab : c.exceptionTable.toList = tableOf []) : ∀ n : Nat, ∀ (P : Pic) (a0 : Nat) (x1 : Int32) (H : Heap) (locs : List Loc) (cells slots : Nat) (ls : Array Slot), wl_Ne_forgetPlan_2 po th n P a0 x1 → Pi D P H → Sg (cq_A P0 s) s.heap H P locs → lv_has ls 2 [(0, .ref a0), (1, .int x1)] → cells + 0 ≤ 0 → slots + 0 ≤ 0 → W p l e rm_Ne_forgetPlan s m args below meth c H locs cells slots (mt_MQ below (cq_Q D P0 false po th) args s 0 0 (cq_free P0 false)) (F0 m 2 ls []) := by
  intro n
  induction n with
  | zero => intro P a0 x1 H locs cells slots ls h; exact h.elim
  | succ n ih => exact wk_Ne_forgetPlan_2 hfl C hmg hr hin htab ih
set_option maxHeartbeats 4000000 in
set_option maxRecDepth 100000 in
theorem ct_Ne_forgetPlan {l : Launch} (hfl : l.flags = flags0) (D : pq_D) {po : Option Value → Pic → Prop} {th : String → Pic → Prop} {P : Pic} {a0 : Nat} (h : wp_Ne_forgetPlan po th P a0) : CT l D y_Ne_forgetPlan (.code y_Ne_forgetPlan prog_8_method_7_code 2 none) rm_Ne_forgetPlan false [.ref a0] P po th := by
  refine ct_of (hs := []) hfl (by decide +kernel) (Or.inl ⟨rfl, rfl⟩) (Nat.le_of_ble_eq_true rfl) ?_
  intro p e s m below meth c C hmg hr hin htab ls hl
  have hl : lv_has ls 2 [(0, .ref a0)] := hl
  generalize hargs : ([.ref a0] : List Value).toArray = args at C ⊢
  obtain ⟨hx, hb, hml, hown, hlocks, htr, hT, hK, hSt, hN, hP0⟩ := id C
  have L23_6 : pq_fl s m args 23 6 2 := ⟨_, "WaterWorks$Net", "WaterWorks$Net", rfl, by decide, hown, Or.inl (hT _ k_419 _), (fun _ z => z)⟩
  have L98_4 : pq_fl s m args 98 4 6 := ⟨_, "WaterWorks$Net", "WaterWorks$End", rfl, by decide, hown, Or.inr ⟨_, hT _ k_657 _⟩, (fun _ z => z)⟩
  have hP : Pi D P s.heap := hP0
  have hS : Sg (cq_A P s) s.heap s.heap P [] := Sg.start hP0
  unfold wp_Ne_forgetPlan at h
  refine lv_iconst (pc := 0) (v := 0) hx hb d_Ne_forgetPlan_0 (by decide) ?_
  refine lv_istore_n (pc := 1) (lv' := [(1, .int (0 : Int32)), (0, .ref a0)]) hx hb d_Ne_forgetPlan_1 rfl hl (by decide) rfl (fun ls hl => ?_)
  obtain ⟨n, h⟩ := h
  exact wm_Ne_forgetPlan_2 hfl C hmg hr hin htab n _ a0 (0 : Int32) _ _ _ _ _ h hP hS (lv_sub hl [1, 0] rfl) (show 0 + 0 ≤ 0 by omega) (show 0 + 0 ≤ 0 by omega)
/-! WaterWorks$Net.plan(LWaterWorks$Place;)Z -/
abbrev y_Ne_plan : MethodName := ⟨"WaterWorks$Net", "plan", "(LWaterWorks$Place;)Z"⟩
abbrev rm_Ne_plan : Room := { frames := 6, cells := 0, slots := 0, locals := 247 }
theorem h_Ne_plan : y_Ne_plan.cls ≠ "java/lang/invoke/MethodHandle" ∧ y_Ne_plan.cls ≠ "java/lang/invoke/VarHandle" := by decide +kernel
theorem n_Ne_plan : (parseMethodDescriptor y_Ne_plan.desc).map (fun d => d.parameters.length) = some 1 := by decide +kernel
theorem d_Ne_plan_0 : decode prog_8_method_8_code 0 = .ok (.aload_n 0, 1) := by decide +kernel
theorem d_Ne_plan_1 : decode prog_8_method_8_code 1 = .ok (.invokevirtual 101, 3) := by decide +kernel
theorem d_Ne_plan_4 : decode prog_8_method_8_code 4 = .ok (.aload_n 0, 1) := by decide +kernel
theorem d_Ne_plan_5 : decode prog_8_method_8_code 5 = .ok (.aload_n 1, 1) := by decide +kernel
theorem d_Ne_plan_6 : decode prog_8_method_8_code 6 = .ok (.aload_n 0, 1) := by decide +kernel
theorem d_Ne_plan_7 : decode prog_8_method_8_code 7 = .ok (.getfield 42, 3) := by decide +kernel
theorem d_Ne_plan_10 : decode prog_8_method_8_code 10 = .ok (.invokevirtual 104, 3) := by decide +kernel
theorem d_Ne_plan_13 : decode prog_8_method_8_code 13 = .ok (.iconst 0, 1) := by decide +kernel
theorem d_Ne_plan_14 : decode prog_8_method_8_code 14 = .ok (.istore_n 2, 1) := by decide +kernel
theorem d_Ne_plan_15 : decode prog_8_method_8_code 15 = .ok (.iload_n 2, 1) := by decide +kernel
theorem d_Ne_plan_16 : decode prog_8_method_8_code 16 = .ok (.aload_n 0, 1) := by decide +kernel
theorem d_Ne_plan_17 : decode prog_8_method_8_code 17 = .ok (.getfield 14, 3) := by decide +kernel
theorem d_Ne_plan_20 : decode prog_8_method_8_code 20 = .ok (.invokevirtual 64, 3) := by decide +kernel
theorem d_Ne_plan_23 : decode prog_8_method_8_code 23 = .ok (.if_icmp .ge 46, 3) := by decide +kernel
theorem d_Ne_plan_26 : decode prog_8_method_8_code 26 = .ok (.aload_n 0, 1) := by decide +kernel
theorem d_Ne_plan_27 : decode prog_8_method_8_code 27 = .ok (.getfield 14, 3) := by decide +kernel
theorem d_Ne_plan_30 : decode prog_8_method_8_code 30 = .ok (.iload_n 2, 1) := by decide +kernel
theorem d_Ne_plan_31 : decode prog_8_method_8_code 31 = .ok (.invokevirtual 68, 3) := by decide +kernel
theorem d_Ne_plan_34 : decode prog_8_method_8_code 34 = .ok (.checkcast 92, 3) := by decide +kernel
theorem d_Ne_plan_37 : decode prog_8_method_8_code 37 = .ok (.getfield 94, 3) := by decide +kernel
theorem d_Ne_plan_40 : decode prog_8_method_8_code 40 = .ok (.ifCond .eq 23, 3) := by decide +kernel
theorem d_Ne_plan_43 : decode prog_8_method_8_code 43 = .ok (.aload_n 0, 1) := by decide +kernel
theorem d_Ne_plan_44 : decode prog_8_method_8_code 44 = .ok (.aload_n 0, 1) := by decide +kernel
theorem d_Ne_plan_45 : decode prog_8_method_8_code 45 = .ok (.getfield 14, 3) := by decide +kernel
theorem d_Ne_plan_48 : decode prog_8_method_8_code 48 = .ok (.iload_n 2, 1) := by decide +kernel
theorem d_Ne_plan_49 : decode prog_8_method_8_code 49 = .ok (.invokevirtual 68, 3) := by decide +kernel
theorem d_Ne_plan_52 : decode prog_8_method_8_code 52 = .ok (.checkcast 45, 3) := by decide +kernel
theorem d_Ne_plan_55 : decode prog_8_method_8_code 55 = .ok (.invokevirtual 108, 3) := by decide +kernel
theorem d_Ne_plan_58 : decode prog_8_method_8_code 58 = .ok (.ifCond .eq 5, 3) := by decide +kernel
theorem d_Ne_plan_61 : decode prog_8_method_8_code 61 = .ok (.iconst 0, 1) := by decide +kernel
theorem d_Ne_plan_62 : decode prog_8_method_8_code 62 = .ok (.ireturn, 1) := by decide +kernel
theorem d_Ne_plan_63 : decode prog_8_method_8_code 63 = .ok (.iinc 2 1, 3) := by decide +kernel
theorem d_Ne_plan_66 : decode prog_8_method_8_code 66 = .ok (.goto (-51), 3) := by decide +kernel
theorem d_Ne_plan_69 : decode prog_8_method_8_code 69 = .ok (.iconst 0, 1) := by decide +kernel
theorem d_Ne_plan_70 : decode prog_8_method_8_code 70 = .ok (.istore_n 2, 1) := by decide +kernel
theorem d_Ne_plan_71 : decode prog_8_method_8_code 71 = .ok (.iload_n 2, 1) := by decide +kernel
theorem d_Ne_plan_72 : decode prog_8_method_8_code 72 = .ok (.aload_n 0, 1) := by decide +kernel
theorem d_Ne_plan_73 : decode prog_8_method_8_code 73 = .ok (.getfield 23, 3) := by decide +kernel
theorem d_Ne_plan_76 : decode prog_8_method_8_code 76 = .ok (.invokevirtual 64, 3) := by decide +kernel
theorem d_Ne_plan_79 : decode prog_8_method_8_code 79 = .ok (.if_icmp .ge 56, 3) := by decide +kernel
theorem d_Ne_plan_82 : decode prog_8_method_8_code 82 = .ok (.aload_n 0, 1) := by decide +kernel
theorem d_Ne_plan_83 : decode prog_8_method_8_code 83 = .ok (.getfield 23, 3) := by decide +kernel
theorem d_Ne_plan_86 : decode prog_8_method_8_code 86 = .ok (.iload_n 2, 1) := by decide +kernel
theorem d_Ne_plan_87 : decode prog_8_method_8_code 87 = .ok (.invokevirtual 68, 3) := by decide +kernel
theorem d_Ne_plan_90 : decode prog_8_method_8_code 90 = .ok (.checkcast 72, 3) := by decide +kernel
theorem d_Ne_plan_93 : decode prog_8_method_8_code 93 = .ok (.astore_n 3, 1) := by decide +kernel
theorem d_Ne_plan_94 : decode prog_8_method_8_code 94 = .ok (.aload_n 3, 1) := by decide +kernel
theorem d_Ne_plan_95 : decode prog_8_method_8_code 95 = .ok (.aload_n 3, 1) := by decide +kernel
theorem d_Ne_plan_96 : decode prog_8_method_8_code 96 = .ok (.invokevirtual 112, 3) := by decide +kernel
theorem d_Ne_plan_99 : decode prog_8_method_8_code 99 = .ok (.ifCond .eq 26, 3) := by decide +kernel
theorem d_Ne_plan_102 : decode prog_8_method_8_code 102 = .ok (.aload_n 0, 1) := by decide +kernel
theorem d_Ne_plan_103 : decode prog_8_method_8_code 103 = .ok (.aload_n 3, 1) := by decide +kernel
theorem d_Ne_plan_104 : decode prog_8_method_8_code 104 = .ok (.getfield 116, 3) := by decide +kernel
theorem d_Ne_plan_107 : decode prog_8_method_8_code 107 = .ok (.invokevirtual 108, 3) := by decide +kernel
theorem d_Ne_plan_110 : decode prog_8_method_8_code 110 = .ok (.aload_n 0, 1) := by decide +kernel
theorem d_Ne_plan_111 : decode prog_8_method_8_code 111 = .ok (.aload_n 3, 1) := by decide +kernel
theorem d_Ne_plan_112 : decode prog_8_method_8_code 112 = .ok (.getfield 120, 3) := by decide +kernel
theorem d_Ne_plan_115 : decode prog_8_method_8_code 115 = .ok (.invokevirtual 108, 3) := by decide +kernel
theorem d_Ne_plan_118 : decode prog_8_method_8_code 118 = .ok (.if_icmp .eq 7, 3) := by decide +kernel
theorem d_Ne_plan_121 : decode prog_8_method_8_code 121 = .ok (.iconst 1, 1) := by decide +kernel
theorem d_Ne_plan_122 : decode prog_8_method_8_code 122 = .ok (.goto 4, 3) := by decide +kernel
theorem d_Ne_plan_125 : decode prog_8_method_8_code 125 = .ok (.iconst 0, 1) := by decide +kernel
theorem d_Ne_plan_126 : decode prog_8_method_8_code 126 = .ok (.putfield 98, 3) := by decide +kernel
theorem d_Ne_plan_129 : decode prog_8_method_8_code 129 = .ok (.iinc 2 1, 3) := by decide +kernel
theorem d_Ne_plan_132 : decode prog_8_method_8_code 132 = .ok (.goto (-61), 3) := by decide +kernel
theorem d_Ne_plan_135 : decode prog_8_method_8_code 135 = .ok (.iconst 0, 1) := by decide +kernel
theorem d_Ne_plan_136 : decode prog_8_method_8_code 136 = .ok (.istore_n 2, 1) := by decide +kernel
theorem d_Ne_plan_137 : decode prog_8_method_8_code 137 = .ok (.iload_n 2, 1) := by decide +kernel
theorem d_Ne_plan_138 : decode prog_8_method_8_code 138 = .ok (.aload_n 0, 1) := by decide +kernel
theorem d_Ne_plan_139 : decode prog_8_method_8_code 139 = .ok (.getfield 23, 3) := by decide +kernel
theorem d_Ne_plan_142 : decode prog_8_method_8_code 142 = .ok (.invokevirtual 64, 3) := by decide +kernel
theorem d_Ne_plan_145 : decode prog_8_method_8_code 145 = .ok (.if_icmp .ge 68, 3) := by decide +kernel
theorem d_Ne_plan_148 : decode prog_8_method_8_code 148 = .ok (.aload_n 0, 1) := by decide +kernel
theorem d_Ne_plan_149 : decode prog_8_method_8_code 149 = .ok (.getfield 23, 3) := by decide +kernel
theorem d_Ne_plan_152 : decode prog_8_method_8_code 152 = .ok (.iload_n 2, 1) := by decide +kernel
theorem d_Ne_plan_153 : decode prog_8_method_8_code 153 = .ok (.invokevirtual 68, 3) := by decide +kernel
theorem d_Ne_plan_156 : decode prog_8_method_8_code 156 = .ok (.checkcast 72, 3) := by decide +kernel
theorem d_Ne_plan_159 : decode prog_8_method_8_code 159 = .ok (.getfield 98, 3) := by decide +kernel
theorem d_Ne_plan_162 : decode prog_8_method_8_code 162 = .ok (.ifCond .eq 45, 3) := by decide +kernel
theorem d_Ne_plan_165 : decode prog_8_method_8_code 165 = .ok (.aload_n 0, 1) := by decide +kernel
theorem d_Ne_plan_166 : decode prog_8_method_8_code 166 = .ok (.getfield 23, 3) := by decide +kernel
theorem d_Ne_plan_169 : decode prog_8_method_8_code 169 = .ok (.iload_n 2, 1) := by decide +kernel
theorem d_Ne_plan_170 : decode prog_8_method_8_code 170 = .ok (.invokevirtual 68, 3) := by decide +kernel
theorem d_Ne_plan_173 : decode prog_8_method_8_code 173 = .ok (.checkcast 72, 3) := by decide +kernel
theorem d_Ne_plan_176 : decode prog_8_method_8_code 176 = .ok (.iconst 0, 1) := by decide +kernel
theorem d_Ne_plan_177 : decode prog_8_method_8_code 177 = .ok (.putfield 98, 3) := by decide +kernel
theorem d_Ne_plan_180 : decode prog_8_method_8_code 180 = .ok (.aload_n 0, 1) := by decide +kernel
theorem d_Ne_plan_181 : decode prog_8_method_8_code 181 = .ok (.aload_n 0, 1) := by decide +kernel
theorem d_Ne_plan_182 : decode prog_8_method_8_code 182 = .ok (.getfield 36, 3) := by decide +kernel
theorem d_Ne_plan_185 : decode prog_8_method_8_code 185 = .ok (.invokevirtual 123, 3) := by decide +kernel
theorem d_Ne_plan_188 : decode prog_8_method_8_code 188 = .ok (.aload_n 0, 1) := by decide +kernel
theorem d_Ne_plan_189 : decode prog_8_method_8_code 189 = .ok (.getfield 23, 3) := by decide +kernel
theorem d_Ne_plan_192 : decode prog_8_method_8_code 192 = .ok (.iload_n 2, 1) := by decide +kernel
theorem d_Ne_plan_193 : decode prog_8_method_8_code 193 = .ok (.invokevirtual 68, 3) := by decide +kernel
theorem d_Ne_plan_196 : decode prog_8_method_8_code 196 = .ok (.checkcast 72, 3) := by decide +kernel
theorem d_Ne_plan_199 : decode prog_8_method_8_code 199 = .ok (.aload_n 0, 1) := by decide +kernel
theorem d_Ne_plan_200 : decode prog_8_method_8_code 200 = .ok (.aload_n 1, 1) := by decide +kernel
theorem d_Ne_plan_201 : decode prog_8_method_8_code 201 = .ok (.invokevirtual 108, 3) := by decide +kernel
theorem d_Ne_plan_204 : decode prog_8_method_8_code 204 = .ok (.putfield 98, 3) := by decide +kernel
theorem d_Ne_plan_207 : decode prog_8_method_8_code 207 = .ok (.iinc 2 1, 3) := by decide +kernel
theorem d_Ne_plan_210 : decode prog_8_method_8_code 210 = .ok (.goto (-73), 3) := by decide +kernel
theorem d_Ne_plan_213 : decode prog_8_method_8_code 213 = .ok (.iconst 1, 1) := by decide +kernel
theorem d_Ne_plan_214 : decode prog_8_method_8_code 214 = .ok (.ireturn, 1) := by decide +kernel
def wb_Ne_plan_63 (po : Option Value → Pic → Prop) (th : String → Pic → Prop) (K15 : Pic → Nat → Nat → Int32 → Prop) (P : Pic) (a0 : Nat) (a1 : Nat) (x2 : Int32) : Prop := ∀ (x122 : Int32), x122 = x2 + 1 → K15 P a0 a1 x122
def wb_Ne_plan_126 (po : Option Value → Pic → Prop) (th : String → Pic → Prop) (K71 : Pic → Nat → Nat → Int32 → Prop) (P : Pic) (a0 : Nat) (a1 : Nat) (x2 : Int32) (t0 : Int32) (t1 : Nat) : Prop := p_k P t1 = 5 ∧ (t0 = 0 ∨ t0 = 1) ∧ ∀ (x141 : Int32), x141 = x2 + 1 → K71 (s_i P 166 t1 t0) a0 a1 x141
def wb_Ne_plan_125 (po : Option Value → Pic → Prop) (th : String → Pic → Prop) (K71 : Pic → Nat → Nat → Int32 → Prop) (P : Pic) (a0 : Nat) (a1 : Nat) (x2 : Int32) (t0 : Nat) : Prop := wb_Ne_plan_126 po th K71 P a0 a1 x2 (0 : Int32) t0
def wb_Ne_plan_207 (po : Option Value → Pic → Prop) (th : String → Pic → Prop) (K137 : Pic → Nat → Nat → Int32 → Prop) (P : Pic) (a0 : Nat) (a1 : Nat) (x2 : Int32) : Prop := ∀ (x165 : Int32), x165 = x2 + 1 → K137 P a0 a1 x165
def wb_Ne_plan_137 (po : Option Value → Pic → Prop) (th : String → Pic → Prop) (K137 : Pic → Nat → Nat → Int32 → Prop) (P : Pic) (a0 : Nat) (a1 : Nat) (x2 : Int32) : Prop := p_k P a0 = 7 ∧ ∃ a143, p_r P 242 a0 = some a143 ∧ p_k P a143 = 14 ∧ wp_Ar_size (cp_i fun x145 _ => ((x145 ≤ x2 → (po (some (.int (1 : Int32))) P)) ∧ (¬ x145 ≤ x2 → (∃ a146, p_r P 242 a0 = some a146 ∧ p_k P a146 = 14 ∧ wp_Ar_get (cp_a fun a148 _ => p_k P a148 = 5 ∧ (((p_i P 166 a148) = 0 → (wb_Ne_plan_207 po th K137 P a0 a1 x2)) ∧ (¬ (p_i P 166 a148) = 0 → (∃ a150, p_r P 242 a0 = some a150 ∧ p_k P a150 = 14 ∧ wp_Ar_get (cp_a fun a152 _ => p_k P a152 = 5 ∧ ∃ a154, p_r (s_i P 166 a152 (0 : Int32)) 244 a0 = some a154 ∧ wp_Ne_fromSources (cp_v fun P155 => p_k P155 a0 = 7 ∧ ∃ a157, p_r P155 242 a0 = some a157 ∧ p_k P155 a157 = 14 ∧ wp_Ar_get (cp_a fun a159 _ => p_k P155 a159 = 5 ∧ wp_Ne_isReached (cp_i fun x161 _ => (x161 = 0 ∨ x161 = 1) ∧ wb_Ne_plan_207 po th K137 (s_i P155 166 a159 x161) a0 a1 x2) th P155 a0 a1) th P155 a157 x2) th (s_i P 166 a152 (0 : Int32)) a0 a154) th P a150 x2)))) th P a146 x2)))) th P a143
def wl_Ne_plan_137 (po : Option Value → Pic → Prop) (th : String → Pic → Prop) : Nat → Pic → Nat → Nat → Int32 → Prop
  | 0 => fun _ _ _ _ => False
  | n + 1 => wb_Ne_plan_137 po th (wl_Ne_plan_137 po th n)
def wb_Ne_plan_71 (po : Option Value → Pic → Prop) (th : String → Pic → Prop) (K71 : Pic → Nat → Nat → Int32 → Prop) (P : Pic) (a0 : Nat) (a1 : Nat) (x2 : Int32) : Prop := p_k P a0 = 7 ∧ ∃ a124, p_r P 242 a0 = some a124 ∧ p_k P a124 = 14 ∧ wp_Ar_size (cp_i fun x126 _ => ((x126 ≤ x2 → (∃ n, wl_Ne_plan_137 po th n P a0 a1 (0 : Int32))) ∧ (¬ x126 ≤ x2 → (∃ a127, p_r P 242 a0 = some a127 ∧ p_k P a127 = 14 ∧ wp_Ar_get (cp_a fun a129 _ => p_k P a129 = 5 ∧ wp_En_canBeShut (cp_i fun x131 _ => ((x131 = 0 → (wb_Ne_plan_125 po th K71 P a0 a1 x2 a129)) ∧ (¬ x131 = 0 → (∃ a132, p_r P 160 a129 = some a132 ∧ wp_Ne_isReached (cp_i fun x133 _ => ∃ a134, p_r P 161 a129 = some a134 ∧ wp_Ne_isReached (cp_i fun x135 _ => ((x133 = x135 → (wb_Ne_plan_125 po th K71 P a0 a1 x2 a129)) ∧ (¬ x133 = x135 → (wb_Ne_plan_126 po th K71 P a0 a1 x2 (1 : Int32) a129)))) th P a0 a134) th P a0 a132)))) th P a129) th P a127 x2)))) th P a124
def wl_Ne_plan_71 (po : Option Value → Pic → Prop) (th : String → Pic → Prop) : Nat → Pic → Nat → Nat → Int32 → Prop
  | 0 => fun _ _ _ _ => False
  | n + 1 => wb_Ne_plan_71 po th (wl_Ne_plan_71 po th n)
def wb_Ne_plan_15 (po : Option Value → Pic → Prop) (th : String → Pic → Prop) (K15 : Pic → Nat → Nat → Int32 → Prop) (P : Pic) (a0 : Nat) (a1 : Nat) (x2 : Int32) : Prop := p_k P a0 = 7 ∧ ∃ a107, p_r P 240 a0 = some a107 ∧ p_k P a107 = 14 ∧ wp_Ar_size (cp_i fun x109 _ => ((x109 ≤ x2 → (∃ n, wl_Ne_plan_71 po th n P a0 a1 (0 : Int32))) ∧ (¬ x109 ≤ x2 → (∃ a110, p_r P 240 a0 = some a110 ∧ p_k P a110 = 14 ∧ wp_Ar_get (cp_a fun a112 _ => p_k P a112 = 8 ∧ (((p_i P 282 a112) = 0 → (wb_Ne_plan_63 po th K15 P a0 a1 x2)) ∧ (¬ (p_i P 282 a112) = 0 → (∃ a114, p_r P 240 a0 = some a114 ∧ p_k P a114 = 14 ∧ wp_Ar_get (cp_a fun a116 _ => (p_k P a116 = 8 ∨ p_k P a116 = 9) ∧ wp_Ne_isReached (cp_i fun x118 _ => ((x118 = 0 → (wb_Ne_plan_63 po th K15 P a0 a1 x2)) ∧ (¬ x118 = 0 → (po (some (.int (0 : Int32))) P)))) th P a0 a116) th P a114 x2)))) th P a110 x2)))) th P a107
def wl_Ne_plan_15 (po : Option Value → Pic → Prop) (th : String → Pic → Prop) : Nat → Pic → Nat → Nat → Int32 → Prop
  | 0 => fun _ _ _ _ => False
  | n + 1 => wb_Ne_plan_15 po th (wl_Ne_plan_15 po th n)
def wp_Ne_plan (po : Option Value → Pic → Prop) (th : String → Pic → Prop) (P : Pic) (a0 : Nat) (a1 : Nat) : Prop := p_k P a0 = 7 ∧ wp_Ne_forgetPlan (cp_v fun P102 => p_k P102 a0 = 7 ∧ ∃ a104, p_r P102 245 a0 = some a104 ∧ wp_Ne_from (cp_v fun P105 => ∃ n, wl_Ne_plan_15 po th n P105 a0 a1 (0 : Int32)) th P102 a0 a1 a104) th P a0
set_option maxHeartbeats 4000000 in
set_option maxRecDepth 100000 in
theorem wk_Ne_plan_63 {p : Program} {l : Launch} {e : Env} {s : State} {m : MethodId} {args : Array Value} {below : List Frame} {meth : Method} {c : Code} {D : pq_D} {P0 : Pic} {po : Option Value → Pic → Prop} {th : String → Pic → Prop} {K15 : Pic → Nat → Nat → Int32 → Prop} (hfl : l.flags = flags0) (C : Cx p e s m args meth c prog_8_method_8_code 4 "WaterWorks$Net" D P0) (hmg : e.platform.magicAccessors = ({} : Platform).magicAccessors) (hr : meth.sig.returnType = (some .boolean)) (hin : meth.name = "plan") (htab : c.exceptionTable.toList = tableOf []) (HK15 : ∀ (P : Pic) (a0 : Nat) (a1 : Nat) (x2 : Int32) (H : Heap) (locs : List Loc) (cells slots : Nat) (ls : Array Slot), K15 P a0 a1 x2 → Pi D P H → Sg (cq_A P0 s) s.heap H P locs → lv_has ls 4 [(0, .ref a0), (1, .ref a1), (2, .int x2)] → cells + 0 ≤ 0 → slots + 0 ≤ 0 → W p l e rm_Ne_plan s m args below meth c H locs cells slots (mt_MQ below (cq_Q D P0 false po th) args s 0 0 (cq_free P0 false)) (F0 m 15 ls [])) : ∀ (P : Pic) (a0 : Nat) (a1 : Nat) (x2 : Int32) (H : Heap) (locs : List Loc) (cells slots : Nat) (ls : Array Slot), wb_Ne_plan_63 po th K15 P a0 a1 x2 → Pi D P H → Sg (cq_A P0 s) s.heap H P locs → lv_has ls 4 [(0, .ref a0), (1, .ref a1), (2, .int x2)] → cells + 0 ≤ 0 → slots + 0 ≤ 0 → W p l e rm_Ne_plan s m args below meth c H locs cells slots (mt_MQ below (cq_Q D P0 false po th) args s 0 0 (cq_free P0 false)) (F0 m 63 ls []) := by
  intro P a0 a1 x2 H locs cells slots ls h hP hS hl hcc hss
  obtain ⟨hx, hb, hml, hown, hlocks, htr, hT, hK, hSt, hN, hP0⟩ := id C
  have L116_4 : pq_fl s m args 116 4 0 := ⟨_, "WaterWorks$Net", "WaterWorks$End", rfl, by decide, hown, Or.inr ⟨_, hT _ k_642 _⟩, (fun _ z => z)⟩
  have L120_4 : pq_fl s m args 120 4 1 := ⟨_, "WaterWorks$Net", "WaterWorks$End", rfl, by decide, hown, Or.inr ⟨_, hT _ k_644 _⟩, (fun _ z => z)⟩
  have L14_6 : pq_fl s m args 14 6 0 := ⟨_, "WaterWorks$Net", "WaterWorks$Net", rfl, by decide, hown, Or.inl (hT _ k_415 _), (fun _ z => z)⟩
  have L23_6 : pq_fl s m args 23 6 2 := ⟨_, "WaterWorks$Net", "WaterWorks$Net", rfl, by decide, hown, Or.inl (hT _ k_419 _), (fun _ z => z)⟩
  have L36_6 : pq_fl s m args 36 6 4 := ⟨_, "WaterWorks$Net", "WaterWorks$Net", rfl, by decide, hown, Or.inl (hT _ k_423 _), (fun _ z => z)⟩
  have L42_6 : pq_fl s m args 42 6 5 := ⟨_, "WaterWorks$Net", "WaterWorks$Net", rfl, by decide, hown, Or.inl (hT _ k_425 _), (fun _ z => z)⟩
  have L94_7 : pq_fl s m args 94 7 2 := ⟨_, "WaterWorks$Net", "WaterWorks$Node", rfl, by decide, hown, Or.inr ⟨_, hT _ k_510 _⟩, (fun _ z => z)⟩
  have L98_4 : pq_fl s m args 98 4 6 := ⟨_, "WaterWorks$Net", "WaterWorks$End", rfl, by decide, hown, Or.inr ⟨_, hT _ k_657 _⟩, (fun _ z => z)⟩
  unfold wb_Ne_plan_63 at h
  obtain ⟨x122, ex122⟩ : ∃ z : Int32, z = x2 + 1 := ⟨_, rfl⟩
  replace h := h x122 ex122
  refine lv_iinc (pc := 63) (v := x122) (lv' := [(2, .int x122), (0, .ref a0), (1, .ref a1)]) hx hb d_Ne_plan_63 hl (k := 2) rfl (by rw [ex122]; rfl) (by decide) rfl (fun ls hl => ?_)
  refine lv_goto (pc := 66) (tgt := 15) hx hb d_Ne_plan_66 (by decide) ?_
  exact HK15 _ a0 a1 x122 _ _ _ _ _ h hP hS (lv_sub hl [1, 2, 0] rfl) (show cells + 0 ≤ 0 by omega) (show slots + 0 ≤ 0 by omega)
set_option maxHeartbeats 4000000 in
set_option maxRecDepth 100000 in
theorem wk_Ne_plan_126 {p : Program} {l : Launch} {e : Env} {s : State} {m : MethodId} {args : Array Value} {below : List Frame} {meth : Method} {c : Code} {D : pq_D} {P0 : Pic} {po : Option Value → Pic → Prop} {th : String → Pic → Prop} {K71 : Pic → Nat → Nat → Int32 → Prop} (hfl : l.flags = flags0) (C : Cx p e s m args meth c prog_8_method_8_code 4 "WaterWorks$Net" D P0) (hmg : e.platform.magicAccessors = ({} : Platform).magicAccessors) (hr : meth.sig.returnType = (some .boolean)) (hin : meth.name = "plan") (htab : c.exceptionTable.toList = tableOf []) (HK71 : ∀ (P : Pic) (a0 : Nat) (a1 : Nat) (x2 : Int32) (H : Heap) (locs : List Loc) (cells slots : Nat) (ls : Array Slot), K71 P a0 a1 x2 → Pi D P H → Sg (cq_A P0 s) s.heap H P locs → lv_has ls 4 [(0, .ref a0), (1, .ref a1), (2, .int x2)] → cells + 0 ≤ 0 → slots + 0 ≤ 0 → W p l e rm_Ne_plan s m args below meth c H locs cells slots (mt_MQ below (cq_Q D P0 false po th) args s 0 0 (cq_free P0 false)) (F0 m 71 ls [])) : ∀ (P : Pic) (a0 : Nat) (a1 : Nat) (x2 : Int32) (t0 : Int32) (t1 : Nat) (H : Heap) (locs : List Loc) (cells slots : Nat) (ls : Array Slot), wb_Ne_plan_126 po th K71 P a0 a1 x2 t0 t1 → Pi D P H → Sg (cq_A P0 s) s.heap H P locs → lv_has ls 4 [(0, .ref a0), (1, .ref a1), (2, .int x2)] → cells + 0 ≤ 0 → slots + 0 ≤ 0 → W p l e rm_Ne_plan s m args below meth c H locs cells slots (mt_MQ below (cq_Q D P0 false po th) args s 0 0 (cq_free P0 false)) (F0 m 126 ls [.int t0, .ref t1]) := by
  intro P a0 a1 x2 t0 t1 H locs cells slots ls h hP hS hl hcc hss
  obtain ⟨hx, hb, hml, hown, hlocks, htr, hT, hK, hSt, hN, hP0⟩ := id C
  have L116_4 : pq_fl s m args 116 4 0 := ⟨_, "WaterWorks$Net", "WaterWorks$End", rfl, by decide, hown, Or.inr ⟨_, hT _ k_642 _⟩, (fun _ z => z)⟩
  have L120_4 : pq_fl s m args 120 4 1 := ⟨_, "WaterWorks$Net", "WaterWorks$End", rfl, by decide, hown, Or.inr ⟨_, hT _ k_644 _⟩, (fun _ z => z)⟩
  have L14_6 : pq_fl s m args 14 6 0 := ⟨_, "WaterWorks$Net", "WaterWorks$Net", rfl, by decide, hown, Or.inl (hT _ k_415 _), (fun _ z => z)⟩
  have L23_6 : pq_fl s m args 23 6 2 := ⟨_, "WaterWorks$Net", "WaterWorks$Net", rfl, by decide, hown, Or.inl (hT _ k_419 _), (fun _ z => z)⟩
  have L36_6 : pq_fl s m args 36 6 4 := ⟨_, "WaterWorks$Net", "WaterWorks$Net", rfl, by decide, hown, Or.inl (hT _ k_423 _), (fun _ z => z)⟩
  have L42_6 : pq_fl s m args 42 6 5 := ⟨_, "WaterWorks$Net", "WaterWorks$Net", rfl, by decide, hown, Or.inl (hT _ k_425 _), (fun _ z => z)⟩
  have L94_7 : pq_fl s m args 94 7 2 := ⟨_, "WaterWorks$Net", "WaterWorks$Node", rfl, by decide, hown, Or.inr ⟨_, hT _ k_510 _⟩, (fun _ z => z)⟩
  have L98_4 : pq_fl s m args 98 4 6 := ⟨_, "WaterWorks$Net", "WaterWorks$End", rfl, by decide, hown, Or.inr ⟨_, hT _ k_657 _⟩, (fun _ z => z)⟩
  unfold wb_Ne_plan_126 at h
  obtain ⟨hk139, h⟩ := h
  obtain ⟨hz140, h⟩ := h
  refine pq_puti (pc := 126) (f := 166) hx hb hT hK hP hS L98_4 hk139 rfl rfl (pq_nz hz140).1 (pq_nz hz140).2 d_Ne_plan_126 (fun H locs hP hS => ?_)
  have hk139 : p_k (s_i P 166 t1 t0) t1 = 5 := by rw [pk_i]; exact hk139
  obtain ⟨x141, ex141⟩ : ∃ z : Int32, z = x2 + 1 := ⟨_, rfl⟩
  replace h := h x141 ex141
  refine lv_iinc (pc := 129) (v := x141) (lv' := [(2, .int x141), (0, .ref a0), (1, .ref a1)]) hx hb d_Ne_plan_129 hl (k := 2) rfl (by rw [ex141]; rfl) (by decide) rfl (fun ls hl => ?_)
  refine lv_goto (pc := 132) (tgt := 71) hx hb d_Ne_plan_132 (by decide) ?_
  exact HK71 _ a0 a1 x141 _ _ _ _ _ h hP hS (lv_sub hl [1, 2, 0] rfl) (show cells + 0 ≤ 0 by omega) (show slots + 0 ≤ 0 by omega)
set_option maxHeartbeats 4000000 in
set_option maxRecDepth 100000 in
theorem wk_Ne_plan_125 {p : Program} {l : Launch} {e : Env} {s : State} {m : MethodId} {args : Array Value} {below : List Frame} {meth : Method} {c : Code} {D : pq_D} {P0 : Pic} {po : Option Value → Pic → Prop} {th : String → Pic → Prop} {K71 : Pic → Nat → Nat → Int32 → Prop} (hfl : l.flags = flags0) (C : Cx p e s m args meth c prog_8_method_8_code 4 "WaterWorks$Net" D P0) (hmg : e.platform.magicAccessors = ({} : Platform).magicAccessors) (hr : meth.sig.returnType = (some .boolean)) (hin : meth.name = "plan") (htab : c.exceptionTable.toList = tableOf []) (HK71 : ∀ (P : Pic) (a0 : Nat) (a1 : Nat) (x2 : Int32) (H : Heap) (locs : List Loc) (cells slots : Nat) (ls : Array Slot), K71 P a0 a1 x2 → Pi D P H → Sg (cq_A P0 s) s.heap H P locs → lv_has ls 4 [(0, .ref a0), (1, .ref a1), (2, .int x2)] → cells + 0 ≤ 0 → slots + 0 ≤ 0 → W p l e rm_Ne_plan s m args below meth c H locs cells slots (mt_MQ below (cq_Q D P0 false po th) args s 0 0 (cq_free P0 false)) (F0 m 71 ls [])) : ∀ (P : Pic) (a0 : Nat) (a1 : Nat) (x2 : Int32) (t0 : Nat) (H : Heap) (locs : List Loc) (cells slots : Nat) (ls : Array Slot), wb_Ne_plan_125 po th K71 P a0 a1 x2 t0 → Pi D P H → Sg (cq_A P0 s) s.heap H P locs → lv_has ls 4 [(0, .ref a0), (1, .ref a1), (2, .int x2)] → cells + 0 ≤ 0 → slots + 0 ≤ 0 → W p l e rm_Ne_plan s m args below meth c H locs cells slots (mt_MQ below (cq_Q D P0 false po th) args s 0 0 (cq_free P0 false)) (F0 m 125 ls [.ref t0]) := by
  intro P a0 a1 x2 t0 H locs cells slots ls h hP hS hl hcc hss
  obtain ⟨hx, hb, hml, hown, hlocks, htr, hT, hK, hSt, hN, hP0⟩ := id C
  have L116_4 : pq_fl s m args 116 4 0 := ⟨_, "WaterWorks$Net", "WaterWorks$End", rfl, by decide, hown, Or.inr ⟨_, hT _ k_642 _⟩, (fun _ z => z)⟩
  have L120_4 : pq_fl s m args 120 4 1 := ⟨_, "WaterWorks$Net", "WaterWorks$End", rfl, by decide, hown, Or.inr ⟨_, hT _ k_644 _⟩, (fun _ z => z)⟩
  have L14_6 : pq_fl s m args 14 6 0 := ⟨_, "WaterWorks$Net", "WaterWorks$Net", rfl, by decide, hown, Or.inl (hT _ k_415 _), (fun _ z => z)⟩
  have L23_6 : pq_fl s m args 23 6 2 := ⟨_, "WaterWorks$Net", "WaterWorks$Net", rfl, by decide, hown, Or.inl (hT _ k_419 _), (fun _ z => z)⟩
  have L36_6 : pq_fl s m args 36 6 4 := ⟨_, "WaterWorks$Net", "WaterWorks$Net", rfl, by decide, hown, Or.inl (hT _ k_423 _), (fun _ z => z)⟩
  have L42_6 : pq_fl s m args 42 6 5 := ⟨_, "WaterWorks$Net", "WaterWorks$Net", rfl, by decide, hown, Or.inl (hT _ k_425 _), (fun _ z => z)⟩
  have L94_7 : pq_fl s m args 94 7 2 := ⟨_, "WaterWorks$Net", "WaterWorks$Node", rfl, by decide, hown, Or.inr ⟨_, hT _ k_510 _⟩, (fun _ z => z)⟩
  have L98_4 : pq_fl s m args 98 4 6 := ⟨_, "WaterWorks$Net", "WaterWorks$End", rfl, by decide, hown, Or.inr ⟨_, hT _ k_657 _⟩, (fun _ z => z)⟩
  unfold wb_Ne_plan_125 at h
  refine lv_iconst (pc := 125) (v := 0) hx hb d_Ne_plan_125 (by decide) ?_
  exact wk_Ne_plan_126 hfl C hmg hr hin htab HK71 _ a0 a1 x2 (0 : Int32) t0 _ _ _ _ _ h hP hS (lv_sub hl [0, 1, 2] rfl) (show cells + 0 ≤ 0 by omega) (show slots + 0 ≤ 0 by omega)
set_option maxHeartbeats 4000000 in
set_option maxRecDepth 100000 in
theorem wk_Ne_plan_207 {p : Program} {l : Launch} {e : Env} {s : State} {m : MethodId} {args : Array Value} {below : List Frame} {meth : Method} {c : Code} {D : pq_D} {P0 : Pic} {po : Option Value → Pic → Prop} {th : String → Pic → Prop} {K137 : Pic → Nat → Nat → Int32 → Prop} (hfl : l.flags = flags0) (C : Cx p e s m args meth c prog_8_method_8_code 4 "WaterWorks$Net" D P0) (hmg : e.platform.magicAccessors = ({} : Platform).magicAccessors) (hr : meth.sig.returnType = (some .boolean)) (hin : meth.name = "plan") (htab : c.exceptionTable.toList = tableOf []) (HK137 : ∀ (P : Pic) (a0 : Nat) (a1 : Nat) (x2 : Int32) (H : Heap) (locs : List Loc) (cells slots : Nat) (ls : Array Slot), K137 P a0 a1 x2 → Pi D P H → Sg (cq_A P0 s) s.heap H P locs → lv_has ls 4 [(0, .ref a0), (1, .ref a1), (2, .int x2)] → cells + 0 ≤ 0 → slots + 0 ≤ 0 → W p l e rm_Ne_plan s m args below meth c H locs cells slots (mt_MQ below (cq_Q D P0 false po th) args s 0 0 (cq_free P0 false)) (F0 m 137 ls [])) : ∀ (P : Pic) (a0 : Nat) (a1 : Nat) (x2 : Int32) (H : Heap) (locs : List Loc) (cells slots : Nat) (ls : Array Slot), wb_Ne_plan_207 po th K137 P a0 a1 x2 → Pi D P H → Sg (cq_A P0 s) s.heap H P locs → lv_has ls 4 [(0, .ref a0), (1, .ref a1), (2, .int x2)] → cells + 0 ≤ 0 → slots + 0 ≤ 0 → W p l e rm_Ne_plan s m args below meth c H locs cells slots (mt_MQ below (cq_Q D P0 false po th) args s 0 0 (cq_free P0 false)) (F0 m 207 ls []) := by
  intro P a0 a1 x2 H locs cells slots ls h hP hS hl hcc hss
  obtain ⟨hx, hb, hml, hown, hlocks, htr, hT, hK, hSt, hN, hP0⟩ := id C
  have L116_4 : pq_fl s m args 116 4 0 := ⟨_, "WaterWorks$Net", "WaterWorks$End", rfl, by decide, hown, Or.inr ⟨_, hT _ k_642 _⟩, (fun _ z => z)⟩
  have L120_4 : pq_fl s m args 120 4 1 := ⟨_, "WaterWorks$Net", "WaterWorks$End", rfl, by decide, hown, Or.inr ⟨_, hT _ k_644 _⟩, (fun _ z => z)⟩
  have L14_6 : pq_fl s m args 14 6 0 := ⟨_, "WaterWorks$Net", "WaterWorks$Net", rfl, by decide, hown, Or.inl (hT _ k_415 _), (fun _ z => z)⟩
  have L23_6 : pq_fl s m args 23 6 2 := ⟨_, "WaterWorks$Net", "WaterWorks$Net", rfl, by decide, hown, Or.inl (hT _ k_419 _), (fun _ z => z)⟩
  have L36_6 : pq_fl s m args 36 6 4 := ⟨_, "WaterWorks$Net", "WaterWorks$Net", rfl, by decide, hown, Or.inl (hT _ k_423 _), (fun _ z => z)⟩
  have L42_6 : pq_fl s m args 42 6 5 := ⟨_, "WaterWorks$Net", "WaterWorks$Net", rfl, by decide, hown, Or.inl (hT _ k_425 _), (fun _ z => z)⟩
  have L94_7 : pq_fl s m args 94 7 2 := ⟨_, "WaterWorks$Net", "WaterWorks$Node", rfl, by decide, hown, Or.inr ⟨_, hT _ k_510 _⟩, (fun _ z => z)⟩
  have L98_4 : pq_fl s m args 98 4 6 := ⟨_, "WaterWorks$Net", "WaterWorks$End", rfl, by decide, hown, Or.inr ⟨_, hT _ k_657 _⟩, (fun _ z => z)⟩
  unfold wb_Ne_plan_207 at h
  obtain ⟨x165, ex165⟩ : ∃ z : Int32, z = x2 + 1 := ⟨_, rfl⟩
  replace h := h x165 ex165
  refine lv_iinc (pc := 207) (v := x165) (lv' := [(2, .int x165), (0, .ref a0), (1, .ref a1)]) hx hb d_Ne_plan_207 hl (k := 2) rfl (by rw [ex165]; rfl) (by decide) rfl (fun ls hl => ?_)
  refine lv_goto (pc := 210) (tgt := 137) hx hb d_Ne_plan_210 (by decide) ?_
  exact HK137 _ a0 a1 x165 _ _ _ _ _ h hP hS (lv_sub hl [1, 2, 0] rfl) (show cells + 0 ≤ 0 by omega) (show slots + 0 ≤ 0 by omega)
set_option maxHeartbeats 4000000 in
set_option maxRecDepth 100000 in
theorem wk_Ne_plan_137 {p : Program} {l : Launch} {e : Env} {s : State} {m : MethodId} {args : Array Value} {below : List Frame} {meth : Method} {c : Code} {D : pq_D} {P0 : Pic} {po : Option Value → Pic → Prop} {th : String → Pic → Prop} {K137 : Pic → Nat → Nat → Int32 → Prop} (hfl : l.flags = flags0) (C : Cx p e s m args meth c prog_8_method_8_code 4 "WaterWorks$Net" D P0) (hmg : e.platform.magicAccessors = ({} : Platform).magicAccessors) (hr : meth.sig.returnType = (some .boolean)) (hin : meth.name = "plan") (htab : c.exceptionTable.toList = tableOf []) (HK137 : ∀ (P : Pic) (a0 : Nat) (a1 : Nat) (x2 : Int32) (H : Heap) (locs : List Loc) (cells slots : Nat) (ls : Array Slot), K137 P a0 a1 x2 → Pi D P H → Sg (cq_A P0 s) s.heap H P locs → lv_has ls 4 [(0, .ref a0), (1, .ref a1), (2, .int x2)] → cells + 0 ≤ 0 → slots + 0 ≤ 0 → W p l e rm_Ne_plan s m args below meth c H locs cells slots (mt_MQ below (cq_Q D P0 false po th) args s 0 0 (cq_free P0 false)) (F0 m 137 ls [])) : ∀ (P : Pic) (a0 : Nat) (a1 : Nat) (x2 : Int32) (H : Heap) (locs : List Loc) (cells slots : Nat) (ls : Array Slot), wb_Ne_plan_137 po th K137 P a0 a1 x2 → Pi D P H → Sg (cq_A P0 s) s.heap H P locs → lv_has ls 4 [(0, .ref a0), (1, .ref a1), (2, .int x2)] → cells + 0 ≤ 0 → slots + 0 ≤ 0 → W p l e rm_Ne_plan s m args below meth c H locs cells slots (mt_MQ below (cq_Q D P0 false po th) args s 0 0 (cq_free P0 false)) (F0 m 137 ls []) := by
  intro P a0 a1 x2 H locs cells slots ls h hP hS hl hcc hss
  obtain ⟨hx, hb, hml, hown, hlocks, htr, hT, hK, hSt, hN, hP0⟩ := id C
  have L116_4 : pq_fl s m args 116 4 0 := ⟨_, "WaterWorks$Net", "WaterWorks$End", rfl, by decide, hown, Or.inr ⟨_, hT _ k_642 _⟩, (fun _ z => z)⟩
  have L120_4 : pq_fl s m args 120 4 1 := ⟨_, "WaterWorks$Net", "WaterWorks$End", rfl, by decide, hown, Or.inr ⟨_, hT _ k_644 _⟩, (fun _ z => z)⟩
  have L14_6 : pq_fl s m args 14 6 0 := ⟨_, "WaterWorks$Net", "WaterWorks$Net", rfl, by decide, hown, Or.inl (hT _ k_415 _), (fun _ z => z)⟩
  have L23_6 : pq_fl s m args 23 6 2 := ⟨_, "WaterWorks$Net", "WaterWorks$Net", rfl, by decide, hown, Or.inl (hT _ k_419 _), (fun _ z => z)⟩
  have L36_6 : pq_fl s m args 36 6 4 := ⟨_, "WaterWorks$Net", "WaterWorks$Net", rfl, by decide, hown, Or.inl (hT _ k_423 _), (fun _ z => z)⟩
  have L42_6 : pq_fl s m args 42 6 5 := ⟨_, "WaterWorks$Net", "WaterWorks$Net", rfl, by decide, hown, Or.inl (hT _ k_425 _), (fun _ z => z)⟩
  have L94_7 : pq_fl s m args 94 7 2 := ⟨_, "WaterWorks$Net", "WaterWorks$Node", rfl, by decide, hown, Or.inr ⟨_, hT _ k_510 _⟩, (fun _ z => z)⟩
  have L98_4 : pq_fl s m args 98 4 6 := ⟨_, "WaterWorks$Net", "WaterWorks$End", rfl, by decide, hown, Or.inr ⟨_, hT _ k_657 _⟩, (fun _ z => z)⟩
  unfold wb_Ne_plan_137 at h
  refine lv_iload_n (pc := 137) hx hb d_Ne_plan_137 rfl (lv_at hl 2 rfl) ?_
  refine lv_aload_n (pc := 138) hx hb d_Ne_plan_138 rfl (lv_at hl 0 rfl) ?_
  obtain ⟨hk142, h⟩ := h
  obtain ⟨a143, ea143, h⟩ := h
  refine pq_geta (pc := 139) (f := 242) hx hb hT hK hP L23_6 hk142 rfl ea143 d_Ne_plan_139 ?_
  obtain ⟨hk144, h⟩ := h
  refine cr_i (pc := 142) C (rest := [.int x2]) (mt_invV (As := []) hx hb hown (hT _ k_765 _) (hT _ k_472 _) (hT _ k_473 _) (mt_Cd.code (hT _ k_474 #[])) h_Ar_size (pq_recv hK hP hk144 rfl) n_Ar_size rfl d_Ne_plan_142) (ct_Ar_size hfl D h) k_474 k_5 ⟨Nat.le_of_ble_eq_true rfl, Nat.le_of_ble_eq_true rfl⟩ ⟨(show cells + 0 ≤ 0 by omega), (show slots + 0 ≤ 0 by omega)⟩ hl.1 d_Ne_plan_142 (Nat.le_of_ble_eq_true rfl) hP hS (fun x145 H locs h hP hS => ?_) (fun xx X H locs h hX hex hP hS => ?_)
  · refine lv_icmp_ge (pc := 145) (tgt := 213) hx hb d_Ne_plan_145 (by decide) (fun c164 => ?_) (fun c164 => ?_)
    · replace h := h.1 c164
      refine lv_iconst (pc := 213) (v := 1) hx hb d_Ne_plan_213 (by decide) ?_
      exact we_z (pc := 214) hx hb hlocks hr hP hS (show cells + 0 + 0 ≤ 0 by omega) (show slots + 0 + 0 ≤ 0 by omega) (by decide) h d_Ne_plan_214
    · replace h := h.2 c164
      refine lv_aload_n (pc := 148) hx hb d_Ne_plan_148 rfl (lv_at hl 0 rfl) ?_
      obtain ⟨a146, ea146, h⟩ := h
      refine pq_geta (pc := 149) (f := 242) hx hb hT hK hP L23_6 hk142 rfl ea146 d_Ne_plan_149 ?_
      refine lv_iload_n (pc := 152) hx hb d_Ne_plan_152 rfl (lv_at hl 2 rfl) ?_
      obtain ⟨hk147, h⟩ := h
      refine cr_a (pc := 153) C (rest := []) (mt_invV (As := [.int x2]) hx hb hown (hT _ k_766 _) (hT _ k_607 _) (hT _ k_608 _) (mt_Cd.code (hT _ k_609 #[])) h_Ar_get (pq_recv hK hP hk147 rfl) n_Ar_get rfl d_Ne_plan_153) (ct_Ar_get hfl D h) k_609 k_5 ⟨Nat.le_of_ble_eq_true rfl, Nat.le_of_ble_eq_true rfl⟩ ⟨(show cells + 0 + 0 ≤ 0 by omega), (show slots + 0 + 0 ≤ 0 by omega)⟩ hl.1 d_Ne_plan_153 (Nat.le_of_ble_eq_true rfl) hP hS (fun a148 H locs h hP hS => ?_) (fun xx X H locs h hX hex hP hS => ?_)
      · obtain ⟨hk149, h⟩ := h
        refine pq_cast (pc := 156) hx hb hT hK hP hown k_776 hk149 rfl k_1350 d_Ne_plan_156 ?_
        refine pq_geti (pc := 159) (f := 166) hx hb hT hK hP L98_4 hk149 rfl d_Ne_plan_159 ?_
        refine lv_if_eq (pc := 162) (tgt := 207) hx hb d_Ne_plan_162 (by decide) (fun c163 => ?_) (fun c163 => ?_)
        · replace h := h.1 c163
          exact wk_Ne_plan_207 hfl C hmg hr hin htab HK137 _ a0 a1 x2 _ _ _ _ _ h hP hS (lv_sub hl [0, 1, 2] rfl) (show cells + 0 + 0 + 0 ≤ 0 by omega) (show slots + 0 + 0 + 0 ≤ 0 by omega)
        · replace h := h.2 c163
          refine lv_aload_n (pc := 165) hx hb d_Ne_plan_165 rfl (lv_at hl 0 rfl) ?_
          obtain ⟨a150, ea150, h⟩ := h
          refine pq_geta (pc := 166) (f := 242) hx hb hT hK hP L23_6 hk142 rfl ea150 d_Ne_plan_166 ?_
          refine lv_iload_n (pc := 169) hx hb d_Ne_plan_169 rfl (lv_at hl 2 rfl) ?_
          obtain ⟨hk151, h⟩ := h
          refine cr_a (pc := 170) C (rest := []) (mt_invV (As := [.int x2]) hx hb hown (hT _ k_766 _) (hT _ k_607 _) (hT _ k_608 _) (mt_Cd.code (hT _ k_609 #[])) h_Ar_get (pq_recv hK hP hk151 rfl) n_Ar_get rfl d_Ne_plan_170) (ct_Ar_get hfl D h) k_609 k_5 ⟨Nat.le_of_ble_eq_true rfl, Nat.le_of_ble_eq_true rfl⟩ ⟨(show cells + 0 + 0 + 0 ≤ 0 by omega), (show slots + 0 + 0 + 0 ≤ 0 by omega)⟩ hl.1 d_Ne_plan_170 (Nat.le_of_ble_eq_true rfl) hP hS (fun a152 H locs h hP hS => ?_) (fun xx X H locs h hX hex hP hS => ?_)
          · obtain ⟨hk153, h⟩ := h
            refine pq_cast (pc := 173) hx hb hT hK hP hown k_776 hk153 rfl k_1350 d_Ne_plan_173 ?_
            refine lv_iconst (pc := 176) (v := 0) hx hb d_Ne_plan_176 (by decide) ?_
            refine pq_puti (pc := 177) (f := 166) hx hb hT hK hP hS L98_4 hk153 rfl rfl rfl rfl d_Ne_plan_177 (fun H locs hP hS => ?_)
            have hk142 : p_k (s_i P 166 a152 (0 : Int32)) a0 = 7 := by rw [pk_i]; exact hk142
            have hk144 : p_k (s_i P 166 a152 (0 : Int32)) a143 = 14 := by rw [pk_i]; exact hk144
            have hk147 : p_k (s_i P 166 a152 (0 : Int32)) a146 = 14 := by rw [pk_i]; exact hk147
            have hk149 : p_k (s_i P 166 a152 (0 : Int32)) a148 = 5 := by rw [pk_i]; exact hk149
            have hk151 : p_k (s_i P 166 a152 (0 : Int32)) a150 = 14 := by rw [pk_i]; exact hk151
            have hk153 : p_k (s_i P 166 a152 (0 : Int32)) a152 = 5 := by rw [pk_i]; exact hk153
            refine lv_aload_n (pc := 180) hx hb d_Ne_plan_180 rfl (lv_at hl 0 rfl) ?_
            refine lv_aload_n (pc := 181) hx hb d_Ne_plan_181 rfl (lv_at hl 0 rfl) ?_
            obtain ⟨a154, ea154, h⟩ := h
            refine pq_geta (pc := 182) (f := 244) hx hb hT hK hP L36_6 hk142 rfl ea154 d_Ne_plan_182 ?_
            refine cc_v (pc := 185) C (rest := []) (mt_invV (As := [.ref a154]) hx hb hown (hT _ k_836 _) (hT _ k_762 _) (hT _ k_763 _) (mt_Cd.code (hT _ k_764 #[])) h_Ne_fromSources (pq_recv hK hP hk142 rfl) n_Ne_fromSources rfl d_Ne_plan_185) (ct_Ne_fromSources hfl D h) k_764 k_2 ⟨Nat.le_of_ble_eq_true rfl, Nat.le_of_ble_eq_true rfl⟩ ⟨(show cells + 0 + 0 + 0 + 0 ≤ 0 by omega), (show slots + 0 + 0 + 0 + 0 ≤ 0 by omega)⟩ hl.1 d_Ne_plan_185 (Nat.le_of_ble_eq_true rfl) hP hS (fun P155 H locs h hP hS => ?_) (fun xx X P155 H locs h hX hex hP hS => ?_)
            · refine lv_aload_n (pc := 188) hx hb d_Ne_plan_188 rfl (lv_at hl 0 rfl) ?_
              obtain ⟨hk156, h⟩ := h
              obtain ⟨a157, ea157, h⟩ := h
              refine pq_geta (pc := 189) (f := 242) hx hb hT hK hP L23_6 hk156 rfl ea157 d_Ne_plan_189 ?_
              refine lv_iload_n (pc := 192) hx hb d_Ne_plan_192 rfl (lv_at hl 2 rfl) ?_
              obtain ⟨hk158, h⟩ := h
              refine cr_a (pc := 193) C (rest := []) (mt_invV (As := [.int x2]) hx hb hown (hT _ k_766 _) (hT _ k_607 _) (hT _ k_608 _) (mt_Cd.code (hT _ k_609 #[])) h_Ar_get (pq_recv hK hP hk158 rfl) n_Ar_get rfl d_Ne_plan_193) (ct_Ar_get hfl D h) k_609 k_5 ⟨Nat.le_of_ble_eq_true rfl, Nat.le_of_ble_eq_true rfl⟩ ⟨(show cells + 0 + 0 + 0 + 0 + 0 ≤ 0 by omega), (show slots + 0 + 0 + 0 + 0 + 0 ≤ 0 by omega)⟩ hl.1 d_Ne_plan_193 (Nat.le_of_ble_eq_true rfl) hP hS (fun a159 H locs h hP hS => ?_) (fun xx X H locs h hX hex hP hS => ?_)
              · obtain ⟨hk160, h⟩ := h
                refine pq_cast (pc := 196) hx hb hT hK hP hown k_776 hk160 rfl k_1350 d_Ne_plan_196 ?_
                refine lv_aload_n (pc := 199) hx hb d_Ne_plan_199 rfl (lv_at hl 0 rfl) ?_
                refine lv_aload_n (pc := 200) hx hb d_Ne_plan_200 rfl (lv_at hl 1 rfl) ?_
                refine cr_i (pc := 201) C (rest := [.ref a159]) (mt_invV (As := [.ref a1]) hx hb hown (hT _ k_834 _) (hT _ k_808 _) (hT _ k_809 _) (mt_Cd.code (hT _ k_810 #[])) h_Ne_isReached (pq_recv hK hP hk156 rfl) n_Ne_isReached rfl d_Ne_plan_201) (ct_Ne_isReached hfl D h) k_810 k_2 ⟨Nat.le_of_ble_eq_true rfl, Nat.le_of_ble_eq_true rfl⟩ ⟨(show cells + 0 + 0 + 0 + 0 + 0 + 0 ≤ 0 by omega), (show slots + 0 + 0 + 0 + 0 + 0 + 0 ≤ 0 by omega)⟩ hl.1 d_Ne_plan_201 (Nat.le_of_ble_eq_true rfl) hP hS (fun x161 H locs h hP hS => ?_) (fun xx X H locs h hX hex hP hS => ?_)
                · obtain ⟨hz162, h⟩ := h
                  refine pq_puti (pc := 204) (f := 166) hx hb hT hK hP hS L98_4 hk160 rfl rfl (pq_nz hz162).1 (pq_nz hz162).2 d_Ne_plan_204 (fun H locs hP hS => ?_)
                  have hk156 : p_k (s_i P155 166 a159 x161) a0 = 7 := by rw [pk_i]; exact hk156
                  have hk158 : p_k (s_i P155 166 a159 x161) a157 = 14 := by rw [pk_i]; exact hk158
                  have hk160 : p_k (s_i P155 166 a159 x161) a159 = 5 := by rw [pk_i]; exact hk160
                  exact wk_Ne_plan_207 hfl C hmg hr hin htab HK137 _ a0 a1 x2 _ _ _ _ _ h hP hS (lv_sub hl [0, 1, 2] rfl) (show cells + 0 + 0 + 0 + 0 + 0 + 0 + 0 ≤ 0 by omega) (show slots + 0 + 0 + 0 + 0 + 0 + 0 + 0 ≤ 0 by omega)
                · exact cq_out hlocks (pq_nil htab rfl) (show cells + 0 + 0 + 0 + 0 + 0 + 0 + 0 ≤ 0 by omega) (show slots + 0 + 0 + 0 + 0 + 0 + 0 + 0 ≤ 0 by omega) hX hex hP hS h
              · exact cq_out hlocks (pq_nil htab rfl) (show cells + 0 + 0 + 0 + 0 + 0 + 0 ≤ 0 by omega) (show slots + 0 + 0 + 0 + 0 + 0 + 0 ≤ 0 by omega) hX hex hP hS h
            · exact cq_out hlocks (pq_nil htab rfl) (show cells + 0 + 0 + 0 + 0 + 0 ≤ 0 by omega) (show slots + 0 + 0 + 0 + 0 + 0 ≤ 0 by omega) hX hex hP hS h
          · exact cq_out hlocks (pq_nil htab rfl) (show cells + 0 + 0 + 0 + 0 ≤ 0 by omega) (show slots + 0 + 0 + 0 + 0 ≤ 0 by omega) hX hex hP hS h
      · exact cq_out hlocks (pq_nil htab rfl) (show cells + 0 + 0 + 0 ≤ 0 by omega) (show slots + 0 + 0 + 0 ≤ 0 by omega) hX hex hP hS h
  · exact cq_out hlocks (pq_nil htab rfl) (show cells + 0 + 0 ≤ 0 by omega) (show slots + 0 + 0 ≤ 0 by omega) hX hex hP hS h
theorem wm_Ne_plan_137 {p : Program} {l : Launch} {e : Env} {s : State} {m : MethodId} {args : Array Value} {below : List Frame} {meth : Method} {c : Code} {D : pq_D} {P0 : Pic} {po : Option Value → Pic → Prop} {th : String → Pic → Prop} (hfl : l.flags = flags0) (C : Cx p e s m args meth c prog_8_method_8_code 4 "WaterWorks$Net" D P0) (hmg : e.platform.magicAccessors = ({} : Platform).magicAccessors) (hr : meth.sig.returnType = (some .boolean)) (hin : meth.name = "plan") (htab : c.exceptionTable.toList = tableOf []) : ∀ n : Nat, ∀ (P : Pic) (a0 : Nat) (a1 : Nat) (x2 : Int32) (H : Heap) (locs : List Loc) (cells slots : Nat) (ls : Array Slot), wl_Ne_plan_137 po th n P a0 a1 x2 → Pi D P H → Sg (cq_A P0 s) s.heap H P locs → lv_has ls 4 [(0, .ref a0), (1, .ref a1), (2, .int x2)] → cells + 0 ≤ 0 → slots + 0 ≤ 0 → W p l e rm_Ne_plan s m args below meth c H locs cells slots (mt_MQ below (cq_Q D P0 false po th) args s 0 0 (cq_free P0 false)) (F0 m 137 ls []) := by
  intro n
  induction n with
  | zero => intro P a0 a1 x2 H locs cells slots ls h; exact h.elim
  | succ n ih => exact wk_Ne_plan_137 hfl C hmg hr hin htab ih
set_option maxHeartbeats 4000000 in
set_option maxRecDepth 100000 in
theorem wk_Ne_plan_71 {p : Program} {l : Launch} {e : Env} {s : State} {m : MethodId} {args : Array Value} {below : List Frame} {meth : Method} {c : Code} {D : pq_D} {P0 : Pic} {po : Option Value → Pic → Prop} {th : String → Pic → Prop} {K71 : Pic → Nat → Nat → Int32 → Prop} (hfl : l.flags = flags0) (C : Cx p e s m args meth c prog_8_method_8_code 4 "WaterWorks$Net" D P0) (hmg : e.platform.magicAccessors = ({} : Platform).magicAccessors) (hr : meth.sig.returnType = (some .boolean)) (hin : meth.name = "plan") (htab : c.exceptionTable.toList = tableOf []) (HK71 : ∀ (P : Pic) (a0 : Nat) (a1 : Nat) (x2 : Int32) (H : Heap) (locs : List Loc) (cells slots : Nat) (ls : Array Slot), K71 P a0 a1 x2 → Pi D P H → Sg (cq_A P0 s) s.heap H P locs → lv_has ls 4 [(0, .ref a0), (1, .ref a1), (2, .int x2)] → cells + 0 ≤ 0 → slots + 0 ≤ 0 → W p l e rm_Ne_plan s m args below meth c H locs cells slots (mt_MQ below (cq_Q D P0 false po th) args s 0 0 (cq_free P0 false)) (F0 m 71 ls [])) : ∀ (P : Pic) (a0 : Nat) (a1 : Nat) (x2 : Int32) (H : Heap) (locs : List Loc) (cells slots : Nat) (ls : Array Slot), wb_Ne_plan_71 po th K71 P a0 a1 x2 → Pi D P H → Sg (cq_A P0 s) s.heap H P locs → lv_has ls 4 [(0, .ref a0), (1, .ref a1), (2, .int x2)] → cells + 0 ≤ 0 → slots + 0 ≤ 0 → W p l e rm_Ne_plan s m args below meth c H locs cells slots (mt_MQ below (cq_Q D P0 false po th) args s 0 0 (cq_free P0 false)) (F0 m 71 ls []) := by
  intro P a0 a1 x2 H locs cells slots ls h hP hS hl hcc hss
  obtain ⟨hx, hb, hml, hown, hlocks, htr, hT, hK, hSt, hN, hP0⟩ := id C
  have L116_4 : pq_fl s m args 116 4 0 := ⟨_, "WaterWorks$Net", "WaterWorks$End", rfl, by decide, hown, Or.inr ⟨_, hT _ k_642 _⟩, (fun _ z => z)⟩
  have L120_4 : pq_fl s m args 120 4 1 := ⟨_, "WaterWorks$Net", "WaterWorks$End", rfl, by decide, hown, Or.inr ⟨_, hT _ k_644 _⟩, (fun _ z => z)⟩
  have L14_6 : pq_fl s m args 14 6 0 := ⟨_, "WaterWorks$Net", "WaterWorks$Net", rfl, by decide, hown, Or.inl (hT _ k_415 _), (fun _ z => z)⟩
  have L23_6 : pq_fl s m args 23 6 2 := ⟨_, "WaterWorks$Net", "WaterWorks$Net", rfl, by decide, hown, Or.inl (hT _ k_419 _), (fun _ z => z)⟩
  have L36_6 : pq_fl s m args 36 6 4 := ⟨_, "WaterWorks$Net", "WaterWorks$Net", rfl, by decide, hown, Or.inl (hT _ k_423 _), (fun _ z => z)⟩
  have L42_6 : pq_fl s m args 42 6 5 := ⟨_, "WaterWorks$Net", "WaterWorks$Net", rfl, by decide, hown, Or.inl (hT _ k_425 _), (fun _ z => z)⟩
  have L94_7 : pq_fl s m args 94 7 2 := ⟨_, "WaterWorks$Net", "WaterWorks$Node", rfl, by decide, hown, Or.inr ⟨_, hT _ k_510 _⟩, (fun _ z => z)⟩
  have L98_4 : pq_fl s m args 98 4 6 := ⟨_, "WaterWorks$Net", "WaterWorks$End", rfl, by decide, hown, Or.inr ⟨_, hT _ k_657 _⟩, (fun _ z => z)⟩
  unfold wb_Ne_plan_71 at h
  refine lv_iload_n (pc := 71) hx hb d_Ne_plan_71 rfl (lv_at hl 2 rfl) ?_
  refine lv_aload_n (pc := 72) hx hb d_Ne_plan_72 rfl (lv_at hl 0 rfl) ?_
  obtain ⟨hk123, h⟩ := h
  obtain ⟨a124, ea124, h⟩ := h
  refine pq_geta (pc := 73) (f := 242) hx hb hT hK hP L23_6 hk123 rfl ea124 d_Ne_plan_73 ?_
  obtain ⟨hk125, h⟩ := h
  refine cr_i (pc := 76) C (rest := [.int x2]) (mt_invV (As := []) hx hb hown (hT _ k_765 _) (hT _ k_472 _) (hT _ k_473 _) (mt_Cd.code (hT _ k_474 #[])) h_Ar_size (pq_recv hK hP hk125 rfl) n_Ar_size rfl d_Ne_plan_76) (ct_Ar_size hfl D h) k_474 k_5 ⟨Nat.le_of_ble_eq_true rfl, Nat.le_of_ble_eq_true rfl⟩ ⟨(show cells + 0 ≤ 0 by omega), (show slots + 0 ≤ 0 by omega)⟩ hl.1 d_Ne_plan_76 (Nat.le_of_ble_eq_true rfl) hP hS (fun x126 H locs h hP hS => ?_) (fun xx X H locs h hX hex hP hS => ?_)
  · refine lv_icmp_ge (pc := 79) (tgt := 135) hx hb d_Ne_plan_79 (by decide) (fun c138 => ?_) (fun c138 => ?_)
    · replace h := h.1 c138
      refine lv_iconst (pc := 135) (v := 0) hx hb d_Ne_plan_135 (by decide) ?_
      refine lv_istore_n (pc := 136) (lv' := [(2, .int (0 : Int32)), (0, .ref a0), (1, .ref a1)]) hx hb d_Ne_plan_136 rfl hl (by decide) rfl (fun ls hl => ?_)
      obtain ⟨n, h⟩ := h
      exact wm_Ne_plan_137 hfl C hmg hr hin htab n _ a0 a1 (0 : Int32) _ _ _ _ _ h hP hS (lv_sub hl [1, 2, 0] rfl) (show cells + 0 + 0 ≤ 0 by omega) (show slots + 0 + 0 ≤ 0 by omega)
    · replace h := h.2 c138
      refine lv_aload_n (pc := 82) hx hb d_Ne_plan_82 rfl (lv_at hl 0 rfl) ?_
      obtain ⟨a127, ea127, h⟩ := h
      refine pq_geta (pc := 83) (f := 242) hx hb hT hK hP L23_6 hk123 rfl ea127 d_Ne_plan_83 ?_
      refine lv_iload_n (pc := 86) hx hb d_Ne_plan_86 rfl (lv_at hl 2 rfl) ?_
      obtain ⟨hk128, h⟩ := h
      refine cr_a (pc := 87) C (rest := []) (mt_invV (As := [.int x2]) hx hb hown (hT _ k_766 _) (hT _ k_607 _) (hT _ k_608 _) (mt_Cd.code (hT _ k_609 #[])) h_Ar_get (pq_recv hK hP hk128 rfl) n_Ar_get rfl d_Ne_plan_87) (ct_Ar_get hfl D h) k_609 k_5 ⟨Nat.le_of_ble_eq_true rfl, Nat.le_of_ble_eq_true rfl⟩ ⟨(show cells + 0 + 0 ≤ 0 by omega), (show slots + 0 + 0 ≤ 0 by omega)⟩ hl.1 d_Ne_plan_87 (Nat.le_of_ble_eq_true rfl) hP hS (fun a129 H locs h hP hS => ?_) (fun xx X H locs h hX hex hP hS => ?_)
      · obtain ⟨hk130, h⟩ := h
        refine pq_cast (pc := 90) hx hb hT hK hP hown k_776 hk130 rfl k_1350 d_Ne_plan_90 ?_
        refine lv_astore_n (pc := 93) (lv' := [(3, .ref a129), (0, .ref a0), (1, .ref a1), (2, .int x2)]) hx hb d_Ne_plan_93 rfl hl (by decide) rfl (fun ls hl => ?_)
        refine lv_aload_n (pc := 94) hx hb d_Ne_plan_94 rfl (lv_at hl 0 rfl) ?_
        refine lv_aload_n (pc := 95) hx hb d_Ne_plan_95 rfl (lv_at hl 0 rfl) ?_
        refine cr_i (pc := 96) C (rest := [.ref a129]) (mt_invV (As := []) hx hb hown (hT _ k_835 _) (hT _ k_794 _) (hT _ k_795 _) (mt_Cd.code (hT _ k_796 #[])) h_En_canBeShut (pq_recv hK hP hk130 rfl) n_En_canBeShut rfl d_Ne_plan_96) (ct_En_canBeShut hfl D h) k_796 k_30 ⟨Nat.le_of_ble_eq_true rfl, Nat.le_of_ble_eq_true rfl⟩ ⟨(show cells + 0 + 0 + 0 ≤ 0 by omega), (show slots + 0 + 0 + 0 ≤ 0 by omega)⟩ hl.1 d_Ne_plan_96 (Nat.le_of_ble_eq_true rfl) hP hS (fun x131 H locs h hP hS => ?_) (fun xx X H locs h hX hex hP hS => ?_)
        · refine lv_if_eq (pc := 99) (tgt := 125) hx hb d_Ne_plan_99 (by decide) (fun c137 => ?_) (fun c137 => ?_)
          · replace h := h.1 c137
            exact wk_Ne_plan_125 hfl C hmg hr hin htab HK71 _ a0 a1 x2 a129 _ _ _ _ _ h hP hS (lv_sub hl [1, 2, 3] rfl) (show cells + 0 + 0 + 0 + 0 ≤ 0 by omega) (show slots + 0 + 0 + 0 + 0 ≤ 0 by omega)
          · replace h := h.2 c137
            refine lv_aload_n (pc := 102) hx hb d_Ne_plan_102 rfl (lv_at hl 1 rfl) ?_
            refine lv_aload_n (pc := 103) hx hb d_Ne_plan_103 rfl (lv_at hl 0 rfl) ?_
            obtain ⟨a132, ea132, h⟩ := h
            refine pq_geta (pc := 104) (f := 160) hx hb hT hK hP L116_4 hk130 rfl ea132 d_Ne_plan_104 ?_
            refine cr_i (pc := 107) C (rest := [.ref a129]) (mt_invV (As := [.ref a132]) hx hb hown (hT _ k_834 _) (hT _ k_808 _) (hT _ k_809 _) (mt_Cd.code (hT _ k_810 #[])) h_Ne_isReached (pq_recv hK hP hk123 rfl) n_Ne_isReached rfl d_Ne_plan_107) (ct_Ne_isReached hfl D h) k_810 k_2 ⟨Nat.le_of_ble_eq_true rfl, Nat.le_of_ble_eq_true rfl⟩ ⟨(show cells + 0 + 0 + 0 + 0 ≤ 0 by omega), (show slots + 0 + 0 + 0 + 0 ≤ 0 by omega)⟩ hl.1 d_Ne_plan_107 (Nat.le_of_ble_eq_true rfl) hP hS (fun x133 H locs h hP hS => ?_) (fun xx X H locs h hX hex hP hS => ?_)
            · refine lv_aload_n (pc := 110) hx hb d_Ne_plan_110 rfl (lv_at hl 1 rfl) ?_
              refine lv_aload_n (pc := 111) hx hb d_Ne_plan_111 rfl (lv_at hl 0 rfl) ?_
              obtain ⟨a134, ea134, h⟩ := h
              refine pq_geta (pc := 112) (f := 161) hx hb hT hK hP L120_4 hk130 rfl ea134 d_Ne_plan_112 ?_
              refine cr_i (pc := 115) C (rest := [.int x133, .ref a129]) (mt_invV (As := [.ref a134]) hx hb hown (hT _ k_834 _) (hT _ k_808 _) (hT _ k_809 _) (mt_Cd.code (hT _ k_810 #[])) h_Ne_isReached (pq_recv hK hP hk123 rfl) n_Ne_isReached rfl d_Ne_plan_115) (ct_Ne_isReached hfl D h) k_810 k_2 ⟨Nat.le_of_ble_eq_true rfl, Nat.le_of_ble_eq_true rfl⟩ ⟨(show cells + 0 + 0 + 0 + 0 + 0 ≤ 0 by omega), (show slots + 0 + 0 + 0 + 0 + 0 ≤ 0 by omega)⟩ hl.1 d_Ne_plan_115 (Nat.le_of_ble_eq_true rfl) hP hS (fun x135 H locs h hP hS => ?_) (fun xx X H locs h hX hex hP hS => ?_)
              · refine lv_icmp_eq (pc := 118) (tgt := 125) hx hb d_Ne_plan_118 (by decide) (fun c136 => ?_) (fun c136 => ?_)
                · replace h := h.1 c136
                  exact wk_Ne_plan_125 hfl C hmg hr hin htab HK71 _ a0 a1 x2 a129 _ _ _ _ _ h hP hS (lv_sub hl [1, 2, 3] rfl) (show cells + 0 + 0 + 0 + 0 + 0 + 0 ≤ 0 by omega) (show slots + 0 + 0 + 0 + 0 + 0 + 0 ≤ 0 by omega)
                · replace h := h.2 c136
                  refine lv_iconst (pc := 121) (v := 1) hx hb d_Ne_plan_121 (by decide) ?_
                  refine lv_goto (pc := 122) (tgt := 126) hx hb d_Ne_plan_122 (by decide) ?_
                  exact wk_Ne_plan_126 hfl C hmg hr hin htab HK71 _ a0 a1 x2 (1 : Int32) a129 _ _ _ _ _ h hP hS (lv_sub hl [1, 2, 3] rfl) (show cells + 0 + 0 + 0 + 0 + 0 + 0 ≤ 0 by omega) (show slots + 0 + 0 + 0 + 0 + 0 + 0 ≤ 0 by omega)
              · exact cq_out hlocks (pq_nil htab rfl) (show cells + 0 + 0 + 0 + 0 + 0 + 0 ≤ 0 by omega) (show slots + 0 + 0 + 0 + 0 + 0 + 0 ≤ 0 by omega) hX hex hP hS h
            · exact cq_out hlocks (pq_nil htab rfl) (show cells + 0 + 0 + 0 + 0 + 0 ≤ 0 by omega) (show slots + 0 + 0 + 0 + 0 + 0 ≤ 0 by omega) hX hex hP hS h
        · exact cq_out hlocks (pq_nil htab rfl) (show cells + 0 + 0 + 0 + 0 ≤ 0 by omega) (show slots + 0 + 0 + 0 + 0 ≤ 0 by omega) hX hex hP hS h
      · exact cq_out hlocks (pq_nil htab rfl) (show cells + 0 + 0 + 0 ≤ 0 by omega) (show slots + 0 + 0 + 0 ≤ 0 by omega) hX hex hP hS h
  · exact cq_out hlocks (pq_nil htab rfl) (show cells + 0 + 0 ≤ 0 by omega) (show slots + 0 + 0 ≤ 0 by omega) hX hex hP hS h
theorem wm_Ne_plan_71 {p : Program} {l : Launch} {e : Env} {s : State} {m : MethodId} {args : Array Value} {below : List Frame} {meth : Method} {c : Code} {D : pq_D} {P0 : Pic} {po : Option Value → Pic → Prop} {th : String → Pic → Prop} (hfl : l.flags = flags0) (C : Cx p e s m args meth c prog_8_method_8_code 4 "WaterWorks$Net" D P0) (hmg : e.platform.magicAccessors = ({} : Platform).magicAccessors) (hr : meth.sig.returnType = (some .boolean)) (hin : meth.name = "plan") (htab : c.exceptionTable.toList = tableOf []) : ∀ n : Nat, ∀ (P : Pic) (a0 : Nat) (a1 : Nat) (x2 : Int32) (H : Heap) (locs : List Loc) (cells slots : Nat) (ls : Array Slot), wl_Ne_plan_71 po th n P a0 a1 x2 → Pi D P H → Sg (cq_A P0 s) s.heap H P locs → lv_has ls 4 [(0, .ref a0), (1, .ref a1), (2, .int x2)] → cells + 0 ≤ 0 → slots + 0 ≤ 0 → W p l e rm_Ne_plan s m args below meth c H locs cells slots (mt_MQ below (cq_Q D P0 false po th) args s 0 0 (cq_free P0 false)) (F0 m 71 ls []) := by
  intro n
  induction n with
  | zero => intro P a0 a1 x2 H locs cells slots ls h; exact h.elim
  | succ n ih => exact wk_Ne_plan_71 hfl C hmg hr hin htab ih
set_option maxHeartbeats 4000000 in
set_option maxRecDepth 100000 in
theorem wk_Ne_plan_15 {p : Program} {l : Launch} {e : Env} {s : State} {m : MethodId} {args : Array Value} {below : List Frame} {meth : Method} {c : Code} {D : pq_D} {P0 : Pic} {po : Option Value → Pic → Prop} {th : String → Pic → Prop} {K15 : Pic → Nat → Nat → Int32 → Prop} (hfl : l.flags = flags0) (C : Cx p e s m args meth c prog_8_method_8_code 4 "WaterWorks$Net" D P0) (hmg : e.platform.magicAccessors = ({} : Platform).magicAccessors) (hr : meth.sig.returnType = (some .boolean)) (hin : meth.name = "plan") (htab : c.exceptionTable.toList = tableOf []) (HK15 : ∀ (P : Pic) (a0 : Nat) (a1 : Nat) (x2 : Int32) (H : Heap) (locs : List Loc) (cells slots : Nat) (ls : Array Slot), K15 P a0 a1 x2 → Pi D P H → Sg (cq_A P0 s) s.heap H P locs → lv_has ls 4 [(0, .ref a0), (1, .ref a1), (2, .int x2)] → cells + 0 ≤ 0 → slots + 0 ≤ 0 → W p l e rm_Ne_plan s m args below meth c H locs cells slots (mt_MQ below (cq_Q D P0 false po th) args s 0 0 (cq_free P0 false)) (F0 m 15 ls [])) : ∀ (P : Pic) (a0 : Nat) (a1 : Nat) (x2 : Int32) (H : Heap) (locs : List Loc) (cells slots : Nat) (ls : Array Slot), wb_Ne_plan_15 po th K15 P a0 a1 x2 → Pi D P H → Sg (cq_A P0 s) s.heap H P locs → lv_has ls 4 [(0, .ref a0), (1, .ref a1), (2, .int x2)] → cells + 0 ≤ 0 → slots + 0 ≤ 0 → W p l e rm_Ne_plan s m args below meth c H locs cells slots (mt_MQ below (cq_Q D P0 false po th) args s 0 0 (cq_free P0 false)) (F0 m 15 ls []) := by
  intro P a0 a1 x2 H locs cells slots ls h hP hS hl hcc hss
  obtain ⟨hx, hb, hml, hown, hlocks, htr, hT, hK, hSt, hN, hP0⟩ := id C
  have L116_4 : pq_fl s m args 116 4 0 := ⟨_, "WaterWorks$Net", "WaterWorks$End", rfl, by decide, hown, Or.inr ⟨_, hT _ k_642 _⟩, (fun _ z => z)⟩
  have L120_4 : pq_fl s m args 120 4 1 := ⟨_, "WaterWorks$Net", "WaterWorks$End", rfl, by decide, hown, Or.inr ⟨_, hT _ k_644 _⟩, (fun _ z => z)⟩
  have L14_6 : pq_fl s m args 14 6 0 := ⟨_, "WaterWorks$Net", "WaterWorks$Net", rfl, by decide, hown, Or.inl (hT _ k_415 _), (fun _ z => z)⟩
  have L23_6 : pq_fl s m args 23 6 2 := ⟨_, "WaterWorks$Net", "WaterWorks$Net", rfl, by decide, hown, Or.inl (hT _ k_419 _), (fun _ z => z)⟩
  have L36_6 : pq_fl s m args 36 6 4 := ⟨_, "WaterWorks$Net", "WaterWorks$Net", rfl, by decide, hown, Or.inl (hT _ k_423 _), (fun _ z => z)⟩
  have L42_6 : pq_fl s m args 42 6 5 := ⟨_, "WaterWorks$Net", "WaterWorks$Net", rfl, by decide, hown, Or.inl (hT _ k_425 _), (fun _ z => z)⟩
  have L94_7 : pq_fl s m args 94 7 2 := ⟨_, "WaterWorks$Net", "WaterWorks$Node", rfl, by decide, hown, Or.inr ⟨_, hT _ k_510 _⟩, (fun _ z => z)⟩
  have L98_4 : pq_fl s m args 98 4 6 := ⟨_, "WaterWorks$Net", "WaterWorks$End", rfl, by decide, hown, Or.inr ⟨_, hT _ k_657 _⟩, (fun _ z => z)⟩
  unfold wb_Ne_plan_15 at h
  refine lv_iload_n (pc := 15) hx hb d_Ne_plan_15 rfl (lv_at hl 2 rfl) ?_
  refine lv_aload_n (pc := 16) hx hb d_Ne_plan_16 rfl (lv_at hl 0 rfl) ?_
  obtain ⟨hk106, h⟩ := h
  obtain ⟨a107, ea107, h⟩ := h
  refine pq_geta (pc := 17) (f := 240) hx hb hT hK hP L14_6 hk106 rfl ea107 d_Ne_plan_17 ?_
  obtain ⟨hk108, h⟩ := h
  refine cr_i (pc := 20) C (rest := [.int x2]) (mt_invV (As := []) hx hb hown (hT _ k_765 _) (hT _ k_472 _) (hT _ k_473 _) (mt_Cd.code (hT _ k_474 #[])) h_Ar_size (pq_recv hK hP hk108 rfl) n_Ar_size rfl d_Ne_plan_20) (ct_Ar_size hfl D h) k_474 k_5 ⟨Nat.le_of_ble_eq_true rfl, Nat.le_of_ble_eq_true rfl⟩ ⟨(show cells + 0 ≤ 0 by omega), (show slots + 0 ≤ 0 by omega)⟩ hl.1 d_Ne_plan_20 (Nat.le_of_ble_eq_true rfl) hP hS (fun x109 H locs h hP hS => ?_) (fun xx X H locs h hX hex hP hS => ?_)
  · refine lv_icmp_ge (pc := 23) (tgt := 69) hx hb d_Ne_plan_23 (by decide) (fun c121 => ?_) (fun c121 => ?_)
    · replace h := h.1 c121
      refine lv_iconst (pc := 69) (v := 0) hx hb d_Ne_plan_69 (by decide) ?_
      refine lv_istore_n (pc := 70) (lv' := [(2, .int (0 : Int32)), (0, .ref a0), (1, .ref a1)]) hx hb d_Ne_plan_70 rfl hl (by decide) rfl (fun ls hl => ?_)
      obtain ⟨n, h⟩ := h
      exact wm_Ne_plan_71 hfl C hmg hr hin htab n _ a0 a1 (0 : Int32) _ _ _ _ _ h hP hS (lv_sub hl [1, 2, 0] rfl) (show cells + 0 + 0 ≤ 0 by omega) (show slots + 0 + 0 ≤ 0 by omega)
    · replace h := h.2 c121
      refine lv_aload_n (pc := 26) hx hb d_Ne_plan_26 rfl (lv_at hl 0 rfl) ?_
      obtain ⟨a110, ea110, h⟩ := h
      refine pq_geta (pc := 27) (f := 240) hx hb hT hK hP L14_6 hk106 rfl ea110 d_Ne_plan_27 ?_
      refine lv_iload_n (pc := 30) hx hb d_Ne_plan_30 rfl (lv_at hl 2 rfl) ?_
      obtain ⟨hk111, h⟩ := h
      refine cr_a (pc := 31) C (rest := []) (mt_invV (As := [.int x2]) hx hb hown (hT _ k_766 _) (hT _ k_607 _) (hT _ k_608 _) (mt_Cd.code (hT _ k_609 #[])) h_Ar_get (pq_recv hK hP hk111 rfl) n_Ar_get rfl d_Ne_plan_31) (ct_Ar_get hfl D h) k_609 k_5 ⟨Nat.le_of_ble_eq_true rfl, Nat.le_of_ble_eq_true rfl⟩ ⟨(show cells + 0 + 0 ≤ 0 by omega), (show slots + 0 + 0 ≤ 0 by omega)⟩ hl.1 d_Ne_plan_31 (Nat.le_of_ble_eq_true rfl) hP hS (fun a112 H locs h hP hS => ?_) (fun xx X H locs h hX hex hP hS => ?_)
      · obtain ⟨hk113, h⟩ := h
        refine pq_cast (pc := 34) hx hb hT hK hP hown k_767 hk113 rfl k_1349 d_Ne_plan_34 ?_
        refine pq_geti (pc := 37) (f := 282) hx hb hT hK hP L94_7 hk113 rfl d_Ne_plan_37 ?_
        refine lv_if_eq (pc := 40) (tgt := 63) hx hb d_Ne_plan_40 (by decide) (fun c120 => ?_) (fun c120 => ?_)
        · replace h := h.1 c120
          exact wk_Ne_plan_63 hfl C hmg hr hin htab HK15 _ a0 a1 x2 _ _ _ _ _ h hP hS (lv_sub hl [0, 1, 2] rfl) (show cells + 0 + 0 + 0 ≤ 0 by omega) (show slots + 0 + 0 + 0 ≤ 0 by omega)
        · replace h := h.2 c120
          refine lv_aload_n (pc := 43) hx hb d_Ne_plan_43 rfl (lv_at hl 0 rfl) ?_
          refine lv_aload_n (pc := 44) hx hb d_Ne_plan_44 rfl (lv_at hl 0 rfl) ?_
          obtain ⟨a114, ea114, h⟩ := h
          refine pq_geta (pc := 45) (f := 240) hx hb hT hK hP L14_6 hk106 rfl ea114 d_Ne_plan_45 ?_
          refine lv_iload_n (pc := 48) hx hb d_Ne_plan_48 rfl (lv_at hl 2 rfl) ?_
          obtain ⟨hk115, h⟩ := h
          refine cr_a (pc := 49) C (rest := [.ref a0]) (mt_invV (As := [.int x2]) hx hb hown (hT _ k_766 _) (hT _ k_607 _) (hT _ k_608 _) (mt_Cd.code (hT _ k_609 #[])) h_Ar_get (pq_recv hK hP hk115 rfl) n_Ar_get rfl d_Ne_plan_49) (ct_Ar_get hfl D h) k_609 k_5 ⟨Nat.le_of_ble_eq_true rfl, Nat.le_of_ble_eq_true rfl⟩ ⟨(show cells + 0 + 0 + 0 ≤ 0 by omega), (show slots + 0 + 0 + 0 ≤ 0 by omega)⟩ hl.1 d_Ne_plan_49 (Nat.le_of_ble_eq_true rfl) hP hS (fun a116 H locs h hP hS => ?_) (fun xx X H locs h hX hex hP hS => ?_)
          · obtain ⟨hk117, h⟩ := h
            refine pq_castP (pc := 52) hx hb hT hK hP hown k_413 hk117 d_Ne_plan_52 ?_
            refine cr_i (pc := 55) C (rest := []) (mt_invV (As := [.ref a116]) hx hb hown (hT _ k_834 _) (hT _ k_808 _) (hT _ k_809 _) (mt_Cd.code (hT _ k_810 #[])) h_Ne_isReached (pq_recv hK hP hk106 rfl) n_Ne_isReached rfl d_Ne_plan_55) (ct_Ne_isReached hfl D h) k_810 k_2 ⟨Nat.le_of_ble_eq_true rfl, Nat.le_of_ble_eq_true rfl⟩ ⟨(show cells + 0 + 0 + 0 + 0 ≤ 0 by omega), (show slots + 0 + 0 + 0 + 0 ≤ 0 by omega)⟩ hl.1 d_Ne_plan_55 (Nat.le_of_ble_eq_true rfl) hP hS (fun x118 H locs h hP hS => ?_) (fun xx X H locs h hX hex hP hS => ?_)
            · refine lv_if_eq (pc := 58) (tgt := 63) hx hb d_Ne_plan_58 (by decide) (fun c119 => ?_) (fun c119 => ?_)
              · replace h := h.1 c119
                exact wk_Ne_plan_63 hfl C hmg hr hin htab HK15 _ a0 a1 x2 _ _ _ _ _ h hP hS (lv_sub hl [0, 1, 2] rfl) (show cells + 0 + 0 + 0 + 0 + 0 ≤ 0 by omega) (show slots + 0 + 0 + 0 + 0 + 0 ≤ 0 by omega)
              · replace h := h.2 c119
                refine lv_iconst (pc := 61) (v := 0) hx hb d_Ne_plan_61 (by decide) ?_
                exact we_z (pc := 62) hx hb hlocks hr hP hS (show cells + 0 + 0 + 0 + 0 + 0 ≤ 0 by omega) (show slots + 0 + 0 + 0 + 0 + 0 ≤ 0 by omega) (by decide) h d_Ne_plan_62
            · exact cq_out hlocks (pq_nil htab rfl) (show cells + 0 + 0 + 0 + 0 + 0 ≤ 0 by omega) (show slots + 0 + 0 + 0 + 0 + 0 ≤ 0 by omega) hX hex hP hS h
          · exact cq_out hlocks (pq_nil htab rfl) (show cells + 0 + 0 + 0 + 0 ≤ 0 by omega) (show slots + 0 + 0 + 0 + 0 ≤ 0 by omega) hX hex hP hS h
      · exact cq_out hlocks (pq_nil htab rfl) (show cells + 0 + 0 + 0 ≤ 0 by omega) (show slots + 0 + 0 + 0 ≤ 0 by omega) hX hex hP hS h
  · exact cq_out hlocks (pq_nil htab rfl) (show cells + 0 + 0 ≤ 0 by omega) (show slots + 0 + 0 ≤ 0 by omega) hX hex hP hS h
theorem wm_Ne_plan_15 {p : Program} {l : Launch} {e : Env} {s : State} {m : MethodId} {args : Array Value} {below : List Frame} {meth : Method} {c : Code} {D : pq_D} {P0 : Pic} {po : Option Value → Pic → Prop} {th : String → Pic → Prop} (hfl : l.flags = flags0) (C : Cx p e s m args meth c prog_8_method_8_code 4 "WaterWorks$Net" D P0) (hmg : e.platform.magicAccessors = ({} : Platform).magicAccessors) (hr : meth.sig.returnType = (some .boolean)) (hin : meth.name = "plan") (htab : c.exceptionTable.toList = tableOf []) : ∀ n : Nat, ∀ (P : Pic) (a0 : Nat) (a1 : Nat) (x2 : Int32) (H : Heap) (locs : List Loc) (cells slots : Nat) (ls : Array Slot), wl_Ne_plan_15 po th n P a0 a1 x2 → Pi D P H → Sg (cq_A P0 s) s.heap H P locs → lv_has ls 4 [(0, .ref a0), (1, .ref a1), (2, .int x2)] → cells + 0 ≤ 0 → slots + 0 ≤ 0 → W p l e rm_Ne_plan s m args below meth c H locs cells slots (mt_MQ below (cq_Q D P0 false po th) args s 0 0 (cq_free P0 false)) (F0 m 15 ls []) := by
  intro n
  induction n with
  | zero => intro P a0 a1 x2 H locs cells slots ls h; exact h.elim
  | succ n ih => exact wk_Ne_plan_15 hfl C hmg hr hin htab ih
set_option maxHeartbeats 4000000 in
set_option maxRecDepth 100000 in
theorem ct_Ne_plan {l : Launch} (hfl : l.flags = flags0) (D : pq_D) {po : Option Value → Pic → Prop} {th : String → Pic → Prop} {P : Pic} {a0 : Nat} {a1 : Nat} (h : wp_Ne_plan po th P a0 a1) : CT l D y_Ne_plan (.code y_Ne_plan prog_8_method_8_code 4 (some .boolean)) rm_Ne_plan false [.ref a0, .ref a1] P po th := by
  refine ct_of (hs := []) hfl (by decide +kernel) (Or.inl ⟨rfl, rfl⟩) (Nat.le_of_ble_eq_true rfl) ?_
  intro p e s m below meth c C hmg hr hin htab ls hl
  have hl : lv_has ls 4 [(0, .ref a0), (1, .ref a1)] := hl
  generalize hargs : ([.ref a0, .ref a1] : List Value).toArray = args at C ⊢
  obtain ⟨hx, hb, hml, hown, hlocks, htr, hT, hK, hSt, hN, hP0⟩ := id C
  have L116_4 : pq_fl s m args 116 4 0 := ⟨_, "WaterWorks$Net", "WaterWorks$End", rfl, by decide, hown, Or.inr ⟨_, hT _ k_642 _⟩, (fun _ z => z)⟩
  have L120_4 : pq_fl s m args 120 4 1 := ⟨_, "WaterWorks$Net", "WaterWorks$End", rfl, by decide, hown, Or.inr ⟨_, hT _ k_644 _⟩, (fun _ z => z)⟩
  have L14_6 : pq_fl s m args 14 6 0 := ⟨_, "WaterWorks$Net", "WaterWorks$Net", rfl, by decide, hown, Or.inl (hT _ k_415 _), (fun _ z => z)⟩
  have L23_6 : pq_fl s m args 23 6 2 := ⟨_, "WaterWorks$Net", "WaterWorks$Net", rfl, by decide, hown, Or.inl (hT _ k_419 _), (fun _ z => z)⟩
  have L36_6 : pq_fl s m args 36 6 4 := ⟨_, "WaterWorks$Net", "WaterWorks$Net", rfl, by decide, hown, Or.inl (hT _ k_423 _), (fun _ z => z)⟩
  have L42_6 : pq_fl s m args 42 6 5 := ⟨_, "WaterWorks$Net", "WaterWorks$Net", rfl, by decide, hown, Or.inl (hT _ k_425 _), (fun _ z => z)⟩
  have L94_7 : pq_fl s m args 94 7 2 := ⟨_, "WaterWorks$Net", "WaterWorks$Node", rfl, by decide, hown, Or.inr ⟨_, hT _ k_510 _⟩, (fun _ z => z)⟩
  have L98_4 : pq_fl s m args 98 4 6 := ⟨_, "WaterWorks$Net", "WaterWorks$End", rfl, by decide, hown, Or.inr ⟨_, hT _ k_657 _⟩, (fun _ z => z)⟩
  have hP : Pi D P s.heap := hP0
  have hS : Sg (cq_A P s) s.heap s.heap P [] := Sg.start hP0
  unfold wp_Ne_plan at h
  refine lv_aload_n (pc := 0) hx hb d_Ne_plan_0 rfl (lv_at hl 0 rfl) ?_
  obtain ⟨hk101, h⟩ := h
  refine cc_v (pc := 1) C (rest := []) (mt_invV (As := []) hx hb hown (hT _ k_826 _) (hT _ k_828 _) (hT _ ks_10 _) (mt_Cd.code (hT _ k_829 #[])) h_Ne_forgetPlan (pq_recv hK hP hk101 rfl) n_Ne_forgetPlan rfl d_Ne_plan_1) (ct_Ne_forgetPlan hfl D h) k_829 k_2 ⟨Nat.le_of_ble_eq_true rfl, Nat.le_of_ble_eq_true rfl⟩ ⟨(show 0 + 0 ≤ 0 by omega), (show 0 + 0 ≤ 0 by omega)⟩ hl.1 d_Ne_plan_1 (Nat.le_of_ble_eq_true rfl) hP hS (fun P102 H locs h hP hS => ?_) (fun xx X P102 H locs h hX hex hP hS => ?_)
  · refine lv_aload_n (pc := 4) hx hb d_Ne_plan_4 rfl (lv_at hl 0 rfl) ?_
    refine lv_aload_n (pc := 5) hx hb d_Ne_plan_5 rfl (lv_at hl 1 rfl) ?_
    refine lv_aload_n (pc := 6) hx hb d_Ne_plan_6 rfl (lv_at hl 0 rfl) ?_
    obtain ⟨hk103, h⟩ := h
    obtain ⟨a104, ea104, h⟩ := h
    refine pq_geta (pc := 7) (f := 245) hx hb hT hK hP L42_6 hk103 rfl ea104 d_Ne_plan_7 ?_
    refine cc_v (pc := 10) C (rest := []) (mt_invV (As := [.ref a1, .ref a104]) hx hb hown (hT _ k_830 _) (hT _ k_831 _) (hT _ k_832 _) (mt_Cd.code (hT _ k_833 #[])) h_Ne_from (pq_recv hK hP hk103 rfl) n_Ne_from rfl d_Ne_plan_10) (ct_Ne_from hfl D h) k_833 k_2 ⟨Nat.le_of_ble_eq_true rfl, Nat.le_of_ble_eq_true rfl⟩ ⟨(show 0 + 0 + 0 ≤ 0 by omega), (show 0 + 0 + 0 ≤ 0 by omega)⟩ hl.1 d_Ne_plan_10 (Nat.le_of_ble_eq_true rfl) hP hS (fun P105 H locs h hP hS => ?_) (fun xx X P105 H locs h hX hex hP hS => ?_)
    · refine lv_iconst (pc := 13) (v := 0) hx hb d_Ne_plan_13 (by decide) ?_
      refine lv_istore_n (pc := 14) (lv' := [(2, .int (0 : Int32)), (0, .ref a0), (1, .ref a1)]) hx hb d_Ne_plan_14 rfl hl (by decide) rfl (fun ls hl => ?_)
      obtain ⟨n, h⟩ := h
      exact wm_Ne_plan_15 hfl C hmg hr hin htab n _ a0 a1 (0 : Int32) _ _ _ _ _ h hP hS (lv_sub hl [1, 2, 0] rfl) (show 0 + 0 + 0 + 0 ≤ 0 by omega) (show 0 + 0 + 0 + 0 ≤ 0 by omega)
    · exact cq_out hlocks (pq_nil htab rfl) (show 0 + 0 + 0 + 0 ≤ 0 by omega) (show 0 + 0 + 0 + 0 ≤ 0 by omega) hX hex hP hS h
  · exact cq_out hlocks (pq_nil htab rfl) (show 0 + 0 + 0 ≤ 0 by omega) (show 0 + 0 + 0 ≤ 0 by omega) hX hex hP hS h
/-! WaterWorks$Net.planned()I -/
abbrev y_Ne_planned : MethodName := ⟨"WaterWorks$Net", "planned", "()I"⟩
abbrev rm_Ne_planned : Room := { frames := 4, cells := 0, slots := 0, locals := 104 }
theorem h_Ne_planned : y_Ne_planned.cls ≠ "java/lang/invoke/MethodHandle" ∧ y_Ne_planned.cls ≠ "java/lang/invoke/VarHandle" := by decide +kernel
theorem n_Ne_planned : (parseMethodDescriptor y_Ne_planned.desc).map (fun d => d.parameters.length) = some 0 := by decide +kernel
theorem d_Ne_planned_0 : decode prog_8_method_9_code 0 = .ok (.iconst 0, 1) := by decide +kernel
theorem d_Ne_planned_1 : decode prog_8_method_9_code 1 = .ok (.istore_n 1, 1) := by decide +kernel
theorem d_Ne_planned_2 : decode prog_8_method_9_code 2 = .ok (.iconst 0, 1) := by decide +kernel
theorem d_Ne_planned_3 : decode prog_8_method_9_code 3 = .ok (.istore_n 2, 1) := by decide +kernel
theorem d_Ne_planned_4 : decode prog_8_method_9_code 4 = .ok (.iload_n 2, 1) := by decide +kernel
theorem d_Ne_planned_5 : decode prog_8_method_9_code 5 = .ok (.aload_n 0, 1) := by decide +kernel
theorem d_Ne_planned_6 : decode prog_8_method_9_code 6 = .ok (.getfield 23, 3) := by decide +kernel
theorem d_Ne_planned_9 : decode prog_8_method_9_code 9 = .ok (.invokevirtual 64, 3) := by decide +kernel
theorem d_Ne_planned_12 : decode prog_8_method_9_code 12 = .ok (.if_icmp .ge 34, 3) := by decide +kernel
theorem d_Ne_planned_15 : decode prog_8_method_9_code 15 = .ok (.iload_n 1, 1) := by decide +kernel
theorem d_Ne_planned_16 : decode prog_8_method_9_code 16 = .ok (.aload_n 0, 1) := by decide +kernel
theorem d_Ne_planned_17 : decode prog_8_method_9_code 17 = .ok (.getfield 23, 3) := by decide +kernel
theorem d_Ne_planned_20 : decode prog_8_method_9_code 20 = .ok (.iload_n 2, 1) := by decide +kernel
theorem d_Ne_planned_21 : decode prog_8_method_9_code 21 = .ok (.invokevirtual 68, 3) := by decide +kernel
theorem d_Ne_planned_24 : decode prog_8_method_9_code 24 = .ok (.checkcast 72, 3) := by decide +kernel
theorem d_Ne_planned_27 : decode prog_8_method_9_code 27 = .ok (.getfield 98, 3) := by decide +kernel
theorem d_Ne_planned_30 : decode prog_8_method_9_code 30 = .ok (.ifCond .eq 7, 3) := by decide +kernel
theorem d_Ne_planned_33 : decode prog_8_method_9_code 33 = .ok (.iconst 1, 1) := by decide +kernel
theorem d_Ne_planned_34 : decode prog_8_method_9_code 34 = .ok (.goto 4, 3) := by decide +kernel
theorem d_Ne_planned_37 : decode prog_8_method_9_code 37 = .ok (.iconst 0, 1) := by decide +kernel
theorem d_Ne_planned_38 : decode prog_8_method_9_code 38 = .ok (.iadd, 1) := by decide +kernel
theorem d_Ne_planned_39 : decode prog_8_method_9_code 39 = .ok (.istore_n 1, 1) := by decide +kernel
theorem d_Ne_planned_40 : decode prog_8_method_9_code 40 = .ok (.iinc 2 1, 3) := by decide +kernel
theorem d_Ne_planned_43 : decode prog_8_method_9_code 43 = .ok (.goto (-39), 3) := by decide +kernel
theorem d_Ne_planned_46 : decode prog_8_method_9_code 46 = .ok (.iload_n 1, 1) := by decide +kernel
theorem d_Ne_planned_47 : decode prog_8_method_9_code 47 = .ok (.ireturn, 1) := by decide +kernel
def wb_Ne_planned_38 (po : Option Value → Pic → Prop) (th : String → Pic → Prop) (K4 : Pic → Nat → Int32 → Int32 → Prop) (P : Pic) (a0 : Nat) (x2 : Int32) (t0 : Int32) (t1 : Int32) : Prop := ∀ (x111 : Int32), x111 = (t1 + t0) → ∀ (x112 : Int32), x112 = x2 + 1 → K4 P a0 x111 x112
def wb_Ne_planned_4 (po : Option Value → Pic → Prop) (th : String → Pic → Prop) (K4 : Pic → Nat → Int32 → Int32 → Prop) (P : Pic) (a0 : Nat) (x1 : Int32) (x2 : Int32) : Prop := p_k P a0 = 7 ∧ ∃ a102, p_r P 242 a0 = some a102 ∧ p_k P a102 = 14 ∧ wp_Ar_size (cp_i fun x104 _ => ((x104 ≤ x2 → (po (some (.int x1)) P)) ∧ (¬ x104 ≤ x2 → (∃ a105, p_r P 242 a0 = some a105 ∧ p_k P a105 = 14 ∧ wp_Ar_get (cp_a fun a107 _ => p_k P a107 = 5 ∧ (((p_i P 166 a107) = 0 → (wb_Ne_planned_38 po th K4 P a0 x2 (0 : Int32) x1)) ∧ (¬ (p_i P 166 a107) = 0 → (wb_Ne_planned_38 po th K4 P a0 x2 (1 : Int32) x1)))) th P a105 x2)))) th P a102
def wl_Ne_planned_4 (po : Option Value → Pic → Prop) (th : String → Pic → Prop) : Nat → Pic → Nat → Int32 → Int32 → Prop
  | 0 => fun _ _ _ _ => False
  | n + 1 => wb_Ne_planned_4 po th (wl_Ne_planned_4 po th n)
def wp_Ne_planned (po : Option Value → Pic → Prop) (th : String → Pic → Prop) (P : Pic) (a0 : Nat) : Prop := ∃ n, wl_Ne_planned_4 po th n P a0 (0 : Int32) (0 : Int32)
set_option maxHeartbeats 4000000 in
set_option maxRecDepth 100000 in
theorem wk_Ne_planned_38 {p : Program} {l : Launch} {e : Env} {s : State} {m : MethodId} {args : Array Value} {below : List Frame} {meth : Method} {c : Code} {D : pq_D} {P : Pic} {po : Option Value → Pic → Prop} {th : String → Pic → Prop} {K4 : Pic → Nat → Int32 → Int32 → Prop} (hfl : l.flags = flags0) (C : Cx p e s m args meth c prog_8_method_9_code 3 "WaterWorks$Net" D P) (hmg : e.platform.magicAccessors = ({} : Platform).magicAccessors) (hr : meth.sig.returnType = (some .int)) (hin : meth.name = "planned") (htab : c.exceptionTable.toList = tableOf []) (HK4 : ∀ (a0 : Nat) (x1 : Int32) (x2 : Int32) (H : Heap) (cells slots : Nat) (ls : Array Slot), K4 P a0 x1 x2 → So s.heap H → lv_has ls 3 [(0, .ref a0), (1, .int x1), (2, .int x2)] → cells + 0 ≤ 0 → slots + 0 ≤ 0 → W p l e rm_Ne_planned s m args below meth c H [] cells slots (mt_MQ below (cq_Q D P true po th) args s 0 0 (cq_free P true)) (F0 m 4 ls [])) : ∀ (a0 : Nat) (x2 : Int32) (t0 : Int32) (t1 : Int32) (H : Heap) (cells slots : Nat) (ls : Array Slot), wb_Ne_planned_38 po th K4 P a0 x2 t0 t1 → So s.heap H → lv_has ls 3 [(0, .ref a0), (2, .int x2)] → cells + 0 ≤ 0 → slots + 0 ≤ 0 → W p l e rm_Ne_planned s m args below meth c H [] cells slots (mt_MQ below (cq_Q D P true po th) args s 0 0 (cq_free P true)) (F0 m 38 ls [.int t0, .int t1]) := by
  intro a0 x2 t0 t1 H cells slots ls h hO hl hcc hss
  obtain ⟨hx, hb, hml, hown, hlocks, htr, hT, hK, hSt, hN, hP0⟩ := id C
  have L23_6 : pq_fl s m args 23 6 2 := ⟨_, "WaterWorks$Net", "WaterWorks$Net", rfl, by decide, hown, Or.inl (hT _ k_419 _), (fun _ z => z)⟩
  have L98_4 : pq_fl s m args 98 4 6 := ⟨_, "WaterWorks$Net", "WaterWorks$End", rfl, by decide, hown, Or.inr ⟨_, hT _ k_657 _⟩, (fun _ z => z)⟩
  have hP : Pi D P H := So.pi hP0 hO
  unfold wb_Ne_planned_38 at h
  refine lv_iadd (pc := 38) hx hb d_Ne_planned_38 ?_
  refine lv_topi (fun x111 ex111 => ?_)
  replace h := h x111 ex111
  refine lv_istore_n (pc := 39) (lv' := [(1, .int x111), (0, .ref a0), (2, .int x2)]) hx hb d_Ne_planned_39 rfl hl (by decide) rfl (fun ls hl => ?_)
  obtain ⟨x112, ex112⟩ : ∃ z : Int32, z = x2 + 1 := ⟨_, rfl⟩
  replace h := h x112 ex112
  refine lv_iinc (pc := 40) (v := x112) (lv' := [(2, .int x112), (1, .int x111), (0, .ref a0)]) hx hb d_Ne_planned_40 hl (k := 2) rfl (by rw [ex112]; rfl) (by decide) rfl (fun ls hl => ?_)
  refine lv_goto (pc := 43) (tgt := 4) hx hb d_Ne_planned_43 (by decide) ?_
  exact HK4 a0 x111 x112 _ _ _ _ h hO (lv_sub hl [2, 1, 0] rfl) (show cells + 0 ≤ 0 by omega) (show slots + 0 ≤ 0 by omega)
set_option maxHeartbeats 4000000 in
set_option maxRecDepth 100000 in
theorem wk_Ne_planned_4 {p : Program} {l : Launch} {e : Env} {s : State} {m : MethodId} {args : Array Value} {below : List Frame} {meth : Method} {c : Code} {D : pq_D} {P : Pic} {po : Option Value → Pic → Prop} {th : String → Pic → Prop} {K4 : Pic → Nat → Int32 → Int32 → Prop} (hfl : l.flags = flags0) (C : Cx p e s m args meth c prog_8_method_9_code 3 "WaterWorks$Net" D P) (hmg : e.platform.magicAccessors = ({} : Platform).magicAccessors) (hr : meth.sig.returnType = (some .int)) (hin : meth.name = "planned") (htab : c.exceptionTable.toList = tableOf []) (HK4 : ∀ (a0 : Nat) (x1 : Int32) (x2 : Int32) (H : Heap) (cells slots : Nat) (ls : Array Slot), K4 P a0 x1 x2 → So s.heap H → lv_has ls 3 [(0, .ref a0), (1, .int x1), (2, .int x2)] → cells + 0 ≤ 0 → slots + 0 ≤ 0 → W p l e rm_Ne_planned s m args below meth c H [] cells slots (mt_MQ below (cq_Q D P true po th) args s 0 0 (cq_free P true)) (F0 m 4 ls [])) : ∀ (a0 : Nat) (x1 : Int32) (x2 : Int32) (H : Heap) (cells slots : Nat) (ls : Array Slot), wb_Ne_planned_4 po th K4 P a0 x1 x2 → So s.heap H → lv_has ls 3 [(0, .ref a0), (1, .int x1), (2, .int x2)] → cells + 0 ≤ 0 → slots + 0 ≤ 0 → W p l e rm_Ne_planned s m args below meth c H [] cells slots (mt_MQ below (cq_Q D P true po th) args s 0 0 (cq_free P true)) (F0 m 4 ls []) := by
  intro a0 x1 x2 H cells slots ls h hO hl hcc hss
  obtain ⟨hx, hb, hml, hown, hlocks, htr, hT, hK, hSt, hN, hP0⟩ := id C
  have L23_6 : pq_fl s m args 23 6 2 := ⟨_, "WaterWorks$Net", "WaterWorks$Net", rfl, by decide, hown, Or.inl (hT _ k_419 _), (fun _ z => z)⟩
  have L98_4 : pq_fl s m args 98 4 6 := ⟨_, "WaterWorks$Net", "WaterWorks$End", rfl, by decide, hown, Or.inr ⟨_, hT _ k_657 _⟩, (fun _ z => z)⟩
  have hP : Pi D P H := So.pi hP0 hO
  unfold wb_Ne_planned_4 at h
  refine lv_iload_n (pc := 4) hx hb d_Ne_planned_4 rfl (lv_at hl 2 rfl) ?_
  refine lv_aload_n (pc := 5) hx hb d_Ne_planned_5 rfl (lv_at hl 0 rfl) ?_
  obtain ⟨hk101, h⟩ := h
  obtain ⟨a102, ea102, h⟩ := h
  refine pq_geta (pc := 6) (f := 242) hx hb hT hK hP L23_6 hk101 rfl ea102 d_Ne_planned_6 ?_
  obtain ⟨hk103, h⟩ := h
  refine co_i (pc := 9) C (rest := [.int x2]) (mt_invV (As := []) hx hb hown (hT _ k_765 _) (hT _ k_472 _) (hT _ k_473 _) (mt_Cd.code (hT _ k_474 #[])) h_Ar_size (pq_recv hK hP hk103 rfl) n_Ar_size rfl d_Ne_planned_9) (ct_Ar_size hfl D h) k_474 k_5 ⟨Nat.le_of_ble_eq_true rfl, Nat.le_of_ble_eq_true rfl⟩ ⟨(show cells + 0 ≤ 0 by omega), (show slots + 0 ≤ 0 by omega)⟩ hl.1 d_Ne_planned_9 (Nat.le_of_ble_eq_true rfl) hO (fun x104 H h hO => ?_) (fun xx X H h hX hex hO => ?_)
  · have hP : Pi D P H := So.pi hP0 hO
    refine lv_icmp_ge (pc := 12) (tgt := 46) hx hb d_Ne_planned_12 (by decide) (fun c110 => ?_) (fun c110 => ?_)
    · replace h := h.1 c110
      refine lv_iload_n (pc := 46) hx hb d_Ne_planned_46 rfl (lv_at hl 1 rfl) ?_
      exact wo_i (pc := 47) hx hb hlocks hr hP0 hO (show cells + 0 + 0 ≤ 0 by omega) (show slots + 0 + 0 ≤ 0 by omega) h d_Ne_planned_47
    · replace h := h.2 c110
      refine lv_iload_n (pc := 15) hx hb d_Ne_planned_15 rfl (lv_at hl 1 rfl) ?_
      refine lv_aload_n (pc := 16) hx hb d_Ne_planned_16 rfl (lv_at hl 0 rfl) ?_
      obtain ⟨a105, ea105, h⟩ := h
      refine pq_geta (pc := 17) (f := 242) hx hb hT hK hP L23_6 hk101 rfl ea105 d_Ne_planned_17 ?_
      refine lv_iload_n (pc := 20) hx hb d_Ne_planned_20 rfl (lv_at hl 2 rfl) ?_
      obtain ⟨hk106, h⟩ := h
      refine co_a (pc := 21) C (rest := [.int x1]) (mt_invV (As := [.int x2]) hx hb hown (hT _ k_766 _) (hT _ k_607 _) (hT _ k_608 _) (mt_Cd.code (hT _ k_609 #[])) h_Ar_get (pq_recv hK hP hk106 rfl) n_Ar_get rfl d_Ne_planned_21) (ct_Ar_get hfl D h) k_609 k_5 ⟨Nat.le_of_ble_eq_true rfl, Nat.le_of_ble_eq_true rfl⟩ ⟨(show cells + 0 + 0 ≤ 0 by omega), (show slots + 0 + 0 ≤ 0 by omega)⟩ hl.1 d_Ne_planned_21 (Nat.le_of_ble_eq_true rfl) hO (fun a107 H h hO => ?_) (fun xx X H h hX hex hO => ?_)
      · have hP : Pi D P H := So.pi hP0 hO
        obtain ⟨hk108, h⟩ := h
        refine pq_cast (pc := 24) hx hb hT hK hP hown k_776 hk108 rfl k_1350 d_Ne_planned_24 ?_
        refine pq_geti (pc := 27) (f := 166) hx hb hT hK hP L98_4 hk108 rfl d_Ne_planned_27 ?_
        refine lv_if_eq (pc := 30) (tgt := 37) hx hb d_Ne_planned_30 (by decide) (fun c109 => ?_) (fun c109 => ?_)
        · replace h := h.1 c109
          refine lv_iconst (pc := 37) (v := 0) hx hb d_Ne_planned_37 (by decide) ?_
          exact wk_Ne_planned_38 hfl C hmg hr hin htab HK4 a0 x2 (0 : Int32) x1 _ _ _ _ h hO (lv_sub hl [0, 2] rfl) (show cells + 0 + 0 + 0 ≤ 0 by omega) (show slots + 0 + 0 + 0 ≤ 0 by omega)
        · replace h := h.2 c109
          refine lv_iconst (pc := 33) (v := 1) hx hb d_Ne_planned_33 (by decide) ?_
          refine lv_goto (pc := 34) (tgt := 38) hx hb d_Ne_planned_34 (by decide) ?_
          exact wk_Ne_planned_38 hfl C hmg hr hin htab HK4 a0 x2 (1 : Int32) x1 _ _ _ _ h hO (lv_sub hl [0, 2] rfl) (show cells + 0 + 0 + 0 ≤ 0 by omega) (show slots + 0 + 0 + 0 ≤ 0 by omega)
      · exact cq_outo hlocks (pq_nil htab rfl) (show cells + 0 + 0 + 0 ≤ 0 by omega) (show slots + 0 + 0 + 0 ≤ 0 by omega) hX hex hP0 hO h
  · exact cq_outo hlocks (pq_nil htab rfl) (show cells + 0 + 0 ≤ 0 by omega) (show slots + 0 + 0 ≤ 0 by omega) hX hex hP0 hO h
theorem wm_Ne_planned_4 {p : Program} {l : Launch} {e : Env} {s : State} {m : MethodId} {args : Array Value} {below : List Frame} {meth : Method} {c : Code} {D : pq_D} {P : Pic} {po : Option Value → Pic → Prop} {th : String → Pic → Prop} (hfl : l.flags = flags0) (C : Cx p e s m args meth c prog_8_method_9_code 3 "WaterWorks$Net" D P) (hmg : e.platform.magicAccessors = ({} : Platform).magicAccessors) (hr : meth.sig.returnType = (some .int)) (hin : meth.name = "planned") (htab : c.exceptionTable.toList = tableOf []) : ∀ n : Nat, ∀ (a0 : Nat) (x1 : Int32) (x2 : Int32) (H : Heap) (cells slots : Nat) (ls : Array Slot), wl_Ne_planned_4 po th n P a0 x1 x2 → So s.heap H → lv_has ls 3 [(0, .ref a0), (1, .int x1), (2, .int x2)] → cells + 0 ≤ 0 → slots + 0 ≤ 0 → W p l e rm_Ne_planned s m args below meth c H [] cells slots (mt_MQ below (cq_Q D P true po th) args s 0 0 (cq_free P true)) (F0 m 4 ls []) := by
  intro n
  induction n with
  | zero => intro a0 x1 x2 H cells slots ls h; exact h.elim
  | succ n ih => exact wk_Ne_planned_4 hfl C hmg hr hin htab ih
set_option maxHeartbeats 4000000 in
set_option maxRecDepth 100000 in
theorem ct_Ne_planned {l : Launch} (hfl : l.flags = flags0) (D : pq_D) {po : Option Value → Pic → Prop} {th : String → Pic → Prop} {P : Pic} {a0 : Nat} (h : wp_Ne_planned po th P a0) : CT l D y_Ne_planned (.code y_Ne_planned prog_8_method_9_code 3 (some .int)) rm_Ne_planned true [.ref a0] P po th := by
  refine ct_of (hs := []) hfl (by decide +kernel) (Or.inl ⟨rfl, rfl⟩) (Nat.le_of_ble_eq_true rfl) ?_
  intro p e s m below meth c C hmg hr hin htab ls hl
  have hl : lv_has ls 3 [(0, .ref a0)] := hl
  generalize hargs : ([.ref a0] : List Value).toArray = args at C ⊢
  obtain ⟨hx, hb, hml, hown, hlocks, htr, hT, hK, hSt, hN, hP0⟩ := id C
  have L23_6 : pq_fl s m args 23 6 2 := ⟨_, "WaterWorks$Net", "WaterWorks$Net", rfl, by decide, hown, Or.inl (hT _ k_419 _), (fun _ z => z)⟩
  have L98_4 : pq_fl s m args 98 4 6 := ⟨_, "WaterWorks$Net", "WaterWorks$End", rfl, by decide, hown, Or.inr ⟨_, hT _ k_657 _⟩, (fun _ z => z)⟩
  have hO : So s.heap s.heap := So.rf
  have hP : Pi D P s.heap := hP0
  unfold wp_Ne_planned at h
  refine lv_iconst (pc := 0) (v := 0) hx hb d_Ne_planned_0 (by decide) ?_
  refine lv_istore_n (pc := 1) (lv' := [(1, .int (0 : Int32)), (0, .ref a0)]) hx hb d_Ne_planned_1 rfl hl (by decide) rfl (fun ls hl => ?_)
  refine lv_iconst (pc := 2) (v := 0) hx hb d_Ne_planned_2 (by decide) ?_
  refine lv_istore_n (pc := 3) (lv' := [(2, .int (0 : Int32)), (1, .int (0 : Int32)), (0, .ref a0)]) hx hb d_Ne_planned_3 rfl hl (by decide) rfl (fun ls hl => ?_)
  obtain ⟨n, h⟩ := h
  exact wm_Ne_planned_4 hfl C hmg hr hin htab n a0 (0 : Int32) (0 : Int32) _ _ _ _ h hO (lv_sub hl [2, 1, 0] rfl) (show 0 + 0 ≤ 0 by omega) (show 0 + 0 ≤ 0 by omega)
