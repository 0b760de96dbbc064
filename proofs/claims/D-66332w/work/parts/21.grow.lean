/-! java/util/Arrays.copyOf([Ljava/lang/Object;ILjava/lang/Class;)[Ljava/lang/Object; -/
abbrev y_Ay_copyC : MethodName := ⟨"java/util/Arrays", "copyOf", "([Ljava/lang/Object;ILjava/lang/Class;)[Ljava/lang/Object;"⟩
abbrev rm_Ay_copyC : Room := { frames := 2, cells := 1, slots := 64, locals := 61 }
theorem h_Ay_copyC : y_Ay_copyC.cls ≠ "java/lang/invoke/MethodHandle" ∧ y_Ay_copyC.cls ≠ "java/lang/invoke/VarHandle" := by decide +kernel
theorem n_Ay_copyC : (parseMethodDescriptor y_Ay_copyC.desc).map (fun d => d.parameters.length) = some 3 := by decide +kernel
theorem d_Ay_copyC_0 : decode prog_37_method_120_code 0 = .ok (.aload_n 2, 1) := by decide +kernel
theorem d_Ay_copyC_1 : decode prog_37_method_120_code 1 = .ok (.ldc 110, 2) := by decide +kernel
theorem d_Ay_copyC_3 : decode prog_37_method_120_code 3 = .ok (.if_acmp .ne 10, 3) := by decide +kernel
theorem d_Ay_copyC_6 : decode prog_37_method_120_code 6 = .ok (.iload_n 1, 1) := by decide +kernel
theorem d_Ay_copyC_7 : decode prog_37_method_120_code 7 = .ok (.anewarray 2, 3) := by decide +kernel
theorem d_Ay_copyC_10 : decode prog_37_method_120_code 10 = .ok (.goto 14, 3) := by decide +kernel
theorem d_Ay_copyC_13 : decode prog_37_method_120_code 13 = .ok (.aload_n 2, 1) := by decide +kernel
theorem d_Ay_copyC_24 : decode prog_37_method_120_code 24 = .ok (.astore_n 3, 1) := by decide +kernel
theorem d_Ay_copyC_25 : decode prog_37_method_120_code 25 = .ok (.aload_n 0, 1) := by decide +kernel
theorem d_Ay_copyC_26 : decode prog_37_method_120_code 26 = .ok (.iconst 0, 1) := by decide +kernel
theorem d_Ay_copyC_27 : decode prog_37_method_120_code 27 = .ok (.aload_n 3, 1) := by decide +kernel
theorem d_Ay_copyC_28 : decode prog_37_method_120_code 28 = .ok (.iconst 0, 1) := by decide +kernel
theorem d_Ay_copyC_29 : decode prog_37_method_120_code 29 = .ok (.aload_n 0, 1) := by decide +kernel
theorem d_Ay_copyC_30 : decode prog_37_method_120_code 30 = .ok (.arraylength, 1) := by decide +kernel
theorem d_Ay_copyC_31 : decode prog_37_method_120_code 31 = .ok (.iload_n 1, 1) := by decide +kernel
theorem d_Ay_copyC_32 : decode prog_37_method_120_code 32 = .ok (.invokestatic 304, 3) := by decide +kernel
theorem d_Ay_copyC_35 : decode prog_37_method_120_code 35 = .ok (.invokestatic 150, 3) := by decide +kernel
theorem d_Ay_copyC_38 : decode prog_37_method_120_code 38 = .ok (.aload_n 3, 1) := by decide +kernel
theorem d_Ay_copyC_39 : decode prog_37_method_120_code 39 = .ok (.areturn, 1) := by decide +kernel
def wp_Ay_copyC (po : Option Value → Pic → Prop) (th : String → Pic → Prop) (P : Pic) (a0 : Nat) (x1 : Int32) (a2 : Nat) : Prop := ((¬ a2 = (p_m P) → (False)) ∧ (a2 = (p_m P) → ((¬ x1 < 0 ∧ Int32.toNatClampNeg x1 ≤ 64) ∧ ∀ (q101 : Nat), p_z P ≤ q101 → p_k (s_arr P q101 3 (Int32.toNatClampNeg x1)) a0 = 104 ∧ wp_Ma_min (cp_i fun x104 _ => (¬ (0 : Int32) < 0 ∧ ¬ (0 : Int32) < 0 ∧ ¬ x104 < 0 ∧ Int32.toNatClampNeg (0 : Int32) + Int32.toNatClampNeg x104 ≤ p_n (s_arr P q101 3 (Int32.toNatClampNeg x1)) a0 ∧ Int32.toNatClampNeg (0 : Int32) + Int32.toNatClampNeg x104 ≤ p_n (s_arr P q101 3 (Int32.toNatClampNeg x1)) q101 ∧ ∃ k, Ob k ∧ ∀ i : Nat, i < Int32.toNatClampNeg x104 → ∀ y : Nat, p_aq (s_arr P q101 3 (Int32.toNatClampNeg x1)) a0 (Int32.toNatClampNeg (0 : Int32) + i) = some y → p_k (s_arr P q101 3 (Int32.toNatClampNeg x1)) y = k) ∧ ∀ (P106 : Pic), P106 = s_cpy (s_arr P q101 3 (Int32.toNatClampNeg x1)) a0 q101 (Int32.toNatClampNeg (0 : Int32)) (Int32.toNatClampNeg (0 : Int32)) (Int32.toNatClampNeg x104) → po (some (.ref q101)) P106) th (s_arr P q101 3 (Int32.toNatClampNeg x1)) (nI (p_n (s_arr P q101 3 (Int32.toNatClampNeg x1)) a0)) x1)))
set_option maxHeartbeats 4000000 in
set_option maxRecDepth 100000 in
theorem ct_Ay_copyC {l : Launch} (hfl : l.flags = flags0) (D : pq_D) {po : Option Value → Pic → Prop} {th : String → Pic → Prop} {P : Pic} {a0 : Nat} {x1 : Int32} {a2 : Nat} (h : wp_Ay_copyC po th P a0 x1 a2) : CT l D y_Ay_copyC (.code y_Ay_copyC prog_37_method_120_code 4 (some (.array (.object "java/lang/Object")))) rm_Ay_copyC false [.ref a0, .int x1, .ref a2] P po th := by
  refine ct_of (hs := []) hfl (by decide +kernel) (Or.inl ⟨rfl, rfl⟩) (Nat.le_of_ble_eq_true rfl) ?_
  intro p e s m below meth c C hmg hr hin htab ls hl
  have hl : lv_has ls 4 [(0, .ref a0), (1, .int x1), (2, .ref a2)] := hl
  generalize hargs : ([.ref a0, .int x1, .ref a2] : List Value).toArray = args at C ⊢
  obtain ⟨hx, hb, hml, hown, hlocks, htr, hT, hK, hSt, hN, hP0⟩ := id C
  have hP : Pi D P s.heap := hP0
  have hS : Sg (cq_A P s) s.heap s.heap P [] := Sg.start hP0
  unfold wp_Ay_copyC at h
  refine lv_aload_n (pc := 0) hx hb d_Ay_copyC_0 rfl (lv_at hl 2 rfl) ?_
  refine pq_ldcM (pc := 1) hx hb hown (hT _ k_572 _) hN hP d_Ay_copyC_1 ?_
  refine lv_ane (pc := 3) (tgt := 13) hx hb d_Ay_copyC_3 (by decide) (fun c107 => ?_) (fun c107 => ?_)
  · replace h := h.1 c107
    refine lv_aload_n (pc := 13) hx hb d_Ay_copyC_13 rfl (lv_at hl 2 rfl) ?_
    exact h.elim
  · replace h := h.2 c107
    refine lv_iload_n (pc := 6) hx hb d_Ay_copyC_6 rfl (lv_at hl 1 rfl) ?_
    obtain ⟨hn102, h⟩ := h
    refine pq_newq (pc := 7) (t := 3) (N := 64) hx hb hK hP hS hown (hT _ k_573 _) (hT _ k_64 _) (by simp) hn102.1 hn102.2 (by decide) (show 0 + 1 ≤ 1 by omega) (show 0 + 64 ≤ 64 by omega) d_Ay_copyC_7 (fun q101 H hq101 hP1 hS => ?_)
    replace h := h q101 hq101
    have hkq101 : p_k (s_arr P q101 3 (Int32.toNatClampNeg x1)) q101 = 104 := pk_arrq _ _ _ _
    replace hP := hP1
    clear hP1
    refine lv_goto (pc := 10) (tgt := 24) hx hb d_Ay_copyC_10 (by decide) ?_
    refine lv_astore_n (pc := 24) (lv' := [(3, .ref q101), (0, .ref a0), (1, .int x1), (2, .ref a2)]) hx hb d_Ay_copyC_24 rfl hl (by decide) rfl (fun ls hl => ?_)
    refine lv_aload_n (pc := 25) hx hb d_Ay_copyC_25 rfl (lv_at hl 1 rfl) ?_
    refine lv_iconst (pc := 26) (v := 0) hx hb d_Ay_copyC_26 (by decide) ?_
    refine lv_aload_n (pc := 27) hx hb d_Ay_copyC_27 rfl (lv_at hl 0 rfl) ?_
    refine lv_iconst (pc := 28) (v := 0) hx hb d_Ay_copyC_28 (by decide) ?_
    refine lv_aload_n (pc := 29) hx hb d_Ay_copyC_29 rfl (lv_at hl 1 rfl) ?_
    obtain ⟨hk103, h⟩ := h
    refine pq_alen (pc := 30) (t := 3) hx hb hK hP hk103 (by decide) d_Ay_copyC_30 ?_
    refine lv_iload_n (pc := 31) hx hb d_Ay_copyC_31 rfl (lv_at hl 2 rfl) ?_
    refine cr_i (pc := 32) C (rest := [.int (0 : Int32), .ref q101, .int (0 : Int32), .ref a0]) (mt_invS (As := [.int (nI (p_n (s_arr P q101 3 (Int32.toNatClampNeg x1)) a0)), .int x1]) hx hb hown (hT _ k_182 _) (hT _ k_183 _) (hT _ k_15 _) (mt_Cd.code (hT _ k_184 #[])) h_Ma_min n_Ma_min rfl d_Ay_copyC_32) (ct_Ma_min hfl D h) k_184 k_15 ⟨Nat.le_of_ble_eq_true rfl, Nat.le_of_ble_eq_true rfl⟩ ⟨(show 0 + 1 + 0 ≤ 1 by omega), (show 0 + 64 + 0 ≤ 64 by omega)⟩ hl.1 d_Ay_copyC_32 (Nat.le_of_ble_eq_true rfl) hP hS (fun x104 H locs h hP hS => ?_) (fun xx X H locs h hX hex hP hS => ?_)
    · obtain ⟨hh105, h⟩ := h
      refine pq_copyO (pc := 35) hx hb (by rw [hml]; exact hl.1.symm) hown (hT _ k_185 _) hT hK hP hS hk103 hkq101 hh105 (Nat.le_of_ble_eq_true rfl) (Nat.le_of_ble_eq_true rfl) d_Ay_copyC_35 (fun H locs hP hS => ?_)
      have hkq101 : p_k (s_cpy (s_arr P q101 3 (Int32.toNatClampNeg x1)) a0 q101 (Int32.toNatClampNeg (0 : Int32)) (Int32.toNatClampNeg (0 : Int32)) (Int32.toNatClampNeg x104)) q101 = 104 := by rw [pk_cpy]; exact hkq101
      have hk103 : p_k (s_cpy (s_arr P q101 3 (Int32.toNatClampNeg x1)) a0 q101 (Int32.toNatClampNeg (0 : Int32)) (Int32.toNatClampNeg (0 : Int32)) (Int32.toNatClampNeg x104)) a0 = 104 := by rw [pk_cpy]; exact hk103
      obtain ⟨P106, eP106⟩ : ∃ z : Pic, z = s_cpy (s_arr P q101 3 (Int32.toNatClampNeg x1)) a0 q101 (Int32.toNatClampNeg (0 : Int32)) (Int32.toNatClampNeg (0 : Int32)) (Int32.toNatClampNeg x104) := ⟨_, rfl⟩
      replace h := h P106 eP106
      rw [← eP106] at hP hS
      have hkq101 : p_k P106 q101 = 104 := by rw [eP106]; exact hkq101
      have hk103 : p_k P106 a0 = 104 := by rw [eP106]; exact hk103
      refine lv_aload_n (pc := 38) hx hb d_Ay_copyC_38 rfl (lv_at hl 0 rfl) ?_
      exact we_a (pc := 39) hx hb hlocks hr (Or.inr ⟨_, rfl⟩) (Or.inr ⟨_, rfl⟩) hP hS (show 0 + 1 + 0 + 0 ≤ 1 by omega) (show 0 + 64 + 0 + 0 ≤ 64 by omega) h d_Ay_copyC_39
    · exact cq_out hlocks (pq_nil htab rfl) (show 0 + 1 + 0 + 0 ≤ 1 by omega) (show 0 + 64 + 0 + 0 ≤ 64 by omega) hX hex hP hS h
/-! java/util/Arrays.copyOf([Ljava/lang/Object;I)[Ljava/lang/Object; -/
abbrev y_Ay_copy : MethodName := ⟨"java/util/Arrays", "copyOf", "([Ljava/lang/Object;I)[Ljava/lang/Object;"⟩
abbrev rm_Ay_copy : Room := { frames := 3, cells := 1, slots := 64, locals := 84 }
theorem h_Ay_copy : y_Ay_copy.cls ≠ "java/lang/invoke/MethodHandle" ∧ y_Ay_copy.cls ≠ "java/lang/invoke/VarHandle" := by decide +kernel
theorem n_Ay_copy : (parseMethodDescriptor y_Ay_copy.desc).map (fun d => d.parameters.length) = some 2 := by decide +kernel
theorem d_Ay_copy_0 : decode prog_37_method_119_code 0 = .ok (.aload_n 0, 1) := by decide +kernel
theorem d_Ay_copy_1 : decode prog_37_method_119_code 1 = .ok (.iload_n 1, 1) := by decide +kernel
theorem d_Ay_copy_2 : decode prog_37_method_119_code 2 = .ok (.aload_n 0, 1) := by decide +kernel
theorem d_Ay_copy_3 : decode prog_37_method_119_code 3 = .ok (.invokevirtual 86, 3) := by decide +kernel
theorem d_Ay_copy_6 : decode prog_37_method_119_code 6 = .ok (.invokestatic 300, 3) := by decide +kernel
theorem d_Ay_copy_9 : decode prog_37_method_119_code 9 = .ok (.areturn, 1) := by decide +kernel
def wp_Ay_copy (po : Option Value → Pic → Prop) (th : String → Pic → Prop) (P : Pic) (a0 : Nat) (x1 : Int32) : Prop := p_k P a0 = 104 ∧ wp_Ay_copyC (cp_a fun a102 P103 => po (some (.ref a102)) P103) th P a0 x1 (p_m P)
set_option maxHeartbeats 4000000 in
set_option maxRecDepth 100000 in
theorem ct_Ay_copy {l : Launch} (hfl : l.flags = flags0) (D : pq_D) {po : Option Value → Pic → Prop} {th : String → Pic → Prop} {P : Pic} {a0 : Nat} {x1 : Int32} (h : wp_Ay_copy po th P a0 x1) : CT l D y_Ay_copy (.code y_Ay_copy prog_37_method_119_code 2 (some (.array (.object "java/lang/Object")))) rm_Ay_copy false [.ref a0, .int x1] P po th := by
  refine ct_of (hs := []) hfl (by decide +kernel) (Or.inl ⟨rfl, rfl⟩) (Nat.le_of_ble_eq_true rfl) ?_
  intro p e s m below meth c C hmg hr hin htab ls hl
  have hl : lv_has ls 2 [(0, .ref a0), (1, .int x1)] := hl
  generalize hargs : ([.ref a0, .int x1] : List Value).toArray = args at C ⊢
  obtain ⟨hx, hb, hml, hown, hlocks, htr, hT, hK, hSt, hN, hP0⟩ := id C
  have hP : Pi D P s.heap := hP0
  have hS : Sg (cq_A P s) s.heap s.heap P [] := Sg.start hP0
  unfold wp_Ay_copy at h
  refine lv_aload_n (pc := 0) hx hb d_Ay_copy_0 rfl (lv_at hl 0 rfl) ?_
  refine lv_iload_n (pc := 1) hx hb d_Ay_copy_1 rfl (lv_at hl 1 rfl) ?_
  refine lv_aload_n (pc := 2) hx hb d_Ay_copy_2 rfl (lv_at hl 0 rfl) ?_
  obtain ⟨hk101, h⟩ := h
  refine pq_getC (pc := 3) hx hb (by rw [hml]; exact hl.1.symm) hown (hT _ k_545 _) (hT _ k_1359 _) (hT _ k_1358 _) (hT _ k_546 _) (hT _ k_568 _) hK hN hP hk101 (Nat.le_of_ble_eq_true rfl) (Nat.le_of_ble_eq_true rfl) d_Ay_copy_3 ?_
  refine cc_a (pc := 6) C (rest := []) (mt_invS (As := [.ref a0, .int x1, .ref (p_m P)]) hx hb hown (hT _ k_569 _) (hT _ k_570 _) (hT _ k_16 _) (mt_Cd.code (hT _ k_571 #[])) h_Ay_copyC n_Ay_copyC rfl d_Ay_copy_6) (ct_Ay_copyC hfl D h) k_571 k_16 ⟨Nat.le_of_ble_eq_true rfl, Nat.le_of_ble_eq_true rfl⟩ ⟨(show 0 + 1 ≤ 1 by omega), (show 0 + 64 ≤ 64 by omega)⟩ hl.1 d_Ay_copy_6 (Nat.le_of_ble_eq_true rfl) hP hS (fun a102 P103 H locs h hP hS => ?_) (fun xx X P103 H locs h hX hex hP hS => ?_)
  · exact we_a (pc := 9) hx hb hlocks hr (Or.inr ⟨_, rfl⟩) (Or.inr ⟨_, rfl⟩) hP hS (show 0 + 1 + 0 ≤ 1 by omega) (show 0 + 64 + 0 ≤ 64 by omega) h d_Ay_copy_9
  · exact cq_out hlocks (pq_nil htab rfl) (show 0 + 1 + 0 ≤ 1 by omega) (show 0 + 64 + 0 ≤ 64 by omega) hX hex hP hS h
/-! java/util/ArrayList.grow(I)[Ljava/lang/Object; -/
abbrev y_Ar_grow : MethodName := ⟨"java/util/ArrayList", "grow", "(I)[Ljava/lang/Object;"⟩
abbrev rm_Ar_grow : Room := { frames := 4, cells := 1, slots := 64, locals := 105 }
theorem h_Ar_grow : y_Ar_grow.cls ≠ "java/lang/invoke/MethodHandle" ∧ y_Ar_grow.cls ≠ "java/lang/invoke/VarHandle" := by decide +kernel
theorem n_Ar_grow : (parseMethodDescriptor y_Ar_grow.desc).map (fun d => d.parameters.length) = some 1 := by decide +kernel
theorem d_Ar_grow_0 : decode prog_36_method_6_code 0 = .ok (.aload_n 0, 1) := by decide +kernel
theorem d_Ar_grow_1 : decode prog_36_method_6_code 1 = .ok (.getfield 9, 3) := by decide +kernel
theorem d_Ar_grow_4 : decode prog_36_method_6_code 4 = .ok (.arraylength, 1) := by decide +kernel
theorem d_Ar_grow_5 : decode prog_36_method_6_code 5 = .ok (.istore_n 2, 1) := by decide +kernel
theorem d_Ar_grow_6 : decode prog_36_method_6_code 6 = .ok (.iload_n 2, 1) := by decide +kernel
theorem d_Ar_grow_7 : decode prog_36_method_6_code 7 = .ok (.ifCond .gt 13, 3) := by decide +kernel
theorem d_Ar_grow_10 : decode prog_36_method_6_code 10 = .ok (.aload_n 0, 1) := by decide +kernel
theorem d_Ar_grow_11 : decode prog_36_method_6_code 11 = .ok (.getfield 9, 3) := by decide +kernel
theorem d_Ar_grow_20 : decode prog_36_method_6_code 20 = .ok (.iload_n 2, 1) := by decide +kernel
theorem d_Ar_grow_21 : decode prog_36_method_6_code 21 = .ok (.iload_n 1, 1) := by decide +kernel
theorem d_Ar_grow_22 : decode prog_36_method_6_code 22 = .ok (.iload_n 2, 1) := by decide +kernel
theorem d_Ar_grow_23 : decode prog_36_method_6_code 23 = .ok (.isub, 1) := by decide +kernel
theorem d_Ar_grow_24 : decode prog_36_method_6_code 24 = .ok (.iload_n 2, 1) := by decide +kernel
theorem d_Ar_grow_25 : decode prog_36_method_6_code 25 = .ok (.iconst 1, 1) := by decide +kernel
theorem d_Ar_grow_26 : decode prog_36_method_6_code 26 = .ok (.ishr, 1) := by decide +kernel
theorem d_Ar_grow_27 : decode prog_36_method_6_code 27 = .ok (.invokestatic 73, 3) := by decide +kernel
theorem d_Ar_grow_30 : decode prog_36_method_6_code 30 = .ok (.istore_n 3, 1) := by decide +kernel
theorem d_Ar_grow_31 : decode prog_36_method_6_code 31 = .ok (.aload_n 0, 1) := by decide +kernel
theorem d_Ar_grow_32 : decode prog_36_method_6_code 32 = .ok (.aload_n 0, 1) := by decide +kernel
theorem d_Ar_grow_33 : decode prog_36_method_6_code 33 = .ok (.getfield 9, 3) := by decide +kernel
theorem d_Ar_grow_36 : decode prog_36_method_6_code 36 = .ok (.iload_n 3, 1) := by decide +kernel
theorem d_Ar_grow_37 : decode prog_36_method_6_code 37 = .ok (.invokestatic 66, 3) := by decide +kernel
theorem d_Ar_grow_40 : decode prog_36_method_6_code 40 = .ok (.dup_x1, 1) := by decide +kernel
theorem d_Ar_grow_41 : decode prog_36_method_6_code 41 = .ok (.putfield 9, 3) := by decide +kernel
theorem d_Ar_grow_44 : decode prog_36_method_6_code 44 = .ok (.areturn, 1) := by decide +kernel
def wp_Ar_grow (po : Option Value → Pic → Prop) (th : String → Pic → Prop) (P : Pic) (a0 : Nat) (x1 : Int32) : Prop := p_k P a0 = 14 ∧ ∃ a102, p_r P 520 a0 = some a102 ∧ p_k P a102 = 104 ∧ ∀ (x104 : Int32), x104 = (nI (p_n P a102)) → ((0 < x104 → (wp_Su_newLength (cp_i fun x105 _ => ∃ a106, p_r P 520 a0 = some a106 ∧ wp_Ay_copy (cp_a fun a107 P108 => p_k P108 a0 = 14 ∧ po (some (.ref a107)) (s_r P108 520 a0 (some a107))) th P a106 x105) th P x104 (x1 - x104) (x104 >>> ((1 : Int32) &&& 31)))) ∧ (¬ 0 < x104 → (∃ a110, p_r P 520 a0 = some a110 ∧ False)))
set_option maxHeartbeats 4000000 in
set_option maxRecDepth 100000 in
theorem ct_Ar_grow {l : Launch} (hfl : l.flags = flags0) (D : pq_D) {po : Option Value → Pic → Prop} {th : String → Pic → Prop} {P : Pic} {a0 : Nat} {x1 : Int32} (h : wp_Ar_grow po th P a0 x1) : CT l D y_Ar_grow (.code y_Ar_grow prog_36_method_6_code 4 (some (.array (.object "java/lang/Object")))) rm_Ar_grow false [.ref a0, .int x1] P po th := by
  refine ct_of (hs := []) hfl (by decide +kernel) (Or.inl ⟨rfl, rfl⟩) (Nat.le_of_ble_eq_true rfl) ?_
  intro p e s m below meth c C hmg hr hin htab ls hl
  have hl : lv_has ls 4 [(0, .ref a0), (1, .int x1)] := hl
  generalize hargs : ([.ref a0, .int x1] : List Value).toArray = args at C ⊢
  obtain ⟨hx, hb, hml, hown, hlocks, htr, hT, hK, hSt, hN, hP0⟩ := id C
  have L9_13 : pq_fl s m args 9 13 0 := ⟨_, "java/util/ArrayList", "java/util/ArrayList", rfl, by decide, hown, Or.inl (hT _ k_380 _), (fun _ z => z)⟩
  have hP : Pi D P s.heap := hP0
  have hS : Sg (cq_A P s) s.heap s.heap P [] := Sg.start hP0
  unfold wp_Ar_grow at h
  refine lv_aload_n (pc := 0) hx hb d_Ar_grow_0 rfl (lv_at hl 0 rfl) ?_
  obtain ⟨hk101, h⟩ := h
  obtain ⟨a102, ea102, h⟩ := h
  refine pq_geta (pc := 1) (f := 520) hx hb hT hK hP L9_13 hk101 rfl ea102 d_Ar_grow_1 ?_
  obtain ⟨hk103, h⟩ := h
  refine pq_alen (pc := 4) (t := 3) hx hb hK hP hk103 (by decide) d_Ar_grow_4 ?_
  refine lv_topi (fun x104 ex104 => ?_)
  replace h := h x104 ex104
  refine lv_istore_n (pc := 5) (lv' := [(2, .int x104), (0, .ref a0), (1, .int x1)]) hx hb d_Ar_grow_5 rfl hl (by decide) rfl (fun ls hl => ?_)
  refine lv_iload_n (pc := 6) hx hb d_Ar_grow_6 rfl (lv_at hl 0 rfl) ?_
  refine lv_if_gt (pc := 7) (tgt := 20) hx hb d_Ar_grow_7 (by decide) (fun c111 => ?_) (fun c111 => ?_)
  · replace h := h.1 c111
    refine lv_iload_n (pc := 20) hx hb d_Ar_grow_20 rfl (lv_at hl 0 rfl) ?_
    refine lv_iload_n (pc := 21) hx hb d_Ar_grow_21 rfl (lv_at hl 2 rfl) ?_
    refine lv_iload_n (pc := 22) hx hb d_Ar_grow_22 rfl (lv_at hl 0 rfl) ?_
    refine lv_isub (pc := 23) hx hb d_Ar_grow_23 ?_
    refine lv_iload_n (pc := 24) hx hb d_Ar_grow_24 rfl (lv_at hl 0 rfl) ?_
    refine lv_iconst (pc := 25) (v := 1) hx hb d_Ar_grow_25 (by decide) ?_
    refine lv_ishr (pc := 26) hx hb d_Ar_grow_26 ?_
    refine cr_i (pc := 27) C (rest := []) (mt_invS (As := [.int x104, .int (x1 - x104), .int (x104 >>> ((1 : Int32) &&& 31))]) hx hb hown (hT _ k_541 _) (hT _ k_162 _) (hT _ k_14 _) (mt_Cd.code (hT _ k_163 #[])) h_Su_newLength n_Su_newLength rfl d_Ar_grow_27) (ct_Su_newLength hfl D h) k_163 k_14 ⟨Nat.le_of_ble_eq_true rfl, Nat.le_of_ble_eq_true rfl⟩ ⟨(show 0 + 0 ≤ 1 by omega), (show 0 + 0 ≤ 64 by omega)⟩ hl.1 d_Ar_grow_27 (Nat.le_of_ble_eq_true rfl) hP hS (fun x105 H locs h hP hS => ?_) (fun xx X H locs h hX hex hP hS => ?_)
    · refine lv_istore_n (pc := 30) (lv' := [(3, .int x105), (2, .int x104), (0, .ref a0), (1, .int x1)]) hx hb d_Ar_grow_30 rfl hl (by decide) rfl (fun ls hl => ?_)
      refine lv_aload_n (pc := 31) hx hb d_Ar_grow_31 rfl (lv_at hl 2 rfl) ?_
      refine lv_aload_n (pc := 32) hx hb d_Ar_grow_32 rfl (lv_at hl 2 rfl) ?_
      obtain ⟨a106, ea106, h⟩ := h
      refine pq_geta (pc := 33) (f := 520) hx hb hT hK hP L9_13 hk101 rfl ea106 d_Ar_grow_33 ?_
      refine lv_iload_n (pc := 36) hx hb d_Ar_grow_36 rfl (lv_at hl 0 rfl) ?_
      refine cc_a (pc := 37) C (rest := [.ref a0]) (mt_invS (As := [.ref a106, .int x105]) hx hb hown (hT _ k_542 _) (hT _ k_543 _) (hT _ k_16 _) (mt_Cd.code (hT _ k_544 #[])) h_Ay_copy n_Ay_copy rfl d_Ar_grow_37) (ct_Ay_copy hfl D h) k_544 k_16 ⟨Nat.le_of_ble_eq_true rfl, Nat.le_of_ble_eq_true rfl⟩ ⟨(show 0 + 0 + 1 ≤ 1 by omega), (show 0 + 0 + 64 ≤ 64 by omega)⟩ hl.1 d_Ar_grow_37 (Nat.le_of_ble_eq_true rfl) hP hS (fun a107 P108 H locs h hP hS => ?_) (fun xx X P108 H locs h hX hex hP hS => ?_)
      · refine lv_dup_x1 (pc := 40) hx hb d_Ar_grow_40 rfl rfl ?_
        obtain ⟨hk109, h⟩ := h
        refine pq_puta (pc := 41) (f := 520) hx hb hT hK hP hS L9_13 hk109 rfl rfl rfl rfl d_Ar_grow_41 (fun H locs hP hS => ?_)
        have hk109 : p_k (s_r P108 520 a0 (some a107)) a0 = 14 := by rw [pk_r]; exact hk109
        exact we_a (pc := 44) hx hb hlocks hr (Or.inr ⟨_, rfl⟩) (Or.inr ⟨_, rfl⟩) hP hS (show 0 + 0 + 1 + 0 ≤ 1 by omega) (show 0 + 0 + 64 + 0 ≤ 64 by omega) h d_Ar_grow_44
      · exact cq_out hlocks (pq_nil htab rfl) (show 0 + 0 + 1 + 0 ≤ 1 by omega) (show 0 + 0 + 64 + 0 ≤ 64 by omega) hX hex hP hS h
    · exact cq_out hlocks (pq_nil htab rfl) (show 0 + 0 + 0 ≤ 1 by omega) (show 0 + 0 + 0 ≤ 64 by omega) hX hex hP hS h
  · replace h := h.2 c111
    refine lv_aload_n (pc := 10) hx hb d_Ar_grow_10 rfl (lv_at hl 1 rfl) ?_
    obtain ⟨a110, ea110, h⟩ := h
    refine pq_geta (pc := 11) (f := 520) hx hb hT hK hP L9_13 hk101 rfl ea110 d_Ar_grow_11 ?_
    exact h.elim
/-! java/util/ArrayList.grow()[Ljava/lang/Object; -/
abbrev y_Ar_grow0 : MethodName := ⟨"java/util/ArrayList", "grow", "()[Ljava/lang/Object;"⟩
abbrev rm_Ar_grow0 : Room := { frames := 5, cells := 1, slots := 64, locals := 128 }
theorem h_Ar_grow0 : y_Ar_grow0.cls ≠ "java/lang/invoke/MethodHandle" ∧ y_Ar_grow0.cls ≠ "java/lang/invoke/VarHandle" := by decide +kernel
theorem n_Ar_grow0 : (parseMethodDescriptor y_Ar_grow0.desc).map (fun d => d.parameters.length) = some 0 := by decide +kernel
theorem d_Ar_grow0_0 : decode prog_36_method_7_code 0 = .ok (.aload_n 0, 1) := by decide +kernel
theorem d_Ar_grow0_1 : decode prog_36_method_7_code 1 = .ok (.aload_n 0, 1) := by decide +kernel
theorem d_Ar_grow0_2 : decode prog_36_method_7_code 2 = .ok (.getfield 48, 3) := by decide +kernel
theorem d_Ar_grow0_5 : decode prog_36_method_7_code 5 = .ok (.iconst 1, 1) := by decide +kernel
theorem d_Ar_grow0_6 : decode prog_36_method_7_code 6 = .ok (.iadd, 1) := by decide +kernel
theorem d_Ar_grow0_7 : decode prog_36_method_7_code 7 = .ok (.invokevirtual 69, 3) := by decide +kernel
theorem d_Ar_grow0_10 : decode prog_36_method_7_code 10 = .ok (.areturn, 1) := by decide +kernel
def wp_Ar_grow0 (po : Option Value → Pic → Prop) (th : String → Pic → Prop) (P : Pic) (a0 : Nat) : Prop := p_k P a0 = 14 ∧ wp_Ar_grow (cp_a fun a102 P103 => po (some (.ref a102)) P103) th P a0 ((p_i P 521 a0) + (1 : Int32))
set_option maxHeartbeats 4000000 in
set_option maxRecDepth 100000 in
theorem ct_Ar_grow0 {l : Launch} (hfl : l.flags = flags0) (D : pq_D) {po : Option Value → Pic → Prop} {th : String → Pic → Prop} {P : Pic} {a0 : Nat} (h : wp_Ar_grow0 po th P a0) : CT l D y_Ar_grow0 (.code y_Ar_grow0 prog_36_method_7_code 1 (some (.array (.object "java/lang/Object")))) rm_Ar_grow0 false [.ref a0] P po th := by
  refine ct_of (hs := []) hfl (by decide +kernel) (Or.inl ⟨rfl, rfl⟩) (Nat.le_of_ble_eq_true rfl) ?_
  intro p e s m below meth c C hmg hr hin htab ls hl
  have hl : lv_has ls 1 [(0, .ref a0)] := hl
  generalize hargs : ([.ref a0] : List Value).toArray = args at C ⊢
  obtain ⟨hx, hb, hml, hown, hlocks, htr, hT, hK, hSt, hN, hP0⟩ := id C
  have L48_13 : pq_fl s m args 48 13 1 := ⟨_, "java/util/ArrayList", "java/util/ArrayList", rfl, by decide, hown, Or.inl (hT _ k_381 _), (fun _ z => z)⟩
  have hP : Pi D P s.heap := hP0
  have hS : Sg (cq_A P s) s.heap s.heap P [] := Sg.start hP0
  unfold wp_Ar_grow0 at h
  refine lv_aload_n (pc := 0) hx hb d_Ar_grow0_0 rfl (lv_at hl 0 rfl) ?_
  refine lv_aload_n (pc := 1) hx hb d_Ar_grow0_1 rfl (lv_at hl 0 rfl) ?_
  obtain ⟨hk101, h⟩ := h
  refine pq_geti (pc := 2) (f := 521) hx hb hT hK hP L48_13 hk101 rfl d_Ar_grow0_2 ?_
  refine lv_iconst (pc := 5) (v := 1) hx hb d_Ar_grow0_5 (by decide) ?_
  refine lv_iadd (pc := 6) hx hb d_Ar_grow0_6 ?_
  refine cc_a (pc := 7) C (rest := []) (mt_invV (As := [.int ((p_i P 521 a0) + (1 : Int32))]) hx hb hown (hT _ k_535 _) (hT _ k_537 _) (hT _ ks_3 _) (mt_Cd.code (hT _ k_538 #[])) h_Ar_grow (pq_recv hK hP hk101 rfl) n_Ar_grow rfl d_Ar_grow0_7) (ct_Ar_grow hfl D h) k_538 k_5 ⟨Nat.le_of_ble_eq_true rfl, Nat.le_of_ble_eq_true rfl⟩ ⟨(show 0 + 1 ≤ 1 by omega), (show 0 + 64 ≤ 64 by omega)⟩ hl.1 d_Ar_grow0_7 (Nat.le_of_ble_eq_true rfl) hP hS (fun a102 P103 H locs h hP hS => ?_) (fun xx X P103 H locs h hX hex hP hS => ?_)
  · exact we_a (pc := 10) hx hb hlocks hr (Or.inr ⟨_, rfl⟩) (Or.inr ⟨_, rfl⟩) hP hS (show 0 + 1 + 0 ≤ 1 by omega) (show 0 + 64 + 0 ≤ 64 by omega) h d_Ar_grow0_10
  · exact cq_out hlocks (pq_nil htab rfl) (show 0 + 1 + 0 ≤ 1 by omega) (show 0 + 64 + 0 ≤ 64 by omega) hX hex hP hS h
/-! java/util/ArrayList.add(Ljava/lang/Object;[Ljava/lang/Object;I)V -/
abbrev y_Ar_add3 : MethodName := ⟨"java/util/ArrayList", "add", "(Ljava/lang/Object;[Ljava/lang/Object;I)V"⟩
abbrev rm_Ar_add3 : Room := { frames := 6, cells := 1, slots := 64, locals := 148 }
theorem h_Ar_add3 : y_Ar_add3.cls ≠ "java/lang/invoke/MethodHandle" ∧ y_Ar_add3.cls ≠ "java/lang/invoke/VarHandle" := by decide +kernel
theorem n_Ar_add3 : (parseMethodDescriptor y_Ar_add3.desc).map (fun d => d.parameters.length) = some 3 := by decide +kernel
theorem d_Ar_add3_0 : decode prog_36_method_24_code 0 = .ok (.iload_n 3, 1) := by decide +kernel
theorem d_Ar_add3_1 : decode prog_36_method_24_code 1 = .ok (.aload_n 2, 1) := by decide +kernel
theorem d_Ar_add3_2 : decode prog_36_method_24_code 2 = .ok (.arraylength, 1) := by decide +kernel
theorem d_Ar_add3_3 : decode prog_36_method_24_code 3 = .ok (.if_icmp .ne 8, 3) := by decide +kernel
theorem d_Ar_add3_6 : decode prog_36_method_24_code 6 = .ok (.aload_n 0, 1) := by decide +kernel
theorem d_Ar_add3_7 : decode prog_36_method_24_code 7 = .ok (.invokevirtual 129, 3) := by decide +kernel
theorem d_Ar_add3_10 : decode prog_36_method_24_code 10 = .ok (.astore_n 2, 1) := by decide +kernel
theorem d_Ar_add3_11 : decode prog_36_method_24_code 11 = .ok (.aload_n 2, 1) := by decide +kernel
theorem d_Ar_add3_12 : decode prog_36_method_24_code 12 = .ok (.iload_n 3, 1) := by decide +kernel
theorem d_Ar_add3_13 : decode prog_36_method_24_code 13 = .ok (.aload_n 1, 1) := by decide +kernel
theorem d_Ar_add3_14 : decode prog_36_method_24_code 14 = .ok (.aastore, 1) := by decide +kernel
theorem d_Ar_add3_15 : decode prog_36_method_24_code 15 = .ok (.aload_n 0, 1) := by decide +kernel
theorem d_Ar_add3_16 : decode prog_36_method_24_code 16 = .ok (.iload_n 3, 1) := by decide +kernel
theorem d_Ar_add3_17 : decode prog_36_method_24_code 17 = .ok (.iconst 1, 1) := by decide +kernel
theorem d_Ar_add3_18 : decode prog_36_method_24_code 18 = .ok (.iadd, 1) := by decide +kernel
theorem d_Ar_add3_19 : decode prog_36_method_24_code 19 = .ok (.putfield 48, 3) := by decide +kernel
theorem d_Ar_add3_22 : decode prog_36_method_24_code 22 = .ok (.return_, 1) := by decide +kernel
def wb_Ar_add3_11 (po : Option Value → Pic → Prop) (th : String → Pic → Prop) (P : Pic) (a0 : Nat) (a1 : Nat) (a2 : Nat) (x3 : Int32) : Prop := p_k P a2 = 104 ∧ Ob (p_k P a1) ∧ vp_in x3 (p_n P a2) ∧ p_k (s_aq P a2 (Int32.toNatClampNeg x3) (some a1)) a0 = 14 ∧ ∀ (P110 : Pic), P110 = s_i (s_aq P a2 (Int32.toNatClampNeg x3) (some a1)) 521 a0 (x3 + (1 : Int32)) → po none P110
def wp_Ar_add3 (po : Option Value → Pic → Prop) (th : String → Pic → Prop) (P : Pic) (a0 : Nat) (a1 : Nat) (a2 : Nat) (x3 : Int32) : Prop := p_k P a2 = 104 ∧ ((¬ x3 = (nI (p_n P a2)) → (wb_Ar_add3_11 po th P a0 a1 a2 x3)) ∧ (x3 = (nI (p_n P a2)) → (p_k P a0 = 14 ∧ wp_Ar_grow0 (cp_a fun a103 P104 => wb_Ar_add3_11 po th P104 a0 a1 a103 x3) th P a0)))
set_option maxHeartbeats 4000000 in
set_option maxRecDepth 100000 in
theorem wk_Ar_add3_11 {p : Program} {l : Launch} {e : Env} {s : State} {m : MethodId} {args : Array Value} {below : List Frame} {meth : Method} {c : Code} {D : pq_D} {P0 : Pic} {po : Option Value → Pic → Prop} {th : String → Pic → Prop} (hfl : l.flags = flags0) (C : Cx p e s m args meth c prog_36_method_24_code 4 "java/util/ArrayList" D P0) (hmg : e.platform.magicAccessors = ({} : Platform).magicAccessors) (hr : meth.sig.returnType = none) (hin : meth.name = "add") (htab : c.exceptionTable.toList = tableOf []) : ∀ (P : Pic) (a0 : Nat) (a1 : Nat) (a2 : Nat) (x3 : Int32) (H : Heap) (locs : List Loc) (cells slots : Nat) (ls : Array Slot), wb_Ar_add3_11 po th P a0 a1 a2 x3 → Pi D P H → Sg (cq_A P0 s) s.heap H P locs → lv_has ls 4 [(0, .ref a0), (1, .ref a1), (2, .ref a2), (3, .int x3)] → cells + 0 ≤ 1 → slots + 0 ≤ 64 → W p l e rm_Ar_add3 s m args below meth c H locs cells slots (mt_MQ below (cq_Q D P0 false po th) args s 1 64 (cq_free P0 false)) (F0 m 11 ls []) := by
  intro P a0 a1 a2 x3 H locs cells slots ls h hP hS hl hcc hss
  obtain ⟨hx, hb, hml, hown, hlocks, htr, hT, hK, hSt, hN, hP0⟩ := id C
  have L48_13 : pq_fl s m args 48 13 1 := ⟨_, "java/util/ArrayList", "java/util/ArrayList", rfl, by decide, hown, Or.inl (hT _ k_381 _), (fun _ z => z)⟩
  unfold wb_Ar_add3_11 at h
  refine lv_aload_n (pc := 11) hx hb d_Ar_add3_11 rfl (lv_at hl 2 rfl) ?_
  refine lv_iload_n (pc := 12) hx hb d_Ar_add3_12 rfl (lv_at hl 3 rfl) ?_
  refine lv_aload_n (pc := 13) hx hb d_Ar_add3_13 rfl (lv_at hl 1 rfl) ?_
  obtain ⟨hk107, h⟩ := h
  obtain ⟨ho108, h⟩ := h
  obtain ⟨hi106, h⟩ := h
  refine pq_aastO (pc := 14) hx hb hT hK hP hS hk107 ho108 hi106 d_Ar_add3_14 (fun H locs hP hS => ?_)
  have hk107 : p_k (s_aq P a2 (Int32.toNatClampNeg x3) (some a1)) a2 = 104 := by rw [pk_aq]; exact hk107
  refine lv_aload_n (pc := 15) hx hb d_Ar_add3_15 rfl (lv_at hl 0 rfl) ?_
  refine lv_iload_n (pc := 16) hx hb d_Ar_add3_16 rfl (lv_at hl 3 rfl) ?_
  refine lv_iconst (pc := 17) (v := 1) hx hb d_Ar_add3_17 (by decide) ?_
  refine lv_iadd (pc := 18) hx hb d_Ar_add3_18 ?_
  obtain ⟨hk109, h⟩ := h
  refine pq_puti (pc := 19) (f := 521) hx hb hT hK hP hS L48_13 hk109 rfl rfl rfl rfl d_Ar_add3_19 (fun H locs hP hS => ?_)
  have hk107 : p_k (s_i (s_aq P a2 (Int32.toNatClampNeg x3) (some a1)) 521 a0 (x3 + (1 : Int32))) a2 = 104 := by rw [pk_i]; exact hk107
  have hk109 : p_k (s_i (s_aq P a2 (Int32.toNatClampNeg x3) (some a1)) 521 a0 (x3 + (1 : Int32))) a0 = 14 := by rw [pk_i]; exact hk109
  obtain ⟨P110, eP110⟩ : ∃ z : Pic, z = s_i (s_aq P a2 (Int32.toNatClampNeg x3) (some a1)) 521 a0 (x3 + (1 : Int32)) := ⟨_, rfl⟩
  replace h := h P110 eP110
  rw [← eP110] at hP hS
  have hk107 : p_k P110 a2 = 104 := by rw [eP110]; exact hk107
  have hk109 : p_k P110 a0 = 14 := by rw [eP110]; exact hk109
  exact we_v (pc := 22) hx hb hlocks hr hP hS (show cells + 0 ≤ 1 by omega) (show slots + 0 ≤ 64 by omega) h d_Ar_add3_22
set_option maxHeartbeats 4000000 in
set_option maxRecDepth 100000 in
theorem ct_Ar_add3 {l : Launch} (hfl : l.flags = flags0) (D : pq_D) {po : Option Value → Pic → Prop} {th : String → Pic → Prop} {P : Pic} {a0 : Nat} {a1 : Nat} {a2 : Nat} {x3 : Int32} (h : wp_Ar_add3 po th P a0 a1 a2 x3) : CT l D y_Ar_add3 (.code y_Ar_add3 prog_36_method_24_code 4 none) rm_Ar_add3 false [.ref a0, .ref a1, .ref a2, .int x3] P po th := by
  refine ct_of (hs := []) hfl (by decide +kernel) (Or.inl ⟨rfl, rfl⟩) (Nat.le_of_ble_eq_true rfl) ?_
  intro p e s m below meth c C hmg hr hin htab ls hl
  have hl : lv_has ls 4 [(0, .ref a0), (1, .ref a1), (2, .ref a2), (3, .int x3)] := hl
  generalize hargs : ([.ref a0, .ref a1, .ref a2, .int x3] : List Value).toArray = args at C ⊢
  obtain ⟨hx, hb, hml, hown, hlocks, htr, hT, hK, hSt, hN, hP0⟩ := id C
  have L48_13 : pq_fl s m args 48 13 1 := ⟨_, "java/util/ArrayList", "java/util/ArrayList", rfl, by decide, hown, Or.inl (hT _ k_381 _), (fun _ z => z)⟩
  have hP : Pi D P s.heap := hP0
  have hS : Sg (cq_A P s) s.heap s.heap P [] := Sg.start hP0
  unfold wp_Ar_add3 at h
  refine lv_iload_n (pc := 0) hx hb d_Ar_add3_0 rfl (lv_at hl 3 rfl) ?_
  refine lv_aload_n (pc := 1) hx hb d_Ar_add3_1 rfl (lv_at hl 2 rfl) ?_
  obtain ⟨hk101, h⟩ := h
  refine pq_alen (pc := 2) (t := 3) hx hb hK hP hk101 (by decide) d_Ar_add3_2 ?_
  refine lv_icmp_ne (pc := 3) (tgt := 11) hx hb d_Ar_add3_3 (by decide) (fun c105 => ?_) (fun c105 => ?_)
  · replace h := h.1 c105
    exact wk_Ar_add3_11 hfl C hmg hr hin htab _ a0 a1 a2 x3 _ _ _ _ _ h hP hS (lv_sub hl [0, 1, 2, 3] rfl) (show 0 + 0 ≤ 1 by omega) (show 0 + 0 ≤ 64 by omega)
  · replace h := h.2 c105
    refine lv_aload_n (pc := 6) hx hb d_Ar_add3_6 rfl (lv_at hl 0 rfl) ?_
    obtain ⟨hk102, h⟩ := h
    refine cc_a (pc := 7) C (rest := []) (mt_invV (As := []) hx hb hown (hT _ k_531 _) (hT _ k_533 _) (hT _ ks_2 _) (mt_Cd.code (hT _ k_534 #[])) h_Ar_grow0 (pq_recv hK hP hk102 rfl) n_Ar_grow0 rfl d_Ar_add3_7) (ct_Ar_grow0 hfl D h) k_534 k_5 ⟨Nat.le_of_ble_eq_true rfl, Nat.le_of_ble_eq_true rfl⟩ ⟨(show 0 + 1 ≤ 1 by omega), (show 0 + 64 ≤ 64 by omega)⟩ hl.1 d_Ar_add3_7 (Nat.le_of_ble_eq_true rfl) hP hS (fun a103 P104 H locs h hP hS => ?_) (fun xx X P104 H locs h hX hex hP hS => ?_)
    · refine lv_astore_n (pc := 10) (lv' := [(2, .ref a103), (0, .ref a0), (1, .ref a1), (3, .int x3)]) hx hb d_Ar_add3_10 rfl hl (by decide) rfl (fun ls hl => ?_)
      exact wk_Ar_add3_11 hfl C hmg hr hin htab _ a0 a1 a103 x3 _ _ _ _ _ h hP hS (lv_sub hl [1, 2, 0, 3] rfl) (show 0 + 1 + 0 ≤ 1 by omega) (show 0 + 64 + 0 ≤ 64 by omega)
    · exact cq_out hlocks (pq_nil htab rfl) (show 0 + 1 + 0 ≤ 1 by omega) (show 0 + 64 + 0 ≤ 64 by omega) hX hex hP hS h
/-! java/util/ArrayList.add(Ljava/lang/Object;)Z -/
abbrev y_Ar_add : MethodName := ⟨"java/util/ArrayList", "add", "(Ljava/lang/Object;)Z"⟩
abbrev rm_Ar_add : Room := { frames := 7, cells := 1, slots := 64, locals := 171 }
theorem h_Ar_add : y_Ar_add.cls ≠ "java/lang/invoke/MethodHandle" ∧ y_Ar_add.cls ≠ "java/lang/invoke/VarHandle" := by decide +kernel
theorem n_Ar_add : (parseMethodDescriptor y_Ar_add.desc).map (fun d => d.parameters.length) = some 1 := by decide +kernel
theorem d_Ar_add_0 : decode prog_36_method_25_code 0 = .ok (.aload_n 0, 1) := by decide +kernel
theorem d_Ar_add_1 : decode prog_36_method_25_code 1 = .ok (.dup, 1) := by decide +kernel
theorem d_Ar_add_2 : decode prog_36_method_25_code 2 = .ok (.getfield 63, 3) := by decide +kernel
theorem d_Ar_add_5 : decode prog_36_method_25_code 5 = .ok (.iconst 1, 1) := by decide +kernel
theorem d_Ar_add_6 : decode prog_36_method_25_code 6 = .ok (.iadd, 1) := by decide +kernel
theorem d_Ar_add_7 : decode prog_36_method_25_code 7 = .ok (.putfield 63, 3) := by decide +kernel
theorem d_Ar_add_10 : decode prog_36_method_25_code 10 = .ok (.aload_n 0, 1) := by decide +kernel
theorem d_Ar_add_11 : decode prog_36_method_25_code 11 = .ok (.aload_n 1, 1) := by decide +kernel
theorem d_Ar_add_12 : decode prog_36_method_25_code 12 = .ok (.aload_n 0, 1) := by decide +kernel
theorem d_Ar_add_13 : decode prog_36_method_25_code 13 = .ok (.getfield 9, 3) := by decide +kernel
theorem d_Ar_add_16 : decode prog_36_method_25_code 16 = .ok (.aload_n 0, 1) := by decide +kernel
theorem d_Ar_add_17 : decode prog_36_method_25_code 17 = .ok (.getfield 48, 3) := by decide +kernel
theorem d_Ar_add_20 : decode prog_36_method_25_code 20 = .ok (.invokevirtual 131, 3) := by decide +kernel
theorem d_Ar_add_23 : decode prog_36_method_25_code 23 = .ok (.iconst 1, 1) := by decide +kernel
theorem d_Ar_add_24 : decode prog_36_method_25_code 24 = .ok (.ireturn, 1) := by decide +kernel
def wp_Ar_add (po : Option Value → Pic → Prop) (th : String → Pic → Prop) (P : Pic) (a0 : Nat) (a1 : Nat) : Prop := p_k P a0 = 14 ∧ ∃ a102, p_r (s_i P 522 a0 ((p_i P 522 a0) + (1 : Int32))) 520 a0 = some a102 ∧ wp_Ar_add3 (cp_v fun P103 => po (some (.int (1 : Int32))) P103) th (s_i P 522 a0 ((p_i P 522 a0) + (1 : Int32))) a0 a1 a102 (p_i (s_i P 522 a0 ((p_i P 522 a0) + (1 : Int32))) 521 a0)
set_option maxHeartbeats 4000000 in
set_option maxRecDepth 100000 in
theorem ct_Ar_add {l : Launch} (hfl : l.flags = flags0) (D : pq_D) {po : Option Value → Pic → Prop} {th : String → Pic → Prop} {P : Pic} {a0 : Nat} {a1 : Nat} (h : wp_Ar_add po th P a0 a1) : CT l D y_Ar_add (.code y_Ar_add prog_36_method_25_code 2 (some .boolean)) rm_Ar_add false [.ref a0, .ref a1] P po th := by
  refine ct_of (hs := []) hfl (by decide +kernel) (Or.inl ⟨rfl, rfl⟩) (Nat.le_of_ble_eq_true rfl) ?_
  intro p e s m below meth c C hmg hr hin htab ls hl
  have hl : lv_has ls 2 [(0, .ref a0), (1, .ref a1)] := hl
  generalize hargs : ([.ref a0, .ref a1] : List Value).toArray = args at C ⊢
  obtain ⟨hx, hb, hml, hown, hlocks, htr, hT, hK, hSt, hN, hP0⟩ := id C
  have L48_13 : pq_fl s m args 48 13 1 := ⟨_, "java/util/ArrayList", "java/util/ArrayList", rfl, by decide, hown, Or.inl (hT _ k_381 _), (fun _ z => z)⟩
  have L63_13 : pq_fl s m args 63 13 2 := ⟨_, "java/util/ArrayList", "java/util/ArrayList", rfl, by decide, hown, Or.inl (hT _ k_383 _), (fun x9 h9 => u_same (hT _ k_384 #[]) x9 h9)⟩
  have L9_13 : pq_fl s m args 9 13 0 := ⟨_, "java/util/ArrayList", "java/util/ArrayList", rfl, by decide, hown, Or.inl (hT _ k_380 _), (fun _ z => z)⟩
  have hP : Pi D P s.heap := hP0
  have hS : Sg (cq_A P s) s.heap s.heap P [] := Sg.start hP0
  unfold wp_Ar_add at h
  refine lv_aload_n (pc := 0) hx hb d_Ar_add_0 rfl (lv_at hl 0 rfl) ?_
  refine lv_dup (pc := 1) hx hb d_Ar_add_1 rfl ?_
  obtain ⟨hk101, h⟩ := h
  refine pq_geti (pc := 2) (f := 522) hx hb hT hK hP L63_13 hk101 rfl d_Ar_add_2 ?_
  refine lv_iconst (pc := 5) (v := 1) hx hb d_Ar_add_5 (by decide) ?_
  refine lv_iadd (pc := 6) hx hb d_Ar_add_6 ?_
  refine pq_puti (pc := 7) (f := 522) hx hb hT hK hP hS L63_13 hk101 rfl rfl rfl rfl d_Ar_add_7 (fun H locs hP hS => ?_)
  have hk101 : p_k (s_i P 522 a0 ((p_i P 522 a0) + (1 : Int32))) a0 = 14 := by rw [pk_i]; exact hk101
  refine lv_aload_n (pc := 10) hx hb d_Ar_add_10 rfl (lv_at hl 0 rfl) ?_
  refine lv_aload_n (pc := 11) hx hb d_Ar_add_11 rfl (lv_at hl 1 rfl) ?_
  refine lv_aload_n (pc := 12) hx hb d_Ar_add_12 rfl (lv_at hl 0 rfl) ?_
  obtain ⟨a102, ea102, h⟩ := h
  refine pq_geta (pc := 13) (f := 520) hx hb hT hK hP L9_13 hk101 rfl ea102 d_Ar_add_13 ?_
  refine lv_aload_n (pc := 16) hx hb d_Ar_add_16 rfl (lv_at hl 0 rfl) ?_
  refine pq_geti (pc := 17) (f := 521) hx hb hT hK hP L48_13 hk101 rfl d_Ar_add_17 ?_
  refine cc_v (pc := 20) C (rest := []) (mt_invV (As := [.ref a1, .ref a102, .int (p_i (s_i P 522 a0 ((p_i P 522 a0) + (1 : Int32))) 521 a0)]) hx hb hown (hT _ k_527 _) (hT _ k_529 _) (hT _ ks_1 _) (mt_Cd.code (hT _ k_530 #[])) h_Ar_add3 (pq_recv hK hP hk101 rfl) n_Ar_add3 rfl d_Ar_add_20) (ct_Ar_add3 hfl D h) k_530 k_5 ⟨Nat.le_of_ble_eq_true rfl, Nat.le_of_ble_eq_true rfl⟩ ⟨(show 0 + 1 ≤ 1 by omega), (show 0 + 64 ≤ 64 by omega)⟩ hl.1 d_Ar_add_20 (Nat.le_of_ble_eq_true rfl) hP hS (fun P103 H locs h hP hS => ?_) (fun xx X P103 H locs h hX hex hP hS => ?_)
  · refine lv_iconst (pc := 23) (v := 1) hx hb d_Ar_add_23 (by decide) ?_
    exact we_z (pc := 24) hx hb hlocks hr hP hS (show 0 + 1 + 0 ≤ 1 by omega) (show 0 + 64 + 0 ≤ 64 by omega) (by decide) h d_Ar_add_24
  · exact cq_out hlocks (pq_nil htab rfl) (show 0 + 1 + 0 ≤ 1 by omega) (show 0 + 64 + 0 ≤ 64 by omega) hX hex hP hS h
/-! java/util/ArrayList.rangeCheckForAdd(I)V -/
abbrev y_Ar_rangeCheckForAdd : MethodName := ⟨"java/util/ArrayList", "rangeCheckForAdd", "(I)V"⟩
abbrev rm_Ar_rangeCheckForAdd : Room := { frames := 1, cells := 0, slots := 0, locals := 40 }
theorem h_Ar_rangeCheckForAdd : y_Ar_rangeCheckForAdd.cls ≠ "java/lang/invoke/MethodHandle" ∧ y_Ar_rangeCheckForAdd.cls ≠ "java/lang/invoke/VarHandle" := by decide +kernel
theorem n_Ar_rangeCheckForAdd : (parseMethodDescriptor y_Ar_rangeCheckForAdd.desc).map (fun d => d.parameters.length) = some 1 := by decide +kernel
theorem d_Ar_rangeCheckForAdd_0 : decode prog_36_method_45_code 0 = .ok (.iload_n 1, 1) := by decide +kernel
theorem d_Ar_rangeCheckForAdd_1 : decode prog_36_method_45_code 1 = .ok (.aload_n 0, 1) := by decide +kernel
theorem d_Ar_rangeCheckForAdd_2 : decode prog_36_method_45_code 2 = .ok (.getfield 48, 3) := by decide +kernel
theorem d_Ar_rangeCheckForAdd_5 : decode prog_36_method_45_code 5 = .ok (.if_icmp .gt 7, 3) := by decide +kernel
theorem d_Ar_rangeCheckForAdd_8 : decode prog_36_method_45_code 8 = .ok (.iload_n 1, 1) := by decide +kernel
theorem d_Ar_rangeCheckForAdd_9 : decode prog_36_method_45_code 9 = .ok (.ifCond .ge 16, 3) := by decide +kernel
theorem d_Ar_rangeCheckForAdd_25 : decode prog_36_method_45_code 25 = .ok (.return_, 1) := by decide +kernel
def wb_Ar_rangeCheckForAdd_12 (po : Option Value → Pic → Prop) (th : String → Pic → Prop) (P : Pic) : Prop := False
def wp_Ar_rangeCheckForAdd (po : Option Value → Pic → Prop) (th : String → Pic → Prop) (P : Pic) (a0 : Nat) (x1 : Int32) : Prop := p_k P a0 = 14 ∧ (((p_i P 521 a0) < x1 → (wb_Ar_rangeCheckForAdd_12 po th P )) ∧ (¬ (p_i P 521 a0) < x1 → (((0 ≤ x1 → (po none P)) ∧ (¬ 0 ≤ x1 → (wb_Ar_rangeCheckForAdd_12 po th P ))))))
set_option maxHeartbeats 4000000 in
set_option maxRecDepth 100000 in
theorem wk_Ar_rangeCheckForAdd_12 {p : Program} {l : Launch} {e : Env} {s : State} {m : MethodId} {args : Array Value} {below : List Frame} {meth : Method} {c : Code} {D : pq_D} {P : Pic} {po : Option Value → Pic → Prop} {th : String → Pic → Prop} (hfl : l.flags = flags0) (C : Cx p e s m args meth c prog_36_method_45_code 2 "java/util/ArrayList" D P) (hmg : e.platform.magicAccessors = ({} : Platform).magicAccessors) (hr : meth.sig.returnType = none) (hin : meth.name = "rangeCheckForAdd") (htab : c.exceptionTable.toList = tableOf []) : ∀ (H : Heap) (cells slots : Nat) (ls : Array Slot), wb_Ar_rangeCheckForAdd_12 po th P  → So s.heap H → lv_has ls 2 [] → cells + 0 ≤ 0 → slots + 0 ≤ 0 → W p l e rm_Ar_rangeCheckForAdd s m args below meth c H [] cells slots (mt_MQ below (cq_Q D P true po th) args s 0 0 (cq_free P true)) (F0 m 12 ls []) := by
  intro  H cells slots ls h hO hl hcc hss
  obtain ⟨hx, hb, hml, hown, hlocks, htr, hT, hK, hSt, hN, hP0⟩ := id C
  have L48_13 : pq_fl s m args 48 13 1 := ⟨_, "java/util/ArrayList", "java/util/ArrayList", rfl, by decide, hown, Or.inl (hT _ k_381 _), (fun _ z => z)⟩
  have hP : Pi D P H := So.pi hP0 hO
  unfold wb_Ar_rangeCheckForAdd_12 at h
  exact h.elim
set_option maxHeartbeats 4000000 in
set_option maxRecDepth 100000 in
theorem ct_Ar_rangeCheckForAdd {l : Launch} (hfl : l.flags = flags0) (D : pq_D) {po : Option Value → Pic → Prop} {th : String → Pic → Prop} {P : Pic} {a0 : Nat} {x1 : Int32} (h : wp_Ar_rangeCheckForAdd po th P a0 x1) : CT l D y_Ar_rangeCheckForAdd (.code y_Ar_rangeCheckForAdd prog_36_method_45_code 2 none) rm_Ar_rangeCheckForAdd true [.ref a0, .int x1] P po th := by
  refine ct_of (hs := []) hfl (by decide +kernel) (Or.inl ⟨rfl, rfl⟩) (Nat.le_of_ble_eq_true rfl) ?_
  intro p e s m below meth c C hmg hr hin htab ls hl
  have hl : lv_has ls 2 [(0, .ref a0), (1, .int x1)] := hl
  generalize hargs : ([.ref a0, .int x1] : List Value).toArray = args at C ⊢
  obtain ⟨hx, hb, hml, hown, hlocks, htr, hT, hK, hSt, hN, hP0⟩ := id C
  have L48_13 : pq_fl s m args 48 13 1 := ⟨_, "java/util/ArrayList", "java/util/ArrayList", rfl, by decide, hown, Or.inl (hT _ k_381 _), (fun _ z => z)⟩
  have hO : So s.heap s.heap := So.rf
  have hP : Pi D P s.heap := hP0
  unfold wp_Ar_rangeCheckForAdd at h
  refine lv_iload_n (pc := 0) hx hb d_Ar_rangeCheckForAdd_0 rfl (lv_at hl 1 rfl) ?_
  refine lv_aload_n (pc := 1) hx hb d_Ar_rangeCheckForAdd_1 rfl (lv_at hl 0 rfl) ?_
  obtain ⟨hk101, h⟩ := h
  refine pq_geti (pc := 2) (f := 521) hx hb hT hK hP L48_13 hk101 rfl d_Ar_rangeCheckForAdd_2 ?_
  refine lv_icmp_gt (pc := 5) (tgt := 12) hx hb d_Ar_rangeCheckForAdd_5 (by decide) (fun c103 => ?_) (fun c103 => ?_)
  · replace h := h.1 c103
    exact wk_Ar_rangeCheckForAdd_12 hfl C hmg hr hin htab  _ _ _ _ h hO (lv_sub hl [] rfl) (show 0 + 0 ≤ 0 by omega) (show 0 + 0 ≤ 0 by omega)
  · replace h := h.2 c103
    refine lv_iload_n (pc := 8) hx hb d_Ar_rangeCheckForAdd_8 rfl (lv_at hl 1 rfl) ?_
    refine lv_if_ge (pc := 9) (tgt := 25) hx hb d_Ar_rangeCheckForAdd_9 (by decide) (fun c102 => ?_) (fun c102 => ?_)
    · replace h := h.1 c102
      exact wo_v (pc := 25) hx hb hlocks hr hP0 hO (show 0 + 0 ≤ 0 by omega) (show 0 + 0 ≤ 0 by omega) h d_Ar_rangeCheckForAdd_25
    · replace h := h.2 c102
      exact wk_Ar_rangeCheckForAdd_12 hfl C hmg hr hin htab  _ _ _ _ h hO (lv_sub hl [] rfl) (show 0 + 0 ≤ 0 by omega) (show 0 + 0 ≤ 0 by omega)
/-! java/util/ArrayList.add(ILjava/lang/Object;)V -/
abbrev y_Ar_addAt : MethodName := ⟨"java/util/ArrayList", "add", "(ILjava/lang/Object;)V"⟩
abbrev rm_Ar_addAt : Room := { frames := 6, cells := 1, slots := 64, locals := 148 }
theorem h_Ar_addAt : y_Ar_addAt.cls ≠ "java/lang/invoke/MethodHandle" ∧ y_Ar_addAt.cls ≠ "java/lang/invoke/VarHandle" := by decide +kernel
theorem n_Ar_addAt : (parseMethodDescriptor y_Ar_addAt.desc).map (fun d => d.parameters.length) = some 2 := by decide +kernel
theorem d_Ar_addAt_0 : decode prog_36_method_26_code 0 = .ok (.aload_n 0, 1) := by decide +kernel
theorem d_Ar_addAt_1 : decode prog_36_method_26_code 1 = .ok (.iload_n 1, 1) := by decide +kernel
theorem d_Ar_addAt_2 : decode prog_36_method_26_code 2 = .ok (.invokevirtual 135, 3) := by decide +kernel
theorem d_Ar_addAt_5 : decode prog_36_method_26_code 5 = .ok (.aload_n 0, 1) := by decide +kernel
theorem d_Ar_addAt_6 : decode prog_36_method_26_code 6 = .ok (.dup, 1) := by decide +kernel
theorem d_Ar_addAt_7 : decode prog_36_method_26_code 7 = .ok (.getfield 63, 3) := by decide +kernel
theorem d_Ar_addAt_10 : decode prog_36_method_26_code 10 = .ok (.iconst 1, 1) := by decide +kernel
theorem d_Ar_addAt_11 : decode prog_36_method_26_code 11 = .ok (.iadd, 1) := by decide +kernel
theorem d_Ar_addAt_12 : decode prog_36_method_26_code 12 = .ok (.putfield 63, 3) := by decide +kernel
theorem d_Ar_addAt_15 : decode prog_36_method_26_code 15 = .ok (.aload_n 0, 1) := by decide +kernel
theorem d_Ar_addAt_16 : decode prog_36_method_26_code 16 = .ok (.getfield 48, 3) := by decide +kernel
theorem d_Ar_addAt_19 : decode prog_36_method_26_code 19 = .ok (.dup, 1) := by decide +kernel
theorem d_Ar_addAt_20 : decode prog_36_method_26_code 20 = .ok (.istore_n 3, 1) := by decide +kernel
theorem d_Ar_addAt_21 : decode prog_36_method_26_code 21 = .ok (.aload_n 0, 1) := by decide +kernel
theorem d_Ar_addAt_22 : decode prog_36_method_26_code 22 = .ok (.getfield 9, 3) := by decide +kernel
theorem d_Ar_addAt_25 : decode prog_36_method_26_code 25 = .ok (.dup, 1) := by decide +kernel
theorem d_Ar_addAt_26 : decode prog_36_method_26_code 26 = .ok (.astore 4, 2) := by decide +kernel
theorem d_Ar_addAt_28 : decode prog_36_method_26_code 28 = .ok (.arraylength, 1) := by decide +kernel
theorem d_Ar_addAt_29 : decode prog_36_method_26_code 29 = .ok (.if_icmp .ne 9, 3) := by decide +kernel
theorem d_Ar_addAt_32 : decode prog_36_method_26_code 32 = .ok (.aload_n 0, 1) := by decide +kernel
theorem d_Ar_addAt_33 : decode prog_36_method_26_code 33 = .ok (.invokevirtual 129, 3) := by decide +kernel
theorem d_Ar_addAt_36 : decode prog_36_method_26_code 36 = .ok (.astore 4, 2) := by decide +kernel
theorem d_Ar_addAt_38 : decode prog_36_method_26_code 38 = .ok (.aload 4, 2) := by decide +kernel
theorem d_Ar_addAt_40 : decode prog_36_method_26_code 40 = .ok (.iload_n 1, 1) := by decide +kernel
theorem d_Ar_addAt_41 : decode prog_36_method_26_code 41 = .ok (.aload 4, 2) := by decide +kernel
theorem d_Ar_addAt_43 : decode prog_36_method_26_code 43 = .ok (.iload_n 1, 1) := by decide +kernel
theorem d_Ar_addAt_44 : decode prog_36_method_26_code 44 = .ok (.iconst 1, 1) := by decide +kernel
theorem d_Ar_addAt_45 : decode prog_36_method_26_code 45 = .ok (.iadd, 1) := by decide +kernel
theorem d_Ar_addAt_46 : decode prog_36_method_26_code 46 = .ok (.iload_n 3, 1) := by decide +kernel
theorem d_Ar_addAt_47 : decode prog_36_method_26_code 47 = .ok (.iload_n 1, 1) := by decide +kernel
theorem d_Ar_addAt_48 : decode prog_36_method_26_code 48 = .ok (.isub, 1) := by decide +kernel
theorem d_Ar_addAt_49 : decode prog_36_method_26_code 49 = .ok (.invokestatic 112, 3) := by decide +kernel
theorem d_Ar_addAt_52 : decode prog_36_method_26_code 52 = .ok (.aload 4, 2) := by decide +kernel
theorem d_Ar_addAt_54 : decode prog_36_method_26_code 54 = .ok (.iload_n 1, 1) := by decide +kernel
theorem d_Ar_addAt_55 : decode prog_36_method_26_code 55 = .ok (.aload_n 2, 1) := by decide +kernel
theorem d_Ar_addAt_56 : decode prog_36_method_26_code 56 = .ok (.aastore, 1) := by decide +kernel
theorem d_Ar_addAt_57 : decode prog_36_method_26_code 57 = .ok (.aload_n 0, 1) := by decide +kernel
theorem d_Ar_addAt_58 : decode prog_36_method_26_code 58 = .ok (.iload_n 3, 1) := by decide +kernel
theorem d_Ar_addAt_59 : decode prog_36_method_26_code 59 = .ok (.iconst 1, 1) := by decide +kernel
theorem d_Ar_addAt_60 : decode prog_36_method_26_code 60 = .ok (.iadd, 1) := by decide +kernel
theorem d_Ar_addAt_61 : decode prog_36_method_26_code 61 = .ok (.putfield 48, 3) := by decide +kernel
theorem d_Ar_addAt_64 : decode prog_36_method_26_code 64 = .ok (.return_, 1) := by decide +kernel
def wb_Ar_addAt_38 (po : Option Value → Pic → Prop) (th : String → Pic → Prop) (P : Pic) (a0 : Nat) (x1 : Int32) (a2 : Nat) (x3 : Int32) (a4 : Nat) : Prop := p_k P a4 = 104 ∧ (¬ x1 < 0 ∧ ¬ (x1 + (1 : Int32)) < 0 ∧ ¬ (x3 - x1) < 0 ∧ Int32.toNatClampNeg x1 + Int32.toNatClampNeg (x3 - x1) ≤ p_n P a4 ∧ Int32.toNatClampNeg (x1 + (1 : Int32)) + Int32.toNatClampNeg (x3 - x1) ≤ p_n P a4 ∧ ∃ k, Ob k ∧ ∀ i : Nat, i < Int32.toNatClampNeg (x3 - x1) → ∀ y : Nat, p_aq P a4 (Int32.toNatClampNeg x1 + i) = some y → p_k P y = k) ∧ ∀ (P110 : Pic), P110 = s_cpy P a4 a4 (Int32.toNatClampNeg x1) (Int32.toNatClampNeg (x1 + (1 : Int32))) (Int32.toNatClampNeg (x3 - x1)) → Ob (p_k P110 a2) ∧ vp_in x1 (p_n P110 a4) ∧ p_k (s_aq P110 a4 (Int32.toNatClampNeg x1) (some a2)) a0 = 14 ∧ ∀ (P114 : Pic), P114 = s_i (s_aq P110 a4 (Int32.toNatClampNeg x1) (some a2)) 521 a0 (x3 + (1 : Int32)) → po none P114
def wp_Ar_addAt (po : Option Value → Pic → Prop) (th : String → Pic → Prop) (P : Pic) (a0 : Nat) (x1 : Int32) (a2 : Nat) : Prop := p_k P a0 = 14 ∧ wp_Ar_rangeCheckForAdd (cp_v fun _ => ∀ (x102 : Int32), x102 = (p_i (s_i P 522 a0 ((p_i P 522 a0) + (1 : Int32))) 521 a0) → ∃ a103, p_r (s_i P 522 a0 ((p_i P 522 a0) + (1 : Int32))) 520 a0 = some a103 ∧ p_k (s_i P 522 a0 ((p_i P 522 a0) + (1 : Int32))) a103 = 104 ∧ ((¬ (p_i (s_i P 522 a0 ((p_i P 522 a0) + (1 : Int32))) 521 a0) = (nI (p_n (s_i P 522 a0 ((p_i P 522 a0) + (1 : Int32))) a103)) → (wb_Ar_addAt_38 po th (s_i P 522 a0 ((p_i P 522 a0) + (1 : Int32))) a0 x1 a2 x102 a103)) ∧ ((p_i (s_i P 522 a0 ((p_i P 522 a0) + (1 : Int32))) 521 a0) = (nI (p_n (s_i P 522 a0 ((p_i P 522 a0) + (1 : Int32))) a103)) → (wp_Ar_grow0 (cp_a fun a105 P106 => wb_Ar_addAt_38 po th P106 a0 x1 a2 x102 a105) th (s_i P 522 a0 ((p_i P 522 a0) + (1 : Int32))) a0)))) th P a0 x1
set_option maxHeartbeats 4000000 in
set_option maxRecDepth 100000 in
theorem wk_Ar_addAt_38 {p : Program} {l : Launch} {e : Env} {s : State} {m : MethodId} {args : Array Value} {below : List Frame} {meth : Method} {c : Code} {D : pq_D} {P0 : Pic} {po : Option Value → Pic → Prop} {th : String → Pic → Prop} (hfl : l.flags = flags0) (C : Cx p e s m args meth c prog_36_method_26_code 5 "java/util/ArrayList" D P0) (hmg : e.platform.magicAccessors = ({} : Platform).magicAccessors) (hr : meth.sig.returnType = none) (hin : meth.name = "add") (htab : c.exceptionTable.toList = tableOf []) : ∀ (P : Pic) (a0 : Nat) (x1 : Int32) (a2 : Nat) (x3 : Int32) (a4 : Nat) (H : Heap) (locs : List Loc) (cells slots : Nat) (ls : Array Slot), wb_Ar_addAt_38 po th P a0 x1 a2 x3 a4 → Pi D P H → Sg (cq_A P0 s) s.heap H P locs → lv_has ls 5 [(0, .ref a0), (1, .int x1), (2, .ref a2), (3, .int x3), (4, .ref a4)] → cells + 0 ≤ 1 → slots + 0 ≤ 64 → W p l e rm_Ar_addAt s m args below meth c H locs cells slots (mt_MQ below (cq_Q D P0 false po th) args s 1 64 (cq_free P0 false)) (F0 m 38 ls []) := by
  intro P a0 x1 a2 x3 a4 H locs cells slots ls h hP hS hl hcc hss
  obtain ⟨hx, hb, hml, hown, hlocks, htr, hT, hK, hSt, hN, hP0⟩ := id C
  have L48_13 : pq_fl s m args 48 13 1 := ⟨_, "java/util/ArrayList", "java/util/ArrayList", rfl, by decide, hown, Or.inl (hT _ k_381 _), (fun _ z => z)⟩
  have L63_13 : pq_fl s m args 63 13 2 := ⟨_, "java/util/ArrayList", "java/util/ArrayList", rfl, by decide, hown, Or.inl (hT _ k_383 _), (fun x9 h9 => u_same (hT _ k_384 #[]) x9 h9)⟩
  have L9_13 : pq_fl s m args 9 13 0 := ⟨_, "java/util/ArrayList", "java/util/ArrayList", rfl, by decide, hown, Or.inl (hT _ k_380 _), (fun _ z => z)⟩
  unfold wb_Ar_addAt_38 at h
  refine lv_aload (pc := 38) hx hb d_Ar_addAt_38 (lv_at hl 4 rfl) ?_
  refine lv_iload_n (pc := 40) hx hb d_Ar_addAt_40 rfl (lv_at hl 1 rfl) ?_
  refine lv_aload (pc := 41) hx hb d_Ar_addAt_41 (lv_at hl 4 rfl) ?_
  refine lv_iload_n (pc := 43) hx hb d_Ar_addAt_43 rfl (lv_at hl 1 rfl) ?_
  refine lv_iconst (pc := 44) (v := 1) hx hb d_Ar_addAt_44 (by decide) ?_
  refine lv_iadd (pc := 45) hx hb d_Ar_addAt_45 ?_
  refine lv_iload_n (pc := 46) hx hb d_Ar_addAt_46 rfl (lv_at hl 3 rfl) ?_
  refine lv_iload_n (pc := 47) hx hb d_Ar_addAt_47 rfl (lv_at hl 1 rfl) ?_
  refine lv_isub (pc := 48) hx hb d_Ar_addAt_48 ?_
  obtain ⟨hk108, h⟩ := h
  obtain ⟨hh109, h⟩ := h
  refine pq_copyO (pc := 49) hx hb (by rw [hml]; exact hl.1.symm) hown (hT _ k_1024 _) hT hK hP hS hk108 hk108 hh109 (Nat.le_of_ble_eq_true rfl) (Nat.le_of_ble_eq_true rfl) d_Ar_addAt_49 (fun H locs hP hS => ?_)
  have hk108 : p_k (s_cpy P a4 a4 (Int32.toNatClampNeg x1) (Int32.toNatClampNeg (x1 + (1 : Int32))) (Int32.toNatClampNeg (x3 - x1))) a4 = 104 := by rw [pk_cpy]; exact hk108
  obtain ⟨P110, eP110⟩ : ∃ z : Pic, z = s_cpy P a4 a4 (Int32.toNatClampNeg x1) (Int32.toNatClampNeg (x1 + (1 : Int32))) (Int32.toNatClampNeg (x3 - x1)) := ⟨_, rfl⟩
  replace h := h P110 eP110
  rw [← eP110] at hP hS
  have hk108 : p_k P110 a4 = 104 := by rw [eP110]; exact hk108
  refine lv_aload (pc := 52) hx hb d_Ar_addAt_52 (lv_at hl 4 rfl) ?_
  refine lv_iload_n (pc := 54) hx hb d_Ar_addAt_54 rfl (lv_at hl 1 rfl) ?_
  refine lv_aload_n (pc := 55) hx hb d_Ar_addAt_55 rfl (lv_at hl 2 rfl) ?_
  obtain ⟨ho112, h⟩ := h
  obtain ⟨hi111, h⟩ := h
  refine pq_aastO (pc := 56) hx hb hT hK hP hS hk108 ho112 hi111 d_Ar_addAt_56 (fun H locs hP hS => ?_)
  have hk108 : p_k (s_aq P110 a4 (Int32.toNatClampNeg x1) (some a2)) a4 = 104 := by rw [pk_aq]; exact hk108
  refine lv_aload_n (pc := 57) hx hb d_Ar_addAt_57 rfl (lv_at hl 0 rfl) ?_
  refine lv_iload_n (pc := 58) hx hb d_Ar_addAt_58 rfl (lv_at hl 3 rfl) ?_
  refine lv_iconst (pc := 59) (v := 1) hx hb d_Ar_addAt_59 (by decide) ?_
  refine lv_iadd (pc := 60) hx hb d_Ar_addAt_60 ?_
  obtain ⟨hk113, h⟩ := h
  refine pq_puti (pc := 61) (f := 521) hx hb hT hK hP hS L48_13 hk113 rfl rfl rfl rfl d_Ar_addAt_61 (fun H locs hP hS => ?_)
  have hk108 : p_k (s_i (s_aq P110 a4 (Int32.toNatClampNeg x1) (some a2)) 521 a0 (x3 + (1 : Int32))) a4 = 104 := by rw [pk_i]; exact hk108
  have hk113 : p_k (s_i (s_aq P110 a4 (Int32.toNatClampNeg x1) (some a2)) 521 a0 (x3 + (1 : Int32))) a0 = 14 := by rw [pk_i]; exact hk113
  obtain ⟨P114, eP114⟩ : ∃ z : Pic, z = s_i (s_aq P110 a4 (Int32.toNatClampNeg x1) (some a2)) 521 a0 (x3 + (1 : Int32)) := ⟨_, rfl⟩
  replace h := h P114 eP114
  rw [← eP114] at hP hS
  have hk108 : p_k P114 a4 = 104 := by rw [eP114]; exact hk108
  have hk113 : p_k P114 a0 = 14 := by rw [eP114]; exact hk113
  exact we_v (pc := 64) hx hb hlocks hr hP hS (show cells + 0 ≤ 1 by omega) (show slots + 0 ≤ 64 by omega) h d_Ar_addAt_64
set_option maxHeartbeats 4000000 in
set_option maxRecDepth 100000 in
theorem ct_Ar_addAt {l : Launch} (hfl : l.flags = flags0) (D : pq_D) {po : Option Value → Pic → Prop} {th : String → Pic → Prop} {P : Pic} {a0 : Nat} {x1 : Int32} {a2 : Nat} (h : wp_Ar_addAt po th P a0 x1 a2) : CT l D y_Ar_addAt (.code y_Ar_addAt prog_36_method_26_code 5 none) rm_Ar_addAt false [.ref a0, .int x1, .ref a2] P po th := by
  refine ct_of (hs := []) hfl (by decide +kernel) (Or.inl ⟨rfl, rfl⟩) (Nat.le_of_ble_eq_true rfl) ?_
  intro p e s m below meth c C hmg hr hin htab ls hl
  have hl : lv_has ls 5 [(0, .ref a0), (1, .int x1), (2, .ref a2)] := hl
  generalize hargs : ([.ref a0, .int x1, .ref a2] : List Value).toArray = args at C ⊢
  obtain ⟨hx, hb, hml, hown, hlocks, htr, hT, hK, hSt, hN, hP0⟩ := id C
  have L48_13 : pq_fl s m args 48 13 1 := ⟨_, "java/util/ArrayList", "java/util/ArrayList", rfl, by decide, hown, Or.inl (hT _ k_381 _), (fun _ z => z)⟩
  have L63_13 : pq_fl s m args 63 13 2 := ⟨_, "java/util/ArrayList", "java/util/ArrayList", rfl, by decide, hown, Or.inl (hT _ k_383 _), (fun x9 h9 => u_same (hT _ k_384 #[]) x9 h9)⟩
  have L9_13 : pq_fl s m args 9 13 0 := ⟨_, "java/util/ArrayList", "java/util/ArrayList", rfl, by decide, hown, Or.inl (hT _ k_380 _), (fun _ z => z)⟩
  have hP : Pi D P s.heap := hP0
  have hS : Sg (cq_A P s) s.heap s.heap P [] := Sg.start hP0
  unfold wp_Ar_addAt at h
  refine lv_aload_n (pc := 0) hx hb d_Ar_addAt_0 rfl (lv_at hl 0 rfl) ?_
  refine lv_iload_n (pc := 1) hx hb d_Ar_addAt_1 rfl (lv_at hl 1 rfl) ?_
  obtain ⟨hk101, h⟩ := h
  refine cr_v (pc := 2) C (rest := []) (mt_invV (As := [.int x1]) hx hb hown (hT _ k_1009 _) (hT _ k_1011 _) (hT _ ks_13 _) (mt_Cd.code (hT _ k_1012 #[])) h_Ar_rangeCheckForAdd (pq_recv hK hP hk101 rfl) n_Ar_rangeCheckForAdd rfl d_Ar_addAt_2) (ct_Ar_rangeCheckForAdd hfl D h) k_1012 k_5 ⟨Nat.le_of_ble_eq_true rfl, Nat.le_of_ble_eq_true rfl⟩ ⟨(show 0 + 0 ≤ 1 by omega), (show 0 + 0 ≤ 64 by omega)⟩ hl.1 d_Ar_addAt_2 (Nat.le_of_ble_eq_true rfl) hP hS (fun H locs h hP hS => ?_) (fun xx X H locs h hX hex hP hS => ?_)
  · refine lv_aload_n (pc := 5) hx hb d_Ar_addAt_5 rfl (lv_at hl 0 rfl) ?_
    refine lv_dup (pc := 6) hx hb d_Ar_addAt_6 rfl ?_
    refine pq_geti (pc := 7) (f := 522) hx hb hT hK hP L63_13 hk101 rfl d_Ar_addAt_7 ?_
    refine lv_iconst (pc := 10) (v := 1) hx hb d_Ar_addAt_10 (by decide) ?_
    refine lv_iadd (pc := 11) hx hb d_Ar_addAt_11 ?_
    refine pq_puti (pc := 12) (f := 522) hx hb hT hK hP hS L63_13 hk101 rfl rfl rfl rfl d_Ar_addAt_12 (fun H locs hP hS => ?_)
    have hk101 : p_k (s_i P 522 a0 ((p_i P 522 a0) + (1 : Int32))) a0 = 14 := by rw [pk_i]; exact hk101
    refine lv_aload_n (pc := 15) hx hb d_Ar_addAt_15 rfl (lv_at hl 0 rfl) ?_
    refine pq_geti (pc := 16) (f := 521) hx hb hT hK hP L48_13 hk101 rfl d_Ar_addAt_16 ?_
    refine lv_dup (pc := 19) hx hb d_Ar_addAt_19 rfl ?_
    refine lv_topi (fun x102 ex102 => ?_)
    replace h := h x102 ex102
    refine lv_istore_n (pc := 20) (lv' := [(3, .int x102), (0, .ref a0), (1, .int x1), (2, .ref a2)]) hx hb d_Ar_addAt_20 rfl hl (by decide) rfl (fun ls hl => ?_)
    refine lv_aload_n (pc := 21) hx hb d_Ar_addAt_21 rfl (lv_at hl 1 rfl) ?_
    obtain ⟨a103, ea103, h⟩ := h
    refine pq_geta (pc := 22) (f := 520) hx hb hT hK hP L9_13 hk101 rfl ea103 d_Ar_addAt_22 ?_
    refine lv_dup (pc := 25) hx hb d_Ar_addAt_25 rfl ?_
    refine lv_astore (pc := 26) (lv' := [(4, .ref a103), (3, .int x102), (0, .ref a0), (1, .int x1), (2, .ref a2)]) hx hb d_Ar_addAt_26 hl (by decide) rfl (fun ls hl => ?_)
    obtain ⟨hk104, h⟩ := h
    refine pq_alen (pc := 28) (t := 3) hx hb hK hP hk104 (by decide) d_Ar_addAt_28 ?_
    refine lv_icmp_ne (pc := 29) (tgt := 38) hx hb d_Ar_addAt_29 (by decide) (fun c107 => ?_) (fun c107 => ?_)
    · replace h := h.1 c107
      exact wk_Ar_addAt_38 hfl C hmg hr hin htab _ a0 x1 a2 x102 a103 _ _ _ _ _ h hP hS (lv_sub hl [2, 3, 4, 1, 0] rfl) (show 0 + 0 + 0 ≤ 1 by omega) (show 0 + 0 + 0 ≤ 64 by omega)
    · replace h := h.2 c107
      refine lv_aload_n (pc := 32) hx hb d_Ar_addAt_32 rfl (lv_at hl 2 rfl) ?_
      refine cc_a (pc := 33) C (rest := []) (mt_invV (As := []) hx hb hown (hT _ k_531 _) (hT _ k_533 _) (hT _ ks_2 _) (mt_Cd.code (hT _ k_534 #[])) h_Ar_grow0 (pq_recv hK hP hk101 rfl) n_Ar_grow0 rfl d_Ar_addAt_33) (ct_Ar_grow0 hfl D h) k_534 k_5 ⟨Nat.le_of_ble_eq_true rfl, Nat.le_of_ble_eq_true rfl⟩ ⟨(show 0 + 0 + 1 ≤ 1 by omega), (show 0 + 0 + 64 ≤ 64 by omega)⟩ hl.1 d_Ar_addAt_33 (Nat.le_of_ble_eq_true rfl) hP hS (fun a105 P106 H locs h hP hS => ?_) (fun xx X P106 H locs h hX hex hP hS => ?_)
      · refine lv_astore (pc := 36) (lv' := [(4, .ref a105), (3, .int x102), (0, .ref a0), (1, .int x1), (2, .ref a2)]) hx hb d_Ar_addAt_36 hl (by decide) rfl (fun ls hl => ?_)
        exact wk_Ar_addAt_38 hfl C hmg hr hin htab _ a0 x1 a2 x102 a105 _ _ _ _ _ h hP hS (lv_sub hl [2, 3, 4, 1, 0] rfl) (show 0 + 0 + 1 + 0 ≤ 1 by omega) (show 0 + 0 + 64 + 0 ≤ 64 by omega)
      · exact cq_out hlocks (pq_nil htab rfl) (show 0 + 0 + 1 + 0 ≤ 1 by omega) (show 0 + 0 + 64 + 0 ≤ 64 by omega) hX hex hP hS h
  · exact cq_out hlocks (pq_nil htab rfl) (show 0 + 0 + 0 ≤ 1 by omega) (show 0 + 0 + 0 ≤ 64 by omega) hX hex hP hS h
